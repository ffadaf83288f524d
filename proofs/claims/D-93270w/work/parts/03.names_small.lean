/-! java/lang/Throwable -/
set_option maxRecDepth 100000
def RJ0 : String := "java/lang/Throwable"
def TJ0 : u_T := fun k => match k with
  | 0 => ("java/lang/Throwable", "cause", "Ljava/lang/Throwable;", false)
  | 1 => ("java/lang/Throwable", "stackTrace", "[Ljava/lang/StackTraceElement;", false)
  | 2 => ("java/lang/Throwable", "suppressedExceptions", "Ljava/util/List;", false)
  | 3 => ("java/lang/Throwable", "detailMessage", "Ljava/lang/String;", false)
  | _ => ("java/lang/Throwable", "backtrace", "Ljava/lang/Object;", false)
def tyJ0 : Nat → FieldType := fun k => match k with
  | 0 => .object "java/lang/Throwable"
  | 1 => .array (.object "java/lang/StackTraceElement")
  | 2 => .object "java/util/List"
  | 3 => .object "java/lang/String"
  | _ => .object "java/lang/Object"
abbrev wsJ00 : List Cond := u_ws RJ0 TJ0 5
theorem nmJ0 : ∀ a, a < 5 → ∀ b, b < 5 → a ≠ b → (TJ0 a).2.1 ≠ (TJ0 b).2.1 := by decide +kernel
theorem tyJ0_ok : ∀ k, k < 5 → parseFieldDescriptor (TJ0 k).2.2.1 = some (tyJ0 k) := by decide +kernel
abbrev cJ0_init : ByteArray := prog_29_method_1_code
def yJ0_init : MethodName := ⟨RJ0, "<init>", "()V"⟩
def dkwJ0_init_1 : List UInt8 := [182, 0, 27, 87, 177]
abbrev dktJ0_init_1 : List UInt8 := dkwJ0_init_1 ++ []
def dkwJ0_init_0 : List UInt8 := [42, 183, 0, 1, 42, 42, 181, 0, 7, 42, 178, 0, 13, 181, 0, 17, 42, 178, 0, 20, 181, 0, 24, 42]
abbrev dktJ0_init_0 : List UInt8 := dkwJ0_init_0 ++ dktJ0_init_1
theorem dksJ0_init_0 : cJ0_init.data.toList.drop 0 = dktJ0_init_0 := by decide +kernel
theorem dksJ0_init_1 : cJ0_init.data.toList.drop 24 = dktJ0_init_1 := dk_seg dksJ0_init_0 24 rfl rfl
theorem dJ0_init_0 : decode cJ0_init 0 = .ok (.aload_n 0, 1) := dk_42 (dk_at dksJ0_init_0 0 rfl rfl)
theorem dJ0_init_1 : decode cJ0_init 1 = .ok (.invokespecial 1, 3) := dk_183 0 1 (dk_at dksJ0_init_0 1 rfl rfl)
theorem dJ0_init_4 : decode cJ0_init 4 = .ok (.aload_n 0, 1) := dk_42 (dk_at dksJ0_init_0 4 rfl rfl)
theorem dJ0_init_5 : decode cJ0_init 5 = .ok (.aload_n 0, 1) := dk_42 (dk_at dksJ0_init_0 5 rfl rfl)
theorem dJ0_init_6 : decode cJ0_init 6 = .ok (.putfield 7, 3) := dk_181 0 7 (dk_at dksJ0_init_0 6 rfl rfl)
theorem dJ0_init_9 : decode cJ0_init 9 = .ok (.aload_n 0, 1) := dk_42 (dk_at dksJ0_init_0 9 rfl rfl)
theorem dJ0_init_10 : decode cJ0_init 10 = .ok (.getstatic 13, 3) := dk_178 0 13 (dk_at dksJ0_init_0 10 rfl rfl)
theorem dJ0_init_13 : decode cJ0_init 13 = .ok (.putfield 17, 3) := dk_181 0 17 (dk_at dksJ0_init_0 13 rfl rfl)
theorem dJ0_init_16 : decode cJ0_init 16 = .ok (.aload_n 0, 1) := dk_42 (dk_at dksJ0_init_0 16 rfl rfl)
theorem dJ0_init_17 : decode cJ0_init 17 = .ok (.getstatic 20, 3) := dk_178 0 20 (dk_at dksJ0_init_0 17 rfl rfl)
theorem dJ0_init_20 : decode cJ0_init 20 = .ok (.putfield 24, 3) := dk_181 0 24 (dk_at dksJ0_init_0 20 rfl rfl)
theorem dJ0_init_23 : decode cJ0_init 23 = .ok (.aload_n 0, 1) := dk_42 (dk_at dksJ0_init_0 23 rfl rfl)
theorem dJ0_init_24 : decode cJ0_init 24 = .ok (.invokevirtual 27, 3) := dk_182 0 27 (dk_at dksJ0_init_1 0 rfl rfl)
theorem dJ0_init_27 : decode cJ0_init 27 = .ok (.pop, 1) := dk_87 (dk_at dksJ0_init_1 3 rfl rfl)
theorem dJ0_init_28 : decode cJ0_init 28 = .ok (.return_, 1) := dk_177 (dk_at dksJ0_init_1 4 rfl rfl)
abbrev cJ0_init_2 : ByteArray := prog_29_method_2_code
def yJ0_init_2 : MethodName := ⟨RJ0, "<init>", "(Ljava/lang/String;)V"⟩
def dkwJ0_init_2_1 : List UInt8 := [182, 0, 27, 87, 42, 43, 181, 0, 31, 177]
abbrev dktJ0_init_2_1 : List UInt8 := dkwJ0_init_2_1 ++ []
def dkwJ0_init_2_0 : List UInt8 := [42, 183, 0, 1, 42, 42, 181, 0, 7, 42, 178, 0, 13, 181, 0, 17, 42, 178, 0, 20, 181, 0, 24, 42]
abbrev dktJ0_init_2_0 : List UInt8 := dkwJ0_init_2_0 ++ dktJ0_init_2_1
theorem dksJ0_init_2_0 : cJ0_init_2.data.toList.drop 0 = dktJ0_init_2_0 := by decide +kernel
theorem dksJ0_init_2_1 : cJ0_init_2.data.toList.drop 24 = dktJ0_init_2_1 := dk_seg dksJ0_init_2_0 24 rfl rfl
theorem dJ0_init_2_0 : decode cJ0_init_2 0 = .ok (.aload_n 0, 1) := dk_42 (dk_at dksJ0_init_2_0 0 rfl rfl)
theorem dJ0_init_2_1 : decode cJ0_init_2 1 = .ok (.invokespecial 1, 3) := dk_183 0 1 (dk_at dksJ0_init_2_0 1 rfl rfl)
theorem dJ0_init_2_4 : decode cJ0_init_2 4 = .ok (.aload_n 0, 1) := dk_42 (dk_at dksJ0_init_2_0 4 rfl rfl)
theorem dJ0_init_2_5 : decode cJ0_init_2 5 = .ok (.aload_n 0, 1) := dk_42 (dk_at dksJ0_init_2_0 5 rfl rfl)
theorem dJ0_init_2_6 : decode cJ0_init_2 6 = .ok (.putfield 7, 3) := dk_181 0 7 (dk_at dksJ0_init_2_0 6 rfl rfl)
theorem dJ0_init_2_9 : decode cJ0_init_2 9 = .ok (.aload_n 0, 1) := dk_42 (dk_at dksJ0_init_2_0 9 rfl rfl)
theorem dJ0_init_2_10 : decode cJ0_init_2 10 = .ok (.getstatic 13, 3) := dk_178 0 13 (dk_at dksJ0_init_2_0 10 rfl rfl)
theorem dJ0_init_2_13 : decode cJ0_init_2 13 = .ok (.putfield 17, 3) := dk_181 0 17 (dk_at dksJ0_init_2_0 13 rfl rfl)
theorem dJ0_init_2_16 : decode cJ0_init_2 16 = .ok (.aload_n 0, 1) := dk_42 (dk_at dksJ0_init_2_0 16 rfl rfl)
theorem dJ0_init_2_17 : decode cJ0_init_2 17 = .ok (.getstatic 20, 3) := dk_178 0 20 (dk_at dksJ0_init_2_0 17 rfl rfl)
theorem dJ0_init_2_20 : decode cJ0_init_2 20 = .ok (.putfield 24, 3) := dk_181 0 24 (dk_at dksJ0_init_2_0 20 rfl rfl)
theorem dJ0_init_2_23 : decode cJ0_init_2 23 = .ok (.aload_n 0, 1) := dk_42 (dk_at dksJ0_init_2_0 23 rfl rfl)
theorem dJ0_init_2_24 : decode cJ0_init_2 24 = .ok (.invokevirtual 27, 3) := dk_182 0 27 (dk_at dksJ0_init_2_1 0 rfl rfl)
theorem dJ0_init_2_27 : decode cJ0_init_2 27 = .ok (.pop, 1) := dk_87 (dk_at dksJ0_init_2_1 3 rfl rfl)
theorem dJ0_init_2_28 : decode cJ0_init_2 28 = .ok (.aload_n 0, 1) := dk_42 (dk_at dksJ0_init_2_1 4 rfl rfl)
theorem dJ0_init_2_29 : decode cJ0_init_2 29 = .ok (.aload_n 1, 1) := dk_43 (dk_at dksJ0_init_2_1 5 rfl rfl)
theorem dJ0_init_2_30 : decode cJ0_init_2 30 = .ok (.putfield 31, 3) := dk_181 0 31 (dk_at dksJ0_init_2_1 6 rfl rfl)
theorem dJ0_init_2_33 : decode cJ0_init_2 33 = .ok (.return_, 1) := dk_177 (dk_at dksJ0_init_2_1 9 rfl rfl)
theorem q106 : (Jvm.Cond.initialized "java/lang/Throwable") ∈ lw_all := lw_g (lw_at lw_m1 4 rfl) rfl
theorem q238 : (Jvm.Cond.declares ({ cls := "java/lang/Throwable", name := "<init>", desc := "()V" } : Jvm.MethodName)) ∈ lw_tbl := lw_at lw_m1 136 rfl
theorem q239 : (Jvm.Cond.declares ({ cls := "java/lang/Throwable", name := "<init>", desc := "(Ljava/lang/String;)V" } : Jvm.MethodName)) ∈ lw_tbl := lw_at lw_m1 137 rfl
theorem q243 : (Jvm.Cond.lays "java/lang/Throwable" "java/lang/Throwable" "cause" "Ljava/lang/Throwable;") ∈ lw_all := lw_g (lw_at lw_m1 141 rfl) rfl
theorem q245 : (Jvm.Cond.lays "java/lang/Throwable" "java/lang/Throwable" "stackTrace" "[Ljava/lang/StackTraceElement;") ∈ lw_all := lw_g (lw_at lw_m1 143 rfl) rfl
theorem q247 : (Jvm.Cond.lays "java/lang/Throwable" "java/lang/Throwable" "suppressedExceptions" "Ljava/util/List;") ∈ lw_all := lw_g (lw_at lw_m1 145 rfl) rfl
theorem q249 : (Jvm.Cond.lays "java/lang/Throwable" "java/lang/Throwable" "detailMessage" "Ljava/lang/String;") ∈ lw_all := lw_g (lw_at lw_m1 147 rfl) rfl
theorem q251 : (Jvm.Cond.lays "java/lang/Throwable" "java/lang/Throwable" "backtrace" "Ljava/lang/Object;") ∈ lw_all := lw_g (lw_at lw_m1 149 rfl) rfl
theorem q252 : (Jvm.Cond.fieldLink "java/lang/Throwable" (198 : Nat) "java/lang/Throwable" "backtrace" "Ljava/lang/Object;") ∈ lw_all := lw_g (lw_at lw_m1 150 rfl) rfl
theorem q253 : (Jvm.Cond.superclass "java/lang/Throwable" "java/lang/Object") ∈ lw_all := lw_g (lw_at lw_m1 151 rfl) rfl
theorem q254 : (Jvm.Cond.instanceMethod ({ cls := "java/lang/Throwable", name := "<init>", desc := "()V" } : Jvm.MethodName)) ∈ lw_all := lw_g (lw_at lw_m1 152 rfl) rfl
theorem q255 : (Jvm.Cond.code ({ cls := "java/lang/Throwable", name := "<init>", desc := "()V" } : Jvm.MethodName) prog_29_method_1_code (1 : Nat) (Option.none : Option Jvm.ClassFile.FieldType)) ∈ lw_all := lw_g (lw_at lw_m1 153 rfl) rfl
theorem q256 : (Jvm.Cond.methodLink "java/lang/Throwable" (1 : Nat) ({ cls := "java/lang/Object", name := "<init>", desc := "()V" } : Jvm.MethodName)) ∈ lw_all := lw_g (lw_at lw_m1 154 rfl) rfl
theorem q257 : (Jvm.Cond.fieldLink "java/lang/Throwable" (13 : Nat) "java/lang/Throwable" "UNASSIGNED_STACK" "[Ljava/lang/StackTraceElement;") ∈ lw_all := lw_g (lw_at lw_m1 155 rfl) rfl
theorem q258 : (Jvm.Cond.laysStatic "java/lang/Throwable" "UNASSIGNED_STACK" "[Ljava/lang/StackTraceElement;") ∈ lw_tbl := lw_at lw_m1 156 rfl
theorem q259 : (Jvm.Cond.fieldLink "java/lang/Throwable" (20 : Nat) "java/lang/Throwable" "SUPPRESSED_SENTINEL" "Ljava/util/List;") ∈ lw_all := lw_g (lw_at lw_m1 157 rfl) rfl
theorem q260 : (Jvm.Cond.laysStatic "java/lang/Throwable" "SUPPRESSED_SENTINEL" "Ljava/util/List;") ∈ lw_tbl := lw_at lw_m1 158 rfl
theorem q261 : (Jvm.Cond.methodLink "java/lang/Throwable" (27 : Nat) ({ cls := "java/lang/Throwable", name := "fillInStackTrace", desc := "()Ljava/lang/Throwable;" } : Jvm.MethodName)) ∈ lw_all := lw_g (lw_at lw_m1 159 rfl) rfl
theorem q262 : (Jvm.Cond.instanceMethod ({ cls := "java/lang/Throwable", name := "fillInStackTrace", desc := "()Ljava/lang/Throwable;" } : Jvm.MethodName)) ∈ lw_all := lw_g (lw_at lw_m1 160 rfl) rfl
theorem q263 : (Jvm.Cond.sameMethod "java/lang/Throwable" "java/lang/Throwable" "fillInStackTrace" "()Ljava/lang/Throwable;") ∈ lw_all := lw_g (lw_at lw_m1 161 rfl) rfl
theorem q266 : (Jvm.Cond.codeSync ({ cls := "java/lang/Throwable", name := "fillInStackTrace", desc := "()Ljava/lang/Throwable;" } : Jvm.MethodName) prog_29_method_18_code (1 : Nat) (Option.some (Jvm.ClassFile.FieldType.object "java/lang/Throwable"))) ∈ lw_all := lw_g (lw_at lw_m1 164 rfl) rfl
theorem q267 : (Jvm.Cond.methodLink "java/lang/Throwable" (202 : Nat) ({ cls := "java/lang/Throwable", name := "fillInStackTrace", desc := "(I)Ljava/lang/Throwable;" } : Jvm.MethodName)) ∈ lw_all := lw_g (lw_at lw_m1 165 rfl) rfl
theorem q268 : (Jvm.Cond.privateMethod ({ cls := "java/lang/Throwable", name := "fillInStackTrace", desc := "(I)Ljava/lang/Throwable;" } : Jvm.MethodName)) ∈ lw_tbl := lw_at lw_m1 166 rfl
theorem q269 : (Jvm.Cond.instanceMethod ({ cls := "java/lang/Throwable", name := "fillInStackTrace", desc := "(I)Ljava/lang/Throwable;" } : Jvm.MethodName)) ∈ lw_all := lw_g (lw_at lw_m1 167 rfl) rfl
theorem q270 : (Jvm.Cond.instantiable "java/lang/Throwable" (6 : Nat)) ∈ lw_all := lw_g (lw_at lw_m1 168 rfl) rfl
theorem q271 : (Jvm.Cond.native ({ cls := "java/lang/Throwable", name := "fillInStackTrace", desc := "(I)Ljava/lang/Throwable;" } : Jvm.MethodName)) ∈ lw_all := lw_g (lw_at lw_m1 169 rfl) rfl
theorem q283 : (Jvm.Cond.fieldLink "java/lang/Throwable" (198 : Nat) "java/lang/Throwable" "backtrace" "Ljava/lang/Object;") ∈ lw_all := lw_g (lw_at lw_m1 181 rfl) rfl
theorem q284 : (Jvm.Cond.fieldLink "java/lang/Throwable" (31 : Nat) "java/lang/Throwable" "detailMessage" "Ljava/lang/String;") ∈ lw_all := lw_g (lw_at lw_m1 182 rfl) rfl
theorem q285 : (Jvm.Cond.fieldLink "java/lang/Throwable" (7 : Nat) "java/lang/Throwable" "cause" "Ljava/lang/Throwable;") ∈ lw_all := lw_g (lw_at lw_m1 183 rfl) rfl
theorem q286 : (Jvm.Cond.fieldLink "java/lang/Throwable" (17 : Nat) "java/lang/Throwable" "stackTrace" "[Ljava/lang/StackTraceElement;") ∈ lw_all := lw_g (lw_at lw_m1 184 rfl) rfl
theorem q287 : (Jvm.Cond.fieldLink "java/lang/Throwable" (24 : Nat) "java/lang/Throwable" "suppressedExceptions" "Ljava/util/List;") ∈ lw_all := lw_g (lw_at lw_m1 185 rfl) rfl
theorem q290 : (Jvm.Cond.soleField "java/lang/Throwable" "backtrace") ∈ lw_all := lw_g (lw_at lw_m1 188 rfl) rfl
theorem q291 : (Jvm.Cond.soleField "java/lang/Throwable" "detailMessage") ∈ lw_all := lw_g (lw_at lw_m1 189 rfl) rfl
theorem q292 : (Jvm.Cond.soleField "java/lang/Throwable" "cause") ∈ lw_all := lw_g (lw_at lw_m1 190 rfl) rfl
theorem q293 : (Jvm.Cond.soleField "java/lang/Throwable" "stackTrace") ∈ lw_all := lw_g (lw_at lw_m1 191 rfl) rfl
theorem q295 : (Jvm.Cond.soleField "java/lang/Throwable" "depth") ∈ lw_all := lw_g (lw_at lw_m1 193 rfl) rfl
theorem q296 : (Jvm.Cond.soleField "java/lang/Throwable" "suppressedExceptions") ∈ lw_all := lw_g (lw_at lw_m1 194 rfl) rfl
theorem q864 : (Jvm.Cond.instanceMethod ({ cls := "java/lang/Throwable", name := "<init>", desc := "(Ljava/lang/String;)V" } : Jvm.MethodName)) ∈ lw_all := lw_g (lw_at lw_m4 42 rfl) rfl
theorem q865 : (Jvm.Cond.code ({ cls := "java/lang/Throwable", name := "<init>", desc := "(Ljava/lang/String;)V" } : Jvm.MethodName) prog_29_method_2_code (2 : Nat) (Option.none : Option Jvm.ClassFile.FieldType)) ∈ lw_all := lw_g (lw_at lw_m4 43 rfl) rfl
theorem q1891 : (Jvm.Cond.sameMethod "java/lang/Throwable" "java/lang/Throwable" "fillInStackTrace" "(I)Ljava/lang/Throwable;") ∈ lw_all := lw_g (lw_at lw_m8 109 rfl) rfl
theorem in_J0 : ∀ w ∈ wsJ00, w ∈ lw_all := lw_in wsJ00 [243, 245, 247, 249, 251] (by decide +kernel) (by decide +kernel)

/-! java/lang/Exception -/
set_option maxRecDepth 100000
def RJ1 : String := "java/lang/Exception"
abbrev cJ1_init : ByteArray := prog_21_method_1_code
def yJ1_init : MethodName := ⟨RJ1, "<init>", "()V"⟩
theorem dJ1_init_0 : decode cJ1_init 0 = .ok (.aload_n 0, 1) := by decide +kernel
theorem dJ1_init_1 : decode cJ1_init 1 = .ok (.invokespecial 1, 3) := by decide +kernel
theorem dJ1_init_4 : decode cJ1_init 4 = .ok (.return_, 1) := by decide +kernel
abbrev cJ1_init_2 : ByteArray := prog_21_method_2_code
def yJ1_init_2 : MethodName := ⟨RJ1, "<init>", "(Ljava/lang/String;)V"⟩
def dkwJ1_init_2_0 : List UInt8 := [42, 43, 183, 0, 7, 177]
abbrev dktJ1_init_2_0 : List UInt8 := dkwJ1_init_2_0 ++ []
theorem dksJ1_init_2_0 : cJ1_init_2.data.toList.drop 0 = dktJ1_init_2_0 := by decide +kernel
theorem dJ1_init_2_0 : decode cJ1_init_2 0 = .ok (.aload_n 0, 1) := dk_42 (dk_at dksJ1_init_2_0 0 rfl rfl)
theorem dJ1_init_2_1 : decode cJ1_init_2 1 = .ok (.aload_n 1, 1) := dk_43 (dk_at dksJ1_init_2_0 1 rfl rfl)
theorem dJ1_init_2_2 : decode cJ1_init_2 2 = .ok (.invokespecial 7, 3) := dk_183 0 7 (dk_at dksJ1_init_2_0 2 rfl rfl)
theorem dJ1_init_2_5 : decode cJ1_init_2 5 = .ok (.return_, 1) := dk_177 (dk_at dksJ1_init_2_0 5 rfl rfl)
theorem q107 : (Jvm.Cond.initialized "java/lang/Exception") ∈ lw_all := lw_g (lw_at lw_m1 5 rfl) rfl
theorem q236 : (Jvm.Cond.declares ({ cls := "java/lang/Exception", name := "<init>", desc := "()V" } : Jvm.MethodName)) ∈ lw_tbl := lw_at lw_m1 134 rfl
theorem q237 : (Jvm.Cond.declares ({ cls := "java/lang/Exception", name := "<init>", desc := "(Ljava/lang/String;)V" } : Jvm.MethodName)) ∈ lw_tbl := lw_at lw_m1 135 rfl
theorem q279 : (Jvm.Cond.instanceMethod ({ cls := "java/lang/Exception", name := "<init>", desc := "()V" } : Jvm.MethodName)) ∈ lw_all := lw_g (lw_at lw_m1 177 rfl) rfl
theorem q280 : (Jvm.Cond.code ({ cls := "java/lang/Exception", name := "<init>", desc := "()V" } : Jvm.MethodName) prog_21_method_1_code (1 : Nat) (Option.none : Option Jvm.ClassFile.FieldType)) ∈ lw_all := lw_g (lw_at lw_m1 178 rfl) rfl
theorem q281 : (Jvm.Cond.methodLink "java/lang/Exception" (1 : Nat) ({ cls := "java/lang/Throwable", name := "<init>", desc := "()V" } : Jvm.MethodName)) ∈ lw_all := lw_g (lw_at lw_m1 179 rfl) rfl
theorem q861 : (Jvm.Cond.instanceMethod ({ cls := "java/lang/Exception", name := "<init>", desc := "(Ljava/lang/String;)V" } : Jvm.MethodName)) ∈ lw_all := lw_g (lw_at lw_m4 39 rfl) rfl
theorem q862 : (Jvm.Cond.code ({ cls := "java/lang/Exception", name := "<init>", desc := "(Ljava/lang/String;)V" } : Jvm.MethodName) prog_21_method_2_code (2 : Nat) (Option.none : Option Jvm.ClassFile.FieldType)) ∈ lw_all := lw_g (lw_at lw_m4 40 rfl) rfl
theorem q863 : (Jvm.Cond.methodLink "java/lang/Exception" (7 : Nat) ({ cls := "java/lang/Throwable", name := "<init>", desc := "(Ljava/lang/String;)V" } : Jvm.MethodName)) ∈ lw_all := lw_g (lw_at lw_m4 41 rfl) rfl

/-! java/lang/Object -/
set_option maxRecDepth 100000
def RJ10 : String := "java/lang/Object"
abbrev cJ10_init : ByteArray := object_method_1_code
def yJ10_init : MethodName := ⟨RJ10, "<init>", "()V"⟩
theorem dJ10_init_0 : decode cJ10_init 0 = .ok (.return_, 1) := by decide +kernel
theorem q136 : (Jvm.Cond.instanceMethod ({ cls := "java/lang/Object", name := "<init>", desc := "()V" } : Jvm.MethodName)) ∈ lw_all := lw_g (lw_at lw_m1 34 rfl) rfl
theorem q137 : (Jvm.Cond.code ({ cls := "java/lang/Object", name := "<init>", desc := "()V" } : Jvm.MethodName) object_method_1_code (1 : Nat) (Option.none : Option Jvm.ClassFile.FieldType)) ∈ lw_all := lw_g (lw_at lw_m1 35 rfl) rfl

/-! java/lang/RuntimeException -/
set_option maxRecDepth 100000
def RJ2 : String := "java/lang/RuntimeException"
abbrev cJ2_init : ByteArray := prog_24_method_1_code
def yJ2_init : MethodName := ⟨RJ2, "<init>", "()V"⟩
theorem dJ2_init_0 : decode cJ2_init 0 = .ok (.aload_n 0, 1) := by decide +kernel
theorem dJ2_init_1 : decode cJ2_init 1 = .ok (.invokespecial 1, 3) := by decide +kernel
theorem dJ2_init_4 : decode cJ2_init 4 = .ok (.return_, 1) := by decide +kernel
abbrev cJ2_init_2 : ByteArray := prog_24_method_2_code
def yJ2_init_2 : MethodName := ⟨RJ2, "<init>", "(Ljava/lang/String;)V"⟩
def dkwJ2_init_2_0 : List UInt8 := [42, 43, 183, 0, 7, 177]
abbrev dktJ2_init_2_0 : List UInt8 := dkwJ2_init_2_0 ++ []
theorem dksJ2_init_2_0 : cJ2_init_2.data.toList.drop 0 = dktJ2_init_2_0 := by decide +kernel
theorem dJ2_init_2_0 : decode cJ2_init_2 0 = .ok (.aload_n 0, 1) := dk_42 (dk_at dksJ2_init_2_0 0 rfl rfl)
theorem dJ2_init_2_1 : decode cJ2_init_2 1 = .ok (.aload_n 1, 1) := dk_43 (dk_at dksJ2_init_2_0 1 rfl rfl)
theorem dJ2_init_2_2 : decode cJ2_init_2 2 = .ok (.invokespecial 7, 3) := dk_183 0 7 (dk_at dksJ2_init_2_0 2 rfl rfl)
theorem dJ2_init_2_5 : decode cJ2_init_2 5 = .ok (.return_, 1) := dk_177 (dk_at dksJ2_init_2_0 5 rfl rfl)
theorem q108 : (Jvm.Cond.initialized "java/lang/RuntimeException") ∈ lw_all := lw_g (lw_at lw_m1 6 rfl) rfl
theorem q234 : (Jvm.Cond.declares ({ cls := "java/lang/RuntimeException", name := "<init>", desc := "()V" } : Jvm.MethodName)) ∈ lw_tbl := lw_at lw_m1 132 rfl
theorem q235 : (Jvm.Cond.declares ({ cls := "java/lang/RuntimeException", name := "<init>", desc := "(Ljava/lang/String;)V" } : Jvm.MethodName)) ∈ lw_tbl := lw_at lw_m1 133 rfl
theorem q276 : (Jvm.Cond.instanceMethod ({ cls := "java/lang/RuntimeException", name := "<init>", desc := "()V" } : Jvm.MethodName)) ∈ lw_all := lw_g (lw_at lw_m1 174 rfl) rfl
theorem q277 : (Jvm.Cond.code ({ cls := "java/lang/RuntimeException", name := "<init>", desc := "()V" } : Jvm.MethodName) prog_24_method_1_code (1 : Nat) (Option.none : Option Jvm.ClassFile.FieldType)) ∈ lw_all := lw_g (lw_at lw_m1 175 rfl) rfl
theorem q278 : (Jvm.Cond.methodLink "java/lang/RuntimeException" (1 : Nat) ({ cls := "java/lang/Exception", name := "<init>", desc := "()V" } : Jvm.MethodName)) ∈ lw_all := lw_g (lw_at lw_m1 176 rfl) rfl
theorem q858 : (Jvm.Cond.instanceMethod ({ cls := "java/lang/RuntimeException", name := "<init>", desc := "(Ljava/lang/String;)V" } : Jvm.MethodName)) ∈ lw_all := lw_g (lw_at lw_m4 36 rfl) rfl
theorem q859 : (Jvm.Cond.code ({ cls := "java/lang/RuntimeException", name := "<init>", desc := "(Ljava/lang/String;)V" } : Jvm.MethodName) prog_24_method_2_code (2 : Nat) (Option.none : Option Jvm.ClassFile.FieldType)) ∈ lw_all := lw_g (lw_at lw_m4 37 rfl) rfl
theorem q860 : (Jvm.Cond.methodLink "java/lang/RuntimeException" (7 : Nat) ({ cls := "java/lang/Exception", name := "<init>", desc := "(Ljava/lang/String;)V" } : Jvm.MethodName)) ∈ lw_all := lw_g (lw_at lw_m4 38 rfl) rfl

/-! java/lang/Math -/
set_option maxRecDepth 100000
def RJ3 : String := "java/lang/Math"
abbrev cJ3_min : ByteArray := prog_22_method_69_code
def yJ3_min : MethodName := ⟨RJ3, "min", "(II)I"⟩
def dkwJ3_min_0 : List UInt8 := [26, 27, 163, 0, 7, 26, 167, 0, 4, 27, 172]
abbrev dktJ3_min_0 : List UInt8 := dkwJ3_min_0 ++ []
theorem dksJ3_min_0 : cJ3_min.data.toList.drop 0 = dktJ3_min_0 := by decide +kernel
theorem dJ3_min_0 : decode cJ3_min 0 = .ok (.iload_n 0, 1) := dk_26 (dk_at dksJ3_min_0 0 rfl rfl)
theorem dJ3_min_1 : decode cJ3_min 1 = .ok (.iload_n 1, 1) := dk_27 (dk_at dksJ3_min_0 1 rfl rfl)
theorem dJ3_min_2 : decode cJ3_min 2 = .ok (.if_icmp .gt 7, 3) := dk_163 0 7 (dk_at dksJ3_min_0 2 rfl rfl)
theorem dJ3_min_5 : decode cJ3_min 5 = .ok (.iload_n 0, 1) := dk_26 (dk_at dksJ3_min_0 5 rfl rfl)
theorem dJ3_min_6 : decode cJ3_min 6 = .ok (.goto 4, 3) := dk_167 0 4 (dk_at dksJ3_min_0 6 rfl rfl)
theorem dJ3_min_9 : decode cJ3_min 9 = .ok (.iload_n 1, 1) := dk_27 (dk_at dksJ3_min_0 9 rfl rfl)
theorem dJ3_min_10 : decode cJ3_min 10 = .ok (.ireturn, 1) := dk_172 (dk_at dksJ3_min_0 10 rfl rfl)
abbrev cJ3_max : ByteArray := prog_22_method_65_code
def yJ3_max : MethodName := ⟨RJ3, "max", "(II)I"⟩
def dkwJ3_max_0 : List UInt8 := [26, 27, 161, 0, 7, 26, 167, 0, 4, 27, 172]
abbrev dktJ3_max_0 : List UInt8 := dkwJ3_max_0 ++ []
theorem dksJ3_max_0 : cJ3_max.data.toList.drop 0 = dktJ3_max_0 := by decide +kernel
theorem dJ3_max_0 : decode cJ3_max 0 = .ok (.iload_n 0, 1) := dk_26 (dk_at dksJ3_max_0 0 rfl rfl)
theorem dJ3_max_1 : decode cJ3_max 1 = .ok (.iload_n 1, 1) := dk_27 (dk_at dksJ3_max_0 1 rfl rfl)
theorem dJ3_max_2 : decode cJ3_max 2 = .ok (.if_icmp .lt 7, 3) := dk_161 0 7 (dk_at dksJ3_max_0 2 rfl rfl)
theorem dJ3_max_5 : decode cJ3_max 5 = .ok (.iload_n 0, 1) := dk_26 (dk_at dksJ3_max_0 5 rfl rfl)
theorem dJ3_max_6 : decode cJ3_max 6 = .ok (.goto 4, 3) := dk_167 0 4 (dk_at dksJ3_max_0 6 rfl rfl)
theorem dJ3_max_9 : decode cJ3_max 9 = .ok (.iload_n 1, 1) := dk_27 (dk_at dksJ3_max_0 9 rfl rfl)
theorem dJ3_max_10 : decode cJ3_max 10 = .ok (.ireturn, 1) := dk_172 (dk_at dksJ3_max_0 10 rfl rfl)
theorem q119 : (Jvm.Cond.initialized "java/lang/Math") ∈ lw_all := lw_g (lw_at lw_m1 17 rfl) rfl
theorem q738 : (Jvm.Cond.static ({ cls := "java/lang/Math", name := "min", desc := "(II)I" } : Jvm.MethodName)) ∈ lw_all := lw_g (lw_at lw_m3 156 rfl) rfl
theorem q739 : (Jvm.Cond.code ({ cls := "java/lang/Math", name := "min", desc := "(II)I" } : Jvm.MethodName) prog_22_method_69_code (2 : Nat) (Option.some Jvm.ClassFile.FieldType.int)) ∈ lw_all := lw_g (lw_at lw_m3 157 rfl) rfl
theorem q741 : (Jvm.Cond.static ({ cls := "java/lang/Math", name := "max", desc := "(II)I" } : Jvm.MethodName)) ∈ lw_all := lw_g (lw_at lw_m3 159 rfl) rfl
theorem q742 : (Jvm.Cond.code ({ cls := "java/lang/Math", name := "max", desc := "(II)I" } : Jvm.MethodName) prog_22_method_65_code (2 : Nat) (Option.some Jvm.ClassFile.FieldType.int)) ∈ lw_all := lw_g (lw_at lw_m3 160 rfl) rfl

/-! java/lang/ClassCastException -/
set_option maxRecDepth 100000
def RJ4 : String := "java/lang/ClassCastException"
def TJ4 : u_T := fun k => match k with
  | 0 => ("java/lang/Throwable", "backtrace", "Ljava/lang/Object;", false)
  | 1 => ("java/lang/Throwable", "detailMessage", "Ljava/lang/String;", false)
  | 2 => ("java/lang/Throwable", "cause", "Ljava/lang/Throwable;", false)
  | 3 => ("java/lang/Throwable", "stackTrace", "[Ljava/lang/StackTraceElement;", false)
  | 4 => ("java/lang/Throwable", "depth", "I", false)
  | _ => ("java/lang/Throwable", "suppressedExceptions", "Ljava/util/List;", false)
def tyJ4 : Nat → FieldType := fun k => match k with
  | 0 => .object "java/lang/Object"
  | 1 => .object "java/lang/String"
  | 2 => .object "java/lang/Throwable"
  | 3 => .array (.object "java/lang/StackTraceElement")
  | 4 => .int
  | _ => .object "java/util/List"
abbrev wsJ40 : List Cond := u_ws RJ4 TJ4 6
theorem nmJ4 : ∀ a, a < 6 → ∀ b, b < 6 → a ≠ b → (TJ4 a).2.1 ≠ (TJ4 b).2.1 := by decide +kernel
theorem tyJ4_ok : ∀ k, k < 6 → parseFieldDescriptor (TJ4 k).2.2.1 = some (tyJ4 k) := by decide +kernel
abbrev cJ4_init : ByteArray := prog_20_method_2_code
def yJ4_init : MethodName := ⟨RJ4, "<init>", "(Ljava/lang/String;)V"⟩
def dkwJ4_init_0 : List UInt8 := [42, 43, 183, 0, 7, 177]
abbrev dktJ4_init_0 : List UInt8 := dkwJ4_init_0 ++ []
theorem dksJ4_init_0 : cJ4_init.data.toList.drop 0 = dktJ4_init_0 := by decide +kernel
theorem dJ4_init_0 : decode cJ4_init 0 = .ok (.aload_n 0, 1) := dk_42 (dk_at dksJ4_init_0 0 rfl rfl)
theorem dJ4_init_1 : decode cJ4_init 1 = .ok (.aload_n 1, 1) := dk_43 (dk_at dksJ4_init_0 1 rfl rfl)
theorem dJ4_init_2 : decode cJ4_init 2 = .ok (.invokespecial 7, 3) := dk_183 0 7 (dk_at dksJ4_init_0 2 rfl rfl)
theorem dJ4_init_5 : decode cJ4_init 5 = .ok (.return_, 1) := dk_177 (dk_at dksJ4_init_0 5 rfl rfl)
theorem q120 : (Jvm.Cond.initialized "java/lang/ClassCastException") ∈ lw_all := lw_g (lw_at lw_m1 18 rfl) rfl
theorem q264 : (Jvm.Cond.selects "java/lang/ClassCastException" ({ cls := "java/lang/Throwable", name := "fillInStackTrace", desc := "()Ljava/lang/Throwable;" } : Jvm.MethodName) ({ cls := "java/lang/Throwable", name := "fillInStackTrace", desc := "()Ljava/lang/Throwable;" } : Jvm.MethodName)) ∈ lw_all := lw_g (lw_at lw_m1 162 rfl) rfl
theorem q854 : (Jvm.Cond.instantiable "java/lang/ClassCastException" (6 : Nat)) ∈ lw_all := lw_g (lw_at lw_m4 32 rfl) rfl
theorem q855 : (Jvm.Cond.instanceMethod ({ cls := "java/lang/ClassCastException", name := "<init>", desc := "(Ljava/lang/String;)V" } : Jvm.MethodName)) ∈ lw_all := lw_g (lw_at lw_m4 33 rfl) rfl
theorem q856 : (Jvm.Cond.code ({ cls := "java/lang/ClassCastException", name := "<init>", desc := "(Ljava/lang/String;)V" } : Jvm.MethodName) prog_20_method_2_code (2 : Nat) (Option.none : Option Jvm.ClassFile.FieldType)) ∈ lw_all := lw_g (lw_at lw_m4 34 rfl) rfl
theorem q857 : (Jvm.Cond.methodLink "java/lang/ClassCastException" (7 : Nat) ({ cls := "java/lang/RuntimeException", name := "<init>", desc := "(Ljava/lang/String;)V" } : Jvm.MethodName)) ∈ lw_all := lw_g (lw_at lw_m4 35 rfl) rfl
theorem q866 : (Jvm.Cond.lays "java/lang/ClassCastException" "java/lang/Throwable" "backtrace" "Ljava/lang/Object;") ∈ lw_all := lw_g (lw_at lw_m4 44 rfl) rfl
theorem q867 : (Jvm.Cond.lays "java/lang/ClassCastException" "java/lang/Throwable" "detailMessage" "Ljava/lang/String;") ∈ lw_all := lw_g (lw_at lw_m4 45 rfl) rfl
theorem q868 : (Jvm.Cond.lays "java/lang/ClassCastException" "java/lang/Throwable" "cause" "Ljava/lang/Throwable;") ∈ lw_all := lw_g (lw_at lw_m4 46 rfl) rfl
theorem q869 : (Jvm.Cond.lays "java/lang/ClassCastException" "java/lang/Throwable" "stackTrace" "[Ljava/lang/StackTraceElement;") ∈ lw_all := lw_g (lw_at lw_m4 47 rfl) rfl
theorem q870 : (Jvm.Cond.lays "java/lang/ClassCastException" "java/lang/Throwable" "depth" "I") ∈ lw_all := lw_g (lw_at lw_m4 48 rfl) rfl
theorem q871 : (Jvm.Cond.lays "java/lang/ClassCastException" "java/lang/Throwable" "suppressedExceptions" "Ljava/util/List;") ∈ lw_all := lw_g (lw_at lw_m4 49 rfl) rfl
theorem q872 : (Jvm.Cond.superclass "java/lang/ClassCastException" "java/lang/RuntimeException") ∈ lw_all := lw_g (lw_at lw_m4 50 rfl) rfl
theorem q873 : (Jvm.Cond.castable "java/lang/ClassCastException" "java/lang/ClassCastException") ∈ lw_tbl := lw_at lw_m4 51 rfl
theorem q874 : (Jvm.Cond.selects "java/lang/ClassCastException" ({ cls := "java/lang/Throwable", name := "fillInStackTrace", desc := "(I)Ljava/lang/Throwable;" } : Jvm.MethodName) ({ cls := "java/lang/Throwable", name := "fillInStackTrace", desc := "(I)Ljava/lang/Throwable;" } : Jvm.MethodName)) ∈ lw_all := lw_g (lw_at lw_m4 52 rfl) rfl
theorem in_J4 : ∀ w ∈ wsJ40, w ∈ lw_all := lw_in wsJ40 [866, 867, 868, 869, 870, 871] (by decide +kernel) (by decide +kernel)

/-! java/lang/String -/
set_option maxRecDepth 100000
def RJ5 : String := "java/lang/String"
def TJ5 : u_T := fun k => match k with
  | 0 => ("java/lang/String", "value", "[B", true)
  | _ => ("java/lang/String", "coder", "B", true)
def tyJ5 : Nat → FieldType := fun k => match k with
  | 0 => .array .byte
  | _ => .byte
abbrev wsJ50 : List Cond := u_ws RJ5 TJ5 2
theorem nmJ5 : ∀ a, a < 2 → ∀ b, b < 2 → a ≠ b → (TJ5 a).2.1 ≠ (TJ5 b).2.1 := by decide +kernel
theorem tyJ5_ok : ∀ k, k < 2 → parseFieldDescriptor (TJ5 k).2.2.1 = some (tyJ5 k) := by decide +kernel
abbrev cJ5_length : ByteArray := prog_25_method_54_code
def yJ5_length : MethodName := ⟨RJ5, "length", "()I"⟩
def dkwJ5_length_0 : List UInt8 := [42, 180, 0, 9, 190, 42, 182, 1, 79, 122, 172]
abbrev dktJ5_length_0 : List UInt8 := dkwJ5_length_0 ++ []
theorem dksJ5_length_0 : cJ5_length.data.toList.drop 0 = dktJ5_length_0 := by decide +kernel
theorem dJ5_length_0 : decode cJ5_length 0 = .ok (.aload_n 0, 1) := dk_42 (dk_at dksJ5_length_0 0 rfl rfl)
theorem dJ5_length_1 : decode cJ5_length 1 = .ok (.getfield 9, 3) := dk_180 0 9 (dk_at dksJ5_length_0 1 rfl rfl)
theorem dJ5_length_4 : decode cJ5_length 4 = .ok (.arraylength, 1) := dk_190 (dk_at dksJ5_length_0 4 rfl rfl)
theorem dJ5_length_5 : decode cJ5_length 5 = .ok (.aload_n 0, 1) := dk_42 (dk_at dksJ5_length_0 5 rfl rfl)
theorem dJ5_length_6 : decode cJ5_length 6 = .ok (.invokevirtual 335, 3) := dk_182 1 79 (dk_at dksJ5_length_0 6 rfl rfl)
theorem dJ5_length_9 : decode cJ5_length 9 = .ok (.ishr, 1) := dk_122 (dk_at dksJ5_length_0 9 rfl rfl)
theorem dJ5_length_10 : decode cJ5_length 10 = .ok (.ireturn, 1) := dk_172 (dk_at dksJ5_length_0 10 rfl rfl)
abbrev cJ5_coder : ByteArray := prog_25_method_152_code
def yJ5_coder : MethodName := ⟨RJ5, "coder", "()B"⟩
def dkwJ5_coder_0 : List UInt8 := [178, 0, 38, 153, 0, 10, 42, 180, 0, 15, 167, 0, 4, 4, 172]
abbrev dktJ5_coder_0 : List UInt8 := dkwJ5_coder_0 ++ []
theorem dksJ5_coder_0 : cJ5_coder.data.toList.drop 0 = dktJ5_coder_0 := by decide +kernel
theorem dJ5_coder_0 : decode cJ5_coder 0 = .ok (.getstatic 38, 3) := dk_178 0 38 (dk_at dksJ5_coder_0 0 rfl rfl)
theorem dJ5_coder_3 : decode cJ5_coder 3 = .ok (.ifCond .eq 10, 3) := dk_153 0 10 (dk_at dksJ5_coder_0 3 rfl rfl)
theorem dJ5_coder_6 : decode cJ5_coder 6 = .ok (.aload_n 0, 1) := dk_42 (dk_at dksJ5_coder_0 6 rfl rfl)
theorem dJ5_coder_7 : decode cJ5_coder 7 = .ok (.getfield 15, 3) := dk_180 0 15 (dk_at dksJ5_coder_0 7 rfl rfl)
theorem dJ5_coder_10 : decode cJ5_coder 10 = .ok (.goto 4, 3) := dk_167 0 4 (dk_at dksJ5_coder_0 10 rfl rfl)
theorem dJ5_coder_13 : decode cJ5_coder 13 = .ok (.iconst 1, 1) := dk_4 (dk_at dksJ5_coder_0 13 rfl rfl)
theorem dJ5_coder_14 : decode cJ5_coder 14 = .ok (.ireturn, 1) := dk_172 (dk_at dksJ5_coder_0 14 rfl rfl)
abbrev cJ5_charAt : ByteArray := prog_25_method_56_code
def yJ5_charAt : MethodName := ⟨RJ5, "charAt", "(I)C"⟩
def dkwJ5_charAt_1 : List UInt8 := [172]
abbrev dktJ5_charAt_1 : List UInt8 := dkwJ5_charAt_1 ++ []
def dkwJ5_charAt_0 : List UInt8 := [42, 182, 1, 236, 153, 0, 12, 42, 180, 0, 9, 27, 184, 1, 239, 172, 42, 180, 0, 9, 27, 184, 1, 242]
abbrev dktJ5_charAt_0 : List UInt8 := dkwJ5_charAt_0 ++ dktJ5_charAt_1
theorem dksJ5_charAt_0 : cJ5_charAt.data.toList.drop 0 = dktJ5_charAt_0 := by decide +kernel
theorem dksJ5_charAt_1 : cJ5_charAt.data.toList.drop 24 = dktJ5_charAt_1 := dk_seg dksJ5_charAt_0 24 rfl rfl
theorem dJ5_charAt_0 : decode cJ5_charAt 0 = .ok (.aload_n 0, 1) := dk_42 (dk_at dksJ5_charAt_0 0 rfl rfl)
theorem dJ5_charAt_1 : decode cJ5_charAt 1 = .ok (.invokevirtual 492, 3) := dk_182 1 236 (dk_at dksJ5_charAt_0 1 rfl rfl)
theorem dJ5_charAt_4 : decode cJ5_charAt 4 = .ok (.ifCond .eq 12, 3) := dk_153 0 12 (dk_at dksJ5_charAt_0 4 rfl rfl)
theorem dJ5_charAt_7 : decode cJ5_charAt 7 = .ok (.aload_n 0, 1) := dk_42 (dk_at dksJ5_charAt_0 7 rfl rfl)
theorem dJ5_charAt_8 : decode cJ5_charAt 8 = .ok (.getfield 9, 3) := dk_180 0 9 (dk_at dksJ5_charAt_0 8 rfl rfl)
theorem dJ5_charAt_11 : decode cJ5_charAt 11 = .ok (.iload_n 1, 1) := dk_27 (dk_at dksJ5_charAt_0 11 rfl rfl)
theorem dJ5_charAt_12 : decode cJ5_charAt 12 = .ok (.invokestatic 495, 3) := dk_184 1 239 (dk_at dksJ5_charAt_0 12 rfl rfl)
theorem dJ5_charAt_15 : decode cJ5_charAt 15 = .ok (.ireturn, 1) := dk_172 (dk_at dksJ5_charAt_0 15 rfl rfl)
theorem dJ5_charAt_16 : decode cJ5_charAt 16 = .ok (.aload_n 0, 1) := dk_42 (dk_at dksJ5_charAt_0 16 rfl rfl)
theorem dJ5_charAt_17 : decode cJ5_charAt 17 = .ok (.getfield 9, 3) := dk_180 0 9 (dk_at dksJ5_charAt_0 17 rfl rfl)
theorem dJ5_charAt_20 : decode cJ5_charAt 20 = .ok (.iload_n 1, 1) := dk_27 (dk_at dksJ5_charAt_0 20 rfl rfl)
theorem dJ5_charAt_21 : decode cJ5_charAt 21 = .ok (.invokestatic 498, 3) := dk_184 1 242 (dk_at dksJ5_charAt_0 21 rfl rfl)
theorem dJ5_charAt_24 : decode cJ5_charAt 24 = .ok (.ireturn, 1) := dk_172 (dk_at dksJ5_charAt_1 0 rfl rfl)
abbrev cJ5_isLatin1 : ByteArray := prog_25_method_154_code
def yJ5_isLatin1 : MethodName := ⟨RJ5, "isLatin1", "()Z"⟩
def dkwJ5_isLatin1_0 : List UInt8 := [178, 0, 38, 153, 0, 14, 42, 180, 0, 15, 154, 0, 7, 4, 167, 0, 4, 3, 172]
abbrev dktJ5_isLatin1_0 : List UInt8 := dkwJ5_isLatin1_0 ++ []
theorem dksJ5_isLatin1_0 : cJ5_isLatin1.data.toList.drop 0 = dktJ5_isLatin1_0 := by decide +kernel
theorem dJ5_isLatin1_0 : decode cJ5_isLatin1 0 = .ok (.getstatic 38, 3) := dk_178 0 38 (dk_at dksJ5_isLatin1_0 0 rfl rfl)
theorem dJ5_isLatin1_3 : decode cJ5_isLatin1 3 = .ok (.ifCond .eq 14, 3) := dk_153 0 14 (dk_at dksJ5_isLatin1_0 3 rfl rfl)
theorem dJ5_isLatin1_6 : decode cJ5_isLatin1 6 = .ok (.aload_n 0, 1) := dk_42 (dk_at dksJ5_isLatin1_0 6 rfl rfl)
theorem dJ5_isLatin1_7 : decode cJ5_isLatin1 7 = .ok (.getfield 15, 3) := dk_180 0 15 (dk_at dksJ5_isLatin1_0 7 rfl rfl)
theorem dJ5_isLatin1_10 : decode cJ5_isLatin1 10 = .ok (.ifCond .ne 7, 3) := dk_154 0 7 (dk_at dksJ5_isLatin1_0 10 rfl rfl)
theorem dJ5_isLatin1_13 : decode cJ5_isLatin1 13 = .ok (.iconst 1, 1) := dk_4 (dk_at dksJ5_isLatin1_0 13 rfl rfl)
theorem dJ5_isLatin1_14 : decode cJ5_isLatin1 14 = .ok (.goto 4, 3) := dk_167 0 4 (dk_at dksJ5_isLatin1_0 14 rfl rfl)
theorem dJ5_isLatin1_17 : decode cJ5_isLatin1 17 = .ok (.iconst 0, 1) := dk_3 (dk_at dksJ5_isLatin1_0 17 rfl rfl)
theorem dJ5_isLatin1_18 : decode cJ5_isLatin1 18 = .ok (.ireturn, 1) := dk_172 (dk_at dksJ5_isLatin1_0 18 rfl rfl)
abbrev cJ5_checkIndex : ByteArray := prog_25_method_155_code
def yJ5_checkIndex : MethodName := ⟨RJ5, "checkIndex", "(II)V"⟩
def dkwJ5_checkIndex_0 : List UInt8 := [26, 27, 178, 4, 29, 184, 4, 35, 87, 177]
abbrev dktJ5_checkIndex_0 : List UInt8 := dkwJ5_checkIndex_0 ++ []
theorem dksJ5_checkIndex_0 : cJ5_checkIndex.data.toList.drop 0 = dktJ5_checkIndex_0 := by decide +kernel
theorem dJ5_checkIndex_0 : decode cJ5_checkIndex 0 = .ok (.iload_n 0, 1) := dk_26 (dk_at dksJ5_checkIndex_0 0 rfl rfl)
theorem dJ5_checkIndex_1 : decode cJ5_checkIndex 1 = .ok (.iload_n 1, 1) := dk_27 (dk_at dksJ5_checkIndex_0 1 rfl rfl)
theorem dJ5_checkIndex_2 : decode cJ5_checkIndex 2 = .ok (.getstatic 1053, 3) := dk_178 4 29 (dk_at dksJ5_checkIndex_0 2 rfl rfl)
theorem dJ5_checkIndex_5 : decode cJ5_checkIndex 5 = .ok (.invokestatic 1059, 3) := dk_184 4 35 (dk_at dksJ5_checkIndex_0 5 rfl rfl)
theorem dJ5_checkIndex_8 : decode cJ5_checkIndex 8 = .ok (.pop, 1) := dk_87 (dk_at dksJ5_checkIndex_0 8 rfl rfl)
theorem dJ5_checkIndex_9 : decode cJ5_checkIndex 9 = .ok (.return_, 1) := dk_177 (dk_at dksJ5_checkIndex_0 9 rfl rfl)
theorem q121 : (Jvm.Cond.initialized "java/lang/String") ∈ lw_all := lw_g (lw_at lw_m1 19 rfl) rfl
theorem q468 : (Jvm.Cond.instanceMethod ({ cls := "java/lang/String", name := "length", desc := "()I" } : Jvm.MethodName)) ∈ lw_all := lw_g (lw_at lw_m2 126 rfl) rfl
theorem q469 : (Jvm.Cond.selects "java/lang/String" ({ cls := "java/lang/String", name := "length", desc := "()I" } : Jvm.MethodName) ({ cls := "java/lang/String", name := "length", desc := "()I" } : Jvm.MethodName)) ∈ lw_all := lw_g (lw_at lw_m2 127 rfl) rfl
theorem q470 : (Jvm.Cond.code ({ cls := "java/lang/String", name := "length", desc := "()I" } : Jvm.MethodName) prog_25_method_54_code (1 : Nat) (Option.some Jvm.ClassFile.FieldType.int)) ∈ lw_all := lw_g (lw_at lw_m2 128 rfl) rfl
theorem q471 : (Jvm.Cond.methodLink "java/lang/String" (335 : Nat) ({ cls := "java/lang/String", name := "coder", desc := "()B" } : Jvm.MethodName)) ∈ lw_all := lw_g (lw_at lw_m2 129 rfl) rfl
theorem q472 : (Jvm.Cond.instanceMethod ({ cls := "java/lang/String", name := "coder", desc := "()B" } : Jvm.MethodName)) ∈ lw_all := lw_g (lw_at lw_m2 130 rfl) rfl
theorem q473 : (Jvm.Cond.selects "java/lang/String" ({ cls := "java/lang/String", name := "coder", desc := "()B" } : Jvm.MethodName) ({ cls := "java/lang/String", name := "coder", desc := "()B" } : Jvm.MethodName)) ∈ lw_all := lw_g (lw_at lw_m2 131 rfl) rfl
theorem q474 : (Jvm.Cond.code ({ cls := "java/lang/String", name := "coder", desc := "()B" } : Jvm.MethodName) prog_25_method_152_code (1 : Nat) (Option.some Jvm.ClassFile.FieldType.byte)) ∈ lw_all := lw_g (lw_at lw_m2 132 rfl) rfl
theorem q475 : (Jvm.Cond.fieldLink "java/lang/String" (38 : Nat) "java/lang/String" "COMPACT_STRINGS" "Z") ∈ lw_all := lw_g (lw_at lw_m2 133 rfl) rfl
theorem q476 : (Jvm.Cond.laysStatic "java/lang/String" "COMPACT_STRINGS" "Z") ∈ lw_tbl := lw_at lw_m2 134 rfl
theorem q478 : (Jvm.Cond.instanceMethod ({ cls := "java/lang/String", name := "charAt", desc := "(I)C" } : Jvm.MethodName)) ∈ lw_all := lw_g (lw_at lw_m2 136 rfl) rfl
theorem q479 : (Jvm.Cond.selects "java/lang/String" ({ cls := "java/lang/String", name := "charAt", desc := "(I)C" } : Jvm.MethodName) ({ cls := "java/lang/String", name := "charAt", desc := "(I)C" } : Jvm.MethodName)) ∈ lw_all := lw_g (lw_at lw_m2 137 rfl) rfl
theorem q480 : (Jvm.Cond.code ({ cls := "java/lang/String", name := "charAt", desc := "(I)C" } : Jvm.MethodName) prog_25_method_56_code (2 : Nat) (Option.some Jvm.ClassFile.FieldType.char)) ∈ lw_all := lw_g (lw_at lw_m2 138 rfl) rfl
theorem q481 : (Jvm.Cond.methodLink "java/lang/String" (492 : Nat) ({ cls := "java/lang/String", name := "isLatin1", desc := "()Z" } : Jvm.MethodName)) ∈ lw_all := lw_g (lw_at lw_m2 139 rfl) rfl
theorem q482 : (Jvm.Cond.instanceMethod ({ cls := "java/lang/String", name := "isLatin1", desc := "()Z" } : Jvm.MethodName)) ∈ lw_all := lw_g (lw_at lw_m2 140 rfl) rfl
theorem q483 : (Jvm.Cond.selects "java/lang/String" ({ cls := "java/lang/String", name := "isLatin1", desc := "()Z" } : Jvm.MethodName) ({ cls := "java/lang/String", name := "isLatin1", desc := "()Z" } : Jvm.MethodName)) ∈ lw_all := lw_g (lw_at lw_m2 141 rfl) rfl
theorem q484 : (Jvm.Cond.code ({ cls := "java/lang/String", name := "isLatin1", desc := "()Z" } : Jvm.MethodName) prog_25_method_154_code (1 : Nat) (Option.some Jvm.ClassFile.FieldType.boolean)) ∈ lw_all := lw_g (lw_at lw_m2 142 rfl) rfl
theorem q485 : (Jvm.Cond.methodLink "java/lang/String" (495 : Nat) ({ cls := "java/lang/StringLatin1", name := "charAt", desc := "([BI)C" } : Jvm.MethodName)) ∈ lw_all := lw_g (lw_at lw_m2 143 rfl) rfl
theorem q489 : (Jvm.Cond.static ({ cls := "java/lang/String", name := "checkIndex", desc := "(II)V" } : Jvm.MethodName)) ∈ lw_all := lw_g (lw_at lw_m2 147 rfl) rfl
theorem q490 : (Jvm.Cond.code ({ cls := "java/lang/String", name := "checkIndex", desc := "(II)V" } : Jvm.MethodName) prog_25_method_155_code (2 : Nat) (Option.none : Option Jvm.ClassFile.FieldType)) ∈ lw_all := lw_g (lw_at lw_m2 148 rfl) rfl
theorem q491 : (Jvm.Cond.fieldLink "java/lang/String" (1053 : Nat) "jdk/internal/util/Preconditions" "SIOOBE_FORMATTER" "Ljava/util/function/BiFunction;") ∈ lw_all := lw_g (lw_at lw_m2 149 rfl) rfl
theorem q493 : (Jvm.Cond.methodLink "java/lang/String" (1059 : Nat) ({ cls := "jdk/internal/util/Preconditions", name := "checkIndex", desc := "(IILjava/util/function/BiFunction;)I" } : Jvm.MethodName)) ∈ lw_all := lw_g (lw_at lw_m2 151 rfl) rfl
theorem q496 : (Jvm.Cond.methodLink "java/lang/String" (498 : Nat) ({ cls := "java/lang/StringUTF16", name := "charAt", desc := "([BI)C" } : Jvm.MethodName)) ∈ lw_all := lw_g (lw_at lw_m2 154 rfl) rfl
theorem q875 : (Jvm.Cond.instantiable "java/lang/String" (4 : Nat)) ∈ lw_all := lw_g (lw_at lw_m4 53 rfl) rfl
theorem q876 : (Jvm.Cond.laysFinal "java/lang/String" "java/lang/String" "value" "[B") ∈ lw_all := lw_g (lw_at lw_m4 54 rfl) rfl
theorem q877 : (Jvm.Cond.soleField "java/lang/String" "value") ∈ lw_all := lw_g (lw_at lw_m4 55 rfl) rfl
theorem q878 : (Jvm.Cond.laysFinal "java/lang/String" "java/lang/String" "coder" "B") ∈ lw_all := lw_g (lw_at lw_m4 56 rfl) rfl
theorem q879 : (Jvm.Cond.soleField "java/lang/String" "coder") ∈ lw_all := lw_g (lw_at lw_m4 57 rfl) rfl
theorem q1907 : (Jvm.Cond.fieldLink "java/lang/String" (9 : Nat) "java/lang/String" "value" "[B") ∈ lw_all := lw_g (lw_at lw_m8 125 rfl) rfl
theorem q1908 : (Jvm.Cond.fieldLink "java/lang/String" (15 : Nat) "java/lang/String" "coder" "B") ∈ lw_all := lw_g (lw_at lw_m8 126 rfl) rfl
theorem in_J5 : ∀ w ∈ wsJ50, w ∈ lw_all := lw_in wsJ50 [876, 878] (by decide +kernel) (by decide +kernel)

/-! java/lang/StringLatin1 -/
set_option maxRecDepth 100000
def RJ6 : String := "java/lang/StringLatin1"
abbrev cJ6_charAt : ByteArray := prog_26_method_2_code
def yJ6_charAt : MethodName := ⟨RJ6, "charAt", "([BI)C"⟩
def dkwJ6_charAt_0 : List UInt8 := [27, 42, 190, 184, 0, 9, 42, 27, 51, 17, 0, 255, 126, 146, 172]
abbrev dktJ6_charAt_0 : List UInt8 := dkwJ6_charAt_0 ++ []
theorem dksJ6_charAt_0 : cJ6_charAt.data.toList.drop 0 = dktJ6_charAt_0 := by decide +kernel
theorem dJ6_charAt_0 : decode cJ6_charAt 0 = .ok (.iload_n 1, 1) := dk_27 (dk_at dksJ6_charAt_0 0 rfl rfl)
theorem dJ6_charAt_1 : decode cJ6_charAt 1 = .ok (.aload_n 0, 1) := dk_42 (dk_at dksJ6_charAt_0 1 rfl rfl)
theorem dJ6_charAt_2 : decode cJ6_charAt 2 = .ok (.arraylength, 1) := dk_190 (dk_at dksJ6_charAt_0 2 rfl rfl)
theorem dJ6_charAt_3 : decode cJ6_charAt 3 = .ok (.invokestatic 9, 3) := dk_184 0 9 (dk_at dksJ6_charAt_0 3 rfl rfl)
theorem dJ6_charAt_6 : decode cJ6_charAt 6 = .ok (.aload_n 0, 1) := dk_42 (dk_at dksJ6_charAt_0 6 rfl rfl)
theorem dJ6_charAt_7 : decode cJ6_charAt 7 = .ok (.iload_n 1, 1) := dk_27 (dk_at dksJ6_charAt_0 7 rfl rfl)
theorem dJ6_charAt_8 : decode cJ6_charAt 8 = .ok (.baload, 1) := dk_51 (dk_at dksJ6_charAt_0 8 rfl rfl)
theorem dJ6_charAt_9 : decode cJ6_charAt 9 = .ok (.sipush 255, 3) := dk_17 0 255 (dk_at dksJ6_charAt_0 9 rfl rfl)
theorem dJ6_charAt_12 : decode cJ6_charAt 12 = .ok (.iand, 1) := dk_126 (dk_at dksJ6_charAt_0 12 rfl rfl)
theorem dJ6_charAt_13 : decode cJ6_charAt 13 = .ok (.i2c, 1) := dk_146 (dk_at dksJ6_charAt_0 13 rfl rfl)
theorem dJ6_charAt_14 : decode cJ6_charAt 14 = .ok (.ireturn, 1) := dk_172 (dk_at dksJ6_charAt_0 14 rfl rfl)
theorem q123 : (Jvm.Cond.initialized "java/lang/StringLatin1") ∈ lw_all := lw_g (lw_at lw_m1 21 rfl) rfl
theorem q486 : (Jvm.Cond.static ({ cls := "java/lang/StringLatin1", name := "charAt", desc := "([BI)C" } : Jvm.MethodName)) ∈ lw_all := lw_g (lw_at lw_m2 144 rfl) rfl
theorem q487 : (Jvm.Cond.code ({ cls := "java/lang/StringLatin1", name := "charAt", desc := "([BI)C" } : Jvm.MethodName) prog_26_method_2_code (2 : Nat) (Option.some Jvm.ClassFile.FieldType.char)) ∈ lw_all := lw_g (lw_at lw_m2 145 rfl) rfl
theorem q488 : (Jvm.Cond.methodLink "java/lang/StringLatin1" (9 : Nat) ({ cls := "java/lang/String", name := "checkIndex", desc := "(II)V" } : Jvm.MethodName)) ∈ lw_all := lw_g (lw_at lw_m2 146 rfl) rfl

/-! jdk/internal/util/Preconditions -/
set_option maxRecDepth 100000
def RJ7 : String := "jdk/internal/util/Preconditions"
abbrev cJ7_checkIndex : ByteArray := prog_30_method_11_code
def yJ7_checkIndex : MethodName := ⟨RJ7, "checkIndex", "(IILjava/util/function/BiFunction;)I"⟩
def dkwJ7_checkIndex_0 : List UInt8 := [26, 155, 0, 8, 26, 27, 161, 0, 10, 44, 26, 27, 184, 0, 95, 191, 26, 172]
abbrev dktJ7_checkIndex_0 : List UInt8 := dkwJ7_checkIndex_0 ++ []
theorem dksJ7_checkIndex_0 : cJ7_checkIndex.data.toList.drop 0 = dktJ7_checkIndex_0 := by decide +kernel
theorem dJ7_checkIndex_0 : decode cJ7_checkIndex 0 = .ok (.iload_n 0, 1) := dk_26 (dk_at dksJ7_checkIndex_0 0 rfl rfl)
theorem dJ7_checkIndex_1 : decode cJ7_checkIndex 1 = .ok (.ifCond .lt 8, 3) := dk_155 0 8 (dk_at dksJ7_checkIndex_0 1 rfl rfl)
theorem dJ7_checkIndex_4 : decode cJ7_checkIndex 4 = .ok (.iload_n 0, 1) := dk_26 (dk_at dksJ7_checkIndex_0 4 rfl rfl)
theorem dJ7_checkIndex_5 : decode cJ7_checkIndex 5 = .ok (.iload_n 1, 1) := dk_27 (dk_at dksJ7_checkIndex_0 5 rfl rfl)
theorem dJ7_checkIndex_6 : decode cJ7_checkIndex 6 = .ok (.if_icmp .lt 10, 3) := dk_161 0 10 (dk_at dksJ7_checkIndex_0 6 rfl rfl)
theorem dJ7_checkIndex_9 : decode cJ7_checkIndex 9 = .ok (.aload_n 2, 1) := dk_44 (dk_at dksJ7_checkIndex_0 9 rfl rfl)
theorem dJ7_checkIndex_10 : decode cJ7_checkIndex 10 = .ok (.iload_n 0, 1) := dk_26 (dk_at dksJ7_checkIndex_0 10 rfl rfl)
theorem dJ7_checkIndex_11 : decode cJ7_checkIndex 11 = .ok (.iload_n 1, 1) := dk_27 (dk_at dksJ7_checkIndex_0 11 rfl rfl)
theorem dJ7_checkIndex_12 : decode cJ7_checkIndex 12 = .ok (.invokestatic 95, 3) := dk_184 0 95 (dk_at dksJ7_checkIndex_0 12 rfl rfl)
theorem dJ7_checkIndex_15 : decode cJ7_checkIndex 15 = .ok (.athrow, 1) := dk_191 (dk_at dksJ7_checkIndex_0 15 rfl rfl)
theorem dJ7_checkIndex_16 : decode cJ7_checkIndex 16 = .ok (.iload_n 0, 1) := dk_26 (dk_at dksJ7_checkIndex_0 16 rfl rfl)
theorem dJ7_checkIndex_17 : decode cJ7_checkIndex 17 = .ok (.ireturn, 1) := dk_172 (dk_at dksJ7_checkIndex_0 17 rfl rfl)
theorem q124 : (Jvm.Cond.initialized "jdk/internal/util/Preconditions") ∈ lw_all := lw_g (lw_at lw_m1 22 rfl) rfl
theorem q492 : (Jvm.Cond.laysStatic "jdk/internal/util/Preconditions" "SIOOBE_FORMATTER" "Ljava/util/function/BiFunction;") ∈ lw_tbl := lw_at lw_m2 150 rfl
theorem q494 : (Jvm.Cond.static ({ cls := "jdk/internal/util/Preconditions", name := "checkIndex", desc := "(IILjava/util/function/BiFunction;)I" } : Jvm.MethodName)) ∈ lw_all := lw_g (lw_at lw_m2 152 rfl) rfl
theorem q495 : (Jvm.Cond.code ({ cls := "jdk/internal/util/Preconditions", name := "checkIndex", desc := "(IILjava/util/function/BiFunction;)I" } : Jvm.MethodName) prog_30_method_11_code (3 : Nat) (Option.some Jvm.ClassFile.FieldType.int)) ∈ lw_all := lw_g (lw_at lw_m2 153 rfl) rfl

/-! java/lang/StringUTF16 -/
set_option maxRecDepth 100000
def RJ8 : String := "java/lang/StringUTF16"
abbrev cJ8_charAt : ByteArray := prog_27_method_83_code
def yJ8_charAt : MethodName := ⟨RJ8, "charAt", "([BI)C"⟩
def dkwJ8_charAt_0 : List UInt8 := [27, 42, 184, 0, 67, 42, 27, 184, 0, 71, 172]
abbrev dktJ8_charAt_0 : List UInt8 := dkwJ8_charAt_0 ++ []
theorem dksJ8_charAt_0 : cJ8_charAt.data.toList.drop 0 = dktJ8_charAt_0 := by decide +kernel
theorem dJ8_charAt_0 : decode cJ8_charAt 0 = .ok (.iload_n 1, 1) := dk_27 (dk_at dksJ8_charAt_0 0 rfl rfl)
theorem dJ8_charAt_1 : decode cJ8_charAt 1 = .ok (.aload_n 0, 1) := dk_42 (dk_at dksJ8_charAt_0 1 rfl rfl)
theorem dJ8_charAt_2 : decode cJ8_charAt 2 = .ok (.invokestatic 67, 3) := dk_184 0 67 (dk_at dksJ8_charAt_0 2 rfl rfl)
theorem dJ8_charAt_5 : decode cJ8_charAt 5 = .ok (.aload_n 0, 1) := dk_42 (dk_at dksJ8_charAt_0 5 rfl rfl)
theorem dJ8_charAt_6 : decode cJ8_charAt 6 = .ok (.iload_n 1, 1) := dk_27 (dk_at dksJ8_charAt_0 6 rfl rfl)
theorem dJ8_charAt_7 : decode cJ8_charAt 7 = .ok (.invokestatic 71, 3) := dk_184 0 71 (dk_at dksJ8_charAt_0 7 rfl rfl)
theorem dJ8_charAt_10 : decode cJ8_charAt 10 = .ok (.ireturn, 1) := dk_172 (dk_at dksJ8_charAt_0 10 rfl rfl)
abbrev cJ8_checkIndex : ByteArray := prog_27_method_91_code
def yJ8_checkIndex : MethodName := ⟨RJ8, "checkIndex", "(I[B)V"⟩
def dkwJ8_checkIndex_0 : List UInt8 := [26, 43, 184, 0, 48, 184, 1, 158, 177]
abbrev dktJ8_checkIndex_0 : List UInt8 := dkwJ8_checkIndex_0 ++ []
theorem dksJ8_checkIndex_0 : cJ8_checkIndex.data.toList.drop 0 = dktJ8_checkIndex_0 := by decide +kernel
theorem dJ8_checkIndex_0 : decode cJ8_checkIndex 0 = .ok (.iload_n 0, 1) := dk_26 (dk_at dksJ8_checkIndex_0 0 rfl rfl)
theorem dJ8_checkIndex_1 : decode cJ8_checkIndex 1 = .ok (.aload_n 1, 1) := dk_43 (dk_at dksJ8_checkIndex_0 1 rfl rfl)
theorem dJ8_checkIndex_2 : decode cJ8_checkIndex 2 = .ok (.invokestatic 48, 3) := dk_184 0 48 (dk_at dksJ8_checkIndex_0 2 rfl rfl)
theorem dJ8_checkIndex_5 : decode cJ8_checkIndex 5 = .ok (.invokestatic 414, 3) := dk_184 1 158 (dk_at dksJ8_checkIndex_0 5 rfl rfl)
theorem dJ8_checkIndex_8 : decode cJ8_checkIndex 8 = .ok (.return_, 1) := dk_177 (dk_at dksJ8_checkIndex_0 8 rfl rfl)
abbrev cJ8_length : ByteArray := prog_27_method_6_code
def yJ8_length : MethodName := ⟨RJ8, "length", "([B)I"⟩
def dkwJ8_length_0 : List UInt8 := [42, 190, 4, 122, 172]
abbrev dktJ8_length_0 : List UInt8 := dkwJ8_length_0 ++ []
theorem dksJ8_length_0 : cJ8_length.data.toList.drop 0 = dktJ8_length_0 := by decide +kernel
theorem dJ8_length_0 : decode cJ8_length 0 = .ok (.aload_n 0, 1) := dk_42 (dk_at dksJ8_length_0 0 rfl rfl)
theorem dJ8_length_1 : decode cJ8_length 1 = .ok (.arraylength, 1) := dk_190 (dk_at dksJ8_length_0 1 rfl rfl)
theorem dJ8_length_2 : decode cJ8_length 2 = .ok (.iconst 1, 1) := dk_4 (dk_at dksJ8_length_0 2 rfl rfl)
theorem dJ8_length_3 : decode cJ8_length 3 = .ok (.ishr, 1) := dk_122 (dk_at dksJ8_length_0 3 rfl rfl)
theorem dJ8_length_4 : decode cJ8_length 4 = .ok (.ireturn, 1) := dk_172 (dk_at dksJ8_length_0 4 rfl rfl)
abbrev cJ8_getChar : ByteArray := prog_27_method_5_code
def yJ8_getChar : MethodName := ⟨RJ8, "getChar", "([BI)C"⟩
def dkwJ8_getChar_2 : List UInt8 := [51, 17, 0, 255, 126, 178, 0, 63, 120, 128, 146, 172]
abbrev dktJ8_getChar_2 : List UInt8 := dkwJ8_getChar_2 ++ []
def dkwJ8_getChar_1 : List UInt8 := [183, 0, 56, 191, 27, 4, 120, 60, 42, 27, 132, 1, 1, 51, 17, 0, 255, 126, 178, 0, 59, 120, 42, 27]
abbrev dktJ8_getChar_1 : List UInt8 := dkwJ8_getChar_1 ++ dktJ8_getChar_2
def dkwJ8_getChar_0 : List UInt8 := [178, 0, 44, 154, 0, 25, 27, 155, 0, 11, 27, 42, 184, 0, 48, 161, 0, 13, 187, 0, 52, 89, 18, 54]
abbrev dktJ8_getChar_0 : List UInt8 := dkwJ8_getChar_0 ++ dktJ8_getChar_1
theorem dksJ8_getChar_0 : cJ8_getChar.data.toList.drop 0 = dktJ8_getChar_0 := by decide +kernel
theorem dksJ8_getChar_1 : cJ8_getChar.data.toList.drop 24 = dktJ8_getChar_1 := dk_seg dksJ8_getChar_0 24 rfl rfl
theorem dksJ8_getChar_2 : cJ8_getChar.data.toList.drop 48 = dktJ8_getChar_2 := dk_seg dksJ8_getChar_1 24 rfl rfl
theorem dJ8_getChar_0 : decode cJ8_getChar 0 = .ok (.getstatic 44, 3) := dk_178 0 44 (dk_at dksJ8_getChar_0 0 rfl rfl)
theorem dJ8_getChar_3 : decode cJ8_getChar 3 = .ok (.ifCond .ne 25, 3) := dk_154 0 25 (dk_at dksJ8_getChar_0 3 rfl rfl)
theorem dJ8_getChar_6 : decode cJ8_getChar 6 = .ok (.iload_n 1, 1) := dk_27 (dk_at dksJ8_getChar_0 6 rfl rfl)
theorem dJ8_getChar_7 : decode cJ8_getChar 7 = .ok (.ifCond .lt 11, 3) := dk_155 0 11 (dk_at dksJ8_getChar_0 7 rfl rfl)
theorem dJ8_getChar_10 : decode cJ8_getChar 10 = .ok (.iload_n 1, 1) := dk_27 (dk_at dksJ8_getChar_0 10 rfl rfl)
theorem dJ8_getChar_11 : decode cJ8_getChar 11 = .ok (.aload_n 0, 1) := dk_42 (dk_at dksJ8_getChar_0 11 rfl rfl)
theorem dJ8_getChar_12 : decode cJ8_getChar 12 = .ok (.invokestatic 48, 3) := dk_184 0 48 (dk_at dksJ8_getChar_0 12 rfl rfl)
theorem dJ8_getChar_15 : decode cJ8_getChar 15 = .ok (.if_icmp .lt 13, 3) := dk_161 0 13 (dk_at dksJ8_getChar_0 15 rfl rfl)
theorem dJ8_getChar_18 : decode cJ8_getChar 18 = .ok (.new 52, 3) := dk_187 0 52 (dk_at dksJ8_getChar_0 18 rfl rfl)
theorem dJ8_getChar_21 : decode cJ8_getChar 21 = .ok (.dup, 1) := dk_89 (dk_at dksJ8_getChar_0 21 rfl rfl)
theorem dJ8_getChar_22 : decode cJ8_getChar 22 = .ok (.ldc 54, 2) := dk_18 54 (dk_at dksJ8_getChar_0 22 rfl rfl)
theorem dJ8_getChar_24 : decode cJ8_getChar 24 = .ok (.invokespecial 56, 3) := dk_183 0 56 (dk_at dksJ8_getChar_1 0 rfl rfl)
theorem dJ8_getChar_27 : decode cJ8_getChar 27 = .ok (.athrow, 1) := dk_191 (dk_at dksJ8_getChar_1 3 rfl rfl)
theorem dJ8_getChar_28 : decode cJ8_getChar 28 = .ok (.iload_n 1, 1) := dk_27 (dk_at dksJ8_getChar_1 4 rfl rfl)
theorem dJ8_getChar_29 : decode cJ8_getChar 29 = .ok (.iconst 1, 1) := dk_4 (dk_at dksJ8_getChar_1 5 rfl rfl)
theorem dJ8_getChar_30 : decode cJ8_getChar 30 = .ok (.ishl, 1) := dk_120 (dk_at dksJ8_getChar_1 6 rfl rfl)
theorem dJ8_getChar_31 : decode cJ8_getChar 31 = .ok (.istore_n 1, 1) := dk_60 (dk_at dksJ8_getChar_1 7 rfl rfl)
theorem dJ8_getChar_32 : decode cJ8_getChar 32 = .ok (.aload_n 0, 1) := dk_42 (dk_at dksJ8_getChar_1 8 rfl rfl)
theorem dJ8_getChar_33 : decode cJ8_getChar 33 = .ok (.iload_n 1, 1) := dk_27 (dk_at dksJ8_getChar_1 9 rfl rfl)
theorem dJ8_getChar_34 : decode cJ8_getChar 34 = .ok (.iinc 1 1, 3) := dk_132 1 1 (dk_at dksJ8_getChar_1 10 rfl rfl)
theorem dJ8_getChar_37 : decode cJ8_getChar 37 = .ok (.baload, 1) := dk_51 (dk_at dksJ8_getChar_1 13 rfl rfl)
theorem dJ8_getChar_38 : decode cJ8_getChar 38 = .ok (.sipush 255, 3) := dk_17 0 255 (dk_at dksJ8_getChar_1 14 rfl rfl)
theorem dJ8_getChar_41 : decode cJ8_getChar 41 = .ok (.iand, 1) := dk_126 (dk_at dksJ8_getChar_1 17 rfl rfl)
theorem dJ8_getChar_42 : decode cJ8_getChar 42 = .ok (.getstatic 59, 3) := dk_178 0 59 (dk_at dksJ8_getChar_1 18 rfl rfl)
theorem dJ8_getChar_45 : decode cJ8_getChar 45 = .ok (.ishl, 1) := dk_120 (dk_at dksJ8_getChar_1 21 rfl rfl)
theorem dJ8_getChar_46 : decode cJ8_getChar 46 = .ok (.aload_n 0, 1) := dk_42 (dk_at dksJ8_getChar_1 22 rfl rfl)
theorem dJ8_getChar_47 : decode cJ8_getChar 47 = .ok (.iload_n 1, 1) := dk_27 (dk_at dksJ8_getChar_1 23 rfl rfl)
theorem dJ8_getChar_48 : decode cJ8_getChar 48 = .ok (.baload, 1) := dk_51 (dk_at dksJ8_getChar_2 0 rfl rfl)
theorem dJ8_getChar_49 : decode cJ8_getChar 49 = .ok (.sipush 255, 3) := dk_17 0 255 (dk_at dksJ8_getChar_2 1 rfl rfl)
theorem dJ8_getChar_52 : decode cJ8_getChar 52 = .ok (.iand, 1) := dk_126 (dk_at dksJ8_getChar_2 4 rfl rfl)
theorem dJ8_getChar_53 : decode cJ8_getChar 53 = .ok (.getstatic 63, 3) := dk_178 0 63 (dk_at dksJ8_getChar_2 5 rfl rfl)
theorem dJ8_getChar_56 : decode cJ8_getChar 56 = .ok (.ishl, 1) := dk_120 (dk_at dksJ8_getChar_2 8 rfl rfl)
theorem dJ8_getChar_57 : decode cJ8_getChar 57 = .ok (.ior, 1) := dk_128 (dk_at dksJ8_getChar_2 9 rfl rfl)
theorem dJ8_getChar_58 : decode cJ8_getChar 58 = .ok (.i2c, 1) := dk_146 (dk_at dksJ8_getChar_2 10 rfl rfl)
theorem dJ8_getChar_59 : decode cJ8_getChar 59 = .ok (.ireturn, 1) := dk_172 (dk_at dksJ8_getChar_2 11 rfl rfl)
theorem q125 : (Jvm.Cond.initialized "java/lang/StringUTF16") ∈ lw_all := lw_g (lw_at lw_m1 23 rfl) rfl
theorem q497 : (Jvm.Cond.static ({ cls := "java/lang/StringUTF16", name := "charAt", desc := "([BI)C" } : Jvm.MethodName)) ∈ lw_all := lw_g (lw_at lw_m2 155 rfl) rfl
theorem q498 : (Jvm.Cond.code ({ cls := "java/lang/StringUTF16", name := "charAt", desc := "([BI)C" } : Jvm.MethodName) prog_27_method_83_code (2 : Nat) (Option.some Jvm.ClassFile.FieldType.char)) ∈ lw_all := lw_g (lw_at lw_m2 156 rfl) rfl
theorem q499 : (Jvm.Cond.methodLink "java/lang/StringUTF16" (67 : Nat) ({ cls := "java/lang/StringUTF16", name := "checkIndex", desc := "(I[B)V" } : Jvm.MethodName)) ∈ lw_all := lw_g (lw_at lw_m2 157 rfl) rfl
theorem q500 : (Jvm.Cond.static ({ cls := "java/lang/StringUTF16", name := "checkIndex", desc := "(I[B)V" } : Jvm.MethodName)) ∈ lw_all := lw_g (lw_at lw_m2 158 rfl) rfl
theorem q501 : (Jvm.Cond.code ({ cls := "java/lang/StringUTF16", name := "checkIndex", desc := "(I[B)V" } : Jvm.MethodName) prog_27_method_91_code (2 : Nat) (Option.none : Option Jvm.ClassFile.FieldType)) ∈ lw_all := lw_g (lw_at lw_m2 159 rfl) rfl
theorem q502 : (Jvm.Cond.methodLink "java/lang/StringUTF16" (48 : Nat) ({ cls := "java/lang/StringUTF16", name := "length", desc := "([B)I" } : Jvm.MethodName)) ∈ lw_all := lw_g (lw_at lw_m2 160 rfl) rfl
theorem q503 : (Jvm.Cond.static ({ cls := "java/lang/StringUTF16", name := "length", desc := "([B)I" } : Jvm.MethodName)) ∈ lw_all := lw_g (lw_at lw_m2 161 rfl) rfl
theorem q504 : (Jvm.Cond.code ({ cls := "java/lang/StringUTF16", name := "length", desc := "([B)I" } : Jvm.MethodName) prog_27_method_6_code (1 : Nat) (Option.some Jvm.ClassFile.FieldType.int)) ∈ lw_all := lw_g (lw_at lw_m2 162 rfl) rfl
theorem q505 : (Jvm.Cond.methodLink "java/lang/StringUTF16" (414 : Nat) ({ cls := "java/lang/String", name := "checkIndex", desc := "(II)V" } : Jvm.MethodName)) ∈ lw_all := lw_g (lw_at lw_m2 163 rfl) rfl
theorem q506 : (Jvm.Cond.methodLink "java/lang/StringUTF16" (71 : Nat) ({ cls := "java/lang/StringUTF16", name := "getChar", desc := "([BI)C" } : Jvm.MethodName)) ∈ lw_all := lw_g (lw_at lw_m2 164 rfl) rfl
theorem q507 : (Jvm.Cond.static ({ cls := "java/lang/StringUTF16", name := "getChar", desc := "([BI)C" } : Jvm.MethodName)) ∈ lw_all := lw_g (lw_at lw_m2 165 rfl) rfl
theorem q508 : (Jvm.Cond.code ({ cls := "java/lang/StringUTF16", name := "getChar", desc := "([BI)C" } : Jvm.MethodName) prog_27_method_5_code (2 : Nat) (Option.some Jvm.ClassFile.FieldType.char)) ∈ lw_all := lw_g (lw_at lw_m2 166 rfl) rfl
theorem q509 : (Jvm.Cond.fieldLink "java/lang/StringUTF16" (44 : Nat) "java/lang/StringUTF16" "$assertionsDisabled" "Z") ∈ lw_all := lw_g (lw_at lw_m2 167 rfl) rfl
theorem q510 : (Jvm.Cond.laysStatic "java/lang/StringUTF16" "$assertionsDisabled" "Z") ∈ lw_tbl := lw_at lw_m2 168 rfl
theorem q511 : (Jvm.Cond.fieldLink "java/lang/StringUTF16" (59 : Nat) "java/lang/StringUTF16" "HI_BYTE_SHIFT" "I") ∈ lw_all := lw_g (lw_at lw_m2 169 rfl) rfl
theorem q512 : (Jvm.Cond.laysStatic "java/lang/StringUTF16" "HI_BYTE_SHIFT" "I") ∈ lw_tbl := lw_at lw_m2 170 rfl
theorem q513 : (Jvm.Cond.fieldLink "java/lang/StringUTF16" (63 : Nat) "java/lang/StringUTF16" "LO_BYTE_SHIFT" "I") ∈ lw_all := lw_g (lw_at lw_m2 171 rfl) rfl
theorem q514 : (Jvm.Cond.laysStatic "java/lang/StringUTF16" "LO_BYTE_SHIFT" "I") ∈ lw_tbl := lw_at lw_m2 172 rfl

/-! java/lang/NegativeArraySizeException -/
set_option maxRecDepth 100000
def RJ9 : String := "java/lang/NegativeArraySizeException"
def TJ9 : u_T := fun k => match k with
  | 0 => ("java/lang/Throwable", "backtrace", "Ljava/lang/Object;", false)
  | 1 => ("java/lang/Throwable", "detailMessage", "Ljava/lang/String;", false)
  | 2 => ("java/lang/Throwable", "cause", "Ljava/lang/Throwable;", false)
  | 3 => ("java/lang/Throwable", "stackTrace", "[Ljava/lang/StackTraceElement;", false)
  | 4 => ("java/lang/Throwable", "depth", "I", false)
  | _ => ("java/lang/Throwable", "suppressedExceptions", "Ljava/util/List;", false)
def tyJ9 : Nat → FieldType := fun k => match k with
  | 0 => .object "java/lang/Object"
  | 1 => .object "java/lang/String"
  | 2 => .object "java/lang/Throwable"
  | 3 => .array (.object "java/lang/StackTraceElement")
  | 4 => .int
  | _ => .object "java/util/List"
abbrev wsJ90 : List Cond := u_ws RJ9 TJ9 6
theorem nmJ9 : ∀ a, a < 6 → ∀ b, b < 6 → a ≠ b → (TJ9 a).2.1 ≠ (TJ9 b).2.1 := by decide +kernel
theorem tyJ9_ok : ∀ k, k < 6 → parseFieldDescriptor (TJ9 k).2.2.1 = some (tyJ9 k) := by decide +kernel
abbrev cJ9_init : ByteArray := prog_23_method_2_code
def yJ9_init : MethodName := ⟨RJ9, "<init>", "(Ljava/lang/String;)V"⟩
def dkwJ9_init_0 : List UInt8 := [42, 43, 183, 0, 7, 177]
abbrev dktJ9_init_0 : List UInt8 := dkwJ9_init_0 ++ []
theorem dksJ9_init_0 : cJ9_init.data.toList.drop 0 = dktJ9_init_0 := by decide +kernel
theorem dJ9_init_0 : decode cJ9_init 0 = .ok (.aload_n 0, 1) := dk_42 (dk_at dksJ9_init_0 0 rfl rfl)
theorem dJ9_init_1 : decode cJ9_init 1 = .ok (.aload_n 1, 1) := dk_43 (dk_at dksJ9_init_0 1 rfl rfl)
theorem dJ9_init_2 : decode cJ9_init 2 = .ok (.invokespecial 7, 3) := dk_183 0 7 (dk_at dksJ9_init_0 2 rfl rfl)
theorem dJ9_init_5 : decode cJ9_init 5 = .ok (.return_, 1) := dk_177 (dk_at dksJ9_init_0 5 rfl rfl)
theorem q128 : (Jvm.Cond.initialized "java/lang/NegativeArraySizeException") ∈ lw_all := lw_g (lw_at lw_m1 26 rfl) rfl
theorem q265 : (Jvm.Cond.selects "java/lang/NegativeArraySizeException" ({ cls := "java/lang/Throwable", name := "fillInStackTrace", desc := "()Ljava/lang/Throwable;" } : Jvm.MethodName) ({ cls := "java/lang/Throwable", name := "fillInStackTrace", desc := "()Ljava/lang/Throwable;" } : Jvm.MethodName)) ∈ lw_all := lw_g (lw_at lw_m1 163 rfl) rfl
theorem q1101 : (Jvm.Cond.instantiable "java/lang/NegativeArraySizeException" (6 : Nat)) ∈ lw_all := lw_g (lw_at lw_m5 39 rfl) rfl
theorem q1102 : (Jvm.Cond.instanceMethod ({ cls := "java/lang/NegativeArraySizeException", name := "<init>", desc := "(Ljava/lang/String;)V" } : Jvm.MethodName)) ∈ lw_all := lw_g (lw_at lw_m5 40 rfl) rfl
theorem q1103 : (Jvm.Cond.code ({ cls := "java/lang/NegativeArraySizeException", name := "<init>", desc := "(Ljava/lang/String;)V" } : Jvm.MethodName) prog_23_method_2_code (2 : Nat) (Option.none : Option Jvm.ClassFile.FieldType)) ∈ lw_all := lw_g (lw_at lw_m5 41 rfl) rfl
theorem q1104 : (Jvm.Cond.methodLink "java/lang/NegativeArraySizeException" (7 : Nat) ({ cls := "java/lang/RuntimeException", name := "<init>", desc := "(Ljava/lang/String;)V" } : Jvm.MethodName)) ∈ lw_all := lw_g (lw_at lw_m5 42 rfl) rfl
theorem q1105 : (Jvm.Cond.lays "java/lang/NegativeArraySizeException" "java/lang/Throwable" "backtrace" "Ljava/lang/Object;") ∈ lw_all := lw_g (lw_at lw_m5 43 rfl) rfl
theorem q1106 : (Jvm.Cond.lays "java/lang/NegativeArraySizeException" "java/lang/Throwable" "detailMessage" "Ljava/lang/String;") ∈ lw_all := lw_g (lw_at lw_m5 44 rfl) rfl
theorem q1107 : (Jvm.Cond.lays "java/lang/NegativeArraySizeException" "java/lang/Throwable" "cause" "Ljava/lang/Throwable;") ∈ lw_all := lw_g (lw_at lw_m5 45 rfl) rfl
theorem q1108 : (Jvm.Cond.lays "java/lang/NegativeArraySizeException" "java/lang/Throwable" "stackTrace" "[Ljava/lang/StackTraceElement;") ∈ lw_all := lw_g (lw_at lw_m5 46 rfl) rfl
theorem q1109 : (Jvm.Cond.lays "java/lang/NegativeArraySizeException" "java/lang/Throwable" "depth" "I") ∈ lw_all := lw_g (lw_at lw_m5 47 rfl) rfl
theorem q1110 : (Jvm.Cond.lays "java/lang/NegativeArraySizeException" "java/lang/Throwable" "suppressedExceptions" "Ljava/util/List;") ∈ lw_all := lw_g (lw_at lw_m5 48 rfl) rfl
theorem q1111 : (Jvm.Cond.superclass "java/lang/NegativeArraySizeException" "java/lang/RuntimeException") ∈ lw_all := lw_g (lw_at lw_m5 49 rfl) rfl
theorem q1112 : (Jvm.Cond.castable "java/lang/NegativeArraySizeException" "java/lang/NegativeArraySizeException") ∈ lw_tbl := lw_at lw_m5 50 rfl
theorem q1113 : (Jvm.Cond.selects "java/lang/NegativeArraySizeException" ({ cls := "java/lang/Throwable", name := "fillInStackTrace", desc := "(I)Ljava/lang/Throwable;" } : Jvm.MethodName) ({ cls := "java/lang/Throwable", name := "fillInStackTrace", desc := "(I)Ljava/lang/Throwable;" } : Jvm.MethodName)) ∈ lw_all := lw_g (lw_at lw_m5 51 rfl) rfl
theorem in_J9 : ∀ w ∈ wsJ90, w ∈ lw_all := lw_in wsJ90 [1105, 1106, 1107, 1108, 1109, 1110] (by decide +kernel) (by decide +kernel)

/-! KeptLeaves$State -/
set_option maxRecDepth 100000
def RX1 : String := "KeptLeaves$State"
def TX1 : u_T := fun k => match k with
  | 0 => ("KeptLeaves$State", "shelf", "LKeptLeaves$Shelf;", true)
  | 1 => ("KeptLeaves$State", "leaves", "I", false)
  | 2 => ("KeptLeaves$State", "leaf", "[LKeptLeaves$Leaf;", true)
  | 3 => ("KeptLeaves$State", "space", "I", false)
  | 4 => ("KeptLeaves$State", "rule", "I", false)
  | 5 => ("KeptLeaves$State", "care", "I", false)
  | 6 => ("KeptLeaves$State", "askings", "I", false)
  | 7 => ("KeptLeaves$State", "asking", "[I", true)
  | 8 => ("KeptLeaves$State", "texts", "I", false)
  | _ => ("KeptLeaves$State", "text", "[LKeptLeaves$Text;", true)
def tyX1 : Nat → FieldType := fun k => match k with
  | 0 => .object "KeptLeaves$Shelf"
  | 1 => .int
  | 2 => .array (.object "KeptLeaves$Leaf")
  | 3 => .int
  | 4 => .int
  | 5 => .int
  | 6 => .int
  | 7 => .array .int
  | 8 => .int
  | _ => .array (.object "KeptLeaves$Text")
abbrev wsX10 : List Cond := u_ws RX1 TX1 10
theorem nmX1 : ∀ a, a < 10 → ∀ b, b < 10 → a ≠ b → (TX1 a).2.1 ≠ (TX1 b).2.1 := by decide +kernel
theorem tyX1_ok : ∀ k, k < 10 → parseFieldDescriptor (TX1 k).2.2.1 = some (tyX1 k) := by decide +kernel
abbrev cX1_init : ByteArray := prog_13_method_1_code
def yX1_init : MethodName := ⟨RX1, "<init>", "()V"⟩
def dkwX1_init_1 : List UInt8 := [42, 16, 12, 181, 0, 24, 42, 16, 24, 188, 10, 181, 0, 28, 42, 16, 14, 189, 0, 32, 181, 0, 34, 177]
abbrev dktX1_init_1 : List UInt8 := dkwX1_init_1 ++ []
def dkwX1_init_0 : List UInt8 := [42, 183, 0, 3, 42, 187, 0, 9, 89, 183, 0, 11, 181, 0, 12, 42, 16, 8, 189, 0, 18, 181, 0, 20]
abbrev dktX1_init_0 : List UInt8 := dkwX1_init_0 ++ dktX1_init_1
theorem dksX1_init_0 : cX1_init.data.toList.drop 0 = dktX1_init_0 := by decide +kernel
theorem dksX1_init_1 : cX1_init.data.toList.drop 24 = dktX1_init_1 := dk_seg dksX1_init_0 24 rfl rfl
theorem dX1_init_0 : decode cX1_init 0 = .ok (.aload_n 0, 1) := dk_42 (dk_at dksX1_init_0 0 rfl rfl)
theorem dX1_init_1 : decode cX1_init 1 = .ok (.invokespecial 3, 3) := dk_183 0 3 (dk_at dksX1_init_0 1 rfl rfl)
theorem dX1_init_4 : decode cX1_init 4 = .ok (.aload_n 0, 1) := dk_42 (dk_at dksX1_init_0 4 rfl rfl)
theorem dX1_init_5 : decode cX1_init 5 = .ok (.new 9, 3) := dk_187 0 9 (dk_at dksX1_init_0 5 rfl rfl)
theorem dX1_init_8 : decode cX1_init 8 = .ok (.dup, 1) := dk_89 (dk_at dksX1_init_0 8 rfl rfl)
theorem dX1_init_9 : decode cX1_init 9 = .ok (.invokespecial 11, 3) := dk_183 0 11 (dk_at dksX1_init_0 9 rfl rfl)
theorem dX1_init_12 : decode cX1_init 12 = .ok (.putfield 12, 3) := dk_181 0 12 (dk_at dksX1_init_0 12 rfl rfl)
theorem dX1_init_15 : decode cX1_init 15 = .ok (.aload_n 0, 1) := dk_42 (dk_at dksX1_init_0 15 rfl rfl)
theorem dX1_init_16 : decode cX1_init 16 = .ok (.bipush 8, 2) := dk_16 8 (dk_at dksX1_init_0 16 rfl rfl)
theorem dX1_init_18 : decode cX1_init 18 = .ok (.anewarray 18, 3) := dk_189 0 18 (dk_at dksX1_init_0 18 rfl rfl)
theorem dX1_init_21 : decode cX1_init 21 = .ok (.putfield 20, 3) := dk_181 0 20 (dk_at dksX1_init_0 21 rfl rfl)
theorem dX1_init_24 : decode cX1_init 24 = .ok (.aload_n 0, 1) := dk_42 (dk_at dksX1_init_1 0 rfl rfl)
theorem dX1_init_25 : decode cX1_init 25 = .ok (.bipush 12, 2) := dk_16 12 (dk_at dksX1_init_1 1 rfl rfl)
theorem dX1_init_27 : decode cX1_init 27 = .ok (.putfield 24, 3) := dk_181 0 24 (dk_at dksX1_init_1 3 rfl rfl)
theorem dX1_init_30 : decode cX1_init 30 = .ok (.aload_n 0, 1) := dk_42 (dk_at dksX1_init_1 6 rfl rfl)
theorem dX1_init_31 : decode cX1_init 31 = .ok (.bipush 24, 2) := dk_16 24 (dk_at dksX1_init_1 7 rfl rfl)
theorem dX1_init_33 : decode cX1_init 33 = .ok (.newarray .int, 2) := dk_188_10 (dk_at dksX1_init_1 9 rfl rfl)
theorem dX1_init_35 : decode cX1_init 35 = .ok (.putfield 28, 3) := dk_181 0 28 (dk_at dksX1_init_1 11 rfl rfl)
theorem dX1_init_38 : decode cX1_init 38 = .ok (.aload_n 0, 1) := dk_42 (dk_at dksX1_init_1 14 rfl rfl)
theorem dX1_init_39 : decode cX1_init 39 = .ok (.bipush 14, 2) := dk_16 14 (dk_at dksX1_init_1 15 rfl rfl)
theorem dX1_init_41 : decode cX1_init 41 = .ok (.anewarray 32, 3) := dk_189 0 32 (dk_at dksX1_init_1 17 rfl rfl)
theorem dX1_init_44 : decode cX1_init 44 = .ok (.putfield 34, 3) := dk_181 0 34 (dk_at dksX1_init_1 20 rfl rfl)
theorem dX1_init_47 : decode cX1_init 47 = .ok (.return_, 1) := dk_177 (dk_at dksX1_init_1 23 rfl rfl)
abbrev cX1_copyOf : ByteArray := prog_13_method_2_code
def yX1_copyOf : MethodName := ⟨RX1, "copyOf", "(LKeptLeaves$State;)V"⟩
def dkwX1_copyOf_4 : List UInt8 := [181, 0, 62, 43, 180, 0, 34, 3, 42, 180, 0, 34, 3, 16, 14, 184, 0, 65, 177]
abbrev dktX1_copyOf_4 : List UInt8 := dkwX1_copyOf_4 ++ []
def dkwX1_copyOf_3 : List UInt8 := [43, 180, 0, 55, 181, 0, 55, 43, 180, 0, 28, 42, 180, 0, 28, 184, 0, 58, 42, 43, 180, 0, 62]
abbrev dktX1_copyOf_3 : List UInt8 := dkwX1_copyOf_3 ++ dktX1_copyOf_4
def dkwX1_copyOf_2 : List UInt8 := [43, 180, 0, 24, 181, 0, 24, 42, 43, 180, 0, 49, 181, 0, 49, 42, 43, 180, 0, 52, 181, 0, 52, 42]
abbrev dktX1_copyOf_2 : List UInt8 := dkwX1_copyOf_2 ++ dktX1_copyOf_3
def dkwX1_copyOf_1 : List UInt8 := [180, 0, 42, 162, 0, 20, 42, 28, 43, 180, 0, 20, 28, 50, 182, 0, 45, 132, 2, 1, 167, 255, 234, 42]
abbrev dktX1_copyOf_1 : List UInt8 := dkwX1_copyOf_1 ++ dktX1_copyOf_2
def dkwX1_copyOf_0 : List UInt8 := [42, 180, 0, 12, 43, 180, 0, 12, 182, 0, 38, 42, 43, 180, 0, 42, 181, 0, 42, 3, 61, 28, 42]
abbrev dktX1_copyOf_0 : List UInt8 := dkwX1_copyOf_0 ++ dktX1_copyOf_1
theorem dksX1_copyOf_0 : cX1_copyOf.data.toList.drop 0 = dktX1_copyOf_0 := by decide +kernel
theorem dksX1_copyOf_1 : cX1_copyOf.data.toList.drop 23 = dktX1_copyOf_1 := dk_seg dksX1_copyOf_0 23 rfl rfl
theorem dksX1_copyOf_2 : cX1_copyOf.data.toList.drop 47 = dktX1_copyOf_2 := dk_seg dksX1_copyOf_1 24 rfl rfl
theorem dksX1_copyOf_3 : cX1_copyOf.data.toList.drop 71 = dktX1_copyOf_3 := dk_seg dksX1_copyOf_2 24 rfl rfl
theorem dksX1_copyOf_4 : cX1_copyOf.data.toList.drop 94 = dktX1_copyOf_4 := dk_seg dksX1_copyOf_3 23 rfl rfl
theorem dX1_copyOf_0 : decode cX1_copyOf 0 = .ok (.aload_n 0, 1) := dk_42 (dk_at dksX1_copyOf_0 0 rfl rfl)
theorem dX1_copyOf_1 : decode cX1_copyOf 1 = .ok (.getfield 12, 3) := dk_180 0 12 (dk_at dksX1_copyOf_0 1 rfl rfl)
theorem dX1_copyOf_4 : decode cX1_copyOf 4 = .ok (.aload_n 1, 1) := dk_43 (dk_at dksX1_copyOf_0 4 rfl rfl)
theorem dX1_copyOf_5 : decode cX1_copyOf 5 = .ok (.getfield 12, 3) := dk_180 0 12 (dk_at dksX1_copyOf_0 5 rfl rfl)
theorem dX1_copyOf_8 : decode cX1_copyOf 8 = .ok (.invokevirtual 38, 3) := dk_182 0 38 (dk_at dksX1_copyOf_0 8 rfl rfl)
theorem dX1_copyOf_11 : decode cX1_copyOf 11 = .ok (.aload_n 0, 1) := dk_42 (dk_at dksX1_copyOf_0 11 rfl rfl)
theorem dX1_copyOf_12 : decode cX1_copyOf 12 = .ok (.aload_n 1, 1) := dk_43 (dk_at dksX1_copyOf_0 12 rfl rfl)
theorem dX1_copyOf_13 : decode cX1_copyOf 13 = .ok (.getfield 42, 3) := dk_180 0 42 (dk_at dksX1_copyOf_0 13 rfl rfl)
theorem dX1_copyOf_16 : decode cX1_copyOf 16 = .ok (.putfield 42, 3) := dk_181 0 42 (dk_at dksX1_copyOf_0 16 rfl rfl)
theorem dX1_copyOf_19 : decode cX1_copyOf 19 = .ok (.iconst 0, 1) := dk_3 (dk_at dksX1_copyOf_0 19 rfl rfl)
theorem dX1_copyOf_20 : decode cX1_copyOf 20 = .ok (.istore_n 2, 1) := dk_61 (dk_at dksX1_copyOf_0 20 rfl rfl)
theorem dX1_copyOf_21 : decode cX1_copyOf 21 = .ok (.iload_n 2, 1) := dk_28 (dk_at dksX1_copyOf_0 21 rfl rfl)
theorem dX1_copyOf_22 : decode cX1_copyOf 22 = .ok (.aload_n 0, 1) := dk_42 (dk_at dksX1_copyOf_0 22 rfl rfl)
theorem dX1_copyOf_23 : decode cX1_copyOf 23 = .ok (.getfield 42, 3) := dk_180 0 42 (dk_at dksX1_copyOf_1 0 rfl rfl)
theorem dX1_copyOf_26 : decode cX1_copyOf 26 = .ok (.if_icmp .ge 20, 3) := dk_162 0 20 (dk_at dksX1_copyOf_1 3 rfl rfl)
theorem dX1_copyOf_29 : decode cX1_copyOf 29 = .ok (.aload_n 0, 1) := dk_42 (dk_at dksX1_copyOf_1 6 rfl rfl)
theorem dX1_copyOf_30 : decode cX1_copyOf 30 = .ok (.iload_n 2, 1) := dk_28 (dk_at dksX1_copyOf_1 7 rfl rfl)
theorem dX1_copyOf_31 : decode cX1_copyOf 31 = .ok (.aload_n 1, 1) := dk_43 (dk_at dksX1_copyOf_1 8 rfl rfl)
theorem dX1_copyOf_32 : decode cX1_copyOf 32 = .ok (.getfield 20, 3) := dk_180 0 20 (dk_at dksX1_copyOf_1 9 rfl rfl)
theorem dX1_copyOf_35 : decode cX1_copyOf 35 = .ok (.iload_n 2, 1) := dk_28 (dk_at dksX1_copyOf_1 12 rfl rfl)
theorem dX1_copyOf_36 : decode cX1_copyOf 36 = .ok (.aaload, 1) := dk_50 (dk_at dksX1_copyOf_1 13 rfl rfl)
theorem dX1_copyOf_37 : decode cX1_copyOf 37 = .ok (.invokevirtual 45, 3) := dk_182 0 45 (dk_at dksX1_copyOf_1 14 rfl rfl)
theorem dX1_copyOf_40 : decode cX1_copyOf 40 = .ok (.iinc 2 1, 3) := dk_132 2 1 (dk_at dksX1_copyOf_1 17 rfl rfl)
theorem dX1_copyOf_43 : decode cX1_copyOf 43 = .ok (.goto (-22), 3) := dk_167 255 234 (dk_at dksX1_copyOf_1 20 rfl rfl)
theorem dX1_copyOf_46 : decode cX1_copyOf 46 = .ok (.aload_n 0, 1) := dk_42 (dk_at dksX1_copyOf_1 23 rfl rfl)
theorem dX1_copyOf_47 : decode cX1_copyOf 47 = .ok (.aload_n 1, 1) := dk_43 (dk_at dksX1_copyOf_2 0 rfl rfl)
theorem dX1_copyOf_48 : decode cX1_copyOf 48 = .ok (.getfield 24, 3) := dk_180 0 24 (dk_at dksX1_copyOf_2 1 rfl rfl)
theorem dX1_copyOf_51 : decode cX1_copyOf 51 = .ok (.putfield 24, 3) := dk_181 0 24 (dk_at dksX1_copyOf_2 4 rfl rfl)
theorem dX1_copyOf_54 : decode cX1_copyOf 54 = .ok (.aload_n 0, 1) := dk_42 (dk_at dksX1_copyOf_2 7 rfl rfl)
theorem dX1_copyOf_55 : decode cX1_copyOf 55 = .ok (.aload_n 1, 1) := dk_43 (dk_at dksX1_copyOf_2 8 rfl rfl)
theorem dX1_copyOf_56 : decode cX1_copyOf 56 = .ok (.getfield 49, 3) := dk_180 0 49 (dk_at dksX1_copyOf_2 9 rfl rfl)
theorem dX1_copyOf_59 : decode cX1_copyOf 59 = .ok (.putfield 49, 3) := dk_181 0 49 (dk_at dksX1_copyOf_2 12 rfl rfl)
theorem dX1_copyOf_62 : decode cX1_copyOf 62 = .ok (.aload_n 0, 1) := dk_42 (dk_at dksX1_copyOf_2 15 rfl rfl)
theorem dX1_copyOf_63 : decode cX1_copyOf 63 = .ok (.aload_n 1, 1) := dk_43 (dk_at dksX1_copyOf_2 16 rfl rfl)
theorem dX1_copyOf_64 : decode cX1_copyOf 64 = .ok (.getfield 52, 3) := dk_180 0 52 (dk_at dksX1_copyOf_2 17 rfl rfl)
theorem dX1_copyOf_67 : decode cX1_copyOf 67 = .ok (.putfield 52, 3) := dk_181 0 52 (dk_at dksX1_copyOf_2 20 rfl rfl)
theorem dX1_copyOf_70 : decode cX1_copyOf 70 = .ok (.aload_n 0, 1) := dk_42 (dk_at dksX1_copyOf_2 23 rfl rfl)
theorem dX1_copyOf_71 : decode cX1_copyOf 71 = .ok (.aload_n 1, 1) := dk_43 (dk_at dksX1_copyOf_3 0 rfl rfl)
theorem dX1_copyOf_72 : decode cX1_copyOf 72 = .ok (.getfield 55, 3) := dk_180 0 55 (dk_at dksX1_copyOf_3 1 rfl rfl)
theorem dX1_copyOf_75 : decode cX1_copyOf 75 = .ok (.putfield 55, 3) := dk_181 0 55 (dk_at dksX1_copyOf_3 4 rfl rfl)
theorem dX1_copyOf_78 : decode cX1_copyOf 78 = .ok (.aload_n 1, 1) := dk_43 (dk_at dksX1_copyOf_3 7 rfl rfl)
theorem dX1_copyOf_79 : decode cX1_copyOf 79 = .ok (.getfield 28, 3) := dk_180 0 28 (dk_at dksX1_copyOf_3 8 rfl rfl)
theorem dX1_copyOf_82 : decode cX1_copyOf 82 = .ok (.aload_n 0, 1) := dk_42 (dk_at dksX1_copyOf_3 11 rfl rfl)
theorem dX1_copyOf_83 : decode cX1_copyOf 83 = .ok (.getfield 28, 3) := dk_180 0 28 (dk_at dksX1_copyOf_3 12 rfl rfl)
theorem dX1_copyOf_86 : decode cX1_copyOf 86 = .ok (.invokestatic 58, 3) := dk_184 0 58 (dk_at dksX1_copyOf_3 15 rfl rfl)
theorem dX1_copyOf_89 : decode cX1_copyOf 89 = .ok (.aload_n 0, 1) := dk_42 (dk_at dksX1_copyOf_3 18 rfl rfl)
theorem dX1_copyOf_90 : decode cX1_copyOf 90 = .ok (.aload_n 1, 1) := dk_43 (dk_at dksX1_copyOf_3 19 rfl rfl)
theorem dX1_copyOf_91 : decode cX1_copyOf 91 = .ok (.getfield 62, 3) := dk_180 0 62 (dk_at dksX1_copyOf_3 20 rfl rfl)
theorem dX1_copyOf_94 : decode cX1_copyOf 94 = .ok (.putfield 62, 3) := dk_181 0 62 (dk_at dksX1_copyOf_4 0 rfl rfl)
theorem dX1_copyOf_97 : decode cX1_copyOf 97 = .ok (.aload_n 1, 1) := dk_43 (dk_at dksX1_copyOf_4 3 rfl rfl)
theorem dX1_copyOf_98 : decode cX1_copyOf 98 = .ok (.getfield 34, 3) := dk_180 0 34 (dk_at dksX1_copyOf_4 4 rfl rfl)
theorem dX1_copyOf_101 : decode cX1_copyOf 101 = .ok (.iconst 0, 1) := dk_3 (dk_at dksX1_copyOf_4 7 rfl rfl)
theorem dX1_copyOf_102 : decode cX1_copyOf 102 = .ok (.aload_n 0, 1) := dk_42 (dk_at dksX1_copyOf_4 8 rfl rfl)
theorem dX1_copyOf_103 : decode cX1_copyOf 103 = .ok (.getfield 34, 3) := dk_180 0 34 (dk_at dksX1_copyOf_4 9 rfl rfl)
theorem dX1_copyOf_106 : decode cX1_copyOf 106 = .ok (.iconst 0, 1) := dk_3 (dk_at dksX1_copyOf_4 12 rfl rfl)
theorem dX1_copyOf_107 : decode cX1_copyOf 107 = .ok (.bipush 14, 2) := dk_16 14 (dk_at dksX1_copyOf_4 13 rfl rfl)
theorem dX1_copyOf_109 : decode cX1_copyOf 109 = .ok (.invokestatic 65, 3) := dk_184 0 65 (dk_at dksX1_copyOf_4 15 rfl rfl)
theorem dX1_copyOf_112 : decode cX1_copyOf 112 = .ok (.return_, 1) := dk_177 (dk_at dksX1_copyOf_4 18 rfl rfl)
abbrev cX1_takesLeaf : ByteArray := prog_13_method_3_code
def yX1_takesLeaf : MethodName := ⟨RX1, "takesLeaf", "(ILKeptLeaves$Leaf;)V"⟩
def dkwX1_takesLeaf_1 : List UInt8 := [159, 0, 13, 42, 180, 0, 20, 27, 44, 182, 0, 75, 83, 42, 180, 0, 20, 27, 50, 44, 182, 0, 79, 177]
abbrev dktX1_takesLeaf_1 : List UInt8 := dkwX1_takesLeaf_1 ++ []
def dkwX1_takesLeaf_0 : List UInt8 := [42, 180, 0, 20, 27, 50, 198, 0, 19, 42, 180, 0, 20, 27, 50, 182, 0, 71, 44, 182, 0, 71]
abbrev dktX1_takesLeaf_0 : List UInt8 := dkwX1_takesLeaf_0 ++ dktX1_takesLeaf_1
theorem dksX1_takesLeaf_0 : cX1_takesLeaf.data.toList.drop 0 = dktX1_takesLeaf_0 := by decide +kernel
theorem dksX1_takesLeaf_1 : cX1_takesLeaf.data.toList.drop 22 = dktX1_takesLeaf_1 := dk_seg dksX1_takesLeaf_0 22 rfl rfl
theorem dX1_takesLeaf_0 : decode cX1_takesLeaf 0 = .ok (.aload_n 0, 1) := dk_42 (dk_at dksX1_takesLeaf_0 0 rfl rfl)
theorem dX1_takesLeaf_1 : decode cX1_takesLeaf 1 = .ok (.getfield 20, 3) := dk_180 0 20 (dk_at dksX1_takesLeaf_0 1 rfl rfl)
theorem dX1_takesLeaf_4 : decode cX1_takesLeaf 4 = .ok (.iload_n 1, 1) := dk_27 (dk_at dksX1_takesLeaf_0 4 rfl rfl)
theorem dX1_takesLeaf_5 : decode cX1_takesLeaf 5 = .ok (.aaload, 1) := dk_50 (dk_at dksX1_takesLeaf_0 5 rfl rfl)
theorem dX1_takesLeaf_6 : decode cX1_takesLeaf 6 = .ok (.ifnull 19, 3) := dk_198 0 19 (dk_at dksX1_takesLeaf_0 6 rfl rfl)
theorem dX1_takesLeaf_9 : decode cX1_takesLeaf 9 = .ok (.aload_n 0, 1) := dk_42 (dk_at dksX1_takesLeaf_0 9 rfl rfl)
theorem dX1_takesLeaf_10 : decode cX1_takesLeaf 10 = .ok (.getfield 20, 3) := dk_180 0 20 (dk_at dksX1_takesLeaf_0 10 rfl rfl)
theorem dX1_takesLeaf_13 : decode cX1_takesLeaf 13 = .ok (.iload_n 1, 1) := dk_27 (dk_at dksX1_takesLeaf_0 13 rfl rfl)
theorem dX1_takesLeaf_14 : decode cX1_takesLeaf 14 = .ok (.aaload, 1) := dk_50 (dk_at dksX1_takesLeaf_0 14 rfl rfl)
theorem dX1_takesLeaf_15 : decode cX1_takesLeaf 15 = .ok (.invokevirtual 71, 3) := dk_182 0 71 (dk_at dksX1_takesLeaf_0 15 rfl rfl)
theorem dX1_takesLeaf_18 : decode cX1_takesLeaf 18 = .ok (.aload_n 2, 1) := dk_44 (dk_at dksX1_takesLeaf_0 18 rfl rfl)
theorem dX1_takesLeaf_19 : decode cX1_takesLeaf 19 = .ok (.invokevirtual 71, 3) := dk_182 0 71 (dk_at dksX1_takesLeaf_0 19 rfl rfl)
theorem dX1_takesLeaf_22 : decode cX1_takesLeaf 22 = .ok (.if_icmp .eq 13, 3) := dk_159 0 13 (dk_at dksX1_takesLeaf_1 0 rfl rfl)
theorem dX1_takesLeaf_25 : decode cX1_takesLeaf 25 = .ok (.aload_n 0, 1) := dk_42 (dk_at dksX1_takesLeaf_1 3 rfl rfl)
theorem dX1_takesLeaf_26 : decode cX1_takesLeaf 26 = .ok (.getfield 20, 3) := dk_180 0 20 (dk_at dksX1_takesLeaf_1 4 rfl rfl)
theorem dX1_takesLeaf_29 : decode cX1_takesLeaf 29 = .ok (.iload_n 1, 1) := dk_27 (dk_at dksX1_takesLeaf_1 7 rfl rfl)
theorem dX1_takesLeaf_30 : decode cX1_takesLeaf 30 = .ok (.aload_n 2, 1) := dk_44 (dk_at dksX1_takesLeaf_1 8 rfl rfl)
theorem dX1_takesLeaf_31 : decode cX1_takesLeaf 31 = .ok (.invokevirtual 75, 3) := dk_182 0 75 (dk_at dksX1_takesLeaf_1 9 rfl rfl)
theorem dX1_takesLeaf_34 : decode cX1_takesLeaf 34 = .ok (.aastore, 1) := dk_83 (dk_at dksX1_takesLeaf_1 12 rfl rfl)
theorem dX1_takesLeaf_35 : decode cX1_takesLeaf 35 = .ok (.aload_n 0, 1) := dk_42 (dk_at dksX1_takesLeaf_1 13 rfl rfl)
theorem dX1_takesLeaf_36 : decode cX1_takesLeaf 36 = .ok (.getfield 20, 3) := dk_180 0 20 (dk_at dksX1_takesLeaf_1 14 rfl rfl)
theorem dX1_takesLeaf_39 : decode cX1_takesLeaf 39 = .ok (.iload_n 1, 1) := dk_27 (dk_at dksX1_takesLeaf_1 17 rfl rfl)
theorem dX1_takesLeaf_40 : decode cX1_takesLeaf 40 = .ok (.aaload, 1) := dk_50 (dk_at dksX1_takesLeaf_1 18 rfl rfl)
theorem dX1_takesLeaf_41 : decode cX1_takesLeaf 41 = .ok (.aload_n 2, 1) := dk_44 (dk_at dksX1_takesLeaf_1 19 rfl rfl)
theorem dX1_takesLeaf_42 : decode cX1_takesLeaf 42 = .ok (.invokevirtual 79, 3) := dk_182 0 79 (dk_at dksX1_takesLeaf_1 20 rfl rfl)
theorem dX1_takesLeaf_45 : decode cX1_takesLeaf 45 = .ok (.return_, 1) := dk_177 (dk_at dksX1_takesLeaf_1 23 rfl rfl)
theorem q104 : (Jvm.Cond.initialized "KeptLeaves$State") ∈ lw_all := lw_g (lw_at lw_m1 2 rfl) rfl
theorem q139 : (Jvm.Cond.instantiable "KeptLeaves$State" (10 : Nat)) ∈ lw_all := lw_g (lw_at lw_m1 37 rfl) rfl
theorem q141 : (Jvm.Cond.instanceMethod ({ cls := "KeptLeaves$State", name := "<init>", desc := "()V" } : Jvm.MethodName)) ∈ lw_all := lw_g (lw_at lw_m1 39 rfl) rfl
theorem q142 : (Jvm.Cond.code ({ cls := "KeptLeaves$State", name := "<init>", desc := "()V" } : Jvm.MethodName) prog_13_method_1_code (1 : Nat) (Option.none : Option Jvm.ClassFile.FieldType)) ∈ lw_all := lw_g (lw_at lw_m1 40 rfl) rfl
theorem q143 : (Jvm.Cond.methodLink "KeptLeaves$State" (3 : Nat) ({ cls := "java/lang/Object", name := "<init>", desc := "()V" } : Jvm.MethodName)) ∈ lw_all := lw_g (lw_at lw_m1 41 rfl) rfl
theorem q144 : (Jvm.Cond.classLink "KeptLeaves$State" (9 : Nat) "KeptLeaves$Shelf") ∈ lw_all := lw_g (lw_at lw_m1 42 rfl) rfl
theorem q146 : (Jvm.Cond.methodLinkNest "KeptLeaves$State" (11 : Nat) ({ cls := "KeptLeaves$Shelf", name := "<init>", desc := "()V" } : Jvm.MethodName) "KeptLeaves") ∈ lw_tbl := lw_at lw_m1 44 rfl
theorem q184 : (Jvm.Cond.classLink "KeptLeaves$State" (18 : Nat) "KeptLeaves$Leaf") ∈ lw_all := lw_g (lw_at lw_m1 82 rfl) rfl
theorem q186 : (Jvm.Cond.classLink "KeptLeaves$State" (32 : Nat) "KeptLeaves$Text") ∈ lw_all := lw_g (lw_at lw_m1 84 rfl) rfl
theorem q188 : (Jvm.Cond.fieldLink "KeptLeaves$State" (12 : Nat) "KeptLeaves$State" "shelf" "LKeptLeaves$Shelf;") ∈ lw_all := lw_g (lw_at lw_m1 86 rfl) rfl
theorem q190 : (Jvm.Cond.fieldLink "KeptLeaves$State" (42 : Nat) "KeptLeaves$State" "leaves" "I") ∈ lw_all := lw_g (lw_at lw_m1 88 rfl) rfl
theorem q192 : (Jvm.Cond.fieldLink "KeptLeaves$State" (20 : Nat) "KeptLeaves$State" "leaf" "[LKeptLeaves$Leaf;") ∈ lw_all := lw_g (lw_at lw_m1 90 rfl) rfl
theorem q194 : (Jvm.Cond.fieldLink "KeptLeaves$State" (24 : Nat) "KeptLeaves$State" "space" "I") ∈ lw_all := lw_g (lw_at lw_m1 92 rfl) rfl
theorem q196 : (Jvm.Cond.fieldLink "KeptLeaves$State" (49 : Nat) "KeptLeaves$State" "rule" "I") ∈ lw_all := lw_g (lw_at lw_m1 94 rfl) rfl
theorem q198 : (Jvm.Cond.fieldLink "KeptLeaves$State" (52 : Nat) "KeptLeaves$State" "care" "I") ∈ lw_all := lw_g (lw_at lw_m1 96 rfl) rfl
theorem q200 : (Jvm.Cond.fieldLink "KeptLeaves$State" (55 : Nat) "KeptLeaves$State" "askings" "I") ∈ lw_all := lw_g (lw_at lw_m1 98 rfl) rfl
theorem q202 : (Jvm.Cond.fieldLink "KeptLeaves$State" (28 : Nat) "KeptLeaves$State" "asking" "[I") ∈ lw_all := lw_g (lw_at lw_m1 100 rfl) rfl
theorem q204 : (Jvm.Cond.fieldLink "KeptLeaves$State" (62 : Nat) "KeptLeaves$State" "texts" "I") ∈ lw_all := lw_g (lw_at lw_m1 102 rfl) rfl
theorem q206 : (Jvm.Cond.fieldLink "KeptLeaves$State" (34 : Nat) "KeptLeaves$State" "text" "[LKeptLeaves$Text;") ∈ lw_all := lw_g (lw_at lw_m1 104 rfl) rfl
theorem q208 : (Jvm.Cond.laysFinal "KeptLeaves$State" "KeptLeaves$State" "shelf" "LKeptLeaves$Shelf;") ∈ lw_all := lw_g (lw_at lw_m1 106 rfl) rfl
theorem q209 : (Jvm.Cond.soleField "KeptLeaves$State" "shelf") ∈ lw_all := lw_g (lw_at lw_m1 107 rfl) rfl
theorem q210 : (Jvm.Cond.lays "KeptLeaves$State" "KeptLeaves$State" "leaves" "I") ∈ lw_all := lw_g (lw_at lw_m1 108 rfl) rfl
theorem q211 : (Jvm.Cond.soleField "KeptLeaves$State" "leaves") ∈ lw_all := lw_g (lw_at lw_m1 109 rfl) rfl
theorem q212 : (Jvm.Cond.laysFinal "KeptLeaves$State" "KeptLeaves$State" "leaf" "[LKeptLeaves$Leaf;") ∈ lw_all := lw_g (lw_at lw_m1 110 rfl) rfl
theorem q213 : (Jvm.Cond.soleField "KeptLeaves$State" "leaf") ∈ lw_all := lw_g (lw_at lw_m1 111 rfl) rfl
theorem q214 : (Jvm.Cond.lays "KeptLeaves$State" "KeptLeaves$State" "space" "I") ∈ lw_all := lw_g (lw_at lw_m1 112 rfl) rfl
theorem q215 : (Jvm.Cond.soleField "KeptLeaves$State" "space") ∈ lw_all := lw_g (lw_at lw_m1 113 rfl) rfl
theorem q216 : (Jvm.Cond.lays "KeptLeaves$State" "KeptLeaves$State" "rule" "I") ∈ lw_all := lw_g (lw_at lw_m1 114 rfl) rfl
theorem q217 : (Jvm.Cond.soleField "KeptLeaves$State" "rule") ∈ lw_all := lw_g (lw_at lw_m1 115 rfl) rfl
theorem q218 : (Jvm.Cond.lays "KeptLeaves$State" "KeptLeaves$State" "care" "I") ∈ lw_all := lw_g (lw_at lw_m1 116 rfl) rfl
theorem q219 : (Jvm.Cond.soleField "KeptLeaves$State" "care") ∈ lw_all := lw_g (lw_at lw_m1 117 rfl) rfl
theorem q220 : (Jvm.Cond.lays "KeptLeaves$State" "KeptLeaves$State" "askings" "I") ∈ lw_all := lw_g (lw_at lw_m1 118 rfl) rfl
theorem q221 : (Jvm.Cond.soleField "KeptLeaves$State" "askings") ∈ lw_all := lw_g (lw_at lw_m1 119 rfl) rfl
theorem q222 : (Jvm.Cond.laysFinal "KeptLeaves$State" "KeptLeaves$State" "asking" "[I") ∈ lw_all := lw_g (lw_at lw_m1 120 rfl) rfl
theorem q223 : (Jvm.Cond.soleField "KeptLeaves$State" "asking") ∈ lw_all := lw_g (lw_at lw_m1 121 rfl) rfl
theorem q224 : (Jvm.Cond.lays "KeptLeaves$State" "KeptLeaves$State" "texts" "I") ∈ lw_all := lw_g (lw_at lw_m1 122 rfl) rfl
theorem q225 : (Jvm.Cond.soleField "KeptLeaves$State" "texts") ∈ lw_all := lw_g (lw_at lw_m1 123 rfl) rfl
theorem q226 : (Jvm.Cond.laysFinal "KeptLeaves$State" "KeptLeaves$State" "text" "[LKeptLeaves$Text;") ∈ lw_all := lw_g (lw_at lw_m1 124 rfl) rfl
theorem q227 : (Jvm.Cond.soleField "KeptLeaves$State" "text") ∈ lw_all := lw_g (lw_at lw_m1 125 rfl) rfl
theorem q228 : (Jvm.Cond.superclass "KeptLeaves$State" "java/lang/Object") ∈ lw_all := lw_g (lw_at lw_m1 126 rfl) rfl
theorem q1303 : (Jvm.Cond.instanceMethod ({ cls := "KeptLeaves$State", name := "copyOf", desc := "(LKeptLeaves$State;)V" } : Jvm.MethodName)) ∈ lw_all := lw_g (lw_at lw_m6 1 rfl) rfl
theorem q1304 : (Jvm.Cond.selects "KeptLeaves$State" ({ cls := "KeptLeaves$State", name := "copyOf", desc := "(LKeptLeaves$State;)V" } : Jvm.MethodName) ({ cls := "KeptLeaves$State", name := "copyOf", desc := "(LKeptLeaves$State;)V" } : Jvm.MethodName)) ∈ lw_all := lw_g (lw_at lw_m6 2 rfl) rfl
theorem q1305 : (Jvm.Cond.code ({ cls := "KeptLeaves$State", name := "copyOf", desc := "(LKeptLeaves$State;)V" } : Jvm.MethodName) prog_13_method_2_code (3 : Nat) (Option.none : Option Jvm.ClassFile.FieldType)) ∈ lw_all := lw_g (lw_at lw_m6 3 rfl) rfl
theorem q1306 : (Jvm.Cond.methodLink "KeptLeaves$State" (38 : Nat) ({ cls := "KeptLeaves$Shelf", name := "copyOf", desc := "(LKeptLeaves$Shelf;)V" } : Jvm.MethodName)) ∈ lw_all := lw_g (lw_at lw_m6 4 rfl) rfl
theorem q1307 : (Jvm.Cond.methodLink "KeptLeaves$State" (45 : Nat) ({ cls := "KeptLeaves$State", name := "takesLeaf", desc := "(ILKeptLeaves$Leaf;)V" } : Jvm.MethodName)) ∈ lw_all := lw_g (lw_at lw_m6 5 rfl) rfl
theorem q1308 : (Jvm.Cond.privateMethod ({ cls := "KeptLeaves$State", name := "takesLeaf", desc := "(ILKeptLeaves$Leaf;)V" } : Jvm.MethodName)) ∈ lw_tbl := lw_at lw_m6 6 rfl
theorem q1309 : (Jvm.Cond.instanceMethod ({ cls := "KeptLeaves$State", name := "takesLeaf", desc := "(ILKeptLeaves$Leaf;)V" } : Jvm.MethodName)) ∈ lw_all := lw_g (lw_at lw_m6 7 rfl) rfl
theorem q1310 : (Jvm.Cond.code ({ cls := "KeptLeaves$State", name := "takesLeaf", desc := "(ILKeptLeaves$Leaf;)V" } : Jvm.MethodName) prog_13_method_3_code (3 : Nat) (Option.none : Option Jvm.ClassFile.FieldType)) ∈ lw_all := lw_g (lw_at lw_m6 8 rfl) rfl
theorem q1311 : (Jvm.Cond.methodLink "KeptLeaves$State" (71 : Nat) ({ cls := "KeptLeaves$Leaf", name := "kind", desc := "()I" } : Jvm.MethodName)) ∈ lw_all := lw_g (lw_at lw_m6 9 rfl) rfl
theorem q1312 : (Jvm.Cond.methodLink "KeptLeaves$State" (75 : Nat) ({ cls := "KeptLeaves$Leaf", name := "another", desc := "()LKeptLeaves$Leaf;" } : Jvm.MethodName)) ∈ lw_all := lw_g (lw_at lw_m6 10 rfl) rfl
theorem q1313 : (Jvm.Cond.methodLink "KeptLeaves$State" (79 : Nat) ({ cls := "KeptLeaves$Leaf", name := "takes", desc := "(LKeptLeaves$Leaf;)V" } : Jvm.MethodName)) ∈ lw_all := lw_g (lw_at lw_m6 11 rfl) rfl
theorem q1314 : (Jvm.Cond.methodLinkNest "KeptLeaves$State" (58 : Nat) ({ cls := "KeptLeaves", name := "copyRow", desc := "([I[I)V" } : Jvm.MethodName) "KeptLeaves") ∈ lw_tbl := lw_at lw_m6 12 rfl
theorem q1315 : (Jvm.Cond.methodLink "KeptLeaves$State" (65 : Nat) ({ cls := "java/lang/System", name := "arraycopy", desc := "(Ljava/lang/Object;ILjava/lang/Object;II)V" } : Jvm.MethodName)) ∈ lw_all := lw_g (lw_at lw_m6 13 rfl) rfl
theorem in_X1 : ∀ w ∈ wsX10, w ∈ lw_all := lw_in wsX10 [208, 210, 212, 214, 216, 218, 220, 222, 224, 226] (by decide +kernel) (by decide +kernel)

/-! KeptLeaves$TornLeaf -/
set_option maxRecDepth 100000
def RX10 : String := "KeptLeaves$TornLeaf"
def TX10 : u_T := fun k => match k with
  | 0 => ("KeptLeaves$Leaf", "size", "I", false)
  | 1 => ("KeptLeaves$Leaf", "loss", "I", false)
  | 2 => ("KeptLeaves$Leaf", "weight", "I", false)
  | _ => ("KeptLeaves$Leaf", "leans", "I", false)
def tyX10 : Nat → FieldType := fun k => match k with
  | 0 => .int
  | 1 => .int
  | 2 => .int
  | _ => .int
abbrev wsX100 : List Cond := u_ws RX10 TX10 4
theorem nmX10 : ∀ a, a < 4 → ∀ b, b < 4 → a ≠ b → (TX10 a).2.1 ≠ (TX10 b).2.1 := by decide +kernel
theorem tyX10_ok : ∀ k, k < 4 → parseFieldDescriptor (TX10 k).2.2.1 = some (tyX10 k) := by decide +kernel
abbrev cX10_init : ByteArray := prog_16_method_1_code
def yX10_init : MethodName := ⟨RX10, "<init>", "()V"⟩
theorem dX10_init_0 : decode cX10_init 0 = .ok (.aload_n 0, 1) := by decide +kernel
theorem dX10_init_1 : decode cX10_init 1 = .ok (.invokespecial 1, 3) := by decide +kernel
theorem dX10_init_4 : decode cX10_init 4 = .ok (.return_, 1) := by decide +kernel
abbrev cX10_room : ByteArray := prog_16_method_3_code
def yX10_room : MethodName := ⟨RX10, "room", "(I)I"⟩
def dkwX10_room_0 : List UInt8 := [42, 27, 183, 0, 11, 4, 96, 5, 108, 172]
abbrev dktX10_room_0 : List UInt8 := dkwX10_room_0 ++ []
theorem dksX10_room_0 : cX10_room.data.toList.drop 0 = dktX10_room_0 := by decide +kernel
theorem dX10_room_0 : decode cX10_room 0 = .ok (.aload_n 0, 1) := dk_42 (dk_at dksX10_room_0 0 rfl rfl)
theorem dX10_room_1 : decode cX10_room 1 = .ok (.iload_n 1, 1) := dk_27 (dk_at dksX10_room_0 1 rfl rfl)
theorem dX10_room_2 : decode cX10_room 2 = .ok (.invokespecial 11, 3) := dk_183 0 11 (dk_at dksX10_room_0 2 rfl rfl)
theorem dX10_room_5 : decode cX10_room 5 = .ok (.iconst 1, 1) := dk_4 (dk_at dksX10_room_0 5 rfl rfl)
theorem dX10_room_6 : decode cX10_room 6 = .ok (.iadd, 1) := dk_96 (dk_at dksX10_room_0 6 rfl rfl)
theorem dX10_room_7 : decode cX10_room 7 = .ok (.iconst 2, 1) := dk_5 (dk_at dksX10_room_0 7 rfl rfl)
theorem dX10_room_8 : decode cX10_room 8 = .ok (.idiv, 1) := dk_108 (dk_at dksX10_room_0 8 rfl rfl)
theorem dX10_room_9 : decode cX10_room 9 = .ok (.ireturn, 1) := dk_172 (dk_at dksX10_room_0 9 rfl rfl)
abbrev cX10_miss : ByteArray := prog_16_method_4_code
def yX10_miss : MethodName := ⟨RX10, "miss", "(II)I"⟩
def dkwX10_miss_0 : List UInt8 := [42, 27, 28, 183, 0, 15, 42, 180, 0, 19, 96, 172]
abbrev dktX10_miss_0 : List UInt8 := dkwX10_miss_0 ++ []
theorem dksX10_miss_0 : cX10_miss.data.toList.drop 0 = dktX10_miss_0 := by decide +kernel
theorem dX10_miss_0 : decode cX10_miss 0 = .ok (.aload_n 0, 1) := dk_42 (dk_at dksX10_miss_0 0 rfl rfl)
theorem dX10_miss_1 : decode cX10_miss 1 = .ok (.iload_n 1, 1) := dk_27 (dk_at dksX10_miss_0 1 rfl rfl)
theorem dX10_miss_2 : decode cX10_miss 2 = .ok (.iload_n 2, 1) := dk_28 (dk_at dksX10_miss_0 2 rfl rfl)
theorem dX10_miss_3 : decode cX10_miss 3 = .ok (.invokespecial 15, 3) := dk_183 0 15 (dk_at dksX10_miss_0 3 rfl rfl)
theorem dX10_miss_6 : decode cX10_miss 6 = .ok (.aload_n 0, 1) := dk_42 (dk_at dksX10_miss_0 6 rfl rfl)
theorem dX10_miss_7 : decode cX10_miss 7 = .ok (.getfield 19, 3) := dk_180 0 19 (dk_at dksX10_miss_0 7 rfl rfl)
theorem dX10_miss_10 : decode cX10_miss 10 = .ok (.iadd, 1) := dk_96 (dk_at dksX10_miss_0 10 rfl rfl)
theorem dX10_miss_11 : decode cX10_miss 11 = .ok (.ireturn, 1) := dk_172 (dk_at dksX10_miss_0 11 rfl rfl)
abbrev cX10_kind : ByteArray := prog_16_method_2_code
def yX10_kind : MethodName := ⟨RX10, "kind", "()I"⟩
def dkwX10_kind_0 : List UInt8 := [42, 183, 0, 7, 5, 96, 172]
abbrev dktX10_kind_0 : List UInt8 := dkwX10_kind_0 ++ []
theorem dksX10_kind_0 : cX10_kind.data.toList.drop 0 = dktX10_kind_0 := by decide +kernel
theorem dX10_kind_0 : decode cX10_kind 0 = .ok (.aload_n 0, 1) := dk_42 (dk_at dksX10_kind_0 0 rfl rfl)
theorem dX10_kind_1 : decode cX10_kind 1 = .ok (.invokespecial 7, 3) := dk_183 0 7 (dk_at dksX10_kind_0 1 rfl rfl)
theorem dX10_kind_4 : decode cX10_kind 4 = .ok (.iconst 2, 1) := dk_5 (dk_at dksX10_kind_0 4 rfl rfl)
theorem dX10_kind_5 : decode cX10_kind 5 = .ok (.iadd, 1) := dk_96 (dk_at dksX10_kind_0 5 rfl rfl)
theorem dX10_kind_6 : decode cX10_kind 6 = .ok (.ireturn, 1) := dk_172 (dk_at dksX10_kind_0 6 rfl rfl)
abbrev cX10_worth : ByteArray := prog_16_method_5_code
def yX10_worth : MethodName := ⟨RX10, "worth", "()I"⟩
def dkwX10_worth_0 : List UInt8 := [42, 183, 0, 25, 42, 180, 0, 19, 100, 172]
abbrev dktX10_worth_0 : List UInt8 := dkwX10_worth_0 ++ []
theorem dksX10_worth_0 : cX10_worth.data.toList.drop 0 = dktX10_worth_0 := by decide +kernel
theorem dX10_worth_0 : decode cX10_worth 0 = .ok (.aload_n 0, 1) := dk_42 (dk_at dksX10_worth_0 0 rfl rfl)
theorem dX10_worth_1 : decode cX10_worth 1 = .ok (.invokespecial 25, 3) := dk_183 0 25 (dk_at dksX10_worth_0 1 rfl rfl)
theorem dX10_worth_4 : decode cX10_worth 4 = .ok (.aload_n 0, 1) := dk_42 (dk_at dksX10_worth_0 4 rfl rfl)
theorem dX10_worth_5 : decode cX10_worth 5 = .ok (.getfield 19, 3) := dk_180 0 19 (dk_at dksX10_worth_0 5 rfl rfl)
theorem dX10_worth_8 : decode cX10_worth 8 = .ok (.isub, 1) := dk_100 (dk_at dksX10_worth_0 8 rfl rfl)
theorem dX10_worth_9 : decode cX10_worth 9 = .ok (.ireturn, 1) := dk_172 (dk_at dksX10_worth_0 9 rfl rfl)
abbrev cX10_another : ByteArray := prog_16_method_6_code
def yX10_another : MethodName := ⟨RX10, "another", "()LKeptLeaves$Leaf;"⟩
def dkwX10_another_0 : List UInt8 := [187, 0, 20, 89, 183, 0, 28, 176]
abbrev dktX10_another_0 : List UInt8 := dkwX10_another_0 ++ []
theorem dksX10_another_0 : cX10_another.data.toList.drop 0 = dktX10_another_0 := by decide +kernel
theorem dX10_another_0 : decode cX10_another 0 = .ok (.new 20, 3) := dk_187 0 20 (dk_at dksX10_another_0 0 rfl rfl)
theorem dX10_another_3 : decode cX10_another 3 = .ok (.dup, 1) := dk_89 (dk_at dksX10_another_0 3 rfl rfl)
theorem dX10_another_4 : decode cX10_another 4 = .ok (.invokespecial 28, 3) := dk_183 0 28 (dk_at dksX10_another_0 4 rfl rfl)
theorem dX10_another_7 : decode cX10_another 7 = .ok (.areturn, 1) := dk_176 (dk_at dksX10_another_0 7 rfl rfl)
theorem q116 : (Jvm.Cond.initialized "KeptLeaves$TornLeaf") ∈ lw_all := lw_g (lw_at lw_m1 14 rfl) rfl
theorem q643 : (Jvm.Cond.fieldLink "KeptLeaves$TornLeaf" (19 : Nat) "KeptLeaves$TornLeaf" "size" "I") ∈ lw_all := lw_g (lw_at lw_m3 61 rfl) rfl
theorem q644 : (Jvm.Cond.sameField "KeptLeaves$TornLeaf" "KeptLeaves$Leaf" "size" "I") ∈ lw_all := lw_g (lw_at lw_m3 62 rfl) rfl
theorem q675 : (Jvm.Cond.instantiable "KeptLeaves$TornLeaf" (4 : Nat)) ∈ lw_all := lw_g (lw_at lw_m3 93 rfl) rfl
theorem q677 : (Jvm.Cond.instanceMethod ({ cls := "KeptLeaves$TornLeaf", name := "<init>", desc := "()V" } : Jvm.MethodName)) ∈ lw_all := lw_g (lw_at lw_m3 95 rfl) rfl
theorem q678 : (Jvm.Cond.code ({ cls := "KeptLeaves$TornLeaf", name := "<init>", desc := "()V" } : Jvm.MethodName) prog_16_method_1_code (1 : Nat) (Option.none : Option Jvm.ClassFile.FieldType)) ∈ lw_all := lw_g (lw_at lw_m3 96 rfl) rfl
theorem q679 : (Jvm.Cond.methodLinkNest "KeptLeaves$TornLeaf" (1 : Nat) ({ cls := "KeptLeaves$OldLeaf", name := "<init>", desc := "()V" } : Jvm.MethodName) "KeptLeaves") ∈ lw_tbl := lw_at lw_m3 97 rfl
theorem q680 : (Jvm.Cond.lays "KeptLeaves$TornLeaf" "KeptLeaves$Leaf" "size" "I") ∈ lw_all := lw_g (lw_at lw_m3 98 rfl) rfl
theorem q681 : (Jvm.Cond.lays "KeptLeaves$TornLeaf" "KeptLeaves$Leaf" "loss" "I") ∈ lw_all := lw_g (lw_at lw_m3 99 rfl) rfl
theorem q682 : (Jvm.Cond.lays "KeptLeaves$TornLeaf" "KeptLeaves$Leaf" "weight" "I") ∈ lw_all := lw_g (lw_at lw_m3 100 rfl) rfl
theorem q683 : (Jvm.Cond.lays "KeptLeaves$TornLeaf" "KeptLeaves$Leaf" "leans" "I") ∈ lw_all := lw_g (lw_at lw_m3 101 rfl) rfl
theorem q684 : (Jvm.Cond.superclass "KeptLeaves$TornLeaf" "KeptLeaves$OldLeaf") ∈ lw_all := lw_g (lw_at lw_m3 102 rfl) rfl
theorem q760 : (Jvm.Cond.selects "KeptLeaves$TornLeaf" ({ cls := "KeptLeaves$Takes", name := "room", desc := "(I)I" } : Jvm.MethodName) ({ cls := "KeptLeaves$TornLeaf", name := "room", desc := "(I)I" } : Jvm.MethodName)) ∈ lw_all := lw_g (lw_at lw_m3 178 rfl) rfl
theorem q761 : (Jvm.Cond.instanceMethod ({ cls := "KeptLeaves$TornLeaf", name := "room", desc := "(I)I" } : Jvm.MethodName)) ∈ lw_all := lw_g (lw_at lw_m3 179 rfl) rfl
theorem q762 : (Jvm.Cond.code ({ cls := "KeptLeaves$TornLeaf", name := "room", desc := "(I)I" } : Jvm.MethodName) prog_16_method_3_code (2 : Nat) (Option.some Jvm.ClassFile.FieldType.int)) ∈ lw_all := lw_g (lw_at lw_m3 180 rfl) rfl
theorem q763 : (Jvm.Cond.methodLink "KeptLeaves$TornLeaf" (11 : Nat) ({ cls := "KeptLeaves$OldLeaf", name := "room", desc := "(I)I" } : Jvm.MethodName)) ∈ lw_all := lw_g (lw_at lw_m3 181 rfl) rfl
theorem q790 : (Jvm.Cond.selects "KeptLeaves$TornLeaf" ({ cls := "KeptLeaves$Missed", name := "miss", desc := "(II)I" } : Jvm.MethodName) ({ cls := "KeptLeaves$TornLeaf", name := "miss", desc := "(II)I" } : Jvm.MethodName)) ∈ lw_all := lw_g (lw_at lw_m3 208 rfl) rfl
theorem q791 : (Jvm.Cond.instanceMethod ({ cls := "KeptLeaves$TornLeaf", name := "miss", desc := "(II)I" } : Jvm.MethodName)) ∈ lw_all := lw_g (lw_at lw_m3 209 rfl) rfl
theorem q792 : (Jvm.Cond.code ({ cls := "KeptLeaves$TornLeaf", name := "miss", desc := "(II)I" } : Jvm.MethodName) prog_16_method_4_code (3 : Nat) (Option.some Jvm.ClassFile.FieldType.int)) ∈ lw_all := lw_g (lw_at lw_m3 210 rfl) rfl
theorem q793 : (Jvm.Cond.methodLink "KeptLeaves$TornLeaf" (15 : Nat) ({ cls := "KeptLeaves$OldLeaf", name := "miss", desc := "(II)I" } : Jvm.MethodName)) ∈ lw_all := lw_g (lw_at lw_m3 211 rfl) rfl
theorem q812 : (Jvm.Cond.selects "KeptLeaves$TornLeaf" ({ cls := "KeptLeaves$Leaf", name := "kind", desc := "()I" } : Jvm.MethodName) ({ cls := "KeptLeaves$TornLeaf", name := "kind", desc := "()I" } : Jvm.MethodName)) ∈ lw_all := lw_g (lw_at lw_m3 230 rfl) rfl
theorem q813 : (Jvm.Cond.instanceMethod ({ cls := "KeptLeaves$TornLeaf", name := "kind", desc := "()I" } : Jvm.MethodName)) ∈ lw_all := lw_g (lw_at lw_m3 231 rfl) rfl
theorem q814 : (Jvm.Cond.code ({ cls := "KeptLeaves$TornLeaf", name := "kind", desc := "()I" } : Jvm.MethodName) prog_16_method_2_code (1 : Nat) (Option.some Jvm.ClassFile.FieldType.int)) ∈ lw_all := lw_g (lw_at lw_m3 232 rfl) rfl
theorem q815 : (Jvm.Cond.methodLink "KeptLeaves$TornLeaf" (7 : Nat) ({ cls := "KeptLeaves$OldLeaf", name := "kind", desc := "()I" } : Jvm.MethodName)) ∈ lw_all := lw_g (lw_at lw_m3 233 rfl) rfl
theorem q844 : (Jvm.Cond.selects "KeptLeaves$TornLeaf" ({ cls := "KeptLeaves$Leaf", name := "worth", desc := "()I" } : Jvm.MethodName) ({ cls := "KeptLeaves$TornLeaf", name := "worth", desc := "()I" } : Jvm.MethodName)) ∈ lw_all := lw_g (lw_at lw_m4 22 rfl) rfl
theorem q845 : (Jvm.Cond.instanceMethod ({ cls := "KeptLeaves$TornLeaf", name := "worth", desc := "()I" } : Jvm.MethodName)) ∈ lw_all := lw_g (lw_at lw_m4 23 rfl) rfl
theorem q846 : (Jvm.Cond.code ({ cls := "KeptLeaves$TornLeaf", name := "worth", desc := "()I" } : Jvm.MethodName) prog_16_method_5_code (1 : Nat) (Option.some Jvm.ClassFile.FieldType.int)) ∈ lw_all := lw_g (lw_at lw_m4 24 rfl) rfl
theorem q847 : (Jvm.Cond.methodLink "KeptLeaves$TornLeaf" (25 : Nat) ({ cls := "KeptLeaves$OldLeaf", name := "worth", desc := "()I" } : Jvm.MethodName)) ∈ lw_all := lw_g (lw_at lw_m4 25 rfl) rfl
theorem q896 : (Jvm.Cond.selects "KeptLeaves$TornLeaf" ({ cls := "KeptLeaves$Leaf", name := "takes", desc := "(LKeptLeaves$Leaf;)V" } : Jvm.MethodName) ({ cls := "KeptLeaves$Leaf", name := "takes", desc := "(LKeptLeaves$Leaf;)V" } : Jvm.MethodName)) ∈ lw_all := lw_g (lw_at lw_m4 74 rfl) rfl
theorem q1200 : (Jvm.Cond.selects "KeptLeaves$TornLeaf" ({ cls := "KeptLeaves$Leaf", name := "copy", desc := "()LKeptLeaves$Leaf;" } : Jvm.MethodName) ({ cls := "KeptLeaves$Leaf", name := "copy", desc := "()LKeptLeaves$Leaf;" } : Jvm.MethodName)) ∈ lw_all := lw_g (lw_at lw_m5 138 rfl) rfl
theorem q1226 : (Jvm.Cond.selects "KeptLeaves$TornLeaf" ({ cls := "KeptLeaves$Leaf", name := "another", desc := "()LKeptLeaves$Leaf;" } : Jvm.MethodName) ({ cls := "KeptLeaves$TornLeaf", name := "another", desc := "()LKeptLeaves$Leaf;" } : Jvm.MethodName)) ∈ lw_all := lw_g (lw_at lw_m5 164 rfl) rfl
theorem q1227 : (Jvm.Cond.instanceMethod ({ cls := "KeptLeaves$TornLeaf", name := "another", desc := "()LKeptLeaves$Leaf;" } : Jvm.MethodName)) ∈ lw_all := lw_g (lw_at lw_m5 165 rfl) rfl
theorem q1228 : (Jvm.Cond.code ({ cls := "KeptLeaves$TornLeaf", name := "another", desc := "()LKeptLeaves$Leaf;" } : Jvm.MethodName) prog_16_method_6_code (1 : Nat) (Option.some (Jvm.ClassFile.FieldType.object "KeptLeaves$Leaf"))) ∈ lw_all := lw_g (lw_at lw_m5 166 rfl) rfl
theorem q1229 : (Jvm.Cond.classLink "KeptLeaves$TornLeaf" (20 : Nat) "KeptLeaves$TornLeaf") ∈ lw_all := lw_g (lw_at lw_m5 167 rfl) rfl
theorem q1230 : (Jvm.Cond.methodLink "KeptLeaves$TornLeaf" (28 : Nat) ({ cls := "KeptLeaves$TornLeaf", name := "<init>", desc := "()V" } : Jvm.MethodName)) ∈ lw_all := lw_g (lw_at lw_m5 168 rfl) rfl
theorem q1278 : (Jvm.Cond.castable "KeptLeaves$TornLeaf" "KeptLeaves$Missed") ∈ lw_tbl := lw_at lw_m5 216 rfl
theorem q1279 : (Jvm.Cond.selects "KeptLeaves$TornLeaf" ({ cls := "KeptLeaves$Missed", name := "worth", desc := "()I" } : Jvm.MethodName) ({ cls := "KeptLeaves$TornLeaf", name := "worth", desc := "()I" } : Jvm.MethodName)) ∈ lw_all := lw_g (lw_at lw_m5 217 rfl) rfl
theorem q1280 : (Jvm.Cond.unhidden "KeptLeaves$TornLeaf" "worth" "()I") ∈ lw_tbl := lw_at lw_m5 218 rfl
theorem q1281 : (Jvm.Cond.publicMethod ({ cls := "KeptLeaves$TornLeaf", name := "worth", desc := "()I" } : Jvm.MethodName)) ∈ lw_tbl := lw_at lw_m5 219 rfl
theorem q1900 : (Jvm.Cond.castable "KeptLeaves$TornLeaf" "KeptLeaves$OldLeaf") ∈ lw_tbl := lw_at lw_m8 118 rfl
theorem q1906 : (Jvm.Cond.castable "KeptLeaves$TornLeaf" "KeptLeaves$Leaf") ∈ lw_tbl := lw_at lw_m8 124 rfl
theorem in_X10 : ∀ w ∈ wsX100, w ∈ lw_all := lw_in wsX100 [680, 681, 682, 683] (by decide +kernel) (by decide +kernel)

/-! KeptLeaves$FadedLeaf -/
set_option maxRecDepth 100000
def RX11 : String := "KeptLeaves$FadedLeaf"
def TX11 : u_T := fun k => match k with
  | 0 => ("KeptLeaves$Leaf", "size", "I", false)
  | 1 => ("KeptLeaves$Leaf", "loss", "I", false)
  | 2 => ("KeptLeaves$Leaf", "weight", "I", false)
  | _ => ("KeptLeaves$Leaf", "leans", "I", false)
def tyX11 : Nat → FieldType := fun k => match k with
  | 0 => .int
  | 1 => .int
  | 2 => .int
  | _ => .int
abbrev wsX110 : List Cond := u_ws RX11 TX11 4
theorem nmX11 : ∀ a, a < 4 → ∀ b, b < 4 → a ≠ b → (TX11 a).2.1 ≠ (TX11 b).2.1 := by decide +kernel
theorem tyX11_ok : ∀ k, k < 4 → parseFieldDescriptor (TX11 k).2.2.1 = some (tyX11 k) := by decide +kernel
abbrev cX11_init : ByteArray := prog_3_method_1_code
def yX11_init : MethodName := ⟨RX11, "<init>", "()V"⟩
theorem dX11_init_0 : decode cX11_init 0 = .ok (.aload_n 0, 1) := by decide +kernel
theorem dX11_init_1 : decode cX11_init 1 = .ok (.invokespecial 1, 3) := by decide +kernel
theorem dX11_init_4 : decode cX11_init 4 = .ok (.return_, 1) := by decide +kernel
abbrev cX11_room : ByteArray := prog_3_method_3_code
def yX11_room : MethodName := ⟨RX11, "room", "(I)I"⟩
def dkwX11_room_0 : List UInt8 := [42, 27, 183, 0, 11, 4, 96, 172]
abbrev dktX11_room_0 : List UInt8 := dkwX11_room_0 ++ []
theorem dksX11_room_0 : cX11_room.data.toList.drop 0 = dktX11_room_0 := by decide +kernel
theorem dX11_room_0 : decode cX11_room 0 = .ok (.aload_n 0, 1) := dk_42 (dk_at dksX11_room_0 0 rfl rfl)
theorem dX11_room_1 : decode cX11_room 1 = .ok (.iload_n 1, 1) := dk_27 (dk_at dksX11_room_0 1 rfl rfl)
theorem dX11_room_2 : decode cX11_room 2 = .ok (.invokespecial 11, 3) := dk_183 0 11 (dk_at dksX11_room_0 2 rfl rfl)
theorem dX11_room_5 : decode cX11_room 5 = .ok (.iconst 1, 1) := dk_4 (dk_at dksX11_room_0 5 rfl rfl)
theorem dX11_room_6 : decode cX11_room 6 = .ok (.iadd, 1) := dk_96 (dk_at dksX11_room_0 6 rfl rfl)
theorem dX11_room_7 : decode cX11_room 7 = .ok (.ireturn, 1) := dk_172 (dk_at dksX11_room_0 7 rfl rfl)
abbrev cX11_miss : ByteArray := prog_3_method_4_code
def yX11_miss : MethodName := ⟨RX11, "miss", "(II)I"⟩
def dkwX11_miss_0 : List UInt8 := [5, 42, 27, 28, 183, 0, 15, 104, 172]
abbrev dktX11_miss_0 : List UInt8 := dkwX11_miss_0 ++ []
theorem dksX11_miss_0 : cX11_miss.data.toList.drop 0 = dktX11_miss_0 := by decide +kernel
theorem dX11_miss_0 : decode cX11_miss 0 = .ok (.iconst 2, 1) := dk_5 (dk_at dksX11_miss_0 0 rfl rfl)
theorem dX11_miss_1 : decode cX11_miss 1 = .ok (.aload_n 0, 1) := dk_42 (dk_at dksX11_miss_0 1 rfl rfl)
theorem dX11_miss_2 : decode cX11_miss 2 = .ok (.iload_n 1, 1) := dk_27 (dk_at dksX11_miss_0 2 rfl rfl)
theorem dX11_miss_3 : decode cX11_miss 3 = .ok (.iload_n 2, 1) := dk_28 (dk_at dksX11_miss_0 3 rfl rfl)
theorem dX11_miss_4 : decode cX11_miss 4 = .ok (.invokespecial 15, 3) := dk_183 0 15 (dk_at dksX11_miss_0 4 rfl rfl)
theorem dX11_miss_7 : decode cX11_miss 7 = .ok (.imul, 1) := dk_104 (dk_at dksX11_miss_0 7 rfl rfl)
theorem dX11_miss_8 : decode cX11_miss 8 = .ok (.ireturn, 1) := dk_172 (dk_at dksX11_miss_0 8 rfl rfl)
abbrev cX11_kind : ByteArray := prog_3_method_2_code
def yX11_kind : MethodName := ⟨RX11, "kind", "()I"⟩
def dkwX11_kind_0 : List UInt8 := [42, 183, 0, 7, 5, 96, 172]
abbrev dktX11_kind_0 : List UInt8 := dkwX11_kind_0 ++ []
theorem dksX11_kind_0 : cX11_kind.data.toList.drop 0 = dktX11_kind_0 := by decide +kernel
theorem dX11_kind_0 : decode cX11_kind 0 = .ok (.aload_n 0, 1) := dk_42 (dk_at dksX11_kind_0 0 rfl rfl)
theorem dX11_kind_1 : decode cX11_kind 1 = .ok (.invokespecial 7, 3) := dk_183 0 7 (dk_at dksX11_kind_0 1 rfl rfl)
theorem dX11_kind_4 : decode cX11_kind 4 = .ok (.iconst 2, 1) := dk_5 (dk_at dksX11_kind_0 4 rfl rfl)
theorem dX11_kind_5 : decode cX11_kind 5 = .ok (.iadd, 1) := dk_96 (dk_at dksX11_kind_0 5 rfl rfl)
theorem dX11_kind_6 : decode cX11_kind 6 = .ok (.ireturn, 1) := dk_172 (dk_at dksX11_kind_0 6 rfl rfl)
abbrev cX11_worth : ByteArray := prog_3_method_5_code
def yX11_worth : MethodName := ⟨RX11, "worth", "()I"⟩
def dkwX11_worth_0 : List UInt8 := [42, 183, 0, 19, 42, 180, 0, 22, 96, 172]
abbrev dktX11_worth_0 : List UInt8 := dkwX11_worth_0 ++ []
theorem dksX11_worth_0 : cX11_worth.data.toList.drop 0 = dktX11_worth_0 := by decide +kernel
theorem dX11_worth_0 : decode cX11_worth 0 = .ok (.aload_n 0, 1) := dk_42 (dk_at dksX11_worth_0 0 rfl rfl)
theorem dX11_worth_1 : decode cX11_worth 1 = .ok (.invokespecial 19, 3) := dk_183 0 19 (dk_at dksX11_worth_0 1 rfl rfl)
theorem dX11_worth_4 : decode cX11_worth 4 = .ok (.aload_n 0, 1) := dk_42 (dk_at dksX11_worth_0 4 rfl rfl)
theorem dX11_worth_5 : decode cX11_worth 5 = .ok (.getfield 22, 3) := dk_180 0 22 (dk_at dksX11_worth_0 5 rfl rfl)
theorem dX11_worth_8 : decode cX11_worth 8 = .ok (.iadd, 1) := dk_96 (dk_at dksX11_worth_0 8 rfl rfl)
theorem dX11_worth_9 : decode cX11_worth 9 = .ok (.ireturn, 1) := dk_172 (dk_at dksX11_worth_0 9 rfl rfl)
abbrev cX11_another : ByteArray := prog_3_method_6_code
def yX11_another : MethodName := ⟨RX11, "another", "()LKeptLeaves$Leaf;"⟩
def dkwX11_another_0 : List UInt8 := [187, 0, 23, 89, 183, 0, 28, 176]
abbrev dktX11_another_0 : List UInt8 := dkwX11_another_0 ++ []
theorem dksX11_another_0 : cX11_another.data.toList.drop 0 = dktX11_another_0 := by decide +kernel
theorem dX11_another_0 : decode cX11_another 0 = .ok (.new 23, 3) := dk_187 0 23 (dk_at dksX11_another_0 0 rfl rfl)
theorem dX11_another_3 : decode cX11_another 3 = .ok (.dup, 1) := dk_89 (dk_at dksX11_another_0 3 rfl rfl)
theorem dX11_another_4 : decode cX11_another 4 = .ok (.invokespecial 28, 3) := dk_183 0 28 (dk_at dksX11_another_0 4 rfl rfl)
theorem dX11_another_7 : decode cX11_another 7 = .ok (.areturn, 1) := dk_176 (dk_at dksX11_another_0 7 rfl rfl)
theorem q117 : (Jvm.Cond.initialized "KeptLeaves$FadedLeaf") ∈ lw_all := lw_g (lw_at lw_m1 15 rfl) rfl
theorem q649 : (Jvm.Cond.fieldLink "KeptLeaves$FadedLeaf" (22 : Nat) "KeptLeaves$FadedLeaf" "weight" "I") ∈ lw_all := lw_g (lw_at lw_m3 67 rfl) rfl
theorem q650 : (Jvm.Cond.sameField "KeptLeaves$FadedLeaf" "KeptLeaves$Leaf" "weight" "I") ∈ lw_all := lw_g (lw_at lw_m3 68 rfl) rfl
theorem q686 : (Jvm.Cond.instantiable "KeptLeaves$FadedLeaf" (4 : Nat)) ∈ lw_all := lw_g (lw_at lw_m3 104 rfl) rfl
theorem q688 : (Jvm.Cond.instanceMethod ({ cls := "KeptLeaves$FadedLeaf", name := "<init>", desc := "()V" } : Jvm.MethodName)) ∈ lw_all := lw_g (lw_at lw_m3 106 rfl) rfl
theorem q689 : (Jvm.Cond.code ({ cls := "KeptLeaves$FadedLeaf", name := "<init>", desc := "()V" } : Jvm.MethodName) prog_3_method_1_code (1 : Nat) (Option.none : Option Jvm.ClassFile.FieldType)) ∈ lw_all := lw_g (lw_at lw_m3 107 rfl) rfl
theorem q690 : (Jvm.Cond.methodLinkNest "KeptLeaves$FadedLeaf" (1 : Nat) ({ cls := "KeptLeaves$CopyLeaf", name := "<init>", desc := "()V" } : Jvm.MethodName) "KeptLeaves") ∈ lw_tbl := lw_at lw_m3 108 rfl
theorem q691 : (Jvm.Cond.lays "KeptLeaves$FadedLeaf" "KeptLeaves$Leaf" "size" "I") ∈ lw_all := lw_g (lw_at lw_m3 109 rfl) rfl
theorem q692 : (Jvm.Cond.lays "KeptLeaves$FadedLeaf" "KeptLeaves$Leaf" "loss" "I") ∈ lw_all := lw_g (lw_at lw_m3 110 rfl) rfl
theorem q693 : (Jvm.Cond.lays "KeptLeaves$FadedLeaf" "KeptLeaves$Leaf" "weight" "I") ∈ lw_all := lw_g (lw_at lw_m3 111 rfl) rfl
theorem q694 : (Jvm.Cond.lays "KeptLeaves$FadedLeaf" "KeptLeaves$Leaf" "leans" "I") ∈ lw_all := lw_g (lw_at lw_m3 112 rfl) rfl
theorem q695 : (Jvm.Cond.superclass "KeptLeaves$FadedLeaf" "KeptLeaves$CopyLeaf") ∈ lw_all := lw_g (lw_at lw_m3 113 rfl) rfl
theorem q749 : (Jvm.Cond.selects "KeptLeaves$FadedLeaf" ({ cls := "KeptLeaves$Takes", name := "room", desc := "(I)I" } : Jvm.MethodName) ({ cls := "KeptLeaves$FadedLeaf", name := "room", desc := "(I)I" } : Jvm.MethodName)) ∈ lw_all := lw_g (lw_at lw_m3 167 rfl) rfl
theorem q750 : (Jvm.Cond.instanceMethod ({ cls := "KeptLeaves$FadedLeaf", name := "room", desc := "(I)I" } : Jvm.MethodName)) ∈ lw_all := lw_g (lw_at lw_m3 168 rfl) rfl
theorem q751 : (Jvm.Cond.code ({ cls := "KeptLeaves$FadedLeaf", name := "room", desc := "(I)I" } : Jvm.MethodName) prog_3_method_3_code (2 : Nat) (Option.some Jvm.ClassFile.FieldType.int)) ∈ lw_all := lw_g (lw_at lw_m3 169 rfl) rfl
theorem q752 : (Jvm.Cond.methodLink "KeptLeaves$FadedLeaf" (11 : Nat) ({ cls := "KeptLeaves$CopyLeaf", name := "room", desc := "(I)I" } : Jvm.MethodName)) ∈ lw_all := lw_g (lw_at lw_m3 170 rfl) rfl
theorem q779 : (Jvm.Cond.selects "KeptLeaves$FadedLeaf" ({ cls := "KeptLeaves$Missed", name := "miss", desc := "(II)I" } : Jvm.MethodName) ({ cls := "KeptLeaves$FadedLeaf", name := "miss", desc := "(II)I" } : Jvm.MethodName)) ∈ lw_all := lw_g (lw_at lw_m3 197 rfl) rfl
theorem q780 : (Jvm.Cond.instanceMethod ({ cls := "KeptLeaves$FadedLeaf", name := "miss", desc := "(II)I" } : Jvm.MethodName)) ∈ lw_all := lw_g (lw_at lw_m3 198 rfl) rfl
theorem q781 : (Jvm.Cond.code ({ cls := "KeptLeaves$FadedLeaf", name := "miss", desc := "(II)I" } : Jvm.MethodName) prog_3_method_4_code (3 : Nat) (Option.some Jvm.ClassFile.FieldType.int)) ∈ lw_all := lw_g (lw_at lw_m3 199 rfl) rfl
theorem q782 : (Jvm.Cond.methodLink "KeptLeaves$FadedLeaf" (15 : Nat) ({ cls := "KeptLeaves$CopyLeaf", name := "miss", desc := "(II)I" } : Jvm.MethodName)) ∈ lw_all := lw_g (lw_at lw_m3 200 rfl) rfl
theorem q802 : (Jvm.Cond.selects "KeptLeaves$FadedLeaf" ({ cls := "KeptLeaves$Leaf", name := "kind", desc := "()I" } : Jvm.MethodName) ({ cls := "KeptLeaves$FadedLeaf", name := "kind", desc := "()I" } : Jvm.MethodName)) ∈ lw_all := lw_g (lw_at lw_m3 220 rfl) rfl
theorem q803 : (Jvm.Cond.instanceMethod ({ cls := "KeptLeaves$FadedLeaf", name := "kind", desc := "()I" } : Jvm.MethodName)) ∈ lw_all := lw_g (lw_at lw_m3 221 rfl) rfl
theorem q804 : (Jvm.Cond.code ({ cls := "KeptLeaves$FadedLeaf", name := "kind", desc := "()I" } : Jvm.MethodName) prog_3_method_2_code (1 : Nat) (Option.some Jvm.ClassFile.FieldType.int)) ∈ lw_all := lw_g (lw_at lw_m3 222 rfl) rfl
theorem q805 : (Jvm.Cond.methodLink "KeptLeaves$FadedLeaf" (7 : Nat) ({ cls := "KeptLeaves$CopyLeaf", name := "kind", desc := "()I" } : Jvm.MethodName)) ∈ lw_all := lw_g (lw_at lw_m3 223 rfl) rfl
theorem q833 : (Jvm.Cond.selects "KeptLeaves$FadedLeaf" ({ cls := "KeptLeaves$Leaf", name := "worth", desc := "()I" } : Jvm.MethodName) ({ cls := "KeptLeaves$FadedLeaf", name := "worth", desc := "()I" } : Jvm.MethodName)) ∈ lw_all := lw_g (lw_at lw_m4 11 rfl) rfl
theorem q834 : (Jvm.Cond.instanceMethod ({ cls := "KeptLeaves$FadedLeaf", name := "worth", desc := "()I" } : Jvm.MethodName)) ∈ lw_all := lw_g (lw_at lw_m4 12 rfl) rfl
theorem q835 : (Jvm.Cond.code ({ cls := "KeptLeaves$FadedLeaf", name := "worth", desc := "()I" } : Jvm.MethodName) prog_3_method_5_code (1 : Nat) (Option.some Jvm.ClassFile.FieldType.int)) ∈ lw_all := lw_g (lw_at lw_m4 13 rfl) rfl
theorem q836 : (Jvm.Cond.methodLink "KeptLeaves$FadedLeaf" (19 : Nat) ({ cls := "KeptLeaves$CopyLeaf", name := "worth", desc := "()I" } : Jvm.MethodName)) ∈ lw_all := lw_g (lw_at lw_m4 14 rfl) rfl
theorem q893 : (Jvm.Cond.selects "KeptLeaves$FadedLeaf" ({ cls := "KeptLeaves$Leaf", name := "takes", desc := "(LKeptLeaves$Leaf;)V" } : Jvm.MethodName) ({ cls := "KeptLeaves$Leaf", name := "takes", desc := "(LKeptLeaves$Leaf;)V" } : Jvm.MethodName)) ∈ lw_all := lw_g (lw_at lw_m4 71 rfl) rfl
theorem q1197 : (Jvm.Cond.selects "KeptLeaves$FadedLeaf" ({ cls := "KeptLeaves$Leaf", name := "copy", desc := "()LKeptLeaves$Leaf;" } : Jvm.MethodName) ({ cls := "KeptLeaves$Leaf", name := "copy", desc := "()LKeptLeaves$Leaf;" } : Jvm.MethodName)) ∈ lw_all := lw_g (lw_at lw_m5 135 rfl) rfl
theorem q1211 : (Jvm.Cond.selects "KeptLeaves$FadedLeaf" ({ cls := "KeptLeaves$Leaf", name := "another", desc := "()LKeptLeaves$Leaf;" } : Jvm.MethodName) ({ cls := "KeptLeaves$FadedLeaf", name := "another", desc := "()LKeptLeaves$Leaf;" } : Jvm.MethodName)) ∈ lw_all := lw_g (lw_at lw_m5 149 rfl) rfl
theorem q1212 : (Jvm.Cond.instanceMethod ({ cls := "KeptLeaves$FadedLeaf", name := "another", desc := "()LKeptLeaves$Leaf;" } : Jvm.MethodName)) ∈ lw_all := lw_g (lw_at lw_m5 150 rfl) rfl
theorem q1213 : (Jvm.Cond.code ({ cls := "KeptLeaves$FadedLeaf", name := "another", desc := "()LKeptLeaves$Leaf;" } : Jvm.MethodName) prog_3_method_6_code (1 : Nat) (Option.some (Jvm.ClassFile.FieldType.object "KeptLeaves$Leaf"))) ∈ lw_all := lw_g (lw_at lw_m5 151 rfl) rfl
theorem q1214 : (Jvm.Cond.classLink "KeptLeaves$FadedLeaf" (23 : Nat) "KeptLeaves$FadedLeaf") ∈ lw_all := lw_g (lw_at lw_m5 152 rfl) rfl
theorem q1215 : (Jvm.Cond.methodLink "KeptLeaves$FadedLeaf" (28 : Nat) ({ cls := "KeptLeaves$FadedLeaf", name := "<init>", desc := "()V" } : Jvm.MethodName)) ∈ lw_all := lw_g (lw_at lw_m5 153 rfl) rfl
theorem q1262 : (Jvm.Cond.castable "KeptLeaves$FadedLeaf" "KeptLeaves$Missed") ∈ lw_tbl := lw_at lw_m5 200 rfl
theorem q1263 : (Jvm.Cond.selects "KeptLeaves$FadedLeaf" ({ cls := "KeptLeaves$Missed", name := "worth", desc := "()I" } : Jvm.MethodName) ({ cls := "KeptLeaves$FadedLeaf", name := "worth", desc := "()I" } : Jvm.MethodName)) ∈ lw_all := lw_g (lw_at lw_m5 201 rfl) rfl
theorem q1264 : (Jvm.Cond.unhidden "KeptLeaves$FadedLeaf" "worth" "()I") ∈ lw_tbl := lw_at lw_m5 202 rfl
theorem q1265 : (Jvm.Cond.publicMethod ({ cls := "KeptLeaves$FadedLeaf", name := "worth", desc := "()I" } : Jvm.MethodName)) ∈ lw_tbl := lw_at lw_m5 203 rfl
theorem q1901 : (Jvm.Cond.castable "KeptLeaves$FadedLeaf" "KeptLeaves$CopyLeaf") ∈ lw_tbl := lw_at lw_m8 119 rfl
theorem q1903 : (Jvm.Cond.castable "KeptLeaves$FadedLeaf" "KeptLeaves$Leaf") ∈ lw_tbl := lw_at lw_m8 121 rfl
theorem in_X11 : ∀ w ∈ wsX110, w ∈ lw_all := lw_in wsX110 [691, 692, 693, 694] (by decide +kernel) (by decide +kernel)

/-! KeptLeaves$ListLeaf -/
set_option maxRecDepth 100000
def RX12 : String := "KeptLeaves$ListLeaf"
def TX12 : u_T := fun k => match k with
  | 0 => ("KeptLeaves$Leaf", "size", "I", false)
  | 1 => ("KeptLeaves$Leaf", "loss", "I", false)
  | 2 => ("KeptLeaves$Leaf", "weight", "I", false)
  | _ => ("KeptLeaves$Leaf", "leans", "I", false)
def tyX12 : Nat → FieldType := fun k => match k with
  | 0 => .int
  | 1 => .int
  | 2 => .int
  | _ => .int
abbrev wsX120 : List Cond := u_ws RX12 TX12 4
theorem nmX12 : ∀ a, a < 4 → ∀ b, b < 4 → a ≠ b → (TX12 a).2.1 ≠ (TX12 b).2.1 := by decide +kernel
theorem tyX12_ok : ∀ k, k < 4 → parseFieldDescriptor (TX12 k).2.2.1 = some (tyX12 k) := by decide +kernel
abbrev cX12_init : ByteArray := prog_7_method_1_code
def yX12_init : MethodName := ⟨RX12, "<init>", "()V"⟩
theorem dX12_init_0 : decode cX12_init 0 = .ok (.aload_n 0, 1) := by decide +kernel
theorem dX12_init_1 : decode cX12_init 1 = .ok (.invokespecial 3, 3) := by decide +kernel
theorem dX12_init_4 : decode cX12_init 4 = .ok (.return_, 1) := by decide +kernel
abbrev cX12_room : ByteArray := prog_7_method_3_code
def yX12_room : MethodName := ⟨RX12, "room", "(I)I"⟩
theorem dX12_room_0 : decode cX12_room 0 = .ok (.iconst 1, 1) := by decide +kernel
theorem dX12_room_1 : decode cX12_room 1 = .ok (.ireturn, 1) := by decide +kernel
abbrev cX12_miss : ByteArray := prog_7_method_4_code
def yX12_miss : MethodName := ⟨RX12, "miss", "(II)I"⟩
def dkwX12_miss_0 : List UInt8 := [42, 27, 28, 183, 0, 9, 28, 96, 172]
abbrev dktX12_miss_0 : List UInt8 := dkwX12_miss_0 ++ []
theorem dksX12_miss_0 : cX12_miss.data.toList.drop 0 = dktX12_miss_0 := by decide +kernel
theorem dX12_miss_0 : decode cX12_miss 0 = .ok (.aload_n 0, 1) := dk_42 (dk_at dksX12_miss_0 0 rfl rfl)
theorem dX12_miss_1 : decode cX12_miss 1 = .ok (.iload_n 1, 1) := dk_27 (dk_at dksX12_miss_0 1 rfl rfl)
theorem dX12_miss_2 : decode cX12_miss 2 = .ok (.iload_n 2, 1) := dk_28 (dk_at dksX12_miss_0 2 rfl rfl)
theorem dX12_miss_3 : decode cX12_miss 3 = .ok (.invokespecial 9, 3) := dk_183 0 9 (dk_at dksX12_miss_0 3 rfl rfl)
theorem dX12_miss_6 : decode cX12_miss 6 = .ok (.iload_n 2, 1) := dk_28 (dk_at dksX12_miss_0 6 rfl rfl)
theorem dX12_miss_7 : decode cX12_miss 7 = .ok (.iadd, 1) := dk_96 (dk_at dksX12_miss_0 7 rfl rfl)
theorem dX12_miss_8 : decode cX12_miss 8 = .ok (.ireturn, 1) := dk_172 (dk_at dksX12_miss_0 8 rfl rfl)
abbrev cX12_kind : ByteArray := prog_7_method_2_code
def yX12_kind : MethodName := ⟨RX12, "kind", "()I"⟩
theorem dX12_kind_0 : decode cX12_kind 0 = .ok (.iconst 5, 1) := by decide +kernel
theorem dX12_kind_1 : decode cX12_kind 1 = .ok (.ireturn, 1) := by decide +kernel
abbrev cX12_worth : ByteArray := prog_7_method_5_code
def yX12_worth : MethodName := ⟨RX12, "worth", "()I"⟩
theorem dX12_worth_0 : decode cX12_worth 0 = .ok (.bipush 7, 2) := by decide +kernel
theorem dX12_worth_2 : decode cX12_worth 2 = .ok (.ireturn, 1) := by decide +kernel
abbrev cX12_another : ByteArray := prog_7_method_6_code
def yX12_another : MethodName := ⟨RX12, "another", "()LKeptLeaves$Leaf;"⟩
def dkwX12_another_0 : List UInt8 := [187, 0, 13, 89, 183, 0, 15, 176]
abbrev dktX12_another_0 : List UInt8 := dkwX12_another_0 ++ []
theorem dksX12_another_0 : cX12_another.data.toList.drop 0 = dktX12_another_0 := by decide +kernel
theorem dX12_another_0 : decode cX12_another 0 = .ok (.new 13, 3) := dk_187 0 13 (dk_at dksX12_another_0 0 rfl rfl)
theorem dX12_another_3 : decode cX12_another 3 = .ok (.dup, 1) := dk_89 (dk_at dksX12_another_0 3 rfl rfl)
theorem dX12_another_4 : decode cX12_another 4 = .ok (.invokespecial 15, 3) := dk_183 0 15 (dk_at dksX12_another_0 4 rfl rfl)
theorem dX12_another_7 : decode cX12_another 7 = .ok (.areturn, 1) := dk_176 (dk_at dksX12_another_0 7 rfl rfl)
theorem q118 : (Jvm.Cond.initialized "KeptLeaves$ListLeaf") ∈ lw_all := lw_g (lw_at lw_m1 16 rfl) rfl
theorem q697 : (Jvm.Cond.instantiable "KeptLeaves$ListLeaf" (4 : Nat)) ∈ lw_all := lw_g (lw_at lw_m3 115 rfl) rfl
theorem q699 : (Jvm.Cond.instanceMethod ({ cls := "KeptLeaves$ListLeaf", name := "<init>", desc := "()V" } : Jvm.MethodName)) ∈ lw_all := lw_g (lw_at lw_m3 117 rfl) rfl
theorem q700 : (Jvm.Cond.code ({ cls := "KeptLeaves$ListLeaf", name := "<init>", desc := "()V" } : Jvm.MethodName) prog_7_method_1_code (1 : Nat) (Option.none : Option Jvm.ClassFile.FieldType)) ∈ lw_all := lw_g (lw_at lw_m3 118 rfl) rfl
theorem q701 : (Jvm.Cond.methodLinkNest "KeptLeaves$ListLeaf" (3 : Nat) ({ cls := "KeptLeaves$Leaf", name := "<init>", desc := "()V" } : Jvm.MethodName) "KeptLeaves") ∈ lw_tbl := lw_at lw_m3 119 rfl
theorem q702 : (Jvm.Cond.lays "KeptLeaves$ListLeaf" "KeptLeaves$Leaf" "size" "I") ∈ lw_all := lw_g (lw_at lw_m3 120 rfl) rfl
theorem q703 : (Jvm.Cond.lays "KeptLeaves$ListLeaf" "KeptLeaves$Leaf" "loss" "I") ∈ lw_all := lw_g (lw_at lw_m3 121 rfl) rfl
theorem q704 : (Jvm.Cond.lays "KeptLeaves$ListLeaf" "KeptLeaves$Leaf" "weight" "I") ∈ lw_all := lw_g (lw_at lw_m3 122 rfl) rfl
theorem q705 : (Jvm.Cond.lays "KeptLeaves$ListLeaf" "KeptLeaves$Leaf" "leans" "I") ∈ lw_all := lw_g (lw_at lw_m3 123 rfl) rfl
theorem q706 : (Jvm.Cond.superclass "KeptLeaves$ListLeaf" "KeptLeaves$Leaf") ∈ lw_all := lw_g (lw_at lw_m3 124 rfl) rfl
theorem q754 : (Jvm.Cond.selects "KeptLeaves$ListLeaf" ({ cls := "KeptLeaves$Takes", name := "room", desc := "(I)I" } : Jvm.MethodName) ({ cls := "KeptLeaves$ListLeaf", name := "room", desc := "(I)I" } : Jvm.MethodName)) ∈ lw_all := lw_g (lw_at lw_m3 172 rfl) rfl
theorem q755 : (Jvm.Cond.instanceMethod ({ cls := "KeptLeaves$ListLeaf", name := "room", desc := "(I)I" } : Jvm.MethodName)) ∈ lw_all := lw_g (lw_at lw_m3 173 rfl) rfl
theorem q756 : (Jvm.Cond.code ({ cls := "KeptLeaves$ListLeaf", name := "room", desc := "(I)I" } : Jvm.MethodName) prog_7_method_3_code (2 : Nat) (Option.some Jvm.ClassFile.FieldType.int)) ∈ lw_all := lw_g (lw_at lw_m3 174 rfl) rfl
theorem q784 : (Jvm.Cond.selects "KeptLeaves$ListLeaf" ({ cls := "KeptLeaves$Missed", name := "miss", desc := "(II)I" } : Jvm.MethodName) ({ cls := "KeptLeaves$ListLeaf", name := "miss", desc := "(II)I" } : Jvm.MethodName)) ∈ lw_all := lw_g (lw_at lw_m3 202 rfl) rfl
theorem q785 : (Jvm.Cond.instanceMethod ({ cls := "KeptLeaves$ListLeaf", name := "miss", desc := "(II)I" } : Jvm.MethodName)) ∈ lw_all := lw_g (lw_at lw_m3 203 rfl) rfl
theorem q786 : (Jvm.Cond.code ({ cls := "KeptLeaves$ListLeaf", name := "miss", desc := "(II)I" } : Jvm.MethodName) prog_7_method_4_code (3 : Nat) (Option.some Jvm.ClassFile.FieldType.int)) ∈ lw_all := lw_g (lw_at lw_m3 204 rfl) rfl
theorem q806 : (Jvm.Cond.selects "KeptLeaves$ListLeaf" ({ cls := "KeptLeaves$Leaf", name := "kind", desc := "()I" } : Jvm.MethodName) ({ cls := "KeptLeaves$ListLeaf", name := "kind", desc := "()I" } : Jvm.MethodName)) ∈ lw_all := lw_g (lw_at lw_m3 224 rfl) rfl
theorem q807 : (Jvm.Cond.instanceMethod ({ cls := "KeptLeaves$ListLeaf", name := "kind", desc := "()I" } : Jvm.MethodName)) ∈ lw_all := lw_g (lw_at lw_m3 225 rfl) rfl
theorem q808 : (Jvm.Cond.code ({ cls := "KeptLeaves$ListLeaf", name := "kind", desc := "()I" } : Jvm.MethodName) prog_7_method_2_code (1 : Nat) (Option.some Jvm.ClassFile.FieldType.int)) ∈ lw_all := lw_g (lw_at lw_m3 226 rfl) rfl
theorem q837 : (Jvm.Cond.selects "KeptLeaves$ListLeaf" ({ cls := "KeptLeaves$Leaf", name := "worth", desc := "()I" } : Jvm.MethodName) ({ cls := "KeptLeaves$ListLeaf", name := "worth", desc := "()I" } : Jvm.MethodName)) ∈ lw_all := lw_g (lw_at lw_m4 15 rfl) rfl
theorem q838 : (Jvm.Cond.instanceMethod ({ cls := "KeptLeaves$ListLeaf", name := "worth", desc := "()I" } : Jvm.MethodName)) ∈ lw_all := lw_g (lw_at lw_m4 16 rfl) rfl
theorem q839 : (Jvm.Cond.code ({ cls := "KeptLeaves$ListLeaf", name := "worth", desc := "()I" } : Jvm.MethodName) prog_7_method_5_code (1 : Nat) (Option.some Jvm.ClassFile.FieldType.int)) ∈ lw_all := lw_g (lw_at lw_m4 17 rfl) rfl
theorem q894 : (Jvm.Cond.selects "KeptLeaves$ListLeaf" ({ cls := "KeptLeaves$Leaf", name := "takes", desc := "(LKeptLeaves$Leaf;)V" } : Jvm.MethodName) ({ cls := "KeptLeaves$Leaf", name := "takes", desc := "(LKeptLeaves$Leaf;)V" } : Jvm.MethodName)) ∈ lw_all := lw_g (lw_at lw_m4 72 rfl) rfl
theorem q1198 : (Jvm.Cond.selects "KeptLeaves$ListLeaf" ({ cls := "KeptLeaves$Leaf", name := "copy", desc := "()LKeptLeaves$Leaf;" } : Jvm.MethodName) ({ cls := "KeptLeaves$Leaf", name := "copy", desc := "()LKeptLeaves$Leaf;" } : Jvm.MethodName)) ∈ lw_all := lw_g (lw_at lw_m5 136 rfl) rfl
theorem q1216 : (Jvm.Cond.selects "KeptLeaves$ListLeaf" ({ cls := "KeptLeaves$Leaf", name := "another", desc := "()LKeptLeaves$Leaf;" } : Jvm.MethodName) ({ cls := "KeptLeaves$ListLeaf", name := "another", desc := "()LKeptLeaves$Leaf;" } : Jvm.MethodName)) ∈ lw_all := lw_g (lw_at lw_m5 154 rfl) rfl
theorem q1217 : (Jvm.Cond.instanceMethod ({ cls := "KeptLeaves$ListLeaf", name := "another", desc := "()LKeptLeaves$Leaf;" } : Jvm.MethodName)) ∈ lw_all := lw_g (lw_at lw_m5 155 rfl) rfl
theorem q1218 : (Jvm.Cond.code ({ cls := "KeptLeaves$ListLeaf", name := "another", desc := "()LKeptLeaves$Leaf;" } : Jvm.MethodName) prog_7_method_6_code (1 : Nat) (Option.some (Jvm.ClassFile.FieldType.object "KeptLeaves$Leaf"))) ∈ lw_all := lw_g (lw_at lw_m5 156 rfl) rfl
theorem q1219 : (Jvm.Cond.classLink "KeptLeaves$ListLeaf" (13 : Nat) "KeptLeaves$ListLeaf") ∈ lw_all := lw_g (lw_at lw_m5 157 rfl) rfl
theorem q1220 : (Jvm.Cond.methodLink "KeptLeaves$ListLeaf" (15 : Nat) ({ cls := "KeptLeaves$ListLeaf", name := "<init>", desc := "()V" } : Jvm.MethodName)) ∈ lw_all := lw_g (lw_at lw_m5 158 rfl) rfl
theorem q1270 : (Jvm.Cond.castable "KeptLeaves$ListLeaf" "KeptLeaves$Missed") ∈ lw_tbl := lw_at lw_m5 208 rfl
theorem q1271 : (Jvm.Cond.selects "KeptLeaves$ListLeaf" ({ cls := "KeptLeaves$Missed", name := "worth", desc := "()I" } : Jvm.MethodName) ({ cls := "KeptLeaves$ListLeaf", name := "worth", desc := "()I" } : Jvm.MethodName)) ∈ lw_all := lw_g (lw_at lw_m5 209 rfl) rfl
theorem q1272 : (Jvm.Cond.unhidden "KeptLeaves$ListLeaf" "worth" "()I") ∈ lw_tbl := lw_at lw_m5 210 rfl
theorem q1273 : (Jvm.Cond.publicMethod ({ cls := "KeptLeaves$ListLeaf", name := "worth", desc := "()I" } : Jvm.MethodName)) ∈ lw_tbl := lw_at lw_m5 211 rfl
theorem q1904 : (Jvm.Cond.castable "KeptLeaves$ListLeaf" "KeptLeaves$Leaf") ∈ lw_tbl := lw_at lw_m8 122 rfl
theorem in_X12 : ∀ w ∈ wsX120, w ∈ lw_all := lw_in wsX120 [702, 703, 704, 705] (by decide +kernel) (by decide +kernel)

/-! KeptLeaves$Words -/
set_option maxRecDepth 100000
def RX13 : String := "KeptLeaves$Words"
def TX13 : u_T := fun k => match k with
  | 0 => ("KeptLeaves$Words", "word", "[I", true)
  | 1 => ("KeptLeaves$Words", "value", "[I", true)
  | _ => ("KeptLeaves$Words", "many", "I", false)
def tyX13 : Nat → FieldType := fun k => match k with
  | 0 => .array .int
  | 1 => .array .int
  | _ => .int
abbrev wsX130 : List Cond := u_ws RX13 TX13 3
theorem nmX13 : ∀ a, a < 3 → ∀ b, b < 3 → a ≠ b → (TX13 a).2.1 ≠ (TX13 b).2.1 := by decide +kernel
theorem tyX13_ok : ∀ k, k < 3 → parseFieldDescriptor (TX13 k).2.2.1 = some (tyX13 k) := by decide +kernel
abbrev cX13_init : ByteArray := prog_17_method_1_code
def yX13_init : MethodName := ⟨RX13, "<init>", "()V"⟩
def dkwX13_init_0 : List UInt8 := [42, 183, 0, 3, 42, 16, 96, 188, 10, 181, 0, 9, 42, 16, 96, 188, 10, 181, 0, 15, 177]
abbrev dktX13_init_0 : List UInt8 := dkwX13_init_0 ++ []
theorem dksX13_init_0 : cX13_init.data.toList.drop 0 = dktX13_init_0 := by decide +kernel
theorem dX13_init_0 : decode cX13_init 0 = .ok (.aload_n 0, 1) := dk_42 (dk_at dksX13_init_0 0 rfl rfl)
theorem dX13_init_1 : decode cX13_init 1 = .ok (.invokespecial 3, 3) := dk_183 0 3 (dk_at dksX13_init_0 1 rfl rfl)
theorem dX13_init_4 : decode cX13_init 4 = .ok (.aload_n 0, 1) := dk_42 (dk_at dksX13_init_0 4 rfl rfl)
theorem dX13_init_5 : decode cX13_init 5 = .ok (.bipush 96, 2) := dk_16 96 (dk_at dksX13_init_0 5 rfl rfl)
theorem dX13_init_7 : decode cX13_init 7 = .ok (.newarray .int, 2) := dk_188_10 (dk_at dksX13_init_0 7 rfl rfl)
theorem dX13_init_9 : decode cX13_init 9 = .ok (.putfield 9, 3) := dk_181 0 9 (dk_at dksX13_init_0 9 rfl rfl)
theorem dX13_init_12 : decode cX13_init 12 = .ok (.aload_n 0, 1) := dk_42 (dk_at dksX13_init_0 12 rfl rfl)
theorem dX13_init_13 : decode cX13_init 13 = .ok (.bipush 96, 2) := dk_16 96 (dk_at dksX13_init_0 13 rfl rfl)
theorem dX13_init_15 : decode cX13_init 15 = .ok (.newarray .int, 2) := dk_188_10 (dk_at dksX13_init_0 15 rfl rfl)
theorem dX13_init_17 : decode cX13_init 17 = .ok (.putfield 15, 3) := dk_181 0 15 (dk_at dksX13_init_0 17 rfl rfl)
theorem dX13_init_20 : decode cX13_init 20 = .ok (.return_, 1) := dk_177 (dk_at dksX13_init_0 20 rfl rfl)
abbrev cX13_add : ByteArray := prog_17_method_2_code
def yX13_add : MethodName := ⟨RX13, "add", "(II)V"⟩
def dkwX13_add_1 : List UInt8 := [180, 0, 18, 4, 96, 181, 0, 18, 177]
abbrev dktX13_add_1 : List UInt8 := dkwX13_add_1 ++ []
def dkwX13_add_0 : List UInt8 := [42, 180, 0, 9, 42, 180, 0, 18, 27, 79, 42, 180, 0, 15, 42, 180, 0, 18, 28, 79, 42, 89]
abbrev dktX13_add_0 : List UInt8 := dkwX13_add_0 ++ dktX13_add_1
theorem dksX13_add_0 : cX13_add.data.toList.drop 0 = dktX13_add_0 := by decide +kernel
theorem dksX13_add_1 : cX13_add.data.toList.drop 22 = dktX13_add_1 := dk_seg dksX13_add_0 22 rfl rfl
theorem dX13_add_0 : decode cX13_add 0 = .ok (.aload_n 0, 1) := dk_42 (dk_at dksX13_add_0 0 rfl rfl)
theorem dX13_add_1 : decode cX13_add 1 = .ok (.getfield 9, 3) := dk_180 0 9 (dk_at dksX13_add_0 1 rfl rfl)
theorem dX13_add_4 : decode cX13_add 4 = .ok (.aload_n 0, 1) := dk_42 (dk_at dksX13_add_0 4 rfl rfl)
theorem dX13_add_5 : decode cX13_add 5 = .ok (.getfield 18, 3) := dk_180 0 18 (dk_at dksX13_add_0 5 rfl rfl)
theorem dX13_add_8 : decode cX13_add 8 = .ok (.iload_n 1, 1) := dk_27 (dk_at dksX13_add_0 8 rfl rfl)
theorem dX13_add_9 : decode cX13_add 9 = .ok (.iastore, 1) := dk_79 (dk_at dksX13_add_0 9 rfl rfl)
theorem dX13_add_10 : decode cX13_add 10 = .ok (.aload_n 0, 1) := dk_42 (dk_at dksX13_add_0 10 rfl rfl)
theorem dX13_add_11 : decode cX13_add 11 = .ok (.getfield 15, 3) := dk_180 0 15 (dk_at dksX13_add_0 11 rfl rfl)
theorem dX13_add_14 : decode cX13_add 14 = .ok (.aload_n 0, 1) := dk_42 (dk_at dksX13_add_0 14 rfl rfl)
theorem dX13_add_15 : decode cX13_add 15 = .ok (.getfield 18, 3) := dk_180 0 18 (dk_at dksX13_add_0 15 rfl rfl)
theorem dX13_add_18 : decode cX13_add 18 = .ok (.iload_n 2, 1) := dk_28 (dk_at dksX13_add_0 18 rfl rfl)
theorem dX13_add_19 : decode cX13_add 19 = .ok (.iastore, 1) := dk_79 (dk_at dksX13_add_0 19 rfl rfl)
theorem dX13_add_20 : decode cX13_add 20 = .ok (.aload_n 0, 1) := dk_42 (dk_at dksX13_add_0 20 rfl rfl)
theorem dX13_add_21 : decode cX13_add 21 = .ok (.dup, 1) := dk_89 (dk_at dksX13_add_0 21 rfl rfl)
theorem dX13_add_22 : decode cX13_add 22 = .ok (.getfield 18, 3) := dk_180 0 18 (dk_at dksX13_add_1 0 rfl rfl)
theorem dX13_add_25 : decode cX13_add 25 = .ok (.iconst 1, 1) := dk_4 (dk_at dksX13_add_1 3 rfl rfl)
theorem dX13_add_26 : decode cX13_add 26 = .ok (.iadd, 1) := dk_96 (dk_at dksX13_add_1 4 rfl rfl)
theorem dX13_add_27 : decode cX13_add 27 = .ok (.putfield 18, 3) := dk_181 0 18 (dk_at dksX13_add_1 5 rfl rfl)
theorem dX13_add_30 : decode cX13_add 30 = .ok (.return_, 1) := dk_177 (dk_at dksX13_add_1 8 rfl rfl)
theorem q126 : (Jvm.Cond.initialized "KeptLeaves$Words") ∈ lw_all := lw_g (lw_at lw_m1 24 rfl) rfl
theorem q522 : (Jvm.Cond.instantiable "KeptLeaves$Words" (3 : Nat)) ∈ lw_all := lw_g (lw_at lw_m2 180 rfl) rfl
theorem q524 : (Jvm.Cond.instanceMethod ({ cls := "KeptLeaves$Words", name := "<init>", desc := "()V" } : Jvm.MethodName)) ∈ lw_all := lw_g (lw_at lw_m2 182 rfl) rfl
theorem q525 : (Jvm.Cond.code ({ cls := "KeptLeaves$Words", name := "<init>", desc := "()V" } : Jvm.MethodName) prog_17_method_1_code (1 : Nat) (Option.none : Option Jvm.ClassFile.FieldType)) ∈ lw_all := lw_g (lw_at lw_m2 183 rfl) rfl
theorem q526 : (Jvm.Cond.methodLink "KeptLeaves$Words" (3 : Nat) ({ cls := "java/lang/Object", name := "<init>", desc := "()V" } : Jvm.MethodName)) ∈ lw_all := lw_g (lw_at lw_m2 184 rfl) rfl
theorem q527 : (Jvm.Cond.fieldLink "KeptLeaves$Words" (9 : Nat) "KeptLeaves$Words" "word" "[I") ∈ lw_all := lw_g (lw_at lw_m2 185 rfl) rfl
theorem q529 : (Jvm.Cond.fieldLink "KeptLeaves$Words" (15 : Nat) "KeptLeaves$Words" "value" "[I") ∈ lw_all := lw_g (lw_at lw_m2 187 rfl) rfl
theorem q531 : (Jvm.Cond.fieldLink "KeptLeaves$Words" (18 : Nat) "KeptLeaves$Words" "many" "I") ∈ lw_all := lw_g (lw_at lw_m2 189 rfl) rfl
theorem q533 : (Jvm.Cond.laysFinal "KeptLeaves$Words" "KeptLeaves$Words" "word" "[I") ∈ lw_all := lw_g (lw_at lw_m2 191 rfl) rfl
theorem q534 : (Jvm.Cond.soleField "KeptLeaves$Words" "word") ∈ lw_all := lw_g (lw_at lw_m2 192 rfl) rfl
theorem q535 : (Jvm.Cond.laysFinal "KeptLeaves$Words" "KeptLeaves$Words" "value" "[I") ∈ lw_all := lw_g (lw_at lw_m2 193 rfl) rfl
theorem q536 : (Jvm.Cond.soleField "KeptLeaves$Words" "value") ∈ lw_all := lw_g (lw_at lw_m2 194 rfl) rfl
theorem q537 : (Jvm.Cond.lays "KeptLeaves$Words" "KeptLeaves$Words" "many" "I") ∈ lw_all := lw_g (lw_at lw_m2 195 rfl) rfl
theorem q538 : (Jvm.Cond.soleField "KeptLeaves$Words" "many") ∈ lw_all := lw_g (lw_at lw_m2 196 rfl) rfl
theorem q539 : (Jvm.Cond.superclass "KeptLeaves$Words" "java/lang/Object") ∈ lw_all := lw_g (lw_at lw_m2 197 rfl) rfl
theorem q569 : (Jvm.Cond.instanceMethod ({ cls := "KeptLeaves$Words", name := "add", desc := "(II)V" } : Jvm.MethodName)) ∈ lw_all := lw_g (lw_at lw_m2 227 rfl) rfl
theorem q570 : (Jvm.Cond.selects "KeptLeaves$Words" ({ cls := "KeptLeaves$Words", name := "add", desc := "(II)V" } : Jvm.MethodName) ({ cls := "KeptLeaves$Words", name := "add", desc := "(II)V" } : Jvm.MethodName)) ∈ lw_all := lw_g (lw_at lw_m2 228 rfl) rfl
theorem q571 : (Jvm.Cond.code ({ cls := "KeptLeaves$Words", name := "add", desc := "(II)V" } : Jvm.MethodName) prog_17_method_2_code (3 : Nat) (Option.none : Option Jvm.ClassFile.FieldType)) ∈ lw_all := lw_g (lw_at lw_m2 229 rfl) rfl
theorem in_X13 : ∀ w ∈ wsX130, w ∈ lw_all := lw_in wsX130 [533, 535, 537] (by decide +kernel) (by decide +kernel)

/-! KeptLeaves$Text -/
set_option maxRecDepth 100000
def RX14 : String := "KeptLeaves$Text"
def TX14 : u_T := fun k => match k with
  | 0 => ("KeptLeaves$Text", "key", "I", true)
  | 1 => ("KeptLeaves$Text", "words", "LKeptLeaves$Words;", true)
  | _ => ("KeptLeaves$Text", "many", "I", true)
def tyX14 : Nat → FieldType := fun k => match k with
  | 0 => .int
  | 1 => .object "KeptLeaves$Words"
  | _ => .int
abbrev wsX140 : List Cond := u_ws RX14 TX14 3
theorem nmX14 : ∀ a, a < 3 → ∀ b, b < 3 → a ≠ b → (TX14 a).2.1 ≠ (TX14 b).2.1 := by decide +kernel
theorem tyX14_ok : ∀ k, k < 3 → parseFieldDescriptor (TX14 k).2.2.1 = some (tyX14 k) := by decide +kernel
abbrev cX14_init : ByteArray := prog_15_method_1_code
def yX14_init : MethodName := ⟨RX14, "<init>", "(ILKeptLeaves$Words;I)V"⟩
def dkwX14_init_0 : List UInt8 := [42, 183, 0, 1, 42, 27, 181, 0, 7, 42, 44, 181, 0, 13, 42, 29, 181, 0, 17, 177]
abbrev dktX14_init_0 : List UInt8 := dkwX14_init_0 ++ []
theorem dksX14_init_0 : cX14_init.data.toList.drop 0 = dktX14_init_0 := by decide +kernel
theorem dX14_init_0 : decode cX14_init 0 = .ok (.aload_n 0, 1) := dk_42 (dk_at dksX14_init_0 0 rfl rfl)
theorem dX14_init_1 : decode cX14_init 1 = .ok (.invokespecial 1, 3) := dk_183 0 1 (dk_at dksX14_init_0 1 rfl rfl)
theorem dX14_init_4 : decode cX14_init 4 = .ok (.aload_n 0, 1) := dk_42 (dk_at dksX14_init_0 4 rfl rfl)
theorem dX14_init_5 : decode cX14_init 5 = .ok (.iload_n 1, 1) := dk_27 (dk_at dksX14_init_0 5 rfl rfl)
theorem dX14_init_6 : decode cX14_init 6 = .ok (.putfield 7, 3) := dk_181 0 7 (dk_at dksX14_init_0 6 rfl rfl)
theorem dX14_init_9 : decode cX14_init 9 = .ok (.aload_n 0, 1) := dk_42 (dk_at dksX14_init_0 9 rfl rfl)
theorem dX14_init_10 : decode cX14_init 10 = .ok (.aload_n 2, 1) := dk_44 (dk_at dksX14_init_0 10 rfl rfl)
theorem dX14_init_11 : decode cX14_init 11 = .ok (.putfield 13, 3) := dk_181 0 13 (dk_at dksX14_init_0 11 rfl rfl)
theorem dX14_init_14 : decode cX14_init 14 = .ok (.aload_n 0, 1) := dk_42 (dk_at dksX14_init_0 14 rfl rfl)
theorem dX14_init_15 : decode cX14_init 15 = .ok (.iload_n 3, 1) := dk_29 (dk_at dksX14_init_0 15 rfl rfl)
theorem dX14_init_16 : decode cX14_init 16 = .ok (.putfield 17, 3) := dk_181 0 17 (dk_at dksX14_init_0 16 rfl rfl)
theorem dX14_init_19 : decode cX14_init 19 = .ok (.return_, 1) := dk_177 (dk_at dksX14_init_0 19 rfl rfl)
theorem q127 : (Jvm.Cond.initialized "KeptLeaves$Text") ∈ lw_all := lw_g (lw_at lw_m1 25 rfl) rfl
theorem q581 : (Jvm.Cond.instantiable "KeptLeaves$Text" (3 : Nat)) ∈ lw_all := lw_g (lw_at lw_m2 239 rfl) rfl
theorem q583 : (Jvm.Cond.instanceMethod ({ cls := "KeptLeaves$Text", name := "<init>", desc := "(ILKeptLeaves$Words;I)V" } : Jvm.MethodName)) ∈ lw_all := lw_g (lw_at lw_m3 1 rfl) rfl
theorem q584 : (Jvm.Cond.code ({ cls := "KeptLeaves$Text", name := "<init>", desc := "(ILKeptLeaves$Words;I)V" } : Jvm.MethodName) prog_15_method_1_code (4 : Nat) (Option.none : Option Jvm.ClassFile.FieldType)) ∈ lw_all := lw_g (lw_at lw_m3 2 rfl) rfl
theorem q585 : (Jvm.Cond.methodLink "KeptLeaves$Text" (1 : Nat) ({ cls := "java/lang/Object", name := "<init>", desc := "()V" } : Jvm.MethodName)) ∈ lw_all := lw_g (lw_at lw_m3 3 rfl) rfl
theorem q586 : (Jvm.Cond.fieldLink "KeptLeaves$Text" (7 : Nat) "KeptLeaves$Text" "key" "I") ∈ lw_all := lw_g (lw_at lw_m3 4 rfl) rfl
theorem q588 : (Jvm.Cond.fieldLink "KeptLeaves$Text" (13 : Nat) "KeptLeaves$Text" "words" "LKeptLeaves$Words;") ∈ lw_all := lw_g (lw_at lw_m3 6 rfl) rfl
theorem q590 : (Jvm.Cond.fieldLink "KeptLeaves$Text" (17 : Nat) "KeptLeaves$Text" "many" "I") ∈ lw_all := lw_g (lw_at lw_m3 8 rfl) rfl
theorem q592 : (Jvm.Cond.laysFinal "KeptLeaves$Text" "KeptLeaves$Text" "key" "I") ∈ lw_all := lw_g (lw_at lw_m3 10 rfl) rfl
theorem q593 : (Jvm.Cond.soleField "KeptLeaves$Text" "key") ∈ lw_all := lw_g (lw_at lw_m3 11 rfl) rfl
theorem q594 : (Jvm.Cond.laysFinal "KeptLeaves$Text" "KeptLeaves$Text" "words" "LKeptLeaves$Words;") ∈ lw_all := lw_g (lw_at lw_m3 12 rfl) rfl
theorem q595 : (Jvm.Cond.soleField "KeptLeaves$Text" "words") ∈ lw_all := lw_g (lw_at lw_m3 13 rfl) rfl
theorem q596 : (Jvm.Cond.laysFinal "KeptLeaves$Text" "KeptLeaves$Text" "many" "I") ∈ lw_all := lw_g (lw_at lw_m3 14 rfl) rfl
theorem q597 : (Jvm.Cond.soleField "KeptLeaves$Text" "many") ∈ lw_all := lw_g (lw_at lw_m3 15 rfl) rfl
theorem q598 : (Jvm.Cond.superclass "KeptLeaves$Text" "java/lang/Object") ∈ lw_all := lw_g (lw_at lw_m3 16 rfl) rfl
theorem in_X14 : ∀ w ∈ wsX140, w ∈ lw_all := lw_in wsX140 [592, 594, 596] (by decide +kernel) (by decide +kernel)

/-! KeptLeaves$Figure -/
set_option maxRecDepth 100000
def RX15 : String := "KeptLeaves$Figure"
def TX15 : u_T := fun k => match k with
  | _ => ("KeptLeaves$Figure", "v", "I", true)
def tyX15 : Nat → FieldType := fun k => match k with
  | _ => .int
abbrev wsX150 : List Cond := u_ws RX15 TX15 1
theorem nmX15 : ∀ a, a < 1 → ∀ b, b < 1 → a ≠ b → (TX15 a).2.1 ≠ (TX15 b).2.1 := by decide +kernel
theorem tyX15_ok : ∀ k, k < 1 → parseFieldDescriptor (TX15 k).2.2.1 = some (tyX15 k) := by decide +kernel
abbrev cX15_init : ByteArray := prog_5_method_1_code
def yX15_init : MethodName := ⟨RX15, "<init>", "(I)V"⟩
def dkwX15_init_0 : List UInt8 := [42, 183, 0, 1, 42, 27, 181, 0, 7, 177]
abbrev dktX15_init_0 : List UInt8 := dkwX15_init_0 ++ []
theorem dksX15_init_0 : cX15_init.data.toList.drop 0 = dktX15_init_0 := by decide +kernel
theorem dX15_init_0 : decode cX15_init 0 = .ok (.aload_n 0, 1) := dk_42 (dk_at dksX15_init_0 0 rfl rfl)
theorem dX15_init_1 : decode cX15_init 1 = .ok (.invokespecial 1, 3) := dk_183 0 1 (dk_at dksX15_init_0 1 rfl rfl)
theorem dX15_init_4 : decode cX15_init 4 = .ok (.aload_n 0, 1) := dk_42 (dk_at dksX15_init_0 4 rfl rfl)
theorem dX15_init_5 : decode cX15_init 5 = .ok (.iload_n 1, 1) := dk_27 (dk_at dksX15_init_0 5 rfl rfl)
theorem dX15_init_6 : decode cX15_init 6 = .ok (.putfield 7, 3) := dk_181 0 7 (dk_at dksX15_init_0 6 rfl rfl)
theorem dX15_init_9 : decode cX15_init 9 = .ok (.return_, 1) := dk_177 (dk_at dksX15_init_0 9 rfl rfl)
theorem q129 : (Jvm.Cond.initialized "KeptLeaves$Figure") ∈ lw_all := lw_g (lw_at lw_m1 27 rfl) rfl
theorem q1240 : (Jvm.Cond.instantiable "KeptLeaves$Figure" (1 : Nat)) ∈ lw_all := lw_g (lw_at lw_m5 178 rfl) rfl
theorem q1242 : (Jvm.Cond.instanceMethod ({ cls := "KeptLeaves$Figure", name := "<init>", desc := "(I)V" } : Jvm.MethodName)) ∈ lw_all := lw_g (lw_at lw_m5 180 rfl) rfl
theorem q1243 : (Jvm.Cond.code ({ cls := "KeptLeaves$Figure", name := "<init>", desc := "(I)V" } : Jvm.MethodName) prog_5_method_1_code (2 : Nat) (Option.none : Option Jvm.ClassFile.FieldType)) ∈ lw_all := lw_g (lw_at lw_m5 181 rfl) rfl
theorem q1244 : (Jvm.Cond.methodLink "KeptLeaves$Figure" (1 : Nat) ({ cls := "java/lang/Object", name := "<init>", desc := "()V" } : Jvm.MethodName)) ∈ lw_all := lw_g (lw_at lw_m5 182 rfl) rfl
theorem q1245 : (Jvm.Cond.fieldLink "KeptLeaves$Figure" (7 : Nat) "KeptLeaves$Figure" "v" "I") ∈ lw_all := lw_g (lw_at lw_m5 183 rfl) rfl
theorem q1247 : (Jvm.Cond.laysFinal "KeptLeaves$Figure" "KeptLeaves$Figure" "v" "I") ∈ lw_all := lw_g (lw_at lw_m5 185 rfl) rfl
theorem q1248 : (Jvm.Cond.soleField "KeptLeaves$Figure" "v") ∈ lw_all := lw_g (lw_at lw_m5 186 rfl) rfl
theorem q1249 : (Jvm.Cond.superclass "KeptLeaves$Figure" "java/lang/Object") ∈ lw_all := lw_g (lw_at lw_m5 187 rfl) rfl
theorem in_X15 : ∀ w ∈ wsX150, w ∈ lw_all := lw_in wsX150 [1247] (by decide +kernel) (by decide +kernel)

/-! KeptLeaves$Takes -/
set_option maxRecDepth 100000
def RX16 : String := "KeptLeaves$Takes"
abbrev cX16_room : ByteArray := prog_14_method_1_code
def yX16_room : MethodName := ⟨RX16, "room", "(I)I"⟩
theorem dX16_room_0 : decode cX16_room 0 = .ok (.iload_n 1, 1) := by decide +kernel
theorem dX16_room_1 : decode cX16_room 1 = .ok (.ireturn, 1) := by decide +kernel
theorem q743 : (Jvm.Cond.declares ({ cls := "KeptLeaves$Takes", name := "room", desc := "(I)I" } : Jvm.MethodName)) ∈ lw_tbl := lw_at lw_m3 161 rfl
theorem q747 : (Jvm.Cond.instanceMethod ({ cls := "KeptLeaves$Takes", name := "room", desc := "(I)I" } : Jvm.MethodName)) ∈ lw_all := lw_g (lw_at lw_m3 165 rfl) rfl
theorem q748 : (Jvm.Cond.code ({ cls := "KeptLeaves$Takes", name := "room", desc := "(I)I" } : Jvm.MethodName) prog_14_method_1_code (2 : Nat) (Option.some Jvm.ClassFile.FieldType.int)) ∈ lw_all := lw_g (lw_at lw_m3 166 rfl) rfl
theorem q764 : (Jvm.Cond.publicMethod ({ cls := "KeptLeaves$Takes", name := "room", desc := "(I)I" } : Jvm.MethodName)) ∈ lw_tbl := lw_at lw_m3 182 rfl

/-! KeptLeaves$Missed -/
set_option maxRecDepth 100000
def RX17 : String := "KeptLeaves$Missed"
abbrev cX17_miss : ByteArray := prog_8_method_1_code
def yX17_miss : MethodName := ⟨RX17, "miss", "(II)I"⟩
theorem dX17_miss_0 : decode cX17_miss 0 = .ok (.iload_n 1, 1) := by decide +kernel
theorem dX17_miss_1 : decode cX17_miss 1 = .ok (.ireturn, 1) := by decide +kernel
theorem q773 : (Jvm.Cond.declares ({ cls := "KeptLeaves$Missed", name := "miss", desc := "(II)I" } : Jvm.MethodName)) ∈ lw_tbl := lw_at lw_m3 191 rfl
theorem q777 : (Jvm.Cond.instanceMethod ({ cls := "KeptLeaves$Missed", name := "miss", desc := "(II)I" } : Jvm.MethodName)) ∈ lw_all := lw_g (lw_at lw_m3 195 rfl) rfl
theorem q778 : (Jvm.Cond.code ({ cls := "KeptLeaves$Missed", name := "miss", desc := "(II)I" } : Jvm.MethodName) prog_8_method_1_code (3 : Nat) (Option.some Jvm.ClassFile.FieldType.int)) ∈ lw_all := lw_g (lw_at lw_m3 196 rfl) rfl
theorem q794 : (Jvm.Cond.publicMethod ({ cls := "KeptLeaves$Missed", name := "miss", desc := "(II)I" } : Jvm.MethodName)) ∈ lw_tbl := lw_at lw_m3 212 rfl
theorem q1256 : (Jvm.Cond.interfaceMethod "KeptLeaves$Missed" "KeptLeaves$Missed" "worth" "()I") ∈ lw_tbl := lw_at lw_m5 194 rfl
theorem q1257 : (Jvm.Cond.declares ({ cls := "KeptLeaves$Missed", name := "worth", desc := "()I" } : Jvm.MethodName)) ∈ lw_tbl := lw_at lw_m5 195 rfl

/-! KeptLeaves$Shelf -/
set_option maxRecDepth 100000
def RX2 : String := "KeptLeaves$Shelf"
def TX2 : u_T := fun k => match k with
  | 0 => ("KeptLeaves$Shelf", "z", "I", false)
  | 1 => ("KeptLeaves$Shelf", "turn", "I", false)
  | 2 => ("KeptLeaves$Shelf", "cost", "I", false)
  | 3 => ("KeptLeaves$Shelf", "set", "I", false)
  | 4 => ("KeptLeaves$Shelf", "many", "I", false)
  | 5 => ("KeptLeaves$Shelf", "order", "[I", true)
  | 6 => ("KeptLeaves$Shelf", "last", "[I", true)
  | _ => ("KeptLeaves$Shelf", "times", "[I", true)
def tyX2 : Nat → FieldType := fun k => match k with
  | 0 => .int
  | 1 => .int
  | 2 => .int
  | 3 => .int
  | 4 => .int
  | 5 => .array .int
  | 6 => .array .int
  | _ => .array .int
abbrev wsX20 : List Cond := u_ws RX2 TX2 8
theorem nmX2 : ∀ a, a < 8 → ∀ b, b < 8 → a ≠ b → (TX2 a).2.1 ≠ (TX2 b).2.1 := by decide +kernel
theorem tyX2_ok : ∀ k, k < 8 → parseFieldDescriptor (TX2 k).2.2.1 = some (tyX2 k) := by decide +kernel
abbrev cX2_init : ByteArray := prog_11_method_1_code
def yX2_init : MethodName := ⟨RX2, "<init>", "()V"⟩
def dkwX2_init_1 : List UInt8 := [181, 0, 19, 42, 16, 8, 188, 10, 181, 0, 22, 177]
abbrev dktX2_init_1 : List UInt8 := dkwX2_init_1 ++ []
def dkwX2_init_0 : List UInt8 := [42, 183, 0, 3, 42, 4, 181, 0, 9, 42, 16, 8, 188, 10, 181, 0, 15, 42, 16, 8, 188, 10]
abbrev dktX2_init_0 : List UInt8 := dkwX2_init_0 ++ dktX2_init_1
theorem dksX2_init_0 : cX2_init.data.toList.drop 0 = dktX2_init_0 := by decide +kernel
theorem dksX2_init_1 : cX2_init.data.toList.drop 22 = dktX2_init_1 := dk_seg dksX2_init_0 22 rfl rfl
theorem dX2_init_0 : decode cX2_init 0 = .ok (.aload_n 0, 1) := dk_42 (dk_at dksX2_init_0 0 rfl rfl)
theorem dX2_init_1 : decode cX2_init 1 = .ok (.invokespecial 3, 3) := dk_183 0 3 (dk_at dksX2_init_0 1 rfl rfl)
theorem dX2_init_4 : decode cX2_init 4 = .ok (.aload_n 0, 1) := dk_42 (dk_at dksX2_init_0 4 rfl rfl)
theorem dX2_init_5 : decode cX2_init 5 = .ok (.iconst 1, 1) := dk_4 (dk_at dksX2_init_0 5 rfl rfl)
theorem dX2_init_6 : decode cX2_init 6 = .ok (.putfield 9, 3) := dk_181 0 9 (dk_at dksX2_init_0 6 rfl rfl)
theorem dX2_init_9 : decode cX2_init 9 = .ok (.aload_n 0, 1) := dk_42 (dk_at dksX2_init_0 9 rfl rfl)
theorem dX2_init_10 : decode cX2_init 10 = .ok (.bipush 8, 2) := dk_16 8 (dk_at dksX2_init_0 10 rfl rfl)
theorem dX2_init_12 : decode cX2_init 12 = .ok (.newarray .int, 2) := dk_188_10 (dk_at dksX2_init_0 12 rfl rfl)
theorem dX2_init_14 : decode cX2_init 14 = .ok (.putfield 15, 3) := dk_181 0 15 (dk_at dksX2_init_0 14 rfl rfl)
theorem dX2_init_17 : decode cX2_init 17 = .ok (.aload_n 0, 1) := dk_42 (dk_at dksX2_init_0 17 rfl rfl)
theorem dX2_init_18 : decode cX2_init 18 = .ok (.bipush 8, 2) := dk_16 8 (dk_at dksX2_init_0 18 rfl rfl)
theorem dX2_init_20 : decode cX2_init 20 = .ok (.newarray .int, 2) := dk_188_10 (dk_at dksX2_init_0 20 rfl rfl)
theorem dX2_init_22 : decode cX2_init 22 = .ok (.putfield 19, 3) := dk_181 0 19 (dk_at dksX2_init_1 0 rfl rfl)
theorem dX2_init_25 : decode cX2_init 25 = .ok (.aload_n 0, 1) := dk_42 (dk_at dksX2_init_1 3 rfl rfl)
theorem dX2_init_26 : decode cX2_init 26 = .ok (.bipush 8, 2) := dk_16 8 (dk_at dksX2_init_1 4 rfl rfl)
theorem dX2_init_28 : decode cX2_init 28 = .ok (.newarray .int, 2) := dk_188_10 (dk_at dksX2_init_1 6 rfl rfl)
theorem dX2_init_30 : decode cX2_init 30 = .ok (.putfield 22, 3) := dk_181 0 22 (dk_at dksX2_init_1 8 rfl rfl)
theorem dX2_init_33 : decode cX2_init 33 = .ok (.return_, 1) := dk_177 (dk_at dksX2_init_1 11 rfl rfl)
abbrev cX2_placeOf : ByteArray := prog_11_method_5_code
def yX2_placeOf : MethodName := ⟨RX2, "placeOf", "(I)I"⟩
def dkwX2_placeOf_1 : List UInt8 := [167, 255, 235, 28, 42, 180, 0, 34, 160, 0, 7, 2, 167, 0, 4, 28, 172]
abbrev dktX2_placeOf_1 : List UInt8 := dkwX2_placeOf_1 ++ []
def dkwX2_placeOf_0 : List UInt8 := [3, 61, 28, 42, 180, 0, 34, 162, 0, 19, 42, 180, 0, 15, 28, 46, 27, 159, 0, 9, 132, 2, 1]
abbrev dktX2_placeOf_0 : List UInt8 := dkwX2_placeOf_0 ++ dktX2_placeOf_1
theorem dksX2_placeOf_0 : cX2_placeOf.data.toList.drop 0 = dktX2_placeOf_0 := by decide +kernel
theorem dksX2_placeOf_1 : cX2_placeOf.data.toList.drop 23 = dktX2_placeOf_1 := dk_seg dksX2_placeOf_0 23 rfl rfl
theorem dX2_placeOf_0 : decode cX2_placeOf 0 = .ok (.iconst 0, 1) := dk_3 (dk_at dksX2_placeOf_0 0 rfl rfl)
theorem dX2_placeOf_1 : decode cX2_placeOf 1 = .ok (.istore_n 2, 1) := dk_61 (dk_at dksX2_placeOf_0 1 rfl rfl)
theorem dX2_placeOf_2 : decode cX2_placeOf 2 = .ok (.iload_n 2, 1) := dk_28 (dk_at dksX2_placeOf_0 2 rfl rfl)
theorem dX2_placeOf_3 : decode cX2_placeOf 3 = .ok (.aload_n 0, 1) := dk_42 (dk_at dksX2_placeOf_0 3 rfl rfl)
theorem dX2_placeOf_4 : decode cX2_placeOf 4 = .ok (.getfield 34, 3) := dk_180 0 34 (dk_at dksX2_placeOf_0 4 rfl rfl)
theorem dX2_placeOf_7 : decode cX2_placeOf 7 = .ok (.if_icmp .ge 19, 3) := dk_162 0 19 (dk_at dksX2_placeOf_0 7 rfl rfl)
theorem dX2_placeOf_10 : decode cX2_placeOf 10 = .ok (.aload_n 0, 1) := dk_42 (dk_at dksX2_placeOf_0 10 rfl rfl)
theorem dX2_placeOf_11 : decode cX2_placeOf 11 = .ok (.getfield 15, 3) := dk_180 0 15 (dk_at dksX2_placeOf_0 11 rfl rfl)
theorem dX2_placeOf_14 : decode cX2_placeOf 14 = .ok (.iload_n 2, 1) := dk_28 (dk_at dksX2_placeOf_0 14 rfl rfl)
theorem dX2_placeOf_15 : decode cX2_placeOf 15 = .ok (.iaload, 1) := dk_46 (dk_at dksX2_placeOf_0 15 rfl rfl)
theorem dX2_placeOf_16 : decode cX2_placeOf 16 = .ok (.iload_n 1, 1) := dk_27 (dk_at dksX2_placeOf_0 16 rfl rfl)
theorem dX2_placeOf_17 : decode cX2_placeOf 17 = .ok (.if_icmp .eq 9, 3) := dk_159 0 9 (dk_at dksX2_placeOf_0 17 rfl rfl)
theorem dX2_placeOf_20 : decode cX2_placeOf 20 = .ok (.iinc 2 1, 3) := dk_132 2 1 (dk_at dksX2_placeOf_0 20 rfl rfl)
theorem dX2_placeOf_23 : decode cX2_placeOf 23 = .ok (.goto (-21), 3) := dk_167 255 235 (dk_at dksX2_placeOf_1 0 rfl rfl)
theorem dX2_placeOf_26 : decode cX2_placeOf 26 = .ok (.iload_n 2, 1) := dk_28 (dk_at dksX2_placeOf_1 3 rfl rfl)
theorem dX2_placeOf_27 : decode cX2_placeOf 27 = .ok (.aload_n 0, 1) := dk_42 (dk_at dksX2_placeOf_1 4 rfl rfl)
theorem dX2_placeOf_28 : decode cX2_placeOf 28 = .ok (.getfield 34, 3) := dk_180 0 34 (dk_at dksX2_placeOf_1 5 rfl rfl)
theorem dX2_placeOf_31 : decode cX2_placeOf 31 = .ok (.if_icmp .ne 7, 3) := dk_160 0 7 (dk_at dksX2_placeOf_1 8 rfl rfl)
theorem dX2_placeOf_34 : decode cX2_placeOf 34 = .ok (.iconst (-1), 1) := dk_2 (dk_at dksX2_placeOf_1 11 rfl rfl)
theorem dX2_placeOf_35 : decode cX2_placeOf 35 = .ok (.goto 4, 3) := dk_167 0 4 (dk_at dksX2_placeOf_1 12 rfl rfl)
theorem dX2_placeOf_38 : decode cX2_placeOf 38 = .ok (.iload_n 2, 1) := dk_28 (dk_at dksX2_placeOf_1 15 rfl rfl)
theorem dX2_placeOf_39 : decode cX2_placeOf 39 = .ok (.ireturn, 1) := dk_172 (dk_at dksX2_placeOf_1 16 rfl rfl)
abbrev cX2_draw : ByteArray := prog_11_method_3_code
def yX2_draw : MethodName := ⟨RX2, "draw", "()I"⟩
def dkwX2_draw_0 : List UInt8 := [42, 42, 180, 0, 9, 18, 41, 104, 17, 48, 57, 96, 181, 0, 9, 42, 180, 0, 9, 16, 8, 124, 172]
abbrev dktX2_draw_0 : List UInt8 := dkwX2_draw_0 ++ []
theorem dksX2_draw_0 : cX2_draw.data.toList.drop 0 = dktX2_draw_0 := by decide +kernel
theorem dX2_draw_0 : decode cX2_draw 0 = .ok (.aload_n 0, 1) := dk_42 (dk_at dksX2_draw_0 0 rfl rfl)
theorem dX2_draw_1 : decode cX2_draw 1 = .ok (.aload_n 0, 1) := dk_42 (dk_at dksX2_draw_0 1 rfl rfl)
theorem dX2_draw_2 : decode cX2_draw 2 = .ok (.getfield 9, 3) := dk_180 0 9 (dk_at dksX2_draw_0 2 rfl rfl)
theorem dX2_draw_5 : decode cX2_draw 5 = .ok (.ldc 41, 2) := dk_18 41 (dk_at dksX2_draw_0 5 rfl rfl)
theorem dX2_draw_7 : decode cX2_draw 7 = .ok (.imul, 1) := dk_104 (dk_at dksX2_draw_0 7 rfl rfl)
theorem dX2_draw_8 : decode cX2_draw 8 = .ok (.sipush 12345, 3) := dk_17 48 57 (dk_at dksX2_draw_0 8 rfl rfl)
theorem dX2_draw_11 : decode cX2_draw 11 = .ok (.iadd, 1) := dk_96 (dk_at dksX2_draw_0 11 rfl rfl)
theorem dX2_draw_12 : decode cX2_draw 12 = .ok (.putfield 9, 3) := dk_181 0 9 (dk_at dksX2_draw_0 12 rfl rfl)
theorem dX2_draw_15 : decode cX2_draw 15 = .ok (.aload_n 0, 1) := dk_42 (dk_at dksX2_draw_0 15 rfl rfl)
theorem dX2_draw_16 : decode cX2_draw 16 = .ok (.getfield 9, 3) := dk_180 0 9 (dk_at dksX2_draw_0 16 rfl rfl)
theorem dX2_draw_19 : decode cX2_draw 19 = .ok (.bipush 8, 2) := dk_16 8 (dk_at dksX2_draw_0 19 rfl rfl)
theorem dX2_draw_21 : decode cX2_draw 21 = .ok (.iushr, 1) := dk_124 (dk_at dksX2_draw_0 21 rfl rfl)
theorem dX2_draw_22 : decode cX2_draw 22 = .ok (.ireturn, 1) := dk_172 (dk_at dksX2_draw_0 22 rfl rfl)
abbrev cX2_goes : ByteArray := prog_11_method_7_code
def yX2_goes : MethodName := ⟨RX2, "goes", "(I)V"⟩
def dkwX2_goes_2 : List UInt8 := [42, 89, 180, 0, 31, 4, 27, 120, 2, 130, 126, 181, 0, 31, 177]
abbrev dktX2_goes_2 : List UInt8 := dkwX2_goes_2 ++ []
def dkwX2_goes_1 : List UInt8 := [180, 0, 15, 28, 4, 96, 46, 79, 132, 2, 1, 167, 255, 229, 42, 89, 180, 0, 34, 4, 100, 181, 0, 34]
abbrev dktX2_goes_1 : List UInt8 := dkwX2_goes_1 ++ dktX2_goes_2
def dkwX2_goes_0 : List UInt8 := [42, 27, 182, 0, 42, 61, 28, 42, 180, 0, 34, 4, 100, 162, 0, 23, 42, 180, 0, 15, 28, 42]
abbrev dktX2_goes_0 : List UInt8 := dkwX2_goes_0 ++ dktX2_goes_1
theorem dksX2_goes_0 : cX2_goes.data.toList.drop 0 = dktX2_goes_0 := by decide +kernel
theorem dksX2_goes_1 : cX2_goes.data.toList.drop 22 = dktX2_goes_1 := dk_seg dksX2_goes_0 22 rfl rfl
theorem dksX2_goes_2 : cX2_goes.data.toList.drop 46 = dktX2_goes_2 := dk_seg dksX2_goes_1 24 rfl rfl
theorem dX2_goes_0 : decode cX2_goes 0 = .ok (.aload_n 0, 1) := dk_42 (dk_at dksX2_goes_0 0 rfl rfl)
theorem dX2_goes_1 : decode cX2_goes 1 = .ok (.iload_n 1, 1) := dk_27 (dk_at dksX2_goes_0 1 rfl rfl)
theorem dX2_goes_2 : decode cX2_goes 2 = .ok (.invokevirtual 42, 3) := dk_182 0 42 (dk_at dksX2_goes_0 2 rfl rfl)
theorem dX2_goes_5 : decode cX2_goes 5 = .ok (.istore_n 2, 1) := dk_61 (dk_at dksX2_goes_0 5 rfl rfl)
theorem dX2_goes_6 : decode cX2_goes 6 = .ok (.iload_n 2, 1) := dk_28 (dk_at dksX2_goes_0 6 rfl rfl)
theorem dX2_goes_7 : decode cX2_goes 7 = .ok (.aload_n 0, 1) := dk_42 (dk_at dksX2_goes_0 7 rfl rfl)
theorem dX2_goes_8 : decode cX2_goes 8 = .ok (.getfield 34, 3) := dk_180 0 34 (dk_at dksX2_goes_0 8 rfl rfl)
theorem dX2_goes_11 : decode cX2_goes 11 = .ok (.iconst 1, 1) := dk_4 (dk_at dksX2_goes_0 11 rfl rfl)
theorem dX2_goes_12 : decode cX2_goes 12 = .ok (.isub, 1) := dk_100 (dk_at dksX2_goes_0 12 rfl rfl)
theorem dX2_goes_13 : decode cX2_goes 13 = .ok (.if_icmp .ge 23, 3) := dk_162 0 23 (dk_at dksX2_goes_0 13 rfl rfl)
theorem dX2_goes_16 : decode cX2_goes 16 = .ok (.aload_n 0, 1) := dk_42 (dk_at dksX2_goes_0 16 rfl rfl)
theorem dX2_goes_17 : decode cX2_goes 17 = .ok (.getfield 15, 3) := dk_180 0 15 (dk_at dksX2_goes_0 17 rfl rfl)
theorem dX2_goes_20 : decode cX2_goes 20 = .ok (.iload_n 2, 1) := dk_28 (dk_at dksX2_goes_0 20 rfl rfl)
theorem dX2_goes_21 : decode cX2_goes 21 = .ok (.aload_n 0, 1) := dk_42 (dk_at dksX2_goes_0 21 rfl rfl)
theorem dX2_goes_22 : decode cX2_goes 22 = .ok (.getfield 15, 3) := dk_180 0 15 (dk_at dksX2_goes_1 0 rfl rfl)
theorem dX2_goes_25 : decode cX2_goes 25 = .ok (.iload_n 2, 1) := dk_28 (dk_at dksX2_goes_1 3 rfl rfl)
theorem dX2_goes_26 : decode cX2_goes 26 = .ok (.iconst 1, 1) := dk_4 (dk_at dksX2_goes_1 4 rfl rfl)
theorem dX2_goes_27 : decode cX2_goes 27 = .ok (.iadd, 1) := dk_96 (dk_at dksX2_goes_1 5 rfl rfl)
theorem dX2_goes_28 : decode cX2_goes 28 = .ok (.iaload, 1) := dk_46 (dk_at dksX2_goes_1 6 rfl rfl)
theorem dX2_goes_29 : decode cX2_goes 29 = .ok (.iastore, 1) := dk_79 (dk_at dksX2_goes_1 7 rfl rfl)
theorem dX2_goes_30 : decode cX2_goes 30 = .ok (.iinc 2 1, 3) := dk_132 2 1 (dk_at dksX2_goes_1 8 rfl rfl)
theorem dX2_goes_33 : decode cX2_goes 33 = .ok (.goto (-27), 3) := dk_167 255 229 (dk_at dksX2_goes_1 11 rfl rfl)
theorem dX2_goes_36 : decode cX2_goes 36 = .ok (.aload_n 0, 1) := dk_42 (dk_at dksX2_goes_1 14 rfl rfl)
theorem dX2_goes_37 : decode cX2_goes 37 = .ok (.dup, 1) := dk_89 (dk_at dksX2_goes_1 15 rfl rfl)
theorem dX2_goes_38 : decode cX2_goes 38 = .ok (.getfield 34, 3) := dk_180 0 34 (dk_at dksX2_goes_1 16 rfl rfl)
theorem dX2_goes_41 : decode cX2_goes 41 = .ok (.iconst 1, 1) := dk_4 (dk_at dksX2_goes_1 19 rfl rfl)
theorem dX2_goes_42 : decode cX2_goes 42 = .ok (.isub, 1) := dk_100 (dk_at dksX2_goes_1 20 rfl rfl)
theorem dX2_goes_43 : decode cX2_goes 43 = .ok (.putfield 34, 3) := dk_181 0 34 (dk_at dksX2_goes_1 21 rfl rfl)
theorem dX2_goes_46 : decode cX2_goes 46 = .ok (.aload_n 0, 1) := dk_42 (dk_at dksX2_goes_2 0 rfl rfl)
theorem dX2_goes_47 : decode cX2_goes 47 = .ok (.dup, 1) := dk_89 (dk_at dksX2_goes_2 1 rfl rfl)
theorem dX2_goes_48 : decode cX2_goes 48 = .ok (.getfield 31, 3) := dk_180 0 31 (dk_at dksX2_goes_2 2 rfl rfl)
theorem dX2_goes_51 : decode cX2_goes 51 = .ok (.iconst 1, 1) := dk_4 (dk_at dksX2_goes_2 5 rfl rfl)
theorem dX2_goes_52 : decode cX2_goes 52 = .ok (.iload_n 1, 1) := dk_27 (dk_at dksX2_goes_2 6 rfl rfl)
theorem dX2_goes_53 : decode cX2_goes 53 = .ok (.ishl, 1) := dk_120 (dk_at dksX2_goes_2 7 rfl rfl)
theorem dX2_goes_54 : decode cX2_goes 54 = .ok (.iconst (-1), 1) := dk_2 (dk_at dksX2_goes_2 8 rfl rfl)
theorem dX2_goes_55 : decode cX2_goes 55 = .ok (.ixor, 1) := dk_130 (dk_at dksX2_goes_2 9 rfl rfl)
theorem dX2_goes_56 : decode cX2_goes 56 = .ok (.iand, 1) := dk_126 (dk_at dksX2_goes_2 10 rfl rfl)
theorem dX2_goes_57 : decode cX2_goes 57 = .ok (.putfield 31, 3) := dk_181 0 31 (dk_at dksX2_goes_2 11 rfl rfl)
theorem dX2_goes_60 : decode cX2_goes 60 = .ok (.return_, 1) := dk_177 (dk_at dksX2_goes_2 14 rfl rfl)
abbrev cX2_has : ByteArray := prog_11_method_4_code
def yX2_has : MethodName := ⟨RX2, "has", "(I)Z"⟩
def dkwX2_has_0 : List UInt8 := [42, 180, 0, 31, 27, 122, 4, 126, 4, 160, 0, 7, 4, 167, 0, 4, 3, 172]
abbrev dktX2_has_0 : List UInt8 := dkwX2_has_0 ++ []
theorem dksX2_has_0 : cX2_has.data.toList.drop 0 = dktX2_has_0 := by decide +kernel
theorem dX2_has_0 : decode cX2_has 0 = .ok (.aload_n 0, 1) := dk_42 (dk_at dksX2_has_0 0 rfl rfl)
theorem dX2_has_1 : decode cX2_has 1 = .ok (.getfield 31, 3) := dk_180 0 31 (dk_at dksX2_has_0 1 rfl rfl)
theorem dX2_has_4 : decode cX2_has 4 = .ok (.iload_n 1, 1) := dk_27 (dk_at dksX2_has_0 4 rfl rfl)
theorem dX2_has_5 : decode cX2_has 5 = .ok (.ishr, 1) := dk_122 (dk_at dksX2_has_0 5 rfl rfl)
theorem dX2_has_6 : decode cX2_has 6 = .ok (.iconst 1, 1) := dk_4 (dk_at dksX2_has_0 6 rfl rfl)
theorem dX2_has_7 : decode cX2_has 7 = .ok (.iand, 1) := dk_126 (dk_at dksX2_has_0 7 rfl rfl)
theorem dX2_has_8 : decode cX2_has 8 = .ok (.iconst 1, 1) := dk_4 (dk_at dksX2_has_0 8 rfl rfl)
theorem dX2_has_9 : decode cX2_has 9 = .ok (.if_icmp .ne 7, 3) := dk_160 0 7 (dk_at dksX2_has_0 9 rfl rfl)
theorem dX2_has_12 : decode cX2_has 12 = .ok (.iconst 1, 1) := dk_4 (dk_at dksX2_has_0 12 rfl rfl)
theorem dX2_has_13 : decode cX2_has 13 = .ok (.goto 4, 3) := dk_167 0 4 (dk_at dksX2_has_0 13 rfl rfl)
theorem dX2_has_16 : decode cX2_has 16 = .ok (.iconst 0, 1) := dk_3 (dk_at dksX2_has_0 16 rfl rfl)
theorem dX2_has_17 : decode cX2_has 17 = .ok (.ireturn, 1) := dk_172 (dk_at dksX2_has_0 17 rfl rfl)
abbrev cX2_comes : ByteArray := prog_11_method_6_code
def yX2_comes : MethodName := ⟨RX2, "comes", "(I)V"⟩
def dkwX2_comes_1 : List UInt8 := [180, 0, 31, 4, 27, 120, 128, 181, 0, 31, 177]
abbrev dktX2_comes_1 : List UInt8 := dkwX2_comes_1 ++ []
def dkwX2_comes_0 : List UInt8 := [42, 180, 0, 15, 42, 180, 0, 34, 27, 79, 42, 89, 180, 0, 34, 4, 96, 181, 0, 34, 42, 89]
abbrev dktX2_comes_0 : List UInt8 := dkwX2_comes_0 ++ dktX2_comes_1
theorem dksX2_comes_0 : cX2_comes.data.toList.drop 0 = dktX2_comes_0 := by decide +kernel
theorem dksX2_comes_1 : cX2_comes.data.toList.drop 22 = dktX2_comes_1 := dk_seg dksX2_comes_0 22 rfl rfl
theorem dX2_comes_0 : decode cX2_comes 0 = .ok (.aload_n 0, 1) := dk_42 (dk_at dksX2_comes_0 0 rfl rfl)
theorem dX2_comes_1 : decode cX2_comes 1 = .ok (.getfield 15, 3) := dk_180 0 15 (dk_at dksX2_comes_0 1 rfl rfl)
theorem dX2_comes_4 : decode cX2_comes 4 = .ok (.aload_n 0, 1) := dk_42 (dk_at dksX2_comes_0 4 rfl rfl)
theorem dX2_comes_5 : decode cX2_comes 5 = .ok (.getfield 34, 3) := dk_180 0 34 (dk_at dksX2_comes_0 5 rfl rfl)
theorem dX2_comes_8 : decode cX2_comes 8 = .ok (.iload_n 1, 1) := dk_27 (dk_at dksX2_comes_0 8 rfl rfl)
theorem dX2_comes_9 : decode cX2_comes 9 = .ok (.iastore, 1) := dk_79 (dk_at dksX2_comes_0 9 rfl rfl)
theorem dX2_comes_10 : decode cX2_comes 10 = .ok (.aload_n 0, 1) := dk_42 (dk_at dksX2_comes_0 10 rfl rfl)
theorem dX2_comes_11 : decode cX2_comes 11 = .ok (.dup, 1) := dk_89 (dk_at dksX2_comes_0 11 rfl rfl)
theorem dX2_comes_12 : decode cX2_comes 12 = .ok (.getfield 34, 3) := dk_180 0 34 (dk_at dksX2_comes_0 12 rfl rfl)
theorem dX2_comes_15 : decode cX2_comes 15 = .ok (.iconst 1, 1) := dk_4 (dk_at dksX2_comes_0 15 rfl rfl)
theorem dX2_comes_16 : decode cX2_comes 16 = .ok (.iadd, 1) := dk_96 (dk_at dksX2_comes_0 16 rfl rfl)
theorem dX2_comes_17 : decode cX2_comes 17 = .ok (.putfield 34, 3) := dk_181 0 34 (dk_at dksX2_comes_0 17 rfl rfl)
theorem dX2_comes_20 : decode cX2_comes 20 = .ok (.aload_n 0, 1) := dk_42 (dk_at dksX2_comes_0 20 rfl rfl)
theorem dX2_comes_21 : decode cX2_comes 21 = .ok (.dup, 1) := dk_89 (dk_at dksX2_comes_0 21 rfl rfl)
theorem dX2_comes_22 : decode cX2_comes 22 = .ok (.getfield 31, 3) := dk_180 0 31 (dk_at dksX2_comes_1 0 rfl rfl)
theorem dX2_comes_25 : decode cX2_comes 25 = .ok (.iconst 1, 1) := dk_4 (dk_at dksX2_comes_1 3 rfl rfl)
theorem dX2_comes_26 : decode cX2_comes 26 = .ok (.iload_n 1, 1) := dk_27 (dk_at dksX2_comes_1 4 rfl rfl)
theorem dX2_comes_27 : decode cX2_comes 27 = .ok (.ishl, 1) := dk_120 (dk_at dksX2_comes_1 5 rfl rfl)
theorem dX2_comes_28 : decode cX2_comes 28 = .ok (.ior, 1) := dk_128 (dk_at dksX2_comes_1 6 rfl rfl)
theorem dX2_comes_29 : decode cX2_comes 29 = .ok (.putfield 31, 3) := dk_181 0 31 (dk_at dksX2_comes_1 7 rfl rfl)
theorem dX2_comes_32 : decode cX2_comes 32 = .ok (.return_, 1) := dk_177 (dk_at dksX2_comes_1 10 rfl rfl)
abbrev cX2_copyOf : ByteArray := prog_11_method_2_code
def yX2_copyOf : MethodName := ⟨RX2, "copyOf", "(LKeptLeaves$Shelf;)V"⟩
def dkwX2_copyOf_3 : List UInt8 := [184, 0, 37, 177]
abbrev dktX2_copyOf_3 : List UInt8 := dkwX2_copyOf_3 ++ []
def dkwX2_copyOf_2 : List UInt8 := [184, 0, 37, 43, 180, 0, 19, 42, 180, 0, 19, 184, 0, 37, 43, 180, 0, 22, 42, 180, 0, 22]
abbrev dktX2_copyOf_2 : List UInt8 := dkwX2_copyOf_2 ++ dktX2_copyOf_3
def dkwX2_copyOf_1 : List UInt8 := [42, 43, 180, 0, 31, 181, 0, 31, 42, 43, 180, 0, 34, 181, 0, 34, 43, 180, 0, 15, 42, 180, 0, 15]
abbrev dktX2_copyOf_1 : List UInt8 := dkwX2_copyOf_1 ++ dktX2_copyOf_2
def dkwX2_copyOf_0 : List UInt8 := [42, 43, 180, 0, 9, 181, 0, 9, 42, 43, 180, 0, 25, 181, 0, 25, 42, 43, 180, 0, 28, 181, 0, 28]
abbrev dktX2_copyOf_0 : List UInt8 := dkwX2_copyOf_0 ++ dktX2_copyOf_1
theorem dksX2_copyOf_0 : cX2_copyOf.data.toList.drop 0 = dktX2_copyOf_0 := by decide +kernel
theorem dksX2_copyOf_1 : cX2_copyOf.data.toList.drop 24 = dktX2_copyOf_1 := dk_seg dksX2_copyOf_0 24 rfl rfl
theorem dksX2_copyOf_2 : cX2_copyOf.data.toList.drop 48 = dktX2_copyOf_2 := dk_seg dksX2_copyOf_1 24 rfl rfl
theorem dksX2_copyOf_3 : cX2_copyOf.data.toList.drop 70 = dktX2_copyOf_3 := dk_seg dksX2_copyOf_2 22 rfl rfl
theorem dX2_copyOf_0 : decode cX2_copyOf 0 = .ok (.aload_n 0, 1) := dk_42 (dk_at dksX2_copyOf_0 0 rfl rfl)
theorem dX2_copyOf_1 : decode cX2_copyOf 1 = .ok (.aload_n 1, 1) := dk_43 (dk_at dksX2_copyOf_0 1 rfl rfl)
theorem dX2_copyOf_2 : decode cX2_copyOf 2 = .ok (.getfield 9, 3) := dk_180 0 9 (dk_at dksX2_copyOf_0 2 rfl rfl)
theorem dX2_copyOf_5 : decode cX2_copyOf 5 = .ok (.putfield 9, 3) := dk_181 0 9 (dk_at dksX2_copyOf_0 5 rfl rfl)
theorem dX2_copyOf_8 : decode cX2_copyOf 8 = .ok (.aload_n 0, 1) := dk_42 (dk_at dksX2_copyOf_0 8 rfl rfl)
theorem dX2_copyOf_9 : decode cX2_copyOf 9 = .ok (.aload_n 1, 1) := dk_43 (dk_at dksX2_copyOf_0 9 rfl rfl)
theorem dX2_copyOf_10 : decode cX2_copyOf 10 = .ok (.getfield 25, 3) := dk_180 0 25 (dk_at dksX2_copyOf_0 10 rfl rfl)
theorem dX2_copyOf_13 : decode cX2_copyOf 13 = .ok (.putfield 25, 3) := dk_181 0 25 (dk_at dksX2_copyOf_0 13 rfl rfl)
theorem dX2_copyOf_16 : decode cX2_copyOf 16 = .ok (.aload_n 0, 1) := dk_42 (dk_at dksX2_copyOf_0 16 rfl rfl)
theorem dX2_copyOf_17 : decode cX2_copyOf 17 = .ok (.aload_n 1, 1) := dk_43 (dk_at dksX2_copyOf_0 17 rfl rfl)
theorem dX2_copyOf_18 : decode cX2_copyOf 18 = .ok (.getfield 28, 3) := dk_180 0 28 (dk_at dksX2_copyOf_0 18 rfl rfl)
theorem dX2_copyOf_21 : decode cX2_copyOf 21 = .ok (.putfield 28, 3) := dk_181 0 28 (dk_at dksX2_copyOf_0 21 rfl rfl)
theorem dX2_copyOf_24 : decode cX2_copyOf 24 = .ok (.aload_n 0, 1) := dk_42 (dk_at dksX2_copyOf_1 0 rfl rfl)
theorem dX2_copyOf_25 : decode cX2_copyOf 25 = .ok (.aload_n 1, 1) := dk_43 (dk_at dksX2_copyOf_1 1 rfl rfl)
theorem dX2_copyOf_26 : decode cX2_copyOf 26 = .ok (.getfield 31, 3) := dk_180 0 31 (dk_at dksX2_copyOf_1 2 rfl rfl)
theorem dX2_copyOf_29 : decode cX2_copyOf 29 = .ok (.putfield 31, 3) := dk_181 0 31 (dk_at dksX2_copyOf_1 5 rfl rfl)
theorem dX2_copyOf_32 : decode cX2_copyOf 32 = .ok (.aload_n 0, 1) := dk_42 (dk_at dksX2_copyOf_1 8 rfl rfl)
theorem dX2_copyOf_33 : decode cX2_copyOf 33 = .ok (.aload_n 1, 1) := dk_43 (dk_at dksX2_copyOf_1 9 rfl rfl)
theorem dX2_copyOf_34 : decode cX2_copyOf 34 = .ok (.getfield 34, 3) := dk_180 0 34 (dk_at dksX2_copyOf_1 10 rfl rfl)
theorem dX2_copyOf_37 : decode cX2_copyOf 37 = .ok (.putfield 34, 3) := dk_181 0 34 (dk_at dksX2_copyOf_1 13 rfl rfl)
theorem dX2_copyOf_40 : decode cX2_copyOf 40 = .ok (.aload_n 1, 1) := dk_43 (dk_at dksX2_copyOf_1 16 rfl rfl)
theorem dX2_copyOf_41 : decode cX2_copyOf 41 = .ok (.getfield 15, 3) := dk_180 0 15 (dk_at dksX2_copyOf_1 17 rfl rfl)
theorem dX2_copyOf_44 : decode cX2_copyOf 44 = .ok (.aload_n 0, 1) := dk_42 (dk_at dksX2_copyOf_1 20 rfl rfl)
theorem dX2_copyOf_45 : decode cX2_copyOf 45 = .ok (.getfield 15, 3) := dk_180 0 15 (dk_at dksX2_copyOf_1 21 rfl rfl)
theorem dX2_copyOf_48 : decode cX2_copyOf 48 = .ok (.invokestatic 37, 3) := dk_184 0 37 (dk_at dksX2_copyOf_2 0 rfl rfl)
theorem dX2_copyOf_51 : decode cX2_copyOf 51 = .ok (.aload_n 1, 1) := dk_43 (dk_at dksX2_copyOf_2 3 rfl rfl)
theorem dX2_copyOf_52 : decode cX2_copyOf 52 = .ok (.getfield 19, 3) := dk_180 0 19 (dk_at dksX2_copyOf_2 4 rfl rfl)
theorem dX2_copyOf_55 : decode cX2_copyOf 55 = .ok (.aload_n 0, 1) := dk_42 (dk_at dksX2_copyOf_2 7 rfl rfl)
theorem dX2_copyOf_56 : decode cX2_copyOf 56 = .ok (.getfield 19, 3) := dk_180 0 19 (dk_at dksX2_copyOf_2 8 rfl rfl)
theorem dX2_copyOf_59 : decode cX2_copyOf 59 = .ok (.invokestatic 37, 3) := dk_184 0 37 (dk_at dksX2_copyOf_2 11 rfl rfl)
theorem dX2_copyOf_62 : decode cX2_copyOf 62 = .ok (.aload_n 1, 1) := dk_43 (dk_at dksX2_copyOf_2 14 rfl rfl)
theorem dX2_copyOf_63 : decode cX2_copyOf 63 = .ok (.getfield 22, 3) := dk_180 0 22 (dk_at dksX2_copyOf_2 15 rfl rfl)
theorem dX2_copyOf_66 : decode cX2_copyOf 66 = .ok (.aload_n 0, 1) := dk_42 (dk_at dksX2_copyOf_2 18 rfl rfl)
theorem dX2_copyOf_67 : decode cX2_copyOf 67 = .ok (.getfield 22, 3) := dk_180 0 22 (dk_at dksX2_copyOf_2 19 rfl rfl)
theorem dX2_copyOf_70 : decode cX2_copyOf 70 = .ok (.invokestatic 37, 3) := dk_184 0 37 (dk_at dksX2_copyOf_3 0 rfl rfl)
theorem dX2_copyOf_73 : decode cX2_copyOf 73 = .ok (.return_, 1) := dk_177 (dk_at dksX2_copyOf_3 3 rfl rfl)
theorem q105 : (Jvm.Cond.initialized "KeptLeaves$Shelf") ∈ lw_all := lw_g (lw_at lw_m1 3 rfl) rfl
theorem q145 : (Jvm.Cond.instantiable "KeptLeaves$Shelf" (8 : Nat)) ∈ lw_all := lw_g (lw_at lw_m1 43 rfl) rfl
theorem q147 : (Jvm.Cond.instanceMethod ({ cls := "KeptLeaves$Shelf", name := "<init>", desc := "()V" } : Jvm.MethodName)) ∈ lw_all := lw_g (lw_at lw_m1 45 rfl) rfl
theorem q148 : (Jvm.Cond.code ({ cls := "KeptLeaves$Shelf", name := "<init>", desc := "()V" } : Jvm.MethodName) prog_11_method_1_code (1 : Nat) (Option.none : Option Jvm.ClassFile.FieldType)) ∈ lw_all := lw_g (lw_at lw_m1 46 rfl) rfl
theorem q149 : (Jvm.Cond.methodLink "KeptLeaves$Shelf" (3 : Nat) ({ cls := "java/lang/Object", name := "<init>", desc := "()V" } : Jvm.MethodName)) ∈ lw_all := lw_g (lw_at lw_m1 47 rfl) rfl
theorem q150 : (Jvm.Cond.fieldLink "KeptLeaves$Shelf" (9 : Nat) "KeptLeaves$Shelf" "z" "I") ∈ lw_all := lw_g (lw_at lw_m1 48 rfl) rfl
theorem q152 : (Jvm.Cond.fieldLink "KeptLeaves$Shelf" (25 : Nat) "KeptLeaves$Shelf" "turn" "I") ∈ lw_all := lw_g (lw_at lw_m1 50 rfl) rfl
theorem q154 : (Jvm.Cond.fieldLink "KeptLeaves$Shelf" (28 : Nat) "KeptLeaves$Shelf" "cost" "I") ∈ lw_all := lw_g (lw_at lw_m1 52 rfl) rfl
theorem q156 : (Jvm.Cond.fieldLink "KeptLeaves$Shelf" (31 : Nat) "KeptLeaves$Shelf" "set" "I") ∈ lw_all := lw_g (lw_at lw_m1 54 rfl) rfl
theorem q158 : (Jvm.Cond.fieldLink "KeptLeaves$Shelf" (34 : Nat) "KeptLeaves$Shelf" "many" "I") ∈ lw_all := lw_g (lw_at lw_m1 56 rfl) rfl
theorem q160 : (Jvm.Cond.fieldLink "KeptLeaves$Shelf" (15 : Nat) "KeptLeaves$Shelf" "order" "[I") ∈ lw_all := lw_g (lw_at lw_m1 58 rfl) rfl
theorem q162 : (Jvm.Cond.fieldLink "KeptLeaves$Shelf" (19 : Nat) "KeptLeaves$Shelf" "last" "[I") ∈ lw_all := lw_g (lw_at lw_m1 60 rfl) rfl
theorem q164 : (Jvm.Cond.fieldLink "KeptLeaves$Shelf" (22 : Nat) "KeptLeaves$Shelf" "times" "[I") ∈ lw_all := lw_g (lw_at lw_m1 62 rfl) rfl
theorem q166 : (Jvm.Cond.lays "KeptLeaves$Shelf" "KeptLeaves$Shelf" "z" "I") ∈ lw_all := lw_g (lw_at lw_m1 64 rfl) rfl
theorem q167 : (Jvm.Cond.soleField "KeptLeaves$Shelf" "z") ∈ lw_all := lw_g (lw_at lw_m1 65 rfl) rfl
theorem q168 : (Jvm.Cond.lays "KeptLeaves$Shelf" "KeptLeaves$Shelf" "turn" "I") ∈ lw_all := lw_g (lw_at lw_m1 66 rfl) rfl
theorem q169 : (Jvm.Cond.soleField "KeptLeaves$Shelf" "turn") ∈ lw_all := lw_g (lw_at lw_m1 67 rfl) rfl
theorem q170 : (Jvm.Cond.lays "KeptLeaves$Shelf" "KeptLeaves$Shelf" "cost" "I") ∈ lw_all := lw_g (lw_at lw_m1 68 rfl) rfl
theorem q171 : (Jvm.Cond.soleField "KeptLeaves$Shelf" "cost") ∈ lw_all := lw_g (lw_at lw_m1 69 rfl) rfl
theorem q172 : (Jvm.Cond.lays "KeptLeaves$Shelf" "KeptLeaves$Shelf" "set" "I") ∈ lw_all := lw_g (lw_at lw_m1 70 rfl) rfl
theorem q173 : (Jvm.Cond.soleField "KeptLeaves$Shelf" "set") ∈ lw_all := lw_g (lw_at lw_m1 71 rfl) rfl
theorem q174 : (Jvm.Cond.lays "KeptLeaves$Shelf" "KeptLeaves$Shelf" "many" "I") ∈ lw_all := lw_g (lw_at lw_m1 72 rfl) rfl
theorem q175 : (Jvm.Cond.soleField "KeptLeaves$Shelf" "many") ∈ lw_all := lw_g (lw_at lw_m1 73 rfl) rfl
theorem q176 : (Jvm.Cond.laysFinal "KeptLeaves$Shelf" "KeptLeaves$Shelf" "order" "[I") ∈ lw_all := lw_g (lw_at lw_m1 74 rfl) rfl
theorem q177 : (Jvm.Cond.soleField "KeptLeaves$Shelf" "order") ∈ lw_all := lw_g (lw_at lw_m1 75 rfl) rfl
theorem q178 : (Jvm.Cond.laysFinal "KeptLeaves$Shelf" "KeptLeaves$Shelf" "last" "[I") ∈ lw_all := lw_g (lw_at lw_m1 76 rfl) rfl
theorem q179 : (Jvm.Cond.soleField "KeptLeaves$Shelf" "last") ∈ lw_all := lw_g (lw_at lw_m1 77 rfl) rfl
theorem q180 : (Jvm.Cond.laysFinal "KeptLeaves$Shelf" "KeptLeaves$Shelf" "times" "[I") ∈ lw_all := lw_g (lw_at lw_m1 78 rfl) rfl
theorem q181 : (Jvm.Cond.soleField "KeptLeaves$Shelf" "times") ∈ lw_all := lw_g (lw_at lw_m1 79 rfl) rfl
theorem q182 : (Jvm.Cond.superclass "KeptLeaves$Shelf" "java/lang/Object") ∈ lw_all := lw_g (lw_at lw_m1 80 rfl) rfl
theorem q818 : (Jvm.Cond.instanceMethod ({ cls := "KeptLeaves$Shelf", name := "placeOf", desc := "(I)I" } : Jvm.MethodName)) ∈ lw_all := lw_g (lw_at lw_m3 236 rfl) rfl
theorem q819 : (Jvm.Cond.selects "KeptLeaves$Shelf" ({ cls := "KeptLeaves$Shelf", name := "placeOf", desc := "(I)I" } : Jvm.MethodName) ({ cls := "KeptLeaves$Shelf", name := "placeOf", desc := "(I)I" } : Jvm.MethodName)) ∈ lw_all := lw_g (lw_at lw_m3 237 rfl) rfl
theorem q820 : (Jvm.Cond.code ({ cls := "KeptLeaves$Shelf", name := "placeOf", desc := "(I)I" } : Jvm.MethodName) prog_11_method_5_code (3 : Nat) (Option.some Jvm.ClassFile.FieldType.int)) ∈ lw_all := lw_g (lw_at lw_m3 238 rfl) rfl
theorem q914 : (Jvm.Cond.instanceMethod ({ cls := "KeptLeaves$Shelf", name := "draw", desc := "()I" } : Jvm.MethodName)) ∈ lw_all := lw_g (lw_at lw_m4 92 rfl) rfl
theorem q915 : (Jvm.Cond.selects "KeptLeaves$Shelf" ({ cls := "KeptLeaves$Shelf", name := "draw", desc := "()I" } : Jvm.MethodName) ({ cls := "KeptLeaves$Shelf", name := "draw", desc := "()I" } : Jvm.MethodName)) ∈ lw_all := lw_g (lw_at lw_m4 93 rfl) rfl
theorem q916 : (Jvm.Cond.code ({ cls := "KeptLeaves$Shelf", name := "draw", desc := "()I" } : Jvm.MethodName) prog_11_method_3_code (1 : Nat) (Option.some Jvm.ClassFile.FieldType.int)) ∈ lw_all := lw_g (lw_at lw_m4 94 rfl) rfl
theorem q917 : (Jvm.Cond.constant "KeptLeaves$Shelf" (41 : Nat) (1103515245 : Int32)) ∈ lw_all := lw_g (lw_at lw_m4 95 rfl) rfl
theorem q951 : (Jvm.Cond.instanceMethod ({ cls := "KeptLeaves$Shelf", name := "goes", desc := "(I)V" } : Jvm.MethodName)) ∈ lw_all := lw_g (lw_at lw_m4 129 rfl) rfl
theorem q952 : (Jvm.Cond.selects "KeptLeaves$Shelf" ({ cls := "KeptLeaves$Shelf", name := "goes", desc := "(I)V" } : Jvm.MethodName) ({ cls := "KeptLeaves$Shelf", name := "goes", desc := "(I)V" } : Jvm.MethodName)) ∈ lw_all := lw_g (lw_at lw_m4 130 rfl) rfl
theorem q953 : (Jvm.Cond.code ({ cls := "KeptLeaves$Shelf", name := "goes", desc := "(I)V" } : Jvm.MethodName) prog_11_method_7_code (3 : Nat) (Option.none : Option Jvm.ClassFile.FieldType)) ∈ lw_all := lw_g (lw_at lw_m4 131 rfl) rfl
theorem q954 : (Jvm.Cond.methodLink "KeptLeaves$Shelf" (42 : Nat) ({ cls := "KeptLeaves$Shelf", name := "placeOf", desc := "(I)I" } : Jvm.MethodName)) ∈ lw_all := lw_g (lw_at lw_m4 132 rfl) rfl
theorem q972 : (Jvm.Cond.instanceMethod ({ cls := "KeptLeaves$Shelf", name := "has", desc := "(I)Z" } : Jvm.MethodName)) ∈ lw_all := lw_g (lw_at lw_m4 150 rfl) rfl
theorem q973 : (Jvm.Cond.selects "KeptLeaves$Shelf" ({ cls := "KeptLeaves$Shelf", name := "has", desc := "(I)Z" } : Jvm.MethodName) ({ cls := "KeptLeaves$Shelf", name := "has", desc := "(I)Z" } : Jvm.MethodName)) ∈ lw_all := lw_g (lw_at lw_m4 151 rfl) rfl
theorem q974 : (Jvm.Cond.code ({ cls := "KeptLeaves$Shelf", name := "has", desc := "(I)Z" } : Jvm.MethodName) prog_11_method_4_code (2 : Nat) (Option.some Jvm.ClassFile.FieldType.boolean)) ∈ lw_all := lw_g (lw_at lw_m4 152 rfl) rfl
theorem q976 : (Jvm.Cond.instanceMethod ({ cls := "KeptLeaves$Shelf", name := "comes", desc := "(I)V" } : Jvm.MethodName)) ∈ lw_all := lw_g (lw_at lw_m4 154 rfl) rfl
theorem q977 : (Jvm.Cond.selects "KeptLeaves$Shelf" ({ cls := "KeptLeaves$Shelf", name := "comes", desc := "(I)V" } : Jvm.MethodName) ({ cls := "KeptLeaves$Shelf", name := "comes", desc := "(I)V" } : Jvm.MethodName)) ∈ lw_all := lw_g (lw_at lw_m4 155 rfl) rfl
theorem q978 : (Jvm.Cond.code ({ cls := "KeptLeaves$Shelf", name := "comes", desc := "(I)V" } : Jvm.MethodName) prog_11_method_6_code (2 : Nat) (Option.none : Option Jvm.ClassFile.FieldType)) ∈ lw_all := lw_g (lw_at lw_m4 156 rfl) rfl
theorem q1025 : (Jvm.Cond.instanceMethod ({ cls := "KeptLeaves$Shelf", name := "copyOf", desc := "(LKeptLeaves$Shelf;)V" } : Jvm.MethodName)) ∈ lw_all := lw_g (lw_at lw_m4 203 rfl) rfl
theorem q1026 : (Jvm.Cond.selects "KeptLeaves$Shelf" ({ cls := "KeptLeaves$Shelf", name := "copyOf", desc := "(LKeptLeaves$Shelf;)V" } : Jvm.MethodName) ({ cls := "KeptLeaves$Shelf", name := "copyOf", desc := "(LKeptLeaves$Shelf;)V" } : Jvm.MethodName)) ∈ lw_all := lw_g (lw_at lw_m4 204 rfl) rfl
theorem q1027 : (Jvm.Cond.code ({ cls := "KeptLeaves$Shelf", name := "copyOf", desc := "(LKeptLeaves$Shelf;)V" } : Jvm.MethodName) prog_11_method_2_code (2 : Nat) (Option.none : Option Jvm.ClassFile.FieldType)) ∈ lw_all := lw_g (lw_at lw_m4 205 rfl) rfl
theorem q1028 : (Jvm.Cond.methodLinkNest "KeptLeaves$Shelf" (37 : Nat) ({ cls := "KeptLeaves", name := "copyRow", desc := "([I[I)V" } : Jvm.MethodName) "KeptLeaves") ∈ lw_tbl := lw_at lw_m4 206 rfl
theorem in_X2 : ∀ w ∈ wsX20, w ∈ lw_all := lw_in wsX20 [166, 168, 170, 172, 174, 176, 178, 180] (by decide +kernel) (by decide +kernel)

/-! KeptLeaves$Fault -/
set_option maxRecDepth 100000
def RX3 : String := "KeptLeaves$Fault"
def TX3 : u_T := fun k => match k with
  | 0 => ("java/lang/Throwable", "cause", "Ljava/lang/Throwable;", false)
  | 1 => ("java/lang/Throwable", "stackTrace", "[Ljava/lang/StackTraceElement;", false)
  | 2 => ("java/lang/Throwable", "suppressedExceptions", "Ljava/util/List;", false)
  | 3 => ("java/lang/Throwable", "detailMessage", "Ljava/lang/String;", false)
  | 4 => ("java/lang/Throwable", "backtrace", "Ljava/lang/Object;", false)
  | 5 => ("java/lang/Throwable", "depth", "I", false)
  | _ => ("KeptLeaves$Fault", "place", "I", false)
def tyX3 : Nat → FieldType := fun k => match k with
  | 0 => .object "java/lang/Throwable"
  | 1 => .array (.object "java/lang/StackTraceElement")
  | 2 => .object "java/util/List"
  | 3 => .object "java/lang/String"
  | 4 => .object "java/lang/Object"
  | 5 => .int
  | _ => .int
abbrev wsX30 : List Cond := u_ws RX3 TX3 7
theorem nmX3 : ∀ a, a < 7 → ∀ b, b < 7 → a ≠ b → (TX3 a).2.1 ≠ (TX3 b).2.1 := by decide +kernel
theorem tyX3_ok : ∀ k, k < 7 → parseFieldDescriptor (TX3 k).2.2.1 = some (tyX3 k) := by decide +kernel
abbrev cX3_init : ByteArray := prog_4_method_1_code
def yX3_init : MethodName := ⟨RX3, "<init>", "()V"⟩
theorem dX3_init_0 : decode cX3_init 0 = .ok (.aload_n 0, 1) := by decide +kernel
theorem dX3_init_1 : decode cX3_init 1 = .ok (.invokespecial 1, 3) := by decide +kernel
theorem dX3_init_4 : decode cX3_init 4 = .ok (.return_, 1) := by decide +kernel
theorem q109 : (Jvm.Cond.initialized "KeptLeaves$Fault") ∈ lw_all := lw_g (lw_at lw_m1 7 rfl) rfl
theorem q232 : (Jvm.Cond.instantiable "KeptLeaves$Fault" (7 : Nat)) ∈ lw_all := lw_g (lw_at lw_m1 130 rfl) rfl
theorem q233 : (Jvm.Cond.castable "KeptLeaves$Fault" "KeptLeaves$Fault") ∈ lw_tbl := lw_at lw_m1 131 rfl
theorem q240 : (Jvm.Cond.selects "KeptLeaves$Fault" ({ cls := "java/lang/Throwable", name := "fillInStackTrace", desc := "(I)Ljava/lang/Throwable;" } : Jvm.MethodName) ({ cls := "java/lang/Throwable", name := "fillInStackTrace", desc := "(I)Ljava/lang/Throwable;" } : Jvm.MethodName)) ∈ lw_all := lw_g (lw_at lw_m1 138 rfl) rfl
theorem q241 : (Jvm.Cond.selects "KeptLeaves$Fault" ({ cls := "java/lang/Throwable", name := "fillInStackTrace", desc := "()Ljava/lang/Throwable;" } : Jvm.MethodName) ({ cls := "java/lang/Throwable", name := "fillInStackTrace", desc := "()Ljava/lang/Throwable;" } : Jvm.MethodName)) ∈ lw_all := lw_g (lw_at lw_m1 139 rfl) rfl
theorem q242 : (Jvm.Cond.lays "KeptLeaves$Fault" "java/lang/Throwable" "cause" "Ljava/lang/Throwable;") ∈ lw_all := lw_g (lw_at lw_m1 140 rfl) rfl
theorem q244 : (Jvm.Cond.lays "KeptLeaves$Fault" "java/lang/Throwable" "stackTrace" "[Ljava/lang/StackTraceElement;") ∈ lw_all := lw_g (lw_at lw_m1 142 rfl) rfl
theorem q246 : (Jvm.Cond.lays "KeptLeaves$Fault" "java/lang/Throwable" "suppressedExceptions" "Ljava/util/List;") ∈ lw_all := lw_g (lw_at lw_m1 144 rfl) rfl
theorem q248 : (Jvm.Cond.lays "KeptLeaves$Fault" "java/lang/Throwable" "detailMessage" "Ljava/lang/String;") ∈ lw_all := lw_g (lw_at lw_m1 146 rfl) rfl
theorem q250 : (Jvm.Cond.lays "KeptLeaves$Fault" "java/lang/Throwable" "backtrace" "Ljava/lang/Object;") ∈ lw_all := lw_g (lw_at lw_m1 148 rfl) rfl
theorem q273 : (Jvm.Cond.instanceMethod ({ cls := "KeptLeaves$Fault", name := "<init>", desc := "()V" } : Jvm.MethodName)) ∈ lw_all := lw_g (lw_at lw_m1 171 rfl) rfl
theorem q274 : (Jvm.Cond.code ({ cls := "KeptLeaves$Fault", name := "<init>", desc := "()V" } : Jvm.MethodName) prog_4_method_1_code (1 : Nat) (Option.none : Option Jvm.ClassFile.FieldType)) ∈ lw_all := lw_g (lw_at lw_m1 172 rfl) rfl
theorem q275 : (Jvm.Cond.methodLink "KeptLeaves$Fault" (1 : Nat) ({ cls := "java/lang/RuntimeException", name := "<init>", desc := "()V" } : Jvm.MethodName)) ∈ lw_all := lw_g (lw_at lw_m1 173 rfl) rfl
theorem q288 : (Jvm.Cond.lays "KeptLeaves$Fault" "KeptLeaves$Fault" "place" "I") ∈ lw_all := lw_g (lw_at lw_m1 186 rfl) rfl
theorem q289 : (Jvm.Cond.soleField "KeptLeaves$Fault" "place") ∈ lw_all := lw_g (lw_at lw_m1 187 rfl) rfl
theorem q294 : (Jvm.Cond.lays "KeptLeaves$Fault" "java/lang/Throwable" "depth" "I") ∈ lw_all := lw_g (lw_at lw_m1 192 rfl) rfl
theorem q297 : (Jvm.Cond.superclass "KeptLeaves$Fault" "java/lang/RuntimeException") ∈ lw_all := lw_g (lw_at lw_m1 195 rfl) rfl
theorem in_X3 : ∀ w ∈ wsX30, w ∈ lw_all := lw_in wsX30 [242, 244, 246, 248, 250, 294, 288] (by decide +kernel) (by decide +kernel)

/-! KeptLeaves$Sheet -/
set_option maxRecDepth 100000
def RX4 : String := "KeptLeaves$Sheet"
def TX4 : u_T := fun k => match k with
  | _ => ("KeptLeaves$Sheet", "row", "Ljava/lang/Object;", false)
def tyX4 : Nat → FieldType := fun k => match k with
  | _ => .object "java/lang/Object"
abbrev wsX40 : List Cond := u_ws RX4 TX4 1
theorem nmX4 : ∀ a, a < 1 → ∀ b, b < 1 → a ≠ b → (TX4 a).2.1 ≠ (TX4 b).2.1 := by decide +kernel
theorem tyX4_ok : ∀ k, k < 1 → parseFieldDescriptor (TX4 k).2.2.1 = some (tyX4 k) := by decide +kernel
abbrev cX4_init : ByteArray := prog_10_method_1_code
def yX4_init : MethodName := ⟨RX4, "<init>", "()V"⟩
theorem dX4_init_0 : decode cX4_init 0 = .ok (.aload_n 0, 1) := by decide +kernel
theorem dX4_init_1 : decode cX4_init 1 = .ok (.invokespecial 1, 3) := by decide +kernel
theorem dX4_init_4 : decode cX4_init 4 = .ok (.return_, 1) := by decide +kernel
abbrev cX4_isThere : ByteArray := prog_10_method_2_code
def yX4_isThere : MethodName := ⟨RX4, "isThere", "()Z"⟩
def dkwX4_isThere_0 : List UInt8 := [42, 180, 0, 7, 198, 0, 7, 4, 167, 0, 4, 3, 172]
abbrev dktX4_isThere_0 : List UInt8 := dkwX4_isThere_0 ++ []
theorem dksX4_isThere_0 : cX4_isThere.data.toList.drop 0 = dktX4_isThere_0 := by decide +kernel
theorem dX4_isThere_0 : decode cX4_isThere 0 = .ok (.aload_n 0, 1) := dk_42 (dk_at dksX4_isThere_0 0 rfl rfl)
theorem dX4_isThere_1 : decode cX4_isThere 1 = .ok (.getfield 7, 3) := dk_180 0 7 (dk_at dksX4_isThere_0 1 rfl rfl)
theorem dX4_isThere_4 : decode cX4_isThere 4 = .ok (.ifnull 7, 3) := dk_198 0 7 (dk_at dksX4_isThere_0 4 rfl rfl)
theorem dX4_isThere_7 : decode cX4_isThere 7 = .ok (.iconst 1, 1) := dk_4 (dk_at dksX4_isThere_0 7 rfl rfl)
theorem dX4_isThere_8 : decode cX4_isThere 8 = .ok (.goto 4, 3) := dk_167 0 4 (dk_at dksX4_isThere_0 8 rfl rfl)
theorem dX4_isThere_11 : decode cX4_isThere 11 = .ok (.iconst 0, 1) := dk_3 (dk_at dksX4_isThere_0 11 rfl rfl)
theorem dX4_isThere_12 : decode cX4_isThere 12 = .ok (.ireturn, 1) := dk_172 (dk_at dksX4_isThere_0 12 rfl rfl)
abbrev cX4_size : ByteArray := prog_10_method_4_code
def yX4_size : MethodName := ⟨RX4, "size", "()I"⟩
def dkwX4_size_1 : List UInt8 := [192, 0, 19, 190, 172]
abbrev dktX4_size_1 : List UInt8 := dkwX4_size_1 ++ []
def dkwX4_size_0 : List UInt8 := [42, 182, 0, 15, 153, 0, 14, 42, 180, 0, 7, 192, 0, 13, 190, 167, 0, 11, 42, 180, 0, 7]
abbrev dktX4_size_0 : List UInt8 := dkwX4_size_0 ++ dktX4_size_1
theorem dksX4_size_0 : cX4_size.data.toList.drop 0 = dktX4_size_0 := by decide +kernel
theorem dksX4_size_1 : cX4_size.data.toList.drop 22 = dktX4_size_1 := dk_seg dksX4_size_0 22 rfl rfl
theorem dX4_size_0 : decode cX4_size 0 = .ok (.aload_n 0, 1) := dk_42 (dk_at dksX4_size_0 0 rfl rfl)
theorem dX4_size_1 : decode cX4_size 1 = .ok (.invokevirtual 15, 3) := dk_182 0 15 (dk_at dksX4_size_0 1 rfl rfl)
theorem dX4_size_4 : decode cX4_size 4 = .ok (.ifCond .eq 14, 3) := dk_153 0 14 (dk_at dksX4_size_0 4 rfl rfl)
theorem dX4_size_7 : decode cX4_size 7 = .ok (.aload_n 0, 1) := dk_42 (dk_at dksX4_size_0 7 rfl rfl)
theorem dX4_size_8 : decode cX4_size 8 = .ok (.getfield 7, 3) := dk_180 0 7 (dk_at dksX4_size_0 8 rfl rfl)
theorem dX4_size_11 : decode cX4_size 11 = .ok (.checkcast 13, 3) := dk_192 0 13 (dk_at dksX4_size_0 11 rfl rfl)
theorem dX4_size_14 : decode cX4_size 14 = .ok (.arraylength, 1) := dk_190 (dk_at dksX4_size_0 14 rfl rfl)
theorem dX4_size_15 : decode cX4_size 15 = .ok (.goto 11, 3) := dk_167 0 11 (dk_at dksX4_size_0 15 rfl rfl)
theorem dX4_size_18 : decode cX4_size 18 = .ok (.aload_n 0, 1) := dk_42 (dk_at dksX4_size_0 18 rfl rfl)
theorem dX4_size_19 : decode cX4_size 19 = .ok (.getfield 7, 3) := dk_180 0 7 (dk_at dksX4_size_0 19 rfl rfl)
theorem dX4_size_22 : decode cX4_size 22 = .ok (.checkcast 19, 3) := dk_192 0 19 (dk_at dksX4_size_1 0 rfl rfl)
theorem dX4_size_25 : decode cX4_size 25 = .ok (.arraylength, 1) := dk_190 (dk_at dksX4_size_1 3 rfl rfl)
theorem dX4_size_26 : decode cX4_size 26 = .ok (.ireturn, 1) := dk_172 (dk_at dksX4_size_1 4 rfl rfl)
abbrev cX4_isFloats : ByteArray := prog_10_method_3_code
def yX4_isFloats : MethodName := ⟨RX4, "isFloats", "()Z"⟩
def dkwX4_isFloats_0 : List UInt8 := [42, 180, 0, 7, 193, 0, 13, 172]
abbrev dktX4_isFloats_0 : List UInt8 := dkwX4_isFloats_0 ++ []
theorem dksX4_isFloats_0 : cX4_isFloats.data.toList.drop 0 = dktX4_isFloats_0 := by decide +kernel
theorem dX4_isFloats_0 : decode cX4_isFloats 0 = .ok (.aload_n 0, 1) := dk_42 (dk_at dksX4_isFloats_0 0 rfl rfl)
theorem dX4_isFloats_1 : decode cX4_isFloats 1 = .ok (.getfield 7, 3) := dk_180 0 7 (dk_at dksX4_isFloats_0 1 rfl rfl)
theorem dX4_isFloats_4 : decode cX4_isFloats 4 = .ok (.instanceof 13, 3) := dk_193 0 13 (dk_at dksX4_isFloats_0 4 rfl rfl)
theorem dX4_isFloats_7 : decode cX4_isFloats 7 = .ok (.ireturn, 1) := dk_172 (dk_at dksX4_isFloats_0 7 rfl rfl)
abbrev cX4_put : ByteArray := prog_10_method_7_code
def yX4_put : MethodName := ⟨RX4, "put", "(II)V"⟩
def dkwX4_put_1 : List UInt8 := [180, 0, 7, 192, 0, 19, 27, 28, 147, 86, 177]
abbrev dktX4_put_1 : List UInt8 := dkwX4_put_1 ++ []
def dkwX4_put_0 : List UInt8 := [42, 182, 0, 15, 153, 0, 17, 42, 180, 0, 7, 192, 0, 13, 27, 28, 134, 81, 167, 0, 14, 42]
abbrev dktX4_put_0 : List UInt8 := dkwX4_put_0 ++ dktX4_put_1
theorem dksX4_put_0 : cX4_put.data.toList.drop 0 = dktX4_put_0 := by decide +kernel
theorem dksX4_put_1 : cX4_put.data.toList.drop 22 = dktX4_put_1 := dk_seg dksX4_put_0 22 rfl rfl
theorem dX4_put_0 : decode cX4_put 0 = .ok (.aload_n 0, 1) := dk_42 (dk_at dksX4_put_0 0 rfl rfl)
theorem dX4_put_1 : decode cX4_put 1 = .ok (.invokevirtual 15, 3) := dk_182 0 15 (dk_at dksX4_put_0 1 rfl rfl)
theorem dX4_put_4 : decode cX4_put 4 = .ok (.ifCond .eq 17, 3) := dk_153 0 17 (dk_at dksX4_put_0 4 rfl rfl)
theorem dX4_put_7 : decode cX4_put 7 = .ok (.aload_n 0, 1) := dk_42 (dk_at dksX4_put_0 7 rfl rfl)
theorem dX4_put_8 : decode cX4_put 8 = .ok (.getfield 7, 3) := dk_180 0 7 (dk_at dksX4_put_0 8 rfl rfl)
theorem dX4_put_11 : decode cX4_put 11 = .ok (.checkcast 13, 3) := dk_192 0 13 (dk_at dksX4_put_0 11 rfl rfl)
theorem dX4_put_14 : decode cX4_put 14 = .ok (.iload_n 1, 1) := dk_27 (dk_at dksX4_put_0 14 rfl rfl)
theorem dX4_put_15 : decode cX4_put 15 = .ok (.iload_n 2, 1) := dk_28 (dk_at dksX4_put_0 15 rfl rfl)
theorem dX4_put_16 : decode cX4_put 16 = .ok (.i2f, 1) := dk_134 (dk_at dksX4_put_0 16 rfl rfl)
theorem dX4_put_17 : decode cX4_put 17 = .ok (.fastore, 1) := dk_81 (dk_at dksX4_put_0 17 rfl rfl)
theorem dX4_put_18 : decode cX4_put 18 = .ok (.goto 14, 3) := dk_167 0 14 (dk_at dksX4_put_0 18 rfl rfl)
theorem dX4_put_21 : decode cX4_put 21 = .ok (.aload_n 0, 1) := dk_42 (dk_at dksX4_put_0 21 rfl rfl)
theorem dX4_put_22 : decode cX4_put 22 = .ok (.getfield 7, 3) := dk_180 0 7 (dk_at dksX4_put_1 0 rfl rfl)
theorem dX4_put_25 : decode cX4_put 25 = .ok (.checkcast 19, 3) := dk_192 0 19 (dk_at dksX4_put_1 3 rfl rfl)
theorem dX4_put_28 : decode cX4_put 28 = .ok (.iload_n 1, 1) := dk_27 (dk_at dksX4_put_1 6 rfl rfl)
theorem dX4_put_29 : decode cX4_put 29 = .ok (.iload_n 2, 1) := dk_28 (dk_at dksX4_put_1 7 rfl rfl)
theorem dX4_put_30 : decode cX4_put 30 = .ok (.i2s, 1) := dk_147 (dk_at dksX4_put_1 8 rfl rfl)
theorem dX4_put_31 : decode cX4_put 31 = .ok (.sastore, 1) := dk_86 (dk_at dksX4_put_1 9 rfl rfl)
theorem dX4_put_32 : decode cX4_put 32 = .ok (.return_, 1) := dk_177 (dk_at dksX4_put_1 10 rfl rfl)
abbrev cX4_isNumber : ByteArray := prog_10_method_5_code
def yX4_isNumber : MethodName := ⟨RX4, "isNumber", "(I)Z"⟩
def dkwX4_isNumber_1 : List UInt8 := [48, 149, 154, 0, 7, 4, 167, 0, 4, 3, 172]
abbrev dktX4_isNumber_1 : List UInt8 := dkwX4_isNumber_1 ++ []
def dkwX4_isNumber_0 : List UInt8 := [42, 182, 0, 15, 153, 0, 25, 42, 180, 0, 7, 192, 0, 13, 27, 48, 42, 180, 0, 7, 192, 0, 13, 27]
abbrev dktX4_isNumber_0 : List UInt8 := dkwX4_isNumber_0 ++ dktX4_isNumber_1
theorem dksX4_isNumber_0 : cX4_isNumber.data.toList.drop 0 = dktX4_isNumber_0 := by decide +kernel
theorem dksX4_isNumber_1 : cX4_isNumber.data.toList.drop 24 = dktX4_isNumber_1 := dk_seg dksX4_isNumber_0 24 rfl rfl
theorem dX4_isNumber_0 : decode cX4_isNumber 0 = .ok (.aload_n 0, 1) := dk_42 (dk_at dksX4_isNumber_0 0 rfl rfl)
theorem dX4_isNumber_1 : decode cX4_isNumber 1 = .ok (.invokevirtual 15, 3) := dk_182 0 15 (dk_at dksX4_isNumber_0 1 rfl rfl)
theorem dX4_isNumber_4 : decode cX4_isNumber 4 = .ok (.ifCond .eq 25, 3) := dk_153 0 25 (dk_at dksX4_isNumber_0 4 rfl rfl)
theorem dX4_isNumber_7 : decode cX4_isNumber 7 = .ok (.aload_n 0, 1) := dk_42 (dk_at dksX4_isNumber_0 7 rfl rfl)
theorem dX4_isNumber_8 : decode cX4_isNumber 8 = .ok (.getfield 7, 3) := dk_180 0 7 (dk_at dksX4_isNumber_0 8 rfl rfl)
theorem dX4_isNumber_11 : decode cX4_isNumber 11 = .ok (.checkcast 13, 3) := dk_192 0 13 (dk_at dksX4_isNumber_0 11 rfl rfl)
theorem dX4_isNumber_14 : decode cX4_isNumber 14 = .ok (.iload_n 1, 1) := dk_27 (dk_at dksX4_isNumber_0 14 rfl rfl)
theorem dX4_isNumber_15 : decode cX4_isNumber 15 = .ok (.faload, 1) := dk_48 (dk_at dksX4_isNumber_0 15 rfl rfl)
theorem dX4_isNumber_16 : decode cX4_isNumber 16 = .ok (.aload_n 0, 1) := dk_42 (dk_at dksX4_isNumber_0 16 rfl rfl)
theorem dX4_isNumber_17 : decode cX4_isNumber 17 = .ok (.getfield 7, 3) := dk_180 0 7 (dk_at dksX4_isNumber_0 17 rfl rfl)
theorem dX4_isNumber_20 : decode cX4_isNumber 20 = .ok (.checkcast 13, 3) := dk_192 0 13 (dk_at dksX4_isNumber_0 20 rfl rfl)
theorem dX4_isNumber_23 : decode cX4_isNumber 23 = .ok (.iload_n 1, 1) := dk_27 (dk_at dksX4_isNumber_0 23 rfl rfl)
theorem dX4_isNumber_24 : decode cX4_isNumber 24 = .ok (.faload, 1) := dk_48 (dk_at dksX4_isNumber_1 0 rfl rfl)
theorem dX4_isNumber_25 : decode cX4_isNumber 25 = .ok (.fcmp .l, 1) := dk_149 (dk_at dksX4_isNumber_1 1 rfl rfl)
theorem dX4_isNumber_26 : decode cX4_isNumber 26 = .ok (.ifCond .ne 7, 3) := dk_154 0 7 (dk_at dksX4_isNumber_1 2 rfl rfl)
theorem dX4_isNumber_29 : decode cX4_isNumber 29 = .ok (.iconst 1, 1) := dk_4 (dk_at dksX4_isNumber_1 5 rfl rfl)
theorem dX4_isNumber_30 : decode cX4_isNumber 30 = .ok (.goto 4, 3) := dk_167 0 4 (dk_at dksX4_isNumber_1 6 rfl rfl)
theorem dX4_isNumber_33 : decode cX4_isNumber 33 = .ok (.iconst 0, 1) := dk_3 (dk_at dksX4_isNumber_1 9 rfl rfl)
theorem dX4_isNumber_34 : decode cX4_isNumber 34 = .ok (.ireturn, 1) := dk_172 (dk_at dksX4_isNumber_1 10 rfl rfl)
abbrev cX4_at : ByteArray := prog_10_method_6_code
def yX4_at : MethodName := ⟨RX4, "at", "(I)I"⟩
def dkwX4_at_1 : List UInt8 := [192, 0, 19, 27, 53, 172]
abbrev dktX4_at_1 : List UInt8 := dkwX4_at_1 ++ []
def dkwX4_at_0 : List UInt8 := [42, 182, 0, 15, 153, 0, 16, 42, 180, 0, 7, 192, 0, 13, 27, 48, 139, 167, 0, 12, 42, 180, 0, 7]
abbrev dktX4_at_0 : List UInt8 := dkwX4_at_0 ++ dktX4_at_1
theorem dksX4_at_0 : cX4_at.data.toList.drop 0 = dktX4_at_0 := by decide +kernel
theorem dksX4_at_1 : cX4_at.data.toList.drop 24 = dktX4_at_1 := dk_seg dksX4_at_0 24 rfl rfl
theorem dX4_at_0 : decode cX4_at 0 = .ok (.aload_n 0, 1) := dk_42 (dk_at dksX4_at_0 0 rfl rfl)
theorem dX4_at_1 : decode cX4_at 1 = .ok (.invokevirtual 15, 3) := dk_182 0 15 (dk_at dksX4_at_0 1 rfl rfl)
theorem dX4_at_4 : decode cX4_at 4 = .ok (.ifCond .eq 16, 3) := dk_153 0 16 (dk_at dksX4_at_0 4 rfl rfl)
theorem dX4_at_7 : decode cX4_at 7 = .ok (.aload_n 0, 1) := dk_42 (dk_at dksX4_at_0 7 rfl rfl)
theorem dX4_at_8 : decode cX4_at 8 = .ok (.getfield 7, 3) := dk_180 0 7 (dk_at dksX4_at_0 8 rfl rfl)
theorem dX4_at_11 : decode cX4_at 11 = .ok (.checkcast 13, 3) := dk_192 0 13 (dk_at dksX4_at_0 11 rfl rfl)
theorem dX4_at_14 : decode cX4_at 14 = .ok (.iload_n 1, 1) := dk_27 (dk_at dksX4_at_0 14 rfl rfl)
theorem dX4_at_15 : decode cX4_at 15 = .ok (.faload, 1) := dk_48 (dk_at dksX4_at_0 15 rfl rfl)
theorem dX4_at_16 : decode cX4_at 16 = .ok (.f2i, 1) := dk_139 (dk_at dksX4_at_0 16 rfl rfl)
theorem dX4_at_17 : decode cX4_at 17 = .ok (.goto 12, 3) := dk_167 0 12 (dk_at dksX4_at_0 17 rfl rfl)
theorem dX4_at_20 : decode cX4_at 20 = .ok (.aload_n 0, 1) := dk_42 (dk_at dksX4_at_0 20 rfl rfl)
theorem dX4_at_21 : decode cX4_at 21 = .ok (.getfield 7, 3) := dk_180 0 7 (dk_at dksX4_at_0 21 rfl rfl)
theorem dX4_at_24 : decode cX4_at 24 = .ok (.checkcast 19, 3) := dk_192 0 19 (dk_at dksX4_at_1 0 rfl rfl)
theorem dX4_at_27 : decode cX4_at 27 = .ok (.iload_n 1, 1) := dk_27 (dk_at dksX4_at_1 3 rfl rfl)
theorem dX4_at_28 : decode cX4_at 28 = .ok (.saload, 1) := dk_53 (dk_at dksX4_at_1 4 rfl rfl)
theorem dX4_at_29 : decode cX4_at 29 = .ok (.ireturn, 1) := dk_172 (dk_at dksX4_at_1 5 rfl rfl)
theorem q110 : (Jvm.Cond.initialized "KeptLeaves$Sheet") ∈ lw_all := lw_g (lw_at lw_m1 8 rfl) rfl
theorem q301 : (Jvm.Cond.instantiable "KeptLeaves$Sheet" (1 : Nat)) ∈ lw_all := lw_g (lw_at lw_m1 199 rfl) rfl
theorem q303 : (Jvm.Cond.instanceMethod ({ cls := "KeptLeaves$Sheet", name := "<init>", desc := "()V" } : Jvm.MethodName)) ∈ lw_all := lw_g (lw_at lw_m1 201 rfl) rfl
theorem q304 : (Jvm.Cond.code ({ cls := "KeptLeaves$Sheet", name := "<init>", desc := "()V" } : Jvm.MethodName) prog_10_method_1_code (1 : Nat) (Option.none : Option Jvm.ClassFile.FieldType)) ∈ lw_all := lw_g (lw_at lw_m1 202 rfl) rfl
theorem q305 : (Jvm.Cond.methodLink "KeptLeaves$Sheet" (1 : Nat) ({ cls := "java/lang/Object", name := "<init>", desc := "()V" } : Jvm.MethodName)) ∈ lw_all := lw_g (lw_at lw_m1 203 rfl) rfl
theorem q306 : (Jvm.Cond.fieldLink "KeptLeaves$Sheet" (7 : Nat) "KeptLeaves$Sheet" "row" "Ljava/lang/Object;") ∈ lw_all := lw_g (lw_at lw_m1 204 rfl) rfl
theorem q308 : (Jvm.Cond.lays "KeptLeaves$Sheet" "KeptLeaves$Sheet" "row" "Ljava/lang/Object;") ∈ lw_all := lw_g (lw_at lw_m1 206 rfl) rfl
theorem q309 : (Jvm.Cond.soleField "KeptLeaves$Sheet" "row") ∈ lw_all := lw_g (lw_at lw_m1 207 rfl) rfl
theorem q310 : (Jvm.Cond.superclass "KeptLeaves$Sheet" "java/lang/Object") ∈ lw_all := lw_g (lw_at lw_m1 208 rfl) rfl
theorem q1127 : (Jvm.Cond.instanceMethod ({ cls := "KeptLeaves$Sheet", name := "isThere", desc := "()Z" } : Jvm.MethodName)) ∈ lw_all := lw_g (lw_at lw_m5 65 rfl) rfl
theorem q1128 : (Jvm.Cond.selects "KeptLeaves$Sheet" ({ cls := "KeptLeaves$Sheet", name := "isThere", desc := "()Z" } : Jvm.MethodName) ({ cls := "KeptLeaves$Sheet", name := "isThere", desc := "()Z" } : Jvm.MethodName)) ∈ lw_all := lw_g (lw_at lw_m5 66 rfl) rfl
theorem q1129 : (Jvm.Cond.code ({ cls := "KeptLeaves$Sheet", name := "isThere", desc := "()Z" } : Jvm.MethodName) prog_10_method_2_code (1 : Nat) (Option.some Jvm.ClassFile.FieldType.boolean)) ∈ lw_all := lw_g (lw_at lw_m5 67 rfl) rfl
theorem q1132 : (Jvm.Cond.instanceMethod ({ cls := "KeptLeaves$Sheet", name := "size", desc := "()I" } : Jvm.MethodName)) ∈ lw_all := lw_g (lw_at lw_m5 70 rfl) rfl
theorem q1133 : (Jvm.Cond.selects "KeptLeaves$Sheet" ({ cls := "KeptLeaves$Sheet", name := "size", desc := "()I" } : Jvm.MethodName) ({ cls := "KeptLeaves$Sheet", name := "size", desc := "()I" } : Jvm.MethodName)) ∈ lw_all := lw_g (lw_at lw_m5 71 rfl) rfl
theorem q1134 : (Jvm.Cond.code ({ cls := "KeptLeaves$Sheet", name := "size", desc := "()I" } : Jvm.MethodName) prog_10_method_4_code (1 : Nat) (Option.some Jvm.ClassFile.FieldType.int)) ∈ lw_all := lw_g (lw_at lw_m5 72 rfl) rfl
theorem q1135 : (Jvm.Cond.methodLink "KeptLeaves$Sheet" (15 : Nat) ({ cls := "KeptLeaves$Sheet", name := "isFloats", desc := "()Z" } : Jvm.MethodName)) ∈ lw_all := lw_g (lw_at lw_m5 73 rfl) rfl
theorem q1136 : (Jvm.Cond.instanceMethod ({ cls := "KeptLeaves$Sheet", name := "isFloats", desc := "()Z" } : Jvm.MethodName)) ∈ lw_all := lw_g (lw_at lw_m5 74 rfl) rfl
theorem q1137 : (Jvm.Cond.selects "KeptLeaves$Sheet" ({ cls := "KeptLeaves$Sheet", name := "isFloats", desc := "()Z" } : Jvm.MethodName) ({ cls := "KeptLeaves$Sheet", name := "isFloats", desc := "()Z" } : Jvm.MethodName)) ∈ lw_all := lw_g (lw_at lw_m5 75 rfl) rfl
theorem q1138 : (Jvm.Cond.code ({ cls := "KeptLeaves$Sheet", name := "isFloats", desc := "()Z" } : Jvm.MethodName) prog_10_method_3_code (1 : Nat) (Option.some Jvm.ClassFile.FieldType.boolean)) ∈ lw_all := lw_g (lw_at lw_m5 76 rfl) rfl
theorem q1139 : (Jvm.Cond.classLink "KeptLeaves$Sheet" (13 : Nat) "[F") ∈ lw_all := lw_g (lw_at lw_m5 77 rfl) rfl
theorem q1140 : (Jvm.Cond.classLink "KeptLeaves$Sheet" (19 : Nat) "[S") ∈ lw_all := lw_g (lw_at lw_m5 78 rfl) rfl
theorem q1150 : (Jvm.Cond.instanceMethod ({ cls := "KeptLeaves$Sheet", name := "put", desc := "(II)V" } : Jvm.MethodName)) ∈ lw_all := lw_g (lw_at lw_m5 88 rfl) rfl
theorem q1151 : (Jvm.Cond.selects "KeptLeaves$Sheet" ({ cls := "KeptLeaves$Sheet", name := "put", desc := "(II)V" } : Jvm.MethodName) ({ cls := "KeptLeaves$Sheet", name := "put", desc := "(II)V" } : Jvm.MethodName)) ∈ lw_all := lw_g (lw_at lw_m5 89 rfl) rfl
theorem q1152 : (Jvm.Cond.code ({ cls := "KeptLeaves$Sheet", name := "put", desc := "(II)V" } : Jvm.MethodName) prog_10_method_7_code (3 : Nat) (Option.none : Option Jvm.ClassFile.FieldType)) ∈ lw_all := lw_g (lw_at lw_m5 90 rfl) rfl
theorem q1159 : (Jvm.Cond.instanceMethod ({ cls := "KeptLeaves$Sheet", name := "isNumber", desc := "(I)Z" } : Jvm.MethodName)) ∈ lw_all := lw_g (lw_at lw_m5 97 rfl) rfl
theorem q1160 : (Jvm.Cond.selects "KeptLeaves$Sheet" ({ cls := "KeptLeaves$Sheet", name := "isNumber", desc := "(I)Z" } : Jvm.MethodName) ({ cls := "KeptLeaves$Sheet", name := "isNumber", desc := "(I)Z" } : Jvm.MethodName)) ∈ lw_all := lw_g (lw_at lw_m5 98 rfl) rfl
theorem q1161 : (Jvm.Cond.code ({ cls := "KeptLeaves$Sheet", name := "isNumber", desc := "(I)Z" } : Jvm.MethodName) prog_10_method_5_code (2 : Nat) (Option.some Jvm.ClassFile.FieldType.boolean)) ∈ lw_all := lw_g (lw_at lw_m5 99 rfl) rfl
theorem q1163 : (Jvm.Cond.instanceMethod ({ cls := "KeptLeaves$Sheet", name := "at", desc := "(I)I" } : Jvm.MethodName)) ∈ lw_all := lw_g (lw_at lw_m5 101 rfl) rfl
theorem q1164 : (Jvm.Cond.selects "KeptLeaves$Sheet" ({ cls := "KeptLeaves$Sheet", name := "at", desc := "(I)I" } : Jvm.MethodName) ({ cls := "KeptLeaves$Sheet", name := "at", desc := "(I)I" } : Jvm.MethodName)) ∈ lw_all := lw_g (lw_at lw_m5 102 rfl) rfl
theorem q1165 : (Jvm.Cond.code ({ cls := "KeptLeaves$Sheet", name := "at", desc := "(I)I" } : Jvm.MethodName) prog_10_method_6_code (2 : Nat) (Option.some Jvm.ClassFile.FieldType.int)) ∈ lw_all := lw_g (lw_at lw_m5 103 rfl) rfl
theorem in_X4 : ∀ w ∈ wsX40, w ∈ lw_all := lw_in wsX40 [308] (by decide +kernel) (by decide +kernel)

/-! KeptLeaves$Slot -/
set_option maxRecDepth 100000
def RX5 : String := "KeptLeaves$Slot"
def TX5 : u_T := fun k => match k with
  | _ => ("KeptLeaves$Slot", "held", "Ljava/lang/Object;", false)
def tyX5 : Nat → FieldType := fun k => match k with
  | _ => .object "java/lang/Object"
abbrev wsX50 : List Cond := u_ws RX5 TX5 1
theorem nmX5 : ∀ a, a < 1 → ∀ b, b < 1 → a ≠ b → (TX5 a).2.1 ≠ (TX5 b).2.1 := by decide +kernel
theorem tyX5_ok : ∀ k, k < 1 → parseFieldDescriptor (TX5 k).2.2.1 = some (tyX5 k) := by decide +kernel
abbrev cX5_init : ByteArray := prog_12_method_1_code
def yX5_init : MethodName := ⟨RX5, "<init>", "()V"⟩
theorem dX5_init_0 : decode cX5_init 0 = .ok (.aload_n 0, 1) := by decide +kernel
theorem dX5_init_1 : decode cX5_init 1 = .ok (.invokespecial 1, 3) := by decide +kernel
theorem dX5_init_4 : decode cX5_init 4 = .ok (.return_, 1) := by decide +kernel
abbrev cX5_thing : ByteArray := prog_12_method_2_code
def yX5_thing : MethodName := ⟨RX5, "thing", "()I"⟩
def dkwX5_thing_1 : List UInt8 := [167, 0, 18, 42, 180, 0, 7, 193, 0, 15, 153, 0, 7, 5, 167, 0, 4, 6, 172]
abbrev dktX5_thing_1 : List UInt8 := dkwX5_thing_1 ++ []
def dkwX5_thing_0 : List UInt8 := [42, 180, 0, 7, 199, 0, 7, 3, 167, 0, 32, 42, 180, 0, 7, 193, 0, 13, 153, 0, 7, 4]
abbrev dktX5_thing_0 : List UInt8 := dkwX5_thing_0 ++ dktX5_thing_1
theorem dksX5_thing_0 : cX5_thing.data.toList.drop 0 = dktX5_thing_0 := by decide +kernel
theorem dksX5_thing_1 : cX5_thing.data.toList.drop 22 = dktX5_thing_1 := dk_seg dksX5_thing_0 22 rfl rfl
theorem dX5_thing_0 : decode cX5_thing 0 = .ok (.aload_n 0, 1) := dk_42 (dk_at dksX5_thing_0 0 rfl rfl)
theorem dX5_thing_1 : decode cX5_thing 1 = .ok (.getfield 7, 3) := dk_180 0 7 (dk_at dksX5_thing_0 1 rfl rfl)
theorem dX5_thing_4 : decode cX5_thing 4 = .ok (.ifnonnull 7, 3) := dk_199 0 7 (dk_at dksX5_thing_0 4 rfl rfl)
theorem dX5_thing_7 : decode cX5_thing 7 = .ok (.iconst 0, 1) := dk_3 (dk_at dksX5_thing_0 7 rfl rfl)
theorem dX5_thing_8 : decode cX5_thing 8 = .ok (.goto 32, 3) := dk_167 0 32 (dk_at dksX5_thing_0 8 rfl rfl)
theorem dX5_thing_11 : decode cX5_thing 11 = .ok (.aload_n 0, 1) := dk_42 (dk_at dksX5_thing_0 11 rfl rfl)
theorem dX5_thing_12 : decode cX5_thing 12 = .ok (.getfield 7, 3) := dk_180 0 7 (dk_at dksX5_thing_0 12 rfl rfl)
theorem dX5_thing_15 : decode cX5_thing 15 = .ok (.instanceof 13, 3) := dk_193 0 13 (dk_at dksX5_thing_0 15 rfl rfl)
theorem dX5_thing_18 : decode cX5_thing 18 = .ok (.ifCond .eq 7, 3) := dk_153 0 7 (dk_at dksX5_thing_0 18 rfl rfl)
theorem dX5_thing_21 : decode cX5_thing 21 = .ok (.iconst 1, 1) := dk_4 (dk_at dksX5_thing_0 21 rfl rfl)
theorem dX5_thing_22 : decode cX5_thing 22 = .ok (.goto 18, 3) := dk_167 0 18 (dk_at dksX5_thing_1 0 rfl rfl)
theorem dX5_thing_25 : decode cX5_thing 25 = .ok (.aload_n 0, 1) := dk_42 (dk_at dksX5_thing_1 3 rfl rfl)
theorem dX5_thing_26 : decode cX5_thing 26 = .ok (.getfield 7, 3) := dk_180 0 7 (dk_at dksX5_thing_1 4 rfl rfl)
theorem dX5_thing_29 : decode cX5_thing 29 = .ok (.instanceof 15, 3) := dk_193 0 15 (dk_at dksX5_thing_1 7 rfl rfl)
theorem dX5_thing_32 : decode cX5_thing 32 = .ok (.ifCond .eq 7, 3) := dk_153 0 7 (dk_at dksX5_thing_1 10 rfl rfl)
theorem dX5_thing_35 : decode cX5_thing 35 = .ok (.iconst 2, 1) := dk_5 (dk_at dksX5_thing_1 13 rfl rfl)
theorem dX5_thing_36 : decode cX5_thing 36 = .ok (.goto 4, 3) := dk_167 0 4 (dk_at dksX5_thing_1 14 rfl rfl)
theorem dX5_thing_39 : decode cX5_thing 39 = .ok (.iconst 3, 1) := dk_6 (dk_at dksX5_thing_1 17 rfl rfl)
theorem dX5_thing_40 : decode cX5_thing 40 = .ok (.ireturn, 1) := dk_172 (dk_at dksX5_thing_1 18 rfl rfl)
theorem q111 : (Jvm.Cond.initialized "KeptLeaves$Slot") ∈ lw_all := lw_g (lw_at lw_m1 9 rfl) rfl
theorem q314 : (Jvm.Cond.instantiable "KeptLeaves$Slot" (1 : Nat)) ∈ lw_all := lw_g (lw_at lw_m1 212 rfl) rfl
theorem q316 : (Jvm.Cond.instanceMethod ({ cls := "KeptLeaves$Slot", name := "<init>", desc := "()V" } : Jvm.MethodName)) ∈ lw_all := lw_g (lw_at lw_m1 214 rfl) rfl
theorem q317 : (Jvm.Cond.code ({ cls := "KeptLeaves$Slot", name := "<init>", desc := "()V" } : Jvm.MethodName) prog_12_method_1_code (1 : Nat) (Option.none : Option Jvm.ClassFile.FieldType)) ∈ lw_all := lw_g (lw_at lw_m1 215 rfl) rfl
theorem q318 : (Jvm.Cond.methodLink "KeptLeaves$Slot" (1 : Nat) ({ cls := "java/lang/Object", name := "<init>", desc := "()V" } : Jvm.MethodName)) ∈ lw_all := lw_g (lw_at lw_m1 216 rfl) rfl
theorem q319 : (Jvm.Cond.fieldLink "KeptLeaves$Slot" (7 : Nat) "KeptLeaves$Slot" "held" "Ljava/lang/Object;") ∈ lw_all := lw_g (lw_at lw_m1 217 rfl) rfl
theorem q321 : (Jvm.Cond.lays "KeptLeaves$Slot" "KeptLeaves$Slot" "held" "Ljava/lang/Object;") ∈ lw_all := lw_g (lw_at lw_m1 219 rfl) rfl
theorem q322 : (Jvm.Cond.soleField "KeptLeaves$Slot" "held") ∈ lw_all := lw_g (lw_at lw_m1 220 rfl) rfl
theorem q323 : (Jvm.Cond.superclass "KeptLeaves$Slot" "java/lang/Object") ∈ lw_all := lw_g (lw_at lw_m1 221 rfl) rfl
theorem q1187 : (Jvm.Cond.instanceMethod ({ cls := "KeptLeaves$Slot", name := "thing", desc := "()I" } : Jvm.MethodName)) ∈ lw_all := lw_g (lw_at lw_m5 125 rfl) rfl
theorem q1188 : (Jvm.Cond.selects "KeptLeaves$Slot" ({ cls := "KeptLeaves$Slot", name := "thing", desc := "()I" } : Jvm.MethodName) ({ cls := "KeptLeaves$Slot", name := "thing", desc := "()I" } : Jvm.MethodName)) ∈ lw_all := lw_g (lw_at lw_m5 126 rfl) rfl
theorem q1189 : (Jvm.Cond.code ({ cls := "KeptLeaves$Slot", name := "thing", desc := "()I" } : Jvm.MethodName) prog_12_method_2_code (1 : Nat) (Option.some Jvm.ClassFile.FieldType.int)) ∈ lw_all := lw_g (lw_at lw_m5 127 rfl) rfl
theorem q1190 : (Jvm.Cond.classLink "KeptLeaves$Slot" (13 : Nat) "KeptLeaves$Leaf") ∈ lw_all := lw_g (lw_at lw_m5 128 rfl) rfl
theorem q1191 : (Jvm.Cond.classLink "KeptLeaves$Slot" (15 : Nat) "KeptLeaves$Sheet") ∈ lw_all := lw_g (lw_at lw_m5 129 rfl) rfl
theorem in_X5 : ∀ w ∈ wsX50, w ∈ lw_all := lw_in wsX50 [321] (by decide +kernel) (by decide +kernel)

/-! KeptLeaves$Leaf -/
set_option maxRecDepth 100000
def RX7 : String := "KeptLeaves$Leaf"
def TX7 : u_T := fun k => match k with
  | 0 => ("KeptLeaves$Leaf", "size", "I", false)
  | 1 => ("KeptLeaves$Leaf", "loss", "I", false)
  | 2 => ("KeptLeaves$Leaf", "weight", "I", false)
  | _ => ("KeptLeaves$Leaf", "leans", "I", false)
def tyX7 : Nat → FieldType := fun k => match k with
  | 0 => .int
  | 1 => .int
  | 2 => .int
  | _ => .int
abbrev wsX70 : List Cond := u_ws RX7 TX7 4
theorem nmX7 : ∀ a, a < 4 → ∀ b, b < 4 → a ≠ b → (TX7 a).2.1 ≠ (TX7 b).2.1 := by decide +kernel
theorem tyX7_ok : ∀ k, k < 4 → parseFieldDescriptor (TX7 k).2.2.1 = some (tyX7 k) := by decide +kernel
abbrev cX7_init : ByteArray := prog_6_method_1_code
def yX7_init : MethodName := ⟨RX7, "<init>", "()V"⟩
def dkwX7_init_0 : List UInt8 := [42, 183, 0, 3, 42, 4, 181, 0, 9, 42, 2, 181, 0, 15, 177]
abbrev dktX7_init_0 : List UInt8 := dkwX7_init_0 ++ []
theorem dksX7_init_0 : cX7_init.data.toList.drop 0 = dktX7_init_0 := by decide +kernel
theorem dX7_init_0 : decode cX7_init 0 = .ok (.aload_n 0, 1) := dk_42 (dk_at dksX7_init_0 0 rfl rfl)
theorem dX7_init_1 : decode cX7_init 1 = .ok (.invokespecial 3, 3) := dk_183 0 3 (dk_at dksX7_init_0 1 rfl rfl)
theorem dX7_init_4 : decode cX7_init 4 = .ok (.aload_n 0, 1) := dk_42 (dk_at dksX7_init_0 4 rfl rfl)
theorem dX7_init_5 : decode cX7_init 5 = .ok (.iconst 1, 1) := dk_4 (dk_at dksX7_init_0 5 rfl rfl)
theorem dX7_init_6 : decode cX7_init 6 = .ok (.putfield 9, 3) := dk_181 0 9 (dk_at dksX7_init_0 6 rfl rfl)
theorem dX7_init_9 : decode cX7_init 9 = .ok (.aload_n 0, 1) := dk_42 (dk_at dksX7_init_0 9 rfl rfl)
theorem dX7_init_10 : decode cX7_init 10 = .ok (.iconst (-1), 1) := dk_2 (dk_at dksX7_init_0 10 rfl rfl)
theorem dX7_init_11 : decode cX7_init 11 = .ok (.putfield 15, 3) := dk_181 0 15 (dk_at dksX7_init_0 11 rfl rfl)
theorem dX7_init_14 : decode cX7_init 14 = .ok (.return_, 1) := dk_177 (dk_at dksX7_init_0 14 rfl rfl)
abbrev cX7_kind : ByteArray := prog_6_method_2_code
def yX7_kind : MethodName := ⟨RX7, "kind", "()I"⟩
theorem dX7_kind_0 : decode cX7_kind 0 = .ok (.iconst 0, 1) := by decide +kernel
theorem dX7_kind_1 : decode cX7_kind 1 = .ok (.ireturn, 1) := by decide +kernel
abbrev cX7_worth : ByteArray := prog_6_method_3_code
def yX7_worth : MethodName := ⟨RX7, "worth", "()I"⟩
def dkwX7_worth_0 : List UInt8 := [42, 180, 0, 18, 42, 180, 0, 21, 96, 172]
abbrev dktX7_worth_0 : List UInt8 := dkwX7_worth_0 ++ []
theorem dksX7_worth_0 : cX7_worth.data.toList.drop 0 = dktX7_worth_0 := by decide +kernel
theorem dX7_worth_0 : decode cX7_worth 0 = .ok (.aload_n 0, 1) := dk_42 (dk_at dksX7_worth_0 0 rfl rfl)
theorem dX7_worth_1 : decode cX7_worth 1 = .ok (.getfield 18, 3) := dk_180 0 18 (dk_at dksX7_worth_0 1 rfl rfl)
theorem dX7_worth_4 : decode cX7_worth 4 = .ok (.aload_n 0, 1) := dk_42 (dk_at dksX7_worth_0 4 rfl rfl)
theorem dX7_worth_5 : decode cX7_worth 5 = .ok (.getfield 21, 3) := dk_180 0 21 (dk_at dksX7_worth_0 5 rfl rfl)
theorem dX7_worth_8 : decode cX7_worth 8 = .ok (.iadd, 1) := dk_96 (dk_at dksX7_worth_0 8 rfl rfl)
theorem dX7_worth_9 : decode cX7_worth 9 = .ok (.ireturn, 1) := dk_172 (dk_at dksX7_worth_0 9 rfl rfl)
abbrev cX7_takes : ByteArray := prog_6_method_5_code
def yX7_takes : MethodName := ⟨RX7, "takes", "(LKeptLeaves$Leaf;)V"⟩
def dkwX7_takes_1 : List UInt8 := [42, 43, 180, 0, 15, 181, 0, 15, 177]
abbrev dktX7_takes_1 : List UInt8 := dkwX7_takes_1 ++ []
def dkwX7_takes_0 : List UInt8 := [42, 43, 180, 0, 21, 181, 0, 21, 42, 43, 180, 0, 18, 181, 0, 18, 42, 43, 180, 0, 9, 181, 0, 9]
abbrev dktX7_takes_0 : List UInt8 := dkwX7_takes_0 ++ dktX7_takes_1
theorem dksX7_takes_0 : cX7_takes.data.toList.drop 0 = dktX7_takes_0 := by decide +kernel
theorem dksX7_takes_1 : cX7_takes.data.toList.drop 24 = dktX7_takes_1 := dk_seg dksX7_takes_0 24 rfl rfl
theorem dX7_takes_0 : decode cX7_takes 0 = .ok (.aload_n 0, 1) := dk_42 (dk_at dksX7_takes_0 0 rfl rfl)
theorem dX7_takes_1 : decode cX7_takes 1 = .ok (.aload_n 1, 1) := dk_43 (dk_at dksX7_takes_0 1 rfl rfl)
theorem dX7_takes_2 : decode cX7_takes 2 = .ok (.getfield 21, 3) := dk_180 0 21 (dk_at dksX7_takes_0 2 rfl rfl)
theorem dX7_takes_5 : decode cX7_takes 5 = .ok (.putfield 21, 3) := dk_181 0 21 (dk_at dksX7_takes_0 5 rfl rfl)
theorem dX7_takes_8 : decode cX7_takes 8 = .ok (.aload_n 0, 1) := dk_42 (dk_at dksX7_takes_0 8 rfl rfl)
theorem dX7_takes_9 : decode cX7_takes 9 = .ok (.aload_n 1, 1) := dk_43 (dk_at dksX7_takes_0 9 rfl rfl)
theorem dX7_takes_10 : decode cX7_takes 10 = .ok (.getfield 18, 3) := dk_180 0 18 (dk_at dksX7_takes_0 10 rfl rfl)
theorem dX7_takes_13 : decode cX7_takes 13 = .ok (.putfield 18, 3) := dk_181 0 18 (dk_at dksX7_takes_0 13 rfl rfl)
theorem dX7_takes_16 : decode cX7_takes 16 = .ok (.aload_n 0, 1) := dk_42 (dk_at dksX7_takes_0 16 rfl rfl)
theorem dX7_takes_17 : decode cX7_takes 17 = .ok (.aload_n 1, 1) := dk_43 (dk_at dksX7_takes_0 17 rfl rfl)
theorem dX7_takes_18 : decode cX7_takes 18 = .ok (.getfield 9, 3) := dk_180 0 9 (dk_at dksX7_takes_0 18 rfl rfl)
theorem dX7_takes_21 : decode cX7_takes 21 = .ok (.putfield 9, 3) := dk_181 0 9 (dk_at dksX7_takes_0 21 rfl rfl)
theorem dX7_takes_24 : decode cX7_takes 24 = .ok (.aload_n 0, 1) := dk_42 (dk_at dksX7_takes_1 0 rfl rfl)
theorem dX7_takes_25 : decode cX7_takes 25 = .ok (.aload_n 1, 1) := dk_43 (dk_at dksX7_takes_1 1 rfl rfl)
theorem dX7_takes_26 : decode cX7_takes 26 = .ok (.getfield 15, 3) := dk_180 0 15 (dk_at dksX7_takes_1 2 rfl rfl)
theorem dX7_takes_29 : decode cX7_takes 29 = .ok (.putfield 15, 3) := dk_181 0 15 (dk_at dksX7_takes_1 5 rfl rfl)
theorem dX7_takes_32 : decode cX7_takes 32 = .ok (.return_, 1) := dk_177 (dk_at dksX7_takes_1 8 rfl rfl)
abbrev cX7_copy : ByteArray := prog_6_method_6_code
def yX7_copy : MethodName := ⟨RX7, "copy", "()LKeptLeaves$Leaf;"⟩
def dkwX7_copy_0 : List UInt8 := [42, 182, 0, 25, 76, 43, 42, 182, 0, 29, 43, 176]
abbrev dktX7_copy_0 : List UInt8 := dkwX7_copy_0 ++ []
theorem dksX7_copy_0 : cX7_copy.data.toList.drop 0 = dktX7_copy_0 := by decide +kernel
theorem dX7_copy_0 : decode cX7_copy 0 = .ok (.aload_n 0, 1) := dk_42 (dk_at dksX7_copy_0 0 rfl rfl)
theorem dX7_copy_1 : decode cX7_copy 1 = .ok (.invokevirtual 25, 3) := dk_182 0 25 (dk_at dksX7_copy_0 1 rfl rfl)
theorem dX7_copy_4 : decode cX7_copy 4 = .ok (.astore_n 1, 1) := dk_76 (dk_at dksX7_copy_0 4 rfl rfl)
theorem dX7_copy_5 : decode cX7_copy 5 = .ok (.aload_n 1, 1) := dk_43 (dk_at dksX7_copy_0 5 rfl rfl)
theorem dX7_copy_6 : decode cX7_copy 6 = .ok (.aload_n 0, 1) := dk_42 (dk_at dksX7_copy_0 6 rfl rfl)
theorem dX7_copy_7 : decode cX7_copy 7 = .ok (.invokevirtual 29, 3) := dk_182 0 29 (dk_at dksX7_copy_0 7 rfl rfl)
theorem dX7_copy_10 : decode cX7_copy 10 = .ok (.aload_n 1, 1) := dk_43 (dk_at dksX7_copy_0 10 rfl rfl)
theorem dX7_copy_11 : decode cX7_copy 11 = .ok (.areturn, 1) := dk_176 (dk_at dksX7_copy_0 11 rfl rfl)
abbrev cX7_another : ByteArray := prog_6_method_4_code
def yX7_another : MethodName := ⟨RX7, "another", "()LKeptLeaves$Leaf;"⟩
def dkwX7_another_0 : List UInt8 := [187, 0, 10, 89, 183, 0, 24, 176]
abbrev dktX7_another_0 : List UInt8 := dkwX7_another_0 ++ []
theorem dksX7_another_0 : cX7_another.data.toList.drop 0 = dktX7_another_0 := by decide +kernel
theorem dX7_another_0 : decode cX7_another 0 = .ok (.new 10, 3) := dk_187 0 10 (dk_at dksX7_another_0 0 rfl rfl)
theorem dX7_another_3 : decode cX7_another 3 = .ok (.dup, 1) := dk_89 (dk_at dksX7_another_0 3 rfl rfl)
theorem dX7_another_4 : decode cX7_another 4 = .ok (.invokespecial 24, 3) := dk_183 0 24 (dk_at dksX7_another_0 4 rfl rfl)
theorem dX7_another_7 : decode cX7_another 7 = .ok (.areturn, 1) := dk_176 (dk_at dksX7_another_0 7 rfl rfl)
theorem q113 : (Jvm.Cond.initialized "KeptLeaves$Leaf") ∈ lw_all := lw_g (lw_at lw_m1 11 rfl) rfl
theorem q639 : (Jvm.Cond.instanceMethod ({ cls := "KeptLeaves$Leaf", name := "<init>", desc := "()V" } : Jvm.MethodName)) ∈ lw_all := lw_g (lw_at lw_m3 57 rfl) rfl
theorem q640 : (Jvm.Cond.code ({ cls := "KeptLeaves$Leaf", name := "<init>", desc := "()V" } : Jvm.MethodName) prog_6_method_1_code (1 : Nat) (Option.none : Option Jvm.ClassFile.FieldType)) ∈ lw_all := lw_g (lw_at lw_m3 58 rfl) rfl
theorem q641 : (Jvm.Cond.methodLink "KeptLeaves$Leaf" (3 : Nat) ({ cls := "java/lang/Object", name := "<init>", desc := "()V" } : Jvm.MethodName)) ∈ lw_all := lw_g (lw_at lw_m3 59 rfl) rfl
theorem q642 : (Jvm.Cond.fieldLink "KeptLeaves$Leaf" (21 : Nat) "KeptLeaves$Leaf" "size" "I") ∈ lw_all := lw_g (lw_at lw_m3 60 rfl) rfl
theorem q646 : (Jvm.Cond.fieldLink "KeptLeaves$Leaf" (18 : Nat) "KeptLeaves$Leaf" "loss" "I") ∈ lw_all := lw_g (lw_at lw_m3 64 rfl) rfl
theorem q648 : (Jvm.Cond.fieldLink "KeptLeaves$Leaf" (9 : Nat) "KeptLeaves$Leaf" "weight" "I") ∈ lw_all := lw_g (lw_at lw_m3 66 rfl) rfl
theorem q652 : (Jvm.Cond.fieldLink "KeptLeaves$Leaf" (15 : Nat) "KeptLeaves$Leaf" "leans" "I") ∈ lw_all := lw_g (lw_at lw_m3 70 rfl) rfl
theorem q655 : (Jvm.Cond.soleField "KeptLeaves$Leaf" "size") ∈ lw_all := lw_g (lw_at lw_m3 73 rfl) rfl
theorem q657 : (Jvm.Cond.soleField "KeptLeaves$Leaf" "loss") ∈ lw_all := lw_g (lw_at lw_m3 75 rfl) rfl
theorem q659 : (Jvm.Cond.soleField "KeptLeaves$Leaf" "weight") ∈ lw_all := lw_g (lw_at lw_m3 77 rfl) rfl
theorem q661 : (Jvm.Cond.soleField "KeptLeaves$Leaf" "leans") ∈ lw_all := lw_g (lw_at lw_m3 79 rfl) rfl
theorem q708 : (Jvm.Cond.instantiable "KeptLeaves$Leaf" (4 : Nat)) ∈ lw_all := lw_g (lw_at lw_m3 126 rfl) rfl
theorem q710 : (Jvm.Cond.lays "KeptLeaves$Leaf" "KeptLeaves$Leaf" "size" "I") ∈ lw_all := lw_g (lw_at lw_m3 128 rfl) rfl
theorem q711 : (Jvm.Cond.lays "KeptLeaves$Leaf" "KeptLeaves$Leaf" "loss" "I") ∈ lw_all := lw_g (lw_at lw_m3 129 rfl) rfl
theorem q712 : (Jvm.Cond.lays "KeptLeaves$Leaf" "KeptLeaves$Leaf" "weight" "I") ∈ lw_all := lw_g (lw_at lw_m3 130 rfl) rfl
theorem q713 : (Jvm.Cond.lays "KeptLeaves$Leaf" "KeptLeaves$Leaf" "leans" "I") ∈ lw_all := lw_g (lw_at lw_m3 131 rfl) rfl
theorem q714 : (Jvm.Cond.superclass "KeptLeaves$Leaf" "java/lang/Object") ∈ lw_all := lw_g (lw_at lw_m3 132 rfl) rfl
theorem q753 : (Jvm.Cond.unhidden "KeptLeaves$Leaf" "room" "(I)I") ∈ lw_tbl := lw_at lw_m3 171 rfl
theorem q783 : (Jvm.Cond.unhidden "KeptLeaves$Leaf" "miss" "(II)I") ∈ lw_tbl := lw_at lw_m3 201 rfl
theorem q796 : (Jvm.Cond.instanceMethod ({ cls := "KeptLeaves$Leaf", name := "kind", desc := "()I" } : Jvm.MethodName)) ∈ lw_all := lw_g (lw_at lw_m3 214 rfl) rfl
theorem q797 : (Jvm.Cond.selects "KeptLeaves$Leaf" ({ cls := "KeptLeaves$Leaf", name := "kind", desc := "()I" } : Jvm.MethodName) ({ cls := "KeptLeaves$Leaf", name := "kind", desc := "()I" } : Jvm.MethodName)) ∈ lw_all := lw_g (lw_at lw_m3 215 rfl) rfl
theorem q798 : (Jvm.Cond.sameMethod "KeptLeaves$Leaf" "KeptLeaves$Leaf" "kind" "()I") ∈ lw_all := lw_g (lw_at lw_m3 216 rfl) rfl
theorem q816 : (Jvm.Cond.code ({ cls := "KeptLeaves$Leaf", name := "kind", desc := "()I" } : Jvm.MethodName) prog_6_method_2_code (1 : Nat) (Option.some Jvm.ClassFile.FieldType.int)) ∈ lw_all := lw_g (lw_at lw_m3 234 rfl) rfl
theorem q826 : (Jvm.Cond.instanceMethod ({ cls := "KeptLeaves$Leaf", name := "worth", desc := "()I" } : Jvm.MethodName)) ∈ lw_all := lw_g (lw_at lw_m4 4 rfl) rfl
theorem q827 : (Jvm.Cond.selects "KeptLeaves$Leaf" ({ cls := "KeptLeaves$Leaf", name := "worth", desc := "()I" } : Jvm.MethodName) ({ cls := "KeptLeaves$Leaf", name := "worth", desc := "()I" } : Jvm.MethodName)) ∈ lw_all := lw_g (lw_at lw_m4 5 rfl) rfl
theorem q828 : (Jvm.Cond.sameMethod "KeptLeaves$Leaf" "KeptLeaves$Leaf" "worth" "()I") ∈ lw_all := lw_g (lw_at lw_m4 6 rfl) rfl
theorem q848 : (Jvm.Cond.code ({ cls := "KeptLeaves$Leaf", name := "worth", desc := "()I" } : Jvm.MethodName) prog_6_method_3_code (1 : Nat) (Option.some Jvm.ClassFile.FieldType.int)) ∈ lw_all := lw_g (lw_at lw_m4 26 rfl) rfl
theorem q889 : (Jvm.Cond.instanceMethod ({ cls := "KeptLeaves$Leaf", name := "takes", desc := "(LKeptLeaves$Leaf;)V" } : Jvm.MethodName)) ∈ lw_all := lw_g (lw_at lw_m4 67 rfl) rfl
theorem q890 : (Jvm.Cond.selects "KeptLeaves$Leaf" ({ cls := "KeptLeaves$Leaf", name := "takes", desc := "(LKeptLeaves$Leaf;)V" } : Jvm.MethodName) ({ cls := "KeptLeaves$Leaf", name := "takes", desc := "(LKeptLeaves$Leaf;)V" } : Jvm.MethodName)) ∈ lw_all := lw_g (lw_at lw_m4 68 rfl) rfl
theorem q891 : (Jvm.Cond.sameMethod "KeptLeaves$Leaf" "KeptLeaves$Leaf" "takes" "(LKeptLeaves$Leaf;)V") ∈ lw_all := lw_g (lw_at lw_m4 69 rfl) rfl
theorem q897 : (Jvm.Cond.code ({ cls := "KeptLeaves$Leaf", name := "takes", desc := "(LKeptLeaves$Leaf;)V" } : Jvm.MethodName) prog_6_method_5_code (2 : Nat) (Option.none : Option Jvm.ClassFile.FieldType)) ∈ lw_all := lw_g (lw_at lw_m4 75 rfl) rfl
theorem q1193 : (Jvm.Cond.instanceMethod ({ cls := "KeptLeaves$Leaf", name := "copy", desc := "()LKeptLeaves$Leaf;" } : Jvm.MethodName)) ∈ lw_all := lw_g (lw_at lw_m5 131 rfl) rfl
theorem q1194 : (Jvm.Cond.selects "KeptLeaves$Leaf" ({ cls := "KeptLeaves$Leaf", name := "copy", desc := "()LKeptLeaves$Leaf;" } : Jvm.MethodName) ({ cls := "KeptLeaves$Leaf", name := "copy", desc := "()LKeptLeaves$Leaf;" } : Jvm.MethodName)) ∈ lw_all := lw_g (lw_at lw_m5 132 rfl) rfl
theorem q1195 : (Jvm.Cond.sameMethod "KeptLeaves$Leaf" "KeptLeaves$Leaf" "copy" "()LKeptLeaves$Leaf;") ∈ lw_all := lw_g (lw_at lw_m5 133 rfl) rfl
theorem q1201 : (Jvm.Cond.code ({ cls := "KeptLeaves$Leaf", name := "copy", desc := "()LKeptLeaves$Leaf;" } : Jvm.MethodName) prog_6_method_6_code (2 : Nat) (Option.some (Jvm.ClassFile.FieldType.object "KeptLeaves$Leaf"))) ∈ lw_all := lw_g (lw_at lw_m5 139 rfl) rfl
theorem q1202 : (Jvm.Cond.methodLink "KeptLeaves$Leaf" (25 : Nat) ({ cls := "KeptLeaves$Leaf", name := "another", desc := "()LKeptLeaves$Leaf;" } : Jvm.MethodName)) ∈ lw_all := lw_g (lw_at lw_m5 140 rfl) rfl
theorem q1203 : (Jvm.Cond.instanceMethod ({ cls := "KeptLeaves$Leaf", name := "another", desc := "()LKeptLeaves$Leaf;" } : Jvm.MethodName)) ∈ lw_all := lw_g (lw_at lw_m5 141 rfl) rfl
theorem q1204 : (Jvm.Cond.selects "KeptLeaves$Leaf" ({ cls := "KeptLeaves$Leaf", name := "another", desc := "()LKeptLeaves$Leaf;" } : Jvm.MethodName) ({ cls := "KeptLeaves$Leaf", name := "another", desc := "()LKeptLeaves$Leaf;" } : Jvm.MethodName)) ∈ lw_all := lw_g (lw_at lw_m5 142 rfl) rfl
theorem q1205 : (Jvm.Cond.sameMethod "KeptLeaves$Leaf" "KeptLeaves$Leaf" "another" "()LKeptLeaves$Leaf;") ∈ lw_all := lw_g (lw_at lw_m5 143 rfl) rfl
theorem q1231 : (Jvm.Cond.code ({ cls := "KeptLeaves$Leaf", name := "another", desc := "()LKeptLeaves$Leaf;" } : Jvm.MethodName) prog_6_method_4_code (1 : Nat) (Option.some (Jvm.ClassFile.FieldType.object "KeptLeaves$Leaf"))) ∈ lw_all := lw_g (lw_at lw_m5 169 rfl) rfl
theorem q1232 : (Jvm.Cond.classLink "KeptLeaves$Leaf" (10 : Nat) "KeptLeaves$Leaf") ∈ lw_all := lw_g (lw_at lw_m5 170 rfl) rfl
theorem q1233 : (Jvm.Cond.methodLink "KeptLeaves$Leaf" (24 : Nat) ({ cls := "KeptLeaves$Leaf", name := "<init>", desc := "()V" } : Jvm.MethodName)) ∈ lw_all := lw_g (lw_at lw_m5 171 rfl) rfl
theorem q1234 : (Jvm.Cond.methodLink "KeptLeaves$Leaf" (29 : Nat) ({ cls := "KeptLeaves$Leaf", name := "takes", desc := "(LKeptLeaves$Leaf;)V" } : Jvm.MethodName)) ∈ lw_all := lw_g (lw_at lw_m5 172 rfl) rfl
theorem q1266 : (Jvm.Cond.castable "KeptLeaves$Leaf" "KeptLeaves$Missed") ∈ lw_tbl := lw_at lw_m5 204 rfl
theorem q1267 : (Jvm.Cond.selects "KeptLeaves$Leaf" ({ cls := "KeptLeaves$Missed", name := "worth", desc := "()I" } : Jvm.MethodName) ({ cls := "KeptLeaves$Leaf", name := "worth", desc := "()I" } : Jvm.MethodName)) ∈ lw_all := lw_g (lw_at lw_m5 205 rfl) rfl
theorem q1268 : (Jvm.Cond.unhidden "KeptLeaves$Leaf" "worth" "()I") ∈ lw_tbl := lw_at lw_m5 206 rfl
theorem q1269 : (Jvm.Cond.publicMethod ({ cls := "KeptLeaves$Leaf", name := "worth", desc := "()I" } : Jvm.MethodName)) ∈ lw_tbl := lw_at lw_m5 207 rfl
theorem in_X7 : ∀ w ∈ wsX70, w ∈ lw_all := lw_in wsX70 [710, 711, 712, 713] (by decide +kernel) (by decide +kernel)

/-! KeptLeaves$OldLeaf -/
set_option maxRecDepth 100000
def RX8 : String := "KeptLeaves$OldLeaf"
def TX8 : u_T := fun k => match k with
  | 0 => ("KeptLeaves$Leaf", "size", "I", false)
  | 1 => ("KeptLeaves$Leaf", "loss", "I", false)
  | 2 => ("KeptLeaves$Leaf", "weight", "I", false)
  | _ => ("KeptLeaves$Leaf", "leans", "I", false)
def tyX8 : Nat → FieldType := fun k => match k with
  | 0 => .int
  | 1 => .int
  | 2 => .int
  | _ => .int
abbrev wsX80 : List Cond := u_ws RX8 TX8 4
theorem nmX8 : ∀ a, a < 4 → ∀ b, b < 4 → a ≠ b → (TX8 a).2.1 ≠ (TX8 b).2.1 := by decide +kernel
theorem tyX8_ok : ∀ k, k < 4 → parseFieldDescriptor (TX8 k).2.2.1 = some (tyX8 k) := by decide +kernel
abbrev cX8_init : ByteArray := prog_9_method_1_code
def yX8_init : MethodName := ⟨RX8, "<init>", "()V"⟩
theorem dX8_init_0 : decode cX8_init 0 = .ok (.aload_n 0, 1) := by decide +kernel
theorem dX8_init_1 : decode cX8_init 1 = .ok (.invokespecial 3, 3) := by decide +kernel
theorem dX8_init_4 : decode cX8_init 4 = .ok (.return_, 1) := by decide +kernel
abbrev cX8_room : ByteArray := prog_9_method_3_code
def yX8_room : MethodName := ⟨RX8, "room", "(I)I"⟩
def dkwX8_room_0 : List UInt8 := [42, 27, 183, 0, 9, 4, 96, 172]
abbrev dktX8_room_0 : List UInt8 := dkwX8_room_0 ++ []
theorem dksX8_room_0 : cX8_room.data.toList.drop 0 = dktX8_room_0 := by decide +kernel
theorem dX8_room_0 : decode cX8_room 0 = .ok (.aload_n 0, 1) := dk_42 (dk_at dksX8_room_0 0 rfl rfl)
theorem dX8_room_1 : decode cX8_room 1 = .ok (.iload_n 1, 1) := dk_27 (dk_at dksX8_room_0 1 rfl rfl)
theorem dX8_room_2 : decode cX8_room 2 = .ok (.invokespecial 9, 3) := dk_183 0 9 (dk_at dksX8_room_0 2 rfl rfl)
theorem dX8_room_5 : decode cX8_room 5 = .ok (.iconst 1, 1) := dk_4 (dk_at dksX8_room_0 5 rfl rfl)
theorem dX8_room_6 : decode cX8_room 6 = .ok (.iadd, 1) := dk_96 (dk_at dksX8_room_0 6 rfl rfl)
theorem dX8_room_7 : decode cX8_room 7 = .ok (.ireturn, 1) := dk_172 (dk_at dksX8_room_0 7 rfl rfl)
abbrev cX8_miss : ByteArray := prog_9_method_4_code
def yX8_miss : MethodName := ⟨RX8, "miss", "(II)I"⟩
def dkwX8_miss_0 : List UInt8 := [42, 27, 28, 183, 0, 13, 8, 96, 172]
abbrev dktX8_miss_0 : List UInt8 := dkwX8_miss_0 ++ []
theorem dksX8_miss_0 : cX8_miss.data.toList.drop 0 = dktX8_miss_0 := by decide +kernel
theorem dX8_miss_0 : decode cX8_miss 0 = .ok (.aload_n 0, 1) := dk_42 (dk_at dksX8_miss_0 0 rfl rfl)
theorem dX8_miss_1 : decode cX8_miss 1 = .ok (.iload_n 1, 1) := dk_27 (dk_at dksX8_miss_0 1 rfl rfl)
theorem dX8_miss_2 : decode cX8_miss 2 = .ok (.iload_n 2, 1) := dk_28 (dk_at dksX8_miss_0 2 rfl rfl)
theorem dX8_miss_3 : decode cX8_miss 3 = .ok (.invokespecial 13, 3) := dk_183 0 13 (dk_at dksX8_miss_0 3 rfl rfl)
theorem dX8_miss_6 : decode cX8_miss 6 = .ok (.iconst 5, 1) := dk_8 (dk_at dksX8_miss_0 6 rfl rfl)
theorem dX8_miss_7 : decode cX8_miss 7 = .ok (.iadd, 1) := dk_96 (dk_at dksX8_miss_0 7 rfl rfl)
theorem dX8_miss_8 : decode cX8_miss 8 = .ok (.ireturn, 1) := dk_172 (dk_at dksX8_miss_0 8 rfl rfl)
abbrev cX8_kind : ByteArray := prog_9_method_2_code
def yX8_kind : MethodName := ⟨RX8, "kind", "()I"⟩
theorem dX8_kind_0 : decode cX8_kind 0 = .ok (.iconst 1, 1) := by decide +kernel
theorem dX8_kind_1 : decode cX8_kind 1 = .ok (.ireturn, 1) := by decide +kernel
abbrev cX8_worth : ByteArray := prog_9_method_5_code
def yX8_worth : MethodName := ⟨RX8, "worth", "()I"⟩
def dkwX8_worth_0 : List UInt8 := [42, 183, 0, 17, 16, 10, 96, 172]
abbrev dktX8_worth_0 : List UInt8 := dkwX8_worth_0 ++ []
theorem dksX8_worth_0 : cX8_worth.data.toList.drop 0 = dktX8_worth_0 := by decide +kernel
theorem dX8_worth_0 : decode cX8_worth 0 = .ok (.aload_n 0, 1) := dk_42 (dk_at dksX8_worth_0 0 rfl rfl)
theorem dX8_worth_1 : decode cX8_worth 1 = .ok (.invokespecial 17, 3) := dk_183 0 17 (dk_at dksX8_worth_0 1 rfl rfl)
theorem dX8_worth_4 : decode cX8_worth 4 = .ok (.bipush 10, 2) := dk_16 10 (dk_at dksX8_worth_0 4 rfl rfl)
theorem dX8_worth_6 : decode cX8_worth 6 = .ok (.iadd, 1) := dk_96 (dk_at dksX8_worth_0 6 rfl rfl)
theorem dX8_worth_7 : decode cX8_worth 7 = .ok (.ireturn, 1) := dk_172 (dk_at dksX8_worth_0 7 rfl rfl)
abbrev cX8_another : ByteArray := prog_9_method_6_code
def yX8_another : MethodName := ⟨RX8, "another", "()LKeptLeaves$Leaf;"⟩
def dkwX8_another_0 : List UInt8 := [187, 0, 21, 89, 183, 0, 23, 176]
abbrev dktX8_another_0 : List UInt8 := dkwX8_another_0 ++ []
theorem dksX8_another_0 : cX8_another.data.toList.drop 0 = dktX8_another_0 := by decide +kernel
theorem dX8_another_0 : decode cX8_another 0 = .ok (.new 21, 3) := dk_187 0 21 (dk_at dksX8_another_0 0 rfl rfl)
theorem dX8_another_3 : decode cX8_another 3 = .ok (.dup, 1) := dk_89 (dk_at dksX8_another_0 3 rfl rfl)
theorem dX8_another_4 : decode cX8_another 4 = .ok (.invokespecial 23, 3) := dk_183 0 23 (dk_at dksX8_another_0 4 rfl rfl)
theorem dX8_another_7 : decode cX8_another 7 = .ok (.areturn, 1) := dk_176 (dk_at dksX8_another_0 7 rfl rfl)
theorem q114 : (Jvm.Cond.initialized "KeptLeaves$OldLeaf") ∈ lw_all := lw_g (lw_at lw_m1 12 rfl) rfl
theorem q634 : (Jvm.Cond.instantiable "KeptLeaves$OldLeaf" (4 : Nat)) ∈ lw_all := lw_g (lw_at lw_m3 52 rfl) rfl
theorem q636 : (Jvm.Cond.instanceMethod ({ cls := "KeptLeaves$OldLeaf", name := "<init>", desc := "()V" } : Jvm.MethodName)) ∈ lw_all := lw_g (lw_at lw_m3 54 rfl) rfl
theorem q637 : (Jvm.Cond.code ({ cls := "KeptLeaves$OldLeaf", name := "<init>", desc := "()V" } : Jvm.MethodName) prog_9_method_1_code (1 : Nat) (Option.none : Option Jvm.ClassFile.FieldType)) ∈ lw_all := lw_g (lw_at lw_m3 55 rfl) rfl
theorem q638 : (Jvm.Cond.methodLinkNest "KeptLeaves$OldLeaf" (3 : Nat) ({ cls := "KeptLeaves$Leaf", name := "<init>", desc := "()V" } : Jvm.MethodName) "KeptLeaves") ∈ lw_tbl := lw_at lw_m3 56 rfl
theorem q654 : (Jvm.Cond.lays "KeptLeaves$OldLeaf" "KeptLeaves$Leaf" "size" "I") ∈ lw_all := lw_g (lw_at lw_m3 72 rfl) rfl
theorem q656 : (Jvm.Cond.lays "KeptLeaves$OldLeaf" "KeptLeaves$Leaf" "loss" "I") ∈ lw_all := lw_g (lw_at lw_m3 74 rfl) rfl
theorem q658 : (Jvm.Cond.lays "KeptLeaves$OldLeaf" "KeptLeaves$Leaf" "weight" "I") ∈ lw_all := lw_g (lw_at lw_m3 76 rfl) rfl
theorem q660 : (Jvm.Cond.lays "KeptLeaves$OldLeaf" "KeptLeaves$Leaf" "leans" "I") ∈ lw_all := lw_g (lw_at lw_m3 78 rfl) rfl
theorem q662 : (Jvm.Cond.superclass "KeptLeaves$OldLeaf" "KeptLeaves$Leaf") ∈ lw_all := lw_g (lw_at lw_m3 80 rfl) rfl
theorem q757 : (Jvm.Cond.selects "KeptLeaves$OldLeaf" ({ cls := "KeptLeaves$Takes", name := "room", desc := "(I)I" } : Jvm.MethodName) ({ cls := "KeptLeaves$OldLeaf", name := "room", desc := "(I)I" } : Jvm.MethodName)) ∈ lw_all := lw_g (lw_at lw_m3 175 rfl) rfl
theorem q758 : (Jvm.Cond.instanceMethod ({ cls := "KeptLeaves$OldLeaf", name := "room", desc := "(I)I" } : Jvm.MethodName)) ∈ lw_all := lw_g (lw_at lw_m3 176 rfl) rfl
theorem q759 : (Jvm.Cond.code ({ cls := "KeptLeaves$OldLeaf", name := "room", desc := "(I)I" } : Jvm.MethodName) prog_9_method_3_code (2 : Nat) (Option.some Jvm.ClassFile.FieldType.int)) ∈ lw_all := lw_g (lw_at lw_m3 177 rfl) rfl
theorem q787 : (Jvm.Cond.selects "KeptLeaves$OldLeaf" ({ cls := "KeptLeaves$Missed", name := "miss", desc := "(II)I" } : Jvm.MethodName) ({ cls := "KeptLeaves$OldLeaf", name := "miss", desc := "(II)I" } : Jvm.MethodName)) ∈ lw_all := lw_g (lw_at lw_m3 205 rfl) rfl
theorem q788 : (Jvm.Cond.instanceMethod ({ cls := "KeptLeaves$OldLeaf", name := "miss", desc := "(II)I" } : Jvm.MethodName)) ∈ lw_all := lw_g (lw_at lw_m3 206 rfl) rfl
theorem q789 : (Jvm.Cond.code ({ cls := "KeptLeaves$OldLeaf", name := "miss", desc := "(II)I" } : Jvm.MethodName) prog_9_method_4_code (3 : Nat) (Option.some Jvm.ClassFile.FieldType.int)) ∈ lw_all := lw_g (lw_at lw_m3 207 rfl) rfl
theorem q809 : (Jvm.Cond.selects "KeptLeaves$OldLeaf" ({ cls := "KeptLeaves$Leaf", name := "kind", desc := "()I" } : Jvm.MethodName) ({ cls := "KeptLeaves$OldLeaf", name := "kind", desc := "()I" } : Jvm.MethodName)) ∈ lw_all := lw_g (lw_at lw_m3 227 rfl) rfl
theorem q810 : (Jvm.Cond.instanceMethod ({ cls := "KeptLeaves$OldLeaf", name := "kind", desc := "()I" } : Jvm.MethodName)) ∈ lw_all := lw_g (lw_at lw_m3 228 rfl) rfl
theorem q811 : (Jvm.Cond.code ({ cls := "KeptLeaves$OldLeaf", name := "kind", desc := "()I" } : Jvm.MethodName) prog_9_method_2_code (1 : Nat) (Option.some Jvm.ClassFile.FieldType.int)) ∈ lw_all := lw_g (lw_at lw_m3 229 rfl) rfl
theorem q840 : (Jvm.Cond.selects "KeptLeaves$OldLeaf" ({ cls := "KeptLeaves$Leaf", name := "worth", desc := "()I" } : Jvm.MethodName) ({ cls := "KeptLeaves$OldLeaf", name := "worth", desc := "()I" } : Jvm.MethodName)) ∈ lw_all := lw_g (lw_at lw_m4 18 rfl) rfl
theorem q841 : (Jvm.Cond.instanceMethod ({ cls := "KeptLeaves$OldLeaf", name := "worth", desc := "()I" } : Jvm.MethodName)) ∈ lw_all := lw_g (lw_at lw_m4 19 rfl) rfl
theorem q842 : (Jvm.Cond.code ({ cls := "KeptLeaves$OldLeaf", name := "worth", desc := "()I" } : Jvm.MethodName) prog_9_method_5_code (1 : Nat) (Option.some Jvm.ClassFile.FieldType.int)) ∈ lw_all := lw_g (lw_at lw_m4 20 rfl) rfl
theorem q843 : (Jvm.Cond.methodLink "KeptLeaves$OldLeaf" (17 : Nat) ({ cls := "KeptLeaves$Leaf", name := "worth", desc := "()I" } : Jvm.MethodName)) ∈ lw_all := lw_g (lw_at lw_m4 21 rfl) rfl
theorem q895 : (Jvm.Cond.selects "KeptLeaves$OldLeaf" ({ cls := "KeptLeaves$Leaf", name := "takes", desc := "(LKeptLeaves$Leaf;)V" } : Jvm.MethodName) ({ cls := "KeptLeaves$Leaf", name := "takes", desc := "(LKeptLeaves$Leaf;)V" } : Jvm.MethodName)) ∈ lw_all := lw_g (lw_at lw_m4 73 rfl) rfl
theorem q1199 : (Jvm.Cond.selects "KeptLeaves$OldLeaf" ({ cls := "KeptLeaves$Leaf", name := "copy", desc := "()LKeptLeaves$Leaf;" } : Jvm.MethodName) ({ cls := "KeptLeaves$Leaf", name := "copy", desc := "()LKeptLeaves$Leaf;" } : Jvm.MethodName)) ∈ lw_all := lw_g (lw_at lw_m5 137 rfl) rfl
theorem q1221 : (Jvm.Cond.selects "KeptLeaves$OldLeaf" ({ cls := "KeptLeaves$Leaf", name := "another", desc := "()LKeptLeaves$Leaf;" } : Jvm.MethodName) ({ cls := "KeptLeaves$OldLeaf", name := "another", desc := "()LKeptLeaves$Leaf;" } : Jvm.MethodName)) ∈ lw_all := lw_g (lw_at lw_m5 159 rfl) rfl
theorem q1222 : (Jvm.Cond.instanceMethod ({ cls := "KeptLeaves$OldLeaf", name := "another", desc := "()LKeptLeaves$Leaf;" } : Jvm.MethodName)) ∈ lw_all := lw_g (lw_at lw_m5 160 rfl) rfl
theorem q1223 : (Jvm.Cond.code ({ cls := "KeptLeaves$OldLeaf", name := "another", desc := "()LKeptLeaves$Leaf;" } : Jvm.MethodName) prog_9_method_6_code (1 : Nat) (Option.some (Jvm.ClassFile.FieldType.object "KeptLeaves$Leaf"))) ∈ lw_all := lw_g (lw_at lw_m5 161 rfl) rfl
theorem q1224 : (Jvm.Cond.classLink "KeptLeaves$OldLeaf" (21 : Nat) "KeptLeaves$OldLeaf") ∈ lw_all := lw_g (lw_at lw_m5 162 rfl) rfl
theorem q1225 : (Jvm.Cond.methodLink "KeptLeaves$OldLeaf" (23 : Nat) ({ cls := "KeptLeaves$OldLeaf", name := "<init>", desc := "()V" } : Jvm.MethodName)) ∈ lw_all := lw_g (lw_at lw_m5 163 rfl) rfl
theorem q1274 : (Jvm.Cond.castable "KeptLeaves$OldLeaf" "KeptLeaves$Missed") ∈ lw_tbl := lw_at lw_m5 212 rfl
theorem q1275 : (Jvm.Cond.selects "KeptLeaves$OldLeaf" ({ cls := "KeptLeaves$Missed", name := "worth", desc := "()I" } : Jvm.MethodName) ({ cls := "KeptLeaves$OldLeaf", name := "worth", desc := "()I" } : Jvm.MethodName)) ∈ lw_all := lw_g (lw_at lw_m5 213 rfl) rfl
theorem q1276 : (Jvm.Cond.unhidden "KeptLeaves$OldLeaf" "worth" "()I") ∈ lw_tbl := lw_at lw_m5 214 rfl
theorem q1277 : (Jvm.Cond.publicMethod ({ cls := "KeptLeaves$OldLeaf", name := "worth", desc := "()I" } : Jvm.MethodName)) ∈ lw_tbl := lw_at lw_m5 215 rfl
theorem q1893 : (Jvm.Cond.sameMethod "KeptLeaves$OldLeaf" "KeptLeaves$OldLeaf" "room" "(I)I") ∈ lw_all := lw_g (lw_at lw_m8 111 rfl) rfl
theorem q1895 : (Jvm.Cond.sameMethod "KeptLeaves$OldLeaf" "KeptLeaves$OldLeaf" "miss" "(II)I") ∈ lw_all := lw_g (lw_at lw_m8 113 rfl) rfl
theorem q1897 : (Jvm.Cond.sameMethod "KeptLeaves$OldLeaf" "KeptLeaves$OldLeaf" "kind" "()I") ∈ lw_all := lw_g (lw_at lw_m8 115 rfl) rfl
theorem q1899 : (Jvm.Cond.sameMethod "KeptLeaves$OldLeaf" "KeptLeaves$OldLeaf" "worth" "()I") ∈ lw_all := lw_g (lw_at lw_m8 117 rfl) rfl
theorem q1905 : (Jvm.Cond.castable "KeptLeaves$OldLeaf" "KeptLeaves$Leaf") ∈ lw_tbl := lw_at lw_m8 123 rfl
theorem in_X8 : ∀ w ∈ wsX80, w ∈ lw_all := lw_in wsX80 [654, 656, 658, 660] (by decide +kernel) (by decide +kernel)

/-! KeptLeaves$CopyLeaf -/
set_option maxRecDepth 100000
def RX9 : String := "KeptLeaves$CopyLeaf"
def TX9 : u_T := fun k => match k with
  | 0 => ("KeptLeaves$Leaf", "size", "I", false)
  | 1 => ("KeptLeaves$Leaf", "loss", "I", false)
  | 2 => ("KeptLeaves$Leaf", "weight", "I", false)
  | _ => ("KeptLeaves$Leaf", "leans", "I", false)
def tyX9 : Nat → FieldType := fun k => match k with
  | 0 => .int
  | 1 => .int
  | 2 => .int
  | _ => .int
abbrev wsX90 : List Cond := u_ws RX9 TX9 4
theorem nmX9 : ∀ a, a < 4 → ∀ b, b < 4 → a ≠ b → (TX9 a).2.1 ≠ (TX9 b).2.1 := by decide +kernel
theorem tyX9_ok : ∀ k, k < 4 → parseFieldDescriptor (TX9 k).2.2.1 = some (tyX9 k) := by decide +kernel
abbrev cX9_init : ByteArray := prog_2_method_1_code
def yX9_init : MethodName := ⟨RX9, "<init>", "()V"⟩
theorem dX9_init_0 : decode cX9_init 0 = .ok (.aload_n 0, 1) := by decide +kernel
theorem dX9_init_1 : decode cX9_init 1 = .ok (.invokespecial 3, 3) := by decide +kernel
theorem dX9_init_4 : decode cX9_init 4 = .ok (.return_, 1) := by decide +kernel
abbrev cX9_room : ByteArray := prog_2_method_3_code
def yX9_room : MethodName := ⟨RX9, "room", "(I)I"⟩
def dkwX9_room_0 : List UInt8 := [42, 27, 183, 0, 9, 4, 96, 5, 108, 172]
abbrev dktX9_room_0 : List UInt8 := dkwX9_room_0 ++ []
theorem dksX9_room_0 : cX9_room.data.toList.drop 0 = dktX9_room_0 := by decide +kernel
theorem dX9_room_0 : decode cX9_room 0 = .ok (.aload_n 0, 1) := dk_42 (dk_at dksX9_room_0 0 rfl rfl)
theorem dX9_room_1 : decode cX9_room 1 = .ok (.iload_n 1, 1) := dk_27 (dk_at dksX9_room_0 1 rfl rfl)
theorem dX9_room_2 : decode cX9_room 2 = .ok (.invokespecial 9, 3) := dk_183 0 9 (dk_at dksX9_room_0 2 rfl rfl)
theorem dX9_room_5 : decode cX9_room 5 = .ok (.iconst 1, 1) := dk_4 (dk_at dksX9_room_0 5 rfl rfl)
theorem dX9_room_6 : decode cX9_room 6 = .ok (.iadd, 1) := dk_96 (dk_at dksX9_room_0 6 rfl rfl)
theorem dX9_room_7 : decode cX9_room 7 = .ok (.iconst 2, 1) := dk_5 (dk_at dksX9_room_0 7 rfl rfl)
theorem dX9_room_8 : decode cX9_room 8 = .ok (.idiv, 1) := dk_108 (dk_at dksX9_room_0 8 rfl rfl)
theorem dX9_room_9 : decode cX9_room 9 = .ok (.ireturn, 1) := dk_172 (dk_at dksX9_room_0 9 rfl rfl)
abbrev cX9_miss : ByteArray := prog_2_method_4_code
def yX9_miss : MethodName := ⟨RX9, "miss", "(II)I"⟩
def dkwX9_miss_0 : List UInt8 := [42, 27, 28, 183, 0, 13, 5, 108, 172]
abbrev dktX9_miss_0 : List UInt8 := dkwX9_miss_0 ++ []
theorem dksX9_miss_0 : cX9_miss.data.toList.drop 0 = dktX9_miss_0 := by decide +kernel
theorem dX9_miss_0 : decode cX9_miss 0 = .ok (.aload_n 0, 1) := dk_42 (dk_at dksX9_miss_0 0 rfl rfl)
theorem dX9_miss_1 : decode cX9_miss 1 = .ok (.iload_n 1, 1) := dk_27 (dk_at dksX9_miss_0 1 rfl rfl)
theorem dX9_miss_2 : decode cX9_miss 2 = .ok (.iload_n 2, 1) := dk_28 (dk_at dksX9_miss_0 2 rfl rfl)
theorem dX9_miss_3 : decode cX9_miss 3 = .ok (.invokespecial 13, 3) := dk_183 0 13 (dk_at dksX9_miss_0 3 rfl rfl)
theorem dX9_miss_6 : decode cX9_miss 6 = .ok (.iconst 2, 1) := dk_5 (dk_at dksX9_miss_0 6 rfl rfl)
theorem dX9_miss_7 : decode cX9_miss 7 = .ok (.idiv, 1) := dk_108 (dk_at dksX9_miss_0 7 rfl rfl)
theorem dX9_miss_8 : decode cX9_miss 8 = .ok (.ireturn, 1) := dk_172 (dk_at dksX9_miss_0 8 rfl rfl)
abbrev cX9_kind : ByteArray := prog_2_method_2_code
def yX9_kind : MethodName := ⟨RX9, "kind", "()I"⟩
theorem dX9_kind_0 : decode cX9_kind 0 = .ok (.iconst 2, 1) := by decide +kernel
theorem dX9_kind_1 : decode cX9_kind 1 = .ok (.ireturn, 1) := by decide +kernel
abbrev cX9_worth : ByteArray := prog_2_method_5_code
def yX9_worth : MethodName := ⟨RX9, "worth", "()I"⟩
def dkwX9_worth_0 : List UInt8 := [42, 183, 0, 17, 5, 108, 172]
abbrev dktX9_worth_0 : List UInt8 := dkwX9_worth_0 ++ []
theorem dksX9_worth_0 : cX9_worth.data.toList.drop 0 = dktX9_worth_0 := by decide +kernel
theorem dX9_worth_0 : decode cX9_worth 0 = .ok (.aload_n 0, 1) := dk_42 (dk_at dksX9_worth_0 0 rfl rfl)
theorem dX9_worth_1 : decode cX9_worth 1 = .ok (.invokespecial 17, 3) := dk_183 0 17 (dk_at dksX9_worth_0 1 rfl rfl)
theorem dX9_worth_4 : decode cX9_worth 4 = .ok (.iconst 2, 1) := dk_5 (dk_at dksX9_worth_0 4 rfl rfl)
theorem dX9_worth_5 : decode cX9_worth 5 = .ok (.idiv, 1) := dk_108 (dk_at dksX9_worth_0 5 rfl rfl)
theorem dX9_worth_6 : decode cX9_worth 6 = .ok (.ireturn, 1) := dk_172 (dk_at dksX9_worth_0 6 rfl rfl)
abbrev cX9_another : ByteArray := prog_2_method_6_code
def yX9_another : MethodName := ⟨RX9, "another", "()LKeptLeaves$Leaf;"⟩
def dkwX9_another_0 : List UInt8 := [187, 0, 21, 89, 183, 0, 23, 176]
abbrev dktX9_another_0 : List UInt8 := dkwX9_another_0 ++ []
theorem dksX9_another_0 : cX9_another.data.toList.drop 0 = dktX9_another_0 := by decide +kernel
theorem dX9_another_0 : decode cX9_another 0 = .ok (.new 21, 3) := dk_187 0 21 (dk_at dksX9_another_0 0 rfl rfl)
theorem dX9_another_3 : decode cX9_another 3 = .ok (.dup, 1) := dk_89 (dk_at dksX9_another_0 3 rfl rfl)
theorem dX9_another_4 : decode cX9_another 4 = .ok (.invokespecial 23, 3) := dk_183 0 23 (dk_at dksX9_another_0 4 rfl rfl)
theorem dX9_another_7 : decode cX9_another 7 = .ok (.areturn, 1) := dk_176 (dk_at dksX9_another_0 7 rfl rfl)
theorem q115 : (Jvm.Cond.initialized "KeptLeaves$CopyLeaf") ∈ lw_all := lw_g (lw_at lw_m1 13 rfl) rfl
theorem q664 : (Jvm.Cond.instantiable "KeptLeaves$CopyLeaf" (4 : Nat)) ∈ lw_all := lw_g (lw_at lw_m3 82 rfl) rfl
theorem q666 : (Jvm.Cond.instanceMethod ({ cls := "KeptLeaves$CopyLeaf", name := "<init>", desc := "()V" } : Jvm.MethodName)) ∈ lw_all := lw_g (lw_at lw_m3 84 rfl) rfl
theorem q667 : (Jvm.Cond.code ({ cls := "KeptLeaves$CopyLeaf", name := "<init>", desc := "()V" } : Jvm.MethodName) prog_2_method_1_code (1 : Nat) (Option.none : Option Jvm.ClassFile.FieldType)) ∈ lw_all := lw_g (lw_at lw_m3 85 rfl) rfl
theorem q668 : (Jvm.Cond.methodLinkNest "KeptLeaves$CopyLeaf" (3 : Nat) ({ cls := "KeptLeaves$Leaf", name := "<init>", desc := "()V" } : Jvm.MethodName) "KeptLeaves") ∈ lw_tbl := lw_at lw_m3 86 rfl
theorem q669 : (Jvm.Cond.lays "KeptLeaves$CopyLeaf" "KeptLeaves$Leaf" "size" "I") ∈ lw_all := lw_g (lw_at lw_m3 87 rfl) rfl
theorem q670 : (Jvm.Cond.lays "KeptLeaves$CopyLeaf" "KeptLeaves$Leaf" "loss" "I") ∈ lw_all := lw_g (lw_at lw_m3 88 rfl) rfl
theorem q671 : (Jvm.Cond.lays "KeptLeaves$CopyLeaf" "KeptLeaves$Leaf" "weight" "I") ∈ lw_all := lw_g (lw_at lw_m3 89 rfl) rfl
theorem q672 : (Jvm.Cond.lays "KeptLeaves$CopyLeaf" "KeptLeaves$Leaf" "leans" "I") ∈ lw_all := lw_g (lw_at lw_m3 90 rfl) rfl
theorem q673 : (Jvm.Cond.superclass "KeptLeaves$CopyLeaf" "KeptLeaves$Leaf") ∈ lw_all := lw_g (lw_at lw_m3 91 rfl) rfl
theorem q744 : (Jvm.Cond.selects "KeptLeaves$CopyLeaf" ({ cls := "KeptLeaves$Takes", name := "room", desc := "(I)I" } : Jvm.MethodName) ({ cls := "KeptLeaves$CopyLeaf", name := "room", desc := "(I)I" } : Jvm.MethodName)) ∈ lw_all := lw_g (lw_at lw_m3 162 rfl) rfl
theorem q745 : (Jvm.Cond.instanceMethod ({ cls := "KeptLeaves$CopyLeaf", name := "room", desc := "(I)I" } : Jvm.MethodName)) ∈ lw_all := lw_g (lw_at lw_m3 163 rfl) rfl
theorem q746 : (Jvm.Cond.code ({ cls := "KeptLeaves$CopyLeaf", name := "room", desc := "(I)I" } : Jvm.MethodName) prog_2_method_3_code (2 : Nat) (Option.some Jvm.ClassFile.FieldType.int)) ∈ lw_all := lw_g (lw_at lw_m3 164 rfl) rfl
theorem q774 : (Jvm.Cond.selects "KeptLeaves$CopyLeaf" ({ cls := "KeptLeaves$Missed", name := "miss", desc := "(II)I" } : Jvm.MethodName) ({ cls := "KeptLeaves$CopyLeaf", name := "miss", desc := "(II)I" } : Jvm.MethodName)) ∈ lw_all := lw_g (lw_at lw_m3 192 rfl) rfl
theorem q775 : (Jvm.Cond.instanceMethod ({ cls := "KeptLeaves$CopyLeaf", name := "miss", desc := "(II)I" } : Jvm.MethodName)) ∈ lw_all := lw_g (lw_at lw_m3 193 rfl) rfl
theorem q776 : (Jvm.Cond.code ({ cls := "KeptLeaves$CopyLeaf", name := "miss", desc := "(II)I" } : Jvm.MethodName) prog_2_method_4_code (3 : Nat) (Option.some Jvm.ClassFile.FieldType.int)) ∈ lw_all := lw_g (lw_at lw_m3 194 rfl) rfl
theorem q799 : (Jvm.Cond.selects "KeptLeaves$CopyLeaf" ({ cls := "KeptLeaves$Leaf", name := "kind", desc := "()I" } : Jvm.MethodName) ({ cls := "KeptLeaves$CopyLeaf", name := "kind", desc := "()I" } : Jvm.MethodName)) ∈ lw_all := lw_g (lw_at lw_m3 217 rfl) rfl
theorem q800 : (Jvm.Cond.instanceMethod ({ cls := "KeptLeaves$CopyLeaf", name := "kind", desc := "()I" } : Jvm.MethodName)) ∈ lw_all := lw_g (lw_at lw_m3 218 rfl) rfl
theorem q801 : (Jvm.Cond.code ({ cls := "KeptLeaves$CopyLeaf", name := "kind", desc := "()I" } : Jvm.MethodName) prog_2_method_2_code (1 : Nat) (Option.some Jvm.ClassFile.FieldType.int)) ∈ lw_all := lw_g (lw_at lw_m3 219 rfl) rfl
theorem q829 : (Jvm.Cond.selects "KeptLeaves$CopyLeaf" ({ cls := "KeptLeaves$Leaf", name := "worth", desc := "()I" } : Jvm.MethodName) ({ cls := "KeptLeaves$CopyLeaf", name := "worth", desc := "()I" } : Jvm.MethodName)) ∈ lw_all := lw_g (lw_at lw_m4 7 rfl) rfl
theorem q830 : (Jvm.Cond.instanceMethod ({ cls := "KeptLeaves$CopyLeaf", name := "worth", desc := "()I" } : Jvm.MethodName)) ∈ lw_all := lw_g (lw_at lw_m4 8 rfl) rfl
theorem q831 : (Jvm.Cond.code ({ cls := "KeptLeaves$CopyLeaf", name := "worth", desc := "()I" } : Jvm.MethodName) prog_2_method_5_code (1 : Nat) (Option.some Jvm.ClassFile.FieldType.int)) ∈ lw_all := lw_g (lw_at lw_m4 9 rfl) rfl
theorem q832 : (Jvm.Cond.methodLink "KeptLeaves$CopyLeaf" (17 : Nat) ({ cls := "KeptLeaves$Leaf", name := "worth", desc := "()I" } : Jvm.MethodName)) ∈ lw_all := lw_g (lw_at lw_m4 10 rfl) rfl
theorem q892 : (Jvm.Cond.selects "KeptLeaves$CopyLeaf" ({ cls := "KeptLeaves$Leaf", name := "takes", desc := "(LKeptLeaves$Leaf;)V" } : Jvm.MethodName) ({ cls := "KeptLeaves$Leaf", name := "takes", desc := "(LKeptLeaves$Leaf;)V" } : Jvm.MethodName)) ∈ lw_all := lw_g (lw_at lw_m4 70 rfl) rfl
theorem q1196 : (Jvm.Cond.selects "KeptLeaves$CopyLeaf" ({ cls := "KeptLeaves$Leaf", name := "copy", desc := "()LKeptLeaves$Leaf;" } : Jvm.MethodName) ({ cls := "KeptLeaves$Leaf", name := "copy", desc := "()LKeptLeaves$Leaf;" } : Jvm.MethodName)) ∈ lw_all := lw_g (lw_at lw_m5 134 rfl) rfl
theorem q1206 : (Jvm.Cond.selects "KeptLeaves$CopyLeaf" ({ cls := "KeptLeaves$Leaf", name := "another", desc := "()LKeptLeaves$Leaf;" } : Jvm.MethodName) ({ cls := "KeptLeaves$CopyLeaf", name := "another", desc := "()LKeptLeaves$Leaf;" } : Jvm.MethodName)) ∈ lw_all := lw_g (lw_at lw_m5 144 rfl) rfl
theorem q1207 : (Jvm.Cond.instanceMethod ({ cls := "KeptLeaves$CopyLeaf", name := "another", desc := "()LKeptLeaves$Leaf;" } : Jvm.MethodName)) ∈ lw_all := lw_g (lw_at lw_m5 145 rfl) rfl
theorem q1208 : (Jvm.Cond.code ({ cls := "KeptLeaves$CopyLeaf", name := "another", desc := "()LKeptLeaves$Leaf;" } : Jvm.MethodName) prog_2_method_6_code (1 : Nat) (Option.some (Jvm.ClassFile.FieldType.object "KeptLeaves$Leaf"))) ∈ lw_all := lw_g (lw_at lw_m5 146 rfl) rfl
theorem q1209 : (Jvm.Cond.classLink "KeptLeaves$CopyLeaf" (21 : Nat) "KeptLeaves$CopyLeaf") ∈ lw_all := lw_g (lw_at lw_m5 147 rfl) rfl
theorem q1210 : (Jvm.Cond.methodLink "KeptLeaves$CopyLeaf" (23 : Nat) ({ cls := "KeptLeaves$CopyLeaf", name := "<init>", desc := "()V" } : Jvm.MethodName)) ∈ lw_all := lw_g (lw_at lw_m5 148 rfl) rfl
theorem q1258 : (Jvm.Cond.castable "KeptLeaves$CopyLeaf" "KeptLeaves$Missed") ∈ lw_tbl := lw_at lw_m5 196 rfl
theorem q1259 : (Jvm.Cond.selects "KeptLeaves$CopyLeaf" ({ cls := "KeptLeaves$Missed", name := "worth", desc := "()I" } : Jvm.MethodName) ({ cls := "KeptLeaves$CopyLeaf", name := "worth", desc := "()I" } : Jvm.MethodName)) ∈ lw_all := lw_g (lw_at lw_m5 197 rfl) rfl
theorem q1260 : (Jvm.Cond.unhidden "KeptLeaves$CopyLeaf" "worth" "()I") ∈ lw_tbl := lw_at lw_m5 198 rfl
theorem q1261 : (Jvm.Cond.publicMethod ({ cls := "KeptLeaves$CopyLeaf", name := "worth", desc := "()I" } : Jvm.MethodName)) ∈ lw_tbl := lw_at lw_m5 199 rfl
theorem q1892 : (Jvm.Cond.sameMethod "KeptLeaves$CopyLeaf" "KeptLeaves$CopyLeaf" "room" "(I)I") ∈ lw_all := lw_g (lw_at lw_m8 110 rfl) rfl
theorem q1894 : (Jvm.Cond.sameMethod "KeptLeaves$CopyLeaf" "KeptLeaves$CopyLeaf" "miss" "(II)I") ∈ lw_all := lw_g (lw_at lw_m8 112 rfl) rfl
theorem q1896 : (Jvm.Cond.sameMethod "KeptLeaves$CopyLeaf" "KeptLeaves$CopyLeaf" "kind" "()I") ∈ lw_all := lw_g (lw_at lw_m8 114 rfl) rfl
theorem q1898 : (Jvm.Cond.sameMethod "KeptLeaves$CopyLeaf" "KeptLeaves$CopyLeaf" "worth" "()I") ∈ lw_all := lw_g (lw_at lw_m8 116 rfl) rfl
theorem q1902 : (Jvm.Cond.castable "KeptLeaves$CopyLeaf" "KeptLeaves$Leaf") ∈ lw_tbl := lw_at lw_m8 120 rfl
theorem in_X9 : ∀ w ∈ wsX90, w ∈ lw_all := lw_in wsX90 [669, 670, 671, 672] (by decide +kernel) (by decide +kernel)

