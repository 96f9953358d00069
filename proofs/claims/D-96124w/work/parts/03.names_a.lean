/-! java/lang/Throwable -/
set_option maxRecDepth 100000
def RJ0 : String := "java/lang/Throwable"
def TJ0 : u_T := fun k => match k with
  | 0 => ("java/lang/Throwable", "cause", "Ljava/lang/Throwable;", false)
  | 1 => ("java/lang/Throwable", "stackTrace", "[Ljava/lang/StackTraceElement;", false)
  | 2 => ("java/lang/Throwable", "suppressedExceptions", "Ljava/util/List;", false)
  | 3 => ("java/lang/Throwable", "detailMessage", "Ljava/lang/String;", false)
  | _ => ("java/lang/Throwable", "backtrace", "Ljava/lang/Object;", false)
def tyJ0 : Nat → FieldType := fun k => match k with
  | 0 => .object "java/lang/Throwable"
  | 1 => .array (.object "java/lang/StackTraceElement")
  | 2 => .object "java/util/List"
  | 3 => .object "java/lang/String"
  | _ => .object "java/lang/Object"
abbrev wsJ00 : List Cond := u_ws RJ0 TJ0 5
theorem nmJ0 : ∀ a, a < 5 → ∀ b, b < 5 → a ≠ b → (TJ0 a).2.1 ≠ (TJ0 b).2.1 := by decide +kernel
theorem tyJ0_ok : ∀ k, k < 5 → parseFieldDescriptor (TJ0 k).2.2.1 = some (tyJ0 k) := by decide +kernel
abbrev cJ0_init : ByteArray := prog_31_method_1_code
def yJ0_init : MethodName := ⟨RJ0, "<init>", "()V"⟩
def dkwJ0_init_1 : List UInt8 := [182, 0, 27, 87, 177]
abbrev dktJ0_init_1 : List UInt8 := dkwJ0_init_1 ++ []
def dkwJ0_init_0 : List UInt8 := [42, 183, 0, 1, 42, 42, 181, 0, 7, 42, 178, 0, 13, 181, 0, 17, 42, 178, 0, 20, 181, 0, 24, 42]
abbrev dktJ0_init_0 : List UInt8 := dkwJ0_init_0 ++ dktJ0_init_1
theorem dksJ0_init_0 : cJ0_init.data.toList.drop 0 = dktJ0_init_0 := by decide +kernel
theorem dksJ0_init_1 : cJ0_init.data.toList.drop 24 = dktJ0_init_1 := dk_seg dksJ0_init_0 24 rfl rfl
theorem dJ0_init_0 : decode cJ0_init 0 = .ok (.aload_n 0, 1) := dk_42 (dk_at dksJ0_init_0 0 rfl rfl)
theorem dJ0_init_1 : decode cJ0_init 1 = .ok (.invokespecial 1, 3) := dk_183 0 1 (dk_at dksJ0_init_0 1 rfl rfl)
theorem dJ0_init_4 : decode cJ0_init 4 = .ok (.aload_n 0, 1) := dk_42 (dk_at dksJ0_init_0 4 rfl rfl)
theorem dJ0_init_5 : decode cJ0_init 5 = .ok (.aload_n 0, 1) := dk_42 (dk_at dksJ0_init_0 5 rfl rfl)
theorem dJ0_init_6 : decode cJ0_init 6 = .ok (.putfield 7, 3) := dk_181 0 7 (dk_at dksJ0_init_0 6 rfl rfl)
theorem dJ0_init_9 : decode cJ0_init 9 = .ok (.aload_n 0, 1) := dk_42 (dk_at dksJ0_init_0 9 rfl rfl)
theorem dJ0_init_10 : decode cJ0_init 10 = .ok (.getstatic 13, 3) := dk_178 0 13 (dk_at dksJ0_init_0 10 rfl rfl)
theorem dJ0_init_13 : decode cJ0_init 13 = .ok (.putfield 17, 3) := dk_181 0 17 (dk_at dksJ0_init_0 13 rfl rfl)
theorem dJ0_init_16 : decode cJ0_init 16 = .ok (.aload_n 0, 1) := dk_42 (dk_at dksJ0_init_0 16 rfl rfl)
theorem dJ0_init_17 : decode cJ0_init 17 = .ok (.getstatic 20, 3) := dk_178 0 20 (dk_at dksJ0_init_0 17 rfl rfl)
theorem dJ0_init_20 : decode cJ0_init 20 = .ok (.putfield 24, 3) := dk_181 0 24 (dk_at dksJ0_init_0 20 rfl rfl)
theorem dJ0_init_23 : decode cJ0_init 23 = .ok (.aload_n 0, 1) := dk_42 (dk_at dksJ0_init_0 23 rfl rfl)
theorem dJ0_init_24 : decode cJ0_init 24 = .ok (.invokevirtual 27, 3) := dk_182 0 27 (dk_at dksJ0_init_1 0 rfl rfl)
theorem dJ0_init_27 : decode cJ0_init 27 = .ok (.pop, 1) := dk_87 (dk_at dksJ0_init_1 3 rfl rfl)
theorem dJ0_init_28 : decode cJ0_init 28 = .ok (.return_, 1) := dk_177 (dk_at dksJ0_init_1 4 rfl rfl)
abbrev cJ0_init_2 : ByteArray := prog_31_method_5_code
def yJ0_init_2 : MethodName := ⟨RJ0, "<init>", "(Ljava/lang/String;Ljava/lang/Throwable;ZZ)V"⟩
def dkwJ0_init_2_2 : List UInt8 := [44, 181, 0, 7, 29, 154, 0, 8, 42, 1, 181, 0, 24, 177]
abbrev dktJ0_init_2_2 : List UInt8 := dkwJ0_init_2_2 ++ []
def dkwJ0_init_2_1 : List UInt8 := [21, 4, 153, 0, 11, 42, 182, 0, 27, 87, 167, 0, 8, 42, 1, 181, 0, 17, 42, 43, 181, 0, 31, 42]
abbrev dktJ0_init_2_1 : List UInt8 := dkwJ0_init_2_1 ++ dktJ0_init_2_2
def dkwJ0_init_2_0 : List UInt8 := [42, 183, 0, 1, 42, 42, 181, 0, 7, 42, 178, 0, 13, 181, 0, 17, 42, 178, 0, 20, 181, 0, 24]
abbrev dktJ0_init_2_0 : List UInt8 := dkwJ0_init_2_0 ++ dktJ0_init_2_1
theorem dksJ0_init_2_0 : cJ0_init_2.data.toList.drop 0 = dktJ0_init_2_0 := by decide +kernel
theorem dksJ0_init_2_1 : cJ0_init_2.data.toList.drop 23 = dktJ0_init_2_1 := dk_seg dksJ0_init_2_0 23 rfl rfl
theorem dksJ0_init_2_2 : cJ0_init_2.data.toList.drop 47 = dktJ0_init_2_2 := dk_seg dksJ0_init_2_1 24 rfl rfl
theorem dJ0_init_2_0 : decode cJ0_init_2 0 = .ok (.aload_n 0, 1) := dk_42 (dk_at dksJ0_init_2_0 0 rfl rfl)
theorem dJ0_init_2_1 : decode cJ0_init_2 1 = .ok (.invokespecial 1, 3) := dk_183 0 1 (dk_at dksJ0_init_2_0 1 rfl rfl)
theorem dJ0_init_2_4 : decode cJ0_init_2 4 = .ok (.aload_n 0, 1) := dk_42 (dk_at dksJ0_init_2_0 4 rfl rfl)
theorem dJ0_init_2_5 : decode cJ0_init_2 5 = .ok (.aload_n 0, 1) := dk_42 (dk_at dksJ0_init_2_0 5 rfl rfl)
theorem dJ0_init_2_6 : decode cJ0_init_2 6 = .ok (.putfield 7, 3) := dk_181 0 7 (dk_at dksJ0_init_2_0 6 rfl rfl)
theorem dJ0_init_2_9 : decode cJ0_init_2 9 = .ok (.aload_n 0, 1) := dk_42 (dk_at dksJ0_init_2_0 9 rfl rfl)
theorem dJ0_init_2_10 : decode cJ0_init_2 10 = .ok (.getstatic 13, 3) := dk_178 0 13 (dk_at dksJ0_init_2_0 10 rfl rfl)
theorem dJ0_init_2_13 : decode cJ0_init_2 13 = .ok (.putfield 17, 3) := dk_181 0 17 (dk_at dksJ0_init_2_0 13 rfl rfl)
theorem dJ0_init_2_16 : decode cJ0_init_2 16 = .ok (.aload_n 0, 1) := dk_42 (dk_at dksJ0_init_2_0 16 rfl rfl)
theorem dJ0_init_2_17 : decode cJ0_init_2 17 = .ok (.getstatic 20, 3) := dk_178 0 20 (dk_at dksJ0_init_2_0 17 rfl rfl)
theorem dJ0_init_2_20 : decode cJ0_init_2 20 = .ok (.putfield 24, 3) := dk_181 0 24 (dk_at dksJ0_init_2_0 20 rfl rfl)
theorem dJ0_init_2_23 : decode cJ0_init_2 23 = .ok (.iload 4, 2) := dk_21 4 (dk_at dksJ0_init_2_1 0 rfl rfl)
theorem dJ0_init_2_25 : decode cJ0_init_2 25 = .ok (.ifCond .eq 11, 3) := dk_153 0 11 (dk_at dksJ0_init_2_1 2 rfl rfl)
theorem dJ0_init_2_28 : decode cJ0_init_2 28 = .ok (.aload_n 0, 1) := dk_42 (dk_at dksJ0_init_2_1 5 rfl rfl)
theorem dJ0_init_2_29 : decode cJ0_init_2 29 = .ok (.invokevirtual 27, 3) := dk_182 0 27 (dk_at dksJ0_init_2_1 6 rfl rfl)
theorem dJ0_init_2_32 : decode cJ0_init_2 32 = .ok (.pop, 1) := dk_87 (dk_at dksJ0_init_2_1 9 rfl rfl)
theorem dJ0_init_2_33 : decode cJ0_init_2 33 = .ok (.goto 8, 3) := dk_167 0 8 (dk_at dksJ0_init_2_1 10 rfl rfl)
theorem dJ0_init_2_36 : decode cJ0_init_2 36 = .ok (.aload_n 0, 1) := dk_42 (dk_at dksJ0_init_2_1 13 rfl rfl)
theorem dJ0_init_2_37 : decode cJ0_init_2 37 = .ok (.aconst_null, 1) := dk_1 (dk_at dksJ0_init_2_1 14 rfl rfl)
theorem dJ0_init_2_38 : decode cJ0_init_2 38 = .ok (.putfield 17, 3) := dk_181 0 17 (dk_at dksJ0_init_2_1 15 rfl rfl)
theorem dJ0_init_2_41 : decode cJ0_init_2 41 = .ok (.aload_n 0, 1) := dk_42 (dk_at dksJ0_init_2_1 18 rfl rfl)
theorem dJ0_init_2_42 : decode cJ0_init_2 42 = .ok (.aload_n 1, 1) := dk_43 (dk_at dksJ0_init_2_1 19 rfl rfl)
theorem dJ0_init_2_43 : decode cJ0_init_2 43 = .ok (.putfield 31, 3) := dk_181 0 31 (dk_at dksJ0_init_2_1 20 rfl rfl)
theorem dJ0_init_2_46 : decode cJ0_init_2 46 = .ok (.aload_n 0, 1) := dk_42 (dk_at dksJ0_init_2_1 23 rfl rfl)
theorem dJ0_init_2_47 : decode cJ0_init_2 47 = .ok (.aload_n 2, 1) := dk_44 (dk_at dksJ0_init_2_2 0 rfl rfl)
theorem dJ0_init_2_48 : decode cJ0_init_2 48 = .ok (.putfield 7, 3) := dk_181 0 7 (dk_at dksJ0_init_2_2 1 rfl rfl)
theorem dJ0_init_2_51 : decode cJ0_init_2 51 = .ok (.iload_n 3, 1) := dk_29 (dk_at dksJ0_init_2_2 4 rfl rfl)
theorem dJ0_init_2_52 : decode cJ0_init_2 52 = .ok (.ifCond .ne 8, 3) := dk_154 0 8 (dk_at dksJ0_init_2_2 5 rfl rfl)
theorem dJ0_init_2_55 : decode cJ0_init_2 55 = .ok (.aload_n 0, 1) := dk_42 (dk_at dksJ0_init_2_2 8 rfl rfl)
theorem dJ0_init_2_56 : decode cJ0_init_2 56 = .ok (.aconst_null, 1) := dk_1 (dk_at dksJ0_init_2_2 9 rfl rfl)
theorem dJ0_init_2_57 : decode cJ0_init_2 57 = .ok (.putfield 24, 3) := dk_181 0 24 (dk_at dksJ0_init_2_2 10 rfl rfl)
theorem dJ0_init_2_60 : decode cJ0_init_2 60 = .ok (.return_, 1) := dk_177 (dk_at dksJ0_init_2_2 13 rfl rfl)
theorem q108 : (Jvm.Cond.initialized "java/lang/Throwable") ∈ lw_all := lw_g (lw_at lw_m1 2 rfl) rfl
theorem q160 : (Jvm.Cond.declares ({ cls := "java/lang/Throwable", name := "<init>", desc := "()V" } : Jvm.MethodName)) ∈ lw_tbl := lw_at lw_m1 54 rfl
theorem q161 : (Jvm.Cond.declares ({ cls := "java/lang/Throwable", name := "<init>", desc := "(Ljava/lang/String;)V" } : Jvm.MethodName)) ∈ lw_tbl := lw_at lw_m1 55 rfl
theorem q165 : (Jvm.Cond.lays "java/lang/Throwable" "java/lang/Throwable" "cause" "Ljava/lang/Throwable;") ∈ lw_all := lw_g (lw_at lw_m1 59 rfl) rfl
theorem q167 : (Jvm.Cond.lays "java/lang/Throwable" "java/lang/Throwable" "stackTrace" "[Ljava/lang/StackTraceElement;") ∈ lw_all := lw_g (lw_at lw_m1 61 rfl) rfl
theorem q169 : (Jvm.Cond.lays "java/lang/Throwable" "java/lang/Throwable" "suppressedExceptions" "Ljava/util/List;") ∈ lw_all := lw_g (lw_at lw_m1 63 rfl) rfl
theorem q171 : (Jvm.Cond.lays "java/lang/Throwable" "java/lang/Throwable" "detailMessage" "Ljava/lang/String;") ∈ lw_all := lw_g (lw_at lw_m1 65 rfl) rfl
theorem q173 : (Jvm.Cond.lays "java/lang/Throwable" "java/lang/Throwable" "backtrace" "Ljava/lang/Object;") ∈ lw_all := lw_g (lw_at lw_m1 67 rfl) rfl
theorem q174 : (Jvm.Cond.fieldLink "java/lang/Throwable" (198 : Nat) "java/lang/Throwable" "backtrace" "Ljava/lang/Object;") ∈ lw_all := lw_g (lw_at lw_m1 68 rfl) rfl
theorem q175 : (Jvm.Cond.superclass "java/lang/Throwable" "java/lang/Object") ∈ lw_all := lw_g (lw_at lw_m1 69 rfl) rfl
theorem q176 : (Jvm.Cond.instanceMethod ({ cls := "java/lang/Throwable", name := "<init>", desc := "()V" } : Jvm.MethodName)) ∈ lw_all := lw_g (lw_at lw_m1 70 rfl) rfl
theorem q177 : (Jvm.Cond.code ({ cls := "java/lang/Throwable", name := "<init>", desc := "()V" } : Jvm.MethodName) prog_31_method_1_code (1 : Nat) (Option.none : Option Jvm.ClassFile.FieldType)) ∈ lw_all := lw_g (lw_at lw_m1 71 rfl) rfl
theorem q178 : (Jvm.Cond.methodLink "java/lang/Throwable" (1 : Nat) ({ cls := "java/lang/Object", name := "<init>", desc := "()V" } : Jvm.MethodName)) ∈ lw_all := lw_g (lw_at lw_m1 72 rfl) rfl
theorem q179 : (Jvm.Cond.fieldLink "java/lang/Throwable" (13 : Nat) "java/lang/Throwable" "UNASSIGNED_STACK" "[Ljava/lang/StackTraceElement;") ∈ lw_all := lw_g (lw_at lw_m1 73 rfl) rfl
theorem q180 : (Jvm.Cond.laysStatic "java/lang/Throwable" "UNASSIGNED_STACK" "[Ljava/lang/StackTraceElement;") ∈ lw_tbl := lw_at lw_m1 74 rfl
theorem q181 : (Jvm.Cond.fieldLink "java/lang/Throwable" (20 : Nat) "java/lang/Throwable" "SUPPRESSED_SENTINEL" "Ljava/util/List;") ∈ lw_all := lw_g (lw_at lw_m1 75 rfl) rfl
theorem q182 : (Jvm.Cond.laysStatic "java/lang/Throwable" "SUPPRESSED_SENTINEL" "Ljava/util/List;") ∈ lw_tbl := lw_at lw_m1 76 rfl
theorem q183 : (Jvm.Cond.methodLink "java/lang/Throwable" (27 : Nat) ({ cls := "java/lang/Throwable", name := "fillInStackTrace", desc := "()Ljava/lang/Throwable;" } : Jvm.MethodName)) ∈ lw_all := lw_g (lw_at lw_m1 77 rfl) rfl
theorem q184 : (Jvm.Cond.instanceMethod ({ cls := "java/lang/Throwable", name := "fillInStackTrace", desc := "()Ljava/lang/Throwable;" } : Jvm.MethodName)) ∈ lw_all := lw_g (lw_at lw_m1 78 rfl) rfl
theorem q185 : (Jvm.Cond.sameMethod "java/lang/Throwable" "java/lang/Throwable" "fillInStackTrace" "()Ljava/lang/Throwable;") ∈ lw_all := lw_g (lw_at lw_m1 79 rfl) rfl
theorem q187 : (Jvm.Cond.codeSync ({ cls := "java/lang/Throwable", name := "fillInStackTrace", desc := "()Ljava/lang/Throwable;" } : Jvm.MethodName) prog_31_method_18_code (1 : Nat) (Option.some (Jvm.ClassFile.FieldType.object "java/lang/Throwable"))) ∈ lw_all := lw_g (lw_at lw_m1 81 rfl) rfl
theorem q188 : (Jvm.Cond.methodLink "java/lang/Throwable" (202 : Nat) ({ cls := "java/lang/Throwable", name := "fillInStackTrace", desc := "(I)Ljava/lang/Throwable;" } : Jvm.MethodName)) ∈ lw_all := lw_g (lw_at lw_m1 82 rfl) rfl
theorem q189 : (Jvm.Cond.privateMethod ({ cls := "java/lang/Throwable", name := "fillInStackTrace", desc := "(I)Ljava/lang/Throwable;" } : Jvm.MethodName)) ∈ lw_tbl := lw_at lw_m1 83 rfl
theorem q190 : (Jvm.Cond.instanceMethod ({ cls := "java/lang/Throwable", name := "fillInStackTrace", desc := "(I)Ljava/lang/Throwable;" } : Jvm.MethodName)) ∈ lw_all := lw_g (lw_at lw_m1 84 rfl) rfl
theorem q191 : (Jvm.Cond.instantiable "java/lang/Throwable" (6 : Nat)) ∈ lw_all := lw_g (lw_at lw_m1 85 rfl) rfl
theorem q192 : (Jvm.Cond.native ({ cls := "java/lang/Throwable", name := "fillInStackTrace", desc := "(I)Ljava/lang/Throwable;" } : Jvm.MethodName)) ∈ lw_all := lw_g (lw_at lw_m1 86 rfl) rfl
theorem q203 : (Jvm.Cond.instanceMethod ({ cls := "java/lang/Throwable", name := "<init>", desc := "(Ljava/lang/String;Ljava/lang/Throwable;ZZ)V" } : Jvm.MethodName)) ∈ lw_all := lw_g (lw_at lw_m1 97 rfl) rfl
theorem q204 : (Jvm.Cond.code ({ cls := "java/lang/Throwable", name := "<init>", desc := "(Ljava/lang/String;Ljava/lang/Throwable;ZZ)V" } : Jvm.MethodName) prog_31_method_5_code (5 : Nat) (Option.none : Option Jvm.ClassFile.FieldType)) ∈ lw_all := lw_g (lw_at lw_m1 98 rfl) rfl
theorem q205 : (Jvm.Cond.fieldLink "java/lang/Throwable" (198 : Nat) "java/lang/Throwable" "backtrace" "Ljava/lang/Object;") ∈ lw_all := lw_g (lw_at lw_m1 99 rfl) rfl
theorem q206 : (Jvm.Cond.fieldLink "java/lang/Throwable" (31 : Nat) "java/lang/Throwable" "detailMessage" "Ljava/lang/String;") ∈ lw_all := lw_g (lw_at lw_m1 100 rfl) rfl
theorem q207 : (Jvm.Cond.fieldLink "java/lang/Throwable" (7 : Nat) "java/lang/Throwable" "cause" "Ljava/lang/Throwable;") ∈ lw_all := lw_g (lw_at lw_m1 101 rfl) rfl
theorem q208 : (Jvm.Cond.fieldLink "java/lang/Throwable" (17 : Nat) "java/lang/Throwable" "stackTrace" "[Ljava/lang/StackTraceElement;") ∈ lw_all := lw_g (lw_at lw_m1 102 rfl) rfl
theorem q209 : (Jvm.Cond.fieldLink "java/lang/Throwable" (24 : Nat) "java/lang/Throwable" "suppressedExceptions" "Ljava/util/List;") ∈ lw_all := lw_g (lw_at lw_m1 103 rfl) rfl
theorem q210 : (Jvm.Cond.soleField "java/lang/Throwable" "backtrace") ∈ lw_all := lw_g (lw_at lw_m1 104 rfl) rfl
theorem q211 : (Jvm.Cond.soleField "java/lang/Throwable" "detailMessage") ∈ lw_all := lw_g (lw_at lw_m1 105 rfl) rfl
theorem q212 : (Jvm.Cond.soleField "java/lang/Throwable" "cause") ∈ lw_all := lw_g (lw_at lw_m1 106 rfl) rfl
theorem q213 : (Jvm.Cond.soleField "java/lang/Throwable" "stackTrace") ∈ lw_all := lw_g (lw_at lw_m1 107 rfl) rfl
theorem q215 : (Jvm.Cond.soleField "java/lang/Throwable" "depth") ∈ lw_all := lw_g (lw_at lw_m1 109 rfl) rfl
theorem q216 : (Jvm.Cond.soleField "java/lang/Throwable" "suppressedExceptions") ∈ lw_all := lw_g (lw_at lw_m1 110 rfl) rfl
theorem q1902 : (Jvm.Cond.sameMethod "java/lang/Throwable" "java/lang/Throwable" "fillInStackTrace" "(I)Ljava/lang/Throwable;") ∈ lw_all := lw_g (lw_at lw_m8 116 rfl) rfl
theorem q1957 : (Jvm.Cond.castable "java/lang/Throwable" "java/lang/Object") ∈ lw_tbl := lw_at lw_m8 171 rfl
theorem in_J0 : ∀ w ∈ wsJ00, w ∈ lw_all := lw_in wsJ00 [165, 167, 169, 171, 173] (by decide +kernel) (by decide +kernel)
/-! java/lang/Exception -/
set_option maxRecDepth 100000
def RJ1 : String := "java/lang/Exception"
abbrev cJ1_init : ByteArray := prog_27_method_5_code
def yJ1_init : MethodName := ⟨RJ1, "<init>", "(Ljava/lang/String;Ljava/lang/Throwable;ZZ)V"⟩
def dkwJ1_init_0 : List UInt8 := [42, 43, 44, 29, 21, 4, 183, 0, 16, 177]
abbrev dktJ1_init_0 : List UInt8 := dkwJ1_init_0 ++ []
theorem dksJ1_init_0 : cJ1_init.data.toList.drop 0 = dktJ1_init_0 := by decide +kernel
theorem dJ1_init_0 : decode cJ1_init 0 = .ok (.aload_n 0, 1) := dk_42 (dk_at dksJ1_init_0 0 rfl rfl)
theorem dJ1_init_1 : decode cJ1_init 1 = .ok (.aload_n 1, 1) := dk_43 (dk_at dksJ1_init_0 1 rfl rfl)
theorem dJ1_init_2 : decode cJ1_init 2 = .ok (.aload_n 2, 1) := dk_44 (dk_at dksJ1_init_0 2 rfl rfl)
theorem dJ1_init_3 : decode cJ1_init 3 = .ok (.iload_n 3, 1) := dk_29 (dk_at dksJ1_init_0 3 rfl rfl)
theorem dJ1_init_4 : decode cJ1_init 4 = .ok (.iload 4, 2) := dk_21 4 (dk_at dksJ1_init_0 4 rfl rfl)
theorem dJ1_init_6 : decode cJ1_init 6 = .ok (.invokespecial 16, 3) := dk_183 0 16 (dk_at dksJ1_init_0 6 rfl rfl)
theorem dJ1_init_9 : decode cJ1_init 9 = .ok (.return_, 1) := dk_177 (dk_at dksJ1_init_0 9 rfl rfl)
theorem q109 : (Jvm.Cond.initialized "java/lang/Exception") ∈ lw_all := lw_g (lw_at lw_m1 3 rfl) rfl
theorem q158 : (Jvm.Cond.declares ({ cls := "java/lang/Exception", name := "<init>", desc := "()V" } : Jvm.MethodName)) ∈ lw_tbl := lw_at lw_m1 52 rfl
theorem q159 : (Jvm.Cond.declares ({ cls := "java/lang/Exception", name := "<init>", desc := "(Ljava/lang/String;)V" } : Jvm.MethodName)) ∈ lw_tbl := lw_at lw_m1 53 rfl
theorem q200 : (Jvm.Cond.instanceMethod ({ cls := "java/lang/Exception", name := "<init>", desc := "(Ljava/lang/String;Ljava/lang/Throwable;ZZ)V" } : Jvm.MethodName)) ∈ lw_all := lw_g (lw_at lw_m1 94 rfl) rfl
theorem q201 : (Jvm.Cond.code ({ cls := "java/lang/Exception", name := "<init>", desc := "(Ljava/lang/String;Ljava/lang/Throwable;ZZ)V" } : Jvm.MethodName) prog_27_method_5_code (5 : Nat) (Option.none : Option Jvm.ClassFile.FieldType)) ∈ lw_all := lw_g (lw_at lw_m1 95 rfl) rfl
theorem q202 : (Jvm.Cond.methodLink "java/lang/Exception" (16 : Nat) ({ cls := "java/lang/Throwable", name := "<init>", desc := "(Ljava/lang/String;Ljava/lang/Throwable;ZZ)V" } : Jvm.MethodName)) ∈ lw_all := lw_g (lw_at lw_m1 96 rfl) rfl
/-! java/lang/RuntimeException -/
set_option maxRecDepth 100000
def RJ2 : String := "java/lang/RuntimeException"
abbrev cJ2_init : ByteArray := prog_29_method_5_code
def yJ2_init : MethodName := ⟨RJ2, "<init>", "(Ljava/lang/String;Ljava/lang/Throwable;ZZ)V"⟩
def dkwJ2_init_0 : List UInt8 := [42, 43, 44, 29, 21, 4, 183, 0, 16, 177]
abbrev dktJ2_init_0 : List UInt8 := dkwJ2_init_0 ++ []
theorem dksJ2_init_0 : cJ2_init.data.toList.drop 0 = dktJ2_init_0 := by decide +kernel
theorem dJ2_init_0 : decode cJ2_init 0 = .ok (.aload_n 0, 1) := dk_42 (dk_at dksJ2_init_0 0 rfl rfl)
theorem dJ2_init_1 : decode cJ2_init 1 = .ok (.aload_n 1, 1) := dk_43 (dk_at dksJ2_init_0 1 rfl rfl)
theorem dJ2_init_2 : decode cJ2_init 2 = .ok (.aload_n 2, 1) := dk_44 (dk_at dksJ2_init_0 2 rfl rfl)
theorem dJ2_init_3 : decode cJ2_init 3 = .ok (.iload_n 3, 1) := dk_29 (dk_at dksJ2_init_0 3 rfl rfl)
theorem dJ2_init_4 : decode cJ2_init 4 = .ok (.iload 4, 2) := dk_21 4 (dk_at dksJ2_init_0 4 rfl rfl)
theorem dJ2_init_6 : decode cJ2_init 6 = .ok (.invokespecial 16, 3) := dk_183 0 16 (dk_at dksJ2_init_0 6 rfl rfl)
theorem dJ2_init_9 : decode cJ2_init 9 = .ok (.return_, 1) := dk_177 (dk_at dksJ2_init_0 9 rfl rfl)
theorem q110 : (Jvm.Cond.initialized "java/lang/RuntimeException") ∈ lw_all := lw_g (lw_at lw_m1 4 rfl) rfl
theorem q156 : (Jvm.Cond.declares ({ cls := "java/lang/RuntimeException", name := "<init>", desc := "()V" } : Jvm.MethodName)) ∈ lw_tbl := lw_at lw_m1 50 rfl
theorem q157 : (Jvm.Cond.declares ({ cls := "java/lang/RuntimeException", name := "<init>", desc := "(Ljava/lang/String;)V" } : Jvm.MethodName)) ∈ lw_tbl := lw_at lw_m1 51 rfl
theorem q197 : (Jvm.Cond.instanceMethod ({ cls := "java/lang/RuntimeException", name := "<init>", desc := "(Ljava/lang/String;Ljava/lang/Throwable;ZZ)V" } : Jvm.MethodName)) ∈ lw_all := lw_g (lw_at lw_m1 91 rfl) rfl
theorem q198 : (Jvm.Cond.code ({ cls := "java/lang/RuntimeException", name := "<init>", desc := "(Ljava/lang/String;Ljava/lang/Throwable;ZZ)V" } : Jvm.MethodName) prog_29_method_5_code (5 : Nat) (Option.none : Option Jvm.ClassFile.FieldType)) ∈ lw_all := lw_g (lw_at lw_m1 92 rfl) rfl
theorem q199 : (Jvm.Cond.methodLink "java/lang/RuntimeException" (16 : Nat) ({ cls := "java/lang/Exception", name := "<init>", desc := "(Ljava/lang/String;Ljava/lang/Throwable;ZZ)V" } : Jvm.MethodName)) ∈ lw_all := lw_g (lw_at lw_m1 93 rfl) rfl
/-! java/lang/Math -/
set_option maxRecDepth 100000
def RJ3 : String := "java/lang/Math"
abbrev cJ3_max : ByteArray := prog_28_method_65_code
def yJ3_max : MethodName := ⟨RJ3, "max", "(II)I"⟩
def dkwJ3_max_0 : List UInt8 := [26, 27, 161, 0, 7, 26, 167, 0, 4, 27, 172]
abbrev dktJ3_max_0 : List UInt8 := dkwJ3_max_0 ++ []
theorem dksJ3_max_0 : cJ3_max.data.toList.drop 0 = dktJ3_max_0 := by decide +kernel
theorem dJ3_max_0 : decode cJ3_max 0 = .ok (.iload_n 0, 1) := dk_26 (dk_at dksJ3_max_0 0 rfl rfl)
theorem dJ3_max_1 : decode cJ3_max 1 = .ok (.iload_n 1, 1) := dk_27 (dk_at dksJ3_max_0 1 rfl rfl)
theorem dJ3_max_2 : decode cJ3_max 2 = .ok (.if_icmp .lt 7, 3) := dk_161 0 7 (dk_at dksJ3_max_0 2 rfl rfl)
theorem dJ3_max_5 : decode cJ3_max 5 = .ok (.iload_n 0, 1) := dk_26 (dk_at dksJ3_max_0 5 rfl rfl)
theorem dJ3_max_6 : decode cJ3_max 6 = .ok (.goto 4, 3) := dk_167 0 4 (dk_at dksJ3_max_0 6 rfl rfl)
theorem dJ3_max_9 : decode cJ3_max 9 = .ok (.iload_n 1, 1) := dk_27 (dk_at dksJ3_max_0 9 rfl rfl)
theorem dJ3_max_10 : decode cJ3_max 10 = .ok (.ireturn, 1) := dk_172 (dk_at dksJ3_max_0 10 rfl rfl)
abbrev cJ3_min : ByteArray := prog_28_method_69_code
def yJ3_min : MethodName := ⟨RJ3, "min", "(II)I"⟩
def dkwJ3_min_0 : List UInt8 := [26, 27, 163, 0, 7, 26, 167, 0, 4, 27, 172]
abbrev dktJ3_min_0 : List UInt8 := dkwJ3_min_0 ++ []
theorem dksJ3_min_0 : cJ3_min.data.toList.drop 0 = dktJ3_min_0 := by decide +kernel
theorem dJ3_min_0 : decode cJ3_min 0 = .ok (.iload_n 0, 1) := dk_26 (dk_at dksJ3_min_0 0 rfl rfl)
theorem dJ3_min_1 : decode cJ3_min 1 = .ok (.iload_n 1, 1) := dk_27 (dk_at dksJ3_min_0 1 rfl rfl)
theorem dJ3_min_2 : decode cJ3_min 2 = .ok (.if_icmp .gt 7, 3) := dk_163 0 7 (dk_at dksJ3_min_0 2 rfl rfl)
theorem dJ3_min_5 : decode cJ3_min 5 = .ok (.iload_n 0, 1) := dk_26 (dk_at dksJ3_min_0 5 rfl rfl)
theorem dJ3_min_6 : decode cJ3_min 6 = .ok (.goto 4, 3) := dk_167 0 4 (dk_at dksJ3_min_0 6 rfl rfl)
theorem dJ3_min_9 : decode cJ3_min 9 = .ok (.iload_n 1, 1) := dk_27 (dk_at dksJ3_min_0 9 rfl rfl)
theorem dJ3_min_10 : decode cJ3_min 10 = .ok (.ireturn, 1) := dk_172 (dk_at dksJ3_min_0 10 rfl rfl)
theorem q119 : (Jvm.Cond.initialized "java/lang/Math") ∈ lw_all := lw_g (lw_at lw_m1 13 rfl) rfl
theorem q545 : (Jvm.Cond.static ({ cls := "java/lang/Math", name := "max", desc := "(II)I" } : Jvm.MethodName)) ∈ lw_all := lw_g (lw_at lw_m2 199 rfl) rfl
theorem q546 : (Jvm.Cond.code ({ cls := "java/lang/Math", name := "max", desc := "(II)I" } : Jvm.MethodName) prog_28_method_65_code (2 : Nat) (Option.some Jvm.ClassFile.FieldType.int)) ∈ lw_all := lw_g (lw_at lw_m2 200 rfl) rfl
theorem q575 : (Jvm.Cond.static ({ cls := "java/lang/Math", name := "min", desc := "(II)I" } : Jvm.MethodName)) ∈ lw_all := lw_g (lw_at lw_m2 229 rfl) rfl
theorem q576 : (Jvm.Cond.code ({ cls := "java/lang/Math", name := "min", desc := "(II)I" } : Jvm.MethodName) prog_28_method_69_code (2 : Nat) (Option.some Jvm.ClassFile.FieldType.int)) ∈ lw_all := lw_g (lw_at lw_m2 230 rfl) rfl
/-! java/lang/Object -/
set_option maxRecDepth 100000
def RJ4 : String := "java/lang/Object"
abbrev cJ4_init : ByteArray := object_method_1_code
def yJ4_init : MethodName := ⟨RJ4, "<init>", "()V"⟩
theorem dJ4_init_0 : decode cJ4_init 0 = .ok (.return_, 1) := by decide +kernel
theorem q149 : (Jvm.Cond.instanceMethod ({ cls := "java/lang/Object", name := "<init>", desc := "()V" } : Jvm.MethodName)) ∈ lw_all := lw_g (lw_at lw_m1 43 rfl) rfl
theorem q150 : (Jvm.Cond.code ({ cls := "java/lang/Object", name := "<init>", desc := "()V" } : Jvm.MethodName) object_method_1_code (1 : Nat) (Option.none : Option Jvm.ClassFile.FieldType)) ∈ lw_all := lw_g (lw_at lw_m1 44 rfl) rfl
/-! HatRank$Fault -/
set_option maxRecDepth 100000
def RX1 : String := "HatRank$Fault"
def TX1 : u_T := fun k => match k with
  | 0 => ("java/lang/Throwable", "cause", "Ljava/lang/Throwable;", false)
  | 1 => ("java/lang/Throwable", "stackTrace", "[Ljava/lang/StackTraceElement;", false)
  | 2 => ("java/lang/Throwable", "suppressedExceptions", "Ljava/util/List;", false)
  | 3 => ("java/lang/Throwable", "detailMessage", "Ljava/lang/String;", false)
  | 4 => ("java/lang/Throwable", "backtrace", "Ljava/lang/Object;", false)
  | _ => ("java/lang/Throwable", "depth", "I", false)
def tyX1 : Nat → FieldType := fun k => match k with
  | 0 => .object "java/lang/Throwable"
  | 1 => .array (.object "java/lang/StackTraceElement")
  | 2 => .object "java/util/List"
  | 3 => .object "java/lang/String"
  | 4 => .object "java/lang/Object"
  | _ => .int
abbrev wsX10 : List Cond := u_ws RX1 TX1 6
theorem nmX1 : ∀ a, a < 6 → ∀ b, b < 6 → a ≠ b → (TX1 a).2.1 ≠ (TX1 b).2.1 := by decide +kernel
theorem tyX1_ok : ∀ k, k < 6 → parseFieldDescriptor (TX1 k).2.2.1 = some (tyX1 k) := by decide +kernel
abbrev cX1_init : ByteArray := prog_8_method_1_code
def yX1_init : MethodName := ⟨RX1, "<init>", "()V"⟩
def dkwX1_init_0 : List UInt8 := [42, 1, 1, 3, 3, 183, 0, 1, 177]
abbrev dktX1_init_0 : List UInt8 := dkwX1_init_0 ++ []
theorem dksX1_init_0 : cX1_init.data.toList.drop 0 = dktX1_init_0 := by decide +kernel
theorem dX1_init_0 : decode cX1_init 0 = .ok (.aload_n 0, 1) := dk_42 (dk_at dksX1_init_0 0 rfl rfl)
theorem dX1_init_1 : decode cX1_init 1 = .ok (.aconst_null, 1) := dk_1 (dk_at dksX1_init_0 1 rfl rfl)
theorem dX1_init_2 : decode cX1_init 2 = .ok (.aconst_null, 1) := dk_1 (dk_at dksX1_init_0 2 rfl rfl)
theorem dX1_init_3 : decode cX1_init 3 = .ok (.iconst 0, 1) := dk_3 (dk_at dksX1_init_0 3 rfl rfl)
theorem dX1_init_4 : decode cX1_init 4 = .ok (.iconst 0, 1) := dk_3 (dk_at dksX1_init_0 4 rfl rfl)
theorem dX1_init_5 : decode cX1_init 5 = .ok (.invokespecial 1, 3) := dk_183 0 1 (dk_at dksX1_init_0 5 rfl rfl)
theorem dX1_init_8 : decode cX1_init 8 = .ok (.return_, 1) := dk_177 (dk_at dksX1_init_0 8 rfl rfl)
theorem q111 : (Jvm.Cond.initialized "HatRank$Fault") ∈ lw_all := lw_g (lw_at lw_m1 5 rfl) rfl
theorem q154 : (Jvm.Cond.instantiable "HatRank$Fault" (6 : Nat)) ∈ lw_all := lw_g (lw_at lw_m1 48 rfl) rfl
theorem q155 : (Jvm.Cond.castable "HatRank$Fault" "HatRank$Fault") ∈ lw_tbl := lw_at lw_m1 49 rfl
theorem q162 : (Jvm.Cond.selects "HatRank$Fault" ({ cls := "java/lang/Throwable", name := "fillInStackTrace", desc := "(I)Ljava/lang/Throwable;" } : Jvm.MethodName) ({ cls := "java/lang/Throwable", name := "fillInStackTrace", desc := "(I)Ljava/lang/Throwable;" } : Jvm.MethodName)) ∈ lw_all := lw_g (lw_at lw_m1 56 rfl) rfl
theorem q163 : (Jvm.Cond.selects "HatRank$Fault" ({ cls := "java/lang/Throwable", name := "fillInStackTrace", desc := "()Ljava/lang/Throwable;" } : Jvm.MethodName) ({ cls := "java/lang/Throwable", name := "fillInStackTrace", desc := "()Ljava/lang/Throwable;" } : Jvm.MethodName)) ∈ lw_all := lw_g (lw_at lw_m1 57 rfl) rfl
theorem q164 : (Jvm.Cond.lays "HatRank$Fault" "java/lang/Throwable" "cause" "Ljava/lang/Throwable;") ∈ lw_all := lw_g (lw_at lw_m1 58 rfl) rfl
theorem q166 : (Jvm.Cond.lays "HatRank$Fault" "java/lang/Throwable" "stackTrace" "[Ljava/lang/StackTraceElement;") ∈ lw_all := lw_g (lw_at lw_m1 60 rfl) rfl
theorem q168 : (Jvm.Cond.lays "HatRank$Fault" "java/lang/Throwable" "suppressedExceptions" "Ljava/util/List;") ∈ lw_all := lw_g (lw_at lw_m1 62 rfl) rfl
theorem q170 : (Jvm.Cond.lays "HatRank$Fault" "java/lang/Throwable" "detailMessage" "Ljava/lang/String;") ∈ lw_all := lw_g (lw_at lw_m1 64 rfl) rfl
theorem q172 : (Jvm.Cond.lays "HatRank$Fault" "java/lang/Throwable" "backtrace" "Ljava/lang/Object;") ∈ lw_all := lw_g (lw_at lw_m1 66 rfl) rfl
theorem q194 : (Jvm.Cond.instanceMethod ({ cls := "HatRank$Fault", name := "<init>", desc := "()V" } : Jvm.MethodName)) ∈ lw_all := lw_g (lw_at lw_m1 88 rfl) rfl
theorem q195 : (Jvm.Cond.code ({ cls := "HatRank$Fault", name := "<init>", desc := "()V" } : Jvm.MethodName) prog_8_method_1_code (1 : Nat) (Option.none : Option Jvm.ClassFile.FieldType)) ∈ lw_all := lw_g (lw_at lw_m1 89 rfl) rfl
theorem q196 : (Jvm.Cond.methodLink "HatRank$Fault" (1 : Nat) ({ cls := "java/lang/RuntimeException", name := "<init>", desc := "(Ljava/lang/String;Ljava/lang/Throwable;ZZ)V" } : Jvm.MethodName)) ∈ lw_all := lw_g (lw_at lw_m1 90 rfl) rfl
theorem q214 : (Jvm.Cond.lays "HatRank$Fault" "java/lang/Throwable" "depth" "I") ∈ lw_all := lw_g (lw_at lw_m1 108 rfl) rfl
theorem q217 : (Jvm.Cond.superclass "HatRank$Fault" "java/lang/RuntimeException") ∈ lw_all := lw_g (lw_at lw_m1 111 rfl) rfl
theorem q1936 : (Jvm.Cond.castable "HatRank$Fault" "java/lang/Object") ∈ lw_tbl := lw_at lw_m8 150 rfl
theorem in_X1 : ∀ w ∈ wsX10, w ∈ lw_all := lw_in wsX10 [164, 166, 168, 170, 172, 214] (by decide +kernel) (by decide +kernel)
/-! HatRank$Town -/
set_option maxRecDepth 100000
def RX2 : String := "HatRank$Town"
def TX2 : u_T := fun k => match k with
  | 0 => ("HatRank$Town", "hats", "[I", true)
  | 1 => ("HatRank$Town", "at", "[I", true)
  | _ => ("HatRank$Town", "lying", "[I", true)
def tyX2 : Nat → FieldType := fun k => match k with
  | 0 => .array .int
  | 1 => .array .int
  | _ => .array .int
abbrev wsX20 : List Cond := u_ws RX2 TX2 3
theorem nmX2 : ∀ a, a < 3 → ∀ b, b < 3 → a ≠ b → (TX2 a).2.1 ≠ (TX2 b).2.1 := by decide +kernel
theorem tyX2_ok : ∀ k, k < 3 → parseFieldDescriptor (TX2 k).2.2.1 = some (tyX2 k) := by decide +kernel
abbrev cX2_init : ByteArray := prog_24_method_1_code
def yX2_init : MethodName := ⟨RX2, "<init>", "()V"⟩
def dkwX2_init_1 : List UInt8 := [188, 10, 181, 0, 18, 177]
abbrev dktX2_init_1 : List UInt8 := dkwX2_init_1 ++ []
def dkwX2_init_0 : List UInt8 := [42, 183, 0, 3, 42, 16, 6, 188, 10, 181, 0, 9, 42, 16, 6, 188, 10, 181, 0, 15, 42, 16, 7]
abbrev dktX2_init_0 : List UInt8 := dkwX2_init_0 ++ dktX2_init_1
theorem dksX2_init_0 : cX2_init.data.toList.drop 0 = dktX2_init_0 := by decide +kernel
theorem dksX2_init_1 : cX2_init.data.toList.drop 23 = dktX2_init_1 := dk_seg dksX2_init_0 23 rfl rfl
theorem dX2_init_0 : decode cX2_init 0 = .ok (.aload_n 0, 1) := dk_42 (dk_at dksX2_init_0 0 rfl rfl)
theorem dX2_init_1 : decode cX2_init 1 = .ok (.invokespecial 3, 3) := dk_183 0 3 (dk_at dksX2_init_0 1 rfl rfl)
theorem dX2_init_4 : decode cX2_init 4 = .ok (.aload_n 0, 1) := dk_42 (dk_at dksX2_init_0 4 rfl rfl)
theorem dX2_init_5 : decode cX2_init 5 = .ok (.bipush 6, 2) := dk_16 6 (dk_at dksX2_init_0 5 rfl rfl)
theorem dX2_init_7 : decode cX2_init 7 = .ok (.newarray .int, 2) := dk_188_10 (dk_at dksX2_init_0 7 rfl rfl)
theorem dX2_init_9 : decode cX2_init 9 = .ok (.putfield 9, 3) := dk_181 0 9 (dk_at dksX2_init_0 9 rfl rfl)
theorem dX2_init_12 : decode cX2_init 12 = .ok (.aload_n 0, 1) := dk_42 (dk_at dksX2_init_0 12 rfl rfl)
theorem dX2_init_13 : decode cX2_init 13 = .ok (.bipush 6, 2) := dk_16 6 (dk_at dksX2_init_0 13 rfl rfl)
theorem dX2_init_15 : decode cX2_init 15 = .ok (.newarray .int, 2) := dk_188_10 (dk_at dksX2_init_0 15 rfl rfl)
theorem dX2_init_17 : decode cX2_init 17 = .ok (.putfield 15, 3) := dk_181 0 15 (dk_at dksX2_init_0 17 rfl rfl)
theorem dX2_init_20 : decode cX2_init 20 = .ok (.aload_n 0, 1) := dk_42 (dk_at dksX2_init_0 20 rfl rfl)
theorem dX2_init_21 : decode cX2_init 21 = .ok (.bipush 7, 2) := dk_16 7 (dk_at dksX2_init_0 21 rfl rfl)
theorem dX2_init_23 : decode cX2_init 23 = .ok (.newarray .int, 2) := dk_188_10 (dk_at dksX2_init_1 0 rfl rfl)
theorem dX2_init_25 : decode cX2_init 25 = .ok (.putfield 18, 3) := dk_181 0 18 (dk_at dksX2_init_1 2 rfl rfl)
theorem dX2_init_28 : decode cX2_init 28 = .ok (.return_, 1) := dk_177 (dk_at dksX2_init_1 5 rfl rfl)
abbrev cX2_copy : ByteArray := prog_24_method_2_code
def yX2_copy : MethodName := ⟨RX2, "copy", "(LHatRank$Town;)V"⟩
def dkwX2_copy_1 : List UInt8 := [3, 16, 6, 184, 0, 21, 43, 180, 0, 18, 3, 42, 180, 0, 18, 3, 16, 7, 184, 0, 21, 177]
abbrev dktX2_copy_1 : List UInt8 := dkwX2_copy_1 ++ []
def dkwX2_copy_0 : List UInt8 := [43, 180, 0, 9, 3, 42, 180, 0, 9, 3, 16, 6, 184, 0, 21, 43, 180, 0, 15, 3, 42, 180, 0, 15]
abbrev dktX2_copy_0 : List UInt8 := dkwX2_copy_0 ++ dktX2_copy_1
theorem dksX2_copy_0 : cX2_copy.data.toList.drop 0 = dktX2_copy_0 := by decide +kernel
theorem dksX2_copy_1 : cX2_copy.data.toList.drop 24 = dktX2_copy_1 := dk_seg dksX2_copy_0 24 rfl rfl
theorem dX2_copy_0 : decode cX2_copy 0 = .ok (.aload_n 1, 1) := dk_43 (dk_at dksX2_copy_0 0 rfl rfl)
theorem dX2_copy_1 : decode cX2_copy 1 = .ok (.getfield 9, 3) := dk_180 0 9 (dk_at dksX2_copy_0 1 rfl rfl)
theorem dX2_copy_4 : decode cX2_copy 4 = .ok (.iconst 0, 1) := dk_3 (dk_at dksX2_copy_0 4 rfl rfl)
theorem dX2_copy_5 : decode cX2_copy 5 = .ok (.aload_n 0, 1) := dk_42 (dk_at dksX2_copy_0 5 rfl rfl)
theorem dX2_copy_6 : decode cX2_copy 6 = .ok (.getfield 9, 3) := dk_180 0 9 (dk_at dksX2_copy_0 6 rfl rfl)
theorem dX2_copy_9 : decode cX2_copy 9 = .ok (.iconst 0, 1) := dk_3 (dk_at dksX2_copy_0 9 rfl rfl)
theorem dX2_copy_10 : decode cX2_copy 10 = .ok (.bipush 6, 2) := dk_16 6 (dk_at dksX2_copy_0 10 rfl rfl)
theorem dX2_copy_12 : decode cX2_copy 12 = .ok (.invokestatic 21, 3) := dk_184 0 21 (dk_at dksX2_copy_0 12 rfl rfl)
theorem dX2_copy_15 : decode cX2_copy 15 = .ok (.aload_n 1, 1) := dk_43 (dk_at dksX2_copy_0 15 rfl rfl)
theorem dX2_copy_16 : decode cX2_copy 16 = .ok (.getfield 15, 3) := dk_180 0 15 (dk_at dksX2_copy_0 16 rfl rfl)
theorem dX2_copy_19 : decode cX2_copy 19 = .ok (.iconst 0, 1) := dk_3 (dk_at dksX2_copy_0 19 rfl rfl)
theorem dX2_copy_20 : decode cX2_copy 20 = .ok (.aload_n 0, 1) := dk_42 (dk_at dksX2_copy_0 20 rfl rfl)
theorem dX2_copy_21 : decode cX2_copy 21 = .ok (.getfield 15, 3) := dk_180 0 15 (dk_at dksX2_copy_0 21 rfl rfl)
theorem dX2_copy_24 : decode cX2_copy 24 = .ok (.iconst 0, 1) := dk_3 (dk_at dksX2_copy_1 0 rfl rfl)
theorem dX2_copy_25 : decode cX2_copy 25 = .ok (.bipush 6, 2) := dk_16 6 (dk_at dksX2_copy_1 1 rfl rfl)
theorem dX2_copy_27 : decode cX2_copy 27 = .ok (.invokestatic 21, 3) := dk_184 0 21 (dk_at dksX2_copy_1 3 rfl rfl)
theorem dX2_copy_30 : decode cX2_copy 30 = .ok (.aload_n 1, 1) := dk_43 (dk_at dksX2_copy_1 6 rfl rfl)
theorem dX2_copy_31 : decode cX2_copy 31 = .ok (.getfield 18, 3) := dk_180 0 18 (dk_at dksX2_copy_1 7 rfl rfl)
theorem dX2_copy_34 : decode cX2_copy 34 = .ok (.iconst 0, 1) := dk_3 (dk_at dksX2_copy_1 10 rfl rfl)
theorem dX2_copy_35 : decode cX2_copy 35 = .ok (.aload_n 0, 1) := dk_42 (dk_at dksX2_copy_1 11 rfl rfl)
theorem dX2_copy_36 : decode cX2_copy 36 = .ok (.getfield 18, 3) := dk_180 0 18 (dk_at dksX2_copy_1 12 rfl rfl)
theorem dX2_copy_39 : decode cX2_copy 39 = .ok (.iconst 0, 1) := dk_3 (dk_at dksX2_copy_1 15 rfl rfl)
theorem dX2_copy_40 : decode cX2_copy 40 = .ok (.bipush 7, 2) := dk_16 7 (dk_at dksX2_copy_1 16 rfl rfl)
theorem dX2_copy_42 : decode cX2_copy 42 = .ok (.invokestatic 21, 3) := dk_184 0 21 (dk_at dksX2_copy_1 18 rfl rfl)
theorem dX2_copy_45 : decode cX2_copy 45 = .ok (.return_, 1) := dk_177 (dk_at dksX2_copy_1 21 rfl rfl)
theorem q112 : (Jvm.Cond.initialized "HatRank$Town") ∈ lw_all := lw_g (lw_at lw_m1 6 rfl) rfl
theorem q220 : (Jvm.Cond.instantiable "HatRank$Town" (3 : Nat)) ∈ lw_all := lw_g (lw_at lw_m1 114 rfl) rfl
theorem q222 : (Jvm.Cond.instanceMethod ({ cls := "HatRank$Town", name := "<init>", desc := "()V" } : Jvm.MethodName)) ∈ lw_all := lw_g (lw_at lw_m1 116 rfl) rfl
theorem q223 : (Jvm.Cond.code ({ cls := "HatRank$Town", name := "<init>", desc := "()V" } : Jvm.MethodName) prog_24_method_1_code (1 : Nat) (Option.none : Option Jvm.ClassFile.FieldType)) ∈ lw_all := lw_g (lw_at lw_m1 117 rfl) rfl
theorem q224 : (Jvm.Cond.methodLink "HatRank$Town" (3 : Nat) ({ cls := "java/lang/Object", name := "<init>", desc := "()V" } : Jvm.MethodName)) ∈ lw_all := lw_g (lw_at lw_m1 118 rfl) rfl
theorem q225 : (Jvm.Cond.fieldLink "HatRank$Town" (9 : Nat) "HatRank$Town" "hats" "[I") ∈ lw_all := lw_g (lw_at lw_m1 119 rfl) rfl
theorem q227 : (Jvm.Cond.fieldLink "HatRank$Town" (15 : Nat) "HatRank$Town" "at" "[I") ∈ lw_all := lw_g (lw_at lw_m1 121 rfl) rfl
theorem q229 : (Jvm.Cond.fieldLink "HatRank$Town" (18 : Nat) "HatRank$Town" "lying" "[I") ∈ lw_all := lw_g (lw_at lw_m1 123 rfl) rfl
theorem q231 : (Jvm.Cond.laysFinal "HatRank$Town" "HatRank$Town" "hats" "[I") ∈ lw_all := lw_g (lw_at lw_m1 125 rfl) rfl
theorem q232 : (Jvm.Cond.soleField "HatRank$Town" "hats") ∈ lw_all := lw_g (lw_at lw_m1 126 rfl) rfl
theorem q233 : (Jvm.Cond.laysFinal "HatRank$Town" "HatRank$Town" "at" "[I") ∈ lw_all := lw_g (lw_at lw_m1 127 rfl) rfl
theorem q234 : (Jvm.Cond.soleField "HatRank$Town" "at") ∈ lw_all := lw_g (lw_at lw_m1 128 rfl) rfl
theorem q235 : (Jvm.Cond.laysFinal "HatRank$Town" "HatRank$Town" "lying" "[I") ∈ lw_all := lw_g (lw_at lw_m1 129 rfl) rfl
theorem q236 : (Jvm.Cond.soleField "HatRank$Town" "lying") ∈ lw_all := lw_g (lw_at lw_m1 130 rfl) rfl
theorem q237 : (Jvm.Cond.superclass "HatRank$Town" "java/lang/Object") ∈ lw_all := lw_g (lw_at lw_m1 131 rfl) rfl
theorem q800 : (Jvm.Cond.instanceMethod ({ cls := "HatRank$Town", name := "copy", desc := "(LHatRank$Town;)V" } : Jvm.MethodName)) ∈ lw_all := lw_g (lw_at lw_m3 214 rfl) rfl
theorem q801 : (Jvm.Cond.selects "HatRank$Town" ({ cls := "HatRank$Town", name := "copy", desc := "(LHatRank$Town;)V" } : Jvm.MethodName) ({ cls := "HatRank$Town", name := "copy", desc := "(LHatRank$Town;)V" } : Jvm.MethodName)) ∈ lw_all := lw_g (lw_at lw_m3 215 rfl) rfl
theorem q802 : (Jvm.Cond.code ({ cls := "HatRank$Town", name := "copy", desc := "(LHatRank$Town;)V" } : Jvm.MethodName) prog_24_method_2_code (2 : Nat) (Option.none : Option Jvm.ClassFile.FieldType)) ∈ lw_all := lw_g (lw_at lw_m3 216 rfl) rfl
theorem q803 : (Jvm.Cond.methodLink "HatRank$Town" (21 : Nat) ({ cls := "java/lang/System", name := "arraycopy", desc := "(Ljava/lang/Object;ILjava/lang/Object;II)V" } : Jvm.MethodName)) ∈ lw_all := lw_g (lw_at lw_m3 217 rfl) rfl
theorem q1937 : (Jvm.Cond.castable "HatRank$Town" "java/lang/Object") ∈ lw_tbl := lw_at lw_m8 151 rfl
theorem in_X2 : ∀ w ∈ wsX20, w ∈ lw_all := lw_in wsX20 [231, 233, 235] (by decide +kernel) (by decide +kernel)
/-! HatRank$Torn -/
set_option maxRecDepth 100000
def RX3 : String := "HatRank$Torn"
def TX3 : u_T := fun k => match k with
  | 0 => ("java/lang/Throwable", "cause", "Ljava/lang/Throwable;", false)
  | 1 => ("java/lang/Throwable", "stackTrace", "[Ljava/lang/StackTraceElement;", false)
  | 2 => ("java/lang/Throwable", "suppressedExceptions", "Ljava/util/List;", false)
  | 3 => ("java/lang/Throwable", "detailMessage", "Ljava/lang/String;", false)
  | 4 => ("java/lang/Throwable", "backtrace", "Ljava/lang/Object;", false)
  | _ => ("java/lang/Throwable", "depth", "I", false)
def tyX3 : Nat → FieldType := fun k => match k with
  | 0 => .object "java/lang/Throwable"
  | 1 => .array (.object "java/lang/StackTraceElement")
  | 2 => .object "java/util/List"
  | 3 => .object "java/lang/String"
  | 4 => .object "java/lang/Object"
  | _ => .int
abbrev wsX30 : List Cond := u_ws RX3 TX3 6
theorem nmX3 : ∀ a, a < 6 → ∀ b, b < 6 → a ≠ b → (TX3 a).2.1 ≠ (TX3 b).2.1 := by decide +kernel
theorem tyX3_ok : ∀ k, k < 6 → parseFieldDescriptor (TX3 k).2.2.1 = some (tyX3 k) := by decide +kernel
abbrev cX3_init : ByteArray := prog_23_method_1_code
def yX3_init : MethodName := ⟨RX3, "<init>", "()V"⟩
def dkwX3_init_0 : List UInt8 := [42, 1, 1, 3, 3, 183, 0, 1, 177]
abbrev dktX3_init_0 : List UInt8 := dkwX3_init_0 ++ []
theorem dksX3_init_0 : cX3_init.data.toList.drop 0 = dktX3_init_0 := by decide +kernel
theorem dX3_init_0 : decode cX3_init 0 = .ok (.aload_n 0, 1) := dk_42 (dk_at dksX3_init_0 0 rfl rfl)
theorem dX3_init_1 : decode cX3_init 1 = .ok (.aconst_null, 1) := dk_1 (dk_at dksX3_init_0 1 rfl rfl)
theorem dX3_init_2 : decode cX3_init 2 = .ok (.aconst_null, 1) := dk_1 (dk_at dksX3_init_0 2 rfl rfl)
theorem dX3_init_3 : decode cX3_init 3 = .ok (.iconst 0, 1) := dk_3 (dk_at dksX3_init_0 3 rfl rfl)
theorem dX3_init_4 : decode cX3_init 4 = .ok (.iconst 0, 1) := dk_3 (dk_at dksX3_init_0 4 rfl rfl)
theorem dX3_init_5 : decode cX3_init 5 = .ok (.invokespecial 1, 3) := dk_183 0 1 (dk_at dksX3_init_0 5 rfl rfl)
theorem dX3_init_8 : decode cX3_init 8 = .ok (.return_, 1) := dk_177 (dk_at dksX3_init_0 8 rfl rfl)
theorem q113 : (Jvm.Cond.initialized "HatRank$Torn") ∈ lw_all := lw_g (lw_at lw_m1 7 rfl) rfl
theorem q186 : (Jvm.Cond.selects "HatRank$Torn" ({ cls := "java/lang/Throwable", name := "fillInStackTrace", desc := "()Ljava/lang/Throwable;" } : Jvm.MethodName) ({ cls := "java/lang/Throwable", name := "fillInStackTrace", desc := "()Ljava/lang/Throwable;" } : Jvm.MethodName)) ∈ lw_all := lw_g (lw_at lw_m1 80 rfl) rfl
theorem q245 : (Jvm.Cond.instantiable "HatRank$Torn" (6 : Nat)) ∈ lw_all := lw_g (lw_at lw_m1 139 rfl) rfl
theorem q246 : (Jvm.Cond.castable "HatRank$Torn" "HatRank$Torn") ∈ lw_tbl := lw_at lw_m1 140 rfl
theorem q247 : (Jvm.Cond.selects "HatRank$Torn" ({ cls := "java/lang/Throwable", name := "fillInStackTrace", desc := "(I)Ljava/lang/Throwable;" } : Jvm.MethodName) ({ cls := "java/lang/Throwable", name := "fillInStackTrace", desc := "(I)Ljava/lang/Throwable;" } : Jvm.MethodName)) ∈ lw_all := lw_g (lw_at lw_m1 141 rfl) rfl
theorem q248 : (Jvm.Cond.lays "HatRank$Torn" "java/lang/Throwable" "cause" "Ljava/lang/Throwable;") ∈ lw_all := lw_g (lw_at lw_m1 142 rfl) rfl
theorem q249 : (Jvm.Cond.lays "HatRank$Torn" "java/lang/Throwable" "stackTrace" "[Ljava/lang/StackTraceElement;") ∈ lw_all := lw_g (lw_at lw_m1 143 rfl) rfl
theorem q250 : (Jvm.Cond.lays "HatRank$Torn" "java/lang/Throwable" "suppressedExceptions" "Ljava/util/List;") ∈ lw_all := lw_g (lw_at lw_m1 144 rfl) rfl
theorem q251 : (Jvm.Cond.lays "HatRank$Torn" "java/lang/Throwable" "detailMessage" "Ljava/lang/String;") ∈ lw_all := lw_g (lw_at lw_m1 145 rfl) rfl
theorem q252 : (Jvm.Cond.lays "HatRank$Torn" "java/lang/Throwable" "backtrace" "Ljava/lang/Object;") ∈ lw_all := lw_g (lw_at lw_m1 146 rfl) rfl
theorem q254 : (Jvm.Cond.instanceMethod ({ cls := "HatRank$Torn", name := "<init>", desc := "()V" } : Jvm.MethodName)) ∈ lw_all := lw_g (lw_at lw_m1 148 rfl) rfl
theorem q255 : (Jvm.Cond.code ({ cls := "HatRank$Torn", name := "<init>", desc := "()V" } : Jvm.MethodName) prog_23_method_1_code (1 : Nat) (Option.none : Option Jvm.ClassFile.FieldType)) ∈ lw_all := lw_g (lw_at lw_m1 149 rfl) rfl
theorem q256 : (Jvm.Cond.methodLink "HatRank$Torn" (1 : Nat) ({ cls := "java/lang/RuntimeException", name := "<init>", desc := "(Ljava/lang/String;Ljava/lang/Throwable;ZZ)V" } : Jvm.MethodName)) ∈ lw_all := lw_g (lw_at lw_m1 150 rfl) rfl
theorem q257 : (Jvm.Cond.lays "HatRank$Torn" "java/lang/Throwable" "depth" "I") ∈ lw_all := lw_g (lw_at lw_m1 151 rfl) rfl
theorem q258 : (Jvm.Cond.superclass "HatRank$Torn" "java/lang/RuntimeException") ∈ lw_all := lw_g (lw_at lw_m1 152 rfl) rfl
theorem q1938 : (Jvm.Cond.castable "HatRank$Torn" "java/lang/Object") ∈ lw_tbl := lw_at lw_m8 152 rfl
theorem in_X3 : ∀ w ∈ wsX30, w ∈ lw_all := lw_in wsX30 [248, 249, 250, 251, 252, 257] (by decide +kernel) (by decide +kernel)
/-! HatRank$Change -/
set_option maxRecDepth 100000
def RX4 : String := "HatRank$Change"
def TX4 : u_T := fun k => match k with
  | 0 => ("HatRank$Change", "of", "LHatRank$Held;", false)
  | 1 => ("HatRank$Change", "was", "I", false)
  | _ => ("HatRank$Change", "is", "I", false)
def tyX4 : Nat → FieldType := fun k => match k with
  | 0 => .object "HatRank$Held"
  | 1 => .int
  | _ => .int
abbrev wsX40 : List Cond := u_ws RX4 TX4 3
theorem nmX4 : ∀ a, a < 3 → ∀ b, b < 3 → a ≠ b → (TX4 a).2.1 ≠ (TX4 b).2.1 := by decide +kernel
theorem tyX4_ok : ∀ k, k < 3 → parseFieldDescriptor (TX4 k).2.2.1 = some (tyX4 k) := by decide +kernel
abbrev cX4_init : ByteArray := prog_6_method_1_code
def yX4_init : MethodName := ⟨RX4, "<init>", "()V"⟩
theorem dX4_init_0 : decode cX4_init 0 = .ok (.aload_n 0, 1) := by decide +kernel
theorem dX4_init_1 : decode cX4_init 1 = .ok (.invokespecial 1, 3) := by decide +kernel
theorem dX4_init_4 : decode cX4_init 4 = .ok (.return_, 1) := by decide +kernel
theorem q114 : (Jvm.Cond.initialized "HatRank$Change") ∈ lw_all := lw_g (lw_at lw_m1 8 rfl) rfl
theorem q264 : (Jvm.Cond.instantiable "HatRank$Change" (3 : Nat)) ∈ lw_all := lw_g (lw_at lw_m1 158 rfl) rfl
theorem q266 : (Jvm.Cond.instanceMethod ({ cls := "HatRank$Change", name := "<init>", desc := "()V" } : Jvm.MethodName)) ∈ lw_all := lw_g (lw_at lw_m1 160 rfl) rfl
theorem q267 : (Jvm.Cond.code ({ cls := "HatRank$Change", name := "<init>", desc := "()V" } : Jvm.MethodName) prog_6_method_1_code (1 : Nat) (Option.none : Option Jvm.ClassFile.FieldType)) ∈ lw_all := lw_g (lw_at lw_m1 161 rfl) rfl
theorem q268 : (Jvm.Cond.methodLink "HatRank$Change" (1 : Nat) ({ cls := "java/lang/Object", name := "<init>", desc := "()V" } : Jvm.MethodName)) ∈ lw_all := lw_g (lw_at lw_m1 162 rfl) rfl
theorem q272 : (Jvm.Cond.lays "HatRank$Change" "HatRank$Change" "of" "LHatRank$Held;") ∈ lw_all := lw_g (lw_at lw_m1 166 rfl) rfl
theorem q273 : (Jvm.Cond.soleField "HatRank$Change" "of") ∈ lw_all := lw_g (lw_at lw_m1 167 rfl) rfl
theorem q274 : (Jvm.Cond.lays "HatRank$Change" "HatRank$Change" "was" "I") ∈ lw_all := lw_g (lw_at lw_m1 168 rfl) rfl
theorem q275 : (Jvm.Cond.soleField "HatRank$Change" "was") ∈ lw_all := lw_g (lw_at lw_m1 169 rfl) rfl
theorem q276 : (Jvm.Cond.lays "HatRank$Change" "HatRank$Change" "is" "I") ∈ lw_all := lw_g (lw_at lw_m1 170 rfl) rfl
theorem q277 : (Jvm.Cond.soleField "HatRank$Change" "is") ∈ lw_all := lw_g (lw_at lw_m1 171 rfl) rfl
theorem q278 : (Jvm.Cond.superclass "HatRank$Change" "java/lang/Object") ∈ lw_all := lw_g (lw_at lw_m1 172 rfl) rfl
theorem q1939 : (Jvm.Cond.castable "HatRank$Change" "java/lang/Object") ∈ lw_tbl := lw_at lw_m8 153 rfl
theorem in_X4 : ∀ w ∈ wsX40, w ∈ lw_all := lw_in wsX40 [272, 274, 276] (by decide +kernel) (by decide +kernel)
/-! HatRank$Held -/
set_option maxRecDepth 100000
def RX5 : String := "HatRank$Held"
def TX5 : u_T := fun k => match k with
  | _ => ("HatRank$Held", "v", "I", false)
def tyX5 : Nat → FieldType := fun k => match k with
  | _ => .int
abbrev wsX50 : List Cond := u_ws RX5 TX5 1
theorem nmX5 : ∀ a, a < 1 → ∀ b, b < 1 → a ≠ b → (TX5 a).2.1 ≠ (TX5 b).2.1 := by decide +kernel
theorem tyX5_ok : ∀ k, k < 1 → parseFieldDescriptor (TX5 k).2.2.1 = some (tyX5 k) := by decide +kernel
abbrev cX5_init : ByteArray := prog_10_method_1_code
def yX5_init : MethodName := ⟨RX5, "<init>", "()V"⟩
theorem dX5_init_0 : decode cX5_init 0 = .ok (.aload_n 0, 1) := by decide +kernel
theorem dX5_init_1 : decode cX5_init 1 = .ok (.invokespecial 1, 3) := by decide +kernel
theorem dX5_init_4 : decode cX5_init 4 = .ok (.return_, 1) := by decide +kernel
theorem q115 : (Jvm.Cond.initialized "HatRank$Held") ∈ lw_all := lw_g (lw_at lw_m1 9 rfl) rfl
theorem q279 : (Jvm.Cond.instantiable "HatRank$Held" (1 : Nat)) ∈ lw_all := lw_g (lw_at lw_m1 173 rfl) rfl
theorem q281 : (Jvm.Cond.instanceMethod ({ cls := "HatRank$Held", name := "<init>", desc := "()V" } : Jvm.MethodName)) ∈ lw_all := lw_g (lw_at lw_m1 175 rfl) rfl
theorem q282 : (Jvm.Cond.code ({ cls := "HatRank$Held", name := "<init>", desc := "()V" } : Jvm.MethodName) prog_10_method_1_code (1 : Nat) (Option.none : Option Jvm.ClassFile.FieldType)) ∈ lw_all := lw_g (lw_at lw_m1 176 rfl) rfl
theorem q283 : (Jvm.Cond.methodLink "HatRank$Held" (1 : Nat) ({ cls := "java/lang/Object", name := "<init>", desc := "()V" } : Jvm.MethodName)) ∈ lw_all := lw_g (lw_at lw_m1 177 rfl) rfl
theorem q286 : (Jvm.Cond.lays "HatRank$Held" "HatRank$Held" "v" "I") ∈ lw_all := lw_g (lw_at lw_m1 180 rfl) rfl
theorem q287 : (Jvm.Cond.soleField "HatRank$Held" "v") ∈ lw_all := lw_g (lw_at lw_m1 181 rfl) rfl
theorem q288 : (Jvm.Cond.superclass "HatRank$Held" "java/lang/Object") ∈ lw_all := lw_g (lw_at lw_m1 182 rfl) rfl
theorem q1940 : (Jvm.Cond.castable "HatRank$Held" "java/lang/Object") ∈ lw_tbl := lw_at lw_m8 154 rfl
theorem in_X5 : ∀ w ∈ wsX50, w ∈ lw_all := lw_in wsX50 [286] (by decide +kernel) (by decide +kernel)
/-! HatRank$Place -/
set_option maxRecDepth 100000
def RX7 : String := "HatRank$Place"
def TX7 : u_T := fun k => match k with
  | 0 => ("HatRank$Place", "numbers", "[LHatRank$Held;", true)
  | _ => ("HatRank$Place", "ways", "I", false)
def tyX7 : Nat → FieldType := fun k => match k with
  | 0 => .array (.object "HatRank$Held")
  | _ => .int
abbrev wsX70 : List Cond := u_ws RX7 TX7 2
theorem nmX7 : ∀ a, a < 2 → ∀ b, b < 2 → a ≠ b → (TX7 a).2.1 ≠ (TX7 b).2.1 := by decide +kernel
theorem tyX7_ok : ∀ k, k < 2 → parseFieldDescriptor (TX7 k).2.2.1 = some (tyX7 k) := by decide +kernel
abbrev cX7_init : ByteArray := prog_17_method_1_code
def yX7_init : MethodName := ⟨RX7, "<init>", "()V"⟩
def dkwX7_init_1 : List UInt8 := [89, 183, 0, 9, 83, 181, 0, 10, 177]
abbrev dktX7_init_1 : List UInt8 := dkwX7_init_1 ++ []
def dkwX7_init_0 : List UInt8 := [42, 183, 0, 1, 42, 5, 189, 0, 7, 89, 3, 187, 0, 7, 89, 183, 0, 9, 83, 89, 4, 187, 0, 7]
abbrev dktX7_init_0 : List UInt8 := dkwX7_init_0 ++ dktX7_init_1
theorem dksX7_init_0 : cX7_init.data.toList.drop 0 = dktX7_init_0 := by decide +kernel
theorem dksX7_init_1 : cX7_init.data.toList.drop 24 = dktX7_init_1 := dk_seg dksX7_init_0 24 rfl rfl
theorem dX7_init_0 : decode cX7_init 0 = .ok (.aload_n 0, 1) := dk_42 (dk_at dksX7_init_0 0 rfl rfl)
theorem dX7_init_1 : decode cX7_init 1 = .ok (.invokespecial 1, 3) := dk_183 0 1 (dk_at dksX7_init_0 1 rfl rfl)
theorem dX7_init_4 : decode cX7_init 4 = .ok (.aload_n 0, 1) := dk_42 (dk_at dksX7_init_0 4 rfl rfl)
theorem dX7_init_5 : decode cX7_init 5 = .ok (.iconst 2, 1) := dk_5 (dk_at dksX7_init_0 5 rfl rfl)
theorem dX7_init_6 : decode cX7_init 6 = .ok (.anewarray 7, 3) := dk_189 0 7 (dk_at dksX7_init_0 6 rfl rfl)
theorem dX7_init_9 : decode cX7_init 9 = .ok (.dup, 1) := dk_89 (dk_at dksX7_init_0 9 rfl rfl)
theorem dX7_init_10 : decode cX7_init 10 = .ok (.iconst 0, 1) := dk_3 (dk_at dksX7_init_0 10 rfl rfl)
theorem dX7_init_11 : decode cX7_init 11 = .ok (.new 7, 3) := dk_187 0 7 (dk_at dksX7_init_0 11 rfl rfl)
theorem dX7_init_14 : decode cX7_init 14 = .ok (.dup, 1) := dk_89 (dk_at dksX7_init_0 14 rfl rfl)
theorem dX7_init_15 : decode cX7_init 15 = .ok (.invokespecial 9, 3) := dk_183 0 9 (dk_at dksX7_init_0 15 rfl rfl)
theorem dX7_init_18 : decode cX7_init 18 = .ok (.aastore, 1) := dk_83 (dk_at dksX7_init_0 18 rfl rfl)
theorem dX7_init_19 : decode cX7_init 19 = .ok (.dup, 1) := dk_89 (dk_at dksX7_init_0 19 rfl rfl)
theorem dX7_init_20 : decode cX7_init 20 = .ok (.iconst 1, 1) := dk_4 (dk_at dksX7_init_0 20 rfl rfl)
theorem dX7_init_21 : decode cX7_init 21 = .ok (.new 7, 3) := dk_187 0 7 (dk_at dksX7_init_0 21 rfl rfl)
theorem dX7_init_24 : decode cX7_init 24 = .ok (.dup, 1) := dk_89 (dk_at dksX7_init_1 0 rfl rfl)
theorem dX7_init_25 : decode cX7_init 25 = .ok (.invokespecial 9, 3) := dk_183 0 9 (dk_at dksX7_init_1 1 rfl rfl)
theorem dX7_init_28 : decode cX7_init 28 = .ok (.aastore, 1) := dk_83 (dk_at dksX7_init_1 4 rfl rfl)
theorem dX7_init_29 : decode cX7_init 29 = .ok (.putfield 10, 3) := dk_181 0 10 (dk_at dksX7_init_1 5 rfl rfl)
theorem dX7_init_32 : decode cX7_init 32 = .ok (.return_, 1) := dk_177 (dk_at dksX7_init_1 8 rfl rfl)
abbrev cX7_lee : ByteArray := prog_17_method_2_code
def yX7_lee : MethodName := ⟨RX7, "lee", "()I"⟩
def dkwX7_lee_0 : List UInt8 := [42, 180, 0, 10, 3, 50, 180, 0, 16, 172]
abbrev dktX7_lee_0 : List UInt8 := dkwX7_lee_0 ++ []
theorem dksX7_lee_0 : cX7_lee.data.toList.drop 0 = dktX7_lee_0 := by decide +kernel
theorem dX7_lee_0 : decode cX7_lee 0 = .ok (.aload_n 0, 1) := dk_42 (dk_at dksX7_lee_0 0 rfl rfl)
theorem dX7_lee_1 : decode cX7_lee 1 = .ok (.getfield 10, 3) := dk_180 0 10 (dk_at dksX7_lee_0 1 rfl rfl)
theorem dX7_lee_4 : decode cX7_lee 4 = .ok (.iconst 0, 1) := dk_3 (dk_at dksX7_lee_0 4 rfl rfl)
theorem dX7_lee_5 : decode cX7_lee 5 = .ok (.aaload, 1) := dk_50 (dk_at dksX7_lee_0 5 rfl rfl)
theorem dX7_lee_6 : decode cX7_lee 6 = .ok (.getfield 16, 3) := dk_180 0 16 (dk_at dksX7_lee_0 6 rfl rfl)
theorem dX7_lee_9 : decode cX7_lee 9 = .ok (.ireturn, 1) := dk_172 (dk_at dksX7_lee_0 9 rfl rfl)
abbrev cX7_down : ByteArray := prog_17_method_3_code
def yX7_down : MethodName := ⟨RX7, "down", "()I"⟩
def dkwX7_down_0 : List UInt8 := [42, 180, 0, 10, 4, 50, 180, 0, 16, 172]
abbrev dktX7_down_0 : List UInt8 := dkwX7_down_0 ++ []
theorem dksX7_down_0 : cX7_down.data.toList.drop 0 = dktX7_down_0 := by decide +kernel
theorem dX7_down_0 : decode cX7_down 0 = .ok (.aload_n 0, 1) := dk_42 (dk_at dksX7_down_0 0 rfl rfl)
theorem dX7_down_1 : decode cX7_down 1 = .ok (.getfield 10, 3) := dk_180 0 10 (dk_at dksX7_down_0 1 rfl rfl)
theorem dX7_down_4 : decode cX7_down 4 = .ok (.iconst 1, 1) := dk_4 (dk_at dksX7_down_0 4 rfl rfl)
theorem dX7_down_5 : decode cX7_down 5 = .ok (.aaload, 1) := dk_50 (dk_at dksX7_down_0 5 rfl rfl)
theorem dX7_down_6 : decode cX7_down 6 = .ok (.getfield 16, 3) := dk_180 0 16 (dk_at dksX7_down_0 6 rfl rfl)
theorem dX7_down_9 : decode cX7_down 9 = .ok (.ireturn, 1) := dk_172 (dk_at dksX7_down_0 9 rfl rfl)
theorem q117 : (Jvm.Cond.initialized "HatRank$Place") ∈ lw_all := lw_g (lw_at lw_m1 11 rfl) rfl
theorem q284 : (Jvm.Cond.fieldLinkNest "HatRank$Place" (16 : Nat) "HatRank$Held" "v" "I" "HatRank") ∈ lw_tbl := lw_at lw_m1 178 rfl
theorem q414 : (Jvm.Cond.instantiable "HatRank$Place" (2 : Nat)) ∈ lw_all := lw_g (lw_at lw_m2 68 rfl) rfl
theorem q416 : (Jvm.Cond.instanceMethod ({ cls := "HatRank$Place", name := "<init>", desc := "()V" } : Jvm.MethodName)) ∈ lw_all := lw_g (lw_at lw_m2 70 rfl) rfl
theorem q417 : (Jvm.Cond.code ({ cls := "HatRank$Place", name := "<init>", desc := "()V" } : Jvm.MethodName) prog_17_method_1_code (1 : Nat) (Option.none : Option Jvm.ClassFile.FieldType)) ∈ lw_all := lw_g (lw_at lw_m2 71 rfl) rfl
theorem q418 : (Jvm.Cond.methodLink "HatRank$Place" (1 : Nat) ({ cls := "java/lang/Object", name := "<init>", desc := "()V" } : Jvm.MethodName)) ∈ lw_all := lw_g (lw_at lw_m2 72 rfl) rfl
theorem q419 : (Jvm.Cond.classLink "HatRank$Place" (7 : Nat) "HatRank$Held") ∈ lw_all := lw_g (lw_at lw_m2 73 rfl) rfl
theorem q420 : (Jvm.Cond.methodLinkNest "HatRank$Place" (9 : Nat) ({ cls := "HatRank$Held", name := "<init>", desc := "()V" } : Jvm.MethodName) "HatRank") ∈ lw_tbl := lw_at lw_m2 74 rfl
theorem q421 : (Jvm.Cond.fieldLink "HatRank$Place" (10 : Nat) "HatRank$Place" "numbers" "[LHatRank$Held;") ∈ lw_all := lw_g (lw_at lw_m2 75 rfl) rfl
theorem q424 : (Jvm.Cond.laysFinal "HatRank$Place" "HatRank$Place" "numbers" "[LHatRank$Held;") ∈ lw_all := lw_g (lw_at lw_m2 78 rfl) rfl
theorem q425 : (Jvm.Cond.soleField "HatRank$Place" "numbers") ∈ lw_all := lw_g (lw_at lw_m2 79 rfl) rfl
theorem q426 : (Jvm.Cond.lays "HatRank$Place" "HatRank$Place" "ways" "I") ∈ lw_all := lw_g (lw_at lw_m2 80 rfl) rfl
theorem q427 : (Jvm.Cond.soleField "HatRank$Place" "ways") ∈ lw_all := lw_g (lw_at lw_m2 81 rfl) rfl
theorem q428 : (Jvm.Cond.superclass "HatRank$Place" "java/lang/Object") ∈ lw_all := lw_g (lw_at lw_m2 82 rfl) rfl
theorem q541 : (Jvm.Cond.instanceMethod ({ cls := "HatRank$Place", name := "lee", desc := "()I" } : Jvm.MethodName)) ∈ lw_all := lw_g (lw_at lw_m2 195 rfl) rfl
theorem q542 : (Jvm.Cond.selects "HatRank$Place" ({ cls := "HatRank$Place", name := "lee", desc := "()I" } : Jvm.MethodName) ({ cls := "HatRank$Place", name := "lee", desc := "()I" } : Jvm.MethodName)) ∈ lw_all := lw_g (lw_at lw_m2 196 rfl) rfl
theorem q543 : (Jvm.Cond.code ({ cls := "HatRank$Place", name := "lee", desc := "()I" } : Jvm.MethodName) prog_17_method_2_code (1 : Nat) (Option.some Jvm.ClassFile.FieldType.int)) ∈ lw_all := lw_g (lw_at lw_m2 197 rfl) rfl
theorem q584 : (Jvm.Cond.instanceMethod ({ cls := "HatRank$Place", name := "down", desc := "()I" } : Jvm.MethodName)) ∈ lw_all := lw_g (lw_at lw_m2 238 rfl) rfl
theorem q585 : (Jvm.Cond.selects "HatRank$Place" ({ cls := "HatRank$Place", name := "down", desc := "()I" } : Jvm.MethodName) ({ cls := "HatRank$Place", name := "down", desc := "()I" } : Jvm.MethodName)) ∈ lw_all := lw_g (lw_at lw_m2 239 rfl) rfl
theorem q586 : (Jvm.Cond.code ({ cls := "HatRank$Place", name := "down", desc := "()I" } : Jvm.MethodName) prog_17_method_3_code (1 : Nat) (Option.some Jvm.ClassFile.FieldType.int)) ∈ lw_all := lw_g (lw_at lw_m3 0 rfl) rfl
theorem q1942 : (Jvm.Cond.castable "HatRank$Place" "java/lang/Object") ∈ lw_tbl := lw_at lw_m8 156 rfl
theorem in_X7 : ∀ w ∈ wsX70, w ∈ lw_all := lw_in wsX70 [424, 426] (by decide +kernel) (by decide +kernel)
/-! HatRank$Person -/
set_option maxRecDepth 100000
def RX8 : String := "HatRank$Person"
def TX8 : u_T := fun k => match k with
  | 0 => ("HatRank$Person", "brim", "LHatRank$Held;", true)
  | _ => ("HatRank$Person", "landed", "I", false)
def tyX8 : Nat → FieldType := fun k => match k with
  | 0 => .object "HatRank$Held"
  | _ => .int
abbrev wsX80 : List Cond := u_ws RX8 TX8 2
theorem nmX8 : ∀ a, a < 2 → ∀ b, b < 2 → a ≠ b → (TX8 a).2.1 ≠ (TX8 b).2.1 := by decide +kernel
theorem tyX8_ok : ∀ k, k < 2 → parseFieldDescriptor (TX8 k).2.2.1 = some (tyX8 k) := by decide +kernel
abbrev cX8_init : ByteArray := prog_16_method_1_code
def yX8_init : MethodName := ⟨RX8, "<init>", "()V"⟩
def dkwX8_init_0 : List UInt8 := [42, 183, 0, 3, 42, 187, 0, 9, 89, 183, 0, 11, 181, 0, 12, 42, 16, 251, 181, 0, 18, 177]
abbrev dktX8_init_0 : List UInt8 := dkwX8_init_0 ++ []
theorem dksX8_init_0 : cX8_init.data.toList.drop 0 = dktX8_init_0 := by decide +kernel
theorem dX8_init_0 : decode cX8_init 0 = .ok (.aload_n 0, 1) := dk_42 (dk_at dksX8_init_0 0 rfl rfl)
theorem dX8_init_1 : decode cX8_init 1 = .ok (.invokespecial 3, 3) := dk_183 0 3 (dk_at dksX8_init_0 1 rfl rfl)
theorem dX8_init_4 : decode cX8_init 4 = .ok (.aload_n 0, 1) := dk_42 (dk_at dksX8_init_0 4 rfl rfl)
theorem dX8_init_5 : decode cX8_init 5 = .ok (.new 9, 3) := dk_187 0 9 (dk_at dksX8_init_0 5 rfl rfl)
theorem dX8_init_8 : decode cX8_init 8 = .ok (.dup, 1) := dk_89 (dk_at dksX8_init_0 8 rfl rfl)
theorem dX8_init_9 : decode cX8_init 9 = .ok (.invokespecial 11, 3) := dk_183 0 11 (dk_at dksX8_init_0 9 rfl rfl)
theorem dX8_init_12 : decode cX8_init 12 = .ok (.putfield 12, 3) := dk_181 0 12 (dk_at dksX8_init_0 12 rfl rfl)
theorem dX8_init_15 : decode cX8_init 15 = .ok (.aload_n 0, 1) := dk_42 (dk_at dksX8_init_0 15 rfl rfl)
theorem dX8_init_16 : decode cX8_init 16 = .ok (.bipush (-5), 2) := dk_16 251 (dk_at dksX8_init_0 16 rfl rfl)
theorem dX8_init_18 : decode cX8_init 18 = .ok (.putfield 18, 3) := dk_181 0 18 (dk_at dksX8_init_0 18 rfl rfl)
theorem dX8_init_21 : decode cX8_init 21 = .ok (.return_, 1) := dk_177 (dk_at dksX8_init_0 21 rfl rfl)
theorem q118 : (Jvm.Cond.initialized "HatRank$Person") ∈ lw_all := lw_g (lw_at lw_m1 12 rfl) rfl
theorem q453 : (Jvm.Cond.instantiable "HatRank$Person" (2 : Nat)) ∈ lw_all := lw_g (lw_at lw_m2 107 rfl) rfl
theorem q455 : (Jvm.Cond.instanceMethod ({ cls := "HatRank$Person", name := "<init>", desc := "()V" } : Jvm.MethodName)) ∈ lw_all := lw_g (lw_at lw_m2 109 rfl) rfl
theorem q456 : (Jvm.Cond.code ({ cls := "HatRank$Person", name := "<init>", desc := "()V" } : Jvm.MethodName) prog_16_method_1_code (1 : Nat) (Option.none : Option Jvm.ClassFile.FieldType)) ∈ lw_all := lw_g (lw_at lw_m2 110 rfl) rfl
theorem q457 : (Jvm.Cond.methodLink "HatRank$Person" (3 : Nat) ({ cls := "java/lang/Object", name := "<init>", desc := "()V" } : Jvm.MethodName)) ∈ lw_all := lw_g (lw_at lw_m2 111 rfl) rfl
theorem q458 : (Jvm.Cond.classLink "HatRank$Person" (9 : Nat) "HatRank$Held") ∈ lw_all := lw_g (lw_at lw_m2 112 rfl) rfl
theorem q459 : (Jvm.Cond.methodLinkNest "HatRank$Person" (11 : Nat) ({ cls := "HatRank$Held", name := "<init>", desc := "()V" } : Jvm.MethodName) "HatRank") ∈ lw_tbl := lw_at lw_m2 113 rfl
theorem q460 : (Jvm.Cond.fieldLink "HatRank$Person" (12 : Nat) "HatRank$Person" "brim" "LHatRank$Held;") ∈ lw_all := lw_g (lw_at lw_m2 114 rfl) rfl
theorem q462 : (Jvm.Cond.fieldLink "HatRank$Person" (18 : Nat) "HatRank$Person" "landed" "I") ∈ lw_all := lw_g (lw_at lw_m2 116 rfl) rfl
theorem q464 : (Jvm.Cond.laysFinal "HatRank$Person" "HatRank$Person" "brim" "LHatRank$Held;") ∈ lw_all := lw_g (lw_at lw_m2 118 rfl) rfl
theorem q465 : (Jvm.Cond.soleField "HatRank$Person" "brim") ∈ lw_all := lw_g (lw_at lw_m2 119 rfl) rfl
theorem q466 : (Jvm.Cond.lays "HatRank$Person" "HatRank$Person" "landed" "I") ∈ lw_all := lw_g (lw_at lw_m2 120 rfl) rfl
theorem q467 : (Jvm.Cond.soleField "HatRank$Person" "landed") ∈ lw_all := lw_g (lw_at lw_m2 121 rfl) rfl
theorem q468 : (Jvm.Cond.superclass "HatRank$Person" "java/lang/Object") ∈ lw_all := lw_g (lw_at lw_m2 122 rfl) rfl
theorem q1943 : (Jvm.Cond.castable "HatRank$Person" "java/lang/Object") ∈ lw_tbl := lw_at lw_m8 157 rfl
theorem in_X8 : ∀ w ∈ wsX80, w ∈ lw_all := lw_in wsX80 [464, 466] (by decide +kernel) (by decide +kernel)
/-! HatRank$Line -/
set_option maxRecDepth 100000
def RX9 : String := "HatRank$Line"
def TX9 : u_T := fun k => match k with
  | 0 => ("HatRank$Line", "asked", "LHatRank$Term;", false)
  | 1 => ("HatRank$Line", "counts", "LHatRank$Term;", false)
  | _ => ("HatRank$Line", "next", "LHatRank$Line;", false)
def tyX9 : Nat → FieldType := fun k => match k with
  | 0 => .object "HatRank$Term"
  | 1 => .object "HatRank$Term"
  | _ => .object "HatRank$Line"
abbrev wsX90 : List Cond := u_ws RX9 TX9 3
theorem nmX9 : ∀ a, a < 3 → ∀ b, b < 3 → a ≠ b → (TX9 a).2.1 ≠ (TX9 b).2.1 := by decide +kernel
theorem tyX9_ok : ∀ k, k < 3 → parseFieldDescriptor (TX9 k).2.2.1 = some (tyX9 k) := by decide +kernel
abbrev cX9_init : ByteArray := prog_11_method_1_code
def yX9_init : MethodName := ⟨RX9, "<init>", "()V"⟩
theorem dX9_init_0 : decode cX9_init 0 = .ok (.aload_n 0, 1) := by decide +kernel
theorem dX9_init_1 : decode cX9_init 1 = .ok (.invokespecial 1, 3) := by decide +kernel
theorem dX9_init_4 : decode cX9_init 4 = .ok (.return_, 1) := by decide +kernel
theorem q120 : (Jvm.Cond.initialized "HatRank$Line") ∈ lw_all := lw_g (lw_at lw_m1 14 rfl) rfl
theorem q600 : (Jvm.Cond.instantiable "HatRank$Line" (3 : Nat)) ∈ lw_all := lw_g (lw_at lw_m3 14 rfl) rfl
theorem q602 : (Jvm.Cond.instanceMethod ({ cls := "HatRank$Line", name := "<init>", desc := "()V" } : Jvm.MethodName)) ∈ lw_all := lw_g (lw_at lw_m3 16 rfl) rfl
theorem q603 : (Jvm.Cond.code ({ cls := "HatRank$Line", name := "<init>", desc := "()V" } : Jvm.MethodName) prog_11_method_1_code (1 : Nat) (Option.none : Option Jvm.ClassFile.FieldType)) ∈ lw_all := lw_g (lw_at lw_m3 17 rfl) rfl
theorem q604 : (Jvm.Cond.methodLink "HatRank$Line" (1 : Nat) ({ cls := "java/lang/Object", name := "<init>", desc := "()V" } : Jvm.MethodName)) ∈ lw_all := lw_g (lw_at lw_m3 18 rfl) rfl
theorem q608 : (Jvm.Cond.lays "HatRank$Line" "HatRank$Line" "asked" "LHatRank$Term;") ∈ lw_all := lw_g (lw_at lw_m3 22 rfl) rfl
theorem q609 : (Jvm.Cond.soleField "HatRank$Line" "asked") ∈ lw_all := lw_g (lw_at lw_m3 23 rfl) rfl
theorem q610 : (Jvm.Cond.lays "HatRank$Line" "HatRank$Line" "counts" "LHatRank$Term;") ∈ lw_all := lw_g (lw_at lw_m3 24 rfl) rfl
theorem q611 : (Jvm.Cond.soleField "HatRank$Line" "counts") ∈ lw_all := lw_g (lw_at lw_m3 25 rfl) rfl
theorem q612 : (Jvm.Cond.lays "HatRank$Line" "HatRank$Line" "next" "LHatRank$Line;") ∈ lw_all := lw_g (lw_at lw_m3 26 rfl) rfl
theorem q613 : (Jvm.Cond.soleField "HatRank$Line" "next") ∈ lw_all := lw_g (lw_at lw_m3 27 rfl) rfl
theorem q614 : (Jvm.Cond.superclass "HatRank$Line" "java/lang/Object") ∈ lw_all := lw_g (lw_at lw_m3 28 rfl) rfl
theorem q1944 : (Jvm.Cond.castable "HatRank$Line" "java/lang/Object") ∈ lw_tbl := lw_at lw_m8 158 rfl
theorem in_X9 : ∀ w ∈ wsX90, w ∈ lw_all := lw_in wsX90 [608, 610, 612] (by decide +kernel) (by decide +kernel)
/-! HatRank$Term -/
set_option maxRecDepth 100000
def RX10 : String := "HatRank$Term"
abbrev cX10_init : ByteArray := prog_22_method_1_code
def yX10_init : MethodName := ⟨RX10, "<init>", "()V"⟩
theorem dX10_init_0 : decode cX10_init 0 = .ok (.aload_n 0, 1) := by decide +kernel
theorem dX10_init_1 : decode cX10_init 1 = .ok (.invokespecial 1, 3) := by decide +kernel
theorem dX10_init_4 : decode cX10_init 4 = .ok (.return_, 1) := by decide +kernel
theorem q121 : (Jvm.Cond.initialized "HatRank$Term") ∈ lw_all := lw_g (lw_at lw_m1 15 rfl) rfl
theorem q556 : (Jvm.Cond.declares ({ cls := "HatRank$Term", name := "value", desc := "()I" } : Jvm.MethodName)) ∈ lw_tbl := lw_at lw_m2 210 rfl
theorem q557 : (Jvm.Cond.sameMethod "HatRank$Term" "HatRank$Term" "value" "()I") ∈ lw_all := lw_g (lw_at lw_m2 211 rfl) rfl
theorem q655 : (Jvm.Cond.instanceMethod ({ cls := "HatRank$Term", name := "<init>", desc := "()V" } : Jvm.MethodName)) ∈ lw_all := lw_g (lw_at lw_m3 69 rfl) rfl
theorem q656 : (Jvm.Cond.code ({ cls := "HatRank$Term", name := "<init>", desc := "()V" } : Jvm.MethodName) prog_22_method_1_code (1 : Nat) (Option.none : Option Jvm.ClassFile.FieldType)) ∈ lw_all := lw_g (lw_at lw_m3 70 rfl) rfl
theorem q657 : (Jvm.Cond.methodLink "HatRank$Term" (1 : Nat) ({ cls := "java/lang/Object", name := "<init>", desc := "()V" } : Jvm.MethodName)) ∈ lw_all := lw_g (lw_at lw_m3 71 rfl) rfl
/-! HatRank$Figure -/
set_option maxRecDepth 100000
def RX11 : String := "HatRank$Figure"
def TX11 : u_T := fun k => match k with
  | _ => ("HatRank$Figure", "v", "I", true)
def tyX11 : Nat → FieldType := fun k => match k with
  | _ => .int
abbrev wsX110 : List Cond := u_ws RX11 TX11 1
theorem nmX11 : ∀ a, a < 1 → ∀ b, b < 1 → a ≠ b → (TX11 a).2.1 ≠ (TX11 b).2.1 := by decide +kernel
theorem tyX11_ok : ∀ k, k < 1 → parseFieldDescriptor (TX11 k).2.2.1 = some (tyX11 k) := by decide +kernel
abbrev cX11_value : ByteArray := prog_9_method_2_code
def yX11_value : MethodName := ⟨RX11, "value", "()I"⟩
theorem dX11_value_0 : decode cX11_value 0 = .ok (.aload_n 0, 1) := by decide +kernel
theorem dX11_value_1 : decode cX11_value 1 = .ok (.getfield 7, 3) := by decide +kernel
theorem dX11_value_4 : decode cX11_value 4 = .ok (.ireturn, 1) := by decide +kernel
abbrev cX11_init : ByteArray := prog_9_method_1_code
def yX11_init : MethodName := ⟨RX11, "<init>", "(I)V"⟩
def dkwX11_init_0 : List UInt8 := [42, 183, 0, 1, 42, 27, 181, 0, 7, 177]
abbrev dktX11_init_0 : List UInt8 := dkwX11_init_0 ++ []
theorem dksX11_init_0 : cX11_init.data.toList.drop 0 = dktX11_init_0 := by decide +kernel
theorem dX11_init_0 : decode cX11_init 0 = .ok (.aload_n 0, 1) := dk_42 (dk_at dksX11_init_0 0 rfl rfl)
theorem dX11_init_1 : decode cX11_init 1 = .ok (.invokespecial 1, 3) := dk_183 0 1 (dk_at dksX11_init_0 1 rfl rfl)
theorem dX11_init_4 : decode cX11_init 4 = .ok (.aload_n 0, 1) := dk_42 (dk_at dksX11_init_0 4 rfl rfl)
theorem dX11_init_5 : decode cX11_init 5 = .ok (.iload_n 1, 1) := dk_27 (dk_at dksX11_init_0 5 rfl rfl)
theorem dX11_init_6 : decode cX11_init 6 = .ok (.putfield 7, 3) := dk_181 0 7 (dk_at dksX11_init_0 6 rfl rfl)
theorem dX11_init_9 : decode cX11_init 9 = .ok (.return_, 1) := dk_177 (dk_at dksX11_init_0 9 rfl rfl)
theorem q122 : (Jvm.Cond.initialized "HatRank$Figure") ∈ lw_all := lw_g (lw_at lw_m1 16 rfl) rfl
theorem q562 : (Jvm.Cond.instanceMethod ({ cls := "HatRank$Figure", name := "value", desc := "()I" } : Jvm.MethodName)) ∈ lw_all := lw_g (lw_at lw_m2 216 rfl) rfl
theorem q563 : (Jvm.Cond.code ({ cls := "HatRank$Figure", name := "value", desc := "()I" } : Jvm.MethodName) prog_9_method_2_code (1 : Nat) (Option.some Jvm.ClassFile.FieldType.int)) ∈ lw_all := lw_g (lw_at lw_m2 217 rfl) rfl
theorem q571 : (Jvm.Cond.selects "HatRank$Figure" ({ cls := "HatRank$Term", name := "value", desc := "()I" } : Jvm.MethodName) ({ cls := "HatRank$Figure", name := "value", desc := "()I" } : Jvm.MethodName)) ∈ lw_all := lw_g (lw_at lw_m2 225 rfl) rfl
theorem q650 : (Jvm.Cond.instantiable "HatRank$Figure" (1 : Nat)) ∈ lw_all := lw_g (lw_at lw_m3 64 rfl) rfl
theorem q652 : (Jvm.Cond.instanceMethod ({ cls := "HatRank$Figure", name := "<init>", desc := "(I)V" } : Jvm.MethodName)) ∈ lw_all := lw_g (lw_at lw_m3 66 rfl) rfl
theorem q653 : (Jvm.Cond.code ({ cls := "HatRank$Figure", name := "<init>", desc := "(I)V" } : Jvm.MethodName) prog_9_method_1_code (2 : Nat) (Option.none : Option Jvm.ClassFile.FieldType)) ∈ lw_all := lw_g (lw_at lw_m3 67 rfl) rfl
theorem q654 : (Jvm.Cond.methodLinkNest "HatRank$Figure" (1 : Nat) ({ cls := "HatRank$Term", name := "<init>", desc := "()V" } : Jvm.MethodName) "HatRank") ∈ lw_tbl := lw_at lw_m3 68 rfl
theorem q658 : (Jvm.Cond.fieldLink "HatRank$Figure" (7 : Nat) "HatRank$Figure" "v" "I") ∈ lw_all := lw_g (lw_at lw_m3 72 rfl) rfl
theorem q659 : (Jvm.Cond.laysFinal "HatRank$Figure" "HatRank$Figure" "v" "I") ∈ lw_all := lw_g (lw_at lw_m3 73 rfl) rfl
theorem q660 : (Jvm.Cond.soleField "HatRank$Figure" "v") ∈ lw_all := lw_g (lw_at lw_m3 74 rfl) rfl
theorem q661 : (Jvm.Cond.superclass "HatRank$Figure" "HatRank$Term") ∈ lw_all := lw_g (lw_at lw_m3 75 rfl) rfl
theorem q1945 : (Jvm.Cond.castable "HatRank$Figure" "java/lang/Object") ∈ lw_tbl := lw_at lw_m8 159 rfl
theorem in_X11 : ∀ w ∈ wsX110, w ∈ lw_all := lw_in wsX110 [659] (by decide +kernel) (by decide +kernel)
/-! HatRank$Named -/
set_option maxRecDepth 100000
def RX12 : String := "HatRank$Named"
def TX12 : u_T := fun k => match k with
  | 0 => ("HatRank$Named", "name", "I", true)
  | _ => ("HatRank$Named", "this$0", "LHatRank;", true)
def tyX12 : Nat → FieldType := fun k => match k with
  | 0 => .int
  | _ => .object "HatRank"
abbrev wsX120 : List Cond := u_ws RX12 TX12 2
theorem nmX12 : ∀ a, a < 2 → ∀ b, b < 2 → a ≠ b → (TX12 a).2.1 ≠ (TX12 b).2.1 := by decide +kernel
theorem tyX12_ok : ∀ k, k < 2 → parseFieldDescriptor (TX12 k).2.2.1 = some (tyX12 k) := by decide +kernel
abbrev cX12_value : ByteArray := prog_13_method_2_code
def yX12_value : MethodName := ⟨RX12, "value", "()I"⟩
def dkwX12_value_0 : List UInt8 := [42, 180, 0, 1, 180, 0, 17, 42, 180, 0, 13, 46, 172]
abbrev dktX12_value_0 : List UInt8 := dkwX12_value_0 ++ []
theorem dksX12_value_0 : cX12_value.data.toList.drop 0 = dktX12_value_0 := by decide +kernel
theorem dX12_value_0 : decode cX12_value 0 = .ok (.aload_n 0, 1) := dk_42 (dk_at dksX12_value_0 0 rfl rfl)
theorem dX12_value_1 : decode cX12_value 1 = .ok (.getfield 1, 3) := dk_180 0 1 (dk_at dksX12_value_0 1 rfl rfl)
theorem dX12_value_4 : decode cX12_value 4 = .ok (.getfield 17, 3) := dk_180 0 17 (dk_at dksX12_value_0 4 rfl rfl)
theorem dX12_value_7 : decode cX12_value 7 = .ok (.aload_n 0, 1) := dk_42 (dk_at dksX12_value_0 7 rfl rfl)
theorem dX12_value_8 : decode cX12_value 8 = .ok (.getfield 13, 3) := dk_180 0 13 (dk_at dksX12_value_0 8 rfl rfl)
theorem dX12_value_11 : decode cX12_value 11 = .ok (.iaload, 1) := dk_46 (dk_at dksX12_value_0 11 rfl rfl)
theorem dX12_value_12 : decode cX12_value 12 = .ok (.ireturn, 1) := dk_172 (dk_at dksX12_value_0 12 rfl rfl)
abbrev cX12_init : ByteArray := prog_13_method_1_code
def yX12_init : MethodName := ⟨RX12, "<init>", "(LHatRank;I)V"⟩
def dkwX12_init_0 : List UInt8 := [42, 43, 181, 0, 1, 42, 183, 0, 7, 42, 28, 181, 0, 13, 177]
abbrev dktX12_init_0 : List UInt8 := dkwX12_init_0 ++ []
theorem dksX12_init_0 : cX12_init.data.toList.drop 0 = dktX12_init_0 := by decide +kernel
theorem dX12_init_0 : decode cX12_init 0 = .ok (.aload_n 0, 1) := dk_42 (dk_at dksX12_init_0 0 rfl rfl)
theorem dX12_init_1 : decode cX12_init 1 = .ok (.aload_n 1, 1) := dk_43 (dk_at dksX12_init_0 1 rfl rfl)
theorem dX12_init_2 : decode cX12_init 2 = .ok (.putfield 1, 3) := dk_181 0 1 (dk_at dksX12_init_0 2 rfl rfl)
theorem dX12_init_5 : decode cX12_init 5 = .ok (.aload_n 0, 1) := dk_42 (dk_at dksX12_init_0 5 rfl rfl)
theorem dX12_init_6 : decode cX12_init 6 = .ok (.invokespecial 7, 3) := dk_183 0 7 (dk_at dksX12_init_0 6 rfl rfl)
theorem dX12_init_9 : decode cX12_init 9 = .ok (.aload_n 0, 1) := dk_42 (dk_at dksX12_init_0 9 rfl rfl)
theorem dX12_init_10 : decode cX12_init 10 = .ok (.iload_n 2, 1) := dk_28 (dk_at dksX12_init_0 10 rfl rfl)
theorem dX12_init_11 : decode cX12_init 11 = .ok (.putfield 13, 3) := dk_181 0 13 (dk_at dksX12_init_0 11 rfl rfl)
theorem dX12_init_14 : decode cX12_init 14 = .ok (.return_, 1) := dk_177 (dk_at dksX12_init_0 14 rfl rfl)
theorem q123 : (Jvm.Cond.initialized "HatRank$Named") ∈ lw_all := lw_g (lw_at lw_m1 17 rfl) rfl
theorem q305 : (Jvm.Cond.fieldLinkNest "HatRank$Named" (17 : Nat) "HatRank" "names" "[I" "HatRank") ∈ lw_tbl := lw_at lw_m1 199 rfl
theorem q564 : (Jvm.Cond.instanceMethod ({ cls := "HatRank$Named", name := "value", desc := "()I" } : Jvm.MethodName)) ∈ lw_all := lw_g (lw_at lw_m2 218 rfl) rfl
theorem q565 : (Jvm.Cond.code ({ cls := "HatRank$Named", name := "value", desc := "()I" } : Jvm.MethodName) prog_13_method_2_code (1 : Nat) (Option.some Jvm.ClassFile.FieldType.int)) ∈ lw_all := lw_g (lw_at lw_m2 219 rfl) rfl
theorem q572 : (Jvm.Cond.selects "HatRank$Named" ({ cls := "HatRank$Term", name := "value", desc := "()I" } : Jvm.MethodName) ({ cls := "HatRank$Named", name := "value", desc := "()I" } : Jvm.MethodName)) ∈ lw_all := lw_g (lw_at lw_m2 226 rfl) rfl
theorem q666 : (Jvm.Cond.instantiable "HatRank$Named" (2 : Nat)) ∈ lw_all := lw_g (lw_at lw_m3 80 rfl) rfl
theorem q668 : (Jvm.Cond.instanceMethod ({ cls := "HatRank$Named", name := "<init>", desc := "(LHatRank;I)V" } : Jvm.MethodName)) ∈ lw_all := lw_g (lw_at lw_m3 82 rfl) rfl
theorem q669 : (Jvm.Cond.code ({ cls := "HatRank$Named", name := "<init>", desc := "(LHatRank;I)V" } : Jvm.MethodName) prog_13_method_1_code (3 : Nat) (Option.none : Option Jvm.ClassFile.FieldType)) ∈ lw_all := lw_g (lw_at lw_m3 83 rfl) rfl
theorem q670 : (Jvm.Cond.methodLinkNest "HatRank$Named" (7 : Nat) ({ cls := "HatRank$Term", name := "<init>", desc := "()V" } : Jvm.MethodName) "HatRank") ∈ lw_tbl := lw_at lw_m3 84 rfl
theorem q671 : (Jvm.Cond.fieldLink "HatRank$Named" (13 : Nat) "HatRank$Named" "name" "I") ∈ lw_all := lw_g (lw_at lw_m3 85 rfl) rfl
theorem q672 : (Jvm.Cond.fieldLink "HatRank$Named" (1 : Nat) "HatRank$Named" "this$0" "LHatRank;") ∈ lw_all := lw_g (lw_at lw_m3 86 rfl) rfl
theorem q673 : (Jvm.Cond.laysFinal "HatRank$Named" "HatRank$Named" "name" "I") ∈ lw_all := lw_g (lw_at lw_m3 87 rfl) rfl
theorem q674 : (Jvm.Cond.soleField "HatRank$Named" "name") ∈ lw_all := lw_g (lw_at lw_m3 88 rfl) rfl
theorem q675 : (Jvm.Cond.laysFinal "HatRank$Named" "HatRank$Named" "this$0" "LHatRank;") ∈ lw_all := lw_g (lw_at lw_m3 89 rfl) rfl
theorem q676 : (Jvm.Cond.soleField "HatRank$Named" "this$0") ∈ lw_all := lw_g (lw_at lw_m3 90 rfl) rfl
theorem q677 : (Jvm.Cond.superclass "HatRank$Named" "HatRank$Term") ∈ lw_all := lw_g (lw_at lw_m3 91 rfl) rfl
theorem q1946 : (Jvm.Cond.castable "HatRank$Named" "java/lang/Object") ∈ lw_tbl := lw_at lw_m8 160 rfl
theorem in_X12 : ∀ w ∈ wsX120, w ∈ lw_all := lw_in wsX120 [673, 675] (by decide +kernel) (by decide +kernel)
/-! HatRank$Signed -/
set_option maxRecDepth 100000
def RX13 : String := "HatRank$Signed"
def TX13 : u_T := fun k => match k with
  | 0 => ("HatRank$Signed", "sign", "I", true)
  | _ => ("HatRank$Signed", "of", "LHatRank$Term;", true)
def tyX13 : Nat → FieldType := fun k => match k with
  | 0 => .int
  | _ => .object "HatRank$Term"
abbrev wsX130 : List Cond := u_ws RX13 TX13 2
theorem nmX13 : ∀ a, a < 2 → ∀ b, b < 2 → a ≠ b → (TX13 a).2.1 ≠ (TX13 b).2.1 := by decide +kernel
theorem tyX13_ok : ∀ k, k < 2 → parseFieldDescriptor (TX13 k).2.2.1 = some (tyX13 k) := by decide +kernel
abbrev cX13_value : ByteArray := prog_19_method_2_code
def yX13_value : MethodName := ⟨RX13, "value", "()I"⟩
def dkwX13_value_1 : List UInt8 := [184, 0, 21, 167, 0, 11, 42, 180, 0, 13, 182, 0, 17, 116, 172]
abbrev dktX13_value_1 : List UInt8 := dkwX13_value_1 ++ []
def dkwX13_value_0 : List UInt8 := [42, 180, 0, 7, 16, 33, 160, 0, 24, 42, 180, 0, 13, 182, 0, 17, 154, 0, 7, 4, 167, 0, 4, 3]
abbrev dktX13_value_0 : List UInt8 := dkwX13_value_0 ++ dktX13_value_1
theorem dksX13_value_0 : cX13_value.data.toList.drop 0 = dktX13_value_0 := by decide +kernel
theorem dksX13_value_1 : cX13_value.data.toList.drop 24 = dktX13_value_1 := dk_seg dksX13_value_0 24 rfl rfl
theorem dX13_value_0 : decode cX13_value 0 = .ok (.aload_n 0, 1) := dk_42 (dk_at dksX13_value_0 0 rfl rfl)
theorem dX13_value_1 : decode cX13_value 1 = .ok (.getfield 7, 3) := dk_180 0 7 (dk_at dksX13_value_0 1 rfl rfl)
theorem dX13_value_4 : decode cX13_value 4 = .ok (.bipush 33, 2) := dk_16 33 (dk_at dksX13_value_0 4 rfl rfl)
theorem dX13_value_6 : decode cX13_value 6 = .ok (.if_icmp .ne 24, 3) := dk_160 0 24 (dk_at dksX13_value_0 6 rfl rfl)
theorem dX13_value_9 : decode cX13_value 9 = .ok (.aload_n 0, 1) := dk_42 (dk_at dksX13_value_0 9 rfl rfl)
theorem dX13_value_10 : decode cX13_value 10 = .ok (.getfield 13, 3) := dk_180 0 13 (dk_at dksX13_value_0 10 rfl rfl)
theorem dX13_value_13 : decode cX13_value 13 = .ok (.invokevirtual 17, 3) := dk_182 0 17 (dk_at dksX13_value_0 13 rfl rfl)
theorem dX13_value_16 : decode cX13_value 16 = .ok (.ifCond .ne 7, 3) := dk_154 0 7 (dk_at dksX13_value_0 16 rfl rfl)
theorem dX13_value_19 : decode cX13_value 19 = .ok (.iconst 1, 1) := dk_4 (dk_at dksX13_value_0 19 rfl rfl)
theorem dX13_value_20 : decode cX13_value 20 = .ok (.goto 4, 3) := dk_167 0 4 (dk_at dksX13_value_0 20 rfl rfl)
theorem dX13_value_23 : decode cX13_value 23 = .ok (.iconst 0, 1) := dk_3 (dk_at dksX13_value_0 23 rfl rfl)
theorem dX13_value_24 : decode cX13_value 24 = .ok (.invokestatic 21, 3) := dk_184 0 21 (dk_at dksX13_value_1 0 rfl rfl)
theorem dX13_value_27 : decode cX13_value 27 = .ok (.goto 11, 3) := dk_167 0 11 (dk_at dksX13_value_1 3 rfl rfl)
theorem dX13_value_30 : decode cX13_value 30 = .ok (.aload_n 0, 1) := dk_42 (dk_at dksX13_value_1 6 rfl rfl)
theorem dX13_value_31 : decode cX13_value 31 = .ok (.getfield 13, 3) := dk_180 0 13 (dk_at dksX13_value_1 7 rfl rfl)
theorem dX13_value_34 : decode cX13_value 34 = .ok (.invokevirtual 17, 3) := dk_182 0 17 (dk_at dksX13_value_1 10 rfl rfl)
theorem dX13_value_37 : decode cX13_value 37 = .ok (.ineg, 1) := dk_116 (dk_at dksX13_value_1 13 rfl rfl)
theorem dX13_value_38 : decode cX13_value 38 = .ok (.ireturn, 1) := dk_172 (dk_at dksX13_value_1 14 rfl rfl)
abbrev cX13_init : ByteArray := prog_19_method_1_code
def yX13_init : MethodName := ⟨RX13, "<init>", "(ILHatRank$Term;)V"⟩
def dkwX13_init_0 : List UInt8 := [42, 183, 0, 1, 42, 27, 181, 0, 7, 42, 44, 181, 0, 13, 177]
abbrev dktX13_init_0 : List UInt8 := dkwX13_init_0 ++ []
theorem dksX13_init_0 : cX13_init.data.toList.drop 0 = dktX13_init_0 := by decide +kernel
theorem dX13_init_0 : decode cX13_init 0 = .ok (.aload_n 0, 1) := dk_42 (dk_at dksX13_init_0 0 rfl rfl)
theorem dX13_init_1 : decode cX13_init 1 = .ok (.invokespecial 1, 3) := dk_183 0 1 (dk_at dksX13_init_0 1 rfl rfl)
theorem dX13_init_4 : decode cX13_init 4 = .ok (.aload_n 0, 1) := dk_42 (dk_at dksX13_init_0 4 rfl rfl)
theorem dX13_init_5 : decode cX13_init 5 = .ok (.iload_n 1, 1) := dk_27 (dk_at dksX13_init_0 5 rfl rfl)
theorem dX13_init_6 : decode cX13_init 6 = .ok (.putfield 7, 3) := dk_181 0 7 (dk_at dksX13_init_0 6 rfl rfl)
theorem dX13_init_9 : decode cX13_init 9 = .ok (.aload_n 0, 1) := dk_42 (dk_at dksX13_init_0 9 rfl rfl)
theorem dX13_init_10 : decode cX13_init 10 = .ok (.aload_n 2, 1) := dk_44 (dk_at dksX13_init_0 10 rfl rfl)
theorem dX13_init_11 : decode cX13_init 11 = .ok (.putfield 13, 3) := dk_181 0 13 (dk_at dksX13_init_0 11 rfl rfl)
theorem dX13_init_14 : decode cX13_init 14 = .ok (.return_, 1) := dk_177 (dk_at dksX13_init_0 14 rfl rfl)
theorem q124 : (Jvm.Cond.initialized "HatRank$Signed") ∈ lw_all := lw_g (lw_at lw_m1 18 rfl) rfl
theorem q566 : (Jvm.Cond.instanceMethod ({ cls := "HatRank$Signed", name := "value", desc := "()I" } : Jvm.MethodName)) ∈ lw_all := lw_g (lw_at lw_m2 220 rfl) rfl
theorem q567 : (Jvm.Cond.code ({ cls := "HatRank$Signed", name := "value", desc := "()I" } : Jvm.MethodName) prog_19_method_2_code (1 : Nat) (Option.some Jvm.ClassFile.FieldType.int)) ∈ lw_all := lw_g (lw_at lw_m2 221 rfl) rfl
theorem q568 : (Jvm.Cond.methodLink "HatRank$Signed" (17 : Nat) ({ cls := "HatRank$Term", name := "value", desc := "()I" } : Jvm.MethodName)) ∈ lw_all := lw_g (lw_at lw_m2 222 rfl) rfl
theorem q569 : (Jvm.Cond.methodLinkNest "HatRank$Signed" (21 : Nat) ({ cls := "HatRank", name := "bit", desc := "(Z)I" } : Jvm.MethodName) "HatRank") ∈ lw_tbl := lw_at lw_m2 223 rfl
theorem q573 : (Jvm.Cond.selects "HatRank$Signed" ({ cls := "HatRank$Term", name := "value", desc := "()I" } : Jvm.MethodName) ({ cls := "HatRank$Signed", name := "value", desc := "()I" } : Jvm.MethodName)) ∈ lw_all := lw_g (lw_at lw_m2 227 rfl) rfl
theorem q679 : (Jvm.Cond.instantiable "HatRank$Signed" (2 : Nat)) ∈ lw_all := lw_g (lw_at lw_m3 93 rfl) rfl
theorem q681 : (Jvm.Cond.instanceMethod ({ cls := "HatRank$Signed", name := "<init>", desc := "(ILHatRank$Term;)V" } : Jvm.MethodName)) ∈ lw_all := lw_g (lw_at lw_m3 95 rfl) rfl
theorem q682 : (Jvm.Cond.code ({ cls := "HatRank$Signed", name := "<init>", desc := "(ILHatRank$Term;)V" } : Jvm.MethodName) prog_19_method_1_code (3 : Nat) (Option.none : Option Jvm.ClassFile.FieldType)) ∈ lw_all := lw_g (lw_at lw_m3 96 rfl) rfl
theorem q683 : (Jvm.Cond.methodLinkNest "HatRank$Signed" (1 : Nat) ({ cls := "HatRank$Term", name := "<init>", desc := "()V" } : Jvm.MethodName) "HatRank") ∈ lw_tbl := lw_at lw_m3 97 rfl
theorem q684 : (Jvm.Cond.fieldLink "HatRank$Signed" (7 : Nat) "HatRank$Signed" "sign" "I") ∈ lw_all := lw_g (lw_at lw_m3 98 rfl) rfl
theorem q685 : (Jvm.Cond.fieldLink "HatRank$Signed" (13 : Nat) "HatRank$Signed" "of" "LHatRank$Term;") ∈ lw_all := lw_g (lw_at lw_m3 99 rfl) rfl
theorem q686 : (Jvm.Cond.laysFinal "HatRank$Signed" "HatRank$Signed" "sign" "I") ∈ lw_all := lw_g (lw_at lw_m3 100 rfl) rfl
theorem q687 : (Jvm.Cond.soleField "HatRank$Signed" "sign") ∈ lw_all := lw_g (lw_at lw_m3 101 rfl) rfl
theorem q688 : (Jvm.Cond.laysFinal "HatRank$Signed" "HatRank$Signed" "of" "LHatRank$Term;") ∈ lw_all := lw_g (lw_at lw_m3 102 rfl) rfl
theorem q689 : (Jvm.Cond.soleField "HatRank$Signed" "of") ∈ lw_all := lw_g (lw_at lw_m3 103 rfl) rfl
theorem q690 : (Jvm.Cond.superclass "HatRank$Signed" "HatRank$Term") ∈ lw_all := lw_g (lw_at lw_m3 104 rfl) rfl
theorem q1947 : (Jvm.Cond.castable "HatRank$Signed" "java/lang/Object") ∈ lw_tbl := lw_at lw_m8 161 rfl
theorem in_X13 : ∀ w ∈ wsX130, w ∈ lw_all := lw_in wsX130 [686, 688] (by decide +kernel) (by decide +kernel)
/-! HatRank$Both -/
set_option maxRecDepth 100000
def RX14 : String := "HatRank$Both"
def TX14 : u_T := fun k => match k with
  | 0 => ("HatRank$Both", "sign", "I", true)
  | 1 => ("HatRank$Both", "left", "LHatRank$Term;", true)
  | _ => ("HatRank$Both", "right", "LHatRank$Term;", true)
def tyX14 : Nat → FieldType := fun k => match k with
  | 0 => .int
  | 1 => .object "HatRank$Term"
  | _ => .object "HatRank$Term"
abbrev wsX140 : List Cond := u_ws RX14 TX14 3
theorem nmX14 : ∀ a, a < 3 → ∀ b, b < 3 → a ≠ b → (TX14 a).2.1 ≠ (TX14 b).2.1 := by decide +kernel
theorem tyX14_ok : ∀ k, k < 3 → parseFieldDescriptor (TX14 k).2.2.1 = some (tyX14 k) := by decide +kernel
abbrev cX14_value : ByteArray := prog_4_method_2_code
def yX14_value : MethodName := ⟨RX14, "value", "()I"⟩
def dkwX14_value_6 : List UInt8 := [3, 167, 0, 6, 27, 28, 108, 172, 28, 154, 0, 7, 3, 167, 0, 6, 27, 28, 112, 172]
abbrev dktX14_value_6 : List UInt8 := dkwX14_value_6 ++ []
def dkwX14_value_5 : List UInt8 := [167, 0, 4, 3, 184, 0, 24, 172, 27, 28, 96, 172, 27, 28, 100, 172, 27, 28, 104, 172, 28, 154, 0, 7]
abbrev dktX14_value_5 : List UInt8 := dkwX14_value_5 ++ dktX14_value_6
def dkwX14_value_4 : List UInt8 := [184, 0, 24, 172, 27, 28, 160, 0, 7, 4, 167, 0, 4, 3, 184, 0, 24, 172, 27, 28, 164, 0, 7, 4]
abbrev dktX14_value_4 : List UInt8 := dkwX14_value_4 ++ dktX14_value_5
def dkwX14_value_3 : List UInt8 := [153, 0, 7, 4, 167, 0, 4, 3, 184, 0, 24, 172, 27, 28, 162, 0, 7, 4, 167, 0, 4, 3]
abbrev dktX14_value_3 : List UInt8 := dkwX14_value_3 ++ dktX14_value_4
def dkwX14_value_2 : List UInt8 := [27, 154, 0, 7, 28, 153, 0, 7, 4, 167, 0, 4, 3, 184, 0, 24, 172, 27, 153, 0, 11, 28]
abbrev dktX14_value_2 : List UInt8 := dkwX14_value_2 ++ dktX14_value_3
def dkwX14_value_1 : List UInt8 := [171, 0, 0, 0, 0, 0, 0, 184, 0, 0, 0, 9, 0, 0, 0, 38, 0, 0, 0, 101, 0, 0, 0, 42, 0, 0, 0, 168, 0, 0, 0, 43, 0, 0, 0, 160, 0, 0, 0, 45, 0, 0, 0, 164, 0, 0, 0, 47, 0, 0, 0, 172, 0, 0, 0, 60, 0, 0, 0, 118, 0, 0, 0, 61, 0, 0, 0, 132, 0, 0, 0, 62, 0, 0, 0, 146, 0, 0, 0, 124, 0, 0, 0, 84]
abbrev dktX14_value_1 : List UInt8 := dkwX14_value_1 ++ dktX14_value_2
def dkwX14_value_0 : List UInt8 := [42, 180, 0, 13, 182, 0, 20, 60, 42, 180, 0, 17, 182, 0, 20, 61, 42, 180, 0, 7]
abbrev dktX14_value_0 : List UInt8 := dkwX14_value_0 ++ dktX14_value_1
theorem dksX14_value_0 : cX14_value.data.toList.drop 0 = dktX14_value_0 := by decide +kernel
theorem dksX14_value_1 : cX14_value.data.toList.drop 20 = dktX14_value_1 := dk_seg dksX14_value_0 20 rfl rfl
theorem dksX14_value_2 : cX14_value.data.toList.drop 104 = dktX14_value_2 := dk_seg dksX14_value_1 84 rfl rfl
theorem dksX14_value_3 : cX14_value.data.toList.drop 126 = dktX14_value_3 := dk_seg dksX14_value_2 22 rfl rfl
theorem dksX14_value_4 : cX14_value.data.toList.drop 148 = dktX14_value_4 := dk_seg dksX14_value_3 22 rfl rfl
theorem dksX14_value_5 : cX14_value.data.toList.drop 172 = dktX14_value_5 := dk_seg dksX14_value_4 24 rfl rfl
theorem dksX14_value_6 : cX14_value.data.toList.drop 196 = dktX14_value_6 := dk_seg dksX14_value_5 24 rfl rfl
theorem dX14_value_0 : decode cX14_value 0 = .ok (.aload_n 0, 1) := dk_42 (dk_at dksX14_value_0 0 rfl rfl)
theorem dX14_value_1 : decode cX14_value 1 = .ok (.getfield 13, 3) := dk_180 0 13 (dk_at dksX14_value_0 1 rfl rfl)
theorem dX14_value_4 : decode cX14_value 4 = .ok (.invokevirtual 20, 3) := dk_182 0 20 (dk_at dksX14_value_0 4 rfl rfl)
theorem dX14_value_7 : decode cX14_value 7 = .ok (.istore_n 1, 1) := dk_60 (dk_at dksX14_value_0 7 rfl rfl)
theorem dX14_value_8 : decode cX14_value 8 = .ok (.aload_n 0, 1) := dk_42 (dk_at dksX14_value_0 8 rfl rfl)
theorem dX14_value_9 : decode cX14_value 9 = .ok (.getfield 17, 3) := dk_180 0 17 (dk_at dksX14_value_0 9 rfl rfl)
theorem dX14_value_12 : decode cX14_value 12 = .ok (.invokevirtual 20, 3) := dk_182 0 20 (dk_at dksX14_value_0 12 rfl rfl)
theorem dX14_value_15 : decode cX14_value 15 = .ok (.istore_n 2, 1) := dk_61 (dk_at dksX14_value_0 15 rfl rfl)
theorem dX14_value_16 : decode cX14_value 16 = .ok (.aload_n 0, 1) := dk_42 (dk_at dksX14_value_0 16 rfl rfl)
theorem dX14_value_17 : decode cX14_value 17 = .ok (.getfield 7, 3) := dk_180 0 7 (dk_at dksX14_value_0 17 rfl rfl)
theorem dX14_value_20 : decode cX14_value 20 = .ok (.lookupswitch 184 #[(38, 101), (42, 168), (43, 160), (45, 164), (47, 172), (60, 118), (61, 132), (62, 146), (124, 84)], 84) := by decide +kernel
theorem dX14_value_104 : decode cX14_value 104 = .ok (.iload_n 1, 1) := dk_27 (dk_at dksX14_value_2 0 rfl rfl)
theorem dX14_value_105 : decode cX14_value 105 = .ok (.ifCond .ne 7, 3) := dk_154 0 7 (dk_at dksX14_value_2 1 rfl rfl)
theorem dX14_value_108 : decode cX14_value 108 = .ok (.iload_n 2, 1) := dk_28 (dk_at dksX14_value_2 4 rfl rfl)
theorem dX14_value_109 : decode cX14_value 109 = .ok (.ifCond .eq 7, 3) := dk_153 0 7 (dk_at dksX14_value_2 5 rfl rfl)
theorem dX14_value_112 : decode cX14_value 112 = .ok (.iconst 1, 1) := dk_4 (dk_at dksX14_value_2 8 rfl rfl)
theorem dX14_value_113 : decode cX14_value 113 = .ok (.goto 4, 3) := dk_167 0 4 (dk_at dksX14_value_2 9 rfl rfl)
theorem dX14_value_116 : decode cX14_value 116 = .ok (.iconst 0, 1) := dk_3 (dk_at dksX14_value_2 12 rfl rfl)
theorem dX14_value_117 : decode cX14_value 117 = .ok (.invokestatic 24, 3) := dk_184 0 24 (dk_at dksX14_value_2 13 rfl rfl)
theorem dX14_value_120 : decode cX14_value 120 = .ok (.ireturn, 1) := dk_172 (dk_at dksX14_value_2 16 rfl rfl)
theorem dX14_value_121 : decode cX14_value 121 = .ok (.iload_n 1, 1) := dk_27 (dk_at dksX14_value_2 17 rfl rfl)
theorem dX14_value_122 : decode cX14_value 122 = .ok (.ifCond .eq 11, 3) := dk_153 0 11 (dk_at dksX14_value_2 18 rfl rfl)
theorem dX14_value_125 : decode cX14_value 125 = .ok (.iload_n 2, 1) := dk_28 (dk_at dksX14_value_2 21 rfl rfl)
theorem dX14_value_126 : decode cX14_value 126 = .ok (.ifCond .eq 7, 3) := dk_153 0 7 (dk_at dksX14_value_3 0 rfl rfl)
theorem dX14_value_129 : decode cX14_value 129 = .ok (.iconst 1, 1) := dk_4 (dk_at dksX14_value_3 3 rfl rfl)
theorem dX14_value_130 : decode cX14_value 130 = .ok (.goto 4, 3) := dk_167 0 4 (dk_at dksX14_value_3 4 rfl rfl)
theorem dX14_value_133 : decode cX14_value 133 = .ok (.iconst 0, 1) := dk_3 (dk_at dksX14_value_3 7 rfl rfl)
theorem dX14_value_134 : decode cX14_value 134 = .ok (.invokestatic 24, 3) := dk_184 0 24 (dk_at dksX14_value_3 8 rfl rfl)
theorem dX14_value_137 : decode cX14_value 137 = .ok (.ireturn, 1) := dk_172 (dk_at dksX14_value_3 11 rfl rfl)
theorem dX14_value_138 : decode cX14_value 138 = .ok (.iload_n 1, 1) := dk_27 (dk_at dksX14_value_3 12 rfl rfl)
theorem dX14_value_139 : decode cX14_value 139 = .ok (.iload_n 2, 1) := dk_28 (dk_at dksX14_value_3 13 rfl rfl)
theorem dX14_value_140 : decode cX14_value 140 = .ok (.if_icmp .ge 7, 3) := dk_162 0 7 (dk_at dksX14_value_3 14 rfl rfl)
theorem dX14_value_143 : decode cX14_value 143 = .ok (.iconst 1, 1) := dk_4 (dk_at dksX14_value_3 17 rfl rfl)
theorem dX14_value_144 : decode cX14_value 144 = .ok (.goto 4, 3) := dk_167 0 4 (dk_at dksX14_value_3 18 rfl rfl)
theorem dX14_value_147 : decode cX14_value 147 = .ok (.iconst 0, 1) := dk_3 (dk_at dksX14_value_3 21 rfl rfl)
theorem dX14_value_148 : decode cX14_value 148 = .ok (.invokestatic 24, 3) := dk_184 0 24 (dk_at dksX14_value_4 0 rfl rfl)
theorem dX14_value_151 : decode cX14_value 151 = .ok (.ireturn, 1) := dk_172 (dk_at dksX14_value_4 3 rfl rfl)
theorem dX14_value_152 : decode cX14_value 152 = .ok (.iload_n 1, 1) := dk_27 (dk_at dksX14_value_4 4 rfl rfl)
theorem dX14_value_153 : decode cX14_value 153 = .ok (.iload_n 2, 1) := dk_28 (dk_at dksX14_value_4 5 rfl rfl)
theorem dX14_value_154 : decode cX14_value 154 = .ok (.if_icmp .ne 7, 3) := dk_160 0 7 (dk_at dksX14_value_4 6 rfl rfl)
theorem dX14_value_157 : decode cX14_value 157 = .ok (.iconst 1, 1) := dk_4 (dk_at dksX14_value_4 9 rfl rfl)
theorem dX14_value_158 : decode cX14_value 158 = .ok (.goto 4, 3) := dk_167 0 4 (dk_at dksX14_value_4 10 rfl rfl)
theorem dX14_value_161 : decode cX14_value 161 = .ok (.iconst 0, 1) := dk_3 (dk_at dksX14_value_4 13 rfl rfl)
theorem dX14_value_162 : decode cX14_value 162 = .ok (.invokestatic 24, 3) := dk_184 0 24 (dk_at dksX14_value_4 14 rfl rfl)
theorem dX14_value_165 : decode cX14_value 165 = .ok (.ireturn, 1) := dk_172 (dk_at dksX14_value_4 17 rfl rfl)
theorem dX14_value_166 : decode cX14_value 166 = .ok (.iload_n 1, 1) := dk_27 (dk_at dksX14_value_4 18 rfl rfl)
theorem dX14_value_167 : decode cX14_value 167 = .ok (.iload_n 2, 1) := dk_28 (dk_at dksX14_value_4 19 rfl rfl)
theorem dX14_value_168 : decode cX14_value 168 = .ok (.if_icmp .le 7, 3) := dk_164 0 7 (dk_at dksX14_value_4 20 rfl rfl)
theorem dX14_value_171 : decode cX14_value 171 = .ok (.iconst 1, 1) := dk_4 (dk_at dksX14_value_4 23 rfl rfl)
theorem dX14_value_172 : decode cX14_value 172 = .ok (.goto 4, 3) := dk_167 0 4 (dk_at dksX14_value_5 0 rfl rfl)
theorem dX14_value_175 : decode cX14_value 175 = .ok (.iconst 0, 1) := dk_3 (dk_at dksX14_value_5 3 rfl rfl)
theorem dX14_value_176 : decode cX14_value 176 = .ok (.invokestatic 24, 3) := dk_184 0 24 (dk_at dksX14_value_5 4 rfl rfl)
theorem dX14_value_179 : decode cX14_value 179 = .ok (.ireturn, 1) := dk_172 (dk_at dksX14_value_5 7 rfl rfl)
theorem dX14_value_180 : decode cX14_value 180 = .ok (.iload_n 1, 1) := dk_27 (dk_at dksX14_value_5 8 rfl rfl)
theorem dX14_value_181 : decode cX14_value 181 = .ok (.iload_n 2, 1) := dk_28 (dk_at dksX14_value_5 9 rfl rfl)
theorem dX14_value_182 : decode cX14_value 182 = .ok (.iadd, 1) := dk_96 (dk_at dksX14_value_5 10 rfl rfl)
theorem dX14_value_183 : decode cX14_value 183 = .ok (.ireturn, 1) := dk_172 (dk_at dksX14_value_5 11 rfl rfl)
theorem dX14_value_184 : decode cX14_value 184 = .ok (.iload_n 1, 1) := dk_27 (dk_at dksX14_value_5 12 rfl rfl)
theorem dX14_value_185 : decode cX14_value 185 = .ok (.iload_n 2, 1) := dk_28 (dk_at dksX14_value_5 13 rfl rfl)
theorem dX14_value_186 : decode cX14_value 186 = .ok (.isub, 1) := dk_100 (dk_at dksX14_value_5 14 rfl rfl)
theorem dX14_value_187 : decode cX14_value 187 = .ok (.ireturn, 1) := dk_172 (dk_at dksX14_value_5 15 rfl rfl)
theorem dX14_value_188 : decode cX14_value 188 = .ok (.iload_n 1, 1) := dk_27 (dk_at dksX14_value_5 16 rfl rfl)
theorem dX14_value_189 : decode cX14_value 189 = .ok (.iload_n 2, 1) := dk_28 (dk_at dksX14_value_5 17 rfl rfl)
theorem dX14_value_190 : decode cX14_value 190 = .ok (.imul, 1) := dk_104 (dk_at dksX14_value_5 18 rfl rfl)
theorem dX14_value_191 : decode cX14_value 191 = .ok (.ireturn, 1) := dk_172 (dk_at dksX14_value_5 19 rfl rfl)
theorem dX14_value_192 : decode cX14_value 192 = .ok (.iload_n 2, 1) := dk_28 (dk_at dksX14_value_5 20 rfl rfl)
theorem dX14_value_193 : decode cX14_value 193 = .ok (.ifCond .ne 7, 3) := dk_154 0 7 (dk_at dksX14_value_5 21 rfl rfl)
theorem dX14_value_196 : decode cX14_value 196 = .ok (.iconst 0, 1) := dk_3 (dk_at dksX14_value_6 0 rfl rfl)
theorem dX14_value_197 : decode cX14_value 197 = .ok (.goto 6, 3) := dk_167 0 6 (dk_at dksX14_value_6 1 rfl rfl)
theorem dX14_value_200 : decode cX14_value 200 = .ok (.iload_n 1, 1) := dk_27 (dk_at dksX14_value_6 4 rfl rfl)
theorem dX14_value_201 : decode cX14_value 201 = .ok (.iload_n 2, 1) := dk_28 (dk_at dksX14_value_6 5 rfl rfl)
theorem dX14_value_202 : decode cX14_value 202 = .ok (.idiv, 1) := dk_108 (dk_at dksX14_value_6 6 rfl rfl)
theorem dX14_value_203 : decode cX14_value 203 = .ok (.ireturn, 1) := dk_172 (dk_at dksX14_value_6 7 rfl rfl)
theorem dX14_value_204 : decode cX14_value 204 = .ok (.iload_n 2, 1) := dk_28 (dk_at dksX14_value_6 8 rfl rfl)
theorem dX14_value_205 : decode cX14_value 205 = .ok (.ifCond .ne 7, 3) := dk_154 0 7 (dk_at dksX14_value_6 9 rfl rfl)
theorem dX14_value_208 : decode cX14_value 208 = .ok (.iconst 0, 1) := dk_3 (dk_at dksX14_value_6 12 rfl rfl)
theorem dX14_value_209 : decode cX14_value 209 = .ok (.goto 6, 3) := dk_167 0 6 (dk_at dksX14_value_6 13 rfl rfl)
theorem dX14_value_212 : decode cX14_value 212 = .ok (.iload_n 1, 1) := dk_27 (dk_at dksX14_value_6 16 rfl rfl)
theorem dX14_value_213 : decode cX14_value 213 = .ok (.iload_n 2, 1) := dk_28 (dk_at dksX14_value_6 17 rfl rfl)
theorem dX14_value_214 : decode cX14_value 214 = .ok (.irem, 1) := dk_112 (dk_at dksX14_value_6 18 rfl rfl)
theorem dX14_value_215 : decode cX14_value 215 = .ok (.ireturn, 1) := dk_172 (dk_at dksX14_value_6 19 rfl rfl)
abbrev cX14_init : ByteArray := prog_4_method_1_code
def yX14_init : MethodName := ⟨RX14, "<init>", "(ILHatRank$Term;LHatRank$Term;)V"⟩
def dkwX14_init_0 : List UInt8 := [42, 183, 0, 1, 42, 27, 181, 0, 7, 42, 44, 181, 0, 13, 42, 45, 181, 0, 17, 177]
abbrev dktX14_init_0 : List UInt8 := dkwX14_init_0 ++ []
theorem dksX14_init_0 : cX14_init.data.toList.drop 0 = dktX14_init_0 := by decide +kernel
theorem dX14_init_0 : decode cX14_init 0 = .ok (.aload_n 0, 1) := dk_42 (dk_at dksX14_init_0 0 rfl rfl)
theorem dX14_init_1 : decode cX14_init 1 = .ok (.invokespecial 1, 3) := dk_183 0 1 (dk_at dksX14_init_0 1 rfl rfl)
theorem dX14_init_4 : decode cX14_init 4 = .ok (.aload_n 0, 1) := dk_42 (dk_at dksX14_init_0 4 rfl rfl)
theorem dX14_init_5 : decode cX14_init 5 = .ok (.iload_n 1, 1) := dk_27 (dk_at dksX14_init_0 5 rfl rfl)
theorem dX14_init_6 : decode cX14_init 6 = .ok (.putfield 7, 3) := dk_181 0 7 (dk_at dksX14_init_0 6 rfl rfl)
theorem dX14_init_9 : decode cX14_init 9 = .ok (.aload_n 0, 1) := dk_42 (dk_at dksX14_init_0 9 rfl rfl)
theorem dX14_init_10 : decode cX14_init 10 = .ok (.aload_n 2, 1) := dk_44 (dk_at dksX14_init_0 10 rfl rfl)
theorem dX14_init_11 : decode cX14_init 11 = .ok (.putfield 13, 3) := dk_181 0 13 (dk_at dksX14_init_0 11 rfl rfl)
theorem dX14_init_14 : decode cX14_init 14 = .ok (.aload_n 0, 1) := dk_42 (dk_at dksX14_init_0 14 rfl rfl)
theorem dX14_init_15 : decode cX14_init 15 = .ok (.aload_n 3, 1) := dk_45 (dk_at dksX14_init_0 15 rfl rfl)
theorem dX14_init_16 : decode cX14_init 16 = .ok (.putfield 17, 3) := dk_181 0 17 (dk_at dksX14_init_0 16 rfl rfl)
theorem dX14_init_19 : decode cX14_init 19 = .ok (.return_, 1) := dk_177 (dk_at dksX14_init_0 19 rfl rfl)
theorem q125 : (Jvm.Cond.initialized "HatRank$Both") ∈ lw_all := lw_g (lw_at lw_m1 19 rfl) rfl
theorem q558 : (Jvm.Cond.selects "HatRank$Both" ({ cls := "HatRank$Term", name := "value", desc := "()I" } : Jvm.MethodName) ({ cls := "HatRank$Both", name := "value", desc := "()I" } : Jvm.MethodName)) ∈ lw_all := lw_g (lw_at lw_m2 212 rfl) rfl
theorem q559 : (Jvm.Cond.instanceMethod ({ cls := "HatRank$Both", name := "value", desc := "()I" } : Jvm.MethodName)) ∈ lw_all := lw_g (lw_at lw_m2 213 rfl) rfl
theorem q560 : (Jvm.Cond.code ({ cls := "HatRank$Both", name := "value", desc := "()I" } : Jvm.MethodName) prog_4_method_2_code (3 : Nat) (Option.some Jvm.ClassFile.FieldType.int)) ∈ lw_all := lw_g (lw_at lw_m2 214 rfl) rfl
theorem q561 : (Jvm.Cond.methodLink "HatRank$Both" (20 : Nat) ({ cls := "HatRank$Term", name := "value", desc := "()I" } : Jvm.MethodName)) ∈ lw_all := lw_g (lw_at lw_m2 215 rfl) rfl
theorem q570 : (Jvm.Cond.methodLinkNest "HatRank$Both" (24 : Nat) ({ cls := "HatRank", name := "bit", desc := "(Z)I" } : Jvm.MethodName) "HatRank") ∈ lw_tbl := lw_at lw_m2 224 rfl
theorem q700 : (Jvm.Cond.instantiable "HatRank$Both" (3 : Nat)) ∈ lw_all := lw_g (lw_at lw_m3 114 rfl) rfl
theorem q702 : (Jvm.Cond.instanceMethod ({ cls := "HatRank$Both", name := "<init>", desc := "(ILHatRank$Term;LHatRank$Term;)V" } : Jvm.MethodName)) ∈ lw_all := lw_g (lw_at lw_m3 116 rfl) rfl
theorem q703 : (Jvm.Cond.code ({ cls := "HatRank$Both", name := "<init>", desc := "(ILHatRank$Term;LHatRank$Term;)V" } : Jvm.MethodName) prog_4_method_1_code (4 : Nat) (Option.none : Option Jvm.ClassFile.FieldType)) ∈ lw_all := lw_g (lw_at lw_m3 117 rfl) rfl
theorem q704 : (Jvm.Cond.methodLinkNest "HatRank$Both" (1 : Nat) ({ cls := "HatRank$Term", name := "<init>", desc := "()V" } : Jvm.MethodName) "HatRank") ∈ lw_tbl := lw_at lw_m3 118 rfl
theorem q705 : (Jvm.Cond.fieldLink "HatRank$Both" (7 : Nat) "HatRank$Both" "sign" "I") ∈ lw_all := lw_g (lw_at lw_m3 119 rfl) rfl
theorem q706 : (Jvm.Cond.fieldLink "HatRank$Both" (13 : Nat) "HatRank$Both" "left" "LHatRank$Term;") ∈ lw_all := lw_g (lw_at lw_m3 120 rfl) rfl
theorem q707 : (Jvm.Cond.fieldLink "HatRank$Both" (17 : Nat) "HatRank$Both" "right" "LHatRank$Term;") ∈ lw_all := lw_g (lw_at lw_m3 121 rfl) rfl
theorem q708 : (Jvm.Cond.laysFinal "HatRank$Both" "HatRank$Both" "sign" "I") ∈ lw_all := lw_g (lw_at lw_m3 122 rfl) rfl
theorem q709 : (Jvm.Cond.soleField "HatRank$Both" "sign") ∈ lw_all := lw_g (lw_at lw_m3 123 rfl) rfl
theorem q710 : (Jvm.Cond.laysFinal "HatRank$Both" "HatRank$Both" "left" "LHatRank$Term;") ∈ lw_all := lw_g (lw_at lw_m3 124 rfl) rfl
theorem q711 : (Jvm.Cond.soleField "HatRank$Both" "left") ∈ lw_all := lw_g (lw_at lw_m3 125 rfl) rfl
theorem q712 : (Jvm.Cond.laysFinal "HatRank$Both" "HatRank$Both" "right" "LHatRank$Term;") ∈ lw_all := lw_g (lw_at lw_m3 126 rfl) rfl
theorem q713 : (Jvm.Cond.soleField "HatRank$Both" "right") ∈ lw_all := lw_g (lw_at lw_m3 127 rfl) rfl
theorem q714 : (Jvm.Cond.superclass "HatRank$Both" "HatRank$Term") ∈ lw_all := lw_g (lw_at lw_m3 128 rfl) rfl
theorem q1948 : (Jvm.Cond.castable "HatRank$Both" "java/lang/Object") ∈ lw_tbl := lw_at lw_m8 162 rfl
theorem in_X14 : ∀ w ∈ wsX140, w ∈ lw_all := lw_in wsX140 [708, 710, 712] (by decide +kernel) (by decide +kernel)
