/-! HatRank$Body -/
set_option maxRecDepth 100000
def RX15 : String := "HatRank$Body"
def TX15 : u_T := fun k => match k with
  | 0 => ("HatRank$Body", "number", "I", true)
  | _ => ("HatRank$Body", "this$0", "LHatRank;", true)
def tyX15 : Nat → FieldType := fun k => match k with
  | 0 => .int
  | _ => .object "HatRank"
abbrev wsX150 : List Cond := u_ws RX15 TX15 2
theorem nmX15 : ∀ a, a < 2 → ∀ b, b < 2 → a ≠ b → (TX15 a).2.1 ≠ (TX15 b).2.1 := by decide +kernel
theorem tyX15_ok : ∀ k, k < 2 → parseFieldDescriptor (TX15 k).2.2.1 = some (tyX15 k) := by decide +kernel
abbrev cX15_init : ByteArray := prog_3_method_1_code
def yX15_init : MethodName := ⟨RX15, "<init>", "(LHatRank;I)V"⟩
def dkwX15_init_0 : List UInt8 := [42, 43, 181, 0, 3, 42, 183, 0, 9, 42, 28, 181, 0, 15, 177]
abbrev dktX15_init_0 : List UInt8 := dkwX15_init_0 ++ []
theorem dksX15_init_0 : cX15_init.data.toList.drop 0 = dktX15_init_0 := by decide +kernel
theorem dX15_init_0 : decode cX15_init 0 = .ok (.aload_n 0, 1) := dk_42 (dk_at dksX15_init_0 0 rfl rfl)
theorem dX15_init_1 : decode cX15_init 1 = .ok (.aload_n 1, 1) := dk_43 (dk_at dksX15_init_0 1 rfl rfl)
theorem dX15_init_2 : decode cX15_init 2 = .ok (.putfield 3, 3) := dk_181 0 3 (dk_at dksX15_init_0 2 rfl rfl)
theorem dX15_init_5 : decode cX15_init 5 = .ok (.aload_n 0, 1) := dk_42 (dk_at dksX15_init_0 5 rfl rfl)
theorem dX15_init_6 : decode cX15_init 6 = .ok (.invokespecial 9, 3) := dk_183 0 9 (dk_at dksX15_init_0 6 rfl rfl)
theorem dX15_init_9 : decode cX15_init 9 = .ok (.aload_n 0, 1) := dk_42 (dk_at dksX15_init_0 9 rfl rfl)
theorem dX15_init_10 : decode cX15_init 10 = .ok (.iload_n 2, 1) := dk_28 (dk_at dksX15_init_0 10 rfl rfl)
theorem dX15_init_11 : decode cX15_init 11 = .ok (.putfield 15, 3) := dk_181 0 15 (dk_at dksX15_init_0 11 rfl rfl)
theorem dX15_init_14 : decode cX15_init 14 = .ok (.return_, 1) := dk_177 (dk_at dksX15_init_0 14 rfl rfl)
abbrev cX15_begins : ByteArray := prog_3_method_5_code
def yX15_begins : MethodName := ⟨RX15, "begins", "(I)V"⟩
def dkwX15_begins_1 : List UInt8 := [180, 0, 19, 27, 79, 42, 180, 0, 3, 89, 180, 0, 19, 4, 96, 181, 0, 19, 177]
abbrev dktX15_begins_1 : List UInt8 := dkwX15_begins_1 ++ []
def dkwX15_begins_0 : List UInt8 := [42, 180, 0, 3, 180, 0, 19, 16, 24, 162, 0, 19, 42, 180, 0, 3, 180, 0, 22, 42, 180, 0, 3]
abbrev dktX15_begins_0 : List UInt8 := dkwX15_begins_0 ++ dktX15_begins_1
theorem dksX15_begins_0 : cX15_begins.data.toList.drop 0 = dktX15_begins_0 := by decide +kernel
theorem dksX15_begins_1 : cX15_begins.data.toList.drop 23 = dktX15_begins_1 := dk_seg dksX15_begins_0 23 rfl rfl
theorem dX15_begins_0 : decode cX15_begins 0 = .ok (.aload_n 0, 1) := dk_42 (dk_at dksX15_begins_0 0 rfl rfl)
theorem dX15_begins_1 : decode cX15_begins 1 = .ok (.getfield 3, 3) := dk_180 0 3 (dk_at dksX15_begins_0 1 rfl rfl)
theorem dX15_begins_4 : decode cX15_begins 4 = .ok (.getfield 19, 3) := dk_180 0 19 (dk_at dksX15_begins_0 4 rfl rfl)
theorem dX15_begins_7 : decode cX15_begins 7 = .ok (.bipush 24, 2) := dk_16 24 (dk_at dksX15_begins_0 7 rfl rfl)
theorem dX15_begins_9 : decode cX15_begins 9 = .ok (.if_icmp .ge 19, 3) := dk_162 0 19 (dk_at dksX15_begins_0 9 rfl rfl)
theorem dX15_begins_12 : decode cX15_begins 12 = .ok (.aload_n 0, 1) := dk_42 (dk_at dksX15_begins_0 12 rfl rfl)
theorem dX15_begins_13 : decode cX15_begins 13 = .ok (.getfield 3, 3) := dk_180 0 3 (dk_at dksX15_begins_0 13 rfl rfl)
theorem dX15_begins_16 : decode cX15_begins 16 = .ok (.getfield 22, 3) := dk_180 0 22 (dk_at dksX15_begins_0 16 rfl rfl)
theorem dX15_begins_19 : decode cX15_begins 19 = .ok (.aload_n 0, 1) := dk_42 (dk_at dksX15_begins_0 19 rfl rfl)
theorem dX15_begins_20 : decode cX15_begins 20 = .ok (.getfield 3, 3) := dk_180 0 3 (dk_at dksX15_begins_0 20 rfl rfl)
theorem dX15_begins_23 : decode cX15_begins 23 = .ok (.getfield 19, 3) := dk_180 0 19 (dk_at dksX15_begins_1 0 rfl rfl)
theorem dX15_begins_26 : decode cX15_begins 26 = .ok (.iload_n 1, 1) := dk_27 (dk_at dksX15_begins_1 3 rfl rfl)
theorem dX15_begins_27 : decode cX15_begins 27 = .ok (.iastore, 1) := dk_79 (dk_at dksX15_begins_1 4 rfl rfl)
theorem dX15_begins_28 : decode cX15_begins 28 = .ok (.aload_n 0, 1) := dk_42 (dk_at dksX15_begins_1 5 rfl rfl)
theorem dX15_begins_29 : decode cX15_begins 29 = .ok (.getfield 3, 3) := dk_180 0 3 (dk_at dksX15_begins_1 6 rfl rfl)
theorem dX15_begins_32 : decode cX15_begins 32 = .ok (.dup, 1) := dk_89 (dk_at dksX15_begins_1 9 rfl rfl)
theorem dX15_begins_33 : decode cX15_begins 33 = .ok (.getfield 19, 3) := dk_180 0 19 (dk_at dksX15_begins_1 10 rfl rfl)
theorem dX15_begins_36 : decode cX15_begins 36 = .ok (.iconst 1, 1) := dk_4 (dk_at dksX15_begins_1 13 rfl rfl)
theorem dX15_begins_37 : decode cX15_begins 37 = .ok (.iadd, 1) := dk_96 (dk_at dksX15_begins_1 14 rfl rfl)
theorem dX15_begins_38 : decode cX15_begins 38 = .ok (.putfield 19, 3) := dk_181 0 19 (dk_at dksX15_begins_1 15 rfl rfl)
theorem dX15_begins_41 : decode cX15_begins 41 = .ok (.return_, 1) := dk_177 (dk_at dksX15_begins_1 18 rfl rfl)
abbrev cX15_number : ByteArray := prog_3_method_4_code
def yX15_number : MethodName := ⟨RX15, "number", "()I"⟩
theorem dX15_number_0 : decode cX15_number 0 = .ok (.aload_n 0, 1) := by decide +kernel
theorem dX15_number_1 : decode cX15_number 1 = .ok (.getfield 15, 3) := by decide +kernel
theorem dX15_number_4 : decode cX15_number 4 = .ok (.ireturn, 1) := by decide +kernel
abbrev cX15_lands : ByteArray := prog_3_method_7_code
def yX15_lands : MethodName := ⟨RX15, "lands", "(I)I"⟩
def dkwX15_lands_0 : List UInt8 := [42, 16, 11, 182, 0, 26, 27, 42, 180, 0, 15, 130, 172]
abbrev dktX15_lands_0 : List UInt8 := dkwX15_lands_0 ++ []
theorem dksX15_lands_0 : cX15_lands.data.toList.drop 0 = dktX15_lands_0 := by decide +kernel
theorem dX15_lands_0 : decode cX15_lands 0 = .ok (.aload_n 0, 1) := dk_42 (dk_at dksX15_lands_0 0 rfl rfl)
theorem dX15_lands_1 : decode cX15_lands 1 = .ok (.bipush 11, 2) := dk_16 11 (dk_at dksX15_lands_0 1 rfl rfl)
theorem dX15_lands_3 : decode cX15_lands 3 = .ok (.invokevirtual 26, 3) := dk_182 0 26 (dk_at dksX15_lands_0 3 rfl rfl)
theorem dX15_lands_6 : decode cX15_lands 6 = .ok (.iload_n 1, 1) := dk_27 (dk_at dksX15_lands_0 6 rfl rfl)
theorem dX15_lands_7 : decode cX15_lands 7 = .ok (.aload_n 0, 1) := dk_42 (dk_at dksX15_lands_0 7 rfl rfl)
theorem dX15_lands_8 : decode cX15_lands 8 = .ok (.getfield 15, 3) := dk_180 0 15 (dk_at dksX15_lands_0 8 rfl rfl)
theorem dX15_lands_11 : decode cX15_lands 11 = .ok (.ixor, 1) := dk_130 (dk_at dksX15_lands_0 11 rfl rfl)
theorem dX15_lands_12 : decode cX15_lands 12 = .ok (.ireturn, 1) := dk_172 (dk_at dksX15_lands_0 12 rfl rfl)
abbrev cX15_falls : ByteArray := prog_3_method_6_code
def yX15_falls : MethodName := ⟨RX15, "falls", "(I)I"⟩
def dkwX15_falls_0 : List UInt8 := [42, 16, 10, 182, 0, 26, 42, 27, 182, 0, 30, 5, 104, 172]
abbrev dktX15_falls_0 : List UInt8 := dkwX15_falls_0 ++ []
theorem dksX15_falls_0 : cX15_falls.data.toList.drop 0 = dktX15_falls_0 := by decide +kernel
theorem dX15_falls_0 : decode cX15_falls 0 = .ok (.aload_n 0, 1) := dk_42 (dk_at dksX15_falls_0 0 rfl rfl)
theorem dX15_falls_1 : decode cX15_falls 1 = .ok (.bipush 10, 2) := dk_16 10 (dk_at dksX15_falls_0 1 rfl rfl)
theorem dX15_falls_3 : decode cX15_falls 3 = .ok (.invokevirtual 26, 3) := dk_182 0 26 (dk_at dksX15_falls_0 3 rfl rfl)
theorem dX15_falls_6 : decode cX15_falls 6 = .ok (.aload_n 0, 1) := dk_42 (dk_at dksX15_falls_0 6 rfl rfl)
theorem dX15_falls_7 : decode cX15_falls 7 = .ok (.iload_n 1, 1) := dk_27 (dk_at dksX15_falls_0 7 rfl rfl)
theorem dX15_falls_8 : decode cX15_falls 8 = .ok (.invokevirtual 30, 3) := dk_182 0 30 (dk_at dksX15_falls_0 8 rfl rfl)
theorem dX15_falls_11 : decode cX15_falls 11 = .ok (.iconst 2, 1) := dk_5 (dk_at dksX15_falls_0 11 rfl rfl)
theorem dX15_falls_12 : decode cX15_falls 12 = .ok (.imul, 1) := dk_104 (dk_at dksX15_falls_0 12 rfl rfl)
theorem dX15_falls_13 : decode cX15_falls 13 = .ok (.ireturn, 1) := dk_172 (dk_at dksX15_falls_0 13 rfl rfl)
abbrev cX15_isUnder : ByteArray := prog_3_method_3_code
def yX15_isUnder : MethodName := ⟨RX15, "isUnder", "(I)Z"⟩
def dkwX15_isUnder_0 : List UInt8 := [27, 154, 0, 7, 4, 167, 0, 4, 3, 172]
abbrev dktX15_isUnder_0 : List UInt8 := dkwX15_isUnder_0 ++ []
theorem dksX15_isUnder_0 : cX15_isUnder.data.toList.drop 0 = dktX15_isUnder_0 := by decide +kernel
theorem dX15_isUnder_0 : decode cX15_isUnder 0 = .ok (.iload_n 1, 1) := dk_27 (dk_at dksX15_isUnder_0 0 rfl rfl)
theorem dX15_isUnder_1 : decode cX15_isUnder 1 = .ok (.ifCond .ne 7, 3) := dk_154 0 7 (dk_at dksX15_isUnder_0 1 rfl rfl)
theorem dX15_isUnder_4 : decode cX15_isUnder 4 = .ok (.iconst 1, 1) := dk_4 (dk_at dksX15_isUnder_0 4 rfl rfl)
theorem dX15_isUnder_5 : decode cX15_isUnder 5 = .ok (.goto 4, 3) := dk_167 0 4 (dk_at dksX15_isUnder_0 5 rfl rfl)
theorem dX15_isUnder_8 : decode cX15_isUnder 8 = .ok (.iconst 0, 1) := dk_3 (dk_at dksX15_isUnder_0 8 rfl rfl)
theorem dX15_isUnder_9 : decode cX15_isUnder 9 = .ok (.ireturn, 1) := dk_172 (dk_at dksX15_isUnder_0 9 rfl rfl)
abbrev cX15_kind : ByteArray := prog_3_method_2_code
def yX15_kind : MethodName := ⟨RX15, "kind", "()I"⟩
theorem dX15_kind_0 : decode cX15_kind 0 = .ok (.iconst 0, 1) := by decide +kernel
theorem dX15_kind_1 : decode cX15_kind 1 = .ok (.ireturn, 1) := by decide +kernel
theorem q127 : (Jvm.Cond.initialized "HatRank$Body") ∈ lw_all := lw_g (lw_at lw_m1 21 rfl) rfl
theorem q323 : (Jvm.Cond.fieldLinkNest "HatRank$Body" (22 : Nat) "HatRank" "trace" "[I" "HatRank") ∈ lw_tbl := lw_at lw_m1 217 rfl
theorem q325 : (Jvm.Cond.fieldLinkNest "HatRank$Body" (19 : Nat) "HatRank" "ran" "I" "HatRank") ∈ lw_tbl := lw_at lw_m1 219 rfl
theorem q885 : (Jvm.Cond.instanceMethod ({ cls := "HatRank$Body", name := "<init>", desc := "(LHatRank;I)V" } : Jvm.MethodName)) ∈ lw_all := lw_g (lw_at lw_m4 59 rfl) rfl
theorem q886 : (Jvm.Cond.code ({ cls := "HatRank$Body", name := "<init>", desc := "(LHatRank;I)V" } : Jvm.MethodName) prog_3_method_1_code (3 : Nat) (Option.none : Option Jvm.ClassFile.FieldType)) ∈ lw_all := lw_g (lw_at lw_m4 60 rfl) rfl
theorem q887 : (Jvm.Cond.methodLink "HatRank$Body" (9 : Nat) ({ cls := "java/lang/Object", name := "<init>", desc := "()V" } : Jvm.MethodName)) ∈ lw_all := lw_g (lw_at lw_m4 61 rfl) rfl
theorem q889 : (Jvm.Cond.fieldLink "HatRank$Body" (15 : Nat) "HatRank$Body" "number" "I") ∈ lw_all := lw_g (lw_at lw_m4 63 rfl) rfl
theorem q890 : (Jvm.Cond.fieldLink "HatRank$Body" (3 : Nat) "HatRank$Body" "this$0" "LHatRank;") ∈ lw_all := lw_g (lw_at lw_m4 64 rfl) rfl
theorem q894 : (Jvm.Cond.soleField "HatRank$Body" "number") ∈ lw_all := lw_g (lw_at lw_m4 68 rfl) rfl
theorem q896 : (Jvm.Cond.soleField "HatRank$Body" "this$0") ∈ lw_all := lw_g (lw_at lw_m4 70 rfl) rfl
theorem q975 : (Jvm.Cond.instantiable "HatRank$Body" (2 : Nat)) ∈ lw_all := lw_g (lw_at lw_m4 149 rfl) rfl
theorem q977 : (Jvm.Cond.laysFinal "HatRank$Body" "HatRank$Body" "number" "I") ∈ lw_all := lw_g (lw_at lw_m4 151 rfl) rfl
theorem q978 : (Jvm.Cond.laysFinal "HatRank$Body" "HatRank$Body" "this$0" "LHatRank;") ∈ lw_all := lw_g (lw_at lw_m4 152 rfl) rfl
theorem q979 : (Jvm.Cond.superclass "HatRank$Body" "java/lang/Object") ∈ lw_all := lw_g (lw_at lw_m4 153 rfl) rfl
theorem q990 : (Jvm.Cond.unhidden "HatRank$Body" "sits" "(I)I") ∈ lw_tbl := lw_at lw_m4 164 rfl
theorem q997 : (Jvm.Cond.declares ({ cls := "HatRank$Body", name := "begins", desc := "(I)V" } : Jvm.MethodName)) ∈ lw_tbl := lw_at lw_m4 171 rfl
theorem q999 : (Jvm.Cond.instanceMethod ({ cls := "HatRank$Body", name := "begins", desc := "(I)V" } : Jvm.MethodName)) ∈ lw_all := lw_g (lw_at lw_m4 173 rfl) rfl
theorem q1000 : (Jvm.Cond.code ({ cls := "HatRank$Body", name := "begins", desc := "(I)V" } : Jvm.MethodName) prog_3_method_5_code (2 : Nat) (Option.none : Option Jvm.ClassFile.FieldType)) ∈ lw_all := lw_g (lw_at lw_m4 174 rfl) rfl
theorem q1017 : (Jvm.Cond.publicMethod ({ cls := "HatRank$Body", name := "begins", desc := "(I)V" } : Jvm.MethodName)) ∈ lw_tbl := lw_at lw_m4 191 rfl
theorem q1018 : (Jvm.Cond.castable "HatRank$Body" "HatRank$Sits") ∈ lw_tbl := lw_at lw_m4 192 rfl
theorem q1019 : (Jvm.Cond.selects "HatRank$Body" ({ cls := "HatRank$Sits", name := "begins", desc := "(I)V" } : Jvm.MethodName) ({ cls := "HatRank$Body", name := "begins", desc := "(I)V" } : Jvm.MethodName)) ∈ lw_all := lw_g (lw_at lw_m4 193 rfl) rfl
theorem q1020 : (Jvm.Cond.unhidden "HatRank$Body" "begins" "(I)V") ∈ lw_tbl := lw_at lw_m4 194 rfl
theorem q1045 : (Jvm.Cond.instanceMethod ({ cls := "HatRank$Body", name := "number", desc := "()I" } : Jvm.MethodName)) ∈ lw_all := lw_g (lw_at lw_m4 219 rfl) rfl
theorem q1046 : (Jvm.Cond.publicMethod ({ cls := "HatRank$Body", name := "number", desc := "()I" } : Jvm.MethodName)) ∈ lw_tbl := lw_at lw_m4 220 rfl
theorem q1047 : (Jvm.Cond.code ({ cls := "HatRank$Body", name := "number", desc := "()I" } : Jvm.MethodName) prog_3_method_4_code (1 : Nat) (Option.some Jvm.ClassFile.FieldType.int)) ∈ lw_all := lw_g (lw_at lw_m4 221 rfl) rfl
theorem q1048 : (Jvm.Cond.selects "HatRank$Body" ({ cls := "HatRank$Sits", name := "number", desc := "()I" } : Jvm.MethodName) ({ cls := "HatRank$Body", name := "number", desc := "()I" } : Jvm.MethodName)) ∈ lw_all := lw_g (lw_at lw_m4 222 rfl) rfl
theorem q1049 : (Jvm.Cond.unhidden "HatRank$Body" "number" "()I") ∈ lw_tbl := lw_at lw_m4 223 rfl
theorem q1074 : (Jvm.Cond.instanceMethod ({ cls := "HatRank$Body", name := "falls", desc := "(I)I" } : Jvm.MethodName)) ∈ lw_all := lw_g (lw_at lw_m5 8 rfl) rfl
theorem q1075 : (Jvm.Cond.selects "HatRank$Body" ({ cls := "HatRank$Body", name := "falls", desc := "(I)I" } : Jvm.MethodName) ({ cls := "HatRank$Body", name := "falls", desc := "(I)I" } : Jvm.MethodName)) ∈ lw_all := lw_g (lw_at lw_m5 9 rfl) rfl
theorem q1076 : (Jvm.Cond.sameMethod "HatRank$Body" "HatRank$Body" "falls" "(I)I") ∈ lw_all := lw_g (lw_at lw_m5 10 rfl) rfl
theorem q1099 : (Jvm.Cond.declares ({ cls := "HatRank$Body", name := "falls", desc := "(I)I" } : Jvm.MethodName)) ∈ lw_tbl := lw_at lw_m5 33 rfl
theorem q1102 : (Jvm.Cond.declares ({ cls := "HatRank$Body", name := "lands", desc := "(I)I" } : Jvm.MethodName)) ∈ lw_tbl := lw_at lw_m5 36 rfl
theorem q1104 : (Jvm.Cond.instanceMethod ({ cls := "HatRank$Body", name := "lands", desc := "(I)I" } : Jvm.MethodName)) ∈ lw_all := lw_g (lw_at lw_m5 38 rfl) rfl
theorem q1105 : (Jvm.Cond.code ({ cls := "HatRank$Body", name := "lands", desc := "(I)I" } : Jvm.MethodName) prog_3_method_7_code (2 : Nat) (Option.some Jvm.ClassFile.FieldType.int)) ∈ lw_all := lw_g (lw_at lw_m5 39 rfl) rfl
theorem q1106 : (Jvm.Cond.methodLink "HatRank$Body" (26 : Nat) ({ cls := "HatRank$Body", name := "begins", desc := "(I)V" } : Jvm.MethodName)) ∈ lw_all := lw_g (lw_at lw_m5 40 rfl) rfl
theorem q1111 : (Jvm.Cond.code ({ cls := "HatRank$Body", name := "falls", desc := "(I)I" } : Jvm.MethodName) prog_3_method_6_code (2 : Nat) (Option.some Jvm.ClassFile.FieldType.int)) ∈ lw_all := lw_g (lw_at lw_m5 45 rfl) rfl
theorem q1125 : (Jvm.Cond.unhidden "HatRank$Body" "ranks" "(I)I") ∈ lw_tbl := lw_at lw_m5 59 rfl
theorem q1139 : (Jvm.Cond.castable "HatRank$Body" "HatRank$Ranks") ∈ lw_tbl := lw_at lw_m5 73 rfl
theorem q1140 : (Jvm.Cond.selects "HatRank$Body" ({ cls := "HatRank$Ranks", name := "begins", desc := "(I)V" } : Jvm.MethodName) ({ cls := "HatRank$Body", name := "begins", desc := "(I)V" } : Jvm.MethodName)) ∈ lw_all := lw_g (lw_at lw_m5 74 rfl) rfl
theorem q1160 : (Jvm.Cond.selects "HatRank$Body" ({ cls := "HatRank$Ranks", name := "falls", desc := "(I)I" } : Jvm.MethodName) ({ cls := "HatRank$Body", name := "falls", desc := "(I)I" } : Jvm.MethodName)) ∈ lw_all := lw_g (lw_at lw_m5 94 rfl) rfl
theorem q1161 : (Jvm.Cond.unhidden "HatRank$Body" "falls" "(I)I") ∈ lw_tbl := lw_at lw_m5 95 rfl
theorem q1162 : (Jvm.Cond.publicMethod ({ cls := "HatRank$Body", name := "falls", desc := "(I)I" } : Jvm.MethodName)) ∈ lw_tbl := lw_at lw_m5 96 rfl
theorem q1183 : (Jvm.Cond.publicMethod ({ cls := "HatRank$Body", name := "lands", desc := "(I)I" } : Jvm.MethodName)) ∈ lw_tbl := lw_at lw_m5 117 rfl
theorem q1184 : (Jvm.Cond.selects "HatRank$Body" ({ cls := "HatRank$Ranks", name := "lands", desc := "(I)I" } : Jvm.MethodName) ({ cls := "HatRank$Body", name := "lands", desc := "(I)I" } : Jvm.MethodName)) ∈ lw_all := lw_g (lw_at lw_m5 118 rfl) rfl
theorem q1185 : (Jvm.Cond.unhidden "HatRank$Body" "lands" "(I)I") ∈ lw_tbl := lw_at lw_m5 119 rfl
theorem q1249 : (Jvm.Cond.instanceMethod ({ cls := "HatRank$Body", name := "isUnder", desc := "(I)Z" } : Jvm.MethodName)) ∈ lw_all := lw_g (lw_at lw_m5 183 rfl) rfl
theorem q1250 : (Jvm.Cond.selects "HatRank$Body" ({ cls := "HatRank$Body", name := "isUnder", desc := "(I)Z" } : Jvm.MethodName) ({ cls := "HatRank$Body", name := "isUnder", desc := "(I)Z" } : Jvm.MethodName)) ∈ lw_all := lw_g (lw_at lw_m5 184 rfl) rfl
theorem q1251 : (Jvm.Cond.sameMethod "HatRank$Body" "HatRank$Body" "isUnder" "(I)Z") ∈ lw_all := lw_g (lw_at lw_m5 185 rfl) rfl
theorem q1280 : (Jvm.Cond.code ({ cls := "HatRank$Body", name := "isUnder", desc := "(I)Z" } : Jvm.MethodName) prog_3_method_3_code (2 : Nat) (Option.some Jvm.ClassFile.FieldType.boolean)) ∈ lw_all := lw_g (lw_at lw_m5 214 rfl) rfl
theorem q1282 : (Jvm.Cond.instanceMethod ({ cls := "HatRank$Body", name := "kind", desc := "()I" } : Jvm.MethodName)) ∈ lw_all := lw_g (lw_at lw_m5 216 rfl) rfl
theorem q1283 : (Jvm.Cond.selects "HatRank$Body" ({ cls := "HatRank$Body", name := "kind", desc := "()I" } : Jvm.MethodName) ({ cls := "HatRank$Body", name := "kind", desc := "()I" } : Jvm.MethodName)) ∈ lw_all := lw_g (lw_at lw_m5 217 rfl) rfl
theorem q1284 : (Jvm.Cond.sameMethod "HatRank$Body" "HatRank$Body" "kind" "()I") ∈ lw_all := lw_g (lw_at lw_m5 218 rfl) rfl
theorem q1306 : (Jvm.Cond.code ({ cls := "HatRank$Body", name := "kind", desc := "()I" } : Jvm.MethodName) prog_3_method_2_code (1 : Nat) (Option.some Jvm.ClassFile.FieldType.int)) ∈ lw_all := lw_g (lw_at lw_m6 0 rfl) rfl
theorem q1905 : (Jvm.Cond.sameMethod "HatRank$Body" "HatRank$Body" "begins" "(I)V") ∈ lw_all := lw_g (lw_at lw_m8 119 rfl) rfl
theorem q1907 : (Jvm.Cond.selects "HatRank$Body" ({ cls := "HatRank$Body", name := "begins", desc := "(I)V" } : Jvm.MethodName) ({ cls := "HatRank$Body", name := "begins", desc := "(I)V" } : Jvm.MethodName)) ∈ lw_all := lw_g (lw_at lw_m8 121 rfl) rfl
theorem q1914 : (Jvm.Cond.sameMethod "HatRank$Body" "HatRank$Body" "lands" "(I)I") ∈ lw_all := lw_g (lw_at lw_m8 128 rfl) rfl
theorem q1916 : (Jvm.Cond.selects "HatRank$Body" ({ cls := "HatRank$Body", name := "lands", desc := "(I)I" } : Jvm.MethodName) ({ cls := "HatRank$Body", name := "lands", desc := "(I)I" } : Jvm.MethodName)) ∈ lw_all := lw_g (lw_at lw_m8 130 rfl) rfl
theorem q1956 : (Jvm.Cond.castable "HatRank$Body" "java/lang/Object") ∈ lw_tbl := lw_at lw_m8 170 rfl
theorem in_X15 : ∀ w ∈ wsX150, w ∈ lw_all := lw_in wsX150 [977, 978] (by decide +kernel) (by decide +kernel)
/-! HatRank$Strapped -/
set_option maxRecDepth 100000
def RX16 : String := "HatRank$Strapped"
def TX16 : u_T := fun k => match k with
  | 0 => ("HatRank$Body", "number", "I", true)
  | 1 => ("HatRank$Body", "this$0", "LHatRank;", true)
  | _ => ("HatRank$Strapped", "this$0", "LHatRank;", true)
def tyX16 : Nat → FieldType := fun k => match k with
  | 0 => .int
  | 1 => .object "HatRank"
  | _ => .object "HatRank"
abbrev wsX160 : List Cond := u_ws RX16 TX16 3
-- two fields of one name: no nmX16
theorem tyX16_ok : ∀ k, k < 3 → parseFieldDescriptor (TX16 k).2.2.1 = some (tyX16 k) := by decide +kernel
abbrev cX16_init : ByteArray := prog_21_method_1_code
def yX16_init : MethodName := ⟨RX16, "<init>", "(LHatRank;I)V"⟩
def dkwX16_init_0 : List UInt8 := [42, 43, 181, 0, 3, 42, 43, 28, 183, 0, 9, 177]
abbrev dktX16_init_0 : List UInt8 := dkwX16_init_0 ++ []
theorem dksX16_init_0 : cX16_init.data.toList.drop 0 = dktX16_init_0 := by decide +kernel
theorem dX16_init_0 : decode cX16_init 0 = .ok (.aload_n 0, 1) := dk_42 (dk_at dksX16_init_0 0 rfl rfl)
theorem dX16_init_1 : decode cX16_init 1 = .ok (.aload_n 1, 1) := dk_43 (dk_at dksX16_init_0 1 rfl rfl)
theorem dX16_init_2 : decode cX16_init 2 = .ok (.putfield 3, 3) := dk_181 0 3 (dk_at dksX16_init_0 2 rfl rfl)
theorem dX16_init_5 : decode cX16_init 5 = .ok (.aload_n 0, 1) := dk_42 (dk_at dksX16_init_0 5 rfl rfl)
theorem dX16_init_6 : decode cX16_init 6 = .ok (.aload_n 1, 1) := dk_43 (dk_at dksX16_init_0 6 rfl rfl)
theorem dX16_init_7 : decode cX16_init 7 = .ok (.iload_n 2, 1) := dk_28 (dk_at dksX16_init_0 7 rfl rfl)
theorem dX16_init_8 : decode cX16_init 8 = .ok (.invokespecial 9, 3) := dk_183 0 9 (dk_at dksX16_init_0 8 rfl rfl)
theorem dX16_init_11 : decode cX16_init 11 = .ok (.return_, 1) := dk_177 (dk_at dksX16_init_0 11 rfl rfl)
abbrev cX16_sits : ByteArray := prog_21_method_4_code
def yX16_sits : MethodName := ⟨RX16, "sits", "(I)I"⟩
def dkwX16_sits_0 : List UInt8 := [42, 16, 20, 182, 0, 19, 42, 27, 183, 0, 23, 6, 96, 172]
abbrev dktX16_sits_0 : List UInt8 := dkwX16_sits_0 ++ []
theorem dksX16_sits_0 : cX16_sits.data.toList.drop 0 = dktX16_sits_0 := by decide +kernel
theorem dX16_sits_0 : decode cX16_sits 0 = .ok (.aload_n 0, 1) := dk_42 (dk_at dksX16_sits_0 0 rfl rfl)
theorem dX16_sits_1 : decode cX16_sits 1 = .ok (.bipush 20, 2) := dk_16 20 (dk_at dksX16_sits_0 1 rfl rfl)
theorem dX16_sits_3 : decode cX16_sits 3 = .ok (.invokevirtual 19, 3) := dk_182 0 19 (dk_at dksX16_sits_0 3 rfl rfl)
theorem dX16_sits_6 : decode cX16_sits 6 = .ok (.aload_n 0, 1) := dk_42 (dk_at dksX16_sits_0 6 rfl rfl)
theorem dX16_sits_7 : decode cX16_sits 7 = .ok (.iload_n 1, 1) := dk_27 (dk_at dksX16_sits_0 7 rfl rfl)
theorem dX16_sits_8 : decode cX16_sits 8 = .ok (.invokespecial 23, 3) := dk_183 0 23 (dk_at dksX16_sits_0 8 rfl rfl)
theorem dX16_sits_11 : decode cX16_sits 11 = .ok (.iconst 3, 1) := dk_6 (dk_at dksX16_sits_0 11 rfl rfl)
theorem dX16_sits_12 : decode cX16_sits 12 = .ok (.iadd, 1) := dk_96 (dk_at dksX16_sits_0 12 rfl rfl)
theorem dX16_sits_13 : decode cX16_sits 13 = .ok (.ireturn, 1) := dk_172 (dk_at dksX16_sits_0 13 rfl rfl)
abbrev cX16_isUnder : ByteArray := prog_21_method_3_code
def yX16_isUnder : MethodName := ⟨RX16, "isUnder", "(I)Z"⟩
def dkwX16_isUnder_0 : List UInt8 := [27, 4, 159, 0, 11, 42, 27, 183, 0, 15, 153, 0, 7, 4, 167, 0, 4, 3, 172]
abbrev dktX16_isUnder_0 : List UInt8 := dkwX16_isUnder_0 ++ []
theorem dksX16_isUnder_0 : cX16_isUnder.data.toList.drop 0 = dktX16_isUnder_0 := by decide +kernel
theorem dX16_isUnder_0 : decode cX16_isUnder 0 = .ok (.iload_n 1, 1) := dk_27 (dk_at dksX16_isUnder_0 0 rfl rfl)
theorem dX16_isUnder_1 : decode cX16_isUnder 1 = .ok (.iconst 1, 1) := dk_4 (dk_at dksX16_isUnder_0 1 rfl rfl)
theorem dX16_isUnder_2 : decode cX16_isUnder 2 = .ok (.if_icmp .eq 11, 3) := dk_159 0 11 (dk_at dksX16_isUnder_0 2 rfl rfl)
theorem dX16_isUnder_5 : decode cX16_isUnder 5 = .ok (.aload_n 0, 1) := dk_42 (dk_at dksX16_isUnder_0 5 rfl rfl)
theorem dX16_isUnder_6 : decode cX16_isUnder 6 = .ok (.iload_n 1, 1) := dk_27 (dk_at dksX16_isUnder_0 6 rfl rfl)
theorem dX16_isUnder_7 : decode cX16_isUnder 7 = .ok (.invokespecial 15, 3) := dk_183 0 15 (dk_at dksX16_isUnder_0 7 rfl rfl)
theorem dX16_isUnder_10 : decode cX16_isUnder 10 = .ok (.ifCond .eq 7, 3) := dk_153 0 7 (dk_at dksX16_isUnder_0 10 rfl rfl)
theorem dX16_isUnder_13 : decode cX16_isUnder 13 = .ok (.iconst 1, 1) := dk_4 (dk_at dksX16_isUnder_0 13 rfl rfl)
theorem dX16_isUnder_14 : decode cX16_isUnder 14 = .ok (.goto 4, 3) := dk_167 0 4 (dk_at dksX16_isUnder_0 14 rfl rfl)
theorem dX16_isUnder_17 : decode cX16_isUnder 17 = .ok (.iconst 0, 1) := dk_3 (dk_at dksX16_isUnder_0 17 rfl rfl)
theorem dX16_isUnder_18 : decode cX16_isUnder 18 = .ok (.ireturn, 1) := dk_172 (dk_at dksX16_isUnder_0 18 rfl rfl)
abbrev cX16_kind : ByteArray := prog_21_method_2_code
def yX16_kind : MethodName := ⟨RX16, "kind", "()I"⟩
theorem dX16_kind_0 : decode cX16_kind 0 = .ok (.iconst 1, 1) := by decide +kernel
theorem dX16_kind_1 : decode cX16_kind 1 = .ok (.ireturn, 1) := by decide +kernel
theorem q128 : (Jvm.Cond.initialized "HatRank$Strapped") ∈ lw_all := lw_g (lw_at lw_m1 22 rfl) rfl
theorem q880 : (Jvm.Cond.instantiable "HatRank$Strapped" (3 : Nat)) ∈ lw_all := lw_g (lw_at lw_m4 54 rfl) rfl
theorem q882 : (Jvm.Cond.instanceMethod ({ cls := "HatRank$Strapped", name := "<init>", desc := "(LHatRank;I)V" } : Jvm.MethodName)) ∈ lw_all := lw_g (lw_at lw_m4 56 rfl) rfl
theorem q883 : (Jvm.Cond.code ({ cls := "HatRank$Strapped", name := "<init>", desc := "(LHatRank;I)V" } : Jvm.MethodName) prog_21_method_1_code (3 : Nat) (Option.none : Option Jvm.ClassFile.FieldType)) ∈ lw_all := lw_g (lw_at lw_m4 57 rfl) rfl
theorem q884 : (Jvm.Cond.methodLink "HatRank$Strapped" (9 : Nat) ({ cls := "HatRank$Body", name := "<init>", desc := "(LHatRank;I)V" } : Jvm.MethodName)) ∈ lw_all := lw_g (lw_at lw_m4 58 rfl) rfl
theorem q888 : (Jvm.Cond.fieldLink "HatRank$Strapped" (3 : Nat) "HatRank$Strapped" "this$0" "LHatRank;") ∈ lw_all := lw_g (lw_at lw_m4 62 rfl) rfl
theorem q891 : (Jvm.Cond.laysFinal "HatRank$Strapped" "HatRank$Strapped" "this$0" "LHatRank;") ∈ lw_all := lw_g (lw_at lw_m4 65 rfl) rfl
theorem q892 : (Jvm.Cond.soleField "HatRank$Strapped" "this$0") ∈ lw_all := lw_g (lw_at lw_m4 66 rfl) rfl
theorem q893 : (Jvm.Cond.laysFinal "HatRank$Strapped" "HatRank$Body" "number" "I") ∈ lw_all := lw_g (lw_at lw_m4 67 rfl) rfl
theorem q895 : (Jvm.Cond.laysFinal "HatRank$Strapped" "HatRank$Body" "this$0" "LHatRank;") ∈ lw_all := lw_g (lw_at lw_m4 69 rfl) rfl
theorem q897 : (Jvm.Cond.superclass "HatRank$Strapped" "HatRank$Body") ∈ lw_all := lw_g (lw_at lw_m4 71 rfl) rfl
theorem q1036 : (Jvm.Cond.castable "HatRank$Strapped" "HatRank$Sits") ∈ lw_tbl := lw_at lw_m4 210 rfl
theorem q1037 : (Jvm.Cond.selects "HatRank$Strapped" ({ cls := "HatRank$Sits", name := "begins", desc := "(I)V" } : Jvm.MethodName) ({ cls := "HatRank$Body", name := "begins", desc := "(I)V" } : Jvm.MethodName)) ∈ lw_all := lw_g (lw_at lw_m4 211 rfl) rfl
theorem q1038 : (Jvm.Cond.unhidden "HatRank$Strapped" "begins" "(I)V") ∈ lw_tbl := lw_at lw_m4 212 rfl
theorem q1060 : (Jvm.Cond.selects "HatRank$Strapped" ({ cls := "HatRank$Sits", name := "number", desc := "()I" } : Jvm.MethodName) ({ cls := "HatRank$Body", name := "number", desc := "()I" } : Jvm.MethodName)) ∈ lw_all := lw_g (lw_at lw_m4 234 rfl) rfl
theorem q1061 : (Jvm.Cond.unhidden "HatRank$Strapped" "number" "()I") ∈ lw_tbl := lw_at lw_m4 235 rfl
theorem q1065 : (Jvm.Cond.instanceMethod ({ cls := "HatRank$Strapped", name := "sits", desc := "(I)I" } : Jvm.MethodName)) ∈ lw_all := lw_g (lw_at lw_m4 239 rfl) rfl
theorem q1066 : (Jvm.Cond.code ({ cls := "HatRank$Strapped", name := "sits", desc := "(I)I" } : Jvm.MethodName) prog_21_method_4_code (2 : Nat) (Option.some Jvm.ClassFile.FieldType.int)) ∈ lw_all := lw_g (lw_at lw_m5 0 rfl) rfl
theorem q1067 : (Jvm.Cond.methodLink "HatRank$Strapped" (19 : Nat) ({ cls := "HatRank$Strapped", name := "begins", desc := "(I)V" } : Jvm.MethodName)) ∈ lw_all := lw_g (lw_at lw_m5 1 rfl) rfl
theorem q1068 : (Jvm.Cond.sameMethod "HatRank$Strapped" "HatRank$Body" "begins" "(I)V") ∈ lw_all := lw_g (lw_at lw_m5 2 rfl) rfl
theorem q1070 : (Jvm.Cond.selects "HatRank$Strapped" ({ cls := "HatRank$Strapped", name := "begins", desc := "(I)V" } : Jvm.MethodName) ({ cls := "HatRank$Body", name := "begins", desc := "(I)V" } : Jvm.MethodName)) ∈ lw_all := lw_g (lw_at lw_m5 4 rfl) rfl
theorem q1071 : (Jvm.Cond.selects "HatRank$Strapped" ({ cls := "HatRank$Sits", name := "sits", desc := "(I)I" } : Jvm.MethodName) ({ cls := "HatRank$Strapped", name := "sits", desc := "(I)I" } : Jvm.MethodName)) ∈ lw_all := lw_g (lw_at lw_m5 5 rfl) rfl
theorem q1110 : (Jvm.Cond.selects "HatRank$Strapped" ({ cls := "HatRank$Body", name := "falls", desc := "(I)I" } : Jvm.MethodName) ({ cls := "HatRank$Body", name := "falls", desc := "(I)I" } : Jvm.MethodName)) ∈ lw_all := lw_g (lw_at lw_m5 44 rfl) rfl
theorem q1151 : (Jvm.Cond.castable "HatRank$Strapped" "HatRank$Ranks") ∈ lw_tbl := lw_at lw_m5 85 rfl
theorem q1152 : (Jvm.Cond.selects "HatRank$Strapped" ({ cls := "HatRank$Ranks", name := "begins", desc := "(I)V" } : Jvm.MethodName) ({ cls := "HatRank$Body", name := "begins", desc := "(I)V" } : Jvm.MethodName)) ∈ lw_all := lw_g (lw_at lw_m5 86 rfl) rfl
theorem q1175 : (Jvm.Cond.selects "HatRank$Strapped" ({ cls := "HatRank$Ranks", name := "falls", desc := "(I)I" } : Jvm.MethodName) ({ cls := "HatRank$Body", name := "falls", desc := "(I)I" } : Jvm.MethodName)) ∈ lw_all := lw_g (lw_at lw_m5 109 rfl) rfl
theorem q1176 : (Jvm.Cond.unhidden "HatRank$Strapped" "falls" "(I)I") ∈ lw_tbl := lw_at lw_m5 110 rfl
theorem q1198 : (Jvm.Cond.selects "HatRank$Strapped" ({ cls := "HatRank$Ranks", name := "lands", desc := "(I)I" } : Jvm.MethodName) ({ cls := "HatRank$Body", name := "lands", desc := "(I)I" } : Jvm.MethodName)) ∈ lw_all := lw_g (lw_at lw_m5 132 rfl) rfl
theorem q1199 : (Jvm.Cond.unhidden "HatRank$Strapped" "lands" "(I)I") ∈ lw_tbl := lw_at lw_m5 133 rfl
theorem q1207 : (Jvm.Cond.unhidden "HatRank$Strapped" "ranks" "(I)I") ∈ lw_tbl := lw_at lw_m5 141 rfl
theorem q1276 : (Jvm.Cond.instanceMethod ({ cls := "HatRank$Strapped", name := "isUnder", desc := "(I)Z" } : Jvm.MethodName)) ∈ lw_all := lw_g (lw_at lw_m5 210 rfl) rfl
theorem q1277 : (Jvm.Cond.code ({ cls := "HatRank$Strapped", name := "isUnder", desc := "(I)Z" } : Jvm.MethodName) prog_21_method_3_code (2 : Nat) (Option.some Jvm.ClassFile.FieldType.boolean)) ∈ lw_all := lw_g (lw_at lw_m5 211 rfl) rfl
theorem q1278 : (Jvm.Cond.methodLink "HatRank$Strapped" (15 : Nat) ({ cls := "HatRank$Body", name := "isUnder", desc := "(I)Z" } : Jvm.MethodName)) ∈ lw_all := lw_g (lw_at lw_m5 212 rfl) rfl
theorem q1279 : (Jvm.Cond.selects "HatRank$Strapped" ({ cls := "HatRank$Body", name := "isUnder", desc := "(I)Z" } : Jvm.MethodName) ({ cls := "HatRank$Strapped", name := "isUnder", desc := "(I)Z" } : Jvm.MethodName)) ∈ lw_all := lw_g (lw_at lw_m5 213 rfl) rfl
theorem q1303 : (Jvm.Cond.selects "HatRank$Strapped" ({ cls := "HatRank$Body", name := "kind", desc := "()I" } : Jvm.MethodName) ({ cls := "HatRank$Strapped", name := "kind", desc := "()I" } : Jvm.MethodName)) ∈ lw_all := lw_g (lw_at lw_m5 237 rfl) rfl
theorem q1304 : (Jvm.Cond.instanceMethod ({ cls := "HatRank$Strapped", name := "kind", desc := "()I" } : Jvm.MethodName)) ∈ lw_all := lw_g (lw_at lw_m5 238 rfl) rfl
theorem q1305 : (Jvm.Cond.code ({ cls := "HatRank$Strapped", name := "kind", desc := "()I" } : Jvm.MethodName) prog_21_method_2_code (1 : Nat) (Option.some Jvm.ClassFile.FieldType.int)) ∈ lw_all := lw_g (lw_at lw_m5 239 rfl) rfl
theorem q1913 : (Jvm.Cond.selects "HatRank$Strapped" ({ cls := "HatRank$Body", name := "begins", desc := "(I)V" } : Jvm.MethodName) ({ cls := "HatRank$Body", name := "begins", desc := "(I)V" } : Jvm.MethodName)) ∈ lw_all := lw_g (lw_at lw_m8 127 rfl) rfl
theorem q1923 : (Jvm.Cond.selects "HatRank$Strapped" ({ cls := "HatRank$Body", name := "lands", desc := "(I)I" } : Jvm.MethodName) ({ cls := "HatRank$Body", name := "lands", desc := "(I)I" } : Jvm.MethodName)) ∈ lw_all := lw_g (lw_at lw_m8 137 rfl) rfl
theorem q1927 : (Jvm.Cond.sameMethod "HatRank$Strapped" "HatRank$Strapped" "isUnder" "(I)Z") ∈ lw_all := lw_g (lw_at lw_m8 141 rfl) rfl
theorem q1934 : (Jvm.Cond.castable "HatRank$Strapped" "HatRank$Body") ∈ lw_tbl := lw_at lw_m8 148 rfl
theorem q1949 : (Jvm.Cond.castable "HatRank$Strapped" "java/lang/Object") ∈ lw_tbl := lw_at lw_m8 163 rfl
theorem in_X16 : ∀ w ∈ wsX160, w ∈ lw_all := lw_in wsX160 [893, 895, 891] (by decide +kernel) (by decide +kernel)
/-! HatRank$Blown -/
set_option maxRecDepth 100000
def RX17 : String := "HatRank$Blown"
def TX17 : u_T := fun k => match k with
  | 0 => ("HatRank$Body", "number", "I", true)
  | 1 => ("HatRank$Body", "this$0", "LHatRank;", true)
  | _ => ("HatRank$Blown", "this$0", "LHatRank;", true)
def tyX17 : Nat → FieldType := fun k => match k with
  | 0 => .int
  | 1 => .object "HatRank"
  | _ => .object "HatRank"
abbrev wsX170 : List Cond := u_ws RX17 TX17 3
-- two fields of one name: no nmX17
theorem tyX17_ok : ∀ k, k < 3 → parseFieldDescriptor (TX17 k).2.2.1 = some (tyX17 k) := by decide +kernel
abbrev cX17_init : ByteArray := prog_2_method_1_code
def yX17_init : MethodName := ⟨RX17, "<init>", "(LHatRank;I)V"⟩
def dkwX17_init_0 : List UInt8 := [42, 43, 181, 0, 3, 42, 43, 28, 183, 0, 9, 177]
abbrev dktX17_init_0 : List UInt8 := dkwX17_init_0 ++ []
theorem dksX17_init_0 : cX17_init.data.toList.drop 0 = dktX17_init_0 := by decide +kernel
theorem dX17_init_0 : decode cX17_init 0 = .ok (.aload_n 0, 1) := dk_42 (dk_at dksX17_init_0 0 rfl rfl)
theorem dX17_init_1 : decode cX17_init 1 = .ok (.aload_n 1, 1) := dk_43 (dk_at dksX17_init_0 1 rfl rfl)
theorem dX17_init_2 : decode cX17_init 2 = .ok (.putfield 3, 3) := dk_181 0 3 (dk_at dksX17_init_0 2 rfl rfl)
theorem dX17_init_5 : decode cX17_init 5 = .ok (.aload_n 0, 1) := dk_42 (dk_at dksX17_init_0 5 rfl rfl)
theorem dX17_init_6 : decode cX17_init 6 = .ok (.aload_n 1, 1) := dk_43 (dk_at dksX17_init_0 6 rfl rfl)
theorem dX17_init_7 : decode cX17_init 7 = .ok (.iload_n 2, 1) := dk_28 (dk_at dksX17_init_0 7 rfl rfl)
theorem dX17_init_8 : decode cX17_init 8 = .ok (.invokespecial 9, 3) := dk_183 0 9 (dk_at dksX17_init_0 8 rfl rfl)
theorem dX17_init_11 : decode cX17_init 11 = .ok (.return_, 1) := dk_177 (dk_at dksX17_init_0 11 rfl rfl)
abbrev cX17_falls : ByteArray := prog_2_method_4_code
def yX17_falls : MethodName := ⟨RX17, "falls", "(I)I"⟩
def dkwX17_falls_0 : List UInt8 := [42, 16, 30, 182, 0, 19, 42, 27, 183, 0, 23, 116, 172]
abbrev dktX17_falls_0 : List UInt8 := dkwX17_falls_0 ++ []
theorem dksX17_falls_0 : cX17_falls.data.toList.drop 0 = dktX17_falls_0 := by decide +kernel
theorem dX17_falls_0 : decode cX17_falls 0 = .ok (.aload_n 0, 1) := dk_42 (dk_at dksX17_falls_0 0 rfl rfl)
theorem dX17_falls_1 : decode cX17_falls 1 = .ok (.bipush 30, 2) := dk_16 30 (dk_at dksX17_falls_0 1 rfl rfl)
theorem dX17_falls_3 : decode cX17_falls 3 = .ok (.invokevirtual 19, 3) := dk_182 0 19 (dk_at dksX17_falls_0 3 rfl rfl)
theorem dX17_falls_6 : decode cX17_falls 6 = .ok (.aload_n 0, 1) := dk_42 (dk_at dksX17_falls_0 6 rfl rfl)
theorem dX17_falls_7 : decode cX17_falls 7 = .ok (.iload_n 1, 1) := dk_27 (dk_at dksX17_falls_0 7 rfl rfl)
theorem dX17_falls_8 : decode cX17_falls 8 = .ok (.invokespecial 23, 3) := dk_183 0 23 (dk_at dksX17_falls_0 8 rfl rfl)
theorem dX17_falls_11 : decode cX17_falls 11 = .ok (.ineg, 1) := dk_116 (dk_at dksX17_falls_0 11 rfl rfl)
theorem dX17_falls_12 : decode cX17_falls 12 = .ok (.ireturn, 1) := dk_172 (dk_at dksX17_falls_0 12 rfl rfl)
abbrev cX17_isUnder : ByteArray := prog_2_method_3_code
def yX17_isUnder : MethodName := ⟨RX17, "isUnder", "(I)Z"⟩
def dkwX17_isUnder_0 : List UInt8 := [27, 5, 159, 0, 11, 42, 27, 183, 0, 15, 153, 0, 7, 4, 167, 0, 4, 3, 172]
abbrev dktX17_isUnder_0 : List UInt8 := dkwX17_isUnder_0 ++ []
theorem dksX17_isUnder_0 : cX17_isUnder.data.toList.drop 0 = dktX17_isUnder_0 := by decide +kernel
theorem dX17_isUnder_0 : decode cX17_isUnder 0 = .ok (.iload_n 1, 1) := dk_27 (dk_at dksX17_isUnder_0 0 rfl rfl)
theorem dX17_isUnder_1 : decode cX17_isUnder 1 = .ok (.iconst 2, 1) := dk_5 (dk_at dksX17_isUnder_0 1 rfl rfl)
theorem dX17_isUnder_2 : decode cX17_isUnder 2 = .ok (.if_icmp .eq 11, 3) := dk_159 0 11 (dk_at dksX17_isUnder_0 2 rfl rfl)
theorem dX17_isUnder_5 : decode cX17_isUnder 5 = .ok (.aload_n 0, 1) := dk_42 (dk_at dksX17_isUnder_0 5 rfl rfl)
theorem dX17_isUnder_6 : decode cX17_isUnder 6 = .ok (.iload_n 1, 1) := dk_27 (dk_at dksX17_isUnder_0 6 rfl rfl)
theorem dX17_isUnder_7 : decode cX17_isUnder 7 = .ok (.invokespecial 15, 3) := dk_183 0 15 (dk_at dksX17_isUnder_0 7 rfl rfl)
theorem dX17_isUnder_10 : decode cX17_isUnder 10 = .ok (.ifCond .eq 7, 3) := dk_153 0 7 (dk_at dksX17_isUnder_0 10 rfl rfl)
theorem dX17_isUnder_13 : decode cX17_isUnder 13 = .ok (.iconst 1, 1) := dk_4 (dk_at dksX17_isUnder_0 13 rfl rfl)
theorem dX17_isUnder_14 : decode cX17_isUnder 14 = .ok (.goto 4, 3) := dk_167 0 4 (dk_at dksX17_isUnder_0 14 rfl rfl)
theorem dX17_isUnder_17 : decode cX17_isUnder 17 = .ok (.iconst 0, 1) := dk_3 (dk_at dksX17_isUnder_0 17 rfl rfl)
theorem dX17_isUnder_18 : decode cX17_isUnder 18 = .ok (.ireturn, 1) := dk_172 (dk_at dksX17_isUnder_0 18 rfl rfl)
abbrev cX17_kind : ByteArray := prog_2_method_2_code
def yX17_kind : MethodName := ⟨RX17, "kind", "()I"⟩
theorem dX17_kind_0 : decode cX17_kind 0 = .ok (.iconst 2, 1) := by decide +kernel
theorem dX17_kind_1 : decode cX17_kind 1 = .ok (.ireturn, 1) := by decide +kernel
theorem q129 : (Jvm.Cond.initialized "HatRank$Blown") ∈ lw_all := lw_g (lw_at lw_m1 23 rfl) rfl
theorem q899 : (Jvm.Cond.instantiable "HatRank$Blown" (3 : Nat)) ∈ lw_all := lw_g (lw_at lw_m4 73 rfl) rfl
theorem q901 : (Jvm.Cond.instanceMethod ({ cls := "HatRank$Blown", name := "<init>", desc := "(LHatRank;I)V" } : Jvm.MethodName)) ∈ lw_all := lw_g (lw_at lw_m4 75 rfl) rfl
theorem q902 : (Jvm.Cond.code ({ cls := "HatRank$Blown", name := "<init>", desc := "(LHatRank;I)V" } : Jvm.MethodName) prog_2_method_1_code (3 : Nat) (Option.none : Option Jvm.ClassFile.FieldType)) ∈ lw_all := lw_g (lw_at lw_m4 76 rfl) rfl
theorem q903 : (Jvm.Cond.methodLink "HatRank$Blown" (9 : Nat) ({ cls := "HatRank$Body", name := "<init>", desc := "(LHatRank;I)V" } : Jvm.MethodName)) ∈ lw_all := lw_g (lw_at lw_m4 77 rfl) rfl
theorem q904 : (Jvm.Cond.fieldLink "HatRank$Blown" (3 : Nat) "HatRank$Blown" "this$0" "LHatRank;") ∈ lw_all := lw_g (lw_at lw_m4 78 rfl) rfl
theorem q905 : (Jvm.Cond.laysFinal "HatRank$Blown" "HatRank$Blown" "this$0" "LHatRank;") ∈ lw_all := lw_g (lw_at lw_m4 79 rfl) rfl
theorem q906 : (Jvm.Cond.soleField "HatRank$Blown" "this$0") ∈ lw_all := lw_g (lw_at lw_m4 80 rfl) rfl
theorem q907 : (Jvm.Cond.laysFinal "HatRank$Blown" "HatRank$Body" "number" "I") ∈ lw_all := lw_g (lw_at lw_m4 81 rfl) rfl
theorem q908 : (Jvm.Cond.laysFinal "HatRank$Blown" "HatRank$Body" "this$0" "LHatRank;") ∈ lw_all := lw_g (lw_at lw_m4 82 rfl) rfl
theorem q909 : (Jvm.Cond.superclass "HatRank$Blown" "HatRank$Body") ∈ lw_all := lw_g (lw_at lw_m4 83 rfl) rfl
theorem q989 : (Jvm.Cond.unhidden "HatRank$Blown" "sits" "(I)I") ∈ lw_tbl := lw_at lw_m4 163 rfl
theorem q1014 : (Jvm.Cond.castable "HatRank$Blown" "HatRank$Sits") ∈ lw_tbl := lw_at lw_m4 188 rfl
theorem q1015 : (Jvm.Cond.selects "HatRank$Blown" ({ cls := "HatRank$Sits", name := "begins", desc := "(I)V" } : Jvm.MethodName) ({ cls := "HatRank$Body", name := "begins", desc := "(I)V" } : Jvm.MethodName)) ∈ lw_all := lw_g (lw_at lw_m4 189 rfl) rfl
theorem q1016 : (Jvm.Cond.unhidden "HatRank$Blown" "begins" "(I)V") ∈ lw_tbl := lw_at lw_m4 190 rfl
theorem q1043 : (Jvm.Cond.selects "HatRank$Blown" ({ cls := "HatRank$Sits", name := "number", desc := "()I" } : Jvm.MethodName) ({ cls := "HatRank$Body", name := "number", desc := "()I" } : Jvm.MethodName)) ∈ lw_all := lw_g (lw_at lw_m4 217 rfl) rfl
theorem q1044 : (Jvm.Cond.unhidden "HatRank$Blown" "number" "()I") ∈ lw_tbl := lw_at lw_m4 218 rfl
theorem q1077 : (Jvm.Cond.selects "HatRank$Blown" ({ cls := "HatRank$Body", name := "falls", desc := "(I)I" } : Jvm.MethodName) ({ cls := "HatRank$Blown", name := "falls", desc := "(I)I" } : Jvm.MethodName)) ∈ lw_all := lw_g (lw_at lw_m5 11 rfl) rfl
theorem q1078 : (Jvm.Cond.instanceMethod ({ cls := "HatRank$Blown", name := "falls", desc := "(I)I" } : Jvm.MethodName)) ∈ lw_all := lw_g (lw_at lw_m5 12 rfl) rfl
theorem q1079 : (Jvm.Cond.code ({ cls := "HatRank$Blown", name := "falls", desc := "(I)I" } : Jvm.MethodName) prog_2_method_4_code (2 : Nat) (Option.some Jvm.ClassFile.FieldType.int)) ∈ lw_all := lw_g (lw_at lw_m5 13 rfl) rfl
theorem q1080 : (Jvm.Cond.methodLink "HatRank$Blown" (19 : Nat) ({ cls := "HatRank$Blown", name := "begins", desc := "(I)V" } : Jvm.MethodName)) ∈ lw_all := lw_g (lw_at lw_m5 14 rfl) rfl
theorem q1081 : (Jvm.Cond.sameMethod "HatRank$Blown" "HatRank$Body" "begins" "(I)V") ∈ lw_all := lw_g (lw_at lw_m5 15 rfl) rfl
theorem q1082 : (Jvm.Cond.selects "HatRank$Blown" ({ cls := "HatRank$Blown", name := "begins", desc := "(I)V" } : Jvm.MethodName) ({ cls := "HatRank$Body", name := "begins", desc := "(I)V" } : Jvm.MethodName)) ∈ lw_all := lw_g (lw_at lw_m5 16 rfl) rfl
theorem q1085 : (Jvm.Cond.methodLink "HatRank$Blown" (23 : Nat) ({ cls := "HatRank$Body", name := "falls", desc := "(I)I" } : Jvm.MethodName)) ∈ lw_all := lw_g (lw_at lw_m5 19 rfl) rfl
theorem q1116 : (Jvm.Cond.sameMethod "HatRank$Blown" "HatRank$Body" "lands" "(I)I") ∈ lw_all := lw_g (lw_at lw_m5 50 rfl) rfl
theorem q1124 : (Jvm.Cond.unhidden "HatRank$Blown" "ranks" "(I)I") ∈ lw_tbl := lw_at lw_m5 58 rfl
theorem q1137 : (Jvm.Cond.castable "HatRank$Blown" "HatRank$Ranks") ∈ lw_tbl := lw_at lw_m5 71 rfl
theorem q1138 : (Jvm.Cond.selects "HatRank$Blown" ({ cls := "HatRank$Ranks", name := "begins", desc := "(I)V" } : Jvm.MethodName) ({ cls := "HatRank$Body", name := "begins", desc := "(I)V" } : Jvm.MethodName)) ∈ lw_all := lw_g (lw_at lw_m5 72 rfl) rfl
theorem q1157 : (Jvm.Cond.selects "HatRank$Blown" ({ cls := "HatRank$Ranks", name := "falls", desc := "(I)I" } : Jvm.MethodName) ({ cls := "HatRank$Blown", name := "falls", desc := "(I)I" } : Jvm.MethodName)) ∈ lw_all := lw_g (lw_at lw_m5 91 rfl) rfl
theorem q1158 : (Jvm.Cond.unhidden "HatRank$Blown" "falls" "(I)I") ∈ lw_tbl := lw_at lw_m5 92 rfl
theorem q1159 : (Jvm.Cond.publicMethod ({ cls := "HatRank$Blown", name := "falls", desc := "(I)I" } : Jvm.MethodName)) ∈ lw_tbl := lw_at lw_m5 93 rfl
theorem q1181 : (Jvm.Cond.selects "HatRank$Blown" ({ cls := "HatRank$Ranks", name := "lands", desc := "(I)I" } : Jvm.MethodName) ({ cls := "HatRank$Body", name := "lands", desc := "(I)I" } : Jvm.MethodName)) ∈ lw_all := lw_g (lw_at lw_m5 115 rfl) rfl
theorem q1182 : (Jvm.Cond.unhidden "HatRank$Blown" "lands" "(I)I") ∈ lw_tbl := lw_at lw_m5 116 rfl
theorem q1252 : (Jvm.Cond.selects "HatRank$Blown" ({ cls := "HatRank$Body", name := "isUnder", desc := "(I)Z" } : Jvm.MethodName) ({ cls := "HatRank$Blown", name := "isUnder", desc := "(I)Z" } : Jvm.MethodName)) ∈ lw_all := lw_g (lw_at lw_m5 186 rfl) rfl
theorem q1253 : (Jvm.Cond.instanceMethod ({ cls := "HatRank$Blown", name := "isUnder", desc := "(I)Z" } : Jvm.MethodName)) ∈ lw_all := lw_g (lw_at lw_m5 187 rfl) rfl
theorem q1254 : (Jvm.Cond.code ({ cls := "HatRank$Blown", name := "isUnder", desc := "(I)Z" } : Jvm.MethodName) prog_2_method_3_code (2 : Nat) (Option.some Jvm.ClassFile.FieldType.boolean)) ∈ lw_all := lw_g (lw_at lw_m5 188 rfl) rfl
theorem q1255 : (Jvm.Cond.methodLink "HatRank$Blown" (15 : Nat) ({ cls := "HatRank$Body", name := "isUnder", desc := "(I)Z" } : Jvm.MethodName)) ∈ lw_all := lw_g (lw_at lw_m5 189 rfl) rfl
theorem q1285 : (Jvm.Cond.selects "HatRank$Blown" ({ cls := "HatRank$Body", name := "kind", desc := "()I" } : Jvm.MethodName) ({ cls := "HatRank$Blown", name := "kind", desc := "()I" } : Jvm.MethodName)) ∈ lw_all := lw_g (lw_at lw_m5 219 rfl) rfl
theorem q1286 : (Jvm.Cond.instanceMethod ({ cls := "HatRank$Blown", name := "kind", desc := "()I" } : Jvm.MethodName)) ∈ lw_all := lw_g (lw_at lw_m5 220 rfl) rfl
theorem q1287 : (Jvm.Cond.code ({ cls := "HatRank$Blown", name := "kind", desc := "()I" } : Jvm.MethodName) prog_2_method_2_code (1 : Nat) (Option.some Jvm.ClassFile.FieldType.int)) ∈ lw_all := lw_g (lw_at lw_m5 221 rfl) rfl
theorem q1904 : (Jvm.Cond.sameMethod "HatRank$Blown" "HatRank$Blown" "falls" "(I)I") ∈ lw_all := lw_g (lw_at lw_m8 118 rfl) rfl
theorem q1906 : (Jvm.Cond.selects "HatRank$Blown" ({ cls := "HatRank$Body", name := "begins", desc := "(I)V" } : Jvm.MethodName) ({ cls := "HatRank$Body", name := "begins", desc := "(I)V" } : Jvm.MethodName)) ∈ lw_all := lw_g (lw_at lw_m8 120 rfl) rfl
theorem q1915 : (Jvm.Cond.selects "HatRank$Blown" ({ cls := "HatRank$Body", name := "lands", desc := "(I)I" } : Jvm.MethodName) ({ cls := "HatRank$Body", name := "lands", desc := "(I)I" } : Jvm.MethodName)) ∈ lw_all := lw_g (lw_at lw_m8 129 rfl) rfl
theorem q1924 : (Jvm.Cond.sameMethod "HatRank$Blown" "HatRank$Blown" "isUnder" "(I)Z") ∈ lw_all := lw_g (lw_at lw_m8 138 rfl) rfl
theorem q1928 : (Jvm.Cond.castable "HatRank$Blown" "HatRank$Body") ∈ lw_tbl := lw_at lw_m8 142 rfl
theorem q1950 : (Jvm.Cond.castable "HatRank$Blown" "java/lang/Object") ∈ lw_tbl := lw_at lw_m8 164 rfl
theorem in_X17 : ∀ w ∈ wsX170, w ∈ lw_all := lw_in wsX170 [907, 908, 905] (by decide +kernel) (by decide +kernel)
/-! HatRank$Caught -/
set_option maxRecDepth 100000
def RX18 : String := "HatRank$Caught"
def TX18 : u_T := fun k => match k with
  | 0 => ("HatRank$Body", "number", "I", true)
  | 1 => ("HatRank$Body", "this$0", "LHatRank;", true)
  | 2 => ("HatRank$Blown", "this$0", "LHatRank;", true)
  | _ => ("HatRank$Caught", "this$0", "LHatRank;", true)
def tyX18 : Nat → FieldType := fun k => match k with
  | 0 => .int
  | 1 => .object "HatRank"
  | 2 => .object "HatRank"
  | _ => .object "HatRank"
abbrev wsX180 : List Cond := u_ws RX18 TX18 4
-- two fields of one name: no nmX18
theorem tyX18_ok : ∀ k, k < 4 → parseFieldDescriptor (TX18 k).2.2.1 = some (tyX18 k) := by decide +kernel
abbrev cX18_init : ByteArray := prog_5_method_1_code
def yX18_init : MethodName := ⟨RX18, "<init>", "(LHatRank;I)V"⟩
def dkwX18_init_0 : List UInt8 := [42, 43, 181, 0, 3, 42, 43, 28, 183, 0, 9, 177]
abbrev dktX18_init_0 : List UInt8 := dkwX18_init_0 ++ []
theorem dksX18_init_0 : cX18_init.data.toList.drop 0 = dktX18_init_0 := by decide +kernel
theorem dX18_init_0 : decode cX18_init 0 = .ok (.aload_n 0, 1) := dk_42 (dk_at dksX18_init_0 0 rfl rfl)
theorem dX18_init_1 : decode cX18_init 1 = .ok (.aload_n 1, 1) := dk_43 (dk_at dksX18_init_0 1 rfl rfl)
theorem dX18_init_2 : decode cX18_init 2 = .ok (.putfield 3, 3) := dk_181 0 3 (dk_at dksX18_init_0 2 rfl rfl)
theorem dX18_init_5 : decode cX18_init 5 = .ok (.aload_n 0, 1) := dk_42 (dk_at dksX18_init_0 5 rfl rfl)
theorem dX18_init_6 : decode cX18_init 6 = .ok (.aload_n 1, 1) := dk_43 (dk_at dksX18_init_0 6 rfl rfl)
theorem dX18_init_7 : decode cX18_init 7 = .ok (.iload_n 2, 1) := dk_28 (dk_at dksX18_init_0 7 rfl rfl)
theorem dX18_init_8 : decode cX18_init 8 = .ok (.invokespecial 9, 3) := dk_183 0 9 (dk_at dksX18_init_0 8 rfl rfl)
theorem dX18_init_11 : decode cX18_init 11 = .ok (.return_, 1) := dk_177 (dk_at dksX18_init_0 11 rfl rfl)
abbrev cX18_falls : ByteArray := prog_5_method_5_code
def yX18_falls : MethodName := ⟨RX18, "falls", "(I)I"⟩
def dkwX18_falls_0 : List UInt8 := [42, 16, 41, 182, 0, 19, 42, 27, 4, 96, 183, 0, 27, 172]
abbrev dktX18_falls_0 : List UInt8 := dkwX18_falls_0 ++ []
theorem dksX18_falls_0 : cX18_falls.data.toList.drop 0 = dktX18_falls_0 := by decide +kernel
theorem dX18_falls_0 : decode cX18_falls 0 = .ok (.aload_n 0, 1) := dk_42 (dk_at dksX18_falls_0 0 rfl rfl)
theorem dX18_falls_1 : decode cX18_falls 1 = .ok (.bipush 41, 2) := dk_16 41 (dk_at dksX18_falls_0 1 rfl rfl)
theorem dX18_falls_3 : decode cX18_falls 3 = .ok (.invokevirtual 19, 3) := dk_182 0 19 (dk_at dksX18_falls_0 3 rfl rfl)
theorem dX18_falls_6 : decode cX18_falls 6 = .ok (.aload_n 0, 1) := dk_42 (dk_at dksX18_falls_0 6 rfl rfl)
theorem dX18_falls_7 : decode cX18_falls 7 = .ok (.iload_n 1, 1) := dk_27 (dk_at dksX18_falls_0 7 rfl rfl)
theorem dX18_falls_8 : decode cX18_falls 8 = .ok (.iconst 1, 1) := dk_4 (dk_at dksX18_falls_0 8 rfl rfl)
theorem dX18_falls_9 : decode cX18_falls 9 = .ok (.iadd, 1) := dk_96 (dk_at dksX18_falls_0 9 rfl rfl)
theorem dX18_falls_10 : decode cX18_falls 10 = .ok (.invokespecial 27, 3) := dk_183 0 27 (dk_at dksX18_falls_0 10 rfl rfl)
theorem dX18_falls_13 : decode cX18_falls 13 = .ok (.ireturn, 1) := dk_172 (dk_at dksX18_falls_0 13 rfl rfl)
abbrev cX18_lands : ByteArray := prog_5_method_4_code
def yX18_lands : MethodName := ⟨RX18, "lands", "(I)I"⟩
def dkwX18_lands_0 : List UInt8 := [42, 16, 40, 182, 0, 19, 42, 27, 183, 0, 23, 6, 104, 172]
abbrev dktX18_lands_0 : List UInt8 := dkwX18_lands_0 ++ []
theorem dksX18_lands_0 : cX18_lands.data.toList.drop 0 = dktX18_lands_0 := by decide +kernel
theorem dX18_lands_0 : decode cX18_lands 0 = .ok (.aload_n 0, 1) := dk_42 (dk_at dksX18_lands_0 0 rfl rfl)
theorem dX18_lands_1 : decode cX18_lands 1 = .ok (.bipush 40, 2) := dk_16 40 (dk_at dksX18_lands_0 1 rfl rfl)
theorem dX18_lands_3 : decode cX18_lands 3 = .ok (.invokevirtual 19, 3) := dk_182 0 19 (dk_at dksX18_lands_0 3 rfl rfl)
theorem dX18_lands_6 : decode cX18_lands 6 = .ok (.aload_n 0, 1) := dk_42 (dk_at dksX18_lands_0 6 rfl rfl)
theorem dX18_lands_7 : decode cX18_lands 7 = .ok (.iload_n 1, 1) := dk_27 (dk_at dksX18_lands_0 7 rfl rfl)
theorem dX18_lands_8 : decode cX18_lands 8 = .ok (.invokespecial 23, 3) := dk_183 0 23 (dk_at dksX18_lands_0 8 rfl rfl)
theorem dX18_lands_11 : decode cX18_lands 11 = .ok (.iconst 3, 1) := dk_6 (dk_at dksX18_lands_0 11 rfl rfl)
theorem dX18_lands_12 : decode cX18_lands 12 = .ok (.imul, 1) := dk_104 (dk_at dksX18_lands_0 12 rfl rfl)
theorem dX18_lands_13 : decode cX18_lands 13 = .ok (.ireturn, 1) := dk_172 (dk_at dksX18_lands_0 13 rfl rfl)
abbrev cX18_isUnder : ByteArray := prog_5_method_3_code
def yX18_isUnder : MethodName := ⟨RX18, "isUnder", "(I)Z"⟩
def dkwX18_isUnder_0 : List UInt8 := [27, 6, 159, 0, 11, 42, 27, 183, 0, 15, 153, 0, 7, 4, 167, 0, 4, 3, 172]
abbrev dktX18_isUnder_0 : List UInt8 := dkwX18_isUnder_0 ++ []
theorem dksX18_isUnder_0 : cX18_isUnder.data.toList.drop 0 = dktX18_isUnder_0 := by decide +kernel
theorem dX18_isUnder_0 : decode cX18_isUnder 0 = .ok (.iload_n 1, 1) := dk_27 (dk_at dksX18_isUnder_0 0 rfl rfl)
theorem dX18_isUnder_1 : decode cX18_isUnder 1 = .ok (.iconst 3, 1) := dk_6 (dk_at dksX18_isUnder_0 1 rfl rfl)
theorem dX18_isUnder_2 : decode cX18_isUnder 2 = .ok (.if_icmp .eq 11, 3) := dk_159 0 11 (dk_at dksX18_isUnder_0 2 rfl rfl)
theorem dX18_isUnder_5 : decode cX18_isUnder 5 = .ok (.aload_n 0, 1) := dk_42 (dk_at dksX18_isUnder_0 5 rfl rfl)
theorem dX18_isUnder_6 : decode cX18_isUnder 6 = .ok (.iload_n 1, 1) := dk_27 (dk_at dksX18_isUnder_0 6 rfl rfl)
theorem dX18_isUnder_7 : decode cX18_isUnder 7 = .ok (.invokespecial 15, 3) := dk_183 0 15 (dk_at dksX18_isUnder_0 7 rfl rfl)
theorem dX18_isUnder_10 : decode cX18_isUnder 10 = .ok (.ifCond .eq 7, 3) := dk_153 0 7 (dk_at dksX18_isUnder_0 10 rfl rfl)
theorem dX18_isUnder_13 : decode cX18_isUnder 13 = .ok (.iconst 1, 1) := dk_4 (dk_at dksX18_isUnder_0 13 rfl rfl)
theorem dX18_isUnder_14 : decode cX18_isUnder 14 = .ok (.goto 4, 3) := dk_167 0 4 (dk_at dksX18_isUnder_0 14 rfl rfl)
theorem dX18_isUnder_17 : decode cX18_isUnder 17 = .ok (.iconst 0, 1) := dk_3 (dk_at dksX18_isUnder_0 17 rfl rfl)
theorem dX18_isUnder_18 : decode cX18_isUnder 18 = .ok (.ireturn, 1) := dk_172 (dk_at dksX18_isUnder_0 18 rfl rfl)
abbrev cX18_kind : ByteArray := prog_5_method_2_code
def yX18_kind : MethodName := ⟨RX18, "kind", "()I"⟩
theorem dX18_kind_0 : decode cX18_kind 0 = .ok (.iconst 3, 1) := by decide +kernel
theorem dX18_kind_1 : decode cX18_kind 1 = .ok (.ireturn, 1) := by decide +kernel
theorem q130 : (Jvm.Cond.initialized "HatRank$Caught") ∈ lw_all := lw_g (lw_at lw_m1 24 rfl) rfl
theorem q911 : (Jvm.Cond.instantiable "HatRank$Caught" (4 : Nat)) ∈ lw_all := lw_g (lw_at lw_m4 85 rfl) rfl
theorem q913 : (Jvm.Cond.instanceMethod ({ cls := "HatRank$Caught", name := "<init>", desc := "(LHatRank;I)V" } : Jvm.MethodName)) ∈ lw_all := lw_g (lw_at lw_m4 87 rfl) rfl
theorem q914 : (Jvm.Cond.code ({ cls := "HatRank$Caught", name := "<init>", desc := "(LHatRank;I)V" } : Jvm.MethodName) prog_5_method_1_code (3 : Nat) (Option.none : Option Jvm.ClassFile.FieldType)) ∈ lw_all := lw_g (lw_at lw_m4 88 rfl) rfl
theorem q915 : (Jvm.Cond.methodLink "HatRank$Caught" (9 : Nat) ({ cls := "HatRank$Blown", name := "<init>", desc := "(LHatRank;I)V" } : Jvm.MethodName)) ∈ lw_all := lw_g (lw_at lw_m4 89 rfl) rfl
theorem q916 : (Jvm.Cond.fieldLink "HatRank$Caught" (3 : Nat) "HatRank$Caught" "this$0" "LHatRank;") ∈ lw_all := lw_g (lw_at lw_m4 90 rfl) rfl
theorem q917 : (Jvm.Cond.laysFinal "HatRank$Caught" "HatRank$Caught" "this$0" "LHatRank;") ∈ lw_all := lw_g (lw_at lw_m4 91 rfl) rfl
theorem q918 : (Jvm.Cond.soleField "HatRank$Caught" "this$0") ∈ lw_all := lw_g (lw_at lw_m4 92 rfl) rfl
theorem q919 : (Jvm.Cond.laysFinal "HatRank$Caught" "HatRank$Blown" "this$0" "LHatRank;") ∈ lw_all := lw_g (lw_at lw_m4 93 rfl) rfl
theorem q920 : (Jvm.Cond.laysFinal "HatRank$Caught" "HatRank$Body" "number" "I") ∈ lw_all := lw_g (lw_at lw_m4 94 rfl) rfl
theorem q921 : (Jvm.Cond.laysFinal "HatRank$Caught" "HatRank$Body" "this$0" "LHatRank;") ∈ lw_all := lw_g (lw_at lw_m4 95 rfl) rfl
theorem q922 : (Jvm.Cond.superclass "HatRank$Caught" "HatRank$Blown") ∈ lw_all := lw_g (lw_at lw_m4 96 rfl) rfl
theorem q991 : (Jvm.Cond.unhidden "HatRank$Caught" "sits" "(I)I") ∈ lw_tbl := lw_at lw_m4 165 rfl
theorem q1021 : (Jvm.Cond.castable "HatRank$Caught" "HatRank$Sits") ∈ lw_tbl := lw_at lw_m4 195 rfl
theorem q1022 : (Jvm.Cond.selects "HatRank$Caught" ({ cls := "HatRank$Sits", name := "begins", desc := "(I)V" } : Jvm.MethodName) ({ cls := "HatRank$Body", name := "begins", desc := "(I)V" } : Jvm.MethodName)) ∈ lw_all := lw_g (lw_at lw_m4 196 rfl) rfl
theorem q1023 : (Jvm.Cond.unhidden "HatRank$Caught" "begins" "(I)V") ∈ lw_tbl := lw_at lw_m4 197 rfl
theorem q1050 : (Jvm.Cond.selects "HatRank$Caught" ({ cls := "HatRank$Sits", name := "number", desc := "()I" } : Jvm.MethodName) ({ cls := "HatRank$Body", name := "number", desc := "()I" } : Jvm.MethodName)) ∈ lw_all := lw_g (lw_at lw_m4 224 rfl) rfl
theorem q1051 : (Jvm.Cond.unhidden "HatRank$Caught" "number" "()I") ∈ lw_tbl := lw_at lw_m4 225 rfl
theorem q1083 : (Jvm.Cond.selects "HatRank$Caught" ({ cls := "HatRank$Blown", name := "begins", desc := "(I)V" } : Jvm.MethodName) ({ cls := "HatRank$Body", name := "begins", desc := "(I)V" } : Jvm.MethodName)) ∈ lw_all := lw_g (lw_at lw_m5 17 rfl) rfl
theorem q1086 : (Jvm.Cond.selects "HatRank$Caught" ({ cls := "HatRank$Body", name := "falls", desc := "(I)I" } : Jvm.MethodName) ({ cls := "HatRank$Caught", name := "falls", desc := "(I)I" } : Jvm.MethodName)) ∈ lw_all := lw_g (lw_at lw_m5 20 rfl) rfl
theorem q1087 : (Jvm.Cond.instanceMethod ({ cls := "HatRank$Caught", name := "falls", desc := "(I)I" } : Jvm.MethodName)) ∈ lw_all := lw_g (lw_at lw_m5 21 rfl) rfl
theorem q1088 : (Jvm.Cond.code ({ cls := "HatRank$Caught", name := "falls", desc := "(I)I" } : Jvm.MethodName) prog_5_method_5_code (2 : Nat) (Option.some Jvm.ClassFile.FieldType.int)) ∈ lw_all := lw_g (lw_at lw_m5 22 rfl) rfl
theorem q1089 : (Jvm.Cond.methodLink "HatRank$Caught" (19 : Nat) ({ cls := "HatRank$Caught", name := "begins", desc := "(I)V" } : Jvm.MethodName)) ∈ lw_all := lw_g (lw_at lw_m5 23 rfl) rfl
theorem q1090 : (Jvm.Cond.sameMethod "HatRank$Caught" "HatRank$Body" "begins" "(I)V") ∈ lw_all := lw_g (lw_at lw_m5 24 rfl) rfl
theorem q1091 : (Jvm.Cond.selects "HatRank$Caught" ({ cls := "HatRank$Caught", name := "begins", desc := "(I)V" } : Jvm.MethodName) ({ cls := "HatRank$Body", name := "begins", desc := "(I)V" } : Jvm.MethodName)) ∈ lw_all := lw_g (lw_at lw_m5 25 rfl) rfl
theorem q1093 : (Jvm.Cond.methodLink "HatRank$Caught" (27 : Nat) ({ cls := "HatRank$Blown", name := "falls", desc := "(I)I" } : Jvm.MethodName)) ∈ lw_all := lw_g (lw_at lw_m5 27 rfl) rfl
theorem q1113 : (Jvm.Cond.instanceMethod ({ cls := "HatRank$Caught", name := "lands", desc := "(I)I" } : Jvm.MethodName)) ∈ lw_all := lw_g (lw_at lw_m5 47 rfl) rfl
theorem q1114 : (Jvm.Cond.code ({ cls := "HatRank$Caught", name := "lands", desc := "(I)I" } : Jvm.MethodName) prog_5_method_4_code (2 : Nat) (Option.some Jvm.ClassFile.FieldType.int)) ∈ lw_all := lw_g (lw_at lw_m5 48 rfl) rfl
theorem q1115 : (Jvm.Cond.methodLink "HatRank$Caught" (23 : Nat) ({ cls := "HatRank$Blown", name := "lands", desc := "(I)I" } : Jvm.MethodName)) ∈ lw_all := lw_g (lw_at lw_m5 49 rfl) rfl
theorem q1126 : (Jvm.Cond.unhidden "HatRank$Caught" "ranks" "(I)I") ∈ lw_tbl := lw_at lw_m5 60 rfl
theorem q1141 : (Jvm.Cond.castable "HatRank$Caught" "HatRank$Ranks") ∈ lw_tbl := lw_at lw_m5 75 rfl
theorem q1142 : (Jvm.Cond.selects "HatRank$Caught" ({ cls := "HatRank$Ranks", name := "begins", desc := "(I)V" } : Jvm.MethodName) ({ cls := "HatRank$Body", name := "begins", desc := "(I)V" } : Jvm.MethodName)) ∈ lw_all := lw_g (lw_at lw_m5 76 rfl) rfl
theorem q1163 : (Jvm.Cond.selects "HatRank$Caught" ({ cls := "HatRank$Ranks", name := "falls", desc := "(I)I" } : Jvm.MethodName) ({ cls := "HatRank$Caught", name := "falls", desc := "(I)I" } : Jvm.MethodName)) ∈ lw_all := lw_g (lw_at lw_m5 97 rfl) rfl
theorem q1164 : (Jvm.Cond.unhidden "HatRank$Caught" "falls" "(I)I") ∈ lw_tbl := lw_at lw_m5 98 rfl
theorem q1165 : (Jvm.Cond.publicMethod ({ cls := "HatRank$Caught", name := "falls", desc := "(I)I" } : Jvm.MethodName)) ∈ lw_tbl := lw_at lw_m5 99 rfl
theorem q1186 : (Jvm.Cond.selects "HatRank$Caught" ({ cls := "HatRank$Ranks", name := "lands", desc := "(I)I" } : Jvm.MethodName) ({ cls := "HatRank$Caught", name := "lands", desc := "(I)I" } : Jvm.MethodName)) ∈ lw_all := lw_g (lw_at lw_m5 120 rfl) rfl
theorem q1187 : (Jvm.Cond.unhidden "HatRank$Caught" "lands" "(I)I") ∈ lw_tbl := lw_at lw_m5 121 rfl
theorem q1188 : (Jvm.Cond.publicMethod ({ cls := "HatRank$Caught", name := "lands", desc := "(I)I" } : Jvm.MethodName)) ∈ lw_tbl := lw_at lw_m5 122 rfl
theorem q1256 : (Jvm.Cond.selects "HatRank$Caught" ({ cls := "HatRank$Body", name := "isUnder", desc := "(I)Z" } : Jvm.MethodName) ({ cls := "HatRank$Caught", name := "isUnder", desc := "(I)Z" } : Jvm.MethodName)) ∈ lw_all := lw_g (lw_at lw_m5 190 rfl) rfl
theorem q1257 : (Jvm.Cond.instanceMethod ({ cls := "HatRank$Caught", name := "isUnder", desc := "(I)Z" } : Jvm.MethodName)) ∈ lw_all := lw_g (lw_at lw_m5 191 rfl) rfl
theorem q1258 : (Jvm.Cond.code ({ cls := "HatRank$Caught", name := "isUnder", desc := "(I)Z" } : Jvm.MethodName) prog_5_method_3_code (2 : Nat) (Option.some Jvm.ClassFile.FieldType.boolean)) ∈ lw_all := lw_g (lw_at lw_m5 192 rfl) rfl
theorem q1259 : (Jvm.Cond.methodLink "HatRank$Caught" (15 : Nat) ({ cls := "HatRank$Blown", name := "isUnder", desc := "(I)Z" } : Jvm.MethodName)) ∈ lw_all := lw_g (lw_at lw_m5 193 rfl) rfl
theorem q1288 : (Jvm.Cond.selects "HatRank$Caught" ({ cls := "HatRank$Body", name := "kind", desc := "()I" } : Jvm.MethodName) ({ cls := "HatRank$Caught", name := "kind", desc := "()I" } : Jvm.MethodName)) ∈ lw_all := lw_g (lw_at lw_m5 222 rfl) rfl
theorem q1289 : (Jvm.Cond.instanceMethod ({ cls := "HatRank$Caught", name := "kind", desc := "()I" } : Jvm.MethodName)) ∈ lw_all := lw_g (lw_at lw_m5 223 rfl) rfl
theorem q1290 : (Jvm.Cond.code ({ cls := "HatRank$Caught", name := "kind", desc := "()I" } : Jvm.MethodName) prog_5_method_2_code (1 : Nat) (Option.some Jvm.ClassFile.FieldType.int)) ∈ lw_all := lw_g (lw_at lw_m5 224 rfl) rfl
theorem q1908 : (Jvm.Cond.selects "HatRank$Caught" ({ cls := "HatRank$Body", name := "begins", desc := "(I)V" } : Jvm.MethodName) ({ cls := "HatRank$Body", name := "begins", desc := "(I)V" } : Jvm.MethodName)) ∈ lw_all := lw_g (lw_at lw_m8 122 rfl) rfl
theorem q1917 : (Jvm.Cond.selects "HatRank$Caught" ({ cls := "HatRank$Body", name := "lands", desc := "(I)I" } : Jvm.MethodName) ({ cls := "HatRank$Caught", name := "lands", desc := "(I)I" } : Jvm.MethodName)) ∈ lw_all := lw_g (lw_at lw_m8 131 rfl) rfl
theorem q1920 : (Jvm.Cond.sameMethod "HatRank$Caught" "HatRank$Caught" "lands" "(I)I") ∈ lw_all := lw_g (lw_at lw_m8 134 rfl) rfl
theorem q1926 : (Jvm.Cond.sameMethod "HatRank$Caught" "HatRank$Caught" "isUnder" "(I)Z") ∈ lw_all := lw_g (lw_at lw_m8 140 rfl) rfl
theorem q1929 : (Jvm.Cond.castable "HatRank$Caught" "HatRank$Body") ∈ lw_tbl := lw_at lw_m8 143 rfl
theorem q1951 : (Jvm.Cond.castable "HatRank$Caught" "java/lang/Object") ∈ lw_tbl := lw_at lw_m8 165 rfl
theorem in_X18 : ∀ w ∈ wsX180, w ∈ lw_all := lw_in wsX180 [920, 921, 919, 917] (by decide +kernel) (by decide +kernel)
/-! HatRank$OldHat -/
set_option maxRecDepth 100000
def RX19 : String := "HatRank$OldHat"
def TX19 : u_T := fun k => match k with
  | 0 => ("HatRank$Body", "number", "I", true)
  | 1 => ("HatRank$Body", "this$0", "LHatRank;", true)
  | 2 => ("HatRank$Strapped", "this$0", "LHatRank;", true)
  | _ => ("HatRank$OldHat", "this$0", "LHatRank;", true)
def tyX19 : Nat → FieldType := fun k => match k with
  | 0 => .int
  | 1 => .object "HatRank"
  | 2 => .object "HatRank"
  | _ => .object "HatRank"
abbrev wsX190 : List Cond := u_ws RX19 TX19 4
-- two fields of one name: no nmX19
theorem tyX19_ok : ∀ k, k < 4 → parseFieldDescriptor (TX19 k).2.2.1 = some (tyX19 k) := by decide +kernel
abbrev cX19_init : ByteArray := prog_15_method_1_code
def yX19_init : MethodName := ⟨RX19, "<init>", "(LHatRank;I)V"⟩
def dkwX19_init_0 : List UInt8 := [42, 43, 181, 0, 3, 42, 43, 28, 183, 0, 9, 177]
abbrev dktX19_init_0 : List UInt8 := dkwX19_init_0 ++ []
theorem dksX19_init_0 : cX19_init.data.toList.drop 0 = dktX19_init_0 := by decide +kernel
theorem dX19_init_0 : decode cX19_init 0 = .ok (.aload_n 0, 1) := dk_42 (dk_at dksX19_init_0 0 rfl rfl)
theorem dX19_init_1 : decode cX19_init 1 = .ok (.aload_n 1, 1) := dk_43 (dk_at dksX19_init_0 1 rfl rfl)
theorem dX19_init_2 : decode cX19_init 2 = .ok (.putfield 3, 3) := dk_181 0 3 (dk_at dksX19_init_0 2 rfl rfl)
theorem dX19_init_5 : decode cX19_init 5 = .ok (.aload_n 0, 1) := dk_42 (dk_at dksX19_init_0 5 rfl rfl)
theorem dX19_init_6 : decode cX19_init 6 = .ok (.aload_n 1, 1) := dk_43 (dk_at dksX19_init_0 6 rfl rfl)
theorem dX19_init_7 : decode cX19_init 7 = .ok (.iload_n 2, 1) := dk_28 (dk_at dksX19_init_0 7 rfl rfl)
theorem dX19_init_8 : decode cX19_init 8 = .ok (.invokespecial 9, 3) := dk_183 0 9 (dk_at dksX19_init_0 8 rfl rfl)
theorem dX19_init_11 : decode cX19_init 11 = .ok (.return_, 1) := dk_177 (dk_at dksX19_init_0 11 rfl rfl)
abbrev cX19_ranks : ByteArray := prog_15_method_4_code
def yX19_ranks : MethodName := ⟨RX19, "ranks", "(I)I"⟩
def dkwX19_ranks_0 : List UInt8 := [42, 16, 50, 182, 0, 19, 42, 27, 183, 0, 23, 8, 130, 172]
abbrev dktX19_ranks_0 : List UInt8 := dkwX19_ranks_0 ++ []
theorem dksX19_ranks_0 : cX19_ranks.data.toList.drop 0 = dktX19_ranks_0 := by decide +kernel
theorem dX19_ranks_0 : decode cX19_ranks 0 = .ok (.aload_n 0, 1) := dk_42 (dk_at dksX19_ranks_0 0 rfl rfl)
theorem dX19_ranks_1 : decode cX19_ranks 1 = .ok (.bipush 50, 2) := dk_16 50 (dk_at dksX19_ranks_0 1 rfl rfl)
theorem dX19_ranks_3 : decode cX19_ranks 3 = .ok (.invokevirtual 19, 3) := dk_182 0 19 (dk_at dksX19_ranks_0 3 rfl rfl)
theorem dX19_ranks_6 : decode cX19_ranks 6 = .ok (.aload_n 0, 1) := dk_42 (dk_at dksX19_ranks_0 6 rfl rfl)
theorem dX19_ranks_7 : decode cX19_ranks 7 = .ok (.iload_n 1, 1) := dk_27 (dk_at dksX19_ranks_0 7 rfl rfl)
theorem dX19_ranks_8 : decode cX19_ranks 8 = .ok (.invokespecial 23, 3) := dk_183 0 23 (dk_at dksX19_ranks_0 8 rfl rfl)
theorem dX19_ranks_11 : decode cX19_ranks 11 = .ok (.iconst 5, 1) := dk_8 (dk_at dksX19_ranks_0 11 rfl rfl)
theorem dX19_ranks_12 : decode cX19_ranks 12 = .ok (.ixor, 1) := dk_130 (dk_at dksX19_ranks_0 12 rfl rfl)
theorem dX19_ranks_13 : decode cX19_ranks 13 = .ok (.ireturn, 1) := dk_172 (dk_at dksX19_ranks_0 13 rfl rfl)
abbrev cX19_isUnder : ByteArray := prog_15_method_3_code
def yX19_isUnder : MethodName := ⟨RX19, "isUnder", "(I)Z"⟩
def dkwX19_isUnder_0 : List UInt8 := [27, 7, 159, 0, 11, 42, 27, 183, 0, 15, 153, 0, 7, 4, 167, 0, 4, 3, 172]
abbrev dktX19_isUnder_0 : List UInt8 := dkwX19_isUnder_0 ++ []
theorem dksX19_isUnder_0 : cX19_isUnder.data.toList.drop 0 = dktX19_isUnder_0 := by decide +kernel
theorem dX19_isUnder_0 : decode cX19_isUnder 0 = .ok (.iload_n 1, 1) := dk_27 (dk_at dksX19_isUnder_0 0 rfl rfl)
theorem dX19_isUnder_1 : decode cX19_isUnder 1 = .ok (.iconst 4, 1) := dk_7 (dk_at dksX19_isUnder_0 1 rfl rfl)
theorem dX19_isUnder_2 : decode cX19_isUnder 2 = .ok (.if_icmp .eq 11, 3) := dk_159 0 11 (dk_at dksX19_isUnder_0 2 rfl rfl)
theorem dX19_isUnder_5 : decode cX19_isUnder 5 = .ok (.aload_n 0, 1) := dk_42 (dk_at dksX19_isUnder_0 5 rfl rfl)
theorem dX19_isUnder_6 : decode cX19_isUnder 6 = .ok (.iload_n 1, 1) := dk_27 (dk_at dksX19_isUnder_0 6 rfl rfl)
theorem dX19_isUnder_7 : decode cX19_isUnder 7 = .ok (.invokespecial 15, 3) := dk_183 0 15 (dk_at dksX19_isUnder_0 7 rfl rfl)
theorem dX19_isUnder_10 : decode cX19_isUnder 10 = .ok (.ifCond .eq 7, 3) := dk_153 0 7 (dk_at dksX19_isUnder_0 10 rfl rfl)
theorem dX19_isUnder_13 : decode cX19_isUnder 13 = .ok (.iconst 1, 1) := dk_4 (dk_at dksX19_isUnder_0 13 rfl rfl)
theorem dX19_isUnder_14 : decode cX19_isUnder 14 = .ok (.goto 4, 3) := dk_167 0 4 (dk_at dksX19_isUnder_0 14 rfl rfl)
theorem dX19_isUnder_17 : decode cX19_isUnder 17 = .ok (.iconst 0, 1) := dk_3 (dk_at dksX19_isUnder_0 17 rfl rfl)
theorem dX19_isUnder_18 : decode cX19_isUnder 18 = .ok (.ireturn, 1) := dk_172 (dk_at dksX19_isUnder_0 18 rfl rfl)
abbrev cX19_kind : ByteArray := prog_15_method_2_code
def yX19_kind : MethodName := ⟨RX19, "kind", "()I"⟩
theorem dX19_kind_0 : decode cX19_kind 0 = .ok (.iconst 4, 1) := by decide +kernel
theorem dX19_kind_1 : decode cX19_kind 1 = .ok (.ireturn, 1) := by decide +kernel
theorem q131 : (Jvm.Cond.initialized "HatRank$OldHat") ∈ lw_all := lw_g (lw_at lw_m1 25 rfl) rfl
theorem q924 : (Jvm.Cond.instantiable "HatRank$OldHat" (4 : Nat)) ∈ lw_all := lw_g (lw_at lw_m4 98 rfl) rfl
theorem q926 : (Jvm.Cond.instanceMethod ({ cls := "HatRank$OldHat", name := "<init>", desc := "(LHatRank;I)V" } : Jvm.MethodName)) ∈ lw_all := lw_g (lw_at lw_m4 100 rfl) rfl
theorem q927 : (Jvm.Cond.code ({ cls := "HatRank$OldHat", name := "<init>", desc := "(LHatRank;I)V" } : Jvm.MethodName) prog_15_method_1_code (3 : Nat) (Option.none : Option Jvm.ClassFile.FieldType)) ∈ lw_all := lw_g (lw_at lw_m4 101 rfl) rfl
theorem q928 : (Jvm.Cond.methodLink "HatRank$OldHat" (9 : Nat) ({ cls := "HatRank$Strapped", name := "<init>", desc := "(LHatRank;I)V" } : Jvm.MethodName)) ∈ lw_all := lw_g (lw_at lw_m4 102 rfl) rfl
theorem q929 : (Jvm.Cond.fieldLink "HatRank$OldHat" (3 : Nat) "HatRank$OldHat" "this$0" "LHatRank;") ∈ lw_all := lw_g (lw_at lw_m4 103 rfl) rfl
theorem q930 : (Jvm.Cond.laysFinal "HatRank$OldHat" "HatRank$OldHat" "this$0" "LHatRank;") ∈ lw_all := lw_g (lw_at lw_m4 104 rfl) rfl
theorem q931 : (Jvm.Cond.soleField "HatRank$OldHat" "this$0") ∈ lw_all := lw_g (lw_at lw_m4 105 rfl) rfl
theorem q932 : (Jvm.Cond.laysFinal "HatRank$OldHat" "HatRank$Strapped" "this$0" "LHatRank;") ∈ lw_all := lw_g (lw_at lw_m4 106 rfl) rfl
theorem q933 : (Jvm.Cond.laysFinal "HatRank$OldHat" "HatRank$Body" "number" "I") ∈ lw_all := lw_g (lw_at lw_m4 107 rfl) rfl
theorem q934 : (Jvm.Cond.laysFinal "HatRank$OldHat" "HatRank$Body" "this$0" "LHatRank;") ∈ lw_all := lw_g (lw_at lw_m4 108 rfl) rfl
theorem q935 : (Jvm.Cond.superclass "HatRank$OldHat" "HatRank$Strapped") ∈ lw_all := lw_g (lw_at lw_m4 109 rfl) rfl
theorem q1033 : (Jvm.Cond.castable "HatRank$OldHat" "HatRank$Sits") ∈ lw_tbl := lw_at lw_m4 207 rfl
theorem q1034 : (Jvm.Cond.selects "HatRank$OldHat" ({ cls := "HatRank$Sits", name := "begins", desc := "(I)V" } : Jvm.MethodName) ({ cls := "HatRank$Body", name := "begins", desc := "(I)V" } : Jvm.MethodName)) ∈ lw_all := lw_g (lw_at lw_m4 208 rfl) rfl
theorem q1035 : (Jvm.Cond.unhidden "HatRank$OldHat" "begins" "(I)V") ∈ lw_tbl := lw_at lw_m4 209 rfl
theorem q1058 : (Jvm.Cond.selects "HatRank$OldHat" ({ cls := "HatRank$Sits", name := "number", desc := "()I" } : Jvm.MethodName) ({ cls := "HatRank$Body", name := "number", desc := "()I" } : Jvm.MethodName)) ∈ lw_all := lw_g (lw_at lw_m4 232 rfl) rfl
theorem q1059 : (Jvm.Cond.unhidden "HatRank$OldHat" "number" "()I") ∈ lw_tbl := lw_at lw_m4 233 rfl
theorem q1064 : (Jvm.Cond.selects "HatRank$OldHat" ({ cls := "HatRank$Sits", name := "sits", desc := "(I)I" } : Jvm.MethodName) ({ cls := "HatRank$Strapped", name := "sits", desc := "(I)I" } : Jvm.MethodName)) ∈ lw_all := lw_g (lw_at lw_m4 238 rfl) rfl
theorem q1069 : (Jvm.Cond.selects "HatRank$OldHat" ({ cls := "HatRank$Strapped", name := "begins", desc := "(I)V" } : Jvm.MethodName) ({ cls := "HatRank$Body", name := "begins", desc := "(I)V" } : Jvm.MethodName)) ∈ lw_all := lw_g (lw_at lw_m5 3 rfl) rfl
theorem q1109 : (Jvm.Cond.selects "HatRank$OldHat" ({ cls := "HatRank$Body", name := "falls", desc := "(I)I" } : Jvm.MethodName) ({ cls := "HatRank$Body", name := "falls", desc := "(I)I" } : Jvm.MethodName)) ∈ lw_all := lw_g (lw_at lw_m5 43 rfl) rfl
theorem q1149 : (Jvm.Cond.castable "HatRank$OldHat" "HatRank$Ranks") ∈ lw_tbl := lw_at lw_m5 83 rfl
theorem q1150 : (Jvm.Cond.selects "HatRank$OldHat" ({ cls := "HatRank$Ranks", name := "begins", desc := "(I)V" } : Jvm.MethodName) ({ cls := "HatRank$Body", name := "begins", desc := "(I)V" } : Jvm.MethodName)) ∈ lw_all := lw_g (lw_at lw_m5 84 rfl) rfl
theorem q1173 : (Jvm.Cond.selects "HatRank$OldHat" ({ cls := "HatRank$Ranks", name := "falls", desc := "(I)I" } : Jvm.MethodName) ({ cls := "HatRank$Body", name := "falls", desc := "(I)I" } : Jvm.MethodName)) ∈ lw_all := lw_g (lw_at lw_m5 107 rfl) rfl
theorem q1174 : (Jvm.Cond.unhidden "HatRank$OldHat" "falls" "(I)I") ∈ lw_tbl := lw_at lw_m5 108 rfl
theorem q1196 : (Jvm.Cond.selects "HatRank$OldHat" ({ cls := "HatRank$Ranks", name := "lands", desc := "(I)I" } : Jvm.MethodName) ({ cls := "HatRank$Body", name := "lands", desc := "(I)I" } : Jvm.MethodName)) ∈ lw_all := lw_g (lw_at lw_m5 130 rfl) rfl
theorem q1197 : (Jvm.Cond.unhidden "HatRank$OldHat" "lands" "(I)I") ∈ lw_tbl := lw_at lw_m5 131 rfl
theorem q1201 : (Jvm.Cond.selects "HatRank$OldHat" ({ cls := "HatRank$Ranks", name := "ranks", desc := "(I)I" } : Jvm.MethodName) ({ cls := "HatRank$OldHat", name := "ranks", desc := "(I)I" } : Jvm.MethodName)) ∈ lw_all := lw_g (lw_at lw_m5 135 rfl) rfl
theorem q1202 : (Jvm.Cond.instanceMethod ({ cls := "HatRank$OldHat", name := "ranks", desc := "(I)I" } : Jvm.MethodName)) ∈ lw_all := lw_g (lw_at lw_m5 136 rfl) rfl
theorem q1203 : (Jvm.Cond.code ({ cls := "HatRank$OldHat", name := "ranks", desc := "(I)I" } : Jvm.MethodName) prog_15_method_4_code (2 : Nat) (Option.some Jvm.ClassFile.FieldType.int)) ∈ lw_all := lw_g (lw_at lw_m5 137 rfl) rfl
theorem q1204 : (Jvm.Cond.methodLink "HatRank$OldHat" (19 : Nat) ({ cls := "HatRank$OldHat", name := "begins", desc := "(I)V" } : Jvm.MethodName)) ∈ lw_all := lw_g (lw_at lw_m5 138 rfl) rfl
theorem q1205 : (Jvm.Cond.sameMethod "HatRank$OldHat" "HatRank$Body" "begins" "(I)V") ∈ lw_all := lw_g (lw_at lw_m5 139 rfl) rfl
theorem q1206 : (Jvm.Cond.selects "HatRank$OldHat" ({ cls := "HatRank$OldHat", name := "begins", desc := "(I)V" } : Jvm.MethodName) ({ cls := "HatRank$Body", name := "begins", desc := "(I)V" } : Jvm.MethodName)) ∈ lw_all := lw_g (lw_at lw_m5 140 rfl) rfl
theorem q1272 : (Jvm.Cond.selects "HatRank$OldHat" ({ cls := "HatRank$Body", name := "isUnder", desc := "(I)Z" } : Jvm.MethodName) ({ cls := "HatRank$OldHat", name := "isUnder", desc := "(I)Z" } : Jvm.MethodName)) ∈ lw_all := lw_g (lw_at lw_m5 206 rfl) rfl
theorem q1273 : (Jvm.Cond.instanceMethod ({ cls := "HatRank$OldHat", name := "isUnder", desc := "(I)Z" } : Jvm.MethodName)) ∈ lw_all := lw_g (lw_at lw_m5 207 rfl) rfl
theorem q1274 : (Jvm.Cond.code ({ cls := "HatRank$OldHat", name := "isUnder", desc := "(I)Z" } : Jvm.MethodName) prog_15_method_3_code (2 : Nat) (Option.some Jvm.ClassFile.FieldType.boolean)) ∈ lw_all := lw_g (lw_at lw_m5 208 rfl) rfl
theorem q1275 : (Jvm.Cond.methodLink "HatRank$OldHat" (15 : Nat) ({ cls := "HatRank$Strapped", name := "isUnder", desc := "(I)Z" } : Jvm.MethodName)) ∈ lw_all := lw_g (lw_at lw_m5 209 rfl) rfl
theorem q1300 : (Jvm.Cond.selects "HatRank$OldHat" ({ cls := "HatRank$Body", name := "kind", desc := "()I" } : Jvm.MethodName) ({ cls := "HatRank$OldHat", name := "kind", desc := "()I" } : Jvm.MethodName)) ∈ lw_all := lw_g (lw_at lw_m5 234 rfl) rfl
theorem q1301 : (Jvm.Cond.instanceMethod ({ cls := "HatRank$OldHat", name := "kind", desc := "()I" } : Jvm.MethodName)) ∈ lw_all := lw_g (lw_at lw_m5 235 rfl) rfl
theorem q1302 : (Jvm.Cond.code ({ cls := "HatRank$OldHat", name := "kind", desc := "()I" } : Jvm.MethodName) prog_15_method_2_code (1 : Nat) (Option.some Jvm.ClassFile.FieldType.int)) ∈ lw_all := lw_g (lw_at lw_m5 236 rfl) rfl
theorem q1912 : (Jvm.Cond.selects "HatRank$OldHat" ({ cls := "HatRank$Body", name := "begins", desc := "(I)V" } : Jvm.MethodName) ({ cls := "HatRank$Body", name := "begins", desc := "(I)V" } : Jvm.MethodName)) ∈ lw_all := lw_g (lw_at lw_m8 126 rfl) rfl
theorem q1922 : (Jvm.Cond.selects "HatRank$OldHat" ({ cls := "HatRank$Body", name := "lands", desc := "(I)I" } : Jvm.MethodName) ({ cls := "HatRank$Body", name := "lands", desc := "(I)I" } : Jvm.MethodName)) ∈ lw_all := lw_g (lw_at lw_m8 136 rfl) rfl
theorem q1933 : (Jvm.Cond.castable "HatRank$OldHat" "HatRank$Body") ∈ lw_tbl := lw_at lw_m8 147 rfl
theorem q1952 : (Jvm.Cond.castable "HatRank$OldHat" "java/lang/Object") ∈ lw_tbl := lw_at lw_m8 166 rfl
theorem in_X19 : ∀ w ∈ wsX190, w ∈ lw_all := lw_in wsX190 [933, 934, 932, 930] (by decide +kernel) (by decide +kernel)
/-! HatRank$LostHat -/
set_option maxRecDepth 100000
def RX20 : String := "HatRank$LostHat"
def TX20 : u_T := fun k => match k with
  | 0 => ("HatRank$Body", "number", "I", true)
  | 1 => ("HatRank$Body", "this$0", "LHatRank;", true)
  | 2 => ("HatRank$Blown", "this$0", "LHatRank;", true)
  | 3 => ("HatRank$Caught", "this$0", "LHatRank;", true)
  | _ => ("HatRank$LostHat", "this$0", "LHatRank;", true)
def tyX20 : Nat → FieldType := fun k => match k with
  | 0 => .int
  | 1 => .object "HatRank"
  | 2 => .object "HatRank"
  | 3 => .object "HatRank"
  | _ => .object "HatRank"
abbrev wsX200 : List Cond := u_ws RX20 TX20 5
-- two fields of one name: no nmX20
theorem tyX20_ok : ∀ k, k < 5 → parseFieldDescriptor (TX20 k).2.2.1 = some (tyX20 k) := by decide +kernel
abbrev cX20_init : ByteArray := prog_12_method_1_code
def yX20_init : MethodName := ⟨RX20, "<init>", "(LHatRank;I)V"⟩
def dkwX20_init_0 : List UInt8 := [42, 43, 181, 0, 3, 42, 43, 28, 183, 0, 9, 177]
abbrev dktX20_init_0 : List UInt8 := dkwX20_init_0 ++ []
theorem dksX20_init_0 : cX20_init.data.toList.drop 0 = dktX20_init_0 := by decide +kernel
theorem dX20_init_0 : decode cX20_init 0 = .ok (.aload_n 0, 1) := dk_42 (dk_at dksX20_init_0 0 rfl rfl)
theorem dX20_init_1 : decode cX20_init 1 = .ok (.aload_n 1, 1) := dk_43 (dk_at dksX20_init_0 1 rfl rfl)
theorem dX20_init_2 : decode cX20_init 2 = .ok (.putfield 3, 3) := dk_181 0 3 (dk_at dksX20_init_0 2 rfl rfl)
theorem dX20_init_5 : decode cX20_init 5 = .ok (.aload_n 0, 1) := dk_42 (dk_at dksX20_init_0 5 rfl rfl)
theorem dX20_init_6 : decode cX20_init 6 = .ok (.aload_n 1, 1) := dk_43 (dk_at dksX20_init_0 6 rfl rfl)
theorem dX20_init_7 : decode cX20_init 7 = .ok (.iload_n 2, 1) := dk_28 (dk_at dksX20_init_0 7 rfl rfl)
theorem dX20_init_8 : decode cX20_init 8 = .ok (.invokespecial 9, 3) := dk_183 0 9 (dk_at dksX20_init_0 8 rfl rfl)
theorem dX20_init_11 : decode cX20_init 11 = .ok (.return_, 1) := dk_177 (dk_at dksX20_init_0 11 rfl rfl)
abbrev cX20_lands : ByteArray := prog_12_method_4_code
def yX20_lands : MethodName := ⟨RX20, "lands", "(I)I"⟩
def dkwX20_lands_0 : List UInt8 := [42, 16, 60, 182, 0, 19, 42, 27, 183, 0, 23, 61, 28, 42, 5, 182, 0, 27, 100, 172]
abbrev dktX20_lands_0 : List UInt8 := dkwX20_lands_0 ++ []
theorem dksX20_lands_0 : cX20_lands.data.toList.drop 0 = dktX20_lands_0 := by decide +kernel
theorem dX20_lands_0 : decode cX20_lands 0 = .ok (.aload_n 0, 1) := dk_42 (dk_at dksX20_lands_0 0 rfl rfl)
theorem dX20_lands_1 : decode cX20_lands 1 = .ok (.bipush 60, 2) := dk_16 60 (dk_at dksX20_lands_0 1 rfl rfl)
theorem dX20_lands_3 : decode cX20_lands 3 = .ok (.invokevirtual 19, 3) := dk_182 0 19 (dk_at dksX20_lands_0 3 rfl rfl)
theorem dX20_lands_6 : decode cX20_lands 6 = .ok (.aload_n 0, 1) := dk_42 (dk_at dksX20_lands_0 6 rfl rfl)
theorem dX20_lands_7 : decode cX20_lands 7 = .ok (.iload_n 1, 1) := dk_27 (dk_at dksX20_lands_0 7 rfl rfl)
theorem dX20_lands_8 : decode cX20_lands 8 = .ok (.invokespecial 23, 3) := dk_183 0 23 (dk_at dksX20_lands_0 8 rfl rfl)
theorem dX20_lands_11 : decode cX20_lands 11 = .ok (.istore_n 2, 1) := dk_61 (dk_at dksX20_lands_0 11 rfl rfl)
theorem dX20_lands_12 : decode cX20_lands 12 = .ok (.iload_n 2, 1) := dk_28 (dk_at dksX20_lands_0 12 rfl rfl)
theorem dX20_lands_13 : decode cX20_lands 13 = .ok (.aload_n 0, 1) := dk_42 (dk_at dksX20_lands_0 13 rfl rfl)
theorem dX20_lands_14 : decode cX20_lands 14 = .ok (.iconst 2, 1) := dk_5 (dk_at dksX20_lands_0 14 rfl rfl)
theorem dX20_lands_15 : decode cX20_lands 15 = .ok (.invokevirtual 27, 3) := dk_182 0 27 (dk_at dksX20_lands_0 15 rfl rfl)
theorem dX20_lands_18 : decode cX20_lands 18 = .ok (.isub, 1) := dk_100 (dk_at dksX20_lands_0 18 rfl rfl)
theorem dX20_lands_19 : decode cX20_lands 19 = .ok (.ireturn, 1) := dk_172 (dk_at dksX20_lands_0 19 rfl rfl)
abbrev cX20_ranks : ByteArray := prog_12_method_5_code
def yX20_ranks : MethodName := ⟨RX20, "ranks", "(I)I"⟩
def dkwX20_ranks_0 : List UInt8 := [42, 16, 61, 182, 0, 19, 42, 27, 183, 0, 30, 4, 96, 172]
abbrev dktX20_ranks_0 : List UInt8 := dkwX20_ranks_0 ++ []
theorem dksX20_ranks_0 : cX20_ranks.data.toList.drop 0 = dktX20_ranks_0 := by decide +kernel
theorem dX20_ranks_0 : decode cX20_ranks 0 = .ok (.aload_n 0, 1) := dk_42 (dk_at dksX20_ranks_0 0 rfl rfl)
theorem dX20_ranks_1 : decode cX20_ranks 1 = .ok (.bipush 61, 2) := dk_16 61 (dk_at dksX20_ranks_0 1 rfl rfl)
theorem dX20_ranks_3 : decode cX20_ranks 3 = .ok (.invokevirtual 19, 3) := dk_182 0 19 (dk_at dksX20_ranks_0 3 rfl rfl)
theorem dX20_ranks_6 : decode cX20_ranks 6 = .ok (.aload_n 0, 1) := dk_42 (dk_at dksX20_ranks_0 6 rfl rfl)
theorem dX20_ranks_7 : decode cX20_ranks 7 = .ok (.iload_n 1, 1) := dk_27 (dk_at dksX20_ranks_0 7 rfl rfl)
theorem dX20_ranks_8 : decode cX20_ranks 8 = .ok (.invokespecial 30, 3) := dk_183 0 30 (dk_at dksX20_ranks_0 8 rfl rfl)
theorem dX20_ranks_11 : decode cX20_ranks 11 = .ok (.iconst 1, 1) := dk_4 (dk_at dksX20_ranks_0 11 rfl rfl)
theorem dX20_ranks_12 : decode cX20_ranks 12 = .ok (.iadd, 1) := dk_96 (dk_at dksX20_ranks_0 12 rfl rfl)
theorem dX20_ranks_13 : decode cX20_ranks 13 = .ok (.ireturn, 1) := dk_172 (dk_at dksX20_ranks_0 13 rfl rfl)
abbrev cX20_isUnder : ByteArray := prog_12_method_3_code
def yX20_isUnder : MethodName := ⟨RX20, "isUnder", "(I)Z"⟩
def dkwX20_isUnder_0 : List UInt8 := [27, 8, 159, 0, 11, 42, 27, 183, 0, 15, 153, 0, 7, 4, 167, 0, 4, 3, 172]
abbrev dktX20_isUnder_0 : List UInt8 := dkwX20_isUnder_0 ++ []
theorem dksX20_isUnder_0 : cX20_isUnder.data.toList.drop 0 = dktX20_isUnder_0 := by decide +kernel
theorem dX20_isUnder_0 : decode cX20_isUnder 0 = .ok (.iload_n 1, 1) := dk_27 (dk_at dksX20_isUnder_0 0 rfl rfl)
theorem dX20_isUnder_1 : decode cX20_isUnder 1 = .ok (.iconst 5, 1) := dk_8 (dk_at dksX20_isUnder_0 1 rfl rfl)
theorem dX20_isUnder_2 : decode cX20_isUnder 2 = .ok (.if_icmp .eq 11, 3) := dk_159 0 11 (dk_at dksX20_isUnder_0 2 rfl rfl)
theorem dX20_isUnder_5 : decode cX20_isUnder 5 = .ok (.aload_n 0, 1) := dk_42 (dk_at dksX20_isUnder_0 5 rfl rfl)
theorem dX20_isUnder_6 : decode cX20_isUnder 6 = .ok (.iload_n 1, 1) := dk_27 (dk_at dksX20_isUnder_0 6 rfl rfl)
theorem dX20_isUnder_7 : decode cX20_isUnder 7 = .ok (.invokespecial 15, 3) := dk_183 0 15 (dk_at dksX20_isUnder_0 7 rfl rfl)
theorem dX20_isUnder_10 : decode cX20_isUnder 10 = .ok (.ifCond .eq 7, 3) := dk_153 0 7 (dk_at dksX20_isUnder_0 10 rfl rfl)
theorem dX20_isUnder_13 : decode cX20_isUnder 13 = .ok (.iconst 1, 1) := dk_4 (dk_at dksX20_isUnder_0 13 rfl rfl)
theorem dX20_isUnder_14 : decode cX20_isUnder 14 = .ok (.goto 4, 3) := dk_167 0 4 (dk_at dksX20_isUnder_0 14 rfl rfl)
theorem dX20_isUnder_17 : decode cX20_isUnder 17 = .ok (.iconst 0, 1) := dk_3 (dk_at dksX20_isUnder_0 17 rfl rfl)
theorem dX20_isUnder_18 : decode cX20_isUnder 18 = .ok (.ireturn, 1) := dk_172 (dk_at dksX20_isUnder_0 18 rfl rfl)
abbrev cX20_kind : ByteArray := prog_12_method_2_code
def yX20_kind : MethodName := ⟨RX20, "kind", "()I"⟩
theorem dX20_kind_0 : decode cX20_kind 0 = .ok (.iconst 5, 1) := by decide +kernel
theorem dX20_kind_1 : decode cX20_kind 1 = .ok (.ireturn, 1) := by decide +kernel
theorem q132 : (Jvm.Cond.initialized "HatRank$LostHat") ∈ lw_all := lw_g (lw_at lw_m1 26 rfl) rfl
theorem q937 : (Jvm.Cond.instantiable "HatRank$LostHat" (5 : Nat)) ∈ lw_all := lw_g (lw_at lw_m4 111 rfl) rfl
theorem q939 : (Jvm.Cond.instanceMethod ({ cls := "HatRank$LostHat", name := "<init>", desc := "(LHatRank;I)V" } : Jvm.MethodName)) ∈ lw_all := lw_g (lw_at lw_m4 113 rfl) rfl
theorem q940 : (Jvm.Cond.code ({ cls := "HatRank$LostHat", name := "<init>", desc := "(LHatRank;I)V" } : Jvm.MethodName) prog_12_method_1_code (3 : Nat) (Option.none : Option Jvm.ClassFile.FieldType)) ∈ lw_all := lw_g (lw_at lw_m4 114 rfl) rfl
theorem q941 : (Jvm.Cond.methodLink "HatRank$LostHat" (9 : Nat) ({ cls := "HatRank$Caught", name := "<init>", desc := "(LHatRank;I)V" } : Jvm.MethodName)) ∈ lw_all := lw_g (lw_at lw_m4 115 rfl) rfl
theorem q942 : (Jvm.Cond.fieldLink "HatRank$LostHat" (3 : Nat) "HatRank$LostHat" "this$0" "LHatRank;") ∈ lw_all := lw_g (lw_at lw_m4 116 rfl) rfl
theorem q943 : (Jvm.Cond.laysFinal "HatRank$LostHat" "HatRank$LostHat" "this$0" "LHatRank;") ∈ lw_all := lw_g (lw_at lw_m4 117 rfl) rfl
theorem q944 : (Jvm.Cond.soleField "HatRank$LostHat" "this$0") ∈ lw_all := lw_g (lw_at lw_m4 118 rfl) rfl
theorem q945 : (Jvm.Cond.laysFinal "HatRank$LostHat" "HatRank$Caught" "this$0" "LHatRank;") ∈ lw_all := lw_g (lw_at lw_m4 119 rfl) rfl
theorem q946 : (Jvm.Cond.laysFinal "HatRank$LostHat" "HatRank$Blown" "this$0" "LHatRank;") ∈ lw_all := lw_g (lw_at lw_m4 120 rfl) rfl
theorem q947 : (Jvm.Cond.laysFinal "HatRank$LostHat" "HatRank$Body" "number" "I") ∈ lw_all := lw_g (lw_at lw_m4 121 rfl) rfl
theorem q948 : (Jvm.Cond.laysFinal "HatRank$LostHat" "HatRank$Body" "this$0" "LHatRank;") ∈ lw_all := lw_g (lw_at lw_m4 122 rfl) rfl
theorem q949 : (Jvm.Cond.superclass "HatRank$LostHat" "HatRank$Caught") ∈ lw_all := lw_g (lw_at lw_m4 123 rfl) rfl
theorem q1027 : (Jvm.Cond.castable "HatRank$LostHat" "HatRank$Sits") ∈ lw_tbl := lw_at lw_m4 201 rfl
theorem q1028 : (Jvm.Cond.selects "HatRank$LostHat" ({ cls := "HatRank$Sits", name := "begins", desc := "(I)V" } : Jvm.MethodName) ({ cls := "HatRank$Body", name := "begins", desc := "(I)V" } : Jvm.MethodName)) ∈ lw_all := lw_g (lw_at lw_m4 202 rfl) rfl
theorem q1029 : (Jvm.Cond.unhidden "HatRank$LostHat" "begins" "(I)V") ∈ lw_tbl := lw_at lw_m4 203 rfl
theorem q1054 : (Jvm.Cond.selects "HatRank$LostHat" ({ cls := "HatRank$Sits", name := "number", desc := "()I" } : Jvm.MethodName) ({ cls := "HatRank$Body", name := "number", desc := "()I" } : Jvm.MethodName)) ∈ lw_all := lw_g (lw_at lw_m4 228 rfl) rfl
theorem q1055 : (Jvm.Cond.unhidden "HatRank$LostHat" "number" "()I") ∈ lw_tbl := lw_at lw_m4 229 rfl
theorem q1062 : (Jvm.Cond.unhidden "HatRank$LostHat" "sits" "(I)I") ∈ lw_tbl := lw_at lw_m4 236 rfl
theorem q1084 : (Jvm.Cond.selects "HatRank$LostHat" ({ cls := "HatRank$Blown", name := "begins", desc := "(I)V" } : Jvm.MethodName) ({ cls := "HatRank$Body", name := "begins", desc := "(I)V" } : Jvm.MethodName)) ∈ lw_all := lw_g (lw_at lw_m5 18 rfl) rfl
theorem q1092 : (Jvm.Cond.selects "HatRank$LostHat" ({ cls := "HatRank$Caught", name := "begins", desc := "(I)V" } : Jvm.MethodName) ({ cls := "HatRank$Body", name := "begins", desc := "(I)V" } : Jvm.MethodName)) ∈ lw_all := lw_g (lw_at lw_m5 26 rfl) rfl
theorem q1107 : (Jvm.Cond.selects "HatRank$LostHat" ({ cls := "HatRank$Body", name := "falls", desc := "(I)I" } : Jvm.MethodName) ({ cls := "HatRank$Caught", name := "falls", desc := "(I)I" } : Jvm.MethodName)) ∈ lw_all := lw_g (lw_at lw_m5 41 rfl) rfl
theorem q1117 : (Jvm.Cond.instanceMethod ({ cls := "HatRank$LostHat", name := "lands", desc := "(I)I" } : Jvm.MethodName)) ∈ lw_all := lw_g (lw_at lw_m5 51 rfl) rfl
theorem q1118 : (Jvm.Cond.code ({ cls := "HatRank$LostHat", name := "lands", desc := "(I)I" } : Jvm.MethodName) prog_12_method_4_code (3 : Nat) (Option.some Jvm.ClassFile.FieldType.int)) ∈ lw_all := lw_g (lw_at lw_m5 52 rfl) rfl
theorem q1119 : (Jvm.Cond.methodLink "HatRank$LostHat" (19 : Nat) ({ cls := "HatRank$LostHat", name := "begins", desc := "(I)V" } : Jvm.MethodName)) ∈ lw_all := lw_g (lw_at lw_m5 53 rfl) rfl
theorem q1120 : (Jvm.Cond.sameMethod "HatRank$LostHat" "HatRank$Body" "begins" "(I)V") ∈ lw_all := lw_g (lw_at lw_m5 54 rfl) rfl
theorem q1121 : (Jvm.Cond.selects "HatRank$LostHat" ({ cls := "HatRank$LostHat", name := "begins", desc := "(I)V" } : Jvm.MethodName) ({ cls := "HatRank$Body", name := "begins", desc := "(I)V" } : Jvm.MethodName)) ∈ lw_all := lw_g (lw_at lw_m5 55 rfl) rfl
theorem q1122 : (Jvm.Cond.methodLink "HatRank$LostHat" (23 : Nat) ({ cls := "HatRank$Caught", name := "lands", desc := "(I)I" } : Jvm.MethodName)) ∈ lw_all := lw_g (lw_at lw_m5 56 rfl) rfl
theorem q1128 : (Jvm.Cond.selects "HatRank$LostHat" ({ cls := "HatRank$Ranks", name := "ranks", desc := "(I)I" } : Jvm.MethodName) ({ cls := "HatRank$LostHat", name := "ranks", desc := "(I)I" } : Jvm.MethodName)) ∈ lw_all := lw_g (lw_at lw_m5 62 rfl) rfl
theorem q1129 : (Jvm.Cond.instanceMethod ({ cls := "HatRank$LostHat", name := "ranks", desc := "(I)I" } : Jvm.MethodName)) ∈ lw_all := lw_g (lw_at lw_m5 63 rfl) rfl
theorem q1130 : (Jvm.Cond.code ({ cls := "HatRank$LostHat", name := "ranks", desc := "(I)I" } : Jvm.MethodName) prog_12_method_5_code (2 : Nat) (Option.some Jvm.ClassFile.FieldType.int)) ∈ lw_all := lw_g (lw_at lw_m5 64 rfl) rfl
theorem q1145 : (Jvm.Cond.castable "HatRank$LostHat" "HatRank$Ranks") ∈ lw_tbl := lw_at lw_m5 79 rfl
theorem q1146 : (Jvm.Cond.selects "HatRank$LostHat" ({ cls := "HatRank$Ranks", name := "begins", desc := "(I)V" } : Jvm.MethodName) ({ cls := "HatRank$Body", name := "begins", desc := "(I)V" } : Jvm.MethodName)) ∈ lw_all := lw_g (lw_at lw_m5 80 rfl) rfl
theorem q1169 : (Jvm.Cond.selects "HatRank$LostHat" ({ cls := "HatRank$Ranks", name := "falls", desc := "(I)I" } : Jvm.MethodName) ({ cls := "HatRank$Caught", name := "falls", desc := "(I)I" } : Jvm.MethodName)) ∈ lw_all := lw_g (lw_at lw_m5 103 rfl) rfl
theorem q1170 : (Jvm.Cond.unhidden "HatRank$LostHat" "falls" "(I)I") ∈ lw_tbl := lw_at lw_m5 104 rfl
theorem q1191 : (Jvm.Cond.selects "HatRank$LostHat" ({ cls := "HatRank$Ranks", name := "lands", desc := "(I)I" } : Jvm.MethodName) ({ cls := "HatRank$LostHat", name := "lands", desc := "(I)I" } : Jvm.MethodName)) ∈ lw_all := lw_g (lw_at lw_m5 125 rfl) rfl
theorem q1192 : (Jvm.Cond.unhidden "HatRank$LostHat" "lands" "(I)I") ∈ lw_tbl := lw_at lw_m5 126 rfl
theorem q1193 : (Jvm.Cond.publicMethod ({ cls := "HatRank$LostHat", name := "lands", desc := "(I)I" } : Jvm.MethodName)) ∈ lw_tbl := lw_at lw_m5 127 rfl
theorem q1267 : (Jvm.Cond.selects "HatRank$LostHat" ({ cls := "HatRank$Body", name := "isUnder", desc := "(I)Z" } : Jvm.MethodName) ({ cls := "HatRank$LostHat", name := "isUnder", desc := "(I)Z" } : Jvm.MethodName)) ∈ lw_all := lw_g (lw_at lw_m5 201 rfl) rfl
theorem q1268 : (Jvm.Cond.instanceMethod ({ cls := "HatRank$LostHat", name := "isUnder", desc := "(I)Z" } : Jvm.MethodName)) ∈ lw_all := lw_g (lw_at lw_m5 202 rfl) rfl
theorem q1269 : (Jvm.Cond.code ({ cls := "HatRank$LostHat", name := "isUnder", desc := "(I)Z" } : Jvm.MethodName) prog_12_method_3_code (2 : Nat) (Option.some Jvm.ClassFile.FieldType.boolean)) ∈ lw_all := lw_g (lw_at lw_m5 203 rfl) rfl
theorem q1270 : (Jvm.Cond.methodLink "HatRank$LostHat" (15 : Nat) ({ cls := "HatRank$Caught", name := "isUnder", desc := "(I)Z" } : Jvm.MethodName)) ∈ lw_all := lw_g (lw_at lw_m5 204 rfl) rfl
theorem q1294 : (Jvm.Cond.selects "HatRank$LostHat" ({ cls := "HatRank$Body", name := "kind", desc := "()I" } : Jvm.MethodName) ({ cls := "HatRank$LostHat", name := "kind", desc := "()I" } : Jvm.MethodName)) ∈ lw_all := lw_g (lw_at lw_m5 228 rfl) rfl
theorem q1295 : (Jvm.Cond.instanceMethod ({ cls := "HatRank$LostHat", name := "kind", desc := "()I" } : Jvm.MethodName)) ∈ lw_all := lw_g (lw_at lw_m5 229 rfl) rfl
theorem q1296 : (Jvm.Cond.code ({ cls := "HatRank$LostHat", name := "kind", desc := "()I" } : Jvm.MethodName) prog_12_method_2_code (1 : Nat) (Option.some Jvm.ClassFile.FieldType.int)) ∈ lw_all := lw_g (lw_at lw_m5 230 rfl) rfl
theorem q1910 : (Jvm.Cond.selects "HatRank$LostHat" ({ cls := "HatRank$Body", name := "begins", desc := "(I)V" } : Jvm.MethodName) ({ cls := "HatRank$Body", name := "begins", desc := "(I)V" } : Jvm.MethodName)) ∈ lw_all := lw_g (lw_at lw_m8 124 rfl) rfl
theorem q1919 : (Jvm.Cond.selects "HatRank$LostHat" ({ cls := "HatRank$Body", name := "lands", desc := "(I)I" } : Jvm.MethodName) ({ cls := "HatRank$LostHat", name := "lands", desc := "(I)I" } : Jvm.MethodName)) ∈ lw_all := lw_g (lw_at lw_m8 133 rfl) rfl
theorem q1931 : (Jvm.Cond.castable "HatRank$LostHat" "HatRank$Body") ∈ lw_tbl := lw_at lw_m8 145 rfl
theorem q1953 : (Jvm.Cond.castable "HatRank$LostHat" "java/lang/Object") ∈ lw_tbl := lw_at lw_m8 167 rfl
theorem in_X20 : ∀ w ∈ wsX200, w ∈ lw_all := lw_in wsX200 [947, 948, 946, 945, 943] (by decide +kernel) (by decide +kernel)
/-! HatRank$NewHat -/
set_option maxRecDepth 100000
def RX21 : String := "HatRank$NewHat"
def TX21 : u_T := fun k => match k with
  | 0 => ("HatRank$Body", "number", "I", true)
  | 1 => ("HatRank$Body", "this$0", "LHatRank;", true)
  | _ => ("HatRank$NewHat", "this$0", "LHatRank;", true)
def tyX21 : Nat → FieldType := fun k => match k with
  | 0 => .int
  | 1 => .object "HatRank"
  | _ => .object "HatRank"
abbrev wsX210 : List Cond := u_ws RX21 TX21 3
-- two fields of one name: no nmX21
theorem tyX21_ok : ∀ k, k < 3 → parseFieldDescriptor (TX21 k).2.2.1 = some (tyX21 k) := by decide +kernel
abbrev cX21_init : ByteArray := prog_14_method_1_code
def yX21_init : MethodName := ⟨RX21, "<init>", "(LHatRank;I)V"⟩
def dkwX21_init_0 : List UInt8 := [42, 43, 181, 0, 3, 42, 43, 28, 183, 0, 9, 177]
abbrev dktX21_init_0 : List UInt8 := dkwX21_init_0 ++ []
theorem dksX21_init_0 : cX21_init.data.toList.drop 0 = dktX21_init_0 := by decide +kernel
theorem dX21_init_0 : decode cX21_init 0 = .ok (.aload_n 0, 1) := dk_42 (dk_at dksX21_init_0 0 rfl rfl)
theorem dX21_init_1 : decode cX21_init 1 = .ok (.aload_n 1, 1) := dk_43 (dk_at dksX21_init_0 1 rfl rfl)
theorem dX21_init_2 : decode cX21_init 2 = .ok (.putfield 3, 3) := dk_181 0 3 (dk_at dksX21_init_0 2 rfl rfl)
theorem dX21_init_5 : decode cX21_init 5 = .ok (.aload_n 0, 1) := dk_42 (dk_at dksX21_init_0 5 rfl rfl)
theorem dX21_init_6 : decode cX21_init 6 = .ok (.aload_n 1, 1) := dk_43 (dk_at dksX21_init_0 6 rfl rfl)
theorem dX21_init_7 : decode cX21_init 7 = .ok (.iload_n 2, 1) := dk_28 (dk_at dksX21_init_0 7 rfl rfl)
theorem dX21_init_8 : decode cX21_init 8 = .ok (.invokespecial 9, 3) := dk_183 0 9 (dk_at dksX21_init_0 8 rfl rfl)
theorem dX21_init_11 : decode cX21_init 11 = .ok (.return_, 1) := dk_177 (dk_at dksX21_init_0 11 rfl rfl)
abbrev cX21_sits : ByteArray := prog_14_method_4_code
def yX21_sits : MethodName := ⟨RX21, "sits", "(I)I"⟩
def dkwX21_sits_0 : List UInt8 := [42, 16, 70, 182, 0, 19, 42, 27, 183, 0, 23, 5, 104, 172]
abbrev dktX21_sits_0 : List UInt8 := dkwX21_sits_0 ++ []
theorem dksX21_sits_0 : cX21_sits.data.toList.drop 0 = dktX21_sits_0 := by decide +kernel
theorem dX21_sits_0 : decode cX21_sits 0 = .ok (.aload_n 0, 1) := dk_42 (dk_at dksX21_sits_0 0 rfl rfl)
theorem dX21_sits_1 : decode cX21_sits 1 = .ok (.bipush 70, 2) := dk_16 70 (dk_at dksX21_sits_0 1 rfl rfl)
theorem dX21_sits_3 : decode cX21_sits 3 = .ok (.invokevirtual 19, 3) := dk_182 0 19 (dk_at dksX21_sits_0 3 rfl rfl)
theorem dX21_sits_6 : decode cX21_sits 6 = .ok (.aload_n 0, 1) := dk_42 (dk_at dksX21_sits_0 6 rfl rfl)
theorem dX21_sits_7 : decode cX21_sits 7 = .ok (.iload_n 1, 1) := dk_27 (dk_at dksX21_sits_0 7 rfl rfl)
theorem dX21_sits_8 : decode cX21_sits 8 = .ok (.invokespecial 23, 3) := dk_183 0 23 (dk_at dksX21_sits_0 8 rfl rfl)
theorem dX21_sits_11 : decode cX21_sits 11 = .ok (.iconst 2, 1) := dk_5 (dk_at dksX21_sits_0 11 rfl rfl)
theorem dX21_sits_12 : decode cX21_sits 12 = .ok (.imul, 1) := dk_104 (dk_at dksX21_sits_0 12 rfl rfl)
theorem dX21_sits_13 : decode cX21_sits 13 = .ok (.ireturn, 1) := dk_172 (dk_at dksX21_sits_0 13 rfl rfl)
abbrev cX21_isUnder : ByteArray := prog_14_method_3_code
def yX21_isUnder : MethodName := ⟨RX21, "isUnder", "(I)Z"⟩
def dkwX21_isUnder_0 : List UInt8 := [27, 16, 6, 159, 0, 11, 42, 27, 183, 0, 15, 153, 0, 7, 4, 167, 0, 4, 3, 172]
abbrev dktX21_isUnder_0 : List UInt8 := dkwX21_isUnder_0 ++ []
theorem dksX21_isUnder_0 : cX21_isUnder.data.toList.drop 0 = dktX21_isUnder_0 := by decide +kernel
theorem dX21_isUnder_0 : decode cX21_isUnder 0 = .ok (.iload_n 1, 1) := dk_27 (dk_at dksX21_isUnder_0 0 rfl rfl)
theorem dX21_isUnder_1 : decode cX21_isUnder 1 = .ok (.bipush 6, 2) := dk_16 6 (dk_at dksX21_isUnder_0 1 rfl rfl)
theorem dX21_isUnder_3 : decode cX21_isUnder 3 = .ok (.if_icmp .eq 11, 3) := dk_159 0 11 (dk_at dksX21_isUnder_0 3 rfl rfl)
theorem dX21_isUnder_6 : decode cX21_isUnder 6 = .ok (.aload_n 0, 1) := dk_42 (dk_at dksX21_isUnder_0 6 rfl rfl)
theorem dX21_isUnder_7 : decode cX21_isUnder 7 = .ok (.iload_n 1, 1) := dk_27 (dk_at dksX21_isUnder_0 7 rfl rfl)
theorem dX21_isUnder_8 : decode cX21_isUnder 8 = .ok (.invokespecial 15, 3) := dk_183 0 15 (dk_at dksX21_isUnder_0 8 rfl rfl)
theorem dX21_isUnder_11 : decode cX21_isUnder 11 = .ok (.ifCond .eq 7, 3) := dk_153 0 7 (dk_at dksX21_isUnder_0 11 rfl rfl)
theorem dX21_isUnder_14 : decode cX21_isUnder 14 = .ok (.iconst 1, 1) := dk_4 (dk_at dksX21_isUnder_0 14 rfl rfl)
theorem dX21_isUnder_15 : decode cX21_isUnder 15 = .ok (.goto 4, 3) := dk_167 0 4 (dk_at dksX21_isUnder_0 15 rfl rfl)
theorem dX21_isUnder_18 : decode cX21_isUnder 18 = .ok (.iconst 0, 1) := dk_3 (dk_at dksX21_isUnder_0 18 rfl rfl)
theorem dX21_isUnder_19 : decode cX21_isUnder 19 = .ok (.ireturn, 1) := dk_172 (dk_at dksX21_isUnder_0 19 rfl rfl)
abbrev cX21_kind : ByteArray := prog_14_method_2_code
def yX21_kind : MethodName := ⟨RX21, "kind", "()I"⟩
theorem dX21_kind_0 : decode cX21_kind 0 = .ok (.bipush 6, 2) := by decide +kernel
theorem dX21_kind_2 : decode cX21_kind 2 = .ok (.ireturn, 1) := by decide +kernel
theorem q133 : (Jvm.Cond.initialized "HatRank$NewHat") ∈ lw_all := lw_g (lw_at lw_m1 27 rfl) rfl
theorem q951 : (Jvm.Cond.instantiable "HatRank$NewHat" (3 : Nat)) ∈ lw_all := lw_g (lw_at lw_m4 125 rfl) rfl
theorem q953 : (Jvm.Cond.instanceMethod ({ cls := "HatRank$NewHat", name := "<init>", desc := "(LHatRank;I)V" } : Jvm.MethodName)) ∈ lw_all := lw_g (lw_at lw_m4 127 rfl) rfl
theorem q954 : (Jvm.Cond.code ({ cls := "HatRank$NewHat", name := "<init>", desc := "(LHatRank;I)V" } : Jvm.MethodName) prog_14_method_1_code (3 : Nat) (Option.none : Option Jvm.ClassFile.FieldType)) ∈ lw_all := lw_g (lw_at lw_m4 128 rfl) rfl
theorem q955 : (Jvm.Cond.methodLink "HatRank$NewHat" (9 : Nat) ({ cls := "HatRank$Body", name := "<init>", desc := "(LHatRank;I)V" } : Jvm.MethodName)) ∈ lw_all := lw_g (lw_at lw_m4 129 rfl) rfl
theorem q956 : (Jvm.Cond.fieldLink "HatRank$NewHat" (3 : Nat) "HatRank$NewHat" "this$0" "LHatRank;") ∈ lw_all := lw_g (lw_at lw_m4 130 rfl) rfl
theorem q957 : (Jvm.Cond.laysFinal "HatRank$NewHat" "HatRank$NewHat" "this$0" "LHatRank;") ∈ lw_all := lw_g (lw_at lw_m4 131 rfl) rfl
theorem q958 : (Jvm.Cond.soleField "HatRank$NewHat" "this$0") ∈ lw_all := lw_g (lw_at lw_m4 132 rfl) rfl
theorem q959 : (Jvm.Cond.laysFinal "HatRank$NewHat" "HatRank$Body" "number" "I") ∈ lw_all := lw_g (lw_at lw_m4 133 rfl) rfl
theorem q960 : (Jvm.Cond.laysFinal "HatRank$NewHat" "HatRank$Body" "this$0" "LHatRank;") ∈ lw_all := lw_g (lw_at lw_m4 134 rfl) rfl
theorem q961 : (Jvm.Cond.superclass "HatRank$NewHat" "HatRank$Body") ∈ lw_all := lw_g (lw_at lw_m4 135 rfl) rfl
theorem q1002 : (Jvm.Cond.instanceMethod ({ cls := "HatRank$NewHat", name := "sits", desc := "(I)I" } : Jvm.MethodName)) ∈ lw_all := lw_g (lw_at lw_m4 176 rfl) rfl
theorem q1003 : (Jvm.Cond.code ({ cls := "HatRank$NewHat", name := "sits", desc := "(I)I" } : Jvm.MethodName) prog_14_method_4_code (2 : Nat) (Option.some Jvm.ClassFile.FieldType.int)) ∈ lw_all := lw_g (lw_at lw_m4 177 rfl) rfl
theorem q1004 : (Jvm.Cond.methodLink "HatRank$NewHat" (19 : Nat) ({ cls := "HatRank$NewHat", name := "begins", desc := "(I)V" } : Jvm.MethodName)) ∈ lw_all := lw_g (lw_at lw_m4 178 rfl) rfl
theorem q1005 : (Jvm.Cond.sameMethod "HatRank$NewHat" "HatRank$Body" "begins" "(I)V") ∈ lw_all := lw_g (lw_at lw_m4 179 rfl) rfl
theorem q1007 : (Jvm.Cond.selects "HatRank$NewHat" ({ cls := "HatRank$NewHat", name := "begins", desc := "(I)V" } : Jvm.MethodName) ({ cls := "HatRank$Body", name := "begins", desc := "(I)V" } : Jvm.MethodName)) ∈ lw_all := lw_g (lw_at lw_m4 181 rfl) rfl
theorem q1030 : (Jvm.Cond.castable "HatRank$NewHat" "HatRank$Sits") ∈ lw_tbl := lw_at lw_m4 204 rfl
theorem q1031 : (Jvm.Cond.selects "HatRank$NewHat" ({ cls := "HatRank$Sits", name := "begins", desc := "(I)V" } : Jvm.MethodName) ({ cls := "HatRank$Body", name := "begins", desc := "(I)V" } : Jvm.MethodName)) ∈ lw_all := lw_g (lw_at lw_m4 205 rfl) rfl
theorem q1032 : (Jvm.Cond.unhidden "HatRank$NewHat" "begins" "(I)V") ∈ lw_tbl := lw_at lw_m4 206 rfl
theorem q1056 : (Jvm.Cond.selects "HatRank$NewHat" ({ cls := "HatRank$Sits", name := "number", desc := "()I" } : Jvm.MethodName) ({ cls := "HatRank$Body", name := "number", desc := "()I" } : Jvm.MethodName)) ∈ lw_all := lw_g (lw_at lw_m4 230 rfl) rfl
theorem q1057 : (Jvm.Cond.unhidden "HatRank$NewHat" "number" "()I") ∈ lw_tbl := lw_at lw_m4 231 rfl
theorem q1063 : (Jvm.Cond.selects "HatRank$NewHat" ({ cls := "HatRank$Sits", name := "sits", desc := "(I)I" } : Jvm.MethodName) ({ cls := "HatRank$NewHat", name := "sits", desc := "(I)I" } : Jvm.MethodName)) ∈ lw_all := lw_g (lw_at lw_m4 237 rfl) rfl
theorem q1098 : (Jvm.Cond.sameMethod "HatRank$NewHat" "HatRank$Body" "falls" "(I)I") ∈ lw_all := lw_g (lw_at lw_m5 32 rfl) rfl
theorem q1108 : (Jvm.Cond.selects "HatRank$NewHat" ({ cls := "HatRank$Body", name := "falls", desc := "(I)I" } : Jvm.MethodName) ({ cls := "HatRank$Body", name := "falls", desc := "(I)I" } : Jvm.MethodName)) ∈ lw_all := lw_g (lw_at lw_m5 42 rfl) rfl
theorem q1147 : (Jvm.Cond.castable "HatRank$NewHat" "HatRank$Ranks") ∈ lw_tbl := lw_at lw_m5 81 rfl
theorem q1148 : (Jvm.Cond.selects "HatRank$NewHat" ({ cls := "HatRank$Ranks", name := "begins", desc := "(I)V" } : Jvm.MethodName) ({ cls := "HatRank$Body", name := "begins", desc := "(I)V" } : Jvm.MethodName)) ∈ lw_all := lw_g (lw_at lw_m5 82 rfl) rfl
theorem q1171 : (Jvm.Cond.selects "HatRank$NewHat" ({ cls := "HatRank$Ranks", name := "falls", desc := "(I)I" } : Jvm.MethodName) ({ cls := "HatRank$Body", name := "falls", desc := "(I)I" } : Jvm.MethodName)) ∈ lw_all := lw_g (lw_at lw_m5 105 rfl) rfl
theorem q1172 : (Jvm.Cond.unhidden "HatRank$NewHat" "falls" "(I)I") ∈ lw_tbl := lw_at lw_m5 106 rfl
theorem q1194 : (Jvm.Cond.selects "HatRank$NewHat" ({ cls := "HatRank$Ranks", name := "lands", desc := "(I)I" } : Jvm.MethodName) ({ cls := "HatRank$Body", name := "lands", desc := "(I)I" } : Jvm.MethodName)) ∈ lw_all := lw_g (lw_at lw_m5 128 rfl) rfl
theorem q1195 : (Jvm.Cond.unhidden "HatRank$NewHat" "lands" "(I)I") ∈ lw_tbl := lw_at lw_m5 129 rfl
theorem q1200 : (Jvm.Cond.unhidden "HatRank$NewHat" "ranks" "(I)I") ∈ lw_tbl := lw_at lw_m5 134 rfl
theorem q1264 : (Jvm.Cond.instanceMethod ({ cls := "HatRank$NewHat", name := "isUnder", desc := "(I)Z" } : Jvm.MethodName)) ∈ lw_all := lw_g (lw_at lw_m5 198 rfl) rfl
theorem q1265 : (Jvm.Cond.code ({ cls := "HatRank$NewHat", name := "isUnder", desc := "(I)Z" } : Jvm.MethodName) prog_14_method_3_code (2 : Nat) (Option.some Jvm.ClassFile.FieldType.boolean)) ∈ lw_all := lw_g (lw_at lw_m5 199 rfl) rfl
theorem q1266 : (Jvm.Cond.methodLink "HatRank$NewHat" (15 : Nat) ({ cls := "HatRank$Body", name := "isUnder", desc := "(I)Z" } : Jvm.MethodName)) ∈ lw_all := lw_g (lw_at lw_m5 200 rfl) rfl
theorem q1271 : (Jvm.Cond.selects "HatRank$NewHat" ({ cls := "HatRank$Body", name := "isUnder", desc := "(I)Z" } : Jvm.MethodName) ({ cls := "HatRank$NewHat", name := "isUnder", desc := "(I)Z" } : Jvm.MethodName)) ∈ lw_all := lw_g (lw_at lw_m5 205 rfl) rfl
theorem q1297 : (Jvm.Cond.selects "HatRank$NewHat" ({ cls := "HatRank$Body", name := "kind", desc := "()I" } : Jvm.MethodName) ({ cls := "HatRank$NewHat", name := "kind", desc := "()I" } : Jvm.MethodName)) ∈ lw_all := lw_g (lw_at lw_m5 231 rfl) rfl
theorem q1298 : (Jvm.Cond.instanceMethod ({ cls := "HatRank$NewHat", name := "kind", desc := "()I" } : Jvm.MethodName)) ∈ lw_all := lw_g (lw_at lw_m5 232 rfl) rfl
theorem q1299 : (Jvm.Cond.code ({ cls := "HatRank$NewHat", name := "kind", desc := "()I" } : Jvm.MethodName) prog_14_method_2_code (1 : Nat) (Option.some Jvm.ClassFile.FieldType.int)) ∈ lw_all := lw_g (lw_at lw_m5 233 rfl) rfl
theorem q1903 : (Jvm.Cond.sameMethod "HatRank$NewHat" "HatRank$NewHat" "sits" "(I)I") ∈ lw_all := lw_g (lw_at lw_m8 117 rfl) rfl
theorem q1911 : (Jvm.Cond.selects "HatRank$NewHat" ({ cls := "HatRank$Body", name := "begins", desc := "(I)V" } : Jvm.MethodName) ({ cls := "HatRank$Body", name := "begins", desc := "(I)V" } : Jvm.MethodName)) ∈ lw_all := lw_g (lw_at lw_m8 125 rfl) rfl
theorem q1921 : (Jvm.Cond.selects "HatRank$NewHat" ({ cls := "HatRank$Body", name := "lands", desc := "(I)I" } : Jvm.MethodName) ({ cls := "HatRank$Body", name := "lands", desc := "(I)I" } : Jvm.MethodName)) ∈ lw_all := lw_g (lw_at lw_m8 135 rfl) rfl
theorem q1925 : (Jvm.Cond.sameMethod "HatRank$NewHat" "HatRank$NewHat" "isUnder" "(I)Z") ∈ lw_all := lw_g (lw_at lw_m8 139 rfl) rfl
theorem q1932 : (Jvm.Cond.castable "HatRank$NewHat" "HatRank$Body") ∈ lw_tbl := lw_at lw_m8 146 rfl
theorem q1954 : (Jvm.Cond.castable "HatRank$NewHat" "java/lang/Object") ∈ lw_tbl := lw_at lw_m8 168 rfl
theorem in_X21 : ∀ w ∈ wsX210, w ∈ lw_all := lw_in wsX210 [959, 960, 957] (by decide +kernel) (by decide +kernel)
/-! HatRank$Crown -/
set_option maxRecDepth 100000
def RX22 : String := "HatRank$Crown"
def TX22 : u_T := fun k => match k with
  | 0 => ("HatRank$Body", "number", "I", true)
  | 1 => ("HatRank$Body", "this$0", "LHatRank;", true)
  | 2 => ("HatRank$NewHat", "this$0", "LHatRank;", true)
  | _ => ("HatRank$Crown", "this$0", "LHatRank;", true)
def tyX22 : Nat → FieldType := fun k => match k with
  | 0 => .int
  | 1 => .object "HatRank"
  | 2 => .object "HatRank"
  | _ => .object "HatRank"
abbrev wsX220 : List Cond := u_ws RX22 TX22 4
-- two fields of one name: no nmX22
theorem tyX22_ok : ∀ k, k < 4 → parseFieldDescriptor (TX22 k).2.2.1 = some (tyX22 k) := by decide +kernel
abbrev cX22_init : ByteArray := prog_7_method_1_code
def yX22_init : MethodName := ⟨RX22, "<init>", "(LHatRank;I)V"⟩
def dkwX22_init_0 : List UInt8 := [42, 43, 181, 0, 3, 42, 43, 28, 183, 0, 9, 177]
abbrev dktX22_init_0 : List UInt8 := dkwX22_init_0 ++ []
theorem dksX22_init_0 : cX22_init.data.toList.drop 0 = dktX22_init_0 := by decide +kernel
theorem dX22_init_0 : decode cX22_init 0 = .ok (.aload_n 0, 1) := dk_42 (dk_at dksX22_init_0 0 rfl rfl)
theorem dX22_init_1 : decode cX22_init 1 = .ok (.aload_n 1, 1) := dk_43 (dk_at dksX22_init_0 1 rfl rfl)
theorem dX22_init_2 : decode cX22_init 2 = .ok (.putfield 3, 3) := dk_181 0 3 (dk_at dksX22_init_0 2 rfl rfl)
theorem dX22_init_5 : decode cX22_init 5 = .ok (.aload_n 0, 1) := dk_42 (dk_at dksX22_init_0 5 rfl rfl)
theorem dX22_init_6 : decode cX22_init 6 = .ok (.aload_n 1, 1) := dk_43 (dk_at dksX22_init_0 6 rfl rfl)
theorem dX22_init_7 : decode cX22_init 7 = .ok (.iload_n 2, 1) := dk_28 (dk_at dksX22_init_0 7 rfl rfl)
theorem dX22_init_8 : decode cX22_init 8 = .ok (.invokespecial 9, 3) := dk_183 0 9 (dk_at dksX22_init_0 8 rfl rfl)
theorem dX22_init_11 : decode cX22_init 11 = .ok (.return_, 1) := dk_177 (dk_at dksX22_init_0 11 rfl rfl)
abbrev cX22_sits : ByteArray := prog_7_method_5_code
def yX22_sits : MethodName := ⟨RX22, "sits", "(I)I"⟩
def dkwX22_sits_0 : List UInt8 := [42, 16, 81, 182, 0, 19, 42, 27, 183, 0, 30, 4, 100, 172]
abbrev dktX22_sits_0 : List UInt8 := dkwX22_sits_0 ++ []
theorem dksX22_sits_0 : cX22_sits.data.toList.drop 0 = dktX22_sits_0 := by decide +kernel
theorem dX22_sits_0 : decode cX22_sits 0 = .ok (.aload_n 0, 1) := dk_42 (dk_at dksX22_sits_0 0 rfl rfl)
theorem dX22_sits_1 : decode cX22_sits 1 = .ok (.bipush 81, 2) := dk_16 81 (dk_at dksX22_sits_0 1 rfl rfl)
theorem dX22_sits_3 : decode cX22_sits 3 = .ok (.invokevirtual 19, 3) := dk_182 0 19 (dk_at dksX22_sits_0 3 rfl rfl)
theorem dX22_sits_6 : decode cX22_sits 6 = .ok (.aload_n 0, 1) := dk_42 (dk_at dksX22_sits_0 6 rfl rfl)
theorem dX22_sits_7 : decode cX22_sits 7 = .ok (.iload_n 1, 1) := dk_27 (dk_at dksX22_sits_0 7 rfl rfl)
theorem dX22_sits_8 : decode cX22_sits 8 = .ok (.invokespecial 30, 3) := dk_183 0 30 (dk_at dksX22_sits_0 8 rfl rfl)
theorem dX22_sits_11 : decode cX22_sits 11 = .ok (.iconst 1, 1) := dk_4 (dk_at dksX22_sits_0 11 rfl rfl)
theorem dX22_sits_12 : decode cX22_sits 12 = .ok (.isub, 1) := dk_100 (dk_at dksX22_sits_0 12 rfl rfl)
theorem dX22_sits_13 : decode cX22_sits 13 = .ok (.ireturn, 1) := dk_172 (dk_at dksX22_sits_0 13 rfl rfl)
abbrev cX22_falls : ByteArray := prog_7_method_4_code
def yX22_falls : MethodName := ⟨RX22, "falls", "(I)I"⟩
def dkwX22_falls_0 : List UInt8 := [42, 16, 80, 182, 0, 19, 42, 27, 183, 0, 23, 61, 28, 42, 5, 182, 0, 27, 96, 172]
abbrev dktX22_falls_0 : List UInt8 := dkwX22_falls_0 ++ []
theorem dksX22_falls_0 : cX22_falls.data.toList.drop 0 = dktX22_falls_0 := by decide +kernel
theorem dX22_falls_0 : decode cX22_falls 0 = .ok (.aload_n 0, 1) := dk_42 (dk_at dksX22_falls_0 0 rfl rfl)
theorem dX22_falls_1 : decode cX22_falls 1 = .ok (.bipush 80, 2) := dk_16 80 (dk_at dksX22_falls_0 1 rfl rfl)
theorem dX22_falls_3 : decode cX22_falls 3 = .ok (.invokevirtual 19, 3) := dk_182 0 19 (dk_at dksX22_falls_0 3 rfl rfl)
theorem dX22_falls_6 : decode cX22_falls 6 = .ok (.aload_n 0, 1) := dk_42 (dk_at dksX22_falls_0 6 rfl rfl)
theorem dX22_falls_7 : decode cX22_falls 7 = .ok (.iload_n 1, 1) := dk_27 (dk_at dksX22_falls_0 7 rfl rfl)
theorem dX22_falls_8 : decode cX22_falls 8 = .ok (.invokespecial 23, 3) := dk_183 0 23 (dk_at dksX22_falls_0 8 rfl rfl)
theorem dX22_falls_11 : decode cX22_falls 11 = .ok (.istore_n 2, 1) := dk_61 (dk_at dksX22_falls_0 11 rfl rfl)
theorem dX22_falls_12 : decode cX22_falls 12 = .ok (.iload_n 2, 1) := dk_28 (dk_at dksX22_falls_0 12 rfl rfl)
theorem dX22_falls_13 : decode cX22_falls 13 = .ok (.aload_n 0, 1) := dk_42 (dk_at dksX22_falls_0 13 rfl rfl)
theorem dX22_falls_14 : decode cX22_falls 14 = .ok (.iconst 2, 1) := dk_5 (dk_at dksX22_falls_0 14 rfl rfl)
theorem dX22_falls_15 : decode cX22_falls 15 = .ok (.invokevirtual 27, 3) := dk_182 0 27 (dk_at dksX22_falls_0 15 rfl rfl)
theorem dX22_falls_18 : decode cX22_falls 18 = .ok (.iadd, 1) := dk_96 (dk_at dksX22_falls_0 18 rfl rfl)
theorem dX22_falls_19 : decode cX22_falls 19 = .ok (.ireturn, 1) := dk_172 (dk_at dksX22_falls_0 19 rfl rfl)
abbrev cX22_isUnder : ByteArray := prog_7_method_3_code
def yX22_isUnder : MethodName := ⟨RX22, "isUnder", "(I)Z"⟩
def dkwX22_isUnder_0 : List UInt8 := [27, 16, 7, 159, 0, 11, 42, 27, 183, 0, 15, 153, 0, 7, 4, 167, 0, 4, 3, 172]
abbrev dktX22_isUnder_0 : List UInt8 := dkwX22_isUnder_0 ++ []
theorem dksX22_isUnder_0 : cX22_isUnder.data.toList.drop 0 = dktX22_isUnder_0 := by decide +kernel
theorem dX22_isUnder_0 : decode cX22_isUnder 0 = .ok (.iload_n 1, 1) := dk_27 (dk_at dksX22_isUnder_0 0 rfl rfl)
theorem dX22_isUnder_1 : decode cX22_isUnder 1 = .ok (.bipush 7, 2) := dk_16 7 (dk_at dksX22_isUnder_0 1 rfl rfl)
theorem dX22_isUnder_3 : decode cX22_isUnder 3 = .ok (.if_icmp .eq 11, 3) := dk_159 0 11 (dk_at dksX22_isUnder_0 3 rfl rfl)
theorem dX22_isUnder_6 : decode cX22_isUnder 6 = .ok (.aload_n 0, 1) := dk_42 (dk_at dksX22_isUnder_0 6 rfl rfl)
theorem dX22_isUnder_7 : decode cX22_isUnder 7 = .ok (.iload_n 1, 1) := dk_27 (dk_at dksX22_isUnder_0 7 rfl rfl)
theorem dX22_isUnder_8 : decode cX22_isUnder 8 = .ok (.invokespecial 15, 3) := dk_183 0 15 (dk_at dksX22_isUnder_0 8 rfl rfl)
theorem dX22_isUnder_11 : decode cX22_isUnder 11 = .ok (.ifCond .eq 7, 3) := dk_153 0 7 (dk_at dksX22_isUnder_0 11 rfl rfl)
theorem dX22_isUnder_14 : decode cX22_isUnder 14 = .ok (.iconst 1, 1) := dk_4 (dk_at dksX22_isUnder_0 14 rfl rfl)
theorem dX22_isUnder_15 : decode cX22_isUnder 15 = .ok (.goto 4, 3) := dk_167 0 4 (dk_at dksX22_isUnder_0 15 rfl rfl)
theorem dX22_isUnder_18 : decode cX22_isUnder 18 = .ok (.iconst 0, 1) := dk_3 (dk_at dksX22_isUnder_0 18 rfl rfl)
theorem dX22_isUnder_19 : decode cX22_isUnder 19 = .ok (.ireturn, 1) := dk_172 (dk_at dksX22_isUnder_0 19 rfl rfl)
abbrev cX22_kind : ByteArray := prog_7_method_2_code
def yX22_kind : MethodName := ⟨RX22, "kind", "()I"⟩
theorem dX22_kind_0 : decode cX22_kind 0 = .ok (.bipush 7, 2) := by decide +kernel
theorem dX22_kind_2 : decode cX22_kind 2 = .ok (.ireturn, 1) := by decide +kernel
theorem q134 : (Jvm.Cond.initialized "HatRank$Crown") ∈ lw_all := lw_g (lw_at lw_m1 28 rfl) rfl
theorem q963 : (Jvm.Cond.instantiable "HatRank$Crown" (4 : Nat)) ∈ lw_all := lw_g (lw_at lw_m4 137 rfl) rfl
theorem q965 : (Jvm.Cond.instanceMethod ({ cls := "HatRank$Crown", name := "<init>", desc := "(LHatRank;I)V" } : Jvm.MethodName)) ∈ lw_all := lw_g (lw_at lw_m4 139 rfl) rfl
theorem q966 : (Jvm.Cond.code ({ cls := "HatRank$Crown", name := "<init>", desc := "(LHatRank;I)V" } : Jvm.MethodName) prog_7_method_1_code (3 : Nat) (Option.none : Option Jvm.ClassFile.FieldType)) ∈ lw_all := lw_g (lw_at lw_m4 140 rfl) rfl
theorem q967 : (Jvm.Cond.methodLink "HatRank$Crown" (9 : Nat) ({ cls := "HatRank$NewHat", name := "<init>", desc := "(LHatRank;I)V" } : Jvm.MethodName)) ∈ lw_all := lw_g (lw_at lw_m4 141 rfl) rfl
theorem q968 : (Jvm.Cond.fieldLink "HatRank$Crown" (3 : Nat) "HatRank$Crown" "this$0" "LHatRank;") ∈ lw_all := lw_g (lw_at lw_m4 142 rfl) rfl
theorem q969 : (Jvm.Cond.laysFinal "HatRank$Crown" "HatRank$Crown" "this$0" "LHatRank;") ∈ lw_all := lw_g (lw_at lw_m4 143 rfl) rfl
theorem q970 : (Jvm.Cond.soleField "HatRank$Crown" "this$0") ∈ lw_all := lw_g (lw_at lw_m4 144 rfl) rfl
theorem q971 : (Jvm.Cond.laysFinal "HatRank$Crown" "HatRank$NewHat" "this$0" "LHatRank;") ∈ lw_all := lw_g (lw_at lw_m4 145 rfl) rfl
theorem q972 : (Jvm.Cond.laysFinal "HatRank$Crown" "HatRank$Body" "number" "I") ∈ lw_all := lw_g (lw_at lw_m4 146 rfl) rfl
theorem q973 : (Jvm.Cond.laysFinal "HatRank$Crown" "HatRank$Body" "this$0" "LHatRank;") ∈ lw_all := lw_g (lw_at lw_m4 147 rfl) rfl
theorem q974 : (Jvm.Cond.superclass "HatRank$Crown" "HatRank$NewHat") ∈ lw_all := lw_g (lw_at lw_m4 148 rfl) rfl
theorem q992 : (Jvm.Cond.selects "HatRank$Crown" ({ cls := "HatRank$Sits", name := "sits", desc := "(I)I" } : Jvm.MethodName) ({ cls := "HatRank$Crown", name := "sits", desc := "(I)I" } : Jvm.MethodName)) ∈ lw_all := lw_g (lw_at lw_m4 166 rfl) rfl
theorem q993 : (Jvm.Cond.instanceMethod ({ cls := "HatRank$Crown", name := "sits", desc := "(I)I" } : Jvm.MethodName)) ∈ lw_all := lw_g (lw_at lw_m4 167 rfl) rfl
theorem q994 : (Jvm.Cond.code ({ cls := "HatRank$Crown", name := "sits", desc := "(I)I" } : Jvm.MethodName) prog_7_method_5_code (2 : Nat) (Option.some Jvm.ClassFile.FieldType.int)) ∈ lw_all := lw_g (lw_at lw_m4 168 rfl) rfl
theorem q995 : (Jvm.Cond.methodLink "HatRank$Crown" (19 : Nat) ({ cls := "HatRank$Crown", name := "begins", desc := "(I)V" } : Jvm.MethodName)) ∈ lw_all := lw_g (lw_at lw_m4 169 rfl) rfl
theorem q996 : (Jvm.Cond.sameMethod "HatRank$Crown" "HatRank$Body" "begins" "(I)V") ∈ lw_all := lw_g (lw_at lw_m4 170 rfl) rfl
theorem q998 : (Jvm.Cond.selects "HatRank$Crown" ({ cls := "HatRank$Crown", name := "begins", desc := "(I)V" } : Jvm.MethodName) ({ cls := "HatRank$Body", name := "begins", desc := "(I)V" } : Jvm.MethodName)) ∈ lw_all := lw_g (lw_at lw_m4 172 rfl) rfl
theorem q1001 : (Jvm.Cond.methodLink "HatRank$Crown" (30 : Nat) ({ cls := "HatRank$NewHat", name := "sits", desc := "(I)I" } : Jvm.MethodName)) ∈ lw_all := lw_g (lw_at lw_m4 175 rfl) rfl
theorem q1006 : (Jvm.Cond.selects "HatRank$Crown" ({ cls := "HatRank$NewHat", name := "begins", desc := "(I)V" } : Jvm.MethodName) ({ cls := "HatRank$Body", name := "begins", desc := "(I)V" } : Jvm.MethodName)) ∈ lw_all := lw_g (lw_at lw_m4 180 rfl) rfl
theorem q1024 : (Jvm.Cond.castable "HatRank$Crown" "HatRank$Sits") ∈ lw_tbl := lw_at lw_m4 198 rfl
theorem q1025 : (Jvm.Cond.selects "HatRank$Crown" ({ cls := "HatRank$Sits", name := "begins", desc := "(I)V" } : Jvm.MethodName) ({ cls := "HatRank$Body", name := "begins", desc := "(I)V" } : Jvm.MethodName)) ∈ lw_all := lw_g (lw_at lw_m4 199 rfl) rfl
theorem q1026 : (Jvm.Cond.unhidden "HatRank$Crown" "begins" "(I)V") ∈ lw_tbl := lw_at lw_m4 200 rfl
theorem q1052 : (Jvm.Cond.selects "HatRank$Crown" ({ cls := "HatRank$Sits", name := "number", desc := "()I" } : Jvm.MethodName) ({ cls := "HatRank$Body", name := "number", desc := "()I" } : Jvm.MethodName)) ∈ lw_all := lw_g (lw_at lw_m4 226 rfl) rfl
theorem q1053 : (Jvm.Cond.unhidden "HatRank$Crown" "number" "()I") ∈ lw_tbl := lw_at lw_m4 227 rfl
theorem q1094 : (Jvm.Cond.selects "HatRank$Crown" ({ cls := "HatRank$Body", name := "falls", desc := "(I)I" } : Jvm.MethodName) ({ cls := "HatRank$Crown", name := "falls", desc := "(I)I" } : Jvm.MethodName)) ∈ lw_all := lw_g (lw_at lw_m5 28 rfl) rfl
theorem q1095 : (Jvm.Cond.instanceMethod ({ cls := "HatRank$Crown", name := "falls", desc := "(I)I" } : Jvm.MethodName)) ∈ lw_all := lw_g (lw_at lw_m5 29 rfl) rfl
theorem q1096 : (Jvm.Cond.code ({ cls := "HatRank$Crown", name := "falls", desc := "(I)I" } : Jvm.MethodName) prog_7_method_4_code (3 : Nat) (Option.some Jvm.ClassFile.FieldType.int)) ∈ lw_all := lw_g (lw_at lw_m5 30 rfl) rfl
theorem q1097 : (Jvm.Cond.methodLink "HatRank$Crown" (23 : Nat) ({ cls := "HatRank$NewHat", name := "falls", desc := "(I)I" } : Jvm.MethodName)) ∈ lw_all := lw_g (lw_at lw_m5 31 rfl) rfl
theorem q1100 : (Jvm.Cond.methodLink "HatRank$Crown" (27 : Nat) ({ cls := "HatRank$Crown", name := "lands", desc := "(I)I" } : Jvm.MethodName)) ∈ lw_all := lw_g (lw_at lw_m5 34 rfl) rfl
theorem q1101 : (Jvm.Cond.sameMethod "HatRank$Crown" "HatRank$Body" "lands" "(I)I") ∈ lw_all := lw_g (lw_at lw_m5 35 rfl) rfl
theorem q1103 : (Jvm.Cond.selects "HatRank$Crown" ({ cls := "HatRank$Crown", name := "lands", desc := "(I)I" } : Jvm.MethodName) ({ cls := "HatRank$Body", name := "lands", desc := "(I)I" } : Jvm.MethodName)) ∈ lw_all := lw_g (lw_at lw_m5 37 rfl) rfl
theorem q1127 : (Jvm.Cond.unhidden "HatRank$Crown" "ranks" "(I)I") ∈ lw_tbl := lw_at lw_m5 61 rfl
theorem q1143 : (Jvm.Cond.castable "HatRank$Crown" "HatRank$Ranks") ∈ lw_tbl := lw_at lw_m5 77 rfl
theorem q1144 : (Jvm.Cond.selects "HatRank$Crown" ({ cls := "HatRank$Ranks", name := "begins", desc := "(I)V" } : Jvm.MethodName) ({ cls := "HatRank$Body", name := "begins", desc := "(I)V" } : Jvm.MethodName)) ∈ lw_all := lw_g (lw_at lw_m5 78 rfl) rfl
theorem q1166 : (Jvm.Cond.selects "HatRank$Crown" ({ cls := "HatRank$Ranks", name := "falls", desc := "(I)I" } : Jvm.MethodName) ({ cls := "HatRank$Crown", name := "falls", desc := "(I)I" } : Jvm.MethodName)) ∈ lw_all := lw_g (lw_at lw_m5 100 rfl) rfl
theorem q1167 : (Jvm.Cond.unhidden "HatRank$Crown" "falls" "(I)I") ∈ lw_tbl := lw_at lw_m5 101 rfl
theorem q1168 : (Jvm.Cond.publicMethod ({ cls := "HatRank$Crown", name := "falls", desc := "(I)I" } : Jvm.MethodName)) ∈ lw_tbl := lw_at lw_m5 102 rfl
theorem q1189 : (Jvm.Cond.selects "HatRank$Crown" ({ cls := "HatRank$Ranks", name := "lands", desc := "(I)I" } : Jvm.MethodName) ({ cls := "HatRank$Body", name := "lands", desc := "(I)I" } : Jvm.MethodName)) ∈ lw_all := lw_g (lw_at lw_m5 123 rfl) rfl
theorem q1190 : (Jvm.Cond.unhidden "HatRank$Crown" "lands" "(I)I") ∈ lw_tbl := lw_at lw_m5 124 rfl
theorem q1260 : (Jvm.Cond.selects "HatRank$Crown" ({ cls := "HatRank$Body", name := "isUnder", desc := "(I)Z" } : Jvm.MethodName) ({ cls := "HatRank$Crown", name := "isUnder", desc := "(I)Z" } : Jvm.MethodName)) ∈ lw_all := lw_g (lw_at lw_m5 194 rfl) rfl
theorem q1261 : (Jvm.Cond.instanceMethod ({ cls := "HatRank$Crown", name := "isUnder", desc := "(I)Z" } : Jvm.MethodName)) ∈ lw_all := lw_g (lw_at lw_m5 195 rfl) rfl
theorem q1262 : (Jvm.Cond.code ({ cls := "HatRank$Crown", name := "isUnder", desc := "(I)Z" } : Jvm.MethodName) prog_7_method_3_code (2 : Nat) (Option.some Jvm.ClassFile.FieldType.boolean)) ∈ lw_all := lw_g (lw_at lw_m5 196 rfl) rfl
theorem q1263 : (Jvm.Cond.methodLink "HatRank$Crown" (15 : Nat) ({ cls := "HatRank$NewHat", name := "isUnder", desc := "(I)Z" } : Jvm.MethodName)) ∈ lw_all := lw_g (lw_at lw_m5 197 rfl) rfl
theorem q1291 : (Jvm.Cond.selects "HatRank$Crown" ({ cls := "HatRank$Body", name := "kind", desc := "()I" } : Jvm.MethodName) ({ cls := "HatRank$Crown", name := "kind", desc := "()I" } : Jvm.MethodName)) ∈ lw_all := lw_g (lw_at lw_m5 225 rfl) rfl
theorem q1292 : (Jvm.Cond.instanceMethod ({ cls := "HatRank$Crown", name := "kind", desc := "()I" } : Jvm.MethodName)) ∈ lw_all := lw_g (lw_at lw_m5 226 rfl) rfl
theorem q1293 : (Jvm.Cond.code ({ cls := "HatRank$Crown", name := "kind", desc := "()I" } : Jvm.MethodName) prog_7_method_2_code (1 : Nat) (Option.some Jvm.ClassFile.FieldType.int)) ∈ lw_all := lw_g (lw_at lw_m5 227 rfl) rfl
theorem q1909 : (Jvm.Cond.selects "HatRank$Crown" ({ cls := "HatRank$Body", name := "begins", desc := "(I)V" } : Jvm.MethodName) ({ cls := "HatRank$Body", name := "begins", desc := "(I)V" } : Jvm.MethodName)) ∈ lw_all := lw_g (lw_at lw_m8 123 rfl) rfl
theorem q1918 : (Jvm.Cond.selects "HatRank$Crown" ({ cls := "HatRank$Body", name := "lands", desc := "(I)I" } : Jvm.MethodName) ({ cls := "HatRank$Body", name := "lands", desc := "(I)I" } : Jvm.MethodName)) ∈ lw_all := lw_g (lw_at lw_m8 132 rfl) rfl
theorem q1930 : (Jvm.Cond.castable "HatRank$Crown" "HatRank$Body") ∈ lw_tbl := lw_at lw_m8 144 rfl
theorem q1955 : (Jvm.Cond.castable "HatRank$Crown" "java/lang/Object") ∈ lw_tbl := lw_at lw_m8 169 rfl
theorem in_X22 : ∀ w ∈ wsX220, w ∈ lw_all := lw_in wsX220 [972, 973, 971, 969] (by decide +kernel) (by decide +kernel)
/-! HatRank$Sits -/
set_option maxRecDepth 100000
def RX23 : String := "HatRank$Sits"
abbrev cX23_sits : ByteArray := prog_20_method_3_code
def yX23_sits : MethodName := ⟨RX23, "sits", "(I)I"⟩
def dkwX23_sits_0 : List UInt8 := [42, 4, 185, 0, 1, 2, 0, 27, 42, 185, 0, 7, 1, 0, 96, 172]
abbrev dktX23_sits_0 : List UInt8 := dkwX23_sits_0 ++ []
theorem dksX23_sits_0 : cX23_sits.data.toList.drop 0 = dktX23_sits_0 := by decide +kernel
theorem dX23_sits_0 : decode cX23_sits 0 = .ok (.aload_n 0, 1) := dk_42 (dk_at dksX23_sits_0 0 rfl rfl)
theorem dX23_sits_1 : decode cX23_sits 1 = .ok (.iconst 1, 1) := dk_4 (dk_at dksX23_sits_0 1 rfl rfl)
theorem dX23_sits_2 : decode cX23_sits 2 = .ok (.invokeinterface 1 2, 5) := by decide +kernel
theorem dX23_sits_7 : decode cX23_sits 7 = .ok (.iload_n 1, 1) := dk_27 (dk_at dksX23_sits_0 7 rfl rfl)
theorem dX23_sits_8 : decode cX23_sits 8 = .ok (.aload_n 0, 1) := dk_42 (dk_at dksX23_sits_0 8 rfl rfl)
theorem dX23_sits_9 : decode cX23_sits 9 = .ok (.invokeinterface 7 1, 5) := by decide +kernel
theorem dX23_sits_14 : decode cX23_sits 14 = .ok (.iadd, 1) := dk_96 (dk_at dksX23_sits_0 14 rfl rfl)
theorem dX23_sits_15 : decode cX23_sits 15 = .ok (.ireturn, 1) := dk_172 (dk_at dksX23_sits_0 15 rfl rfl)
theorem q988 : (Jvm.Cond.declares ({ cls := "HatRank$Sits", name := "sits", desc := "(I)I" } : Jvm.MethodName)) ∈ lw_tbl := lw_at lw_m4 162 rfl
theorem q1008 : (Jvm.Cond.instanceMethod ({ cls := "HatRank$Sits", name := "sits", desc := "(I)I" } : Jvm.MethodName)) ∈ lw_all := lw_g (lw_at lw_m4 182 rfl) rfl
theorem q1009 : (Jvm.Cond.code ({ cls := "HatRank$Sits", name := "sits", desc := "(I)I" } : Jvm.MethodName) prog_20_method_3_code (2 : Nat) (Option.some Jvm.ClassFile.FieldType.int)) ∈ lw_all := lw_g (lw_at lw_m4 183 rfl) rfl
theorem q1010 : (Jvm.Cond.interfaceEntry "HatRank$Sits" (1 : Nat)) ∈ lw_tbl := lw_at lw_m4 184 rfl
theorem q1011 : (Jvm.Cond.methodLink "HatRank$Sits" (1 : Nat) ({ cls := "HatRank$Sits", name := "begins", desc := "(I)V" } : Jvm.MethodName)) ∈ lw_all := lw_g (lw_at lw_m4 185 rfl) rfl
theorem q1012 : (Jvm.Cond.interfaceMethod "HatRank$Sits" "HatRank$Sits" "begins" "(I)V") ∈ lw_tbl := lw_at lw_m4 186 rfl
theorem q1013 : (Jvm.Cond.declares ({ cls := "HatRank$Sits", name := "begins", desc := "(I)V" } : Jvm.MethodName)) ∈ lw_tbl := lw_at lw_m4 187 rfl
theorem q1039 : (Jvm.Cond.interfaceEntry "HatRank$Sits" (7 : Nat)) ∈ lw_tbl := lw_at lw_m4 213 rfl
theorem q1040 : (Jvm.Cond.methodLink "HatRank$Sits" (7 : Nat) ({ cls := "HatRank$Sits", name := "number", desc := "()I" } : Jvm.MethodName)) ∈ lw_all := lw_g (lw_at lw_m4 214 rfl) rfl
theorem q1041 : (Jvm.Cond.interfaceMethod "HatRank$Sits" "HatRank$Sits" "number" "()I") ∈ lw_tbl := lw_at lw_m4 215 rfl
theorem q1042 : (Jvm.Cond.declares ({ cls := "HatRank$Sits", name := "number", desc := "()I" } : Jvm.MethodName)) ∈ lw_tbl := lw_at lw_m4 216 rfl
theorem q1072 : (Jvm.Cond.publicMethod ({ cls := "HatRank$Sits", name := "sits", desc := "(I)I" } : Jvm.MethodName)) ∈ lw_tbl := lw_at lw_m5 6 rfl
/-! HatRank$Ranks -/
set_option maxRecDepth 100000
def RX24 : String := "HatRank$Ranks"
abbrev cX24_ranks : ByteArray := prog_18_method_4_code
def yX24_ranks : MethodName := ⟨RX24, "ranks", "(I)I"⟩
def dkwX24_ranks_1 : List UInt8 := [172]
abbrev dktX24_ranks_1 : List UInt8 := dkwX24_ranks_1 ++ []
def dkwX24_ranks_0 : List UInt8 := [42, 5, 185, 0, 1, 2, 0, 42, 27, 185, 0, 7, 2, 0, 61, 28, 42, 4, 185, 0, 11, 2, 0, 100]
abbrev dktX24_ranks_0 : List UInt8 := dkwX24_ranks_0 ++ dktX24_ranks_1
theorem dksX24_ranks_0 : cX24_ranks.data.toList.drop 0 = dktX24_ranks_0 := by decide +kernel
theorem dksX24_ranks_1 : cX24_ranks.data.toList.drop 24 = dktX24_ranks_1 := dk_seg dksX24_ranks_0 24 rfl rfl
theorem dX24_ranks_0 : decode cX24_ranks 0 = .ok (.aload_n 0, 1) := dk_42 (dk_at dksX24_ranks_0 0 rfl rfl)
theorem dX24_ranks_1 : decode cX24_ranks 1 = .ok (.iconst 2, 1) := dk_5 (dk_at dksX24_ranks_0 1 rfl rfl)
theorem dX24_ranks_2 : decode cX24_ranks 2 = .ok (.invokeinterface 1 2, 5) := by decide +kernel
theorem dX24_ranks_7 : decode cX24_ranks 7 = .ok (.aload_n 0, 1) := dk_42 (dk_at dksX24_ranks_0 7 rfl rfl)
theorem dX24_ranks_8 : decode cX24_ranks 8 = .ok (.iload_n 1, 1) := dk_27 (dk_at dksX24_ranks_0 8 rfl rfl)
theorem dX24_ranks_9 : decode cX24_ranks 9 = .ok (.invokeinterface 7 2, 5) := by decide +kernel
theorem dX24_ranks_14 : decode cX24_ranks 14 = .ok (.istore_n 2, 1) := dk_61 (dk_at dksX24_ranks_0 14 rfl rfl)
theorem dX24_ranks_15 : decode cX24_ranks 15 = .ok (.iload_n 2, 1) := dk_28 (dk_at dksX24_ranks_0 15 rfl rfl)
theorem dX24_ranks_16 : decode cX24_ranks 16 = .ok (.aload_n 0, 1) := dk_42 (dk_at dksX24_ranks_0 16 rfl rfl)
theorem dX24_ranks_17 : decode cX24_ranks 17 = .ok (.iconst 1, 1) := dk_4 (dk_at dksX24_ranks_0 17 rfl rfl)
theorem dX24_ranks_18 : decode cX24_ranks 18 = .ok (.invokeinterface 11 2, 5) := by decide +kernel
theorem dX24_ranks_23 : decode cX24_ranks 23 = .ok (.isub, 1) := dk_100 (dk_at dksX24_ranks_0 23 rfl rfl)
theorem dX24_ranks_24 : decode cX24_ranks 24 = .ok (.ireturn, 1) := dk_172 (dk_at dksX24_ranks_1 0 rfl rfl)
theorem q1123 : (Jvm.Cond.declares ({ cls := "HatRank$Ranks", name := "ranks", desc := "(I)I" } : Jvm.MethodName)) ∈ lw_tbl := lw_at lw_m5 57 rfl
theorem q1131 : (Jvm.Cond.instanceMethod ({ cls := "HatRank$Ranks", name := "ranks", desc := "(I)I" } : Jvm.MethodName)) ∈ lw_all := lw_g (lw_at lw_m5 65 rfl) rfl
theorem q1132 : (Jvm.Cond.code ({ cls := "HatRank$Ranks", name := "ranks", desc := "(I)I" } : Jvm.MethodName) prog_18_method_4_code (3 : Nat) (Option.some Jvm.ClassFile.FieldType.int)) ∈ lw_all := lw_g (lw_at lw_m5 66 rfl) rfl
theorem q1133 : (Jvm.Cond.interfaceEntry "HatRank$Ranks" (1 : Nat)) ∈ lw_tbl := lw_at lw_m5 67 rfl
theorem q1134 : (Jvm.Cond.methodLink "HatRank$Ranks" (1 : Nat) ({ cls := "HatRank$Ranks", name := "begins", desc := "(I)V" } : Jvm.MethodName)) ∈ lw_all := lw_g (lw_at lw_m5 68 rfl) rfl
theorem q1135 : (Jvm.Cond.interfaceMethod "HatRank$Ranks" "HatRank$Ranks" "begins" "(I)V") ∈ lw_tbl := lw_at lw_m5 69 rfl
theorem q1136 : (Jvm.Cond.declares ({ cls := "HatRank$Ranks", name := "begins", desc := "(I)V" } : Jvm.MethodName)) ∈ lw_tbl := lw_at lw_m5 70 rfl
theorem q1153 : (Jvm.Cond.interfaceEntry "HatRank$Ranks" (7 : Nat)) ∈ lw_tbl := lw_at lw_m5 87 rfl
theorem q1154 : (Jvm.Cond.methodLink "HatRank$Ranks" (7 : Nat) ({ cls := "HatRank$Ranks", name := "falls", desc := "(I)I" } : Jvm.MethodName)) ∈ lw_all := lw_g (lw_at lw_m5 88 rfl) rfl
theorem q1155 : (Jvm.Cond.interfaceMethod "HatRank$Ranks" "HatRank$Ranks" "falls" "(I)I") ∈ lw_tbl := lw_at lw_m5 89 rfl
theorem q1156 : (Jvm.Cond.declares ({ cls := "HatRank$Ranks", name := "falls", desc := "(I)I" } : Jvm.MethodName)) ∈ lw_tbl := lw_at lw_m5 90 rfl
theorem q1177 : (Jvm.Cond.interfaceEntry "HatRank$Ranks" (11 : Nat)) ∈ lw_tbl := lw_at lw_m5 111 rfl
theorem q1178 : (Jvm.Cond.methodLink "HatRank$Ranks" (11 : Nat) ({ cls := "HatRank$Ranks", name := "lands", desc := "(I)I" } : Jvm.MethodName)) ∈ lw_all := lw_g (lw_at lw_m5 112 rfl) rfl
theorem q1179 : (Jvm.Cond.interfaceMethod "HatRank$Ranks" "HatRank$Ranks" "lands" "(I)I") ∈ lw_tbl := lw_at lw_m5 113 rfl
theorem q1180 : (Jvm.Cond.declares ({ cls := "HatRank$Ranks", name := "lands", desc := "(I)I" } : Jvm.MethodName)) ∈ lw_tbl := lw_at lw_m5 114 rfl
theorem q1208 : (Jvm.Cond.publicMethod ({ cls := "HatRank$Ranks", name := "ranks", desc := "(I)I" } : Jvm.MethodName)) ∈ lw_tbl := lw_at lw_m5 142 rfl
theorem q106 : (Jvm.Cond.initialized "HatRankLaw") ∈ lw_all := lw_g (lw_at lw_m1 0 rfl) rfl
set_option maxRecDepth 100000
theorem q135 : (Jvm.Cond.methodLink "HatRankLaw" (115 : Nat) ({ cls := "HatRank", name := "undo", desc := "()I" } : Jvm.MethodName)) ∈ lw_all := lw_g (lw_at lw_m1 29 rfl) rfl
theorem q139 : (Jvm.Cond.methodLink "HatRankLaw" (119 : Nat) ({ cls := "HatRank", name := "redo", desc := "()I" } : Jvm.MethodName)) ∈ lw_all := lw_g (lw_at lw_m1 33 rfl) rfl
theorem q143 : (Jvm.Cond.classLink "HatRankLaw" (7 : Nat) "HatRank") ∈ lw_all := lw_g (lw_at lw_m1 37 rfl) rfl
theorem q145 : (Jvm.Cond.methodLink "HatRankLaw" (9 : Nat) ({ cls := "HatRank", name := "<init>", desc := "()V" } : Jvm.MethodName)) ∈ lw_all := lw_g (lw_at lw_m1 39 rfl) rfl
theorem q401 : (Jvm.Cond.methodLink "HatRankLaw" (40 : Nat) ({ cls := "HatRank", name := "feed", desc := "(I)I" } : Jvm.MethodName)) ∈ lw_all := lw_g (lw_at lw_m2 55 rfl) rfl
theorem q409 : (Jvm.Cond.methodLink "HatRankLaw" (13 : Nat) ({ cls := "HatRank", name := "place", desc := "(I)I" } : Jvm.MethodName)) ∈ lw_all := lw_g (lw_at lw_m2 63 rfl) rfl
theorem q429 : (Jvm.Cond.methodLink "HatRankLaw" (18 : Nat) ({ cls := "HatRank", name := "way", desc := "(I)I" } : Jvm.MethodName)) ∈ lw_all := lw_g (lw_at lw_m2 83 rfl) rfl
theorem q441 : (Jvm.Cond.methodLink "HatRankLaw" (22 : Nat) ({ cls := "HatRank", name := "person", desc := "(II)I" } : Jvm.MethodName)) ∈ lw_all := lw_g (lw_at lw_m2 95 rfl) rfl
theorem q469 : (Jvm.Cond.methodLink "HatRankLaw" (27 : Nat) ({ cls := "HatRank", name := "people", desc := "(III)I" } : Jvm.MethodName)) ∈ lw_all := lw_g (lw_at lw_m2 123 rfl) rfl
theorem q492 : (Jvm.Cond.methodLink "HatRankLaw" (32 : Nat) ({ cls := "HatRank", name := "mend", desc := "(III)I" } : Jvm.MethodName)) ∈ lw_all := lw_g (lw_at lw_m2 146 rfl) rfl
theorem q508 : (Jvm.Cond.methodLink "HatRankLaw" (36 : Nat) ({ cls := "HatRank", name := "of", desc := "(II)I" } : Jvm.MethodName)) ∈ lw_all := lw_g (lw_at lw_m2 162 rfl) rfl
theorem q587 : (Jvm.Cond.methodLink "HatRankLaw" (44 : Nat) ({ cls := "HatRank", name := "law", desc := "()I" } : Jvm.MethodName)) ∈ lw_all := lw_g (lw_at lw_m3 1 rfl) rfl
theorem q715 : (Jvm.Cond.methodLink "HatRankLaw" (49 : Nat) ({ cls := "HatRank", name := "go", desc := "(II)I" } : Jvm.MethodName)) ∈ lw_all := lw_g (lw_at lw_m3 129 rfl) rfl
theorem q741 : (Jvm.Cond.methodLink "HatRankLaw" (53 : Nat) ({ cls := "HatRank", name := "move", desc := "(II)I" } : Jvm.MethodName)) ∈ lw_all := lw_g (lw_at lw_m3 155 rfl) rfl
theorem q745 : (Jvm.Cond.methodLink "HatRankLaw" (57 : Nat) ({ cls := "HatRank", name := "lay", desc := "(I)I" } : Jvm.MethodName)) ∈ lw_all := lw_g (lw_at lw_m3 159 rfl) rfl
theorem q749 : (Jvm.Cond.methodLink "HatRankLaw" (61 : Nat) ({ cls := "HatRank", name := "commands", desc := "()I" } : Jvm.MethodName)) ∈ lw_all := lw_g (lw_at lw_m3 163 rfl) rfl
theorem q757 : (Jvm.Cond.methodLink "HatRankLaw" (65 : Nat) ({ cls := "HatRank", name := "led", desc := "(I)I" } : Jvm.MethodName)) ∈ lw_all := lw_g (lw_at lw_m3 171 rfl) rfl
theorem q761 : (Jvm.Cond.methodLink "HatRankLaw" (69 : Nat) ({ cls := "HatRank", name := "risk", desc := "(II)I" } : Jvm.MethodName)) ∈ lw_all := lw_g (lw_at lw_m3 175 rfl) rfl
theorem q781 : (Jvm.Cond.methodLink "HatRankLaw" (73 : Nat) ({ cls := "HatRank", name := "walk", desc := "(III)I" } : Jvm.MethodName)) ∈ lw_all := lw_g (lw_at lw_m3 195 rfl) rfl
theorem q785 : (Jvm.Cond.methodLink "HatRankLaw" (77 : Nat) ({ cls := "HatRank", name := "chance", desc := "(III)J" } : Jvm.MethodName)) ∈ lw_all := lw_g (lw_at lw_m3 199 rfl) rfl
theorem q825 : (Jvm.Cond.methodLink "HatRankLaw" (82 : Nat) ({ cls := "HatRank", name := "mean", desc := "(III)J" } : Jvm.MethodName)) ∈ lw_all := lw_g (lw_at lw_m3 239 rfl) rfl
theorem q829 : (Jvm.Cond.methodLink "HatRankLaw" (86 : Nat) ({ cls := "HatRank", name := "stand", desc := "(II)I" } : Jvm.MethodName)) ∈ lw_all := lw_g (lw_at lw_m4 3 rfl) rfl
theorem q833 : (Jvm.Cond.methodLink "HatRankLaw" (90 : Nat) ({ cls := "HatRank", name := "heavy", desc := "(II)I" } : Jvm.MethodName)) ∈ lw_all := lw_g (lw_at lw_m4 7 rfl) rfl
theorem q837 : (Jvm.Cond.methodLink "HatRankLaw" (94 : Nat) ({ cls := "HatRank", name := "ahead", desc := "(IIII)I" } : Jvm.MethodName)) ∈ lw_all := lw_g (lw_at lw_m4 11 rfl) rfl
theorem q849 : (Jvm.Cond.methodLink "HatRankLaw" (99 : Nat) ({ cls := "HatRank", name := "storm", desc := "(I)I" } : Jvm.MethodName)) ∈ lw_all := lw_g (lw_at lw_m4 23 rfl) rfl
theorem q853 : (Jvm.Cond.methodLink "HatRankLaw" (103 : Nat) ({ cls := "HatRank", name := "seeded", desc := "(II)I" } : Jvm.MethodName)) ∈ lw_all := lw_g (lw_at lw_m4 27 rfl) rfl
theorem q861 : (Jvm.Cond.methodLink "HatRankLaw" (107 : Nat) ({ cls := "HatRank", name := "image", desc := "()I" } : Jvm.MethodName)) ∈ lw_all := lw_g (lw_at lw_m4 35 rfl) rfl
theorem q865 : (Jvm.Cond.methodLink "HatRankLaw" (111 : Nat) ({ cls := "HatRank", name := "back", desc := "()I" } : Jvm.MethodName)) ∈ lw_all := lw_g (lw_at lw_m4 39 rfl) rfl
theorem q870 : (Jvm.Cond.methodLink "HatRankLaw" (123 : Nat) ({ cls := "HatRank", name := "body", desc := "(I)I" } : Jvm.MethodName)) ∈ lw_all := lw_g (lw_at lw_m4 44 rfl) rfl
theorem q980 : (Jvm.Cond.methodLink "HatRankLaw" (127 : Nat) ({ cls := "HatRank", name := "act", desc := "(III)I" } : Jvm.MethodName)) ∈ lw_all := lw_g (lw_at lw_m4 154 rfl) rfl
theorem q1209 : (Jvm.Cond.methodLink "HatRankLaw" (131 : Nat) ({ cls := "HatRank", name := "trace", desc := "(I)I" } : Jvm.MethodName)) ∈ lw_all := lw_g (lw_at lw_m5 143 rfl) rfl
theorem q1213 : (Jvm.Cond.methodLink "HatRankLaw" (135 : Nat) ({ cls := "HatRank", name := "keep", desc := "(II)I" } : Jvm.MethodName)) ∈ lw_all := lw_g (lw_at lw_m5 147 rfl) rfl
theorem q1217 : (Jvm.Cond.methodLink "HatRankLaw" (139 : Nat) ({ cls := "HatRank", name := "row", desc := "(III)I" } : Jvm.MethodName)) ∈ lw_all := lw_g (lw_at lw_m5 151 rfl) rfl
theorem q1225 : (Jvm.Cond.methodLink "HatRankLaw" (145 : Nat) ({ cls := "HatRank", name := "put", desc := "(IIJ)I" } : Jvm.MethodName)) ∈ lw_all := lw_g (lw_at lw_m5 159 rfl) rfl
theorem q1236 : (Jvm.Cond.methodLink "HatRankLaw" (150 : Nat) ({ cls := "HatRank", name := "element", desc := "(II)J" } : Jvm.MethodName)) ∈ lw_all := lw_g (lw_at lw_m5 170 rfl) rfl
theorem q1240 : (Jvm.Cond.methodLink "HatRankLaw" (155 : Nat) ({ cls := "HatRank", name := "shift", desc := "(IIIII)I" } : Jvm.MethodName)) ∈ lw_all := lw_g (lw_at lw_m5 174 rfl) rfl
theorem q1244 : (Jvm.Cond.methodLink "HatRankLaw" (160 : Nat) ({ cls := "HatRank", name := "taken", desc := "(II)I" } : Jvm.MethodName)) ∈ lw_all := lw_g (lw_at lw_m5 178 rfl) rfl
theorem q1307 : (Jvm.Cond.methodLink "HatRankLaw" (164 : Nat) ({ cls := "HatRank", name := "count", desc := "(I)I" } : Jvm.MethodName)) ∈ lw_all := lw_g (lw_at lw_m6 1 rfl) rfl
theorem q1311 : (Jvm.Cond.classLink "HatRankLaw" (10 : Nat) "HatRankModel") ∈ lw_all := lw_g (lw_at lw_m6 5 rfl) rfl
theorem q1313 : (Jvm.Cond.methodLink "HatRankLaw" (12 : Nat) ({ cls := "HatRankModel", name := "<init>", desc := "()V" } : Jvm.MethodName)) ∈ lw_all := lw_g (lw_at lw_m6 7 rfl) rfl
theorem q1506 : (Jvm.Cond.methodLink "HatRankLaw" (17 : Nat) ({ cls := "HatRankModel", name := "place", desc := "(I)I" } : Jvm.MethodName)) ∈ lw_all := lw_g (lw_at lw_m6 200 rfl) rfl
theorem q1513 : (Jvm.Cond.methodLink "HatRankLaw" (21 : Nat) ({ cls := "HatRankModel", name := "way", desc := "(I)I" } : Jvm.MethodName)) ∈ lw_all := lw_g (lw_at lw_m6 207 rfl) rfl
theorem q1525 : (Jvm.Cond.methodLink "HatRankLaw" (26 : Nat) ({ cls := "HatRankModel", name := "person", desc := "(II)I" } : Jvm.MethodName)) ∈ lw_all := lw_g (lw_at lw_m6 219 rfl) rfl
theorem q1533 : (Jvm.Cond.methodLink "HatRankLaw" (31 : Nat) ({ cls := "HatRankModel", name := "people", desc := "(III)I" } : Jvm.MethodName)) ∈ lw_all := lw_g (lw_at lw_m6 227 rfl) rfl
theorem q1541 : (Jvm.Cond.methodLink "HatRankLaw" (118 : Nat) ({ cls := "HatRankModel", name := "undo", desc := "()I" } : Jvm.MethodName)) ∈ lw_all := lw_g (lw_at lw_m6 235 rfl) rfl
theorem q1549 : (Jvm.Cond.methodLink "HatRankLaw" (122 : Nat) ({ cls := "HatRankModel", name := "redo", desc := "()I" } : Jvm.MethodName)) ∈ lw_all := lw_g (lw_at lw_m7 3 rfl) rfl
theorem q1553 : (Jvm.Cond.methodLink "HatRankLaw" (35 : Nat) ({ cls := "HatRankModel", name := "mend", desc := "(III)I" } : Jvm.MethodName)) ∈ lw_all := lw_g (lw_at lw_m7 7 rfl) rfl
theorem q1572 : (Jvm.Cond.methodLink "HatRankLaw" (43 : Nat) ({ cls := "HatRankModel", name := "feed", desc := "(I)I" } : Jvm.MethodName)) ∈ lw_all := lw_g (lw_at lw_m7 26 rfl) rfl
theorem q1576 : (Jvm.Cond.methodLink "HatRankLaw" (48 : Nat) ({ cls := "HatRankModel", name := "law", desc := "()I" } : Jvm.MethodName)) ∈ lw_all := lw_g (lw_at lw_m7 30 rfl) rfl
theorem q1635 : (Jvm.Cond.methodLink "HatRankLaw" (39 : Nat) ({ cls := "HatRankModel", name := "of", desc := "(II)I" } : Jvm.MethodName)) ∈ lw_all := lw_g (lw_at lw_m7 89 rfl) rfl
theorem q1670 : (Jvm.Cond.methodLink "HatRankLaw" (52 : Nat) ({ cls := "HatRankModel", name := "go", desc := "(II)I" } : Jvm.MethodName)) ∈ lw_all := lw_g (lw_at lw_m7 124 rfl) rfl
theorem q1691 : (Jvm.Cond.methodLink "HatRankLaw" (56 : Nat) ({ cls := "HatRankModel", name := "move", desc := "(II)I" } : Jvm.MethodName)) ∈ lw_all := lw_g (lw_at lw_m7 145 rfl) rfl
theorem q1695 : (Jvm.Cond.methodLink "HatRankLaw" (60 : Nat) ({ cls := "HatRankModel", name := "lay", desc := "(I)I" } : Jvm.MethodName)) ∈ lw_all := lw_g (lw_at lw_m7 149 rfl) rfl
theorem q1699 : (Jvm.Cond.methodLink "HatRankLaw" (64 : Nat) ({ cls := "HatRankModel", name := "commands", desc := "()I" } : Jvm.MethodName)) ∈ lw_all := lw_g (lw_at lw_m7 153 rfl) rfl
theorem q1707 : (Jvm.Cond.methodLink "HatRankLaw" (68 : Nat) ({ cls := "HatRankModel", name := "led", desc := "(I)I" } : Jvm.MethodName)) ∈ lw_all := lw_g (lw_at lw_m7 161 rfl) rfl
theorem q1711 : (Jvm.Cond.methodLink "HatRankLaw" (72 : Nat) ({ cls := "HatRankModel", name := "risk", desc := "(II)I" } : Jvm.MethodName)) ∈ lw_all := lw_g (lw_at lw_m7 165 rfl) rfl
theorem q1728 : (Jvm.Cond.methodLink "HatRankLaw" (76 : Nat) ({ cls := "HatRankModel", name := "walk", desc := "(III)I" } : Jvm.MethodName)) ∈ lw_all := lw_g (lw_at lw_m7 182 rfl) rfl
theorem q1732 : (Jvm.Cond.methodLink "HatRankLaw" (81 : Nat) ({ cls := "HatRankModel", name := "chance", desc := "(III)J" } : Jvm.MethodName)) ∈ lw_all := lw_g (lw_at lw_m7 186 rfl) rfl
theorem q1766 : (Jvm.Cond.methodLink "HatRankLaw" (85 : Nat) ({ cls := "HatRankModel", name := "mean", desc := "(III)J" } : Jvm.MethodName)) ∈ lw_all := lw_g (lw_at lw_m7 220 rfl) rfl
theorem q1770 : (Jvm.Cond.methodLink "HatRankLaw" (89 : Nat) ({ cls := "HatRankModel", name := "stand", desc := "(II)I" } : Jvm.MethodName)) ∈ lw_all := lw_g (lw_at lw_m7 224 rfl) rfl
theorem q1774 : (Jvm.Cond.methodLink "HatRankLaw" (93 : Nat) ({ cls := "HatRankModel", name := "heavy", desc := "(II)I" } : Jvm.MethodName)) ∈ lw_all := lw_g (lw_at lw_m7 228 rfl) rfl
theorem q1778 : (Jvm.Cond.methodLink "HatRankLaw" (98 : Nat) ({ cls := "HatRankModel", name := "ahead", desc := "(IIII)I" } : Jvm.MethodName)) ∈ lw_all := lw_g (lw_at lw_m7 232 rfl) rfl
theorem q1786 : (Jvm.Cond.methodLink "HatRankLaw" (102 : Nat) ({ cls := "HatRankModel", name := "storm", desc := "(I)I" } : Jvm.MethodName)) ∈ lw_all := lw_g (lw_at lw_m8 0 rfl) rfl
theorem q1790 : (Jvm.Cond.methodLink "HatRankLaw" (106 : Nat) ({ cls := "HatRankModel", name := "seeded", desc := "(II)I" } : Jvm.MethodName)) ∈ lw_all := lw_g (lw_at lw_m8 4 rfl) rfl
theorem q1794 : (Jvm.Cond.methodLink "HatRankLaw" (110 : Nat) ({ cls := "HatRankModel", name := "image", desc := "()I" } : Jvm.MethodName)) ∈ lw_all := lw_g (lw_at lw_m8 8 rfl) rfl
theorem q1798 : (Jvm.Cond.methodLink "HatRankLaw" (114 : Nat) ({ cls := "HatRankModel", name := "back", desc := "()I" } : Jvm.MethodName)) ∈ lw_all := lw_g (lw_at lw_m8 12 rfl) rfl
theorem q1802 : (Jvm.Cond.methodLink "HatRankLaw" (134 : Nat) ({ cls := "HatRankModel", name := "trace", desc := "(I)I" } : Jvm.MethodName)) ∈ lw_all := lw_g (lw_at lw_m8 16 rfl) rfl
theorem q1806 : (Jvm.Cond.methodLink "HatRankLaw" (126 : Nat) ({ cls := "HatRankModel", name := "body", desc := "(I)I" } : Jvm.MethodName)) ∈ lw_all := lw_g (lw_at lw_m8 20 rfl) rfl
theorem q1810 : (Jvm.Cond.methodLink "HatRankLaw" (130 : Nat) ({ cls := "HatRankModel", name := "act", desc := "(III)I" } : Jvm.MethodName)) ∈ lw_all := lw_g (lw_at lw_m8 24 rfl) rfl
theorem q1869 : (Jvm.Cond.methodLink "HatRankLaw" (167 : Nat) ({ cls := "HatRankModel", name := "count", desc := "(I)I" } : Jvm.MethodName)) ∈ lw_all := lw_g (lw_at lw_m8 83 rfl) rfl
theorem q1873 : (Jvm.Cond.methodLink "HatRankLaw" (138 : Nat) ({ cls := "HatRankModel", name := "keep", desc := "(II)I" } : Jvm.MethodName)) ∈ lw_all := lw_g (lw_at lw_m8 87 rfl) rfl
theorem q1877 : (Jvm.Cond.methodLink "HatRankLaw" (142 : Nat) ({ cls := "HatRankModel", name := "row", desc := "(III)I" } : Jvm.MethodName)) ∈ lw_all := lw_g (lw_at lw_m8 91 rfl) rfl
theorem q1881 : (Jvm.Cond.methodLink "HatRankLaw" (149 : Nat) ({ cls := "HatRankModel", name := "put", desc := "(IIJ)I" } : Jvm.MethodName)) ∈ lw_all := lw_g (lw_at lw_m8 95 rfl) rfl
theorem q1889 : (Jvm.Cond.methodLink "HatRankLaw" (154 : Nat) ({ cls := "HatRankModel", name := "element", desc := "(II)J" } : Jvm.MethodName)) ∈ lw_all := lw_g (lw_at lw_m8 103 rfl) rfl
theorem q1893 : (Jvm.Cond.methodLink "HatRankLaw" (159 : Nat) ({ cls := "HatRankModel", name := "shift", desc := "(IIIII)I" } : Jvm.MethodName)) ∈ lw_all := lw_g (lw_at lw_m8 107 rfl) rfl
theorem q1897 : (Jvm.Cond.methodLink "HatRankLaw" (163 : Nat) ({ cls := "HatRankModel", name := "taken", desc := "(II)I" } : Jvm.MethodName)) ∈ lw_all := lw_g (lw_at lw_m8 111 rfl) rfl
theorem q1901 : (Jvm.Cond.constantLong "HatRankLaw" (143 : Nat) (4294967295 : Int64)) ∈ lw_all := lw_g (lw_at lw_m8 115 rfl) rfl
theorem q1966 : (Jvm.Cond.castable "[B" "java/lang/Object") ∈ lw_tbl := lw_at lw_m8 180 rfl
set_option maxRecDepth 100000
theorem q1959 : (Jvm.Cond.castable "[I" "java/lang/Object") ∈ lw_tbl := lw_at lw_m8 173 rfl
set_option maxRecDepth 100000
theorem q1968 : (Jvm.Cond.castable "[J" "java/lang/Object") ∈ lw_tbl := lw_at lw_m8 182 rfl
set_option maxRecDepth 100000
theorem q1964 : (Jvm.Cond.castable "[LHatRank$Body;" "java/lang/Object") ∈ lw_tbl := lw_at lw_m8 178 rfl
set_option maxRecDepth 100000
theorem q1958 : (Jvm.Cond.castable "[LHatRank$Change;" "java/lang/Object") ∈ lw_tbl := lw_at lw_m8 172 rfl
set_option maxRecDepth 100000
theorem q1962 : (Jvm.Cond.castable "[LHatRank$Held;" "java/lang/Object") ∈ lw_tbl := lw_at lw_m8 176 rfl
set_option maxRecDepth 100000
theorem q1961 : (Jvm.Cond.castable "[LHatRank$Person;" "java/lang/Object") ∈ lw_tbl := lw_at lw_m8 175 rfl
set_option maxRecDepth 100000
theorem q1960 : (Jvm.Cond.castable "[LHatRank$Place;" "java/lang/Object") ∈ lw_tbl := lw_at lw_m8 174 rfl
set_option maxRecDepth 100000
theorem q1963 : (Jvm.Cond.castable "[LHatRank$Town;" "java/lang/Object") ∈ lw_tbl := lw_at lw_m8 177 rfl
set_option maxRecDepth 100000
theorem q1965 : (Jvm.Cond.castable "[Ljava/lang/Object;" "java/lang/Object") ∈ lw_tbl := lw_at lw_m8 179 rfl
set_option maxRecDepth 100000
theorem q1967 : (Jvm.Cond.castable "[S" "java/lang/Object") ∈ lw_tbl := lw_at lw_m8 181 rfl
set_option maxRecDepth 100000
theorem q1969 : (Jvm.Cond.castable "[Z" "java/lang/Object") ∈ lw_tbl := lw_at lw_m8 183 rfl
set_option maxRecDepth 100000
theorem q126 : (Jvm.Cond.initialized "java/lang/System") ∈ lw_all := lw_g (lw_at lw_m1 20 rfl) rfl
set_option maxRecDepth 100000
theorem q804 : (Jvm.Cond.static ({ cls := "java/lang/System", name := "arraycopy", desc := "(Ljava/lang/Object;ILjava/lang/Object;II)V" } : Jvm.MethodName)) ∈ lw_all := lw_g (lw_at lw_m3 218 rfl) rfl
theorem q805 : (Jvm.Cond.native ({ cls := "java/lang/System", name := "arraycopy", desc := "(Ljava/lang/Object;ILjava/lang/Object;II)V" } : Jvm.MethodName)) ∈ lw_all := lw_g (lw_at lw_m3 219 rfl) rfl
theorem q152 : (Jvm.Cond.arrayOver (Jvm.ClassFile.FieldType.object "HatRank$Change")) ∈ lw_tbl := lw_at lw_m1 46 rfl
set_option maxRecDepth 100000
theorem q218 : (Jvm.Cond.arrayClass Jvm.ClassFile.FieldType.int) ∈ lw_all := lw_g (lw_at lw_m1 112 rfl) rfl
theorem q239 : (Jvm.Cond.arrayOver (Jvm.ClassFile.FieldType.object "HatRank$Place")) ∈ lw_tbl := lw_at lw_m1 133 rfl
theorem q241 : (Jvm.Cond.arrayOver (Jvm.ClassFile.FieldType.object "HatRank$Person")) ∈ lw_tbl := lw_at lw_m1 135 rfl
theorem q243 : (Jvm.Cond.arrayOver (Jvm.ClassFile.FieldType.object "HatRank$Held")) ∈ lw_tbl := lw_at lw_m1 137 rfl
theorem q259 : (Jvm.Cond.arrayOver (Jvm.ClassFile.FieldType.object "HatRank$Town")) ∈ lw_tbl := lw_at lw_m1 153 rfl
theorem q261 : (Jvm.Cond.arrayOver (Jvm.ClassFile.FieldType.object "HatRank$Body")) ∈ lw_tbl := lw_at lw_m1 155 rfl
theorem q263 : (Jvm.Cond.arrayOver (Jvm.ClassFile.FieldType.object "java/lang/Object")) ∈ lw_tbl := lw_at lw_m1 157 rfl
theorem q1221 : (Jvm.Cond.arrayClass Jvm.ClassFile.FieldType.byte) ∈ lw_all := lw_g (lw_at lw_m5 155 rfl) rfl
theorem q1222 : (Jvm.Cond.arrayClass Jvm.ClassFile.FieldType.short) ∈ lw_all := lw_g (lw_at lw_m5 156 rfl) rfl
theorem q1223 : (Jvm.Cond.arrayClass Jvm.ClassFile.FieldType.long) ∈ lw_all := lw_g (lw_at lw_m5 157 rfl) rfl
theorem q1224 : (Jvm.Cond.arrayClass Jvm.ClassFile.FieldType.boolean) ∈ lw_all := lw_g (lw_at lw_m5 158 rfl) rfl
