/-! java/lang/Number -/
set_option maxRecDepth 100000
def RJ0 : String := "java/lang/Number"
abbrev cJ0_init : ByteArray := prog_19_method_1_code
def yJ0_init : MethodName := ⟨RJ0, "<init>", "()V"⟩
theorem dJ0_init_0 : decode cJ0_init 0 = .ok (.aload_n 0, 1) := by decide +kernel
theorem dJ0_init_1 : decode cJ0_init 1 = .ok (.invokespecial 1, 3) := by decide +kernel
theorem dJ0_init_4 : decode cJ0_init 4 = .ok (.return_, 1) := by decide +kernel
theorem q35 : (Jvm.Cond.initialized "java/lang/Number") ∈ lw_all := lw_g (lw_at lw_m1 2 rfl) rfl
theorem q85 : (Jvm.Cond.instanceMethod ({ cls := "java/lang/Number", name := "<init>", desc := "()V" } : Jvm.MethodName)) ∈ lw_all := lw_g (lw_at lw_m1 52 rfl) rfl
theorem q86 : (Jvm.Cond.code ({ cls := "java/lang/Number", name := "<init>", desc := "()V" } : Jvm.MethodName) prog_19_method_1_code (1 : Nat) (Option.none : Option Jvm.ClassFile.FieldType)) ∈ lw_all := lw_g (lw_at lw_m1 53 rfl) rfl
theorem q87 : (Jvm.Cond.methodLink "java/lang/Number" (1 : Nat) ({ cls := "java/lang/Object", name := "<init>", desc := "()V" } : Jvm.MethodName)) ∈ lw_all := lw_g (lw_at lw_m1 54 rfl) rfl
/-! java/lang/Double -/
set_option maxRecDepth 100000
def RJ1 : String := "java/lang/Double"
def TJ1 : u_T := fun k => match k with
  | _ => ("java/lang/Double", "value", "D", true)
def tyJ1 : Nat → FieldType := fun k => match k with
  | _ => .double
abbrev wsJ10 : List Cond := u_ws RJ1 TJ1 1
theorem nmJ1 : ∀ a, a < 1 → ∀ b, b < 1 → a ≠ b → (TJ1 a).2.1 ≠ (TJ1 b).2.1 := by decide +kernel
theorem tyJ1_ok : ∀ k, k < 1 → parseFieldDescriptor (TJ1 k).2.2.1 = some (tyJ1 k) := by decide +kernel
abbrev cJ1_valueOf : ByteArray := prog_10_method_4_code
def yJ1_valueOf : MethodName := ⟨RJ1, "valueOf", "(D)Ljava/lang/Double;"⟩
def dkwJ1_valueOf_0 : List UInt8 := [187, 0, 1, 89, 38, 183, 0, 105, 176]
abbrev dktJ1_valueOf_0 : List UInt8 := dkwJ1_valueOf_0 ++ []
theorem dksJ1_valueOf_0 : cJ1_valueOf.data.toList.drop 0 = dktJ1_valueOf_0 := by decide +kernel
theorem dJ1_valueOf_0 : decode cJ1_valueOf 0 = .ok (.new 1, 3) := dk_187 0 1 (dk_at dksJ1_valueOf_0 0 rfl rfl)
theorem dJ1_valueOf_3 : decode cJ1_valueOf 3 = .ok (.dup, 1) := dk_89 (dk_at dksJ1_valueOf_0 3 rfl rfl)
theorem dJ1_valueOf_4 : decode cJ1_valueOf 4 = .ok (.dload_n 0, 1) := dk_38 (dk_at dksJ1_valueOf_0 4 rfl rfl)
theorem dJ1_valueOf_5 : decode cJ1_valueOf 5 = .ok (.invokespecial 105, 3) := dk_183 0 105 (dk_at dksJ1_valueOf_0 5 rfl rfl)
theorem dJ1_valueOf_8 : decode cJ1_valueOf 8 = .ok (.areturn, 1) := dk_176 (dk_at dksJ1_valueOf_0 8 rfl rfl)
abbrev cJ1_init : ByteArray := prog_10_method_9_code
def yJ1_init : MethodName := ⟨RJ1, "<init>", "(D)V"⟩
def dkwJ1_init_0 : List UInt8 := [42, 183, 0, 113, 42, 39, 181, 0, 118, 177]
abbrev dktJ1_init_0 : List UInt8 := dkwJ1_init_0 ++ []
theorem dksJ1_init_0 : cJ1_init.data.toList.drop 0 = dktJ1_init_0 := by decide +kernel
theorem dJ1_init_0 : decode cJ1_init 0 = .ok (.aload_n 0, 1) := dk_42 (dk_at dksJ1_init_0 0 rfl rfl)
theorem dJ1_init_1 : decode cJ1_init 1 = .ok (.invokespecial 113, 3) := dk_183 0 113 (dk_at dksJ1_init_0 1 rfl rfl)
theorem dJ1_init_4 : decode cJ1_init 4 = .ok (.aload_n 0, 1) := dk_42 (dk_at dksJ1_init_0 4 rfl rfl)
theorem dJ1_init_5 : decode cJ1_init 5 = .ok (.dload_n 1, 1) := dk_39 (dk_at dksJ1_init_0 5 rfl rfl)
theorem dJ1_init_6 : decode cJ1_init 6 = .ok (.putfield 118, 3) := dk_181 0 118 (dk_at dksJ1_init_0 6 rfl rfl)
theorem dJ1_init_9 : decode cJ1_init 9 = .ok (.return_, 1) := dk_177 (dk_at dksJ1_init_0 9 rfl rfl)
abbrev cJ1_doubleValue : ByteArray := prog_10_method_19_code
def yJ1_doubleValue : MethodName := ⟨RJ1, "doubleValue", "()D"⟩
theorem dJ1_doubleValue_0 : decode cJ1_doubleValue 0 = .ok (.aload_n 0, 1) := by decide +kernel
theorem dJ1_doubleValue_1 : decode cJ1_doubleValue 1 = .ok (.getfield 118, 3) := by decide +kernel
theorem dJ1_doubleValue_4 : decode cJ1_doubleValue 4 = .ok (.dreturn, 1) := by decide +kernel
abbrev cJ1_doubleToLongBits : ByteArray := prog_10_method_23_code
def yJ1_doubleToLongBits : MethodName := ⟨RJ1, "doubleToLongBits", "(D)J"⟩
def dkwJ1_doubleToLongBits_0 : List UInt8 := [38, 184, 0, 122, 154, 0, 8, 38, 184, 0, 134, 173, 20, 0, 137, 173]
abbrev dktJ1_doubleToLongBits_0 : List UInt8 := dkwJ1_doubleToLongBits_0 ++ []
theorem dksJ1_doubleToLongBits_0 : cJ1_doubleToLongBits.data.toList.drop 0 = dktJ1_doubleToLongBits_0 := by decide +kernel
theorem dJ1_doubleToLongBits_0 : decode cJ1_doubleToLongBits 0 = .ok (.dload_n 0, 1) := dk_38 (dk_at dksJ1_doubleToLongBits_0 0 rfl rfl)
theorem dJ1_doubleToLongBits_1 : decode cJ1_doubleToLongBits 1 = .ok (.invokestatic 122, 3) := dk_184 0 122 (dk_at dksJ1_doubleToLongBits_0 1 rfl rfl)
theorem dJ1_doubleToLongBits_4 : decode cJ1_doubleToLongBits 4 = .ok (.ifCond .ne 8, 3) := dk_154 0 8 (dk_at dksJ1_doubleToLongBits_0 4 rfl rfl)
theorem dJ1_doubleToLongBits_7 : decode cJ1_doubleToLongBits 7 = .ok (.dload_n 0, 1) := dk_38 (dk_at dksJ1_doubleToLongBits_0 7 rfl rfl)
theorem dJ1_doubleToLongBits_8 : decode cJ1_doubleToLongBits 8 = .ok (.invokestatic 134, 3) := dk_184 0 134 (dk_at dksJ1_doubleToLongBits_0 8 rfl rfl)
theorem dJ1_doubleToLongBits_11 : decode cJ1_doubleToLongBits 11 = .ok (.lreturn, 1) := dk_173 (dk_at dksJ1_doubleToLongBits_0 11 rfl rfl)
theorem dJ1_doubleToLongBits_12 : decode cJ1_doubleToLongBits 12 = .ok (.ldc2_w 137, 3) := dk_20 0 137 (dk_at dksJ1_doubleToLongBits_0 12 rfl rfl)
theorem dJ1_doubleToLongBits_15 : decode cJ1_doubleToLongBits 15 = .ok (.lreturn, 1) := dk_173 (dk_at dksJ1_doubleToLongBits_0 15 rfl rfl)
abbrev cJ1_isNaN : ByteArray := prog_10_method_6_code
def yJ1_isNaN : MethodName := ⟨RJ1, "isNaN", "(D)Z"⟩
def dkwJ1_isNaN_0 : List UInt8 := [38, 38, 151, 153, 0, 7, 4, 167, 0, 4, 3, 172]
abbrev dktJ1_isNaN_0 : List UInt8 := dkwJ1_isNaN_0 ++ []
theorem dksJ1_isNaN_0 : cJ1_isNaN.data.toList.drop 0 = dktJ1_isNaN_0 := by decide +kernel
theorem dJ1_isNaN_0 : decode cJ1_isNaN 0 = .ok (.dload_n 0, 1) := dk_38 (dk_at dksJ1_isNaN_0 0 rfl rfl)
theorem dJ1_isNaN_1 : decode cJ1_isNaN 1 = .ok (.dload_n 0, 1) := dk_38 (dk_at dksJ1_isNaN_0 1 rfl rfl)
theorem dJ1_isNaN_2 : decode cJ1_isNaN 2 = .ok (.dcmp .l, 1) := dk_151 (dk_at dksJ1_isNaN_0 2 rfl rfl)
theorem dJ1_isNaN_3 : decode cJ1_isNaN 3 = .ok (.ifCond .eq 7, 3) := dk_153 0 7 (dk_at dksJ1_isNaN_0 3 rfl rfl)
theorem dJ1_isNaN_6 : decode cJ1_isNaN 6 = .ok (.iconst 1, 1) := dk_4 (dk_at dksJ1_isNaN_0 6 rfl rfl)
theorem dJ1_isNaN_7 : decode cJ1_isNaN 7 = .ok (.goto 4, 3) := dk_167 0 4 (dk_at dksJ1_isNaN_0 7 rfl rfl)
theorem dJ1_isNaN_10 : decode cJ1_isNaN 10 = .ok (.iconst 0, 1) := dk_3 (dk_at dksJ1_isNaN_0 10 rfl rfl)
theorem dJ1_isNaN_11 : decode cJ1_isNaN 11 = .ok (.ireturn, 1) := dk_172 (dk_at dksJ1_isNaN_0 11 rfl rfl)
abbrev cJ1_compare : ByteArray := prog_10_method_27_code
def yJ1_compare : MethodName := ⟨RJ1, "compare", "(DD)I"⟩
def dkwJ1_compare_2 : List UInt8 := [156, 0, 7, 2, 167, 0, 4, 4, 172]
abbrev dktJ1_compare_2 : List UInt8 := dkwJ1_compare_2 ++ []
def dkwJ1_compare_1 : List UInt8 := [184, 0, 46, 55, 6, 22, 4, 22, 6, 148, 154, 0, 7, 3, 167, 0, 16, 22, 4, 22, 6, 148]
abbrev dktJ1_compare_1 : List UInt8 := dkwJ1_compare_1 ++ dktJ1_compare_2
def dkwJ1_compare_0 : List UInt8 := [38, 40, 152, 156, 0, 5, 2, 172, 38, 40, 151, 158, 0, 5, 4, 172, 38, 184, 0, 46, 55, 4, 40]
abbrev dktJ1_compare_0 : List UInt8 := dkwJ1_compare_0 ++ dktJ1_compare_1
theorem dksJ1_compare_0 : cJ1_compare.data.toList.drop 0 = dktJ1_compare_0 := by decide +kernel
theorem dksJ1_compare_1 : cJ1_compare.data.toList.drop 23 = dktJ1_compare_1 := dk_seg dksJ1_compare_0 23 rfl rfl
theorem dksJ1_compare_2 : cJ1_compare.data.toList.drop 45 = dktJ1_compare_2 := dk_seg dksJ1_compare_1 22 rfl rfl
theorem dJ1_compare_0 : decode cJ1_compare 0 = .ok (.dload_n 0, 1) := dk_38 (dk_at dksJ1_compare_0 0 rfl rfl)
theorem dJ1_compare_1 : decode cJ1_compare 1 = .ok (.dload_n 2, 1) := dk_40 (dk_at dksJ1_compare_0 1 rfl rfl)
theorem dJ1_compare_2 : decode cJ1_compare 2 = .ok (.dcmp .g, 1) := dk_152 (dk_at dksJ1_compare_0 2 rfl rfl)
theorem dJ1_compare_3 : decode cJ1_compare 3 = .ok (.ifCond .ge 5, 3) := dk_156 0 5 (dk_at dksJ1_compare_0 3 rfl rfl)
theorem dJ1_compare_6 : decode cJ1_compare 6 = .ok (.iconst (-1), 1) := dk_2 (dk_at dksJ1_compare_0 6 rfl rfl)
theorem dJ1_compare_7 : decode cJ1_compare 7 = .ok (.ireturn, 1) := dk_172 (dk_at dksJ1_compare_0 7 rfl rfl)
theorem dJ1_compare_8 : decode cJ1_compare 8 = .ok (.dload_n 0, 1) := dk_38 (dk_at dksJ1_compare_0 8 rfl rfl)
theorem dJ1_compare_9 : decode cJ1_compare 9 = .ok (.dload_n 2, 1) := dk_40 (dk_at dksJ1_compare_0 9 rfl rfl)
theorem dJ1_compare_10 : decode cJ1_compare 10 = .ok (.dcmp .l, 1) := dk_151 (dk_at dksJ1_compare_0 10 rfl rfl)
theorem dJ1_compare_11 : decode cJ1_compare 11 = .ok (.ifCond .le 5, 3) := dk_158 0 5 (dk_at dksJ1_compare_0 11 rfl rfl)
theorem dJ1_compare_14 : decode cJ1_compare 14 = .ok (.iconst 1, 1) := dk_4 (dk_at dksJ1_compare_0 14 rfl rfl)
theorem dJ1_compare_15 : decode cJ1_compare 15 = .ok (.ireturn, 1) := dk_172 (dk_at dksJ1_compare_0 15 rfl rfl)
theorem dJ1_compare_16 : decode cJ1_compare 16 = .ok (.dload_n 0, 1) := dk_38 (dk_at dksJ1_compare_0 16 rfl rfl)
theorem dJ1_compare_17 : decode cJ1_compare 17 = .ok (.invokestatic 46, 3) := dk_184 0 46 (dk_at dksJ1_compare_0 17 rfl rfl)
theorem dJ1_compare_20 : decode cJ1_compare 20 = .ok (.lstore 4, 2) := dk_55 4 (dk_at dksJ1_compare_0 20 rfl rfl)
theorem dJ1_compare_22 : decode cJ1_compare 22 = .ok (.dload_n 2, 1) := dk_40 (dk_at dksJ1_compare_0 22 rfl rfl)
theorem dJ1_compare_23 : decode cJ1_compare 23 = .ok (.invokestatic 46, 3) := dk_184 0 46 (dk_at dksJ1_compare_1 0 rfl rfl)
theorem dJ1_compare_26 : decode cJ1_compare 26 = .ok (.lstore 6, 2) := dk_55 6 (dk_at dksJ1_compare_1 3 rfl rfl)
theorem dJ1_compare_28 : decode cJ1_compare 28 = .ok (.lload 4, 2) := dk_22 4 (dk_at dksJ1_compare_1 5 rfl rfl)
theorem dJ1_compare_30 : decode cJ1_compare 30 = .ok (.lload 6, 2) := dk_22 6 (dk_at dksJ1_compare_1 7 rfl rfl)
theorem dJ1_compare_32 : decode cJ1_compare 32 = .ok (.lcmp, 1) := dk_148 (dk_at dksJ1_compare_1 9 rfl rfl)
theorem dJ1_compare_33 : decode cJ1_compare 33 = .ok (.ifCond .ne 7, 3) := dk_154 0 7 (dk_at dksJ1_compare_1 10 rfl rfl)
theorem dJ1_compare_36 : decode cJ1_compare 36 = .ok (.iconst 0, 1) := dk_3 (dk_at dksJ1_compare_1 13 rfl rfl)
theorem dJ1_compare_37 : decode cJ1_compare 37 = .ok (.goto 16, 3) := dk_167 0 16 (dk_at dksJ1_compare_1 14 rfl rfl)
theorem dJ1_compare_40 : decode cJ1_compare 40 = .ok (.lload 4, 2) := dk_22 4 (dk_at dksJ1_compare_1 17 rfl rfl)
theorem dJ1_compare_42 : decode cJ1_compare 42 = .ok (.lload 6, 2) := dk_22 6 (dk_at dksJ1_compare_1 19 rfl rfl)
theorem dJ1_compare_44 : decode cJ1_compare 44 = .ok (.lcmp, 1) := dk_148 (dk_at dksJ1_compare_1 21 rfl rfl)
theorem dJ1_compare_45 : decode cJ1_compare 45 = .ok (.ifCond .ge 7, 3) := dk_156 0 7 (dk_at dksJ1_compare_2 0 rfl rfl)
theorem dJ1_compare_48 : decode cJ1_compare 48 = .ok (.iconst (-1), 1) := dk_2 (dk_at dksJ1_compare_2 3 rfl rfl)
theorem dJ1_compare_49 : decode cJ1_compare 49 = .ok (.goto 4, 3) := dk_167 0 4 (dk_at dksJ1_compare_2 4 rfl rfl)
theorem dJ1_compare_52 : decode cJ1_compare 52 = .ok (.iconst 1, 1) := dk_4 (dk_at dksJ1_compare_2 7 rfl rfl)
theorem dJ1_compare_53 : decode cJ1_compare 53 = .ok (.ireturn, 1) := dk_172 (dk_at dksJ1_compare_2 8 rfl rfl)
abbrev cJ1_compareTo : ByteArray := prog_10_method_26_code
def yJ1_compareTo : MethodName := ⟨RJ1, "compareTo", "(Ljava/lang/Double;)I"⟩
def dkwJ1_compareTo_0 : List UInt8 := [42, 180, 0, 118, 43, 180, 0, 118, 184, 0, 139, 172]
abbrev dktJ1_compareTo_0 : List UInt8 := dkwJ1_compareTo_0 ++ []
theorem dksJ1_compareTo_0 : cJ1_compareTo.data.toList.drop 0 = dktJ1_compareTo_0 := by decide +kernel
theorem dJ1_compareTo_0 : decode cJ1_compareTo 0 = .ok (.aload_n 0, 1) := dk_42 (dk_at dksJ1_compareTo_0 0 rfl rfl)
theorem dJ1_compareTo_1 : decode cJ1_compareTo 1 = .ok (.getfield 118, 3) := dk_180 0 118 (dk_at dksJ1_compareTo_0 1 rfl rfl)
theorem dJ1_compareTo_4 : decode cJ1_compareTo 4 = .ok (.aload_n 1, 1) := dk_43 (dk_at dksJ1_compareTo_0 4 rfl rfl)
theorem dJ1_compareTo_5 : decode cJ1_compareTo 5 = .ok (.getfield 118, 3) := dk_180 0 118 (dk_at dksJ1_compareTo_0 5 rfl rfl)
theorem dJ1_compareTo_8 : decode cJ1_compareTo 8 = .ok (.invokestatic 139, 3) := dk_184 0 139 (dk_at dksJ1_compareTo_0 8 rfl rfl)
theorem dJ1_compareTo_11 : decode cJ1_compareTo 11 = .ok (.ireturn, 1) := dk_172 (dk_at dksJ1_compareTo_0 11 rfl rfl)
abbrev cJ1_compareTo_2 : ByteArray := prog_10_method_33_code
def yJ1_compareTo_2 : MethodName := ⟨RJ1, "compareTo", "(Ljava/lang/Object;)I"⟩
def dkwJ1_compareTo_2_0 : List UInt8 := [42, 43, 192, 0, 1, 182, 0, 155, 172]
abbrev dktJ1_compareTo_2_0 : List UInt8 := dkwJ1_compareTo_2_0 ++ []
theorem dksJ1_compareTo_2_0 : cJ1_compareTo_2.data.toList.drop 0 = dktJ1_compareTo_2_0 := by decide +kernel
theorem dJ1_compareTo_2_0 : decode cJ1_compareTo_2 0 = .ok (.aload_n 0, 1) := dk_42 (dk_at dksJ1_compareTo_2_0 0 rfl rfl)
theorem dJ1_compareTo_2_1 : decode cJ1_compareTo_2 1 = .ok (.aload_n 1, 1) := dk_43 (dk_at dksJ1_compareTo_2_0 1 rfl rfl)
theorem dJ1_compareTo_2_2 : decode cJ1_compareTo_2 2 = .ok (.checkcast 1, 3) := dk_192 0 1 (dk_at dksJ1_compareTo_2_0 2 rfl rfl)
theorem dJ1_compareTo_2_5 : decode cJ1_compareTo_2 5 = .ok (.invokevirtual 155, 3) := dk_182 0 155 (dk_at dksJ1_compareTo_2_0 5 rfl rfl)
theorem dJ1_compareTo_2_8 : decode cJ1_compareTo_2 8 = .ok (.ireturn, 1) := dk_172 (dk_at dksJ1_compareTo_2_0 8 rfl rfl)
abbrev cJ1_equals : ByteArray := prog_10_method_22_code
def yJ1_equals : MethodName := ⟨RJ1, "equals", "(Ljava/lang/Object;)Z"⟩
def dkwJ1_equals_1 : List UInt8 := [148, 154, 0, 7, 4, 167, 0, 4, 3, 172]
abbrev dktJ1_equals_1 : List UInt8 := dkwJ1_equals_1 ++ []
def dkwJ1_equals_0 : List UInt8 := [43, 193, 0, 1, 153, 0, 28, 43, 192, 0, 1, 180, 0, 118, 184, 0, 46, 42, 180, 0, 118, 184, 0, 46]
abbrev dktJ1_equals_0 : List UInt8 := dkwJ1_equals_0 ++ dktJ1_equals_1
theorem dksJ1_equals_0 : cJ1_equals.data.toList.drop 0 = dktJ1_equals_0 := by decide +kernel
theorem dksJ1_equals_1 : cJ1_equals.data.toList.drop 24 = dktJ1_equals_1 := dk_seg dksJ1_equals_0 24 rfl rfl
theorem dJ1_equals_0 : decode cJ1_equals 0 = .ok (.aload_n 1, 1) := dk_43 (dk_at dksJ1_equals_0 0 rfl rfl)
theorem dJ1_equals_1 : decode cJ1_equals 1 = .ok (.instanceof 1, 3) := dk_193 0 1 (dk_at dksJ1_equals_0 1 rfl rfl)
theorem dJ1_equals_4 : decode cJ1_equals 4 = .ok (.ifCond .eq 28, 3) := dk_153 0 28 (dk_at dksJ1_equals_0 4 rfl rfl)
theorem dJ1_equals_7 : decode cJ1_equals 7 = .ok (.aload_n 1, 1) := dk_43 (dk_at dksJ1_equals_0 7 rfl rfl)
theorem dJ1_equals_8 : decode cJ1_equals 8 = .ok (.checkcast 1, 3) := dk_192 0 1 (dk_at dksJ1_equals_0 8 rfl rfl)
theorem dJ1_equals_11 : decode cJ1_equals 11 = .ok (.getfield 118, 3) := dk_180 0 118 (dk_at dksJ1_equals_0 11 rfl rfl)
theorem dJ1_equals_14 : decode cJ1_equals 14 = .ok (.invokestatic 46, 3) := dk_184 0 46 (dk_at dksJ1_equals_0 14 rfl rfl)
theorem dJ1_equals_17 : decode cJ1_equals 17 = .ok (.aload_n 0, 1) := dk_42 (dk_at dksJ1_equals_0 17 rfl rfl)
theorem dJ1_equals_18 : decode cJ1_equals 18 = .ok (.getfield 118, 3) := dk_180 0 118 (dk_at dksJ1_equals_0 18 rfl rfl)
theorem dJ1_equals_21 : decode cJ1_equals 21 = .ok (.invokestatic 46, 3) := dk_184 0 46 (dk_at dksJ1_equals_0 21 rfl rfl)
theorem dJ1_equals_24 : decode cJ1_equals 24 = .ok (.lcmp, 1) := dk_148 (dk_at dksJ1_equals_1 0 rfl rfl)
theorem dJ1_equals_25 : decode cJ1_equals 25 = .ok (.ifCond .ne 7, 3) := dk_154 0 7 (dk_at dksJ1_equals_1 1 rfl rfl)
theorem dJ1_equals_28 : decode cJ1_equals 28 = .ok (.iconst 1, 1) := dk_4 (dk_at dksJ1_equals_1 4 rfl rfl)
theorem dJ1_equals_29 : decode cJ1_equals 29 = .ok (.goto 4, 3) := dk_167 0 4 (dk_at dksJ1_equals_1 5 rfl rfl)
theorem dJ1_equals_32 : decode cJ1_equals 32 = .ok (.iconst 0, 1) := dk_3 (dk_at dksJ1_equals_1 8 rfl rfl)
theorem dJ1_equals_33 : decode cJ1_equals 33 = .ok (.ireturn, 1) := dk_172 (dk_at dksJ1_equals_1 9 rfl rfl)
abbrev cJ1_hashCode : ByteArray := prog_10_method_20_code
def yJ1_hashCode : MethodName := ⟨RJ1, "hashCode", "()I"⟩
def dkwJ1_hashCode_0 : List UInt8 := [42, 180, 0, 118, 184, 0, 128, 172]
abbrev dktJ1_hashCode_0 : List UInt8 := dkwJ1_hashCode_0 ++ []
theorem dksJ1_hashCode_0 : cJ1_hashCode.data.toList.drop 0 = dktJ1_hashCode_0 := by decide +kernel
theorem dJ1_hashCode_0 : decode cJ1_hashCode 0 = .ok (.aload_n 0, 1) := dk_42 (dk_at dksJ1_hashCode_0 0 rfl rfl)
theorem dJ1_hashCode_1 : decode cJ1_hashCode 1 = .ok (.getfield 118, 3) := dk_180 0 118 (dk_at dksJ1_hashCode_0 1 rfl rfl)
theorem dJ1_hashCode_4 : decode cJ1_hashCode 4 = .ok (.invokestatic 128, 3) := dk_184 0 128 (dk_at dksJ1_hashCode_0 4 rfl rfl)
theorem dJ1_hashCode_7 : decode cJ1_hashCode 7 = .ok (.ireturn, 1) := dk_172 (dk_at dksJ1_hashCode_0 7 rfl rfl)
abbrev cJ1_hashCode_2 : ByteArray := prog_10_method_21_code
def yJ1_hashCode_2 : MethodName := ⟨RJ1, "hashCode", "(D)I"⟩
def dkwJ1_hashCode_2_0 : List UInt8 := [38, 184, 0, 46, 184, 0, 131, 172]
abbrev dktJ1_hashCode_2_0 : List UInt8 := dkwJ1_hashCode_2_0 ++ []
theorem dksJ1_hashCode_2_0 : cJ1_hashCode_2.data.toList.drop 0 = dktJ1_hashCode_2_0 := by decide +kernel
theorem dJ1_hashCode_2_0 : decode cJ1_hashCode_2 0 = .ok (.dload_n 0, 1) := dk_38 (dk_at dksJ1_hashCode_2_0 0 rfl rfl)
theorem dJ1_hashCode_2_1 : decode cJ1_hashCode_2 1 = .ok (.invokestatic 46, 3) := dk_184 0 46 (dk_at dksJ1_hashCode_2_0 1 rfl rfl)
theorem dJ1_hashCode_2_4 : decode cJ1_hashCode_2 4 = .ok (.invokestatic 131, 3) := dk_184 0 131 (dk_at dksJ1_hashCode_2_0 4 rfl rfl)
theorem dJ1_hashCode_2_7 : decode cJ1_hashCode_2 7 = .ok (.ireturn, 1) := dk_172 (dk_at dksJ1_hashCode_2_0 7 rfl rfl)
abbrev cJ1_max : ByteArray := prog_10_method_29_code
def yJ1_max : MethodName := ⟨RJ1, "max", "(DD)D"⟩
def dkwJ1_max_0 : List UInt8 := [38, 40, 184, 0, 143, 175]
abbrev dktJ1_max_0 : List UInt8 := dkwJ1_max_0 ++ []
theorem dksJ1_max_0 : cJ1_max.data.toList.drop 0 = dktJ1_max_0 := by decide +kernel
theorem dJ1_max_0 : decode cJ1_max 0 = .ok (.dload_n 0, 1) := dk_38 (dk_at dksJ1_max_0 0 rfl rfl)
theorem dJ1_max_1 : decode cJ1_max 1 = .ok (.dload_n 2, 1) := dk_40 (dk_at dksJ1_max_0 1 rfl rfl)
theorem dJ1_max_2 : decode cJ1_max 2 = .ok (.invokestatic 143, 3) := dk_184 0 143 (dk_at dksJ1_max_0 2 rfl rfl)
theorem dJ1_max_5 : decode cJ1_max 5 = .ok (.dreturn, 1) := dk_175 (dk_at dksJ1_max_0 5 rfl rfl)
abbrev cJ1_min : ByteArray := prog_10_method_30_code
def yJ1_min : MethodName := ⟨RJ1, "min", "(DD)D"⟩
def dkwJ1_min_0 : List UInt8 := [38, 40, 184, 0, 146, 175]
abbrev dktJ1_min_0 : List UInt8 := dkwJ1_min_0 ++ []
theorem dksJ1_min_0 : cJ1_min.data.toList.drop 0 = dktJ1_min_0 := by decide +kernel
theorem dJ1_min_0 : decode cJ1_min 0 = .ok (.dload_n 0, 1) := dk_38 (dk_at dksJ1_min_0 0 rfl rfl)
theorem dJ1_min_1 : decode cJ1_min 1 = .ok (.dload_n 2, 1) := dk_40 (dk_at dksJ1_min_0 1 rfl rfl)
theorem dJ1_min_2 : decode cJ1_min 2 = .ok (.invokestatic 146, 3) := dk_184 0 146 (dk_at dksJ1_min_0 2 rfl rfl)
theorem dJ1_min_5 : decode cJ1_min 5 = .ok (.dreturn, 1) := dk_175 (dk_at dksJ1_min_0 5 rfl rfl)
abbrev cJ1_isInfinite : ByteArray := prog_10_method_12_code
def yJ1_isInfinite : MethodName := ⟨RJ1, "isInfinite", "()Z"⟩
def dkwJ1_isInfinite_0 : List UInt8 := [42, 180, 0, 118, 184, 0, 125, 172]
abbrev dktJ1_isInfinite_0 : List UInt8 := dkwJ1_isInfinite_0 ++ []
theorem dksJ1_isInfinite_0 : cJ1_isInfinite.data.toList.drop 0 = dktJ1_isInfinite_0 := by decide +kernel
theorem dJ1_isInfinite_0 : decode cJ1_isInfinite 0 = .ok (.aload_n 0, 1) := dk_42 (dk_at dksJ1_isInfinite_0 0 rfl rfl)
theorem dJ1_isInfinite_1 : decode cJ1_isInfinite 1 = .ok (.getfield 118, 3) := dk_180 0 118 (dk_at dksJ1_isInfinite_0 1 rfl rfl)
theorem dJ1_isInfinite_4 : decode cJ1_isInfinite 4 = .ok (.invokestatic 125, 3) := dk_184 0 125 (dk_at dksJ1_isInfinite_0 4 rfl rfl)
theorem dJ1_isInfinite_7 : decode cJ1_isInfinite 7 = .ok (.ireturn, 1) := dk_172 (dk_at dksJ1_isInfinite_0 7 rfl rfl)
abbrev cJ1_isInfinite_2 : ByteArray := prog_10_method_7_code
def yJ1_isInfinite_2 : MethodName := ⟨RJ1, "isInfinite", "(D)Z"⟩
def dkwJ1_isInfinite_2_0 : List UInt8 := [38, 184, 0, 38, 20, 0, 111, 151, 158, 0, 7, 4, 167, 0, 4, 3, 172]
abbrev dktJ1_isInfinite_2_0 : List UInt8 := dkwJ1_isInfinite_2_0 ++ []
theorem dksJ1_isInfinite_2_0 : cJ1_isInfinite_2.data.toList.drop 0 = dktJ1_isInfinite_2_0 := by decide +kernel
theorem dJ1_isInfinite_2_0 : decode cJ1_isInfinite_2 0 = .ok (.dload_n 0, 1) := dk_38 (dk_at dksJ1_isInfinite_2_0 0 rfl rfl)
theorem dJ1_isInfinite_2_1 : decode cJ1_isInfinite_2 1 = .ok (.invokestatic 38, 3) := dk_184 0 38 (dk_at dksJ1_isInfinite_2_0 1 rfl rfl)
theorem dJ1_isInfinite_2_4 : decode cJ1_isInfinite_2 4 = .ok (.ldc2_w 111, 3) := dk_20 0 111 (dk_at dksJ1_isInfinite_2_0 4 rfl rfl)
theorem dJ1_isInfinite_2_7 : decode cJ1_isInfinite_2 7 = .ok (.dcmp .l, 1) := dk_151 (dk_at dksJ1_isInfinite_2_0 7 rfl rfl)
theorem dJ1_isInfinite_2_8 : decode cJ1_isInfinite_2 8 = .ok (.ifCond .le 7, 3) := dk_158 0 7 (dk_at dksJ1_isInfinite_2_0 8 rfl rfl)
theorem dJ1_isInfinite_2_11 : decode cJ1_isInfinite_2 11 = .ok (.iconst 1, 1) := dk_4 (dk_at dksJ1_isInfinite_2_0 11 rfl rfl)
theorem dJ1_isInfinite_2_12 : decode cJ1_isInfinite_2 12 = .ok (.goto 4, 3) := dk_167 0 4 (dk_at dksJ1_isInfinite_2_0 12 rfl rfl)
theorem dJ1_isInfinite_2_15 : decode cJ1_isInfinite_2 15 = .ok (.iconst 0, 1) := dk_3 (dk_at dksJ1_isInfinite_2_0 15 rfl rfl)
theorem dJ1_isInfinite_2_16 : decode cJ1_isInfinite_2 16 = .ok (.ireturn, 1) := dk_172 (dk_at dksJ1_isInfinite_2_0 16 rfl rfl)
abbrev cJ1_sum : ByteArray := prog_10_method_28_code
def yJ1_sum : MethodName := ⟨RJ1, "sum", "(DD)D"⟩
def dkwJ1_sum_0 : List UInt8 := [38, 40, 99, 175]
abbrev dktJ1_sum_0 : List UInt8 := dkwJ1_sum_0 ++ []
theorem dksJ1_sum_0 : cJ1_sum.data.toList.drop 0 = dktJ1_sum_0 := by decide +kernel
theorem dJ1_sum_0 : decode cJ1_sum 0 = .ok (.dload_n 0, 1) := dk_38 (dk_at dksJ1_sum_0 0 rfl rfl)
theorem dJ1_sum_1 : decode cJ1_sum 1 = .ok (.dload_n 2, 1) := dk_40 (dk_at dksJ1_sum_0 1 rfl rfl)
theorem dJ1_sum_2 : decode cJ1_sum 2 = .ok (.dadd, 1) := dk_99 (dk_at dksJ1_sum_0 2 rfl rfl)
theorem dJ1_sum_3 : decode cJ1_sum 3 = .ok (.dreturn, 1) := dk_175 (dk_at dksJ1_sum_0 3 rfl rfl)
abbrev cJ1_isFinite : ByteArray := prog_10_method_8_code
def yJ1_isFinite : MethodName := ⟨RJ1, "isFinite", "(D)Z"⟩
def dkwJ1_isFinite_0 : List UInt8 := [38, 184, 0, 38, 20, 0, 111, 152, 157, 0, 7, 4, 167, 0, 4, 3, 172]
abbrev dktJ1_isFinite_0 : List UInt8 := dkwJ1_isFinite_0 ++ []
theorem dksJ1_isFinite_0 : cJ1_isFinite.data.toList.drop 0 = dktJ1_isFinite_0 := by decide +kernel
theorem dJ1_isFinite_0 : decode cJ1_isFinite 0 = .ok (.dload_n 0, 1) := dk_38 (dk_at dksJ1_isFinite_0 0 rfl rfl)
theorem dJ1_isFinite_1 : decode cJ1_isFinite 1 = .ok (.invokestatic 38, 3) := dk_184 0 38 (dk_at dksJ1_isFinite_0 1 rfl rfl)
theorem dJ1_isFinite_4 : decode cJ1_isFinite 4 = .ok (.ldc2_w 111, 3) := dk_20 0 111 (dk_at dksJ1_isFinite_0 4 rfl rfl)
theorem dJ1_isFinite_7 : decode cJ1_isFinite 7 = .ok (.dcmp .g, 1) := dk_152 (dk_at dksJ1_isFinite_0 7 rfl rfl)
theorem dJ1_isFinite_8 : decode cJ1_isFinite 8 = .ok (.ifCond .gt 7, 3) := dk_157 0 7 (dk_at dksJ1_isFinite_0 8 rfl rfl)
theorem dJ1_isFinite_11 : decode cJ1_isFinite 11 = .ok (.iconst 1, 1) := dk_4 (dk_at dksJ1_isFinite_0 11 rfl rfl)
theorem dJ1_isFinite_12 : decode cJ1_isFinite 12 = .ok (.goto 4, 3) := dk_167 0 4 (dk_at dksJ1_isFinite_0 12 rfl rfl)
theorem dJ1_isFinite_15 : decode cJ1_isFinite 15 = .ok (.iconst 0, 1) := dk_3 (dk_at dksJ1_isFinite_0 15 rfl rfl)
theorem dJ1_isFinite_16 : decode cJ1_isFinite 16 = .ok (.ireturn, 1) := dk_172 (dk_at dksJ1_isFinite_0 16 rfl rfl)
theorem q36 : (Jvm.Cond.initialized "java/lang/Double") ∈ lw_all := lw_g (lw_at lw_m1 3 rfl) rfl
theorem q77 : (Jvm.Cond.static ({ cls := "java/lang/Double", name := "valueOf", desc := "(D)Ljava/lang/Double;" } : Jvm.MethodName)) ∈ lw_all := lw_g (lw_at lw_m1 44 rfl) rfl
theorem q78 : (Jvm.Cond.code ({ cls := "java/lang/Double", name := "valueOf", desc := "(D)Ljava/lang/Double;" } : Jvm.MethodName) prog_10_method_4_code (2 : Nat) (Option.some (Jvm.ClassFile.FieldType.object "java/lang/Double"))) ∈ lw_all := lw_g (lw_at lw_m1 45 rfl) rfl
theorem q79 : (Jvm.Cond.classLink "java/lang/Double" (1 : Nat) "java/lang/Double") ∈ lw_all := lw_g (lw_at lw_m1 46 rfl) rfl
theorem q80 : (Jvm.Cond.instantiable "java/lang/Double" (1 : Nat)) ∈ lw_all := lw_g (lw_at lw_m1 47 rfl) rfl
theorem q81 : (Jvm.Cond.methodLink "java/lang/Double" (105 : Nat) ({ cls := "java/lang/Double", name := "<init>", desc := "(D)V" } : Jvm.MethodName)) ∈ lw_all := lw_g (lw_at lw_m1 48 rfl) rfl
theorem q82 : (Jvm.Cond.instanceMethod ({ cls := "java/lang/Double", name := "<init>", desc := "(D)V" } : Jvm.MethodName)) ∈ lw_all := lw_g (lw_at lw_m1 49 rfl) rfl
theorem q83 : (Jvm.Cond.code ({ cls := "java/lang/Double", name := "<init>", desc := "(D)V" } : Jvm.MethodName) prog_10_method_9_code (3 : Nat) (Option.none : Option Jvm.ClassFile.FieldType)) ∈ lw_all := lw_g (lw_at lw_m1 50 rfl) rfl
theorem q84 : (Jvm.Cond.methodLink "java/lang/Double" (113 : Nat) ({ cls := "java/lang/Number", name := "<init>", desc := "()V" } : Jvm.MethodName)) ∈ lw_all := lw_g (lw_at lw_m1 51 rfl) rfl
theorem q88 : (Jvm.Cond.fieldLink "java/lang/Double" (118 : Nat) "java/lang/Double" "value" "D") ∈ lw_all := lw_g (lw_at lw_m1 55 rfl) rfl
theorem q89 : (Jvm.Cond.laysFinal "java/lang/Double" "java/lang/Double" "value" "D") ∈ lw_all := lw_g (lw_at lw_m1 56 rfl) rfl
theorem q90 : (Jvm.Cond.soleField "java/lang/Double" "value") ∈ lw_all := lw_g (lw_at lw_m1 57 rfl) rfl
theorem q91 : (Jvm.Cond.superclass "java/lang/Double" "java/lang/Number") ∈ lw_all := lw_g (lw_at lw_m1 58 rfl) rfl
theorem q133 : (Jvm.Cond.instanceMethod ({ cls := "java/lang/Double", name := "doubleValue", desc := "()D" } : Jvm.MethodName)) ∈ lw_all := lw_g (lw_at lw_m1 100 rfl) rfl
theorem q134 : (Jvm.Cond.selects "java/lang/Double" ({ cls := "java/lang/Double", name := "doubleValue", desc := "()D" } : Jvm.MethodName) ({ cls := "java/lang/Double", name := "doubleValue", desc := "()D" } : Jvm.MethodName)) ∈ lw_all := lw_g (lw_at lw_m1 101 rfl) rfl
theorem q135 : (Jvm.Cond.code ({ cls := "java/lang/Double", name := "doubleValue", desc := "()D" } : Jvm.MethodName) prog_10_method_19_code (1 : Nat) (Option.some Jvm.ClassFile.FieldType.double)) ∈ lw_all := lw_g (lw_at lw_m1 102 rfl) rfl
theorem q140 : (Jvm.Cond.static ({ cls := "java/lang/Double", name := "doubleToLongBits", desc := "(D)J" } : Jvm.MethodName)) ∈ lw_all := lw_g (lw_at lw_m1 107 rfl) rfl
theorem q141 : (Jvm.Cond.code ({ cls := "java/lang/Double", name := "doubleToLongBits", desc := "(D)J" } : Jvm.MethodName) prog_10_method_23_code (2 : Nat) (Option.some Jvm.ClassFile.FieldType.long)) ∈ lw_all := lw_g (lw_at lw_m1 108 rfl) rfl
theorem q142 : (Jvm.Cond.methodLink "java/lang/Double" (122 : Nat) ({ cls := "java/lang/Double", name := "isNaN", desc := "(D)Z" } : Jvm.MethodName)) ∈ lw_all := lw_g (lw_at lw_m1 109 rfl) rfl
theorem q143 : (Jvm.Cond.static ({ cls := "java/lang/Double", name := "isNaN", desc := "(D)Z" } : Jvm.MethodName)) ∈ lw_all := lw_g (lw_at lw_m1 110 rfl) rfl
theorem q144 : (Jvm.Cond.code ({ cls := "java/lang/Double", name := "isNaN", desc := "(D)Z" } : Jvm.MethodName) prog_10_method_6_code (2 : Nat) (Option.some Jvm.ClassFile.FieldType.boolean)) ∈ lw_all := lw_g (lw_at lw_m1 111 rfl) rfl
theorem q145 : (Jvm.Cond.methodLink "java/lang/Double" (134 : Nat) ({ cls := "java/lang/Double", name := "doubleToRawLongBits", desc := "(D)J" } : Jvm.MethodName)) ∈ lw_all := lw_g (lw_at lw_m1 112 rfl) rfl
theorem q146 : (Jvm.Cond.static ({ cls := "java/lang/Double", name := "doubleToRawLongBits", desc := "(D)J" } : Jvm.MethodName)) ∈ lw_all := lw_g (lw_at lw_m1 113 rfl) rfl
theorem q147 : (Jvm.Cond.native ({ cls := "java/lang/Double", name := "doubleToRawLongBits", desc := "(D)J" } : Jvm.MethodName)) ∈ lw_all := lw_g (lw_at lw_m1 114 rfl) rfl
theorem q148 : (Jvm.Cond.constantLong "java/lang/Double" (137 : Nat) (9221120237041090560 : Int64)) ∈ lw_all := lw_g (lw_at lw_m1 115 rfl) rfl
theorem q277 : (Jvm.Cond.static ({ cls := "java/lang/Double", name := "compare", desc := "(DD)I" } : Jvm.MethodName)) ∈ lw_all := lw_g (lw_at lw_m2 4 rfl) rfl
theorem q278 : (Jvm.Cond.code ({ cls := "java/lang/Double", name := "compare", desc := "(DD)I" } : Jvm.MethodName) prog_10_method_27_code (8 : Nat) (Option.some Jvm.ClassFile.FieldType.int)) ∈ lw_all := lw_g (lw_at lw_m2 5 rfl) rfl
theorem q279 : (Jvm.Cond.methodLink "java/lang/Double" (46 : Nat) ({ cls := "java/lang/Double", name := "doubleToLongBits", desc := "(D)J" } : Jvm.MethodName)) ∈ lw_all := lw_g (lw_at lw_m2 6 rfl) rfl
theorem q281 : (Jvm.Cond.instanceMethod ({ cls := "java/lang/Double", name := "compareTo", desc := "(Ljava/lang/Double;)I" } : Jvm.MethodName)) ∈ lw_all := lw_g (lw_at lw_m2 8 rfl) rfl
theorem q282 : (Jvm.Cond.selects "java/lang/Double" ({ cls := "java/lang/Double", name := "compareTo", desc := "(Ljava/lang/Double;)I" } : Jvm.MethodName) ({ cls := "java/lang/Double", name := "compareTo", desc := "(Ljava/lang/Double;)I" } : Jvm.MethodName)) ∈ lw_all := lw_g (lw_at lw_m2 9 rfl) rfl
theorem q283 : (Jvm.Cond.code ({ cls := "java/lang/Double", name := "compareTo", desc := "(Ljava/lang/Double;)I" } : Jvm.MethodName) prog_10_method_26_code (2 : Nat) (Option.some Jvm.ClassFile.FieldType.int)) ∈ lw_all := lw_g (lw_at lw_m2 10 rfl) rfl
theorem q284 : (Jvm.Cond.methodLink "java/lang/Double" (139 : Nat) ({ cls := "java/lang/Double", name := "compare", desc := "(DD)I" } : Jvm.MethodName)) ∈ lw_all := lw_g (lw_at lw_m2 11 rfl) rfl
theorem q289 : (Jvm.Cond.castable "java/lang/Double" "java/lang/Comparable") ∈ lw_tbl := lw_at lw_m2 16 rfl
theorem q290 : (Jvm.Cond.selects "java/lang/Double" ({ cls := "java/lang/Comparable", name := "compareTo", desc := "(Ljava/lang/Object;)I" } : Jvm.MethodName) ({ cls := "java/lang/Double", name := "compareTo", desc := "(Ljava/lang/Object;)I" } : Jvm.MethodName)) ∈ lw_all := lw_g (lw_at lw_m2 17 rfl) rfl
theorem q291 : (Jvm.Cond.unhidden "java/lang/Double" "compareTo" "(Ljava/lang/Object;)I") ∈ lw_tbl := lw_at lw_m2 18 rfl
theorem q292 : (Jvm.Cond.instanceMethod ({ cls := "java/lang/Double", name := "compareTo", desc := "(Ljava/lang/Object;)I" } : Jvm.MethodName)) ∈ lw_all := lw_g (lw_at lw_m2 19 rfl) rfl
theorem q293 : (Jvm.Cond.publicMethod ({ cls := "java/lang/Double", name := "compareTo", desc := "(Ljava/lang/Object;)I" } : Jvm.MethodName)) ∈ lw_tbl := lw_at lw_m2 20 rfl
theorem q294 : (Jvm.Cond.code ({ cls := "java/lang/Double", name := "compareTo", desc := "(Ljava/lang/Object;)I" } : Jvm.MethodName) prog_10_method_33_code (2 : Nat) (Option.some Jvm.ClassFile.FieldType.int)) ∈ lw_all := lw_g (lw_at lw_m2 21 rfl) rfl
theorem q295 : (Jvm.Cond.methodLink "java/lang/Double" (155 : Nat) ({ cls := "java/lang/Double", name := "compareTo", desc := "(Ljava/lang/Double;)I" } : Jvm.MethodName)) ∈ lw_all := lw_g (lw_at lw_m2 22 rfl) rfl
theorem q539 : (Jvm.Cond.instanceMethod ({ cls := "java/lang/Double", name := "equals", desc := "(Ljava/lang/Object;)Z" } : Jvm.MethodName)) ∈ lw_all := lw_g (lw_at lw_m3 26 rfl) rfl
theorem q540 : (Jvm.Cond.selects "java/lang/Double" ({ cls := "java/lang/Double", name := "equals", desc := "(Ljava/lang/Object;)Z" } : Jvm.MethodName) ({ cls := "java/lang/Double", name := "equals", desc := "(Ljava/lang/Object;)Z" } : Jvm.MethodName)) ∈ lw_all := lw_g (lw_at lw_m3 27 rfl) rfl
theorem q541 : (Jvm.Cond.code ({ cls := "java/lang/Double", name := "equals", desc := "(Ljava/lang/Object;)Z" } : Jvm.MethodName) prog_10_method_22_code (2 : Nat) (Option.some Jvm.ClassFile.FieldType.boolean)) ∈ lw_all := lw_g (lw_at lw_m3 28 rfl) rfl
theorem q543 : (Jvm.Cond.instanceMethod ({ cls := "java/lang/Double", name := "hashCode", desc := "()I" } : Jvm.MethodName)) ∈ lw_all := lw_g (lw_at lw_m3 30 rfl) rfl
theorem q544 : (Jvm.Cond.selects "java/lang/Double" ({ cls := "java/lang/Double", name := "hashCode", desc := "()I" } : Jvm.MethodName) ({ cls := "java/lang/Double", name := "hashCode", desc := "()I" } : Jvm.MethodName)) ∈ lw_all := lw_g (lw_at lw_m3 31 rfl) rfl
theorem q545 : (Jvm.Cond.code ({ cls := "java/lang/Double", name := "hashCode", desc := "()I" } : Jvm.MethodName) prog_10_method_20_code (1 : Nat) (Option.some Jvm.ClassFile.FieldType.int)) ∈ lw_all := lw_g (lw_at lw_m3 32 rfl) rfl
theorem q546 : (Jvm.Cond.methodLink "java/lang/Double" (128 : Nat) ({ cls := "java/lang/Double", name := "hashCode", desc := "(D)I" } : Jvm.MethodName)) ∈ lw_all := lw_g (lw_at lw_m3 33 rfl) rfl
theorem q547 : (Jvm.Cond.static ({ cls := "java/lang/Double", name := "hashCode", desc := "(D)I" } : Jvm.MethodName)) ∈ lw_all := lw_g (lw_at lw_m3 34 rfl) rfl
theorem q548 : (Jvm.Cond.code ({ cls := "java/lang/Double", name := "hashCode", desc := "(D)I" } : Jvm.MethodName) prog_10_method_21_code (2 : Nat) (Option.some Jvm.ClassFile.FieldType.int)) ∈ lw_all := lw_g (lw_at lw_m3 35 rfl) rfl
theorem q549 : (Jvm.Cond.methodLink "java/lang/Double" (131 : Nat) ({ cls := "java/lang/Long", name := "hashCode", desc := "(J)I" } : Jvm.MethodName)) ∈ lw_all := lw_g (lw_at lw_m3 36 rfl) rfl
theorem q566 : (Jvm.Cond.static ({ cls := "java/lang/Double", name := "max", desc := "(DD)D" } : Jvm.MethodName)) ∈ lw_all := lw_g (lw_at lw_m3 53 rfl) rfl
theorem q567 : (Jvm.Cond.code ({ cls := "java/lang/Double", name := "max", desc := "(DD)D" } : Jvm.MethodName) prog_10_method_29_code (4 : Nat) (Option.some Jvm.ClassFile.FieldType.double)) ∈ lw_all := lw_g (lw_at lw_m3 54 rfl) rfl
theorem q568 : (Jvm.Cond.methodLink "java/lang/Double" (143 : Nat) ({ cls := "java/lang/Math", name := "max", desc := "(DD)D" } : Jvm.MethodName)) ∈ lw_all := lw_g (lw_at lw_m3 55 rfl) rfl
theorem q575 : (Jvm.Cond.static ({ cls := "java/lang/Double", name := "min", desc := "(DD)D" } : Jvm.MethodName)) ∈ lw_all := lw_g (lw_at lw_m3 62 rfl) rfl
theorem q576 : (Jvm.Cond.code ({ cls := "java/lang/Double", name := "min", desc := "(DD)D" } : Jvm.MethodName) prog_10_method_30_code (4 : Nat) (Option.some Jvm.ClassFile.FieldType.double)) ∈ lw_all := lw_g (lw_at lw_m3 63 rfl) rfl
theorem q577 : (Jvm.Cond.methodLink "java/lang/Double" (146 : Nat) ({ cls := "java/lang/Math", name := "min", desc := "(DD)D" } : Jvm.MethodName)) ∈ lw_all := lw_g (lw_at lw_m3 64 rfl) rfl
theorem q761 : (Jvm.Cond.static ({ cls := "java/lang/Double", name := "longBitsToDouble", desc := "(J)D" } : Jvm.MethodName)) ∈ lw_all := lw_g (lw_at lw_m4 8 rfl) rfl
theorem q762 : (Jvm.Cond.native ({ cls := "java/lang/Double", name := "longBitsToDouble", desc := "(J)D" } : Jvm.MethodName)) ∈ lw_all := lw_g (lw_at lw_m4 9 rfl) rfl
theorem q833 : (Jvm.Cond.instanceMethod ({ cls := "java/lang/Double", name := "isInfinite", desc := "()Z" } : Jvm.MethodName)) ∈ lw_all := lw_g (lw_at lw_m4 80 rfl) rfl
theorem q834 : (Jvm.Cond.selects "java/lang/Double" ({ cls := "java/lang/Double", name := "isInfinite", desc := "()Z" } : Jvm.MethodName) ({ cls := "java/lang/Double", name := "isInfinite", desc := "()Z" } : Jvm.MethodName)) ∈ lw_all := lw_g (lw_at lw_m4 81 rfl) rfl
theorem q835 : (Jvm.Cond.code ({ cls := "java/lang/Double", name := "isInfinite", desc := "()Z" } : Jvm.MethodName) prog_10_method_12_code (1 : Nat) (Option.some Jvm.ClassFile.FieldType.boolean)) ∈ lw_all := lw_g (lw_at lw_m4 82 rfl) rfl
theorem q836 : (Jvm.Cond.methodLink "java/lang/Double" (125 : Nat) ({ cls := "java/lang/Double", name := "isInfinite", desc := "(D)Z" } : Jvm.MethodName)) ∈ lw_all := lw_g (lw_at lw_m4 83 rfl) rfl
theorem q837 : (Jvm.Cond.static ({ cls := "java/lang/Double", name := "isInfinite", desc := "(D)Z" } : Jvm.MethodName)) ∈ lw_all := lw_g (lw_at lw_m4 84 rfl) rfl
theorem q838 : (Jvm.Cond.code ({ cls := "java/lang/Double", name := "isInfinite", desc := "(D)Z" } : Jvm.MethodName) prog_10_method_7_code (2 : Nat) (Option.some Jvm.ClassFile.FieldType.boolean)) ∈ lw_all := lw_g (lw_at lw_m4 85 rfl) rfl
theorem q839 : (Jvm.Cond.methodLink "java/lang/Double" (38 : Nat) ({ cls := "java/lang/Math", name := "abs", desc := "(D)D" } : Jvm.MethodName)) ∈ lw_all := lw_g (lw_at lw_m4 86 rfl) rfl
theorem q844 : (Jvm.Cond.constantDouble "java/lang/Double" (111 : Nat) (9218868437227405311 : UInt64)) ∈ lw_all := lw_g (lw_at lw_m4 91 rfl) rfl
theorem q849 : (Jvm.Cond.static ({ cls := "java/lang/Double", name := "sum", desc := "(DD)D" } : Jvm.MethodName)) ∈ lw_all := lw_g (lw_at lw_m4 96 rfl) rfl
theorem q850 : (Jvm.Cond.code ({ cls := "java/lang/Double", name := "sum", desc := "(DD)D" } : Jvm.MethodName) prog_10_method_28_code (4 : Nat) (Option.some Jvm.ClassFile.FieldType.double)) ∈ lw_all := lw_g (lw_at lw_m4 97 rfl) rfl
theorem q1202 : (Jvm.Cond.selects "java/lang/Double" ({ cls := "java/lang/Object", name := "equals", desc := "(Ljava/lang/Object;)Z" } : Jvm.MethodName) ({ cls := "java/lang/Double", name := "equals", desc := "(Ljava/lang/Object;)Z" } : Jvm.MethodName)) ∈ lw_all := lw_g (lw_at lw_m5 209 rfl) rfl
theorem q1273 : (Jvm.Cond.static ({ cls := "java/lang/Double", name := "isFinite", desc := "(D)Z" } : Jvm.MethodName)) ∈ lw_all := lw_g (lw_at lw_m6 40 rfl) rfl
theorem q1274 : (Jvm.Cond.code ({ cls := "java/lang/Double", name := "isFinite", desc := "(D)Z" } : Jvm.MethodName) prog_10_method_8_code (2 : Nat) (Option.some Jvm.ClassFile.FieldType.boolean)) ∈ lw_all := lw_g (lw_at lw_m6 41 rfl) rfl
theorem in_J1 : ∀ w ∈ wsJ10, w ∈ lw_all := lw_in wsJ10 [89] (by decide +kernel) (by decide +kernel)
/-! java/lang/Float -/
set_option maxRecDepth 100000
def RJ2 : String := "java/lang/Float"
def TJ2 : u_T := fun k => match k with
  | _ => ("java/lang/Float", "value", "F", true)
def tyJ2 : Nat → FieldType := fun k => match k with
  | _ => .float
abbrev wsJ20 : List Cond := u_ws RJ2 TJ2 1
theorem nmJ2 : ∀ a, a < 1 → ∀ b, b < 1 → a ≠ b → (TJ2 a).2.1 ≠ (TJ2 b).2.1 := by decide +kernel
theorem tyJ2_ok : ∀ k, k < 1 → parseFieldDescriptor (TJ2 k).2.2.1 = some (tyJ2 k) := by decide +kernel
abbrev cJ2_valueOf : ByteArray := prog_12_method_4_code
def yJ2_valueOf : MethodName := ⟨RJ2, "valueOf", "(F)Ljava/lang/Float;"⟩
def dkwJ2_valueOf_0 : List UInt8 := [187, 0, 1, 89, 34, 183, 0, 42, 176]
abbrev dktJ2_valueOf_0 : List UInt8 := dkwJ2_valueOf_0 ++ []
theorem dksJ2_valueOf_0 : cJ2_valueOf.data.toList.drop 0 = dktJ2_valueOf_0 := by decide +kernel
theorem dJ2_valueOf_0 : decode cJ2_valueOf 0 = .ok (.new 1, 3) := dk_187 0 1 (dk_at dksJ2_valueOf_0 0 rfl rfl)
theorem dJ2_valueOf_3 : decode cJ2_valueOf 3 = .ok (.dup, 1) := dk_89 (dk_at dksJ2_valueOf_0 3 rfl rfl)
theorem dJ2_valueOf_4 : decode cJ2_valueOf 4 = .ok (.fload_n 0, 1) := dk_34 (dk_at dksJ2_valueOf_0 4 rfl rfl)
theorem dJ2_valueOf_5 : decode cJ2_valueOf 5 = .ok (.invokespecial 42, 3) := dk_183 0 42 (dk_at dksJ2_valueOf_0 5 rfl rfl)
theorem dJ2_valueOf_8 : decode cJ2_valueOf 8 = .ok (.areturn, 1) := dk_176 (dk_at dksJ2_valueOf_0 8 rfl rfl)
abbrev cJ2_init : ByteArray := prog_12_method_9_code
def yJ2_init : MethodName := ⟨RJ2, "<init>", "(F)V"⟩
def dkwJ2_init_0 : List UInt8 := [42, 183, 0, 50, 42, 35, 181, 0, 55, 177]
abbrev dktJ2_init_0 : List UInt8 := dkwJ2_init_0 ++ []
theorem dksJ2_init_0 : cJ2_init.data.toList.drop 0 = dktJ2_init_0 := by decide +kernel
theorem dJ2_init_0 : decode cJ2_init 0 = .ok (.aload_n 0, 1) := dk_42 (dk_at dksJ2_init_0 0 rfl rfl)
theorem dJ2_init_1 : decode cJ2_init 1 = .ok (.invokespecial 50, 3) := dk_183 0 50 (dk_at dksJ2_init_0 1 rfl rfl)
theorem dJ2_init_4 : decode cJ2_init 4 = .ok (.aload_n 0, 1) := dk_42 (dk_at dksJ2_init_0 4 rfl rfl)
theorem dJ2_init_5 : decode cJ2_init 5 = .ok (.fload_n 1, 1) := dk_35 (dk_at dksJ2_init_0 5 rfl rfl)
theorem dJ2_init_6 : decode cJ2_init 6 = .ok (.putfield 55, 3) := dk_181 0 55 (dk_at dksJ2_init_0 6 rfl rfl)
theorem dJ2_init_9 : decode cJ2_init 9 = .ok (.return_, 1) := dk_177 (dk_at dksJ2_init_0 9 rfl rfl)
abbrev cJ2_floatValue : ByteArray := prog_12_method_19_code
def yJ2_floatValue : MethodName := ⟨RJ2, "floatValue", "()F"⟩
theorem dJ2_floatValue_0 : decode cJ2_floatValue 0 = .ok (.aload_n 0, 1) := by decide +kernel
theorem dJ2_floatValue_1 : decode cJ2_floatValue 1 = .ok (.getfield 55, 3) := by decide +kernel
theorem dJ2_floatValue_4 : decode cJ2_floatValue 4 = .ok (.freturn, 1) := by decide +kernel
abbrev cJ2_floatToIntBits : ByteArray := prog_12_method_24_code
def yJ2_floatToIntBits : MethodName := ⟨RJ2, "floatToIntBits", "(F)I"⟩
def dkwJ2_floatToIntBits_0 : List UInt8 := [34, 184, 0, 59, 154, 0, 8, 34, 184, 0, 74, 172, 18, 77, 172]
abbrev dktJ2_floatToIntBits_0 : List UInt8 := dkwJ2_floatToIntBits_0 ++ []
theorem dksJ2_floatToIntBits_0 : cJ2_floatToIntBits.data.toList.drop 0 = dktJ2_floatToIntBits_0 := by decide +kernel
theorem dJ2_floatToIntBits_0 : decode cJ2_floatToIntBits 0 = .ok (.fload_n 0, 1) := dk_34 (dk_at dksJ2_floatToIntBits_0 0 rfl rfl)
theorem dJ2_floatToIntBits_1 : decode cJ2_floatToIntBits 1 = .ok (.invokestatic 59, 3) := dk_184 0 59 (dk_at dksJ2_floatToIntBits_0 1 rfl rfl)
theorem dJ2_floatToIntBits_4 : decode cJ2_floatToIntBits 4 = .ok (.ifCond .ne 8, 3) := dk_154 0 8 (dk_at dksJ2_floatToIntBits_0 4 rfl rfl)
theorem dJ2_floatToIntBits_7 : decode cJ2_floatToIntBits 7 = .ok (.fload_n 0, 1) := dk_34 (dk_at dksJ2_floatToIntBits_0 7 rfl rfl)
theorem dJ2_floatToIntBits_8 : decode cJ2_floatToIntBits 8 = .ok (.invokestatic 74, 3) := dk_184 0 74 (dk_at dksJ2_floatToIntBits_0 8 rfl rfl)
theorem dJ2_floatToIntBits_11 : decode cJ2_floatToIntBits 11 = .ok (.ireturn, 1) := dk_172 (dk_at dksJ2_floatToIntBits_0 11 rfl rfl)
theorem dJ2_floatToIntBits_12 : decode cJ2_floatToIntBits 12 = .ok (.ldc 77, 2) := dk_18 77 (dk_at dksJ2_floatToIntBits_0 12 rfl rfl)
theorem dJ2_floatToIntBits_14 : decode cJ2_floatToIntBits 14 = .ok (.ireturn, 1) := dk_172 (dk_at dksJ2_floatToIntBits_0 14 rfl rfl)
abbrev cJ2_isNaN : ByteArray := prog_12_method_6_code
def yJ2_isNaN : MethodName := ⟨RJ2, "isNaN", "(F)Z"⟩
def dkwJ2_isNaN_0 : List UInt8 := [34, 34, 149, 153, 0, 7, 4, 167, 0, 4, 3, 172]
abbrev dktJ2_isNaN_0 : List UInt8 := dkwJ2_isNaN_0 ++ []
theorem dksJ2_isNaN_0 : cJ2_isNaN.data.toList.drop 0 = dktJ2_isNaN_0 := by decide +kernel
theorem dJ2_isNaN_0 : decode cJ2_isNaN 0 = .ok (.fload_n 0, 1) := dk_34 (dk_at dksJ2_isNaN_0 0 rfl rfl)
theorem dJ2_isNaN_1 : decode cJ2_isNaN 1 = .ok (.fload_n 0, 1) := dk_34 (dk_at dksJ2_isNaN_0 1 rfl rfl)
theorem dJ2_isNaN_2 : decode cJ2_isNaN 2 = .ok (.fcmp .l, 1) := dk_149 (dk_at dksJ2_isNaN_0 2 rfl rfl)
theorem dJ2_isNaN_3 : decode cJ2_isNaN 3 = .ok (.ifCond .eq 7, 3) := dk_153 0 7 (dk_at dksJ2_isNaN_0 3 rfl rfl)
theorem dJ2_isNaN_6 : decode cJ2_isNaN 6 = .ok (.iconst 1, 1) := dk_4 (dk_at dksJ2_isNaN_0 6 rfl rfl)
theorem dJ2_isNaN_7 : decode cJ2_isNaN 7 = .ok (.goto 4, 3) := dk_167 0 4 (dk_at dksJ2_isNaN_0 7 rfl rfl)
theorem dJ2_isNaN_10 : decode cJ2_isNaN 10 = .ok (.iconst 0, 1) := dk_3 (dk_at dksJ2_isNaN_0 10 rfl rfl)
theorem dJ2_isNaN_11 : decode cJ2_isNaN 11 = .ok (.ireturn, 1) := dk_172 (dk_at dksJ2_isNaN_0 11 rfl rfl)
abbrev cJ2_compareTo : ByteArray := prog_12_method_36_code
def yJ2_compareTo : MethodName := ⟨RJ2, "compareTo", "(Ljava/lang/Object;)I"⟩
def dkwJ2_compareTo_0 : List UInt8 := [42, 43, 192, 0, 1, 182, 0, 123, 172]
abbrev dktJ2_compareTo_0 : List UInt8 := dkwJ2_compareTo_0 ++ []
theorem dksJ2_compareTo_0 : cJ2_compareTo.data.toList.drop 0 = dktJ2_compareTo_0 := by decide +kernel
theorem dJ2_compareTo_0 : decode cJ2_compareTo 0 = .ok (.aload_n 0, 1) := dk_42 (dk_at dksJ2_compareTo_0 0 rfl rfl)
theorem dJ2_compareTo_1 : decode cJ2_compareTo 1 = .ok (.aload_n 1, 1) := dk_43 (dk_at dksJ2_compareTo_0 1 rfl rfl)
theorem dJ2_compareTo_2 : decode cJ2_compareTo 2 = .ok (.checkcast 1, 3) := dk_192 0 1 (dk_at dksJ2_compareTo_0 2 rfl rfl)
theorem dJ2_compareTo_5 : decode cJ2_compareTo 5 = .ok (.invokevirtual 123, 3) := dk_182 0 123 (dk_at dksJ2_compareTo_0 5 rfl rfl)
theorem dJ2_compareTo_8 : decode cJ2_compareTo 8 = .ok (.ireturn, 1) := dk_172 (dk_at dksJ2_compareTo_0 8 rfl rfl)
abbrev cJ2_compareTo_2 : ByteArray := prog_12_method_29_code
def yJ2_compareTo_2 : MethodName := ⟨RJ2, "compareTo", "(Ljava/lang/Float;)I"⟩
def dkwJ2_compareTo_2_0 : List UInt8 := [42, 180, 0, 55, 43, 180, 0, 55, 184, 0, 106, 172]
abbrev dktJ2_compareTo_2_0 : List UInt8 := dkwJ2_compareTo_2_0 ++ []
theorem dksJ2_compareTo_2_0 : cJ2_compareTo_2.data.toList.drop 0 = dktJ2_compareTo_2_0 := by decide +kernel
theorem dJ2_compareTo_2_0 : decode cJ2_compareTo_2 0 = .ok (.aload_n 0, 1) := dk_42 (dk_at dksJ2_compareTo_2_0 0 rfl rfl)
theorem dJ2_compareTo_2_1 : decode cJ2_compareTo_2 1 = .ok (.getfield 55, 3) := dk_180 0 55 (dk_at dksJ2_compareTo_2_0 1 rfl rfl)
theorem dJ2_compareTo_2_4 : decode cJ2_compareTo_2 4 = .ok (.aload_n 1, 1) := dk_43 (dk_at dksJ2_compareTo_2_0 4 rfl rfl)
theorem dJ2_compareTo_2_5 : decode cJ2_compareTo_2 5 = .ok (.getfield 55, 3) := dk_180 0 55 (dk_at dksJ2_compareTo_2_0 5 rfl rfl)
theorem dJ2_compareTo_2_8 : decode cJ2_compareTo_2 8 = .ok (.invokestatic 106, 3) := dk_184 0 106 (dk_at dksJ2_compareTo_2_0 8 rfl rfl)
theorem dJ2_compareTo_2_11 : decode cJ2_compareTo_2 11 = .ok (.ireturn, 1) := dk_172 (dk_at dksJ2_compareTo_2_0 11 rfl rfl)
abbrev cJ2_compare : ByteArray := prog_12_method_30_code
def yJ2_compare : MethodName := ⟨RJ2, "compare", "(FF)I"⟩
def dkwJ2_compare_1 : List UInt8 := [184, 0, 71, 62, 28, 29, 160, 0, 7, 3, 167, 0, 13, 28, 29, 162, 0, 7, 2, 167, 0, 4, 4, 172]
abbrev dktJ2_compare_1 : List UInt8 := dkwJ2_compare_1 ++ []
def dkwJ2_compare_0 : List UInt8 := [34, 35, 150, 156, 0, 5, 2, 172, 34, 35, 149, 158, 0, 5, 4, 172, 34, 184, 0, 71, 61, 35]
abbrev dktJ2_compare_0 : List UInt8 := dkwJ2_compare_0 ++ dktJ2_compare_1
theorem dksJ2_compare_0 : cJ2_compare.data.toList.drop 0 = dktJ2_compare_0 := by decide +kernel
theorem dksJ2_compare_1 : cJ2_compare.data.toList.drop 22 = dktJ2_compare_1 := dk_seg dksJ2_compare_0 22 rfl rfl
theorem dJ2_compare_0 : decode cJ2_compare 0 = .ok (.fload_n 0, 1) := dk_34 (dk_at dksJ2_compare_0 0 rfl rfl)
theorem dJ2_compare_1 : decode cJ2_compare 1 = .ok (.fload_n 1, 1) := dk_35 (dk_at dksJ2_compare_0 1 rfl rfl)
theorem dJ2_compare_2 : decode cJ2_compare 2 = .ok (.fcmp .g, 1) := dk_150 (dk_at dksJ2_compare_0 2 rfl rfl)
theorem dJ2_compare_3 : decode cJ2_compare 3 = .ok (.ifCond .ge 5, 3) := dk_156 0 5 (dk_at dksJ2_compare_0 3 rfl rfl)
theorem dJ2_compare_6 : decode cJ2_compare 6 = .ok (.iconst (-1), 1) := dk_2 (dk_at dksJ2_compare_0 6 rfl rfl)
theorem dJ2_compare_7 : decode cJ2_compare 7 = .ok (.ireturn, 1) := dk_172 (dk_at dksJ2_compare_0 7 rfl rfl)
theorem dJ2_compare_8 : decode cJ2_compare 8 = .ok (.fload_n 0, 1) := dk_34 (dk_at dksJ2_compare_0 8 rfl rfl)
theorem dJ2_compare_9 : decode cJ2_compare 9 = .ok (.fload_n 1, 1) := dk_35 (dk_at dksJ2_compare_0 9 rfl rfl)
theorem dJ2_compare_10 : decode cJ2_compare 10 = .ok (.fcmp .l, 1) := dk_149 (dk_at dksJ2_compare_0 10 rfl rfl)
theorem dJ2_compare_11 : decode cJ2_compare 11 = .ok (.ifCond .le 5, 3) := dk_158 0 5 (dk_at dksJ2_compare_0 11 rfl rfl)
theorem dJ2_compare_14 : decode cJ2_compare 14 = .ok (.iconst 1, 1) := dk_4 (dk_at dksJ2_compare_0 14 rfl rfl)
theorem dJ2_compare_15 : decode cJ2_compare 15 = .ok (.ireturn, 1) := dk_172 (dk_at dksJ2_compare_0 15 rfl rfl)
theorem dJ2_compare_16 : decode cJ2_compare 16 = .ok (.fload_n 0, 1) := dk_34 (dk_at dksJ2_compare_0 16 rfl rfl)
theorem dJ2_compare_17 : decode cJ2_compare 17 = .ok (.invokestatic 71, 3) := dk_184 0 71 (dk_at dksJ2_compare_0 17 rfl rfl)
theorem dJ2_compare_20 : decode cJ2_compare 20 = .ok (.istore_n 2, 1) := dk_61 (dk_at dksJ2_compare_0 20 rfl rfl)
theorem dJ2_compare_21 : decode cJ2_compare 21 = .ok (.fload_n 1, 1) := dk_35 (dk_at dksJ2_compare_0 21 rfl rfl)
theorem dJ2_compare_22 : decode cJ2_compare 22 = .ok (.invokestatic 71, 3) := dk_184 0 71 (dk_at dksJ2_compare_1 0 rfl rfl)
theorem dJ2_compare_25 : decode cJ2_compare 25 = .ok (.istore_n 3, 1) := dk_62 (dk_at dksJ2_compare_1 3 rfl rfl)
theorem dJ2_compare_26 : decode cJ2_compare 26 = .ok (.iload_n 2, 1) := dk_28 (dk_at dksJ2_compare_1 4 rfl rfl)
theorem dJ2_compare_27 : decode cJ2_compare 27 = .ok (.iload_n 3, 1) := dk_29 (dk_at dksJ2_compare_1 5 rfl rfl)
theorem dJ2_compare_28 : decode cJ2_compare 28 = .ok (.if_icmp .ne 7, 3) := dk_160 0 7 (dk_at dksJ2_compare_1 6 rfl rfl)
theorem dJ2_compare_31 : decode cJ2_compare 31 = .ok (.iconst 0, 1) := dk_3 (dk_at dksJ2_compare_1 9 rfl rfl)
theorem dJ2_compare_32 : decode cJ2_compare 32 = .ok (.goto 13, 3) := dk_167 0 13 (dk_at dksJ2_compare_1 10 rfl rfl)
theorem dJ2_compare_35 : decode cJ2_compare 35 = .ok (.iload_n 2, 1) := dk_28 (dk_at dksJ2_compare_1 13 rfl rfl)
theorem dJ2_compare_36 : decode cJ2_compare 36 = .ok (.iload_n 3, 1) := dk_29 (dk_at dksJ2_compare_1 14 rfl rfl)
theorem dJ2_compare_37 : decode cJ2_compare 37 = .ok (.if_icmp .ge 7, 3) := dk_162 0 7 (dk_at dksJ2_compare_1 15 rfl rfl)
theorem dJ2_compare_40 : decode cJ2_compare 40 = .ok (.iconst (-1), 1) := dk_2 (dk_at dksJ2_compare_1 18 rfl rfl)
theorem dJ2_compare_41 : decode cJ2_compare 41 = .ok (.goto 4, 3) := dk_167 0 4 (dk_at dksJ2_compare_1 19 rfl rfl)
theorem dJ2_compare_44 : decode cJ2_compare 44 = .ok (.iconst 1, 1) := dk_4 (dk_at dksJ2_compare_1 22 rfl rfl)
theorem dJ2_compare_45 : decode cJ2_compare 45 = .ok (.ireturn, 1) := dk_172 (dk_at dksJ2_compare_1 23 rfl rfl)
abbrev cJ2_equals : ByteArray := prog_12_method_23_code
def yJ2_equals : MethodName := ⟨RJ2, "equals", "(Ljava/lang/Object;)Z"⟩
def dkwJ2_equals_1 : List UInt8 := [160, 0, 7, 4, 167, 0, 4, 3, 172]
abbrev dktJ2_equals_1 : List UInt8 := dkwJ2_equals_1 ++ []
def dkwJ2_equals_0 : List UInt8 := [43, 193, 0, 1, 153, 0, 27, 43, 192, 0, 1, 180, 0, 55, 184, 0, 71, 42, 180, 0, 55, 184, 0, 71]
abbrev dktJ2_equals_0 : List UInt8 := dkwJ2_equals_0 ++ dktJ2_equals_1
theorem dksJ2_equals_0 : cJ2_equals.data.toList.drop 0 = dktJ2_equals_0 := by decide +kernel
theorem dksJ2_equals_1 : cJ2_equals.data.toList.drop 24 = dktJ2_equals_1 := dk_seg dksJ2_equals_0 24 rfl rfl
theorem dJ2_equals_0 : decode cJ2_equals 0 = .ok (.aload_n 1, 1) := dk_43 (dk_at dksJ2_equals_0 0 rfl rfl)
theorem dJ2_equals_1 : decode cJ2_equals 1 = .ok (.instanceof 1, 3) := dk_193 0 1 (dk_at dksJ2_equals_0 1 rfl rfl)
theorem dJ2_equals_4 : decode cJ2_equals 4 = .ok (.ifCond .eq 27, 3) := dk_153 0 27 (dk_at dksJ2_equals_0 4 rfl rfl)
theorem dJ2_equals_7 : decode cJ2_equals 7 = .ok (.aload_n 1, 1) := dk_43 (dk_at dksJ2_equals_0 7 rfl rfl)
theorem dJ2_equals_8 : decode cJ2_equals 8 = .ok (.checkcast 1, 3) := dk_192 0 1 (dk_at dksJ2_equals_0 8 rfl rfl)
theorem dJ2_equals_11 : decode cJ2_equals 11 = .ok (.getfield 55, 3) := dk_180 0 55 (dk_at dksJ2_equals_0 11 rfl rfl)
theorem dJ2_equals_14 : decode cJ2_equals 14 = .ok (.invokestatic 71, 3) := dk_184 0 71 (dk_at dksJ2_equals_0 14 rfl rfl)
theorem dJ2_equals_17 : decode cJ2_equals 17 = .ok (.aload_n 0, 1) := dk_42 (dk_at dksJ2_equals_0 17 rfl rfl)
theorem dJ2_equals_18 : decode cJ2_equals 18 = .ok (.getfield 55, 3) := dk_180 0 55 (dk_at dksJ2_equals_0 18 rfl rfl)
theorem dJ2_equals_21 : decode cJ2_equals 21 = .ok (.invokestatic 71, 3) := dk_184 0 71 (dk_at dksJ2_equals_0 21 rfl rfl)
theorem dJ2_equals_24 : decode cJ2_equals 24 = .ok (.if_icmp .ne 7, 3) := dk_160 0 7 (dk_at dksJ2_equals_1 0 rfl rfl)
theorem dJ2_equals_27 : decode cJ2_equals 27 = .ok (.iconst 1, 1) := dk_4 (dk_at dksJ2_equals_1 3 rfl rfl)
theorem dJ2_equals_28 : decode cJ2_equals 28 = .ok (.goto 4, 3) := dk_167 0 4 (dk_at dksJ2_equals_1 4 rfl rfl)
theorem dJ2_equals_31 : decode cJ2_equals 31 = .ok (.iconst 0, 1) := dk_3 (dk_at dksJ2_equals_1 7 rfl rfl)
theorem dJ2_equals_32 : decode cJ2_equals 32 = .ok (.ireturn, 1) := dk_172 (dk_at dksJ2_equals_1 8 rfl rfl)
abbrev cJ2_hashCode : ByteArray := prog_12_method_21_code
def yJ2_hashCode : MethodName := ⟨RJ2, "hashCode", "()I"⟩
def dkwJ2_hashCode_0 : List UInt8 := [42, 180, 0, 55, 184, 0, 67, 172]
abbrev dktJ2_hashCode_0 : List UInt8 := dkwJ2_hashCode_0 ++ []
theorem dksJ2_hashCode_0 : cJ2_hashCode.data.toList.drop 0 = dktJ2_hashCode_0 := by decide +kernel
theorem dJ2_hashCode_0 : decode cJ2_hashCode 0 = .ok (.aload_n 0, 1) := dk_42 (dk_at dksJ2_hashCode_0 0 rfl rfl)
theorem dJ2_hashCode_1 : decode cJ2_hashCode 1 = .ok (.getfield 55, 3) := dk_180 0 55 (dk_at dksJ2_hashCode_0 1 rfl rfl)
theorem dJ2_hashCode_4 : decode cJ2_hashCode 4 = .ok (.invokestatic 67, 3) := dk_184 0 67 (dk_at dksJ2_hashCode_0 4 rfl rfl)
theorem dJ2_hashCode_7 : decode cJ2_hashCode 7 = .ok (.ireturn, 1) := dk_172 (dk_at dksJ2_hashCode_0 7 rfl rfl)
abbrev cJ2_hashCode_2 : ByteArray := prog_12_method_22_code
def yJ2_hashCode_2 : MethodName := ⟨RJ2, "hashCode", "(F)I"⟩
theorem dJ2_hashCode_2_0 : decode cJ2_hashCode_2 0 = .ok (.fload_n 0, 1) := by decide +kernel
theorem dJ2_hashCode_2_1 : decode cJ2_hashCode_2 1 = .ok (.invokestatic 71, 3) := by decide +kernel
theorem dJ2_hashCode_2_4 : decode cJ2_hashCode_2 4 = .ok (.ireturn, 1) := by decide +kernel
abbrev cJ2_max : ByteArray := prog_12_method_32_code
def yJ2_max : MethodName := ⟨RJ2, "max", "(FF)F"⟩
def dkwJ2_max_0 : List UInt8 := [34, 35, 184, 0, 110, 174]
abbrev dktJ2_max_0 : List UInt8 := dkwJ2_max_0 ++ []
theorem dksJ2_max_0 : cJ2_max.data.toList.drop 0 = dktJ2_max_0 := by decide +kernel
theorem dJ2_max_0 : decode cJ2_max 0 = .ok (.fload_n 0, 1) := dk_34 (dk_at dksJ2_max_0 0 rfl rfl)
theorem dJ2_max_1 : decode cJ2_max 1 = .ok (.fload_n 1, 1) := dk_35 (dk_at dksJ2_max_0 1 rfl rfl)
theorem dJ2_max_2 : decode cJ2_max 2 = .ok (.invokestatic 110, 3) := dk_184 0 110 (dk_at dksJ2_max_0 2 rfl rfl)
theorem dJ2_max_5 : decode cJ2_max 5 = .ok (.freturn, 1) := dk_174 (dk_at dksJ2_max_0 5 rfl rfl)
abbrev cJ2_min : ByteArray := prog_12_method_33_code
def yJ2_min : MethodName := ⟨RJ2, "min", "(FF)F"⟩
def dkwJ2_min_0 : List UInt8 := [34, 35, 184, 0, 114, 174]
abbrev dktJ2_min_0 : List UInt8 := dkwJ2_min_0 ++ []
theorem dksJ2_min_0 : cJ2_min.data.toList.drop 0 = dktJ2_min_0 := by decide +kernel
theorem dJ2_min_0 : decode cJ2_min 0 = .ok (.fload_n 0, 1) := dk_34 (dk_at dksJ2_min_0 0 rfl rfl)
theorem dJ2_min_1 : decode cJ2_min 1 = .ok (.fload_n 1, 1) := dk_35 (dk_at dksJ2_min_0 1 rfl rfl)
theorem dJ2_min_2 : decode cJ2_min 2 = .ok (.invokestatic 114, 3) := dk_184 0 114 (dk_at dksJ2_min_0 2 rfl rfl)
theorem dJ2_min_5 : decode cJ2_min 5 = .ok (.freturn, 1) := dk_174 (dk_at dksJ2_min_0 5 rfl rfl)
abbrev cJ2_isInfinite : ByteArray := prog_12_method_13_code
def yJ2_isInfinite : MethodName := ⟨RJ2, "isInfinite", "()Z"⟩
def dkwJ2_isInfinite_0 : List UInt8 := [42, 180, 0, 55, 184, 0, 63, 172]
abbrev dktJ2_isInfinite_0 : List UInt8 := dkwJ2_isInfinite_0 ++ []
theorem dksJ2_isInfinite_0 : cJ2_isInfinite.data.toList.drop 0 = dktJ2_isInfinite_0 := by decide +kernel
theorem dJ2_isInfinite_0 : decode cJ2_isInfinite 0 = .ok (.aload_n 0, 1) := dk_42 (dk_at dksJ2_isInfinite_0 0 rfl rfl)
theorem dJ2_isInfinite_1 : decode cJ2_isInfinite 1 = .ok (.getfield 55, 3) := dk_180 0 55 (dk_at dksJ2_isInfinite_0 1 rfl rfl)
theorem dJ2_isInfinite_4 : decode cJ2_isInfinite 4 = .ok (.invokestatic 63, 3) := dk_184 0 63 (dk_at dksJ2_isInfinite_0 4 rfl rfl)
theorem dJ2_isInfinite_7 : decode cJ2_isInfinite 7 = .ok (.ireturn, 1) := dk_172 (dk_at dksJ2_isInfinite_0 7 rfl rfl)
abbrev cJ2_isInfinite_2 : ByteArray := prog_12_method_7_code
def yJ2_isInfinite_2 : MethodName := ⟨RJ2, "isInfinite", "(F)Z"⟩
def dkwJ2_isInfinite_2_0 : List UInt8 := [34, 184, 0, 11, 18, 49, 149, 158, 0, 7, 4, 167, 0, 4, 3, 172]
abbrev dktJ2_isInfinite_2_0 : List UInt8 := dkwJ2_isInfinite_2_0 ++ []
theorem dksJ2_isInfinite_2_0 : cJ2_isInfinite_2.data.toList.drop 0 = dktJ2_isInfinite_2_0 := by decide +kernel
theorem dJ2_isInfinite_2_0 : decode cJ2_isInfinite_2 0 = .ok (.fload_n 0, 1) := dk_34 (dk_at dksJ2_isInfinite_2_0 0 rfl rfl)
theorem dJ2_isInfinite_2_1 : decode cJ2_isInfinite_2 1 = .ok (.invokestatic 11, 3) := dk_184 0 11 (dk_at dksJ2_isInfinite_2_0 1 rfl rfl)
theorem dJ2_isInfinite_2_4 : decode cJ2_isInfinite_2 4 = .ok (.ldc 49, 2) := dk_18 49 (dk_at dksJ2_isInfinite_2_0 4 rfl rfl)
theorem dJ2_isInfinite_2_6 : decode cJ2_isInfinite_2 6 = .ok (.fcmp .l, 1) := dk_149 (dk_at dksJ2_isInfinite_2_0 6 rfl rfl)
theorem dJ2_isInfinite_2_7 : decode cJ2_isInfinite_2 7 = .ok (.ifCond .le 7, 3) := dk_158 0 7 (dk_at dksJ2_isInfinite_2_0 7 rfl rfl)
theorem dJ2_isInfinite_2_10 : decode cJ2_isInfinite_2 10 = .ok (.iconst 1, 1) := dk_4 (dk_at dksJ2_isInfinite_2_0 10 rfl rfl)
theorem dJ2_isInfinite_2_11 : decode cJ2_isInfinite_2 11 = .ok (.goto 4, 3) := dk_167 0 4 (dk_at dksJ2_isInfinite_2_0 11 rfl rfl)
theorem dJ2_isInfinite_2_14 : decode cJ2_isInfinite_2 14 = .ok (.iconst 0, 1) := dk_3 (dk_at dksJ2_isInfinite_2_0 14 rfl rfl)
theorem dJ2_isInfinite_2_15 : decode cJ2_isInfinite_2 15 = .ok (.ireturn, 1) := dk_172 (dk_at dksJ2_isInfinite_2_0 15 rfl rfl)
abbrev cJ2_sum : ByteArray := prog_12_method_31_code
def yJ2_sum : MethodName := ⟨RJ2, "sum", "(FF)F"⟩
def dkwJ2_sum_0 : List UInt8 := [34, 35, 98, 174]
abbrev dktJ2_sum_0 : List UInt8 := dkwJ2_sum_0 ++ []
theorem dksJ2_sum_0 : cJ2_sum.data.toList.drop 0 = dktJ2_sum_0 := by decide +kernel
theorem dJ2_sum_0 : decode cJ2_sum 0 = .ok (.fload_n 0, 1) := dk_34 (dk_at dksJ2_sum_0 0 rfl rfl)
theorem dJ2_sum_1 : decode cJ2_sum 1 = .ok (.fload_n 1, 1) := dk_35 (dk_at dksJ2_sum_0 1 rfl rfl)
theorem dJ2_sum_2 : decode cJ2_sum 2 = .ok (.fadd, 1) := dk_98 (dk_at dksJ2_sum_0 2 rfl rfl)
theorem dJ2_sum_3 : decode cJ2_sum 3 = .ok (.freturn, 1) := dk_174 (dk_at dksJ2_sum_0 3 rfl rfl)
abbrev cJ2_isFinite : ByteArray := prog_12_method_8_code
def yJ2_isFinite : MethodName := ⟨RJ2, "isFinite", "(F)Z"⟩
def dkwJ2_isFinite_0 : List UInt8 := [34, 184, 0, 11, 18, 49, 150, 157, 0, 7, 4, 167, 0, 4, 3, 172]
abbrev dktJ2_isFinite_0 : List UInt8 := dkwJ2_isFinite_0 ++ []
theorem dksJ2_isFinite_0 : cJ2_isFinite.data.toList.drop 0 = dktJ2_isFinite_0 := by decide +kernel
theorem dJ2_isFinite_0 : decode cJ2_isFinite 0 = .ok (.fload_n 0, 1) := dk_34 (dk_at dksJ2_isFinite_0 0 rfl rfl)
theorem dJ2_isFinite_1 : decode cJ2_isFinite 1 = .ok (.invokestatic 11, 3) := dk_184 0 11 (dk_at dksJ2_isFinite_0 1 rfl rfl)
theorem dJ2_isFinite_4 : decode cJ2_isFinite 4 = .ok (.ldc 49, 2) := dk_18 49 (dk_at dksJ2_isFinite_0 4 rfl rfl)
theorem dJ2_isFinite_6 : decode cJ2_isFinite 6 = .ok (.fcmp .g, 1) := dk_150 (dk_at dksJ2_isFinite_0 6 rfl rfl)
theorem dJ2_isFinite_7 : decode cJ2_isFinite 7 = .ok (.ifCond .gt 7, 3) := dk_157 0 7 (dk_at dksJ2_isFinite_0 7 rfl rfl)
theorem dJ2_isFinite_10 : decode cJ2_isFinite 10 = .ok (.iconst 1, 1) := dk_4 (dk_at dksJ2_isFinite_0 10 rfl rfl)
theorem dJ2_isFinite_11 : decode cJ2_isFinite 11 = .ok (.goto 4, 3) := dk_167 0 4 (dk_at dksJ2_isFinite_0 11 rfl rfl)
theorem dJ2_isFinite_14 : decode cJ2_isFinite 14 = .ok (.iconst 0, 1) := dk_3 (dk_at dksJ2_isFinite_0 14 rfl rfl)
theorem dJ2_isFinite_15 : decode cJ2_isFinite 15 = .ok (.ireturn, 1) := dk_172 (dk_at dksJ2_isFinite_0 15 rfl rfl)
theorem q37 : (Jvm.Cond.initialized "java/lang/Float") ∈ lw_all := lw_g (lw_at lw_m1 4 rfl) rfl
theorem q93 : (Jvm.Cond.static ({ cls := "java/lang/Float", name := "valueOf", desc := "(F)Ljava/lang/Float;" } : Jvm.MethodName)) ∈ lw_all := lw_g (lw_at lw_m1 60 rfl) rfl
theorem q94 : (Jvm.Cond.code ({ cls := "java/lang/Float", name := "valueOf", desc := "(F)Ljava/lang/Float;" } : Jvm.MethodName) prog_12_method_4_code (1 : Nat) (Option.some (Jvm.ClassFile.FieldType.object "java/lang/Float"))) ∈ lw_all := lw_g (lw_at lw_m1 61 rfl) rfl
theorem q95 : (Jvm.Cond.classLink "java/lang/Float" (1 : Nat) "java/lang/Float") ∈ lw_all := lw_g (lw_at lw_m1 62 rfl) rfl
theorem q96 : (Jvm.Cond.instantiable "java/lang/Float" (1 : Nat)) ∈ lw_all := lw_g (lw_at lw_m1 63 rfl) rfl
theorem q97 : (Jvm.Cond.methodLink "java/lang/Float" (42 : Nat) ({ cls := "java/lang/Float", name := "<init>", desc := "(F)V" } : Jvm.MethodName)) ∈ lw_all := lw_g (lw_at lw_m1 64 rfl) rfl
theorem q98 : (Jvm.Cond.instanceMethod ({ cls := "java/lang/Float", name := "<init>", desc := "(F)V" } : Jvm.MethodName)) ∈ lw_all := lw_g (lw_at lw_m1 65 rfl) rfl
theorem q99 : (Jvm.Cond.code ({ cls := "java/lang/Float", name := "<init>", desc := "(F)V" } : Jvm.MethodName) prog_12_method_9_code (2 : Nat) (Option.none : Option Jvm.ClassFile.FieldType)) ∈ lw_all := lw_g (lw_at lw_m1 66 rfl) rfl
theorem q100 : (Jvm.Cond.methodLink "java/lang/Float" (50 : Nat) ({ cls := "java/lang/Number", name := "<init>", desc := "()V" } : Jvm.MethodName)) ∈ lw_all := lw_g (lw_at lw_m1 67 rfl) rfl
theorem q101 : (Jvm.Cond.fieldLink "java/lang/Float" (55 : Nat) "java/lang/Float" "value" "F") ∈ lw_all := lw_g (lw_at lw_m1 68 rfl) rfl
theorem q102 : (Jvm.Cond.laysFinal "java/lang/Float" "java/lang/Float" "value" "F") ∈ lw_all := lw_g (lw_at lw_m1 69 rfl) rfl
theorem q103 : (Jvm.Cond.soleField "java/lang/Float" "value") ∈ lw_all := lw_g (lw_at lw_m1 70 rfl) rfl
theorem q104 : (Jvm.Cond.superclass "java/lang/Float" "java/lang/Number") ∈ lw_all := lw_g (lw_at lw_m1 71 rfl) rfl
theorem q155 : (Jvm.Cond.instanceMethod ({ cls := "java/lang/Float", name := "floatValue", desc := "()F" } : Jvm.MethodName)) ∈ lw_all := lw_g (lw_at lw_m1 122 rfl) rfl
theorem q156 : (Jvm.Cond.selects "java/lang/Float" ({ cls := "java/lang/Float", name := "floatValue", desc := "()F" } : Jvm.MethodName) ({ cls := "java/lang/Float", name := "floatValue", desc := "()F" } : Jvm.MethodName)) ∈ lw_all := lw_g (lw_at lw_m1 123 rfl) rfl
theorem q157 : (Jvm.Cond.code ({ cls := "java/lang/Float", name := "floatValue", desc := "()F" } : Jvm.MethodName) prog_12_method_19_code (1 : Nat) (Option.some Jvm.ClassFile.FieldType.float)) ∈ lw_all := lw_g (lw_at lw_m1 124 rfl) rfl
theorem q162 : (Jvm.Cond.static ({ cls := "java/lang/Float", name := "floatToIntBits", desc := "(F)I" } : Jvm.MethodName)) ∈ lw_all := lw_g (lw_at lw_m1 129 rfl) rfl
theorem q163 : (Jvm.Cond.code ({ cls := "java/lang/Float", name := "floatToIntBits", desc := "(F)I" } : Jvm.MethodName) prog_12_method_24_code (1 : Nat) (Option.some Jvm.ClassFile.FieldType.int)) ∈ lw_all := lw_g (lw_at lw_m1 130 rfl) rfl
theorem q164 : (Jvm.Cond.methodLink "java/lang/Float" (59 : Nat) ({ cls := "java/lang/Float", name := "isNaN", desc := "(F)Z" } : Jvm.MethodName)) ∈ lw_all := lw_g (lw_at lw_m1 131 rfl) rfl
theorem q165 : (Jvm.Cond.static ({ cls := "java/lang/Float", name := "isNaN", desc := "(F)Z" } : Jvm.MethodName)) ∈ lw_all := lw_g (lw_at lw_m1 132 rfl) rfl
theorem q166 : (Jvm.Cond.code ({ cls := "java/lang/Float", name := "isNaN", desc := "(F)Z" } : Jvm.MethodName) prog_12_method_6_code (1 : Nat) (Option.some Jvm.ClassFile.FieldType.boolean)) ∈ lw_all := lw_g (lw_at lw_m1 133 rfl) rfl
theorem q167 : (Jvm.Cond.methodLink "java/lang/Float" (74 : Nat) ({ cls := "java/lang/Float", name := "floatToRawIntBits", desc := "(F)I" } : Jvm.MethodName)) ∈ lw_all := lw_g (lw_at lw_m1 134 rfl) rfl
theorem q168 : (Jvm.Cond.static ({ cls := "java/lang/Float", name := "floatToRawIntBits", desc := "(F)I" } : Jvm.MethodName)) ∈ lw_all := lw_g (lw_at lw_m1 135 rfl) rfl
theorem q169 : (Jvm.Cond.native ({ cls := "java/lang/Float", name := "floatToRawIntBits", desc := "(F)I" } : Jvm.MethodName)) ∈ lw_all := lw_g (lw_at lw_m1 136 rfl) rfl
theorem q170 : (Jvm.Cond.constant "java/lang/Float" (77 : Nat) (2143289344 : Int32)) ∈ lw_all := lw_g (lw_at lw_m1 137 rfl) rfl
theorem q296 : (Jvm.Cond.castable "java/lang/Float" "java/lang/Comparable") ∈ lw_tbl := lw_at lw_m2 23 rfl
theorem q297 : (Jvm.Cond.selects "java/lang/Float" ({ cls := "java/lang/Comparable", name := "compareTo", desc := "(Ljava/lang/Object;)I" } : Jvm.MethodName) ({ cls := "java/lang/Float", name := "compareTo", desc := "(Ljava/lang/Object;)I" } : Jvm.MethodName)) ∈ lw_all := lw_g (lw_at lw_m2 24 rfl) rfl
theorem q298 : (Jvm.Cond.unhidden "java/lang/Float" "compareTo" "(Ljava/lang/Object;)I") ∈ lw_tbl := lw_at lw_m2 25 rfl
theorem q299 : (Jvm.Cond.instanceMethod ({ cls := "java/lang/Float", name := "compareTo", desc := "(Ljava/lang/Object;)I" } : Jvm.MethodName)) ∈ lw_all := lw_g (lw_at lw_m2 26 rfl) rfl
theorem q300 : (Jvm.Cond.publicMethod ({ cls := "java/lang/Float", name := "compareTo", desc := "(Ljava/lang/Object;)I" } : Jvm.MethodName)) ∈ lw_tbl := lw_at lw_m2 27 rfl
theorem q301 : (Jvm.Cond.code ({ cls := "java/lang/Float", name := "compareTo", desc := "(Ljava/lang/Object;)I" } : Jvm.MethodName) prog_12_method_36_code (2 : Nat) (Option.some Jvm.ClassFile.FieldType.int)) ∈ lw_all := lw_g (lw_at lw_m2 28 rfl) rfl
theorem q302 : (Jvm.Cond.methodLink "java/lang/Float" (123 : Nat) ({ cls := "java/lang/Float", name := "compareTo", desc := "(Ljava/lang/Float;)I" } : Jvm.MethodName)) ∈ lw_all := lw_g (lw_at lw_m2 29 rfl) rfl
theorem q303 : (Jvm.Cond.instanceMethod ({ cls := "java/lang/Float", name := "compareTo", desc := "(Ljava/lang/Float;)I" } : Jvm.MethodName)) ∈ lw_all := lw_g (lw_at lw_m2 30 rfl) rfl
theorem q304 : (Jvm.Cond.selects "java/lang/Float" ({ cls := "java/lang/Float", name := "compareTo", desc := "(Ljava/lang/Float;)I" } : Jvm.MethodName) ({ cls := "java/lang/Float", name := "compareTo", desc := "(Ljava/lang/Float;)I" } : Jvm.MethodName)) ∈ lw_all := lw_g (lw_at lw_m2 31 rfl) rfl
theorem q305 : (Jvm.Cond.code ({ cls := "java/lang/Float", name := "compareTo", desc := "(Ljava/lang/Float;)I" } : Jvm.MethodName) prog_12_method_29_code (2 : Nat) (Option.some Jvm.ClassFile.FieldType.int)) ∈ lw_all := lw_g (lw_at lw_m2 32 rfl) rfl
theorem q306 : (Jvm.Cond.methodLink "java/lang/Float" (106 : Nat) ({ cls := "java/lang/Float", name := "compare", desc := "(FF)I" } : Jvm.MethodName)) ∈ lw_all := lw_g (lw_at lw_m2 33 rfl) rfl
theorem q307 : (Jvm.Cond.static ({ cls := "java/lang/Float", name := "compare", desc := "(FF)I" } : Jvm.MethodName)) ∈ lw_all := lw_g (lw_at lw_m2 34 rfl) rfl
theorem q308 : (Jvm.Cond.code ({ cls := "java/lang/Float", name := "compare", desc := "(FF)I" } : Jvm.MethodName) prog_12_method_30_code (4 : Nat) (Option.some Jvm.ClassFile.FieldType.int)) ∈ lw_all := lw_g (lw_at lw_m2 35 rfl) rfl
theorem q309 : (Jvm.Cond.methodLink "java/lang/Float" (71 : Nat) ({ cls := "java/lang/Float", name := "floatToIntBits", desc := "(F)I" } : Jvm.MethodName)) ∈ lw_all := lw_g (lw_at lw_m2 36 rfl) rfl
theorem q599 : (Jvm.Cond.instanceMethod ({ cls := "java/lang/Float", name := "equals", desc := "(Ljava/lang/Object;)Z" } : Jvm.MethodName)) ∈ lw_all := lw_g (lw_at lw_m3 86 rfl) rfl
theorem q600 : (Jvm.Cond.selects "java/lang/Float" ({ cls := "java/lang/Float", name := "equals", desc := "(Ljava/lang/Object;)Z" } : Jvm.MethodName) ({ cls := "java/lang/Float", name := "equals", desc := "(Ljava/lang/Object;)Z" } : Jvm.MethodName)) ∈ lw_all := lw_g (lw_at lw_m3 87 rfl) rfl
theorem q601 : (Jvm.Cond.code ({ cls := "java/lang/Float", name := "equals", desc := "(Ljava/lang/Object;)Z" } : Jvm.MethodName) prog_12_method_23_code (2 : Nat) (Option.some Jvm.ClassFile.FieldType.boolean)) ∈ lw_all := lw_g (lw_at lw_m3 88 rfl) rfl
theorem q603 : (Jvm.Cond.instanceMethod ({ cls := "java/lang/Float", name := "hashCode", desc := "()I" } : Jvm.MethodName)) ∈ lw_all := lw_g (lw_at lw_m3 90 rfl) rfl
theorem q604 : (Jvm.Cond.selects "java/lang/Float" ({ cls := "java/lang/Float", name := "hashCode", desc := "()I" } : Jvm.MethodName) ({ cls := "java/lang/Float", name := "hashCode", desc := "()I" } : Jvm.MethodName)) ∈ lw_all := lw_g (lw_at lw_m3 91 rfl) rfl
theorem q605 : (Jvm.Cond.code ({ cls := "java/lang/Float", name := "hashCode", desc := "()I" } : Jvm.MethodName) prog_12_method_21_code (1 : Nat) (Option.some Jvm.ClassFile.FieldType.int)) ∈ lw_all := lw_g (lw_at lw_m3 92 rfl) rfl
theorem q606 : (Jvm.Cond.methodLink "java/lang/Float" (67 : Nat) ({ cls := "java/lang/Float", name := "hashCode", desc := "(F)I" } : Jvm.MethodName)) ∈ lw_all := lw_g (lw_at lw_m3 93 rfl) rfl
theorem q607 : (Jvm.Cond.static ({ cls := "java/lang/Float", name := "hashCode", desc := "(F)I" } : Jvm.MethodName)) ∈ lw_all := lw_g (lw_at lw_m3 94 rfl) rfl
theorem q608 : (Jvm.Cond.code ({ cls := "java/lang/Float", name := "hashCode", desc := "(F)I" } : Jvm.MethodName) prog_12_method_22_code (1 : Nat) (Option.some Jvm.ClassFile.FieldType.int)) ∈ lw_all := lw_g (lw_at lw_m3 95 rfl) rfl
theorem q620 : (Jvm.Cond.static ({ cls := "java/lang/Float", name := "max", desc := "(FF)F" } : Jvm.MethodName)) ∈ lw_all := lw_g (lw_at lw_m3 107 rfl) rfl
theorem q621 : (Jvm.Cond.code ({ cls := "java/lang/Float", name := "max", desc := "(FF)F" } : Jvm.MethodName) prog_12_method_32_code (2 : Nat) (Option.some Jvm.ClassFile.FieldType.float)) ∈ lw_all := lw_g (lw_at lw_m3 108 rfl) rfl
theorem q622 : (Jvm.Cond.methodLink "java/lang/Float" (110 : Nat) ({ cls := "java/lang/Math", name := "max", desc := "(FF)F" } : Jvm.MethodName)) ∈ lw_all := lw_g (lw_at lw_m3 109 rfl) rfl
theorem q629 : (Jvm.Cond.static ({ cls := "java/lang/Float", name := "min", desc := "(FF)F" } : Jvm.MethodName)) ∈ lw_all := lw_g (lw_at lw_m3 116 rfl) rfl
theorem q630 : (Jvm.Cond.code ({ cls := "java/lang/Float", name := "min", desc := "(FF)F" } : Jvm.MethodName) prog_12_method_33_code (2 : Nat) (Option.some Jvm.ClassFile.FieldType.float)) ∈ lw_all := lw_g (lw_at lw_m3 117 rfl) rfl
theorem q631 : (Jvm.Cond.methodLink "java/lang/Float" (114 : Nat) ({ cls := "java/lang/Math", name := "min", desc := "(FF)F" } : Jvm.MethodName)) ∈ lw_all := lw_g (lw_at lw_m3 118 rfl) rfl
theorem q1203 : (Jvm.Cond.selects "java/lang/Float" ({ cls := "java/lang/Object", name := "equals", desc := "(Ljava/lang/Object;)Z" } : Jvm.MethodName) ({ cls := "java/lang/Float", name := "equals", desc := "(Ljava/lang/Object;)Z" } : Jvm.MethodName)) ∈ lw_all := lw_g (lw_at lw_m5 210 rfl) rfl
theorem q1298 : (Jvm.Cond.static ({ cls := "java/lang/Float", name := "intBitsToFloat", desc := "(I)F" } : Jvm.MethodName)) ∈ lw_all := lw_g (lw_at lw_m6 65 rfl) rfl
theorem q1299 : (Jvm.Cond.native ({ cls := "java/lang/Float", name := "intBitsToFloat", desc := "(I)F" } : Jvm.MethodName)) ∈ lw_all := lw_g (lw_at lw_m6 66 rfl) rfl
theorem q1368 : (Jvm.Cond.instanceMethod ({ cls := "java/lang/Float", name := "isInfinite", desc := "()Z" } : Jvm.MethodName)) ∈ lw_all := lw_g (lw_at lw_m6 135 rfl) rfl
theorem q1369 : (Jvm.Cond.selects "java/lang/Float" ({ cls := "java/lang/Float", name := "isInfinite", desc := "()Z" } : Jvm.MethodName) ({ cls := "java/lang/Float", name := "isInfinite", desc := "()Z" } : Jvm.MethodName)) ∈ lw_all := lw_g (lw_at lw_m6 136 rfl) rfl
theorem q1370 : (Jvm.Cond.code ({ cls := "java/lang/Float", name := "isInfinite", desc := "()Z" } : Jvm.MethodName) prog_12_method_13_code (1 : Nat) (Option.some Jvm.ClassFile.FieldType.boolean)) ∈ lw_all := lw_g (lw_at lw_m6 137 rfl) rfl
theorem q1371 : (Jvm.Cond.methodLink "java/lang/Float" (63 : Nat) ({ cls := "java/lang/Float", name := "isInfinite", desc := "(F)Z" } : Jvm.MethodName)) ∈ lw_all := lw_g (lw_at lw_m6 138 rfl) rfl
theorem q1372 : (Jvm.Cond.static ({ cls := "java/lang/Float", name := "isInfinite", desc := "(F)Z" } : Jvm.MethodName)) ∈ lw_all := lw_g (lw_at lw_m6 139 rfl) rfl
theorem q1373 : (Jvm.Cond.code ({ cls := "java/lang/Float", name := "isInfinite", desc := "(F)Z" } : Jvm.MethodName) prog_12_method_7_code (1 : Nat) (Option.some Jvm.ClassFile.FieldType.boolean)) ∈ lw_all := lw_g (lw_at lw_m6 140 rfl) rfl
theorem q1374 : (Jvm.Cond.methodLink "java/lang/Float" (11 : Nat) ({ cls := "java/lang/Math", name := "abs", desc := "(F)F" } : Jvm.MethodName)) ∈ lw_all := lw_g (lw_at lw_m6 141 rfl) rfl
theorem q1379 : (Jvm.Cond.constantFloat "java/lang/Float" (49 : Nat) (2139095039 : UInt32)) ∈ lw_all := lw_g (lw_at lw_m6 146 rfl) rfl
theorem q1384 : (Jvm.Cond.static ({ cls := "java/lang/Float", name := "sum", desc := "(FF)F" } : Jvm.MethodName)) ∈ lw_all := lw_g (lw_at lw_m6 151 rfl) rfl
theorem q1385 : (Jvm.Cond.code ({ cls := "java/lang/Float", name := "sum", desc := "(FF)F" } : Jvm.MethodName) prog_12_method_31_code (2 : Nat) (Option.some Jvm.ClassFile.FieldType.float)) ∈ lw_all := lw_g (lw_at lw_m6 152 rfl) rfl
theorem q1456 : (Jvm.Cond.static ({ cls := "java/lang/Float", name := "isFinite", desc := "(F)Z" } : Jvm.MethodName)) ∈ lw_all := lw_g (lw_at lw_m6 223 rfl) rfl
theorem q1457 : (Jvm.Cond.code ({ cls := "java/lang/Float", name := "isFinite", desc := "(F)Z" } : Jvm.MethodName) prog_12_method_8_code (1 : Nat) (Option.some Jvm.ClassFile.FieldType.boolean)) ∈ lw_all := lw_g (lw_at lw_m6 224 rfl) rfl
theorem in_J2 : ∀ w ∈ wsJ20, w ∈ lw_all := lw_in wsJ20 [102] (by decide +kernel) (by decide +kernel)
/-! java/lang/Throwable -/
set_option maxRecDepth 100000
def RJ3 : String := "java/lang/Throwable"
def TJ3 : u_T := fun k => match k with
  | 0 => ("java/lang/Throwable", "cause", "Ljava/lang/Throwable;", false)
  | 1 => ("java/lang/Throwable", "stackTrace", "[Ljava/lang/StackTraceElement;", false)
  | 2 => ("java/lang/Throwable", "suppressedExceptions", "Ljava/util/List;", false)
  | 3 => ("java/lang/Throwable", "detailMessage", "Ljava/lang/String;", false)
  | _ => ("java/lang/Throwable", "backtrace", "Ljava/lang/Object;", false)
def tyJ3 : Nat → FieldType := fun k => match k with
  | 0 => .object "java/lang/Throwable"
  | 1 => .array (.object "java/lang/StackTraceElement")
  | 2 => .object "java/util/List"
  | 3 => .object "java/lang/String"
  | _ => .object "java/lang/Object"
abbrev wsJ30 : List Cond := u_ws RJ3 TJ3 5
theorem nmJ3 : ∀ a, a < 5 → ∀ b, b < 5 → a ≠ b → (TJ3 a).2.1 ≠ (TJ3 b).2.1 := by decide +kernel
theorem tyJ3_ok : ∀ k, k < 5 → parseFieldDescriptor (TJ3 k).2.2.1 = some (tyJ3 k) := by decide +kernel
abbrev cJ3_init : ByteArray := prog_26_method_1_code
def yJ3_init : MethodName := ⟨RJ3, "<init>", "()V"⟩
def dkwJ3_init_1 : List UInt8 := [182, 0, 27, 87, 177]
abbrev dktJ3_init_1 : List UInt8 := dkwJ3_init_1 ++ []
def dkwJ3_init_0 : List UInt8 := [42, 183, 0, 1, 42, 42, 181, 0, 7, 42, 178, 0, 13, 181, 0, 17, 42, 178, 0, 20, 181, 0, 24, 42]
abbrev dktJ3_init_0 : List UInt8 := dkwJ3_init_0 ++ dktJ3_init_1
theorem dksJ3_init_0 : cJ3_init.data.toList.drop 0 = dktJ3_init_0 := by decide +kernel
theorem dksJ3_init_1 : cJ3_init.data.toList.drop 24 = dktJ3_init_1 := dk_seg dksJ3_init_0 24 rfl rfl
theorem dJ3_init_0 : decode cJ3_init 0 = .ok (.aload_n 0, 1) := dk_42 (dk_at dksJ3_init_0 0 rfl rfl)
theorem dJ3_init_1 : decode cJ3_init 1 = .ok (.invokespecial 1, 3) := dk_183 0 1 (dk_at dksJ3_init_0 1 rfl rfl)
theorem dJ3_init_4 : decode cJ3_init 4 = .ok (.aload_n 0, 1) := dk_42 (dk_at dksJ3_init_0 4 rfl rfl)
theorem dJ3_init_5 : decode cJ3_init 5 = .ok (.aload_n 0, 1) := dk_42 (dk_at dksJ3_init_0 5 rfl rfl)
theorem dJ3_init_6 : decode cJ3_init 6 = .ok (.putfield 7, 3) := dk_181 0 7 (dk_at dksJ3_init_0 6 rfl rfl)
theorem dJ3_init_9 : decode cJ3_init 9 = .ok (.aload_n 0, 1) := dk_42 (dk_at dksJ3_init_0 9 rfl rfl)
theorem dJ3_init_10 : decode cJ3_init 10 = .ok (.getstatic 13, 3) := dk_178 0 13 (dk_at dksJ3_init_0 10 rfl rfl)
theorem dJ3_init_13 : decode cJ3_init 13 = .ok (.putfield 17, 3) := dk_181 0 17 (dk_at dksJ3_init_0 13 rfl rfl)
theorem dJ3_init_16 : decode cJ3_init 16 = .ok (.aload_n 0, 1) := dk_42 (dk_at dksJ3_init_0 16 rfl rfl)
theorem dJ3_init_17 : decode cJ3_init 17 = .ok (.getstatic 20, 3) := dk_178 0 20 (dk_at dksJ3_init_0 17 rfl rfl)
theorem dJ3_init_20 : decode cJ3_init 20 = .ok (.putfield 24, 3) := dk_181 0 24 (dk_at dksJ3_init_0 20 rfl rfl)
theorem dJ3_init_23 : decode cJ3_init 23 = .ok (.aload_n 0, 1) := dk_42 (dk_at dksJ3_init_0 23 rfl rfl)
theorem dJ3_init_24 : decode cJ3_init 24 = .ok (.invokevirtual 27, 3) := dk_182 0 27 (dk_at dksJ3_init_1 0 rfl rfl)
theorem dJ3_init_27 : decode cJ3_init 27 = .ok (.pop, 1) := dk_87 (dk_at dksJ3_init_1 3 rfl rfl)
theorem dJ3_init_28 : decode cJ3_init 28 = .ok (.return_, 1) := dk_177 (dk_at dksJ3_init_1 4 rfl rfl)
abbrev cJ3_init_2 : ByteArray := prog_26_method_2_code
def yJ3_init_2 : MethodName := ⟨RJ3, "<init>", "(Ljava/lang/String;)V"⟩
def dkwJ3_init_2_1 : List UInt8 := [182, 0, 27, 87, 42, 43, 181, 0, 31, 177]
abbrev dktJ3_init_2_1 : List UInt8 := dkwJ3_init_2_1 ++ []
def dkwJ3_init_2_0 : List UInt8 := [42, 183, 0, 1, 42, 42, 181, 0, 7, 42, 178, 0, 13, 181, 0, 17, 42, 178, 0, 20, 181, 0, 24, 42]
abbrev dktJ3_init_2_0 : List UInt8 := dkwJ3_init_2_0 ++ dktJ3_init_2_1
theorem dksJ3_init_2_0 : cJ3_init_2.data.toList.drop 0 = dktJ3_init_2_0 := by decide +kernel
theorem dksJ3_init_2_1 : cJ3_init_2.data.toList.drop 24 = dktJ3_init_2_1 := dk_seg dksJ3_init_2_0 24 rfl rfl
theorem dJ3_init_2_0 : decode cJ3_init_2 0 = .ok (.aload_n 0, 1) := dk_42 (dk_at dksJ3_init_2_0 0 rfl rfl)
theorem dJ3_init_2_1 : decode cJ3_init_2 1 = .ok (.invokespecial 1, 3) := dk_183 0 1 (dk_at dksJ3_init_2_0 1 rfl rfl)
theorem dJ3_init_2_4 : decode cJ3_init_2 4 = .ok (.aload_n 0, 1) := dk_42 (dk_at dksJ3_init_2_0 4 rfl rfl)
theorem dJ3_init_2_5 : decode cJ3_init_2 5 = .ok (.aload_n 0, 1) := dk_42 (dk_at dksJ3_init_2_0 5 rfl rfl)
theorem dJ3_init_2_6 : decode cJ3_init_2 6 = .ok (.putfield 7, 3) := dk_181 0 7 (dk_at dksJ3_init_2_0 6 rfl rfl)
theorem dJ3_init_2_9 : decode cJ3_init_2 9 = .ok (.aload_n 0, 1) := dk_42 (dk_at dksJ3_init_2_0 9 rfl rfl)
theorem dJ3_init_2_10 : decode cJ3_init_2 10 = .ok (.getstatic 13, 3) := dk_178 0 13 (dk_at dksJ3_init_2_0 10 rfl rfl)
theorem dJ3_init_2_13 : decode cJ3_init_2 13 = .ok (.putfield 17, 3) := dk_181 0 17 (dk_at dksJ3_init_2_0 13 rfl rfl)
theorem dJ3_init_2_16 : decode cJ3_init_2 16 = .ok (.aload_n 0, 1) := dk_42 (dk_at dksJ3_init_2_0 16 rfl rfl)
theorem dJ3_init_2_17 : decode cJ3_init_2 17 = .ok (.getstatic 20, 3) := dk_178 0 20 (dk_at dksJ3_init_2_0 17 rfl rfl)
theorem dJ3_init_2_20 : decode cJ3_init_2 20 = .ok (.putfield 24, 3) := dk_181 0 24 (dk_at dksJ3_init_2_0 20 rfl rfl)
theorem dJ3_init_2_23 : decode cJ3_init_2 23 = .ok (.aload_n 0, 1) := dk_42 (dk_at dksJ3_init_2_0 23 rfl rfl)
theorem dJ3_init_2_24 : decode cJ3_init_2 24 = .ok (.invokevirtual 27, 3) := dk_182 0 27 (dk_at dksJ3_init_2_1 0 rfl rfl)
theorem dJ3_init_2_27 : decode cJ3_init_2 27 = .ok (.pop, 1) := dk_87 (dk_at dksJ3_init_2_1 3 rfl rfl)
theorem dJ3_init_2_28 : decode cJ3_init_2 28 = .ok (.aload_n 0, 1) := dk_42 (dk_at dksJ3_init_2_1 4 rfl rfl)
theorem dJ3_init_2_29 : decode cJ3_init_2 29 = .ok (.aload_n 1, 1) := dk_43 (dk_at dksJ3_init_2_1 5 rfl rfl)
theorem dJ3_init_2_30 : decode cJ3_init_2 30 = .ok (.putfield 31, 3) := dk_181 0 31 (dk_at dksJ3_init_2_1 6 rfl rfl)
theorem dJ3_init_2_33 : decode cJ3_init_2 33 = .ok (.return_, 1) := dk_177 (dk_at dksJ3_init_2_1 9 rfl rfl)
theorem q41 : (Jvm.Cond.initialized "java/lang/Throwable") ∈ lw_all := lw_g (lw_at lw_m1 8 rfl) rfl
theorem q201 : (Jvm.Cond.declares ({ cls := "java/lang/Throwable", name := "<init>", desc := "()V" } : Jvm.MethodName)) ∈ lw_tbl := lw_at lw_m1 168 rfl
theorem q202 : (Jvm.Cond.declares ({ cls := "java/lang/Throwable", name := "<init>", desc := "(Ljava/lang/String;)V" } : Jvm.MethodName)) ∈ lw_tbl := lw_at lw_m1 169 rfl
theorem q206 : (Jvm.Cond.lays "java/lang/Throwable" "java/lang/Throwable" "cause" "Ljava/lang/Throwable;") ∈ lw_all := lw_g (lw_at lw_m1 173 rfl) rfl
theorem q208 : (Jvm.Cond.lays "java/lang/Throwable" "java/lang/Throwable" "stackTrace" "[Ljava/lang/StackTraceElement;") ∈ lw_all := lw_g (lw_at lw_m1 175 rfl) rfl
theorem q210 : (Jvm.Cond.lays "java/lang/Throwable" "java/lang/Throwable" "suppressedExceptions" "Ljava/util/List;") ∈ lw_all := lw_g (lw_at lw_m1 177 rfl) rfl
theorem q212 : (Jvm.Cond.lays "java/lang/Throwable" "java/lang/Throwable" "detailMessage" "Ljava/lang/String;") ∈ lw_all := lw_g (lw_at lw_m1 179 rfl) rfl
theorem q214 : (Jvm.Cond.lays "java/lang/Throwable" "java/lang/Throwable" "backtrace" "Ljava/lang/Object;") ∈ lw_all := lw_g (lw_at lw_m1 181 rfl) rfl
theorem q215 : (Jvm.Cond.fieldLink "java/lang/Throwable" (198 : Nat) "java/lang/Throwable" "backtrace" "Ljava/lang/Object;") ∈ lw_all := lw_g (lw_at lw_m1 182 rfl) rfl
theorem q216 : (Jvm.Cond.superclass "java/lang/Throwable" "java/lang/Object") ∈ lw_all := lw_g (lw_at lw_m1 183 rfl) rfl
theorem q217 : (Jvm.Cond.instanceMethod ({ cls := "java/lang/Throwable", name := "<init>", desc := "()V" } : Jvm.MethodName)) ∈ lw_all := lw_g (lw_at lw_m1 184 rfl) rfl
theorem q218 : (Jvm.Cond.code ({ cls := "java/lang/Throwable", name := "<init>", desc := "()V" } : Jvm.MethodName) prog_26_method_1_code (1 : Nat) (Option.none : Option Jvm.ClassFile.FieldType)) ∈ lw_all := lw_g (lw_at lw_m1 185 rfl) rfl
theorem q219 : (Jvm.Cond.methodLink "java/lang/Throwable" (1 : Nat) ({ cls := "java/lang/Object", name := "<init>", desc := "()V" } : Jvm.MethodName)) ∈ lw_all := lw_g (lw_at lw_m1 186 rfl) rfl
theorem q220 : (Jvm.Cond.fieldLink "java/lang/Throwable" (13 : Nat) "java/lang/Throwable" "UNASSIGNED_STACK" "[Ljava/lang/StackTraceElement;") ∈ lw_all := lw_g (lw_at lw_m1 187 rfl) rfl
theorem q221 : (Jvm.Cond.laysStatic "java/lang/Throwable" "UNASSIGNED_STACK" "[Ljava/lang/StackTraceElement;") ∈ lw_tbl := lw_at lw_m1 188 rfl
theorem q222 : (Jvm.Cond.fieldLink "java/lang/Throwable" (20 : Nat) "java/lang/Throwable" "SUPPRESSED_SENTINEL" "Ljava/util/List;") ∈ lw_all := lw_g (lw_at lw_m1 189 rfl) rfl
theorem q223 : (Jvm.Cond.laysStatic "java/lang/Throwable" "SUPPRESSED_SENTINEL" "Ljava/util/List;") ∈ lw_tbl := lw_at lw_m1 190 rfl
theorem q224 : (Jvm.Cond.methodLink "java/lang/Throwable" (27 : Nat) ({ cls := "java/lang/Throwable", name := "fillInStackTrace", desc := "()Ljava/lang/Throwable;" } : Jvm.MethodName)) ∈ lw_all := lw_g (lw_at lw_m1 191 rfl) rfl
theorem q225 : (Jvm.Cond.instanceMethod ({ cls := "java/lang/Throwable", name := "fillInStackTrace", desc := "()Ljava/lang/Throwable;" } : Jvm.MethodName)) ∈ lw_all := lw_g (lw_at lw_m1 192 rfl) rfl
theorem q226 : (Jvm.Cond.sameMethod "java/lang/Throwable" "java/lang/Throwable" "fillInStackTrace" "()Ljava/lang/Throwable;") ∈ lw_all := lw_g (lw_at lw_m1 193 rfl) rfl
theorem q229 : (Jvm.Cond.codeSync ({ cls := "java/lang/Throwable", name := "fillInStackTrace", desc := "()Ljava/lang/Throwable;" } : Jvm.MethodName) prog_26_method_18_code (1 : Nat) (Option.some (Jvm.ClassFile.FieldType.object "java/lang/Throwable"))) ∈ lw_all := lw_g (lw_at lw_m1 196 rfl) rfl
theorem q230 : (Jvm.Cond.methodLink "java/lang/Throwable" (202 : Nat) ({ cls := "java/lang/Throwable", name := "fillInStackTrace", desc := "(I)Ljava/lang/Throwable;" } : Jvm.MethodName)) ∈ lw_all := lw_g (lw_at lw_m1 197 rfl) rfl
theorem q231 : (Jvm.Cond.privateMethod ({ cls := "java/lang/Throwable", name := "fillInStackTrace", desc := "(I)Ljava/lang/Throwable;" } : Jvm.MethodName)) ∈ lw_tbl := lw_at lw_m1 198 rfl
theorem q232 : (Jvm.Cond.instanceMethod ({ cls := "java/lang/Throwable", name := "fillInStackTrace", desc := "(I)Ljava/lang/Throwable;" } : Jvm.MethodName)) ∈ lw_all := lw_g (lw_at lw_m1 199 rfl) rfl
theorem q233 : (Jvm.Cond.instantiable "java/lang/Throwable" (6 : Nat)) ∈ lw_all := lw_g (lw_at lw_m1 200 rfl) rfl
theorem q234 : (Jvm.Cond.native ({ cls := "java/lang/Throwable", name := "fillInStackTrace", desc := "(I)Ljava/lang/Throwable;" } : Jvm.MethodName)) ∈ lw_all := lw_g (lw_at lw_m1 201 rfl) rfl
theorem q245 : (Jvm.Cond.fieldLink "java/lang/Throwable" (198 : Nat) "java/lang/Throwable" "backtrace" "Ljava/lang/Object;") ∈ lw_all := lw_g (lw_at lw_m1 212 rfl) rfl
theorem q246 : (Jvm.Cond.fieldLink "java/lang/Throwable" (31 : Nat) "java/lang/Throwable" "detailMessage" "Ljava/lang/String;") ∈ lw_all := lw_g (lw_at lw_m1 213 rfl) rfl
theorem q247 : (Jvm.Cond.fieldLink "java/lang/Throwable" (7 : Nat) "java/lang/Throwable" "cause" "Ljava/lang/Throwable;") ∈ lw_all := lw_g (lw_at lw_m1 214 rfl) rfl
theorem q248 : (Jvm.Cond.fieldLink "java/lang/Throwable" (17 : Nat) "java/lang/Throwable" "stackTrace" "[Ljava/lang/StackTraceElement;") ∈ lw_all := lw_g (lw_at lw_m1 215 rfl) rfl
theorem q249 : (Jvm.Cond.fieldLink "java/lang/Throwable" (24 : Nat) "java/lang/Throwable" "suppressedExceptions" "Ljava/util/List;") ∈ lw_all := lw_g (lw_at lw_m1 216 rfl) rfl
theorem q250 : (Jvm.Cond.soleField "java/lang/Throwable" "backtrace") ∈ lw_all := lw_g (lw_at lw_m1 217 rfl) rfl
theorem q251 : (Jvm.Cond.soleField "java/lang/Throwable" "detailMessage") ∈ lw_all := lw_g (lw_at lw_m1 218 rfl) rfl
theorem q252 : (Jvm.Cond.soleField "java/lang/Throwable" "cause") ∈ lw_all := lw_g (lw_at lw_m1 219 rfl) rfl
theorem q253 : (Jvm.Cond.soleField "java/lang/Throwable" "stackTrace") ∈ lw_all := lw_g (lw_at lw_m1 220 rfl) rfl
theorem q255 : (Jvm.Cond.soleField "java/lang/Throwable" "depth") ∈ lw_all := lw_g (lw_at lw_m1 222 rfl) rfl
theorem q256 : (Jvm.Cond.soleField "java/lang/Throwable" "suppressedExceptions") ∈ lw_all := lw_g (lw_at lw_m1 223 rfl) rfl
theorem q732 : (Jvm.Cond.instanceMethod ({ cls := "java/lang/Throwable", name := "<init>", desc := "(Ljava/lang/String;)V" } : Jvm.MethodName)) ∈ lw_all := lw_g (lw_at lw_m3 219 rfl) rfl
theorem q733 : (Jvm.Cond.code ({ cls := "java/lang/Throwable", name := "<init>", desc := "(Ljava/lang/String;)V" } : Jvm.MethodName) prog_26_method_2_code (2 : Nat) (Option.none : Option Jvm.ClassFile.FieldType)) ∈ lw_all := lw_g (lw_at lw_m3 220 rfl) rfl
theorem q1957 : (Jvm.Cond.sameMethod "java/lang/Throwable" "java/lang/Throwable" "fillInStackTrace" "(I)Ljava/lang/Throwable;") ∈ lw_all := lw_g (lw_at lw_m9 4 rfl) rfl
theorem in_J3 : ∀ w ∈ wsJ30, w ∈ lw_all := lw_in wsJ30 [206, 208, 210, 212, 214] (by decide +kernel) (by decide +kernel)
/-! java/lang/Exception -/
set_option maxRecDepth 100000
def RJ4 : String := "java/lang/Exception"
abbrev cJ4_init : ByteArray := prog_11_method_1_code
def yJ4_init : MethodName := ⟨RJ4, "<init>", "()V"⟩
theorem dJ4_init_0 : decode cJ4_init 0 = .ok (.aload_n 0, 1) := by decide +kernel
theorem dJ4_init_1 : decode cJ4_init 1 = .ok (.invokespecial 1, 3) := by decide +kernel
theorem dJ4_init_4 : decode cJ4_init 4 = .ok (.return_, 1) := by decide +kernel
abbrev cJ4_init_2 : ByteArray := prog_11_method_2_code
def yJ4_init_2 : MethodName := ⟨RJ4, "<init>", "(Ljava/lang/String;)V"⟩
def dkwJ4_init_2_0 : List UInt8 := [42, 43, 183, 0, 7, 177]
abbrev dktJ4_init_2_0 : List UInt8 := dkwJ4_init_2_0 ++ []
theorem dksJ4_init_2_0 : cJ4_init_2.data.toList.drop 0 = dktJ4_init_2_0 := by decide +kernel
theorem dJ4_init_2_0 : decode cJ4_init_2 0 = .ok (.aload_n 0, 1) := dk_42 (dk_at dksJ4_init_2_0 0 rfl rfl)
theorem dJ4_init_2_1 : decode cJ4_init_2 1 = .ok (.aload_n 1, 1) := dk_43 (dk_at dksJ4_init_2_0 1 rfl rfl)
theorem dJ4_init_2_2 : decode cJ4_init_2 2 = .ok (.invokespecial 7, 3) := dk_183 0 7 (dk_at dksJ4_init_2_0 2 rfl rfl)
theorem dJ4_init_2_5 : decode cJ4_init_2 5 = .ok (.return_, 1) := dk_177 (dk_at dksJ4_init_2_0 5 rfl rfl)
theorem q42 : (Jvm.Cond.initialized "java/lang/Exception") ∈ lw_all := lw_g (lw_at lw_m1 9 rfl) rfl
theorem q199 : (Jvm.Cond.declares ({ cls := "java/lang/Exception", name := "<init>", desc := "()V" } : Jvm.MethodName)) ∈ lw_tbl := lw_at lw_m1 166 rfl
theorem q200 : (Jvm.Cond.declares ({ cls := "java/lang/Exception", name := "<init>", desc := "(Ljava/lang/String;)V" } : Jvm.MethodName)) ∈ lw_tbl := lw_at lw_m1 167 rfl
theorem q242 : (Jvm.Cond.instanceMethod ({ cls := "java/lang/Exception", name := "<init>", desc := "()V" } : Jvm.MethodName)) ∈ lw_all := lw_g (lw_at lw_m1 209 rfl) rfl
theorem q243 : (Jvm.Cond.code ({ cls := "java/lang/Exception", name := "<init>", desc := "()V" } : Jvm.MethodName) prog_11_method_1_code (1 : Nat) (Option.none : Option Jvm.ClassFile.FieldType)) ∈ lw_all := lw_g (lw_at lw_m1 210 rfl) rfl
theorem q244 : (Jvm.Cond.methodLink "java/lang/Exception" (1 : Nat) ({ cls := "java/lang/Throwable", name := "<init>", desc := "()V" } : Jvm.MethodName)) ∈ lw_all := lw_g (lw_at lw_m1 211 rfl) rfl
theorem q729 : (Jvm.Cond.instanceMethod ({ cls := "java/lang/Exception", name := "<init>", desc := "(Ljava/lang/String;)V" } : Jvm.MethodName)) ∈ lw_all := lw_g (lw_at lw_m3 216 rfl) rfl
theorem q730 : (Jvm.Cond.code ({ cls := "java/lang/Exception", name := "<init>", desc := "(Ljava/lang/String;)V" } : Jvm.MethodName) prog_11_method_2_code (2 : Nat) (Option.none : Option Jvm.ClassFile.FieldType)) ∈ lw_all := lw_g (lw_at lw_m3 217 rfl) rfl
theorem q731 : (Jvm.Cond.methodLink "java/lang/Exception" (7 : Nat) ({ cls := "java/lang/Throwable", name := "<init>", desc := "(Ljava/lang/String;)V" } : Jvm.MethodName)) ∈ lw_all := lw_g (lw_at lw_m3 218 rfl) rfl
/-! java/lang/RuntimeException -/
set_option maxRecDepth 100000
def RJ5 : String := "java/lang/RuntimeException"
abbrev cJ5_init : ByteArray := prog_20_method_1_code
def yJ5_init : MethodName := ⟨RJ5, "<init>", "()V"⟩
theorem dJ5_init_0 : decode cJ5_init 0 = .ok (.aload_n 0, 1) := by decide +kernel
theorem dJ5_init_1 : decode cJ5_init 1 = .ok (.invokespecial 1, 3) := by decide +kernel
theorem dJ5_init_4 : decode cJ5_init 4 = .ok (.return_, 1) := by decide +kernel
abbrev cJ5_init_2 : ByteArray := prog_20_method_2_code
def yJ5_init_2 : MethodName := ⟨RJ5, "<init>", "(Ljava/lang/String;)V"⟩
def dkwJ5_init_2_0 : List UInt8 := [42, 43, 183, 0, 7, 177]
abbrev dktJ5_init_2_0 : List UInt8 := dkwJ5_init_2_0 ++ []
theorem dksJ5_init_2_0 : cJ5_init_2.data.toList.drop 0 = dktJ5_init_2_0 := by decide +kernel
theorem dJ5_init_2_0 : decode cJ5_init_2 0 = .ok (.aload_n 0, 1) := dk_42 (dk_at dksJ5_init_2_0 0 rfl rfl)
theorem dJ5_init_2_1 : decode cJ5_init_2 1 = .ok (.aload_n 1, 1) := dk_43 (dk_at dksJ5_init_2_0 1 rfl rfl)
theorem dJ5_init_2_2 : decode cJ5_init_2 2 = .ok (.invokespecial 7, 3) := dk_183 0 7 (dk_at dksJ5_init_2_0 2 rfl rfl)
theorem dJ5_init_2_5 : decode cJ5_init_2 5 = .ok (.return_, 1) := dk_177 (dk_at dksJ5_init_2_0 5 rfl rfl)
theorem q43 : (Jvm.Cond.initialized "java/lang/RuntimeException") ∈ lw_all := lw_g (lw_at lw_m1 10 rfl) rfl
theorem q197 : (Jvm.Cond.declares ({ cls := "java/lang/RuntimeException", name := "<init>", desc := "()V" } : Jvm.MethodName)) ∈ lw_tbl := lw_at lw_m1 164 rfl
theorem q198 : (Jvm.Cond.declares ({ cls := "java/lang/RuntimeException", name := "<init>", desc := "(Ljava/lang/String;)V" } : Jvm.MethodName)) ∈ lw_tbl := lw_at lw_m1 165 rfl
theorem q239 : (Jvm.Cond.instanceMethod ({ cls := "java/lang/RuntimeException", name := "<init>", desc := "()V" } : Jvm.MethodName)) ∈ lw_all := lw_g (lw_at lw_m1 206 rfl) rfl
theorem q240 : (Jvm.Cond.code ({ cls := "java/lang/RuntimeException", name := "<init>", desc := "()V" } : Jvm.MethodName) prog_20_method_1_code (1 : Nat) (Option.none : Option Jvm.ClassFile.FieldType)) ∈ lw_all := lw_g (lw_at lw_m1 207 rfl) rfl
theorem q241 : (Jvm.Cond.methodLink "java/lang/RuntimeException" (1 : Nat) ({ cls := "java/lang/Exception", name := "<init>", desc := "()V" } : Jvm.MethodName)) ∈ lw_all := lw_g (lw_at lw_m1 208 rfl) rfl
theorem q726 : (Jvm.Cond.instanceMethod ({ cls := "java/lang/RuntimeException", name := "<init>", desc := "(Ljava/lang/String;)V" } : Jvm.MethodName)) ∈ lw_all := lw_g (lw_at lw_m3 213 rfl) rfl
theorem q727 : (Jvm.Cond.code ({ cls := "java/lang/RuntimeException", name := "<init>", desc := "(Ljava/lang/String;)V" } : Jvm.MethodName) prog_20_method_2_code (2 : Nat) (Option.none : Option Jvm.ClassFile.FieldType)) ∈ lw_all := lw_g (lw_at lw_m3 214 rfl) rfl
theorem q728 : (Jvm.Cond.methodLink "java/lang/RuntimeException" (7 : Nat) ({ cls := "java/lang/Exception", name := "<init>", desc := "(Ljava/lang/String;)V" } : Jvm.MethodName)) ∈ lw_all := lw_g (lw_at lw_m3 215 rfl) rfl
/-! java/lang/IndexOutOfBoundsException -/
set_option maxRecDepth 100000
def RJ6 : String := "java/lang/IndexOutOfBoundsException"
def TJ6 : u_T := fun k => match k with
  | 0 => ("java/lang/Throwable", "cause", "Ljava/lang/Throwable;", false)
  | 1 => ("java/lang/Throwable", "stackTrace", "[Ljava/lang/StackTraceElement;", false)
  | 2 => ("java/lang/Throwable", "suppressedExceptions", "Ljava/util/List;", false)
  | 3 => ("java/lang/Throwable", "detailMessage", "Ljava/lang/String;", false)
  | 4 => ("java/lang/Throwable", "backtrace", "Ljava/lang/Object;", false)
  | _ => ("java/lang/Throwable", "depth", "I", false)
def tyJ6 : Nat → FieldType := fun k => match k with
  | 0 => .object "java/lang/Throwable"
  | 1 => .array (.object "java/lang/StackTraceElement")
  | 2 => .object "java/util/List"
  | 3 => .object "java/lang/String"
  | 4 => .object "java/lang/Object"
  | _ => .int
abbrev wsJ60 : List Cond := u_ws RJ6 TJ6 6
theorem nmJ6 : ∀ a, a < 6 → ∀ b, b < 6 → a ≠ b → (TJ6 a).2.1 ≠ (TJ6 b).2.1 := by decide +kernel
theorem tyJ6_ok : ∀ k, k < 6 → parseFieldDescriptor (TJ6 k).2.2.1 = some (tyJ6 k) := by decide +kernel
abbrev cJ6_init : ByteArray := prog_14_method_1_code
def yJ6_init : MethodName := ⟨RJ6, "<init>", "()V"⟩
theorem dJ6_init_0 : decode cJ6_init 0 = .ok (.aload_n 0, 1) := by decide +kernel
theorem dJ6_init_1 : decode cJ6_init 1 = .ok (.invokespecial 1, 3) := by decide +kernel
theorem dJ6_init_4 : decode cJ6_init 4 = .ok (.return_, 1) := by decide +kernel
abbrev cJ6_init_2 : ByteArray := prog_14_method_2_code
def yJ6_init_2 : MethodName := ⟨RJ6, "<init>", "(Ljava/lang/String;)V"⟩
def dkwJ6_init_2_0 : List UInt8 := [42, 43, 183, 0, 7, 177]
abbrev dktJ6_init_2_0 : List UInt8 := dkwJ6_init_2_0 ++ []
theorem dksJ6_init_2_0 : cJ6_init_2.data.toList.drop 0 = dktJ6_init_2_0 := by decide +kernel
theorem dJ6_init_2_0 : decode cJ6_init_2 0 = .ok (.aload_n 0, 1) := dk_42 (dk_at dksJ6_init_2_0 0 rfl rfl)
theorem dJ6_init_2_1 : decode cJ6_init_2 1 = .ok (.aload_n 1, 1) := dk_43 (dk_at dksJ6_init_2_0 1 rfl rfl)
theorem dJ6_init_2_2 : decode cJ6_init_2 2 = .ok (.invokespecial 7, 3) := dk_183 0 7 (dk_at dksJ6_init_2_0 2 rfl rfl)
theorem dJ6_init_2_5 : decode cJ6_init_2 5 = .ok (.return_, 1) := dk_177 (dk_at dksJ6_init_2_0 5 rfl rfl)
theorem q44 : (Jvm.Cond.initialized "java/lang/IndexOutOfBoundsException") ∈ lw_all := lw_g (lw_at lw_m1 11 rfl) rfl
theorem q195 : (Jvm.Cond.instantiable "java/lang/IndexOutOfBoundsException" (6 : Nat)) ∈ lw_all := lw_g (lw_at lw_m1 162 rfl) rfl
theorem q196 : (Jvm.Cond.castable "java/lang/IndexOutOfBoundsException" "java/lang/IndexOutOfBoundsException") ∈ lw_tbl := lw_at lw_m1 163 rfl
theorem q203 : (Jvm.Cond.selects "java/lang/IndexOutOfBoundsException" ({ cls := "java/lang/Throwable", name := "fillInStackTrace", desc := "(I)Ljava/lang/Throwable;" } : Jvm.MethodName) ({ cls := "java/lang/Throwable", name := "fillInStackTrace", desc := "(I)Ljava/lang/Throwable;" } : Jvm.MethodName)) ∈ lw_all := lw_g (lw_at lw_m1 170 rfl) rfl
theorem q204 : (Jvm.Cond.selects "java/lang/IndexOutOfBoundsException" ({ cls := "java/lang/Throwable", name := "fillInStackTrace", desc := "()Ljava/lang/Throwable;" } : Jvm.MethodName) ({ cls := "java/lang/Throwable", name := "fillInStackTrace", desc := "()Ljava/lang/Throwable;" } : Jvm.MethodName)) ∈ lw_all := lw_g (lw_at lw_m1 171 rfl) rfl
theorem q205 : (Jvm.Cond.lays "java/lang/IndexOutOfBoundsException" "java/lang/Throwable" "cause" "Ljava/lang/Throwable;") ∈ lw_all := lw_g (lw_at lw_m1 172 rfl) rfl
theorem q207 : (Jvm.Cond.lays "java/lang/IndexOutOfBoundsException" "java/lang/Throwable" "stackTrace" "[Ljava/lang/StackTraceElement;") ∈ lw_all := lw_g (lw_at lw_m1 174 rfl) rfl
theorem q209 : (Jvm.Cond.lays "java/lang/IndexOutOfBoundsException" "java/lang/Throwable" "suppressedExceptions" "Ljava/util/List;") ∈ lw_all := lw_g (lw_at lw_m1 176 rfl) rfl
theorem q211 : (Jvm.Cond.lays "java/lang/IndexOutOfBoundsException" "java/lang/Throwable" "detailMessage" "Ljava/lang/String;") ∈ lw_all := lw_g (lw_at lw_m1 178 rfl) rfl
theorem q213 : (Jvm.Cond.lays "java/lang/IndexOutOfBoundsException" "java/lang/Throwable" "backtrace" "Ljava/lang/Object;") ∈ lw_all := lw_g (lw_at lw_m1 180 rfl) rfl
theorem q236 : (Jvm.Cond.instanceMethod ({ cls := "java/lang/IndexOutOfBoundsException", name := "<init>", desc := "()V" } : Jvm.MethodName)) ∈ lw_all := lw_g (lw_at lw_m1 203 rfl) rfl
theorem q237 : (Jvm.Cond.code ({ cls := "java/lang/IndexOutOfBoundsException", name := "<init>", desc := "()V" } : Jvm.MethodName) prog_14_method_1_code (1 : Nat) (Option.none : Option Jvm.ClassFile.FieldType)) ∈ lw_all := lw_g (lw_at lw_m1 204 rfl) rfl
theorem q238 : (Jvm.Cond.methodLink "java/lang/IndexOutOfBoundsException" (1 : Nat) ({ cls := "java/lang/RuntimeException", name := "<init>", desc := "()V" } : Jvm.MethodName)) ∈ lw_all := lw_g (lw_at lw_m1 205 rfl) rfl
theorem q254 : (Jvm.Cond.lays "java/lang/IndexOutOfBoundsException" "java/lang/Throwable" "depth" "I") ∈ lw_all := lw_g (lw_at lw_m1 221 rfl) rfl
theorem q257 : (Jvm.Cond.superclass "java/lang/IndexOutOfBoundsException" "java/lang/RuntimeException") ∈ lw_all := lw_g (lw_at lw_m1 224 rfl) rfl
theorem q723 : (Jvm.Cond.instanceMethod ({ cls := "java/lang/IndexOutOfBoundsException", name := "<init>", desc := "(Ljava/lang/String;)V" } : Jvm.MethodName)) ∈ lw_all := lw_g (lw_at lw_m3 210 rfl) rfl
theorem q724 : (Jvm.Cond.code ({ cls := "java/lang/IndexOutOfBoundsException", name := "<init>", desc := "(Ljava/lang/String;)V" } : Jvm.MethodName) prog_14_method_2_code (2 : Nat) (Option.none : Option Jvm.ClassFile.FieldType)) ∈ lw_all := lw_g (lw_at lw_m3 211 rfl) rfl
theorem q725 : (Jvm.Cond.methodLink "java/lang/IndexOutOfBoundsException" (7 : Nat) ({ cls := "java/lang/RuntimeException", name := "<init>", desc := "(Ljava/lang/String;)V" } : Jvm.MethodName)) ∈ lw_all := lw_g (lw_at lw_m3 212 rfl) rfl
theorem q742 : (Jvm.Cond.declares ({ cls := "java/lang/IndexOutOfBoundsException", name := "<init>", desc := "()V" } : Jvm.MethodName)) ∈ lw_tbl := lw_at lw_m3 229 rfl
theorem q743 : (Jvm.Cond.declares ({ cls := "java/lang/IndexOutOfBoundsException", name := "<init>", desc := "(Ljava/lang/String;)V" } : Jvm.MethodName)) ∈ lw_tbl := lw_at lw_m3 230 rfl
theorem q1205 : (Jvm.Cond.selects "java/lang/IndexOutOfBoundsException" ({ cls := "java/lang/Object", name := "equals", desc := "(Ljava/lang/Object;)Z" } : Jvm.MethodName) ({ cls := "java/lang/Object", name := "equals", desc := "(Ljava/lang/Object;)Z" } : Jvm.MethodName)) ∈ lw_all := lw_g (lw_at lw_m5 212 rfl) rfl
theorem in_J6 : ∀ w ∈ wsJ60, w ∈ lw_all := lw_in wsJ60 [205, 207, 209, 211, 213, 254] (by decide +kernel) (by decide +kernel)
/-! java/lang/ArrayIndexOutOfBoundsException -/
set_option maxRecDepth 100000
def RJ7 : String := "java/lang/ArrayIndexOutOfBoundsException"
def TJ7 : u_T := fun k => match k with
  | 0 => ("java/lang/Throwable", "backtrace", "Ljava/lang/Object;", false)
  | 1 => ("java/lang/Throwable", "detailMessage", "Ljava/lang/String;", false)
  | 2 => ("java/lang/Throwable", "cause", "Ljava/lang/Throwable;", false)
  | 3 => ("java/lang/Throwable", "stackTrace", "[Ljava/lang/StackTraceElement;", false)
  | 4 => ("java/lang/Throwable", "depth", "I", false)
  | _ => ("java/lang/Throwable", "suppressedExceptions", "Ljava/util/List;", false)
def tyJ7 : Nat → FieldType := fun k => match k with
  | 0 => .object "java/lang/Object"
  | 1 => .object "java/lang/String"
  | 2 => .object "java/lang/Throwable"
  | 3 => .array (.object "java/lang/StackTraceElement")
  | 4 => .int
  | _ => .object "java/util/List"
abbrev wsJ70 : List Cond := u_ws RJ7 TJ7 6
theorem nmJ7 : ∀ a, a < 6 → ∀ b, b < 6 → a ≠ b → (TJ7 a).2.1 ≠ (TJ7 b).2.1 := by decide +kernel
theorem tyJ7_ok : ∀ k, k < 6 → parseFieldDescriptor (TJ7 k).2.2.1 = some (tyJ7 k) := by decide +kernel
abbrev cJ7_init : ByteArray := prog_7_method_2_code
def yJ7_init : MethodName := ⟨RJ7, "<init>", "(Ljava/lang/String;)V"⟩
def dkwJ7_init_0 : List UInt8 := [42, 43, 183, 0, 7, 177]
abbrev dktJ7_init_0 : List UInt8 := dkwJ7_init_0 ++ []
theorem dksJ7_init_0 : cJ7_init.data.toList.drop 0 = dktJ7_init_0 := by decide +kernel
theorem dJ7_init_0 : decode cJ7_init 0 = .ok (.aload_n 0, 1) := dk_42 (dk_at dksJ7_init_0 0 rfl rfl)
theorem dJ7_init_1 : decode cJ7_init 1 = .ok (.aload_n 1, 1) := dk_43 (dk_at dksJ7_init_0 1 rfl rfl)
theorem dJ7_init_2 : decode cJ7_init 2 = .ok (.invokespecial 7, 3) := dk_183 0 7 (dk_at dksJ7_init_0 2 rfl rfl)
theorem dJ7_init_5 : decode cJ7_init 5 = .ok (.return_, 1) := dk_177 (dk_at dksJ7_init_0 5 rfl rfl)
theorem q45 : (Jvm.Cond.initialized "java/lang/ArrayIndexOutOfBoundsException") ∈ lw_all := lw_g (lw_at lw_m1 12 rfl) rfl
theorem q227 : (Jvm.Cond.selects "java/lang/ArrayIndexOutOfBoundsException" ({ cls := "java/lang/Throwable", name := "fillInStackTrace", desc := "()Ljava/lang/Throwable;" } : Jvm.MethodName) ({ cls := "java/lang/Throwable", name := "fillInStackTrace", desc := "()Ljava/lang/Throwable;" } : Jvm.MethodName)) ∈ lw_all := lw_g (lw_at lw_m1 194 rfl) rfl
theorem q719 : (Jvm.Cond.instantiable "java/lang/ArrayIndexOutOfBoundsException" (6 : Nat)) ∈ lw_all := lw_g (lw_at lw_m3 206 rfl) rfl
theorem q720 : (Jvm.Cond.instanceMethod ({ cls := "java/lang/ArrayIndexOutOfBoundsException", name := "<init>", desc := "(Ljava/lang/String;)V" } : Jvm.MethodName)) ∈ lw_all := lw_g (lw_at lw_m3 207 rfl) rfl
theorem q721 : (Jvm.Cond.code ({ cls := "java/lang/ArrayIndexOutOfBoundsException", name := "<init>", desc := "(Ljava/lang/String;)V" } : Jvm.MethodName) prog_7_method_2_code (2 : Nat) (Option.none : Option Jvm.ClassFile.FieldType)) ∈ lw_all := lw_g (lw_at lw_m3 208 rfl) rfl
theorem q722 : (Jvm.Cond.methodLink "java/lang/ArrayIndexOutOfBoundsException" (7 : Nat) ({ cls := "java/lang/IndexOutOfBoundsException", name := "<init>", desc := "(Ljava/lang/String;)V" } : Jvm.MethodName)) ∈ lw_all := lw_g (lw_at lw_m3 209 rfl) rfl
theorem q734 : (Jvm.Cond.lays "java/lang/ArrayIndexOutOfBoundsException" "java/lang/Throwable" "backtrace" "Ljava/lang/Object;") ∈ lw_all := lw_g (lw_at lw_m3 221 rfl) rfl
theorem q735 : (Jvm.Cond.lays "java/lang/ArrayIndexOutOfBoundsException" "java/lang/Throwable" "detailMessage" "Ljava/lang/String;") ∈ lw_all := lw_g (lw_at lw_m3 222 rfl) rfl
theorem q736 : (Jvm.Cond.lays "java/lang/ArrayIndexOutOfBoundsException" "java/lang/Throwable" "cause" "Ljava/lang/Throwable;") ∈ lw_all := lw_g (lw_at lw_m3 223 rfl) rfl
theorem q737 : (Jvm.Cond.lays "java/lang/ArrayIndexOutOfBoundsException" "java/lang/Throwable" "stackTrace" "[Ljava/lang/StackTraceElement;") ∈ lw_all := lw_g (lw_at lw_m3 224 rfl) rfl
theorem q738 : (Jvm.Cond.lays "java/lang/ArrayIndexOutOfBoundsException" "java/lang/Throwable" "depth" "I") ∈ lw_all := lw_g (lw_at lw_m3 225 rfl) rfl
theorem q739 : (Jvm.Cond.lays "java/lang/ArrayIndexOutOfBoundsException" "java/lang/Throwable" "suppressedExceptions" "Ljava/util/List;") ∈ lw_all := lw_g (lw_at lw_m3 226 rfl) rfl
theorem q740 : (Jvm.Cond.superclass "java/lang/ArrayIndexOutOfBoundsException" "java/lang/IndexOutOfBoundsException") ∈ lw_all := lw_g (lw_at lw_m3 227 rfl) rfl
theorem q741 : (Jvm.Cond.castable "java/lang/ArrayIndexOutOfBoundsException" "java/lang/ArrayIndexOutOfBoundsException") ∈ lw_tbl := lw_at lw_m3 228 rfl
theorem q744 : (Jvm.Cond.selects "java/lang/ArrayIndexOutOfBoundsException" ({ cls := "java/lang/Throwable", name := "fillInStackTrace", desc := "(I)Ljava/lang/Throwable;" } : Jvm.MethodName) ({ cls := "java/lang/Throwable", name := "fillInStackTrace", desc := "(I)Ljava/lang/Throwable;" } : Jvm.MethodName)) ∈ lw_all := lw_g (lw_at lw_m3 231 rfl) rfl
theorem q1201 : (Jvm.Cond.selects "java/lang/ArrayIndexOutOfBoundsException" ({ cls := "java/lang/Object", name := "equals", desc := "(Ljava/lang/Object;)Z" } : Jvm.MethodName) ({ cls := "java/lang/Object", name := "equals", desc := "(Ljava/lang/Object;)Z" } : Jvm.MethodName)) ∈ lw_all := lw_g (lw_at lw_m5 208 rfl) rfl
theorem q1971 : (Jvm.Cond.castable "java/lang/ArrayIndexOutOfBoundsException" "java/lang/IndexOutOfBoundsException") ∈ lw_tbl := lw_at lw_m9 18 rfl
theorem in_J7 : ∀ w ∈ wsJ70, w ∈ lw_all := lw_in wsJ70 [734, 735, 736, 737, 738, 739] (by decide +kernel) (by decide +kernel)
/-! java/lang/String -/
set_option maxRecDepth 100000
def RJ8 : String := "java/lang/String"
def TJ8 : u_T := fun k => match k with
  | 0 => ("java/lang/String", "value", "[B", true)
  | 1 => ("java/lang/String", "coder", "B", true)
  | 2 => ("java/lang/String", "hash", "I", false)
  | _ => ("java/lang/String", "hashIsZero", "Z", false)
def tyJ8 : Nat → FieldType := fun k => match k with
  | 0 => .array .byte
  | 1 => .byte
  | 2 => .int
  | _ => .boolean
abbrev wsJ80 : List Cond := u_ws RJ8 TJ8 4
theorem nmJ8 : ∀ a, a < 4 → ∀ b, b < 4 → a ≠ b → (TJ8 a).2.1 ≠ (TJ8 b).2.1 := by decide +kernel
theorem tyJ8_ok : ∀ k, k < 4 → parseFieldDescriptor (TJ8 k).2.2.1 = some (tyJ8 k) := by decide +kernel
abbrev cJ8_compareTo : ByteArray := prog_21_method_162_code
def yJ8_compareTo : MethodName := ⟨RJ8, "compareTo", "(Ljava/lang/Object;)I"⟩
def dkwJ8_compareTo_0 : List UInt8 := [42, 43, 192, 0, 10, 182, 4, 60, 172]
abbrev dktJ8_compareTo_0 : List UInt8 := dkwJ8_compareTo_0 ++ []
theorem dksJ8_compareTo_0 : cJ8_compareTo.data.toList.drop 0 = dktJ8_compareTo_0 := by decide +kernel
theorem dJ8_compareTo_0 : decode cJ8_compareTo 0 = .ok (.aload_n 0, 1) := dk_42 (dk_at dksJ8_compareTo_0 0 rfl rfl)
theorem dJ8_compareTo_1 : decode cJ8_compareTo 1 = .ok (.aload_n 1, 1) := dk_43 (dk_at dksJ8_compareTo_0 1 rfl rfl)
theorem dJ8_compareTo_2 : decode cJ8_compareTo 2 = .ok (.checkcast 10, 3) := dk_192 0 10 (dk_at dksJ8_compareTo_0 2 rfl rfl)
theorem dJ8_compareTo_5 : decode cJ8_compareTo 5 = .ok (.invokevirtual 1084, 3) := dk_182 4 60 (dk_at dksJ8_compareTo_0 5 rfl rfl)
theorem dJ8_compareTo_8 : decode cJ8_compareTo 8 = .ok (.ireturn, 1) := dk_172 (dk_at dksJ8_compareTo_0 8 rfl rfl)
abbrev cJ8_compareTo_2 : ByteArray := prog_21_method_71_code
def yJ8_compareTo_2 : MethodName := ⟨RJ8, "compareTo", "(Ljava/lang/String;)I"⟩
def dkwJ8_compareTo_2_2 : List UInt8 := [154, 0, 11, 44, 45, 184, 2, 79, 167, 0, 8, 44, 45, 184, 2, 82, 172]
abbrev dktJ8_compareTo_2_2 : List UInt8 := dkwJ8_compareTo_2_2 ++ []
def dkwJ8_compareTo_2_1 : List UInt8 := [160, 0, 22, 21, 4, 154, 0, 11, 44, 45, 184, 2, 74, 167, 0, 8, 44, 45, 184, 2, 78, 172, 21, 4]
abbrev dktJ8_compareTo_2_1 : List UInt8 := dkwJ8_compareTo_2_1 ++ dktJ8_compareTo_2_2
def dkwJ8_compareTo_2_0 : List UInt8 := [42, 180, 0, 9, 77, 43, 180, 0, 9, 78, 42, 182, 1, 79, 54, 4, 21, 4, 43, 182, 1, 79]
abbrev dktJ8_compareTo_2_0 : List UInt8 := dkwJ8_compareTo_2_0 ++ dktJ8_compareTo_2_1
theorem dksJ8_compareTo_2_0 : cJ8_compareTo_2.data.toList.drop 0 = dktJ8_compareTo_2_0 := by decide +kernel
theorem dksJ8_compareTo_2_1 : cJ8_compareTo_2.data.toList.drop 22 = dktJ8_compareTo_2_1 := dk_seg dksJ8_compareTo_2_0 22 rfl rfl
theorem dksJ8_compareTo_2_2 : cJ8_compareTo_2.data.toList.drop 46 = dktJ8_compareTo_2_2 := dk_seg dksJ8_compareTo_2_1 24 rfl rfl
theorem dJ8_compareTo_2_0 : decode cJ8_compareTo_2 0 = .ok (.aload_n 0, 1) := dk_42 (dk_at dksJ8_compareTo_2_0 0 rfl rfl)
theorem dJ8_compareTo_2_1 : decode cJ8_compareTo_2 1 = .ok (.getfield 9, 3) := dk_180 0 9 (dk_at dksJ8_compareTo_2_0 1 rfl rfl)
theorem dJ8_compareTo_2_4 : decode cJ8_compareTo_2 4 = .ok (.astore_n 2, 1) := dk_77 (dk_at dksJ8_compareTo_2_0 4 rfl rfl)
theorem dJ8_compareTo_2_5 : decode cJ8_compareTo_2 5 = .ok (.aload_n 1, 1) := dk_43 (dk_at dksJ8_compareTo_2_0 5 rfl rfl)
theorem dJ8_compareTo_2_6 : decode cJ8_compareTo_2 6 = .ok (.getfield 9, 3) := dk_180 0 9 (dk_at dksJ8_compareTo_2_0 6 rfl rfl)
theorem dJ8_compareTo_2_9 : decode cJ8_compareTo_2 9 = .ok (.astore_n 3, 1) := dk_78 (dk_at dksJ8_compareTo_2_0 9 rfl rfl)
theorem dJ8_compareTo_2_10 : decode cJ8_compareTo_2 10 = .ok (.aload_n 0, 1) := dk_42 (dk_at dksJ8_compareTo_2_0 10 rfl rfl)
theorem dJ8_compareTo_2_11 : decode cJ8_compareTo_2 11 = .ok (.invokevirtual 335, 3) := dk_182 1 79 (dk_at dksJ8_compareTo_2_0 11 rfl rfl)
theorem dJ8_compareTo_2_14 : decode cJ8_compareTo_2 14 = .ok (.istore 4, 2) := dk_54 4 (dk_at dksJ8_compareTo_2_0 14 rfl rfl)
theorem dJ8_compareTo_2_16 : decode cJ8_compareTo_2 16 = .ok (.iload 4, 2) := dk_21 4 (dk_at dksJ8_compareTo_2_0 16 rfl rfl)
theorem dJ8_compareTo_2_18 : decode cJ8_compareTo_2 18 = .ok (.aload_n 1, 1) := dk_43 (dk_at dksJ8_compareTo_2_0 18 rfl rfl)
theorem dJ8_compareTo_2_19 : decode cJ8_compareTo_2 19 = .ok (.invokevirtual 335, 3) := dk_182 1 79 (dk_at dksJ8_compareTo_2_0 19 rfl rfl)
theorem dJ8_compareTo_2_22 : decode cJ8_compareTo_2 22 = .ok (.if_icmp .ne 22, 3) := dk_160 0 22 (dk_at dksJ8_compareTo_2_1 0 rfl rfl)
theorem dJ8_compareTo_2_25 : decode cJ8_compareTo_2 25 = .ok (.iload 4, 2) := dk_21 4 (dk_at dksJ8_compareTo_2_1 3 rfl rfl)
theorem dJ8_compareTo_2_27 : decode cJ8_compareTo_2 27 = .ok (.ifCond .ne 11, 3) := dk_154 0 11 (dk_at dksJ8_compareTo_2_1 5 rfl rfl)
theorem dJ8_compareTo_2_30 : decode cJ8_compareTo_2 30 = .ok (.aload_n 2, 1) := dk_44 (dk_at dksJ8_compareTo_2_1 8 rfl rfl)
theorem dJ8_compareTo_2_31 : decode cJ8_compareTo_2 31 = .ok (.aload_n 3, 1) := dk_45 (dk_at dksJ8_compareTo_2_1 9 rfl rfl)
theorem dJ8_compareTo_2_32 : decode cJ8_compareTo_2 32 = .ok (.invokestatic 586, 3) := dk_184 2 74 (dk_at dksJ8_compareTo_2_1 10 rfl rfl)
theorem dJ8_compareTo_2_35 : decode cJ8_compareTo_2 35 = .ok (.goto 8, 3) := dk_167 0 8 (dk_at dksJ8_compareTo_2_1 13 rfl rfl)
theorem dJ8_compareTo_2_38 : decode cJ8_compareTo_2 38 = .ok (.aload_n 2, 1) := dk_44 (dk_at dksJ8_compareTo_2_1 16 rfl rfl)
theorem dJ8_compareTo_2_39 : decode cJ8_compareTo_2 39 = .ok (.aload_n 3, 1) := dk_45 (dk_at dksJ8_compareTo_2_1 17 rfl rfl)
theorem dJ8_compareTo_2_40 : decode cJ8_compareTo_2 40 = .ok (.invokestatic 590, 3) := dk_184 2 78 (dk_at dksJ8_compareTo_2_1 18 rfl rfl)
theorem dJ8_compareTo_2_43 : decode cJ8_compareTo_2 43 = .ok (.ireturn, 1) := dk_172 (dk_at dksJ8_compareTo_2_1 21 rfl rfl)
theorem dJ8_compareTo_2_44 : decode cJ8_compareTo_2 44 = .ok (.iload 4, 2) := dk_21 4 (dk_at dksJ8_compareTo_2_1 22 rfl rfl)
theorem dJ8_compareTo_2_46 : decode cJ8_compareTo_2 46 = .ok (.ifCond .ne 11, 3) := dk_154 0 11 (dk_at dksJ8_compareTo_2_2 0 rfl rfl)
theorem dJ8_compareTo_2_49 : decode cJ8_compareTo_2 49 = .ok (.aload_n 2, 1) := dk_44 (dk_at dksJ8_compareTo_2_2 3 rfl rfl)
theorem dJ8_compareTo_2_50 : decode cJ8_compareTo_2 50 = .ok (.aload_n 3, 1) := dk_45 (dk_at dksJ8_compareTo_2_2 4 rfl rfl)
theorem dJ8_compareTo_2_51 : decode cJ8_compareTo_2 51 = .ok (.invokestatic 591, 3) := dk_184 2 79 (dk_at dksJ8_compareTo_2_2 5 rfl rfl)
theorem dJ8_compareTo_2_54 : decode cJ8_compareTo_2 54 = .ok (.goto 8, 3) := dk_167 0 8 (dk_at dksJ8_compareTo_2_2 8 rfl rfl)
theorem dJ8_compareTo_2_57 : decode cJ8_compareTo_2 57 = .ok (.aload_n 2, 1) := dk_44 (dk_at dksJ8_compareTo_2_2 11 rfl rfl)
theorem dJ8_compareTo_2_58 : decode cJ8_compareTo_2 58 = .ok (.aload_n 3, 1) := dk_45 (dk_at dksJ8_compareTo_2_2 12 rfl rfl)
theorem dJ8_compareTo_2_59 : decode cJ8_compareTo_2 59 = .ok (.invokestatic 594, 3) := dk_184 2 82 (dk_at dksJ8_compareTo_2_2 13 rfl rfl)
theorem dJ8_compareTo_2_62 : decode cJ8_compareTo_2 62 = .ok (.ireturn, 1) := dk_172 (dk_at dksJ8_compareTo_2_2 16 rfl rfl)
abbrev cJ8_coder : ByteArray := prog_21_method_152_code
def yJ8_coder : MethodName := ⟨RJ8, "coder", "()B"⟩
def dkwJ8_coder_0 : List UInt8 := [178, 0, 38, 153, 0, 10, 42, 180, 0, 15, 167, 0, 4, 4, 172]
abbrev dktJ8_coder_0 : List UInt8 := dkwJ8_coder_0 ++ []
theorem dksJ8_coder_0 : cJ8_coder.data.toList.drop 0 = dktJ8_coder_0 := by decide +kernel
theorem dJ8_coder_0 : decode cJ8_coder 0 = .ok (.getstatic 38, 3) := dk_178 0 38 (dk_at dksJ8_coder_0 0 rfl rfl)
theorem dJ8_coder_3 : decode cJ8_coder 3 = .ok (.ifCond .eq 10, 3) := dk_153 0 10 (dk_at dksJ8_coder_0 3 rfl rfl)
theorem dJ8_coder_6 : decode cJ8_coder 6 = .ok (.aload_n 0, 1) := dk_42 (dk_at dksJ8_coder_0 6 rfl rfl)
theorem dJ8_coder_7 : decode cJ8_coder 7 = .ok (.getfield 15, 3) := dk_180 0 15 (dk_at dksJ8_coder_0 7 rfl rfl)
theorem dJ8_coder_10 : decode cJ8_coder 10 = .ok (.goto 4, 3) := dk_167 0 4 (dk_at dksJ8_coder_0 10 rfl rfl)
theorem dJ8_coder_13 : decode cJ8_coder 13 = .ok (.iconst 1, 1) := dk_4 (dk_at dksJ8_coder_0 13 rfl rfl)
theorem dJ8_coder_14 : decode cJ8_coder 14 = .ok (.ireturn, 1) := dk_172 (dk_at dksJ8_coder_0 14 rfl rfl)
abbrev cJ8_checkOffset : ByteArray := prog_21_method_156_code
def yJ8_checkOffset : MethodName := ⟨RJ8, "checkOffset", "(II)V"⟩
def dkwJ8_checkOffset_0 : List UInt8 := [26, 27, 27, 178, 4, 29, 184, 4, 38, 87, 177]
abbrev dktJ8_checkOffset_0 : List UInt8 := dkwJ8_checkOffset_0 ++ []
theorem dksJ8_checkOffset_0 : cJ8_checkOffset.data.toList.drop 0 = dktJ8_checkOffset_0 := by decide +kernel
theorem dJ8_checkOffset_0 : decode cJ8_checkOffset 0 = .ok (.iload_n 0, 1) := dk_26 (dk_at dksJ8_checkOffset_0 0 rfl rfl)
theorem dJ8_checkOffset_1 : decode cJ8_checkOffset 1 = .ok (.iload_n 1, 1) := dk_27 (dk_at dksJ8_checkOffset_0 1 rfl rfl)
theorem dJ8_checkOffset_2 : decode cJ8_checkOffset 2 = .ok (.iload_n 1, 1) := dk_27 (dk_at dksJ8_checkOffset_0 2 rfl rfl)
theorem dJ8_checkOffset_3 : decode cJ8_checkOffset 3 = .ok (.getstatic 1053, 3) := dk_178 4 29 (dk_at dksJ8_checkOffset_0 3 rfl rfl)
theorem dJ8_checkOffset_6 : decode cJ8_checkOffset 6 = .ok (.invokestatic 1062, 3) := dk_184 4 38 (dk_at dksJ8_checkOffset_0 6 rfl rfl)
theorem dJ8_checkOffset_9 : decode cJ8_checkOffset 9 = .ok (.pop, 1) := dk_87 (dk_at dksJ8_checkOffset_0 9 rfl rfl)
theorem dJ8_checkOffset_10 : decode cJ8_checkOffset 10 = .ok (.return_, 1) := dk_177 (dk_at dksJ8_checkOffset_0 10 rfl rfl)
abbrev cJ8_checkBoundsBeginEnd : ByteArray := prog_21_method_158_code
def yJ8_checkBoundsBeginEnd : MethodName := ⟨RJ8, "checkBoundsBeginEnd", "(III)V"⟩
def dkwJ8_checkBoundsBeginEnd_0 : List UInt8 := [26, 27, 28, 178, 4, 29, 184, 4, 38, 87, 177]
abbrev dktJ8_checkBoundsBeginEnd_0 : List UInt8 := dkwJ8_checkBoundsBeginEnd_0 ++ []
theorem dksJ8_checkBoundsBeginEnd_0 : cJ8_checkBoundsBeginEnd.data.toList.drop 0 = dktJ8_checkBoundsBeginEnd_0 := by decide +kernel
theorem dJ8_checkBoundsBeginEnd_0 : decode cJ8_checkBoundsBeginEnd 0 = .ok (.iload_n 0, 1) := dk_26 (dk_at dksJ8_checkBoundsBeginEnd_0 0 rfl rfl)
theorem dJ8_checkBoundsBeginEnd_1 : decode cJ8_checkBoundsBeginEnd 1 = .ok (.iload_n 1, 1) := dk_27 (dk_at dksJ8_checkBoundsBeginEnd_0 1 rfl rfl)
theorem dJ8_checkBoundsBeginEnd_2 : decode cJ8_checkBoundsBeginEnd 2 = .ok (.iload_n 2, 1) := dk_28 (dk_at dksJ8_checkBoundsBeginEnd_0 2 rfl rfl)
theorem dJ8_checkBoundsBeginEnd_3 : decode cJ8_checkBoundsBeginEnd 3 = .ok (.getstatic 1053, 3) := dk_178 4 29 (dk_at dksJ8_checkBoundsBeginEnd_0 3 rfl rfl)
theorem dJ8_checkBoundsBeginEnd_6 : decode cJ8_checkBoundsBeginEnd 6 = .ok (.invokestatic 1062, 3) := dk_184 4 38 (dk_at dksJ8_checkBoundsBeginEnd_0 6 rfl rfl)
theorem dJ8_checkBoundsBeginEnd_9 : decode cJ8_checkBoundsBeginEnd 9 = .ok (.pop, 1) := dk_87 (dk_at dksJ8_checkBoundsBeginEnd_0 9 rfl rfl)
theorem dJ8_checkBoundsBeginEnd_10 : decode cJ8_checkBoundsBeginEnd 10 = .ok (.return_, 1) := dk_177 (dk_at dksJ8_checkBoundsBeginEnd_0 10 rfl rfl)
abbrev cJ8_checkBoundsOffCount : ByteArray := prog_21_method_157_code
def yJ8_checkBoundsOffCount : MethodName := ⟨RJ8, "checkBoundsOffCount", "(III)I"⟩
def dkwJ8_checkBoundsOffCount_0 : List UInt8 := [26, 27, 28, 178, 4, 29, 184, 4, 41, 172]
abbrev dktJ8_checkBoundsOffCount_0 : List UInt8 := dkwJ8_checkBoundsOffCount_0 ++ []
theorem dksJ8_checkBoundsOffCount_0 : cJ8_checkBoundsOffCount.data.toList.drop 0 = dktJ8_checkBoundsOffCount_0 := by decide +kernel
theorem dJ8_checkBoundsOffCount_0 : decode cJ8_checkBoundsOffCount 0 = .ok (.iload_n 0, 1) := dk_26 (dk_at dksJ8_checkBoundsOffCount_0 0 rfl rfl)
theorem dJ8_checkBoundsOffCount_1 : decode cJ8_checkBoundsOffCount 1 = .ok (.iload_n 1, 1) := dk_27 (dk_at dksJ8_checkBoundsOffCount_0 1 rfl rfl)
theorem dJ8_checkBoundsOffCount_2 : decode cJ8_checkBoundsOffCount 2 = .ok (.iload_n 2, 1) := dk_28 (dk_at dksJ8_checkBoundsOffCount_0 2 rfl rfl)
theorem dJ8_checkBoundsOffCount_3 : decode cJ8_checkBoundsOffCount 3 = .ok (.getstatic 1053, 3) := dk_178 4 29 (dk_at dksJ8_checkBoundsOffCount_0 3 rfl rfl)
theorem dJ8_checkBoundsOffCount_6 : decode cJ8_checkBoundsOffCount 6 = .ok (.invokestatic 1065, 3) := dk_184 4 41 (dk_at dksJ8_checkBoundsOffCount_0 6 rfl rfl)
theorem dJ8_checkBoundsOffCount_9 : decode cJ8_checkBoundsOffCount 9 = .ok (.ireturn, 1) := dk_172 (dk_at dksJ8_checkBoundsOffCount_0 9 rfl rfl)
abbrev cJ8_checkIndex : ByteArray := prog_21_method_155_code
def yJ8_checkIndex : MethodName := ⟨RJ8, "checkIndex", "(II)V"⟩
def dkwJ8_checkIndex_0 : List UInt8 := [26, 27, 178, 4, 29, 184, 4, 35, 87, 177]
abbrev dktJ8_checkIndex_0 : List UInt8 := dkwJ8_checkIndex_0 ++ []
theorem dksJ8_checkIndex_0 : cJ8_checkIndex.data.toList.drop 0 = dktJ8_checkIndex_0 := by decide +kernel
theorem dJ8_checkIndex_0 : decode cJ8_checkIndex 0 = .ok (.iload_n 0, 1) := dk_26 (dk_at dksJ8_checkIndex_0 0 rfl rfl)
theorem dJ8_checkIndex_1 : decode cJ8_checkIndex 1 = .ok (.iload_n 1, 1) := dk_27 (dk_at dksJ8_checkIndex_0 1 rfl rfl)
theorem dJ8_checkIndex_2 : decode cJ8_checkIndex 2 = .ok (.getstatic 1053, 3) := dk_178 4 29 (dk_at dksJ8_checkIndex_0 2 rfl rfl)
theorem dJ8_checkIndex_5 : decode cJ8_checkIndex 5 = .ok (.invokestatic 1059, 3) := dk_184 4 35 (dk_at dksJ8_checkIndex_0 5 rfl rfl)
theorem dJ8_checkIndex_8 : decode cJ8_checkIndex 8 = .ok (.pop, 1) := dk_87 (dk_at dksJ8_checkIndex_0 8 rfl rfl)
theorem dJ8_checkIndex_9 : decode cJ8_checkIndex 9 = .ok (.return_, 1) := dk_177 (dk_at dksJ8_checkIndex_0 9 rfl rfl)
abbrev cJ8_init : ByteArray := prog_21_method_53_code
def yJ8_init : MethodName := ⟨RJ8, "<init>", "(Ljava/lang/StringBuilder;)V"⟩
def dkwJ8_init_0 : List UInt8 := [42, 43, 1, 183, 1, 233, 177]
abbrev dktJ8_init_0 : List UInt8 := dkwJ8_init_0 ++ []
theorem dksJ8_init_0 : cJ8_init.data.toList.drop 0 = dktJ8_init_0 := by decide +kernel
theorem dJ8_init_0 : decode cJ8_init 0 = .ok (.aload_n 0, 1) := dk_42 (dk_at dksJ8_init_0 0 rfl rfl)
theorem dJ8_init_1 : decode cJ8_init 1 = .ok (.aload_n 1, 1) := dk_43 (dk_at dksJ8_init_0 1 rfl rfl)
theorem dJ8_init_2 : decode cJ8_init 2 = .ok (.aconst_null, 1) := dk_1 (dk_at dksJ8_init_0 2 rfl rfl)
theorem dJ8_init_3 : decode cJ8_init 3 = .ok (.invokespecial 489, 3) := dk_183 1 233 (dk_at dksJ8_init_0 3 rfl rfl)
theorem dJ8_init_6 : decode cJ8_init 6 = .ok (.return_, 1) := dk_177 (dk_at dksJ8_init_0 6 rfl rfl)
abbrev cJ8_init_2 : ByteArray := prog_21_method_150_code
def yJ8_init_2 : MethodName := ⟨RJ8, "<init>", "(Ljava/lang/AbstractStringBuilder;Ljava/lang/Void;)V"⟩
def dkwJ8_init_2_4 : List UInt8 := [181, 0, 9, 177]
abbrev dktJ8_init_2_4 : List UInt8 := dkwJ8_init_2_4 ++ []
def dkwJ8_init_2_3 : List UInt8 := [184, 0, 47, 181, 0, 15, 177, 42, 4, 181, 0, 15, 42, 45, 3, 21, 4, 4, 120, 184, 0, 54]
abbrev dktJ8_init_2_3 : List UInt8 := dkwJ8_init_2_3 ++ dktJ8_init_2_4
def dkwJ8_init_2_2 : List UInt8 := [180, 4, 24, 153, 0, 28, 42, 45, 3, 21, 4, 184, 4, 27, 181, 0, 9, 42, 42, 180, 0, 9, 21, 4]
abbrev dktJ8_init_2_2 : List UInt8 := dkwJ8_init_2_2 ++ dktJ8_init_2_3
def dkwJ8_init_2_1 : List UInt8 := [181, 0, 15, 42, 45, 3, 21, 4, 184, 0, 54, 181, 0, 9, 167, 0, 59, 178, 0, 38, 153, 0, 35, 43]
abbrev dktJ8_init_2_1 : List UInt8 := dkwJ8_init_2_1 ++ dktJ8_init_2_2
def dkwJ8_init_2_0 : List UInt8 := [42, 183, 0, 1, 43, 182, 2, 40, 78, 43, 182, 2, 37, 54, 4, 43, 182, 4, 23, 153, 0, 22, 42, 3]
abbrev dktJ8_init_2_0 : List UInt8 := dkwJ8_init_2_0 ++ dktJ8_init_2_1
theorem dksJ8_init_2_0 : cJ8_init_2.data.toList.drop 0 = dktJ8_init_2_0 := by decide +kernel
theorem dksJ8_init_2_1 : cJ8_init_2.data.toList.drop 24 = dktJ8_init_2_1 := dk_seg dksJ8_init_2_0 24 rfl rfl
theorem dksJ8_init_2_2 : cJ8_init_2.data.toList.drop 48 = dktJ8_init_2_2 := dk_seg dksJ8_init_2_1 24 rfl rfl
theorem dksJ8_init_2_3 : cJ8_init_2.data.toList.drop 72 = dktJ8_init_2_3 := dk_seg dksJ8_init_2_2 24 rfl rfl
theorem dksJ8_init_2_4 : cJ8_init_2.data.toList.drop 94 = dktJ8_init_2_4 := dk_seg dksJ8_init_2_3 22 rfl rfl
theorem dJ8_init_2_0 : decode cJ8_init_2 0 = .ok (.aload_n 0, 1) := dk_42 (dk_at dksJ8_init_2_0 0 rfl rfl)
theorem dJ8_init_2_1 : decode cJ8_init_2 1 = .ok (.invokespecial 1, 3) := dk_183 0 1 (dk_at dksJ8_init_2_0 1 rfl rfl)
theorem dJ8_init_2_4 : decode cJ8_init_2 4 = .ok (.aload_n 1, 1) := dk_43 (dk_at dksJ8_init_2_0 4 rfl rfl)
theorem dJ8_init_2_5 : decode cJ8_init_2 5 = .ok (.invokevirtual 552, 3) := dk_182 2 40 (dk_at dksJ8_init_2_0 5 rfl rfl)
theorem dJ8_init_2_8 : decode cJ8_init_2 8 = .ok (.astore_n 3, 1) := dk_78 (dk_at dksJ8_init_2_0 8 rfl rfl)
theorem dJ8_init_2_9 : decode cJ8_init_2 9 = .ok (.aload_n 1, 1) := dk_43 (dk_at dksJ8_init_2_0 9 rfl rfl)
theorem dJ8_init_2_10 : decode cJ8_init_2 10 = .ok (.invokevirtual 549, 3) := dk_182 2 37 (dk_at dksJ8_init_2_0 10 rfl rfl)
theorem dJ8_init_2_13 : decode cJ8_init_2 13 = .ok (.istore 4, 2) := dk_54 4 (dk_at dksJ8_init_2_0 13 rfl rfl)
theorem dJ8_init_2_15 : decode cJ8_init_2 15 = .ok (.aload_n 1, 1) := dk_43 (dk_at dksJ8_init_2_0 15 rfl rfl)
theorem dJ8_init_2_16 : decode cJ8_init_2 16 = .ok (.invokevirtual 1047, 3) := dk_182 4 23 (dk_at dksJ8_init_2_0 16 rfl rfl)
theorem dJ8_init_2_19 : decode cJ8_init_2 19 = .ok (.ifCond .eq 22, 3) := dk_153 0 22 (dk_at dksJ8_init_2_0 19 rfl rfl)
theorem dJ8_init_2_22 : decode cJ8_init_2 22 = .ok (.aload_n 0, 1) := dk_42 (dk_at dksJ8_init_2_0 22 rfl rfl)
theorem dJ8_init_2_23 : decode cJ8_init_2 23 = .ok (.iconst 0, 1) := dk_3 (dk_at dksJ8_init_2_0 23 rfl rfl)
theorem dJ8_init_2_24 : decode cJ8_init_2 24 = .ok (.putfield 15, 3) := dk_181 0 15 (dk_at dksJ8_init_2_1 0 rfl rfl)
theorem dJ8_init_2_27 : decode cJ8_init_2 27 = .ok (.aload_n 0, 1) := dk_42 (dk_at dksJ8_init_2_1 3 rfl rfl)
theorem dJ8_init_2_28 : decode cJ8_init_2 28 = .ok (.aload_n 3, 1) := dk_45 (dk_at dksJ8_init_2_1 4 rfl rfl)
theorem dJ8_init_2_29 : decode cJ8_init_2 29 = .ok (.iconst 0, 1) := dk_3 (dk_at dksJ8_init_2_1 5 rfl rfl)
theorem dJ8_init_2_30 : decode cJ8_init_2 30 = .ok (.iload 4, 2) := dk_21 4 (dk_at dksJ8_init_2_1 6 rfl rfl)
theorem dJ8_init_2_32 : decode cJ8_init_2 32 = .ok (.invokestatic 54, 3) := dk_184 0 54 (dk_at dksJ8_init_2_1 8 rfl rfl)
theorem dJ8_init_2_35 : decode cJ8_init_2 35 = .ok (.putfield 9, 3) := dk_181 0 9 (dk_at dksJ8_init_2_1 11 rfl rfl)
theorem dJ8_init_2_38 : decode cJ8_init_2 38 = .ok (.goto 59, 3) := dk_167 0 59 (dk_at dksJ8_init_2_1 14 rfl rfl)
theorem dJ8_init_2_41 : decode cJ8_init_2 41 = .ok (.getstatic 38, 3) := dk_178 0 38 (dk_at dksJ8_init_2_1 17 rfl rfl)
theorem dJ8_init_2_44 : decode cJ8_init_2 44 = .ok (.ifCond .eq 35, 3) := dk_153 0 35 (dk_at dksJ8_init_2_1 20 rfl rfl)
theorem dJ8_init_2_47 : decode cJ8_init_2 47 = .ok (.aload_n 1, 1) := dk_43 (dk_at dksJ8_init_2_1 23 rfl rfl)
theorem dJ8_init_2_48 : decode cJ8_init_2 48 = .ok (.getfield 1048, 3) := dk_180 4 24 (dk_at dksJ8_init_2_2 0 rfl rfl)
theorem dJ8_init_2_51 : decode cJ8_init_2 51 = .ok (.ifCond .eq 28, 3) := dk_153 0 28 (dk_at dksJ8_init_2_2 3 rfl rfl)
theorem dJ8_init_2_54 : decode cJ8_init_2 54 = .ok (.aload_n 0, 1) := dk_42 (dk_at dksJ8_init_2_2 6 rfl rfl)
theorem dJ8_init_2_55 : decode cJ8_init_2 55 = .ok (.aload_n 3, 1) := dk_45 (dk_at dksJ8_init_2_2 7 rfl rfl)
theorem dJ8_init_2_56 : decode cJ8_init_2 56 = .ok (.iconst 0, 1) := dk_3 (dk_at dksJ8_init_2_2 8 rfl rfl)
theorem dJ8_init_2_57 : decode cJ8_init_2 57 = .ok (.iload 4, 2) := dk_21 4 (dk_at dksJ8_init_2_2 9 rfl rfl)
theorem dJ8_init_2_59 : decode cJ8_init_2 59 = .ok (.invokestatic 1051, 3) := dk_184 4 27 (dk_at dksJ8_init_2_2 11 rfl rfl)
theorem dJ8_init_2_62 : decode cJ8_init_2 62 = .ok (.putfield 9, 3) := dk_181 0 9 (dk_at dksJ8_init_2_2 14 rfl rfl)
theorem dJ8_init_2_65 : decode cJ8_init_2 65 = .ok (.aload_n 0, 1) := dk_42 (dk_at dksJ8_init_2_2 17 rfl rfl)
theorem dJ8_init_2_66 : decode cJ8_init_2 66 = .ok (.aload_n 0, 1) := dk_42 (dk_at dksJ8_init_2_2 18 rfl rfl)
theorem dJ8_init_2_67 : decode cJ8_init_2 67 = .ok (.getfield 9, 3) := dk_180 0 9 (dk_at dksJ8_init_2_2 19 rfl rfl)
theorem dJ8_init_2_70 : decode cJ8_init_2 70 = .ok (.iload 4, 2) := dk_21 4 (dk_at dksJ8_init_2_2 22 rfl rfl)
theorem dJ8_init_2_72 : decode cJ8_init_2 72 = .ok (.invokestatic 47, 3) := dk_184 0 47 (dk_at dksJ8_init_2_3 0 rfl rfl)
theorem dJ8_init_2_75 : decode cJ8_init_2 75 = .ok (.putfield 15, 3) := dk_181 0 15 (dk_at dksJ8_init_2_3 3 rfl rfl)
theorem dJ8_init_2_78 : decode cJ8_init_2 78 = .ok (.return_, 1) := dk_177 (dk_at dksJ8_init_2_3 6 rfl rfl)
theorem dJ8_init_2_79 : decode cJ8_init_2 79 = .ok (.aload_n 0, 1) := dk_42 (dk_at dksJ8_init_2_3 7 rfl rfl)
theorem dJ8_init_2_80 : decode cJ8_init_2 80 = .ok (.iconst 1, 1) := dk_4 (dk_at dksJ8_init_2_3 8 rfl rfl)
theorem dJ8_init_2_81 : decode cJ8_init_2 81 = .ok (.putfield 15, 3) := dk_181 0 15 (dk_at dksJ8_init_2_3 9 rfl rfl)
theorem dJ8_init_2_84 : decode cJ8_init_2 84 = .ok (.aload_n 0, 1) := dk_42 (dk_at dksJ8_init_2_3 12 rfl rfl)
theorem dJ8_init_2_85 : decode cJ8_init_2 85 = .ok (.aload_n 3, 1) := dk_45 (dk_at dksJ8_init_2_3 13 rfl rfl)
theorem dJ8_init_2_86 : decode cJ8_init_2 86 = .ok (.iconst 0, 1) := dk_3 (dk_at dksJ8_init_2_3 14 rfl rfl)
theorem dJ8_init_2_87 : decode cJ8_init_2 87 = .ok (.iload 4, 2) := dk_21 4 (dk_at dksJ8_init_2_3 15 rfl rfl)
theorem dJ8_init_2_89 : decode cJ8_init_2 89 = .ok (.iconst 1, 1) := dk_4 (dk_at dksJ8_init_2_3 17 rfl rfl)
theorem dJ8_init_2_90 : decode cJ8_init_2 90 = .ok (.ishl, 1) := dk_120 (dk_at dksJ8_init_2_3 18 rfl rfl)
theorem dJ8_init_2_91 : decode cJ8_init_2 91 = .ok (.invokestatic 54, 3) := dk_184 0 54 (dk_at dksJ8_init_2_3 19 rfl rfl)
theorem dJ8_init_2_94 : decode cJ8_init_2 94 = .ok (.putfield 9, 3) := dk_181 0 9 (dk_at dksJ8_init_2_4 0 rfl rfl)
theorem dJ8_init_2_97 : decode cJ8_init_2 97 = .ok (.return_, 1) := dk_177 (dk_at dksJ8_init_2_4 3 rfl rfl)
abbrev cJ8_length : ByteArray := prog_21_method_54_code
def yJ8_length : MethodName := ⟨RJ8, "length", "()I"⟩
def dkwJ8_length_0 : List UInt8 := [42, 180, 0, 9, 190, 42, 182, 1, 79, 122, 172]
abbrev dktJ8_length_0 : List UInt8 := dkwJ8_length_0 ++ []
theorem dksJ8_length_0 : cJ8_length.data.toList.drop 0 = dktJ8_length_0 := by decide +kernel
theorem dJ8_length_0 : decode cJ8_length 0 = .ok (.aload_n 0, 1) := dk_42 (dk_at dksJ8_length_0 0 rfl rfl)
theorem dJ8_length_1 : decode cJ8_length 1 = .ok (.getfield 9, 3) := dk_180 0 9 (dk_at dksJ8_length_0 1 rfl rfl)
theorem dJ8_length_4 : decode cJ8_length 4 = .ok (.arraylength, 1) := dk_190 (dk_at dksJ8_length_0 4 rfl rfl)
theorem dJ8_length_5 : decode cJ8_length 5 = .ok (.aload_n 0, 1) := dk_42 (dk_at dksJ8_length_0 5 rfl rfl)
theorem dJ8_length_6 : decode cJ8_length 6 = .ok (.invokevirtual 335, 3) := dk_182 1 79 (dk_at dksJ8_length_0 6 rfl rfl)
theorem dJ8_length_9 : decode cJ8_length 9 = .ok (.ishr, 1) := dk_122 (dk_at dksJ8_length_0 9 rfl rfl)
theorem dJ8_length_10 : decode cJ8_length 10 = .ok (.ireturn, 1) := dk_172 (dk_at dksJ8_length_0 10 rfl rfl)
abbrev cJ8_getBytes : ByteArray := prog_21_method_147_code
def yJ8_getBytes : MethodName := ⟨RJ8, "getBytes", "([BIB)V"⟩
def dkwJ8_getBytes_1 : List UInt8 := [184, 0, 212, 167, 0, 18, 42, 180, 0, 9, 3, 43, 28, 42, 180, 0, 9, 190, 184, 0, 106, 177]
abbrev dktJ8_getBytes_1 : List UInt8 := dkwJ8_getBytes_1 ++ []
def dkwJ8_getBytes_0 : List UInt8 := [42, 182, 1, 79, 29, 160, 0, 23, 42, 180, 0, 9, 3, 43, 28, 29, 120, 42, 180, 0, 9, 190]
abbrev dktJ8_getBytes_0 : List UInt8 := dkwJ8_getBytes_0 ++ dktJ8_getBytes_1
theorem dksJ8_getBytes_0 : cJ8_getBytes.data.toList.drop 0 = dktJ8_getBytes_0 := by decide +kernel
theorem dksJ8_getBytes_1 : cJ8_getBytes.data.toList.drop 22 = dktJ8_getBytes_1 := dk_seg dksJ8_getBytes_0 22 rfl rfl
theorem dJ8_getBytes_0 : decode cJ8_getBytes 0 = .ok (.aload_n 0, 1) := dk_42 (dk_at dksJ8_getBytes_0 0 rfl rfl)
theorem dJ8_getBytes_1 : decode cJ8_getBytes 1 = .ok (.invokevirtual 335, 3) := dk_182 1 79 (dk_at dksJ8_getBytes_0 1 rfl rfl)
theorem dJ8_getBytes_4 : decode cJ8_getBytes 4 = .ok (.iload_n 3, 1) := dk_29 (dk_at dksJ8_getBytes_0 4 rfl rfl)
theorem dJ8_getBytes_5 : decode cJ8_getBytes 5 = .ok (.if_icmp .ne 23, 3) := dk_160 0 23 (dk_at dksJ8_getBytes_0 5 rfl rfl)
theorem dJ8_getBytes_8 : decode cJ8_getBytes 8 = .ok (.aload_n 0, 1) := dk_42 (dk_at dksJ8_getBytes_0 8 rfl rfl)
theorem dJ8_getBytes_9 : decode cJ8_getBytes 9 = .ok (.getfield 9, 3) := dk_180 0 9 (dk_at dksJ8_getBytes_0 9 rfl rfl)
theorem dJ8_getBytes_12 : decode cJ8_getBytes 12 = .ok (.iconst 0, 1) := dk_3 (dk_at dksJ8_getBytes_0 12 rfl rfl)
theorem dJ8_getBytes_13 : decode cJ8_getBytes 13 = .ok (.aload_n 1, 1) := dk_43 (dk_at dksJ8_getBytes_0 13 rfl rfl)
theorem dJ8_getBytes_14 : decode cJ8_getBytes 14 = .ok (.iload_n 2, 1) := dk_28 (dk_at dksJ8_getBytes_0 14 rfl rfl)
theorem dJ8_getBytes_15 : decode cJ8_getBytes 15 = .ok (.iload_n 3, 1) := dk_29 (dk_at dksJ8_getBytes_0 15 rfl rfl)
theorem dJ8_getBytes_16 : decode cJ8_getBytes 16 = .ok (.ishl, 1) := dk_120 (dk_at dksJ8_getBytes_0 16 rfl rfl)
theorem dJ8_getBytes_17 : decode cJ8_getBytes 17 = .ok (.aload_n 0, 1) := dk_42 (dk_at dksJ8_getBytes_0 17 rfl rfl)
theorem dJ8_getBytes_18 : decode cJ8_getBytes 18 = .ok (.getfield 9, 3) := dk_180 0 9 (dk_at dksJ8_getBytes_0 18 rfl rfl)
theorem dJ8_getBytes_21 : decode cJ8_getBytes 21 = .ok (.arraylength, 1) := dk_190 (dk_at dksJ8_getBytes_0 21 rfl rfl)
theorem dJ8_getBytes_22 : decode cJ8_getBytes 22 = .ok (.invokestatic 212, 3) := dk_184 0 212 (dk_at dksJ8_getBytes_1 0 rfl rfl)
theorem dJ8_getBytes_25 : decode cJ8_getBytes 25 = .ok (.goto 18, 3) := dk_167 0 18 (dk_at dksJ8_getBytes_1 3 rfl rfl)
theorem dJ8_getBytes_28 : decode cJ8_getBytes 28 = .ok (.aload_n 0, 1) := dk_42 (dk_at dksJ8_getBytes_1 6 rfl rfl)
theorem dJ8_getBytes_29 : decode cJ8_getBytes 29 = .ok (.getfield 9, 3) := dk_180 0 9 (dk_at dksJ8_getBytes_1 7 rfl rfl)
theorem dJ8_getBytes_32 : decode cJ8_getBytes 32 = .ok (.iconst 0, 1) := dk_3 (dk_at dksJ8_getBytes_1 10 rfl rfl)
theorem dJ8_getBytes_33 : decode cJ8_getBytes 33 = .ok (.aload_n 1, 1) := dk_43 (dk_at dksJ8_getBytes_1 11 rfl rfl)
theorem dJ8_getBytes_34 : decode cJ8_getBytes 34 = .ok (.iload_n 2, 1) := dk_28 (dk_at dksJ8_getBytes_1 12 rfl rfl)
theorem dJ8_getBytes_35 : decode cJ8_getBytes 35 = .ok (.aload_n 0, 1) := dk_42 (dk_at dksJ8_getBytes_1 13 rfl rfl)
theorem dJ8_getBytes_36 : decode cJ8_getBytes 36 = .ok (.getfield 9, 3) := dk_180 0 9 (dk_at dksJ8_getBytes_1 14 rfl rfl)
theorem dJ8_getBytes_39 : decode cJ8_getBytes 39 = .ok (.arraylength, 1) := dk_190 (dk_at dksJ8_getBytes_1 17 rfl rfl)
theorem dJ8_getBytes_40 : decode cJ8_getBytes 40 = .ok (.invokestatic 106, 3) := dk_184 0 106 (dk_at dksJ8_getBytes_1 18 rfl rfl)
theorem dJ8_getBytes_43 : decode cJ8_getBytes 43 = .ok (.return_, 1) := dk_177 (dk_at dksJ8_getBytes_1 21 rfl rfl)
abbrev cJ8_equals : ByteArray := prog_21_method_66_code
def yJ8_equals : MethodName := ⟨RJ8, "equals", "(Ljava/lang/Object;)Z"⟩
def dkwJ8_equals_2 : List UInt8 := [184, 2, 29, 153, 0, 7, 4, 167, 0, 4, 3, 172]
abbrev dktJ8_equals_2 : List UInt8 := dkwJ8_equals_2 ++ []
def dkwJ8_equals_1 : List UInt8 := [153, 0, 14, 42, 180, 0, 15, 44, 180, 0, 15, 160, 0, 21, 42, 180, 0, 9, 44, 180, 0, 9]
abbrev dktJ8_equals_1 : List UInt8 := dkwJ8_equals_1 ++ dktJ8_equals_2
def dkwJ8_equals_0 : List UInt8 := [42, 43, 166, 0, 5, 4, 172, 43, 193, 0, 10, 153, 0, 43, 43, 192, 0, 10, 77, 178, 0, 38]
abbrev dktJ8_equals_0 : List UInt8 := dkwJ8_equals_0 ++ dktJ8_equals_1
theorem dksJ8_equals_0 : cJ8_equals.data.toList.drop 0 = dktJ8_equals_0 := by decide +kernel
theorem dksJ8_equals_1 : cJ8_equals.data.toList.drop 22 = dktJ8_equals_1 := dk_seg dksJ8_equals_0 22 rfl rfl
theorem dksJ8_equals_2 : cJ8_equals.data.toList.drop 44 = dktJ8_equals_2 := dk_seg dksJ8_equals_1 22 rfl rfl
theorem dJ8_equals_0 : decode cJ8_equals 0 = .ok (.aload_n 0, 1) := dk_42 (dk_at dksJ8_equals_0 0 rfl rfl)
theorem dJ8_equals_1 : decode cJ8_equals 1 = .ok (.aload_n 1, 1) := dk_43 (dk_at dksJ8_equals_0 1 rfl rfl)
theorem dJ8_equals_2 : decode cJ8_equals 2 = .ok (.if_acmp .ne 5, 3) := dk_166 0 5 (dk_at dksJ8_equals_0 2 rfl rfl)
theorem dJ8_equals_5 : decode cJ8_equals 5 = .ok (.iconst 1, 1) := dk_4 (dk_at dksJ8_equals_0 5 rfl rfl)
theorem dJ8_equals_6 : decode cJ8_equals 6 = .ok (.ireturn, 1) := dk_172 (dk_at dksJ8_equals_0 6 rfl rfl)
theorem dJ8_equals_7 : decode cJ8_equals 7 = .ok (.aload_n 1, 1) := dk_43 (dk_at dksJ8_equals_0 7 rfl rfl)
theorem dJ8_equals_8 : decode cJ8_equals 8 = .ok (.instanceof 10, 3) := dk_193 0 10 (dk_at dksJ8_equals_0 8 rfl rfl)
theorem dJ8_equals_11 : decode cJ8_equals 11 = .ok (.ifCond .eq 43, 3) := dk_153 0 43 (dk_at dksJ8_equals_0 11 rfl rfl)
theorem dJ8_equals_14 : decode cJ8_equals 14 = .ok (.aload_n 1, 1) := dk_43 (dk_at dksJ8_equals_0 14 rfl rfl)
theorem dJ8_equals_15 : decode cJ8_equals 15 = .ok (.checkcast 10, 3) := dk_192 0 10 (dk_at dksJ8_equals_0 15 rfl rfl)
theorem dJ8_equals_18 : decode cJ8_equals 18 = .ok (.astore_n 2, 1) := dk_77 (dk_at dksJ8_equals_0 18 rfl rfl)
theorem dJ8_equals_19 : decode cJ8_equals 19 = .ok (.getstatic 38, 3) := dk_178 0 38 (dk_at dksJ8_equals_0 19 rfl rfl)
theorem dJ8_equals_22 : decode cJ8_equals 22 = .ok (.ifCond .eq 14, 3) := dk_153 0 14 (dk_at dksJ8_equals_1 0 rfl rfl)
theorem dJ8_equals_25 : decode cJ8_equals 25 = .ok (.aload_n 0, 1) := dk_42 (dk_at dksJ8_equals_1 3 rfl rfl)
theorem dJ8_equals_26 : decode cJ8_equals 26 = .ok (.getfield 15, 3) := dk_180 0 15 (dk_at dksJ8_equals_1 4 rfl rfl)
theorem dJ8_equals_29 : decode cJ8_equals 29 = .ok (.aload_n 2, 1) := dk_44 (dk_at dksJ8_equals_1 7 rfl rfl)
theorem dJ8_equals_30 : decode cJ8_equals 30 = .ok (.getfield 15, 3) := dk_180 0 15 (dk_at dksJ8_equals_1 8 rfl rfl)
theorem dJ8_equals_33 : decode cJ8_equals 33 = .ok (.if_icmp .ne 21, 3) := dk_160 0 21 (dk_at dksJ8_equals_1 11 rfl rfl)
theorem dJ8_equals_36 : decode cJ8_equals 36 = .ok (.aload_n 0, 1) := dk_42 (dk_at dksJ8_equals_1 14 rfl rfl)
theorem dJ8_equals_37 : decode cJ8_equals 37 = .ok (.getfield 9, 3) := dk_180 0 9 (dk_at dksJ8_equals_1 15 rfl rfl)
theorem dJ8_equals_40 : decode cJ8_equals 40 = .ok (.aload_n 2, 1) := dk_44 (dk_at dksJ8_equals_1 18 rfl rfl)
theorem dJ8_equals_41 : decode cJ8_equals 41 = .ok (.getfield 9, 3) := dk_180 0 9 (dk_at dksJ8_equals_1 19 rfl rfl)
theorem dJ8_equals_44 : decode cJ8_equals 44 = .ok (.invokestatic 541, 3) := dk_184 2 29 (dk_at dksJ8_equals_2 0 rfl rfl)
theorem dJ8_equals_47 : decode cJ8_equals 47 = .ok (.ifCond .eq 7, 3) := dk_153 0 7 (dk_at dksJ8_equals_2 3 rfl rfl)
theorem dJ8_equals_50 : decode cJ8_equals 50 = .ok (.iconst 1, 1) := dk_4 (dk_at dksJ8_equals_2 6 rfl rfl)
theorem dJ8_equals_51 : decode cJ8_equals 51 = .ok (.goto 4, 3) := dk_167 0 4 (dk_at dksJ8_equals_2 7 rfl rfl)
theorem dJ8_equals_54 : decode cJ8_equals 54 = .ok (.iconst 0, 1) := dk_3 (dk_at dksJ8_equals_2 10 rfl rfl)
theorem dJ8_equals_55 : decode cJ8_equals 55 = .ok (.ireturn, 1) := dk_172 (dk_at dksJ8_equals_2 11 rfl rfl)
theorem q46 : (Jvm.Cond.initialized "java/lang/String") ∈ lw_all := lw_g (lw_at lw_m1 13 rfl) rfl
theorem q324 : (Jvm.Cond.castable "java/lang/String" "java/lang/Comparable") ∈ lw_tbl := lw_at lw_m2 51 rfl
theorem q325 : (Jvm.Cond.selects "java/lang/String" ({ cls := "java/lang/Comparable", name := "compareTo", desc := "(Ljava/lang/Object;)I" } : Jvm.MethodName) ({ cls := "java/lang/String", name := "compareTo", desc := "(Ljava/lang/Object;)I" } : Jvm.MethodName)) ∈ lw_all := lw_g (lw_at lw_m2 52 rfl) rfl
theorem q326 : (Jvm.Cond.unhidden "java/lang/String" "compareTo" "(Ljava/lang/Object;)I") ∈ lw_tbl := lw_at lw_m2 53 rfl
theorem q327 : (Jvm.Cond.instanceMethod ({ cls := "java/lang/String", name := "compareTo", desc := "(Ljava/lang/Object;)I" } : Jvm.MethodName)) ∈ lw_all := lw_g (lw_at lw_m2 54 rfl) rfl
theorem q328 : (Jvm.Cond.publicMethod ({ cls := "java/lang/String", name := "compareTo", desc := "(Ljava/lang/Object;)I" } : Jvm.MethodName)) ∈ lw_tbl := lw_at lw_m2 55 rfl
theorem q329 : (Jvm.Cond.code ({ cls := "java/lang/String", name := "compareTo", desc := "(Ljava/lang/Object;)I" } : Jvm.MethodName) prog_21_method_162_code (2 : Nat) (Option.some Jvm.ClassFile.FieldType.int)) ∈ lw_all := lw_g (lw_at lw_m2 56 rfl) rfl
theorem q330 : (Jvm.Cond.classLink "java/lang/String" (10 : Nat) "java/lang/String") ∈ lw_all := lw_g (lw_at lw_m2 57 rfl) rfl
theorem q331 : (Jvm.Cond.methodLink "java/lang/String" (1084 : Nat) ({ cls := "java/lang/String", name := "compareTo", desc := "(Ljava/lang/String;)I" } : Jvm.MethodName)) ∈ lw_all := lw_g (lw_at lw_m2 58 rfl) rfl
theorem q332 : (Jvm.Cond.instanceMethod ({ cls := "java/lang/String", name := "compareTo", desc := "(Ljava/lang/String;)I" } : Jvm.MethodName)) ∈ lw_all := lw_g (lw_at lw_m2 59 rfl) rfl
theorem q333 : (Jvm.Cond.selects "java/lang/String" ({ cls := "java/lang/String", name := "compareTo", desc := "(Ljava/lang/String;)I" } : Jvm.MethodName) ({ cls := "java/lang/String", name := "compareTo", desc := "(Ljava/lang/String;)I" } : Jvm.MethodName)) ∈ lw_all := lw_g (lw_at lw_m2 60 rfl) rfl
theorem q334 : (Jvm.Cond.code ({ cls := "java/lang/String", name := "compareTo", desc := "(Ljava/lang/String;)I" } : Jvm.MethodName) prog_21_method_71_code (5 : Nat) (Option.some Jvm.ClassFile.FieldType.int)) ∈ lw_all := lw_g (lw_at lw_m2 61 rfl) rfl
theorem q335 : (Jvm.Cond.methodLink "java/lang/String" (335 : Nat) ({ cls := "java/lang/String", name := "coder", desc := "()B" } : Jvm.MethodName)) ∈ lw_all := lw_g (lw_at lw_m2 62 rfl) rfl
theorem q336 : (Jvm.Cond.instanceMethod ({ cls := "java/lang/String", name := "coder", desc := "()B" } : Jvm.MethodName)) ∈ lw_all := lw_g (lw_at lw_m2 63 rfl) rfl
theorem q337 : (Jvm.Cond.selects "java/lang/String" ({ cls := "java/lang/String", name := "coder", desc := "()B" } : Jvm.MethodName) ({ cls := "java/lang/String", name := "coder", desc := "()B" } : Jvm.MethodName)) ∈ lw_all := lw_g (lw_at lw_m2 64 rfl) rfl
theorem q338 : (Jvm.Cond.code ({ cls := "java/lang/String", name := "coder", desc := "()B" } : Jvm.MethodName) prog_21_method_152_code (1 : Nat) (Option.some Jvm.ClassFile.FieldType.byte)) ∈ lw_all := lw_g (lw_at lw_m2 65 rfl) rfl
theorem q339 : (Jvm.Cond.fieldLink "java/lang/String" (38 : Nat) "java/lang/String" "COMPACT_STRINGS" "Z") ∈ lw_all := lw_g (lw_at lw_m2 66 rfl) rfl
theorem q340 : (Jvm.Cond.laysStatic "java/lang/String" "COMPACT_STRINGS" "Z") ∈ lw_tbl := lw_at lw_m2 67 rfl
theorem q341 : (Jvm.Cond.methodLink "java/lang/String" (586 : Nat) ({ cls := "java/lang/StringLatin1", name := "compareTo", desc := "([B[B)I" } : Jvm.MethodName)) ∈ lw_all := lw_g (lw_at lw_m2 68 rfl) rfl
theorem q457 : (Jvm.Cond.methodLink "java/lang/String" (590 : Nat) ({ cls := "java/lang/StringUTF16", name := "compareTo", desc := "([B[B)I" } : Jvm.MethodName)) ∈ lw_all := lw_g (lw_at lw_m2 184 rfl) rfl
theorem q476 : (Jvm.Cond.methodLink "java/lang/String" (591 : Nat) ({ cls := "java/lang/StringLatin1", name := "compareToUTF16", desc := "([B[B)I" } : Jvm.MethodName)) ∈ lw_all := lw_g (lw_at lw_m2 203 rfl) rfl
theorem q487 : (Jvm.Cond.methodLink "java/lang/String" (594 : Nat) ({ cls := "java/lang/StringUTF16", name := "compareToLatin1", desc := "([B[B)I" } : Jvm.MethodName)) ∈ lw_all := lw_g (lw_at lw_m2 214 rfl) rfl
theorem q520 : (Jvm.Cond.static ({ cls := "java/lang/String", name := "checkOffset", desc := "(II)V" } : Jvm.MethodName)) ∈ lw_all := lw_g (lw_at lw_m3 7 rfl) rfl
theorem q521 : (Jvm.Cond.code ({ cls := "java/lang/String", name := "checkOffset", desc := "(II)V" } : Jvm.MethodName) prog_21_method_156_code (2 : Nat) (Option.none : Option Jvm.ClassFile.FieldType)) ∈ lw_all := lw_g (lw_at lw_m3 8 rfl) rfl
theorem q522 : (Jvm.Cond.fieldLink "java/lang/String" (1053 : Nat) "jdk/internal/util/Preconditions" "SIOOBE_FORMATTER" "Ljava/util/function/BiFunction;") ∈ lw_all := lw_g (lw_at lw_m3 9 rfl) rfl
theorem q524 : (Jvm.Cond.methodLink "java/lang/String" (1062 : Nat) ({ cls := "jdk/internal/util/Preconditions", name := "checkFromToIndex", desc := "(IIILjava/util/function/BiFunction;)I" } : Jvm.MethodName)) ∈ lw_all := lw_g (lw_at lw_m3 11 rfl) rfl
theorem q745 : (Jvm.Cond.instantiable "java/lang/String" (4 : Nat)) ∈ lw_all := lw_g (lw_at lw_m3 232 rfl) rfl
theorem q747 : (Jvm.Cond.laysFinal "java/lang/String" "java/lang/String" "value" "[B") ∈ lw_all := lw_g (lw_at lw_m3 234 rfl) rfl
theorem q748 : (Jvm.Cond.soleField "java/lang/String" "value") ∈ lw_all := lw_g (lw_at lw_m3 235 rfl) rfl
theorem q749 : (Jvm.Cond.laysFinal "java/lang/String" "java/lang/String" "coder" "B") ∈ lw_all := lw_g (lw_at lw_m3 236 rfl) rfl
theorem q750 : (Jvm.Cond.soleField "java/lang/String" "coder") ∈ lw_all := lw_g (lw_at lw_m3 237 rfl) rfl
theorem q949 : (Jvm.Cond.fieldLink "java/lang/String" (1048 : Nat) "java/lang/AbstractStringBuilder" "maybeLatin1" "Z") ∈ lw_all := lw_g (lw_at lw_m4 196 rfl) rfl
theorem q1010 : (Jvm.Cond.static ({ cls := "java/lang/String", name := "checkBoundsBeginEnd", desc := "(III)V" } : Jvm.MethodName)) ∈ lw_all := lw_g (lw_at lw_m5 17 rfl) rfl
theorem q1011 : (Jvm.Cond.code ({ cls := "java/lang/String", name := "checkBoundsBeginEnd", desc := "(III)V" } : Jvm.MethodName) prog_21_method_158_code (3 : Nat) (Option.none : Option Jvm.ClassFile.FieldType)) ∈ lw_all := lw_g (lw_at lw_m5 18 rfl) rfl
theorem q1044 : (Jvm.Cond.static ({ cls := "java/lang/String", name := "checkBoundsOffCount", desc := "(III)I" } : Jvm.MethodName)) ∈ lw_all := lw_g (lw_at lw_m5 51 rfl) rfl
theorem q1045 : (Jvm.Cond.code ({ cls := "java/lang/String", name := "checkBoundsOffCount", desc := "(III)I" } : Jvm.MethodName) prog_21_method_157_code (3 : Nat) (Option.some Jvm.ClassFile.FieldType.int)) ∈ lw_all := lw_g (lw_at lw_m5 52 rfl) rfl
theorem q1046 : (Jvm.Cond.methodLink "java/lang/String" (1065 : Nat) ({ cls := "jdk/internal/util/Preconditions", name := "checkFromIndexSize", desc := "(IIILjava/util/function/BiFunction;)I" } : Jvm.MethodName)) ∈ lw_all := lw_g (lw_at lw_m5 53 rfl) rfl
theorem q1056 : (Jvm.Cond.static ({ cls := "java/lang/String", name := "checkIndex", desc := "(II)V" } : Jvm.MethodName)) ∈ lw_all := lw_g (lw_at lw_m5 63 rfl) rfl
theorem q1057 : (Jvm.Cond.code ({ cls := "java/lang/String", name := "checkIndex", desc := "(II)V" } : Jvm.MethodName) prog_21_method_155_code (2 : Nat) (Option.none : Option Jvm.ClassFile.FieldType)) ∈ lw_all := lw_g (lw_at lw_m5 64 rfl) rfl
theorem q1058 : (Jvm.Cond.methodLink "java/lang/String" (1059 : Nat) ({ cls := "jdk/internal/util/Preconditions", name := "checkIndex", desc := "(IILjava/util/function/BiFunction;)I" } : Jvm.MethodName)) ∈ lw_all := lw_g (lw_at lw_m5 65 rfl) rfl
theorem q1094 : (Jvm.Cond.instanceMethod ({ cls := "java/lang/String", name := "<init>", desc := "(Ljava/lang/StringBuilder;)V" } : Jvm.MethodName)) ∈ lw_all := lw_g (lw_at lw_m5 101 rfl) rfl
theorem q1095 : (Jvm.Cond.code ({ cls := "java/lang/String", name := "<init>", desc := "(Ljava/lang/StringBuilder;)V" } : Jvm.MethodName) prog_21_method_53_code (2 : Nat) (Option.none : Option Jvm.ClassFile.FieldType)) ∈ lw_all := lw_g (lw_at lw_m5 102 rfl) rfl
theorem q1096 : (Jvm.Cond.methodLink "java/lang/String" (489 : Nat) ({ cls := "java/lang/String", name := "<init>", desc := "(Ljava/lang/AbstractStringBuilder;Ljava/lang/Void;)V" } : Jvm.MethodName)) ∈ lw_all := lw_g (lw_at lw_m5 103 rfl) rfl
theorem q1097 : (Jvm.Cond.instanceMethod ({ cls := "java/lang/String", name := "<init>", desc := "(Ljava/lang/AbstractStringBuilder;Ljava/lang/Void;)V" } : Jvm.MethodName)) ∈ lw_all := lw_g (lw_at lw_m5 104 rfl) rfl
theorem q1098 : (Jvm.Cond.code ({ cls := "java/lang/String", name := "<init>", desc := "(Ljava/lang/AbstractStringBuilder;Ljava/lang/Void;)V" } : Jvm.MethodName) prog_21_method_150_code (5 : Nat) (Option.none : Option Jvm.ClassFile.FieldType)) ∈ lw_all := lw_g (lw_at lw_m5 105 rfl) rfl
theorem q1099 : (Jvm.Cond.methodLink "java/lang/String" (1 : Nat) ({ cls := "java/lang/Object", name := "<init>", desc := "()V" } : Jvm.MethodName)) ∈ lw_all := lw_g (lw_at lw_m5 106 rfl) rfl
theorem q1100 : (Jvm.Cond.methodLink "java/lang/String" (552 : Nat) ({ cls := "java/lang/AbstractStringBuilder", name := "getValue", desc := "()[B" } : Jvm.MethodName)) ∈ lw_all := lw_g (lw_at lw_m5 107 rfl) rfl
theorem q1105 : (Jvm.Cond.methodLink "java/lang/String" (549 : Nat) ({ cls := "java/lang/AbstractStringBuilder", name := "length", desc := "()I" } : Jvm.MethodName)) ∈ lw_all := lw_g (lw_at lw_m5 112 rfl) rfl
theorem q1113 : (Jvm.Cond.methodLink "java/lang/String" (1047 : Nat) ({ cls := "java/lang/AbstractStringBuilder", name := "isLatin1", desc := "()Z" } : Jvm.MethodName)) ∈ lw_all := lw_g (lw_at lw_m5 120 rfl) rfl
theorem q1114 : (Jvm.Cond.methodLink "java/lang/String" (54 : Nat) ({ cls := "java/util/Arrays", name := "copyOfRange", desc := "([BII)[B" } : Jvm.MethodName)) ∈ lw_all := lw_g (lw_at lw_m5 121 rfl) rfl
theorem q1143 : (Jvm.Cond.instanceMethod ({ cls := "java/lang/String", name := "length", desc := "()I" } : Jvm.MethodName)) ∈ lw_all := lw_g (lw_at lw_m5 150 rfl) rfl
theorem q1144 : (Jvm.Cond.selects "java/lang/String" ({ cls := "java/lang/String", name := "length", desc := "()I" } : Jvm.MethodName) ({ cls := "java/lang/String", name := "length", desc := "()I" } : Jvm.MethodName)) ∈ lw_all := lw_g (lw_at lw_m5 151 rfl) rfl
theorem q1145 : (Jvm.Cond.code ({ cls := "java/lang/String", name := "length", desc := "()I" } : Jvm.MethodName) prog_21_method_54_code (1 : Nat) (Option.some Jvm.ClassFile.FieldType.int)) ∈ lw_all := lw_g (lw_at lw_m5 152 rfl) rfl
theorem q1156 : (Jvm.Cond.instanceMethod ({ cls := "java/lang/String", name := "getBytes", desc := "([BIB)V" } : Jvm.MethodName)) ∈ lw_all := lw_g (lw_at lw_m5 163 rfl) rfl
theorem q1157 : (Jvm.Cond.selects "java/lang/String" ({ cls := "java/lang/String", name := "getBytes", desc := "([BIB)V" } : Jvm.MethodName) ({ cls := "java/lang/String", name := "getBytes", desc := "([BIB)V" } : Jvm.MethodName)) ∈ lw_all := lw_g (lw_at lw_m5 164 rfl) rfl
theorem q1158 : (Jvm.Cond.code ({ cls := "java/lang/String", name := "getBytes", desc := "([BIB)V" } : Jvm.MethodName) prog_21_method_147_code (4 : Nat) (Option.none : Option Jvm.ClassFile.FieldType)) ∈ lw_all := lw_g (lw_at lw_m5 165 rfl) rfl
theorem q1159 : (Jvm.Cond.methodLink "java/lang/String" (212 : Nat) ({ cls := "java/lang/System", name := "arraycopy", desc := "(Ljava/lang/Object;ILjava/lang/Object;II)V" } : Jvm.MethodName)) ∈ lw_all := lw_g (lw_at lw_m5 166 rfl) rfl
theorem q1160 : (Jvm.Cond.methodLink "java/lang/String" (106 : Nat) ({ cls := "java/lang/StringLatin1", name := "inflate", desc := "([BI[BII)V" } : Jvm.MethodName)) ∈ lw_all := lw_g (lw_at lw_m5 167 rfl) rfl
theorem q1166 : (Jvm.Cond.methodLink "java/lang/String" (1051 : Nat) ({ cls := "java/lang/StringUTF16", name := "compress", desc := "([BII)[B" } : Jvm.MethodName)) ∈ lw_all := lw_g (lw_at lw_m5 173 rfl) rfl
theorem q1173 : (Jvm.Cond.methodLink "java/lang/String" (47 : Nat) ({ cls := "java/lang/StringUTF16", name := "coderFromArrayLen", desc := "([BI)B" } : Jvm.MethodName)) ∈ lw_all := lw_g (lw_at lw_m5 180 rfl) rfl
theorem q1176 : (Jvm.Cond.fieldLink "java/lang/String" (9 : Nat) "java/lang/String" "value" "[B") ∈ lw_all := lw_g (lw_at lw_m5 183 rfl) rfl
theorem q1177 : (Jvm.Cond.fieldLink "java/lang/String" (15 : Nat) "java/lang/String" "coder" "B") ∈ lw_all := lw_g (lw_at lw_m5 184 rfl) rfl
theorem q1178 : (Jvm.Cond.lays "java/lang/String" "java/lang/String" "hash" "I") ∈ lw_all := lw_g (lw_at lw_m5 185 rfl) rfl
theorem q1179 : (Jvm.Cond.soleField "java/lang/String" "hash") ∈ lw_all := lw_g (lw_at lw_m5 186 rfl) rfl
theorem q1180 : (Jvm.Cond.lays "java/lang/String" "java/lang/String" "hashIsZero" "Z") ∈ lw_all := lw_g (lw_at lw_m5 187 rfl) rfl
theorem q1181 : (Jvm.Cond.soleField "java/lang/String" "hashIsZero") ∈ lw_all := lw_g (lw_at lw_m5 188 rfl) rfl
theorem q1182 : (Jvm.Cond.superclass "java/lang/String" "java/lang/Object") ∈ lw_all := lw_g (lw_at lw_m5 189 rfl) rfl
theorem q1213 : (Jvm.Cond.selects "java/lang/String" ({ cls := "java/lang/Object", name := "equals", desc := "(Ljava/lang/Object;)Z" } : Jvm.MethodName) ({ cls := "java/lang/String", name := "equals", desc := "(Ljava/lang/Object;)Z" } : Jvm.MethodName)) ∈ lw_all := lw_g (lw_at lw_m5 220 rfl) rfl
theorem q1214 : (Jvm.Cond.instanceMethod ({ cls := "java/lang/String", name := "equals", desc := "(Ljava/lang/Object;)Z" } : Jvm.MethodName)) ∈ lw_all := lw_g (lw_at lw_m5 221 rfl) rfl
theorem q1215 : (Jvm.Cond.code ({ cls := "java/lang/String", name := "equals", desc := "(Ljava/lang/Object;)Z" } : Jvm.MethodName) prog_21_method_66_code (3 : Nat) (Option.some Jvm.ClassFile.FieldType.boolean)) ∈ lw_all := lw_g (lw_at lw_m5 222 rfl) rfl
theorem q1216 : (Jvm.Cond.methodLink "java/lang/String" (541 : Nat) ({ cls := "java/lang/StringLatin1", name := "equals", desc := "([B[B)Z" } : Jvm.MethodName)) ∈ lw_all := lw_g (lw_at lw_m5 223 rfl) rfl
theorem q1969 : (Jvm.Cond.selects "java/lang/String" ({ cls := "java/lang/String", name := "equals", desc := "(Ljava/lang/Object;)Z" } : Jvm.MethodName) ({ cls := "java/lang/String", name := "equals", desc := "(Ljava/lang/Object;)Z" } : Jvm.MethodName)) ∈ lw_all := lw_g (lw_at lw_m9 16 rfl) rfl
theorem in_J8 : ∀ w ∈ wsJ80, w ∈ lw_all := lw_in wsJ80 [747, 749, 1178, 1180] (by decide +kernel) (by decide +kernel)
/-! java/lang/IllegalArgumentException -/
set_option maxRecDepth 100000
def RJ9 : String := "java/lang/IllegalArgumentException"
def TJ9 : u_T := fun k => match k with
  | 0 => ("java/lang/Throwable", "cause", "Ljava/lang/Throwable;", false)
  | 1 => ("java/lang/Throwable", "stackTrace", "[Ljava/lang/StackTraceElement;", false)
  | 2 => ("java/lang/Throwable", "suppressedExceptions", "Ljava/util/List;", false)
  | 3 => ("java/lang/Throwable", "detailMessage", "Ljava/lang/String;", false)
  | 4 => ("java/lang/Throwable", "backtrace", "Ljava/lang/Object;", false)
  | _ => ("java/lang/Throwable", "depth", "I", false)
def tyJ9 : Nat → FieldType := fun k => match k with
  | 0 => .object "java/lang/Throwable"
  | 1 => .array (.object "java/lang/StackTraceElement")
  | 2 => .object "java/util/List"
  | 3 => .object "java/lang/String"
  | 4 => .object "java/lang/Object"
  | _ => .int
abbrev wsJ90 : List Cond := u_ws RJ9 TJ9 6
theorem nmJ9 : ∀ a, a < 6 → ∀ b, b < 6 → a ≠ b → (TJ9 a).2.1 ≠ (TJ9 b).2.1 := by decide +kernel
theorem tyJ9_ok : ∀ k, k < 6 → parseFieldDescriptor (TJ9 k).2.2.1 = some (tyJ9 k) := by decide +kernel
abbrev cJ9_init : ByteArray := prog_13_method_1_code
def yJ9_init : MethodName := ⟨RJ9, "<init>", "()V"⟩
theorem dJ9_init_0 : decode cJ9_init 0 = .ok (.aload_n 0, 1) := by decide +kernel
theorem dJ9_init_1 : decode cJ9_init 1 = .ok (.invokespecial 1, 3) := by decide +kernel
theorem dJ9_init_4 : decode cJ9_init 4 = .ok (.return_, 1) := by decide +kernel
abbrev cJ9_init_2 : ByteArray := prog_13_method_2_code
def yJ9_init_2 : MethodName := ⟨RJ9, "<init>", "(Ljava/lang/String;)V"⟩
def dkwJ9_init_2_0 : List UInt8 := [42, 43, 183, 0, 7, 177]
abbrev dktJ9_init_2_0 : List UInt8 := dkwJ9_init_2_0 ++ []
theorem dksJ9_init_2_0 : cJ9_init_2.data.toList.drop 0 = dktJ9_init_2_0 := by decide +kernel
theorem dJ9_init_2_0 : decode cJ9_init_2 0 = .ok (.aload_n 0, 1) := dk_42 (dk_at dksJ9_init_2_0 0 rfl rfl)
theorem dJ9_init_2_1 : decode cJ9_init_2 1 = .ok (.aload_n 1, 1) := dk_43 (dk_at dksJ9_init_2_0 1 rfl rfl)
theorem dJ9_init_2_2 : decode cJ9_init_2 2 = .ok (.invokespecial 7, 3) := dk_183 0 7 (dk_at dksJ9_init_2_0 2 rfl rfl)
theorem dJ9_init_2_5 : decode cJ9_init_2 5 = .ok (.return_, 1) := dk_177 (dk_at dksJ9_init_2_0 5 rfl rfl)
theorem q47 : (Jvm.Cond.initialized "java/lang/IllegalArgumentException") ∈ lw_all := lw_g (lw_at lw_m1 14 rfl) rfl
theorem q228 : (Jvm.Cond.selects "java/lang/IllegalArgumentException" ({ cls := "java/lang/Throwable", name := "fillInStackTrace", desc := "()Ljava/lang/Throwable;" } : Jvm.MethodName) ({ cls := "java/lang/Throwable", name := "fillInStackTrace", desc := "()Ljava/lang/Throwable;" } : Jvm.MethodName)) ∈ lw_all := lw_g (lw_at lw_m1 195 rfl) rfl
theorem q262 : (Jvm.Cond.instantiable "java/lang/IllegalArgumentException" (6 : Nat)) ∈ lw_all := lw_g (lw_at lw_m1 229 rfl) rfl
theorem q263 : (Jvm.Cond.castable "java/lang/IllegalArgumentException" "java/lang/IllegalArgumentException") ∈ lw_tbl := lw_at lw_m1 230 rfl
theorem q264 : (Jvm.Cond.selects "java/lang/IllegalArgumentException" ({ cls := "java/lang/Throwable", name := "fillInStackTrace", desc := "(I)Ljava/lang/Throwable;" } : Jvm.MethodName) ({ cls := "java/lang/Throwable", name := "fillInStackTrace", desc := "(I)Ljava/lang/Throwable;" } : Jvm.MethodName)) ∈ lw_all := lw_g (lw_at lw_m1 231 rfl) rfl
theorem q265 : (Jvm.Cond.lays "java/lang/IllegalArgumentException" "java/lang/Throwable" "cause" "Ljava/lang/Throwable;") ∈ lw_all := lw_g (lw_at lw_m1 232 rfl) rfl
theorem q266 : (Jvm.Cond.lays "java/lang/IllegalArgumentException" "java/lang/Throwable" "stackTrace" "[Ljava/lang/StackTraceElement;") ∈ lw_all := lw_g (lw_at lw_m1 233 rfl) rfl
theorem q267 : (Jvm.Cond.lays "java/lang/IllegalArgumentException" "java/lang/Throwable" "suppressedExceptions" "Ljava/util/List;") ∈ lw_all := lw_g (lw_at lw_m1 234 rfl) rfl
theorem q268 : (Jvm.Cond.lays "java/lang/IllegalArgumentException" "java/lang/Throwable" "detailMessage" "Ljava/lang/String;") ∈ lw_all := lw_g (lw_at lw_m1 235 rfl) rfl
theorem q269 : (Jvm.Cond.lays "java/lang/IllegalArgumentException" "java/lang/Throwable" "backtrace" "Ljava/lang/Object;") ∈ lw_all := lw_g (lw_at lw_m1 236 rfl) rfl
theorem q271 : (Jvm.Cond.instanceMethod ({ cls := "java/lang/IllegalArgumentException", name := "<init>", desc := "()V" } : Jvm.MethodName)) ∈ lw_all := lw_g (lw_at lw_m1 238 rfl) rfl
theorem q272 : (Jvm.Cond.code ({ cls := "java/lang/IllegalArgumentException", name := "<init>", desc := "()V" } : Jvm.MethodName) prog_13_method_1_code (1 : Nat) (Option.none : Option Jvm.ClassFile.FieldType)) ∈ lw_all := lw_g (lw_at lw_m1 239 rfl) rfl
theorem q273 : (Jvm.Cond.methodLink "java/lang/IllegalArgumentException" (1 : Nat) ({ cls := "java/lang/RuntimeException", name := "<init>", desc := "()V" } : Jvm.MethodName)) ∈ lw_all := lw_g (lw_at lw_m2 0 rfl) rfl
theorem q274 : (Jvm.Cond.lays "java/lang/IllegalArgumentException" "java/lang/Throwable" "depth" "I") ∈ lw_all := lw_g (lw_at lw_m2 1 rfl) rfl
theorem q275 : (Jvm.Cond.superclass "java/lang/IllegalArgumentException" "java/lang/RuntimeException") ∈ lw_all := lw_g (lw_at lw_m2 2 rfl) rfl
theorem q1163 : (Jvm.Cond.instanceMethod ({ cls := "java/lang/IllegalArgumentException", name := "<init>", desc := "(Ljava/lang/String;)V" } : Jvm.MethodName)) ∈ lw_all := lw_g (lw_at lw_m5 170 rfl) rfl
theorem q1164 : (Jvm.Cond.code ({ cls := "java/lang/IllegalArgumentException", name := "<init>", desc := "(Ljava/lang/String;)V" } : Jvm.MethodName) prog_13_method_2_code (2 : Nat) (Option.none : Option Jvm.ClassFile.FieldType)) ∈ lw_all := lw_g (lw_at lw_m5 171 rfl) rfl
theorem q1165 : (Jvm.Cond.methodLink "java/lang/IllegalArgumentException" (7 : Nat) ({ cls := "java/lang/RuntimeException", name := "<init>", desc := "(Ljava/lang/String;)V" } : Jvm.MethodName)) ∈ lw_all := lw_g (lw_at lw_m5 172 rfl) rfl
theorem q1204 : (Jvm.Cond.selects "java/lang/IllegalArgumentException" ({ cls := "java/lang/Object", name := "equals", desc := "(Ljava/lang/Object;)Z" } : Jvm.MethodName) ({ cls := "java/lang/Object", name := "equals", desc := "(Ljava/lang/Object;)Z" } : Jvm.MethodName)) ∈ lw_all := lw_g (lw_at lw_m5 211 rfl) rfl
theorem in_J9 : ∀ w ∈ wsJ90, w ∈ lw_all := lw_in wsJ90 [265, 266, 267, 268, 269, 274] (by decide +kernel) (by decide +kernel)
/-! java/lang/Math -/
set_option maxRecDepth 100000
def RJ10 : String := "java/lang/Math"
abbrev cJ10_min : ByteArray := prog_18_method_69_code
def yJ10_min : MethodName := ⟨RJ10, "min", "(II)I"⟩
def dkwJ10_min_0 : List UInt8 := [26, 27, 163, 0, 7, 26, 167, 0, 4, 27, 172]
abbrev dktJ10_min_0 : List UInt8 := dkwJ10_min_0 ++ []
theorem dksJ10_min_0 : cJ10_min.data.toList.drop 0 = dktJ10_min_0 := by decide +kernel
theorem dJ10_min_0 : decode cJ10_min 0 = .ok (.iload_n 0, 1) := dk_26 (dk_at dksJ10_min_0 0 rfl rfl)
theorem dJ10_min_1 : decode cJ10_min 1 = .ok (.iload_n 1, 1) := dk_27 (dk_at dksJ10_min_0 1 rfl rfl)
theorem dJ10_min_2 : decode cJ10_min 2 = .ok (.if_icmp .gt 7, 3) := dk_163 0 7 (dk_at dksJ10_min_0 2 rfl rfl)
theorem dJ10_min_5 : decode cJ10_min 5 = .ok (.iload_n 0, 1) := dk_26 (dk_at dksJ10_min_0 5 rfl rfl)
theorem dJ10_min_6 : decode cJ10_min 6 = .ok (.goto 4, 3) := dk_167 0 4 (dk_at dksJ10_min_0 6 rfl rfl)
theorem dJ10_min_9 : decode cJ10_min 9 = .ok (.iload_n 1, 1) := dk_27 (dk_at dksJ10_min_0 9 rfl rfl)
theorem dJ10_min_10 : decode cJ10_min 10 = .ok (.ireturn, 1) := dk_172 (dk_at dksJ10_min_0 10 rfl rfl)
abbrev cJ10_max : ByteArray := prog_18_method_68_code
def yJ10_max : MethodName := ⟨RJ10, "max", "(DD)D"⟩
def dkwJ10_max_1 : List UInt8 := [178, 0, 174, 148, 154, 0, 5, 40, 175, 38, 40, 151, 155, 0, 7, 38, 167, 0, 4, 40, 175]
abbrev dktJ10_max_1 : List UInt8 := dkwJ10_max_1 ++ []
def dkwJ10_max_0 : List UInt8 := [38, 38, 151, 153, 0, 5, 38, 175, 38, 14, 151, 154, 0, 22, 40, 14, 151, 154, 0, 16, 38, 184, 0, 79]
abbrev dktJ10_max_0 : List UInt8 := dkwJ10_max_0 ++ dktJ10_max_1
theorem dksJ10_max_0 : cJ10_max.data.toList.drop 0 = dktJ10_max_0 := by decide +kernel
theorem dksJ10_max_1 : cJ10_max.data.toList.drop 24 = dktJ10_max_1 := dk_seg dksJ10_max_0 24 rfl rfl
theorem dJ10_max_0 : decode cJ10_max 0 = .ok (.dload_n 0, 1) := dk_38 (dk_at dksJ10_max_0 0 rfl rfl)
theorem dJ10_max_1 : decode cJ10_max 1 = .ok (.dload_n 0, 1) := dk_38 (dk_at dksJ10_max_0 1 rfl rfl)
theorem dJ10_max_2 : decode cJ10_max 2 = .ok (.dcmp .l, 1) := dk_151 (dk_at dksJ10_max_0 2 rfl rfl)
theorem dJ10_max_3 : decode cJ10_max 3 = .ok (.ifCond .eq 5, 3) := dk_153 0 5 (dk_at dksJ10_max_0 3 rfl rfl)
theorem dJ10_max_6 : decode cJ10_max 6 = .ok (.dload_n 0, 1) := dk_38 (dk_at dksJ10_max_0 6 rfl rfl)
theorem dJ10_max_7 : decode cJ10_max 7 = .ok (.dreturn, 1) := dk_175 (dk_at dksJ10_max_0 7 rfl rfl)
theorem dJ10_max_8 : decode cJ10_max 8 = .ok (.dload_n 0, 1) := dk_38 (dk_at dksJ10_max_0 8 rfl rfl)
theorem dJ10_max_9 : decode cJ10_max 9 = .ok (.dconst 0, 1) := dk_14 (dk_at dksJ10_max_0 9 rfl rfl)
theorem dJ10_max_10 : decode cJ10_max 10 = .ok (.dcmp .l, 1) := dk_151 (dk_at dksJ10_max_0 10 rfl rfl)
theorem dJ10_max_11 : decode cJ10_max 11 = .ok (.ifCond .ne 22, 3) := dk_154 0 22 (dk_at dksJ10_max_0 11 rfl rfl)
theorem dJ10_max_14 : decode cJ10_max 14 = .ok (.dload_n 2, 1) := dk_40 (dk_at dksJ10_max_0 14 rfl rfl)
theorem dJ10_max_15 : decode cJ10_max 15 = .ok (.dconst 0, 1) := dk_14 (dk_at dksJ10_max_0 15 rfl rfl)
theorem dJ10_max_16 : decode cJ10_max 16 = .ok (.dcmp .l, 1) := dk_151 (dk_at dksJ10_max_0 16 rfl rfl)
theorem dJ10_max_17 : decode cJ10_max 17 = .ok (.ifCond .ne 16, 3) := dk_154 0 16 (dk_at dksJ10_max_0 17 rfl rfl)
theorem dJ10_max_20 : decode cJ10_max 20 = .ok (.dload_n 0, 1) := dk_38 (dk_at dksJ10_max_0 20 rfl rfl)
theorem dJ10_max_21 : decode cJ10_max 21 = .ok (.invokestatic 79, 3) := dk_184 0 79 (dk_at dksJ10_max_0 21 rfl rfl)
theorem dJ10_max_24 : decode cJ10_max 24 = .ok (.getstatic 174, 3) := dk_178 0 174 (dk_at dksJ10_max_1 0 rfl rfl)
theorem dJ10_max_27 : decode cJ10_max 27 = .ok (.lcmp, 1) := dk_148 (dk_at dksJ10_max_1 3 rfl rfl)
theorem dJ10_max_28 : decode cJ10_max 28 = .ok (.ifCond .ne 5, 3) := dk_154 0 5 (dk_at dksJ10_max_1 4 rfl rfl)
theorem dJ10_max_31 : decode cJ10_max 31 = .ok (.dload_n 2, 1) := dk_40 (dk_at dksJ10_max_1 7 rfl rfl)
theorem dJ10_max_32 : decode cJ10_max 32 = .ok (.dreturn, 1) := dk_175 (dk_at dksJ10_max_1 8 rfl rfl)
theorem dJ10_max_33 : decode cJ10_max 33 = .ok (.dload_n 0, 1) := dk_38 (dk_at dksJ10_max_1 9 rfl rfl)
theorem dJ10_max_34 : decode cJ10_max 34 = .ok (.dload_n 2, 1) := dk_40 (dk_at dksJ10_max_1 10 rfl rfl)
theorem dJ10_max_35 : decode cJ10_max 35 = .ok (.dcmp .l, 1) := dk_151 (dk_at dksJ10_max_1 11 rfl rfl)
theorem dJ10_max_36 : decode cJ10_max 36 = .ok (.ifCond .lt 7, 3) := dk_155 0 7 (dk_at dksJ10_max_1 12 rfl rfl)
theorem dJ10_max_39 : decode cJ10_max 39 = .ok (.dload_n 0, 1) := dk_38 (dk_at dksJ10_max_1 15 rfl rfl)
theorem dJ10_max_40 : decode cJ10_max 40 = .ok (.goto 4, 3) := dk_167 0 4 (dk_at dksJ10_max_1 16 rfl rfl)
theorem dJ10_max_43 : decode cJ10_max 43 = .ok (.dload_n 2, 1) := dk_40 (dk_at dksJ10_max_1 19 rfl rfl)
theorem dJ10_max_44 : decode cJ10_max 44 = .ok (.dreturn, 1) := dk_175 (dk_at dksJ10_max_1 20 rfl rfl)
abbrev cJ10_min_2 : ByteArray := prog_18_method_72_code
def yJ10_min_2 : MethodName := ⟨RJ10, "min", "(DD)D"⟩
def dkwJ10_min_2_1 : List UInt8 := [178, 0, 174, 148, 154, 0, 5, 40, 175, 38, 40, 152, 157, 0, 7, 38, 167, 0, 4, 40, 175]
abbrev dktJ10_min_2_1 : List UInt8 := dkwJ10_min_2_1 ++ []
def dkwJ10_min_2_0 : List UInt8 := [38, 38, 151, 153, 0, 5, 38, 175, 38, 14, 151, 154, 0, 22, 40, 14, 151, 154, 0, 16, 40, 184, 0, 79]
abbrev dktJ10_min_2_0 : List UInt8 := dkwJ10_min_2_0 ++ dktJ10_min_2_1
theorem dksJ10_min_2_0 : cJ10_min_2.data.toList.drop 0 = dktJ10_min_2_0 := by decide +kernel
theorem dksJ10_min_2_1 : cJ10_min_2.data.toList.drop 24 = dktJ10_min_2_1 := dk_seg dksJ10_min_2_0 24 rfl rfl
theorem dJ10_min_2_0 : decode cJ10_min_2 0 = .ok (.dload_n 0, 1) := dk_38 (dk_at dksJ10_min_2_0 0 rfl rfl)
theorem dJ10_min_2_1 : decode cJ10_min_2 1 = .ok (.dload_n 0, 1) := dk_38 (dk_at dksJ10_min_2_0 1 rfl rfl)
theorem dJ10_min_2_2 : decode cJ10_min_2 2 = .ok (.dcmp .l, 1) := dk_151 (dk_at dksJ10_min_2_0 2 rfl rfl)
theorem dJ10_min_2_3 : decode cJ10_min_2 3 = .ok (.ifCond .eq 5, 3) := dk_153 0 5 (dk_at dksJ10_min_2_0 3 rfl rfl)
theorem dJ10_min_2_6 : decode cJ10_min_2 6 = .ok (.dload_n 0, 1) := dk_38 (dk_at dksJ10_min_2_0 6 rfl rfl)
theorem dJ10_min_2_7 : decode cJ10_min_2 7 = .ok (.dreturn, 1) := dk_175 (dk_at dksJ10_min_2_0 7 rfl rfl)
theorem dJ10_min_2_8 : decode cJ10_min_2 8 = .ok (.dload_n 0, 1) := dk_38 (dk_at dksJ10_min_2_0 8 rfl rfl)
theorem dJ10_min_2_9 : decode cJ10_min_2 9 = .ok (.dconst 0, 1) := dk_14 (dk_at dksJ10_min_2_0 9 rfl rfl)
theorem dJ10_min_2_10 : decode cJ10_min_2 10 = .ok (.dcmp .l, 1) := dk_151 (dk_at dksJ10_min_2_0 10 rfl rfl)
theorem dJ10_min_2_11 : decode cJ10_min_2 11 = .ok (.ifCond .ne 22, 3) := dk_154 0 22 (dk_at dksJ10_min_2_0 11 rfl rfl)
theorem dJ10_min_2_14 : decode cJ10_min_2 14 = .ok (.dload_n 2, 1) := dk_40 (dk_at dksJ10_min_2_0 14 rfl rfl)
theorem dJ10_min_2_15 : decode cJ10_min_2 15 = .ok (.dconst 0, 1) := dk_14 (dk_at dksJ10_min_2_0 15 rfl rfl)
theorem dJ10_min_2_16 : decode cJ10_min_2 16 = .ok (.dcmp .l, 1) := dk_151 (dk_at dksJ10_min_2_0 16 rfl rfl)
theorem dJ10_min_2_17 : decode cJ10_min_2 17 = .ok (.ifCond .ne 16, 3) := dk_154 0 16 (dk_at dksJ10_min_2_0 17 rfl rfl)
theorem dJ10_min_2_20 : decode cJ10_min_2 20 = .ok (.dload_n 2, 1) := dk_40 (dk_at dksJ10_min_2_0 20 rfl rfl)
theorem dJ10_min_2_21 : decode cJ10_min_2 21 = .ok (.invokestatic 79, 3) := dk_184 0 79 (dk_at dksJ10_min_2_0 21 rfl rfl)
theorem dJ10_min_2_24 : decode cJ10_min_2 24 = .ok (.getstatic 174, 3) := dk_178 0 174 (dk_at dksJ10_min_2_1 0 rfl rfl)
theorem dJ10_min_2_27 : decode cJ10_min_2 27 = .ok (.lcmp, 1) := dk_148 (dk_at dksJ10_min_2_1 3 rfl rfl)
theorem dJ10_min_2_28 : decode cJ10_min_2 28 = .ok (.ifCond .ne 5, 3) := dk_154 0 5 (dk_at dksJ10_min_2_1 4 rfl rfl)
theorem dJ10_min_2_31 : decode cJ10_min_2 31 = .ok (.dload_n 2, 1) := dk_40 (dk_at dksJ10_min_2_1 7 rfl rfl)
theorem dJ10_min_2_32 : decode cJ10_min_2 32 = .ok (.dreturn, 1) := dk_175 (dk_at dksJ10_min_2_1 8 rfl rfl)
theorem dJ10_min_2_33 : decode cJ10_min_2 33 = .ok (.dload_n 0, 1) := dk_38 (dk_at dksJ10_min_2_1 9 rfl rfl)
theorem dJ10_min_2_34 : decode cJ10_min_2 34 = .ok (.dload_n 2, 1) := dk_40 (dk_at dksJ10_min_2_1 10 rfl rfl)
theorem dJ10_min_2_35 : decode cJ10_min_2 35 = .ok (.dcmp .g, 1) := dk_152 (dk_at dksJ10_min_2_1 11 rfl rfl)
theorem dJ10_min_2_36 : decode cJ10_min_2 36 = .ok (.ifCond .gt 7, 3) := dk_157 0 7 (dk_at dksJ10_min_2_1 12 rfl rfl)
theorem dJ10_min_2_39 : decode cJ10_min_2 39 = .ok (.dload_n 0, 1) := dk_38 (dk_at dksJ10_min_2_1 15 rfl rfl)
theorem dJ10_min_2_40 : decode cJ10_min_2 40 = .ok (.goto 4, 3) := dk_167 0 4 (dk_at dksJ10_min_2_1 16 rfl rfl)
theorem dJ10_min_2_43 : decode cJ10_min_2 43 = .ok (.dload_n 2, 1) := dk_40 (dk_at dksJ10_min_2_1 19 rfl rfl)
theorem dJ10_min_2_44 : decode cJ10_min_2 44 = .ok (.dreturn, 1) := dk_175 (dk_at dksJ10_min_2_1 20 rfl rfl)
abbrev cJ10_max_2 : ByteArray := prog_18_method_67_code
def yJ10_max_2 : MethodName := ⟨RJ10, "max", "(FF)F"⟩
def dkwJ10_max_2_1 : List UInt8 := [133, 178, 0, 170, 148, 154, 0, 5, 35, 174, 34, 35, 149, 155, 0, 7, 34, 167, 0, 4, 35, 174]
abbrev dktJ10_max_2_1 : List UInt8 := dkwJ10_max_2_1 ++ []
def dkwJ10_max_2_0 : List UInt8 := [34, 34, 149, 153, 0, 5, 34, 174, 34, 11, 149, 154, 0, 23, 35, 11, 149, 154, 0, 17, 34, 184, 0, 68]
abbrev dktJ10_max_2_0 : List UInt8 := dkwJ10_max_2_0 ++ dktJ10_max_2_1
theorem dksJ10_max_2_0 : cJ10_max_2.data.toList.drop 0 = dktJ10_max_2_0 := by decide +kernel
theorem dksJ10_max_2_1 : cJ10_max_2.data.toList.drop 24 = dktJ10_max_2_1 := dk_seg dksJ10_max_2_0 24 rfl rfl
theorem dJ10_max_2_0 : decode cJ10_max_2 0 = .ok (.fload_n 0, 1) := dk_34 (dk_at dksJ10_max_2_0 0 rfl rfl)
theorem dJ10_max_2_1 : decode cJ10_max_2 1 = .ok (.fload_n 0, 1) := dk_34 (dk_at dksJ10_max_2_0 1 rfl rfl)
theorem dJ10_max_2_2 : decode cJ10_max_2 2 = .ok (.fcmp .l, 1) := dk_149 (dk_at dksJ10_max_2_0 2 rfl rfl)
theorem dJ10_max_2_3 : decode cJ10_max_2 3 = .ok (.ifCond .eq 5, 3) := dk_153 0 5 (dk_at dksJ10_max_2_0 3 rfl rfl)
theorem dJ10_max_2_6 : decode cJ10_max_2 6 = .ok (.fload_n 0, 1) := dk_34 (dk_at dksJ10_max_2_0 6 rfl rfl)
theorem dJ10_max_2_7 : decode cJ10_max_2 7 = .ok (.freturn, 1) := dk_174 (dk_at dksJ10_max_2_0 7 rfl rfl)
theorem dJ10_max_2_8 : decode cJ10_max_2 8 = .ok (.fload_n 0, 1) := dk_34 (dk_at dksJ10_max_2_0 8 rfl rfl)
theorem dJ10_max_2_9 : decode cJ10_max_2 9 = .ok (.fconst 0, 1) := dk_11 (dk_at dksJ10_max_2_0 9 rfl rfl)
theorem dJ10_max_2_10 : decode cJ10_max_2 10 = .ok (.fcmp .l, 1) := dk_149 (dk_at dksJ10_max_2_0 10 rfl rfl)
theorem dJ10_max_2_11 : decode cJ10_max_2 11 = .ok (.ifCond .ne 23, 3) := dk_154 0 23 (dk_at dksJ10_max_2_0 11 rfl rfl)
theorem dJ10_max_2_14 : decode cJ10_max_2 14 = .ok (.fload_n 1, 1) := dk_35 (dk_at dksJ10_max_2_0 14 rfl rfl)
theorem dJ10_max_2_15 : decode cJ10_max_2 15 = .ok (.fconst 0, 1) := dk_11 (dk_at dksJ10_max_2_0 15 rfl rfl)
theorem dJ10_max_2_16 : decode cJ10_max_2 16 = .ok (.fcmp .l, 1) := dk_149 (dk_at dksJ10_max_2_0 16 rfl rfl)
theorem dJ10_max_2_17 : decode cJ10_max_2 17 = .ok (.ifCond .ne 17, 3) := dk_154 0 17 (dk_at dksJ10_max_2_0 17 rfl rfl)
theorem dJ10_max_2_20 : decode cJ10_max_2 20 = .ok (.fload_n 0, 1) := dk_34 (dk_at dksJ10_max_2_0 20 rfl rfl)
theorem dJ10_max_2_21 : decode cJ10_max_2 21 = .ok (.invokestatic 68, 3) := dk_184 0 68 (dk_at dksJ10_max_2_0 21 rfl rfl)
theorem dJ10_max_2_24 : decode cJ10_max_2 24 = .ok (.i2l, 1) := dk_133 (dk_at dksJ10_max_2_1 0 rfl rfl)
theorem dJ10_max_2_25 : decode cJ10_max_2 25 = .ok (.getstatic 170, 3) := dk_178 0 170 (dk_at dksJ10_max_2_1 1 rfl rfl)
theorem dJ10_max_2_28 : decode cJ10_max_2 28 = .ok (.lcmp, 1) := dk_148 (dk_at dksJ10_max_2_1 4 rfl rfl)
theorem dJ10_max_2_29 : decode cJ10_max_2 29 = .ok (.ifCond .ne 5, 3) := dk_154 0 5 (dk_at dksJ10_max_2_1 5 rfl rfl)
theorem dJ10_max_2_32 : decode cJ10_max_2 32 = .ok (.fload_n 1, 1) := dk_35 (dk_at dksJ10_max_2_1 8 rfl rfl)
theorem dJ10_max_2_33 : decode cJ10_max_2 33 = .ok (.freturn, 1) := dk_174 (dk_at dksJ10_max_2_1 9 rfl rfl)
theorem dJ10_max_2_34 : decode cJ10_max_2 34 = .ok (.fload_n 0, 1) := dk_34 (dk_at dksJ10_max_2_1 10 rfl rfl)
theorem dJ10_max_2_35 : decode cJ10_max_2 35 = .ok (.fload_n 1, 1) := dk_35 (dk_at dksJ10_max_2_1 11 rfl rfl)
theorem dJ10_max_2_36 : decode cJ10_max_2 36 = .ok (.fcmp .l, 1) := dk_149 (dk_at dksJ10_max_2_1 12 rfl rfl)
theorem dJ10_max_2_37 : decode cJ10_max_2 37 = .ok (.ifCond .lt 7, 3) := dk_155 0 7 (dk_at dksJ10_max_2_1 13 rfl rfl)
theorem dJ10_max_2_40 : decode cJ10_max_2 40 = .ok (.fload_n 0, 1) := dk_34 (dk_at dksJ10_max_2_1 16 rfl rfl)
theorem dJ10_max_2_41 : decode cJ10_max_2 41 = .ok (.goto 4, 3) := dk_167 0 4 (dk_at dksJ10_max_2_1 17 rfl rfl)
theorem dJ10_max_2_44 : decode cJ10_max_2 44 = .ok (.fload_n 1, 1) := dk_35 (dk_at dksJ10_max_2_1 20 rfl rfl)
theorem dJ10_max_2_45 : decode cJ10_max_2 45 = .ok (.freturn, 1) := dk_174 (dk_at dksJ10_max_2_1 21 rfl rfl)
abbrev cJ10_min_3 : ByteArray := prog_18_method_71_code
def yJ10_min_3 : MethodName := ⟨RJ10, "min", "(FF)F"⟩
def dkwJ10_min_3_1 : List UInt8 := [133, 178, 0, 170, 148, 154, 0, 5, 35, 174, 34, 35, 150, 157, 0, 7, 34, 167, 0, 4, 35, 174]
abbrev dktJ10_min_3_1 : List UInt8 := dkwJ10_min_3_1 ++ []
def dkwJ10_min_3_0 : List UInt8 := [34, 34, 149, 153, 0, 5, 34, 174, 34, 11, 149, 154, 0, 23, 35, 11, 149, 154, 0, 17, 35, 184, 0, 68]
abbrev dktJ10_min_3_0 : List UInt8 := dkwJ10_min_3_0 ++ dktJ10_min_3_1
theorem dksJ10_min_3_0 : cJ10_min_3.data.toList.drop 0 = dktJ10_min_3_0 := by decide +kernel
theorem dksJ10_min_3_1 : cJ10_min_3.data.toList.drop 24 = dktJ10_min_3_1 := dk_seg dksJ10_min_3_0 24 rfl rfl
theorem dJ10_min_3_0 : decode cJ10_min_3 0 = .ok (.fload_n 0, 1) := dk_34 (dk_at dksJ10_min_3_0 0 rfl rfl)
theorem dJ10_min_3_1 : decode cJ10_min_3 1 = .ok (.fload_n 0, 1) := dk_34 (dk_at dksJ10_min_3_0 1 rfl rfl)
theorem dJ10_min_3_2 : decode cJ10_min_3 2 = .ok (.fcmp .l, 1) := dk_149 (dk_at dksJ10_min_3_0 2 rfl rfl)
theorem dJ10_min_3_3 : decode cJ10_min_3 3 = .ok (.ifCond .eq 5, 3) := dk_153 0 5 (dk_at dksJ10_min_3_0 3 rfl rfl)
theorem dJ10_min_3_6 : decode cJ10_min_3 6 = .ok (.fload_n 0, 1) := dk_34 (dk_at dksJ10_min_3_0 6 rfl rfl)
theorem dJ10_min_3_7 : decode cJ10_min_3 7 = .ok (.freturn, 1) := dk_174 (dk_at dksJ10_min_3_0 7 rfl rfl)
theorem dJ10_min_3_8 : decode cJ10_min_3 8 = .ok (.fload_n 0, 1) := dk_34 (dk_at dksJ10_min_3_0 8 rfl rfl)
theorem dJ10_min_3_9 : decode cJ10_min_3 9 = .ok (.fconst 0, 1) := dk_11 (dk_at dksJ10_min_3_0 9 rfl rfl)
theorem dJ10_min_3_10 : decode cJ10_min_3 10 = .ok (.fcmp .l, 1) := dk_149 (dk_at dksJ10_min_3_0 10 rfl rfl)
theorem dJ10_min_3_11 : decode cJ10_min_3 11 = .ok (.ifCond .ne 23, 3) := dk_154 0 23 (dk_at dksJ10_min_3_0 11 rfl rfl)
theorem dJ10_min_3_14 : decode cJ10_min_3 14 = .ok (.fload_n 1, 1) := dk_35 (dk_at dksJ10_min_3_0 14 rfl rfl)
theorem dJ10_min_3_15 : decode cJ10_min_3 15 = .ok (.fconst 0, 1) := dk_11 (dk_at dksJ10_min_3_0 15 rfl rfl)
theorem dJ10_min_3_16 : decode cJ10_min_3 16 = .ok (.fcmp .l, 1) := dk_149 (dk_at dksJ10_min_3_0 16 rfl rfl)
theorem dJ10_min_3_17 : decode cJ10_min_3 17 = .ok (.ifCond .ne 17, 3) := dk_154 0 17 (dk_at dksJ10_min_3_0 17 rfl rfl)
theorem dJ10_min_3_20 : decode cJ10_min_3 20 = .ok (.fload_n 1, 1) := dk_35 (dk_at dksJ10_min_3_0 20 rfl rfl)
theorem dJ10_min_3_21 : decode cJ10_min_3 21 = .ok (.invokestatic 68, 3) := dk_184 0 68 (dk_at dksJ10_min_3_0 21 rfl rfl)
theorem dJ10_min_3_24 : decode cJ10_min_3 24 = .ok (.i2l, 1) := dk_133 (dk_at dksJ10_min_3_1 0 rfl rfl)
theorem dJ10_min_3_25 : decode cJ10_min_3 25 = .ok (.getstatic 170, 3) := dk_178 0 170 (dk_at dksJ10_min_3_1 1 rfl rfl)
theorem dJ10_min_3_28 : decode cJ10_min_3 28 = .ok (.lcmp, 1) := dk_148 (dk_at dksJ10_min_3_1 4 rfl rfl)
theorem dJ10_min_3_29 : decode cJ10_min_3 29 = .ok (.ifCond .ne 5, 3) := dk_154 0 5 (dk_at dksJ10_min_3_1 5 rfl rfl)
theorem dJ10_min_3_32 : decode cJ10_min_3 32 = .ok (.fload_n 1, 1) := dk_35 (dk_at dksJ10_min_3_1 8 rfl rfl)
theorem dJ10_min_3_33 : decode cJ10_min_3 33 = .ok (.freturn, 1) := dk_174 (dk_at dksJ10_min_3_1 9 rfl rfl)
theorem dJ10_min_3_34 : decode cJ10_min_3 34 = .ok (.fload_n 0, 1) := dk_34 (dk_at dksJ10_min_3_1 10 rfl rfl)
theorem dJ10_min_3_35 : decode cJ10_min_3 35 = .ok (.fload_n 1, 1) := dk_35 (dk_at dksJ10_min_3_1 11 rfl rfl)
theorem dJ10_min_3_36 : decode cJ10_min_3 36 = .ok (.fcmp .g, 1) := dk_150 (dk_at dksJ10_min_3_1 12 rfl rfl)
theorem dJ10_min_3_37 : decode cJ10_min_3 37 = .ok (.ifCond .gt 7, 3) := dk_157 0 7 (dk_at dksJ10_min_3_1 13 rfl rfl)
theorem dJ10_min_3_40 : decode cJ10_min_3 40 = .ok (.fload_n 0, 1) := dk_34 (dk_at dksJ10_min_3_1 16 rfl rfl)
theorem dJ10_min_3_41 : decode cJ10_min_3 41 = .ok (.goto 4, 3) := dk_167 0 4 (dk_at dksJ10_min_3_1 17 rfl rfl)
theorem dJ10_min_3_44 : decode cJ10_min_3 44 = .ok (.fload_n 1, 1) := dk_35 (dk_at dksJ10_min_3_1 20 rfl rfl)
theorem dJ10_min_3_45 : decode cJ10_min_3 45 = .ok (.freturn, 1) := dk_174 (dk_at dksJ10_min_3_1 21 rfl rfl)
abbrev cJ10_abs : ByteArray := prog_18_method_64_code
def yJ10_abs : MethodName := ⟨RJ10, "abs", "(D)D"⟩
def dkwJ10_abs_0 : List UInt8 := [38, 184, 0, 79, 20, 0, 135, 127, 184, 0, 166, 175]
abbrev dktJ10_abs_0 : List UInt8 := dkwJ10_abs_0 ++ []
theorem dksJ10_abs_0 : cJ10_abs.data.toList.drop 0 = dktJ10_abs_0 := by decide +kernel
theorem dJ10_abs_0 : decode cJ10_abs 0 = .ok (.dload_n 0, 1) := dk_38 (dk_at dksJ10_abs_0 0 rfl rfl)
theorem dJ10_abs_1 : decode cJ10_abs 1 = .ok (.invokestatic 79, 3) := dk_184 0 79 (dk_at dksJ10_abs_0 1 rfl rfl)
theorem dJ10_abs_4 : decode cJ10_abs 4 = .ok (.ldc2_w 135, 3) := dk_20 0 135 (dk_at dksJ10_abs_0 4 rfl rfl)
theorem dJ10_abs_7 : decode cJ10_abs 7 = .ok (.land, 1) := dk_127 (dk_at dksJ10_abs_0 7 rfl rfl)
theorem dJ10_abs_8 : decode cJ10_abs 8 = .ok (.invokestatic 166, 3) := dk_184 0 166 (dk_at dksJ10_abs_0 8 rfl rfl)
theorem dJ10_abs_11 : decode cJ10_abs 11 = .ok (.dreturn, 1) := dk_175 (dk_at dksJ10_abs_0 11 rfl rfl)
abbrev cJ10_abs_2 : ByteArray := prog_18_method_61_code
def yJ10_abs_2 : MethodName := ⟨RJ10, "abs", "(J)J"⟩
def dkwJ10_abs_2_0 : List UInt8 := [30, 9, 148, 156, 0, 8, 30, 117, 167, 0, 4, 30, 173]
abbrev dktJ10_abs_2_0 : List UInt8 := dkwJ10_abs_2_0 ++ []
theorem dksJ10_abs_2_0 : cJ10_abs_2.data.toList.drop 0 = dktJ10_abs_2_0 := by decide +kernel
theorem dJ10_abs_2_0 : decode cJ10_abs_2 0 = .ok (.lload_n 0, 1) := dk_30 (dk_at dksJ10_abs_2_0 0 rfl rfl)
theorem dJ10_abs_2_1 : decode cJ10_abs_2 1 = .ok (.lconst 0, 1) := dk_9 (dk_at dksJ10_abs_2_0 1 rfl rfl)
theorem dJ10_abs_2_2 : decode cJ10_abs_2 2 = .ok (.lcmp, 1) := dk_148 (dk_at dksJ10_abs_2_0 2 rfl rfl)
theorem dJ10_abs_2_3 : decode cJ10_abs_2 3 = .ok (.ifCond .ge 8, 3) := dk_156 0 8 (dk_at dksJ10_abs_2_0 3 rfl rfl)
theorem dJ10_abs_2_6 : decode cJ10_abs_2 6 = .ok (.lload_n 0, 1) := dk_30 (dk_at dksJ10_abs_2_0 6 rfl rfl)
theorem dJ10_abs_2_7 : decode cJ10_abs_2 7 = .ok (.lneg, 1) := dk_117 (dk_at dksJ10_abs_2_0 7 rfl rfl)
theorem dJ10_abs_2_8 : decode cJ10_abs_2 8 = .ok (.goto 4, 3) := dk_167 0 4 (dk_at dksJ10_abs_2_0 8 rfl rfl)
theorem dJ10_abs_2_11 : decode cJ10_abs_2 11 = .ok (.lload_n 0, 1) := dk_30 (dk_at dksJ10_abs_2_0 11 rfl rfl)
theorem dJ10_abs_2_12 : decode cJ10_abs_2 12 = .ok (.lreturn, 1) := dk_173 (dk_at dksJ10_abs_2_0 12 rfl rfl)
abbrev cJ10_max_3 : ByteArray := prog_18_method_65_code
def yJ10_max_3 : MethodName := ⟨RJ10, "max", "(II)I"⟩
def dkwJ10_max_3_0 : List UInt8 := [26, 27, 161, 0, 7, 26, 167, 0, 4, 27, 172]
abbrev dktJ10_max_3_0 : List UInt8 := dkwJ10_max_3_0 ++ []
theorem dksJ10_max_3_0 : cJ10_max_3.data.toList.drop 0 = dktJ10_max_3_0 := by decide +kernel
theorem dJ10_max_3_0 : decode cJ10_max_3 0 = .ok (.iload_n 0, 1) := dk_26 (dk_at dksJ10_max_3_0 0 rfl rfl)
theorem dJ10_max_3_1 : decode cJ10_max_3 1 = .ok (.iload_n 1, 1) := dk_27 (dk_at dksJ10_max_3_0 1 rfl rfl)
theorem dJ10_max_3_2 : decode cJ10_max_3 2 = .ok (.if_icmp .lt 7, 3) := dk_161 0 7 (dk_at dksJ10_max_3_0 2 rfl rfl)
theorem dJ10_max_3_5 : decode cJ10_max_3 5 = .ok (.iload_n 0, 1) := dk_26 (dk_at dksJ10_max_3_0 5 rfl rfl)
theorem dJ10_max_3_6 : decode cJ10_max_3 6 = .ok (.goto 4, 3) := dk_167 0 4 (dk_at dksJ10_max_3_0 6 rfl rfl)
theorem dJ10_max_3_9 : decode cJ10_max_3 9 = .ok (.iload_n 1, 1) := dk_27 (dk_at dksJ10_max_3_0 9 rfl rfl)
theorem dJ10_max_3_10 : decode cJ10_max_3 10 = .ok (.ireturn, 1) := dk_172 (dk_at dksJ10_max_3_0 10 rfl rfl)
abbrev cJ10_abs_3 : ByteArray := prog_18_method_63_code
def yJ10_abs_3 : MethodName := ⟨RJ10, "abs", "(F)F"⟩
def dkwJ10_abs_3_0 : List UInt8 := [34, 184, 0, 68, 18, 134, 126, 184, 0, 162, 174]
abbrev dktJ10_abs_3_0 : List UInt8 := dkwJ10_abs_3_0 ++ []
theorem dksJ10_abs_3_0 : cJ10_abs_3.data.toList.drop 0 = dktJ10_abs_3_0 := by decide +kernel
theorem dJ10_abs_3_0 : decode cJ10_abs_3 0 = .ok (.fload_n 0, 1) := dk_34 (dk_at dksJ10_abs_3_0 0 rfl rfl)
theorem dJ10_abs_3_1 : decode cJ10_abs_3 1 = .ok (.invokestatic 68, 3) := dk_184 0 68 (dk_at dksJ10_abs_3_0 1 rfl rfl)
theorem dJ10_abs_3_4 : decode cJ10_abs_3 4 = .ok (.ldc 134, 2) := dk_18 134 (dk_at dksJ10_abs_3_0 4 rfl rfl)
theorem dJ10_abs_3_6 : decode cJ10_abs_3 6 = .ok (.iand, 1) := dk_126 (dk_at dksJ10_abs_3_0 6 rfl rfl)
theorem dJ10_abs_3_7 : decode cJ10_abs_3 7 = .ok (.invokestatic 162, 3) := dk_184 0 162 (dk_at dksJ10_abs_3_0 7 rfl rfl)
theorem dJ10_abs_3_10 : decode cJ10_abs_3 10 = .ok (.freturn, 1) := dk_174 (dk_at dksJ10_abs_3_0 10 rfl rfl)
abbrev cJ10_abs_4 : ByteArray := prog_18_method_59_code
def yJ10_abs_4 : MethodName := ⟨RJ10, "abs", "(I)I"⟩
def dkwJ10_abs_4_0 : List UInt8 := [26, 156, 0, 8, 26, 116, 167, 0, 4, 26, 172]
abbrev dktJ10_abs_4_0 : List UInt8 := dkwJ10_abs_4_0 ++ []
theorem dksJ10_abs_4_0 : cJ10_abs_4.data.toList.drop 0 = dktJ10_abs_4_0 := by decide +kernel
theorem dJ10_abs_4_0 : decode cJ10_abs_4 0 = .ok (.iload_n 0, 1) := dk_26 (dk_at dksJ10_abs_4_0 0 rfl rfl)
theorem dJ10_abs_4_1 : decode cJ10_abs_4 1 = .ok (.ifCond .ge 8, 3) := dk_156 0 8 (dk_at dksJ10_abs_4_0 1 rfl rfl)
theorem dJ10_abs_4_4 : decode cJ10_abs_4 4 = .ok (.iload_n 0, 1) := dk_26 (dk_at dksJ10_abs_4_0 4 rfl rfl)
theorem dJ10_abs_4_5 : decode cJ10_abs_4 5 = .ok (.ineg, 1) := dk_116 (dk_at dksJ10_abs_4_0 5 rfl rfl)
theorem dJ10_abs_4_6 : decode cJ10_abs_4 6 = .ok (.goto 4, 3) := dk_167 0 4 (dk_at dksJ10_abs_4_0 6 rfl rfl)
theorem dJ10_abs_4_9 : decode cJ10_abs_4 9 = .ok (.iload_n 0, 1) := dk_26 (dk_at dksJ10_abs_4_0 9 rfl rfl)
theorem dJ10_abs_4_10 : decode cJ10_abs_4 10 = .ok (.ireturn, 1) := dk_172 (dk_at dksJ10_abs_4_0 10 rfl rfl)
theorem q48 : (Jvm.Cond.initialized "java/lang/Math") ∈ lw_all := lw_g (lw_at lw_m1 15 rfl) rfl
theorem q348 : (Jvm.Cond.static ({ cls := "java/lang/Math", name := "min", desc := "(II)I" } : Jvm.MethodName)) ∈ lw_all := lw_g (lw_at lw_m2 75 rfl) rfl
theorem q349 : (Jvm.Cond.code ({ cls := "java/lang/Math", name := "min", desc := "(II)I" } : Jvm.MethodName) prog_18_method_69_code (2 : Nat) (Option.some Jvm.ClassFile.FieldType.int)) ∈ lw_all := lw_g (lw_at lw_m2 76 rfl) rfl
theorem q569 : (Jvm.Cond.static ({ cls := "java/lang/Math", name := "max", desc := "(DD)D" } : Jvm.MethodName)) ∈ lw_all := lw_g (lw_at lw_m3 56 rfl) rfl
theorem q570 : (Jvm.Cond.code ({ cls := "java/lang/Math", name := "max", desc := "(DD)D" } : Jvm.MethodName) prog_18_method_68_code (4 : Nat) (Option.some Jvm.ClassFile.FieldType.double)) ∈ lw_all := lw_g (lw_at lw_m3 57 rfl) rfl
theorem q571 : (Jvm.Cond.methodLink "java/lang/Math" (79 : Nat) ({ cls := "java/lang/Double", name := "doubleToRawLongBits", desc := "(D)J" } : Jvm.MethodName)) ∈ lw_all := lw_g (lw_at lw_m3 58 rfl) rfl
theorem q572 : (Jvm.Cond.fieldLink "java/lang/Math" (174 : Nat) "java/lang/Math" "negativeZeroDoubleBits" "J") ∈ lw_all := lw_g (lw_at lw_m3 59 rfl) rfl
theorem q573 : (Jvm.Cond.laysStatic "java/lang/Math" "negativeZeroDoubleBits" "J") ∈ lw_tbl := lw_at lw_m3 60 rfl
theorem q578 : (Jvm.Cond.static ({ cls := "java/lang/Math", name := "min", desc := "(DD)D" } : Jvm.MethodName)) ∈ lw_all := lw_g (lw_at lw_m3 65 rfl) rfl
theorem q579 : (Jvm.Cond.code ({ cls := "java/lang/Math", name := "min", desc := "(DD)D" } : Jvm.MethodName) prog_18_method_72_code (4 : Nat) (Option.some Jvm.ClassFile.FieldType.double)) ∈ lw_all := lw_g (lw_at lw_m3 66 rfl) rfl
theorem q623 : (Jvm.Cond.static ({ cls := "java/lang/Math", name := "max", desc := "(FF)F" } : Jvm.MethodName)) ∈ lw_all := lw_g (lw_at lw_m3 110 rfl) rfl
theorem q624 : (Jvm.Cond.code ({ cls := "java/lang/Math", name := "max", desc := "(FF)F" } : Jvm.MethodName) prog_18_method_67_code (2 : Nat) (Option.some Jvm.ClassFile.FieldType.float)) ∈ lw_all := lw_g (lw_at lw_m3 111 rfl) rfl
theorem q625 : (Jvm.Cond.methodLink "java/lang/Math" (68 : Nat) ({ cls := "java/lang/Float", name := "floatToRawIntBits", desc := "(F)I" } : Jvm.MethodName)) ∈ lw_all := lw_g (lw_at lw_m3 112 rfl) rfl
theorem q626 : (Jvm.Cond.fieldLink "java/lang/Math" (170 : Nat) "java/lang/Math" "negativeZeroFloatBits" "J") ∈ lw_all := lw_g (lw_at lw_m3 113 rfl) rfl
theorem q627 : (Jvm.Cond.laysStatic "java/lang/Math" "negativeZeroFloatBits" "J") ∈ lw_tbl := lw_at lw_m3 114 rfl
theorem q632 : (Jvm.Cond.static ({ cls := "java/lang/Math", name := "min", desc := "(FF)F" } : Jvm.MethodName)) ∈ lw_all := lw_g (lw_at lw_m3 119 rfl) rfl
theorem q633 : (Jvm.Cond.code ({ cls := "java/lang/Math", name := "min", desc := "(FF)F" } : Jvm.MethodName) prog_18_method_71_code (2 : Nat) (Option.some Jvm.ClassFile.FieldType.float)) ∈ lw_all := lw_g (lw_at lw_m3 120 rfl) rfl
theorem q840 : (Jvm.Cond.static ({ cls := "java/lang/Math", name := "abs", desc := "(D)D" } : Jvm.MethodName)) ∈ lw_all := lw_g (lw_at lw_m4 87 rfl) rfl
theorem q841 : (Jvm.Cond.code ({ cls := "java/lang/Math", name := "abs", desc := "(D)D" } : Jvm.MethodName) prog_18_method_64_code (2 : Nat) (Option.some Jvm.ClassFile.FieldType.double)) ∈ lw_all := lw_g (lw_at lw_m4 88 rfl) rfl
theorem q842 : (Jvm.Cond.constantLong "java/lang/Math" (135 : Nat) (9223372036854775807 : Int64)) ∈ lw_all := lw_g (lw_at lw_m4 89 rfl) rfl
theorem q843 : (Jvm.Cond.methodLink "java/lang/Math" (166 : Nat) ({ cls := "java/lang/Double", name := "longBitsToDouble", desc := "(J)D" } : Jvm.MethodName)) ∈ lw_all := lw_g (lw_at lw_m4 90 rfl) rfl
theorem q846 : (Jvm.Cond.static ({ cls := "java/lang/Math", name := "abs", desc := "(J)J" } : Jvm.MethodName)) ∈ lw_all := lw_g (lw_at lw_m4 93 rfl) rfl
theorem q847 : (Jvm.Cond.code ({ cls := "java/lang/Math", name := "abs", desc := "(J)J" } : Jvm.MethodName) prog_18_method_61_code (2 : Nat) (Option.some Jvm.ClassFile.FieldType.long)) ∈ lw_all := lw_g (lw_at lw_m4 94 rfl) rfl
theorem q981 : (Jvm.Cond.static ({ cls := "java/lang/Math", name := "max", desc := "(II)I" } : Jvm.MethodName)) ∈ lw_all := lw_g (lw_at lw_m4 228 rfl) rfl
theorem q982 : (Jvm.Cond.code ({ cls := "java/lang/Math", name := "max", desc := "(II)I" } : Jvm.MethodName) prog_18_method_65_code (2 : Nat) (Option.some Jvm.ClassFile.FieldType.int)) ∈ lw_all := lw_g (lw_at lw_m4 229 rfl) rfl
theorem q1375 : (Jvm.Cond.static ({ cls := "java/lang/Math", name := "abs", desc := "(F)F" } : Jvm.MethodName)) ∈ lw_all := lw_g (lw_at lw_m6 142 rfl) rfl
theorem q1376 : (Jvm.Cond.code ({ cls := "java/lang/Math", name := "abs", desc := "(F)F" } : Jvm.MethodName) prog_18_method_63_code (1 : Nat) (Option.some Jvm.ClassFile.FieldType.float)) ∈ lw_all := lw_g (lw_at lw_m6 143 rfl) rfl
theorem q1377 : (Jvm.Cond.constant "java/lang/Math" (134 : Nat) (2147483647 : Int32)) ∈ lw_all := lw_g (lw_at lw_m6 144 rfl) rfl
theorem q1378 : (Jvm.Cond.methodLink "java/lang/Math" (162 : Nat) ({ cls := "java/lang/Float", name := "intBitsToFloat", desc := "(I)F" } : Jvm.MethodName)) ∈ lw_all := lw_g (lw_at lw_m6 145 rfl) rfl
theorem q1381 : (Jvm.Cond.static ({ cls := "java/lang/Math", name := "abs", desc := "(I)I" } : Jvm.MethodName)) ∈ lw_all := lw_g (lw_at lw_m6 148 rfl) rfl
theorem q1382 : (Jvm.Cond.code ({ cls := "java/lang/Math", name := "abs", desc := "(I)I" } : Jvm.MethodName) prog_18_method_59_code (1 : Nat) (Option.some Jvm.ClassFile.FieldType.int)) ∈ lw_all := lw_g (lw_at lw_m6 149 rfl) rfl
/-! java/util/Arrays -/
set_option maxRecDepth 100000
def RJ11 : String := "java/util/Arrays"
abbrev cJ11_sort : ByteArray := prog_27_method_14_code
def yJ11_sort : MethodName := ⟨RJ11, "sort", "([D)V"⟩
def dkwJ11_sort_0 : List UInt8 := [42, 3, 3, 42, 190, 184, 0, 34, 177]
abbrev dktJ11_sort_0 : List UInt8 := dkwJ11_sort_0 ++ []
theorem dksJ11_sort_0 : cJ11_sort.data.toList.drop 0 = dktJ11_sort_0 := by decide +kernel
theorem dJ11_sort_0 : decode cJ11_sort 0 = .ok (.aload_n 0, 1) := dk_42 (dk_at dksJ11_sort_0 0 rfl rfl)
theorem dJ11_sort_1 : decode cJ11_sort 1 = .ok (.iconst 0, 1) := dk_3 (dk_at dksJ11_sort_0 1 rfl rfl)
theorem dJ11_sort_2 : decode cJ11_sort 2 = .ok (.iconst 0, 1) := dk_3 (dk_at dksJ11_sort_0 2 rfl rfl)
theorem dJ11_sort_3 : decode cJ11_sort 3 = .ok (.aload_n 0, 1) := dk_42 (dk_at dksJ11_sort_0 3 rfl rfl)
theorem dJ11_sort_4 : decode cJ11_sort 4 = .ok (.arraylength, 1) := dk_190 (dk_at dksJ11_sort_0 4 rfl rfl)
theorem dJ11_sort_5 : decode cJ11_sort 5 = .ok (.invokestatic 34, 3) := dk_184 0 34 (dk_at dksJ11_sort_0 5 rfl rfl)
theorem dJ11_sort_8 : decode cJ11_sort 8 = .ok (.return_, 1) := dk_177 (dk_at dksJ11_sort_0 8 rfl rfl)
abbrev cJ11_copyOf : ByteArray := prog_27_method_123_code
def yJ11_copyOf : MethodName := ⟨RJ11, "copyOf", "([II)[I"⟩
def dkwJ11_copyOf_1 : List UInt8 := [27, 184, 1, 48, 184, 0, 150, 44, 176]
abbrev dktJ11_copyOf_1 : List UInt8 := dkwJ11_copyOf_1 ++ []
def dkwJ11_copyOf_0 : List UInt8 := [27, 42, 190, 160, 0, 11, 42, 182, 1, 60, 192, 1, 61, 176, 27, 188, 10, 77, 42, 3, 44, 3, 42, 190]
abbrev dktJ11_copyOf_0 : List UInt8 := dkwJ11_copyOf_0 ++ dktJ11_copyOf_1
theorem dksJ11_copyOf_0 : cJ11_copyOf.data.toList.drop 0 = dktJ11_copyOf_0 := by decide +kernel
theorem dksJ11_copyOf_1 : cJ11_copyOf.data.toList.drop 24 = dktJ11_copyOf_1 := dk_seg dksJ11_copyOf_0 24 rfl rfl
theorem dJ11_copyOf_0 : decode cJ11_copyOf 0 = .ok (.iload_n 1, 1) := dk_27 (dk_at dksJ11_copyOf_0 0 rfl rfl)
theorem dJ11_copyOf_1 : decode cJ11_copyOf 1 = .ok (.aload_n 0, 1) := dk_42 (dk_at dksJ11_copyOf_0 1 rfl rfl)
theorem dJ11_copyOf_2 : decode cJ11_copyOf 2 = .ok (.arraylength, 1) := dk_190 (dk_at dksJ11_copyOf_0 2 rfl rfl)
theorem dJ11_copyOf_3 : decode cJ11_copyOf 3 = .ok (.if_icmp .ne 11, 3) := dk_160 0 11 (dk_at dksJ11_copyOf_0 3 rfl rfl)
theorem dJ11_copyOf_6 : decode cJ11_copyOf 6 = .ok (.aload_n 0, 1) := dk_42 (dk_at dksJ11_copyOf_0 6 rfl rfl)
theorem dJ11_copyOf_7 : decode cJ11_copyOf 7 = .ok (.invokevirtual 316, 3) := dk_182 1 60 (dk_at dksJ11_copyOf_0 7 rfl rfl)
theorem dJ11_copyOf_10 : decode cJ11_copyOf 10 = .ok (.checkcast 317, 3) := dk_192 1 61 (dk_at dksJ11_copyOf_0 10 rfl rfl)
theorem dJ11_copyOf_13 : decode cJ11_copyOf 13 = .ok (.areturn, 1) := dk_176 (dk_at dksJ11_copyOf_0 13 rfl rfl)
theorem dJ11_copyOf_14 : decode cJ11_copyOf 14 = .ok (.iload_n 1, 1) := dk_27 (dk_at dksJ11_copyOf_0 14 rfl rfl)
theorem dJ11_copyOf_15 : decode cJ11_copyOf 15 = .ok (.newarray .int, 2) := dk_188_10 (dk_at dksJ11_copyOf_0 15 rfl rfl)
theorem dJ11_copyOf_17 : decode cJ11_copyOf 17 = .ok (.astore_n 2, 1) := dk_77 (dk_at dksJ11_copyOf_0 17 rfl rfl)
theorem dJ11_copyOf_18 : decode cJ11_copyOf 18 = .ok (.aload_n 0, 1) := dk_42 (dk_at dksJ11_copyOf_0 18 rfl rfl)
theorem dJ11_copyOf_19 : decode cJ11_copyOf 19 = .ok (.iconst 0, 1) := dk_3 (dk_at dksJ11_copyOf_0 19 rfl rfl)
theorem dJ11_copyOf_20 : decode cJ11_copyOf 20 = .ok (.aload_n 2, 1) := dk_44 (dk_at dksJ11_copyOf_0 20 rfl rfl)
theorem dJ11_copyOf_21 : decode cJ11_copyOf 21 = .ok (.iconst 0, 1) := dk_3 (dk_at dksJ11_copyOf_0 21 rfl rfl)
theorem dJ11_copyOf_22 : decode cJ11_copyOf 22 = .ok (.aload_n 0, 1) := dk_42 (dk_at dksJ11_copyOf_0 22 rfl rfl)
theorem dJ11_copyOf_23 : decode cJ11_copyOf 23 = .ok (.arraylength, 1) := dk_190 (dk_at dksJ11_copyOf_0 23 rfl rfl)
theorem dJ11_copyOf_24 : decode cJ11_copyOf 24 = .ok (.iload_n 1, 1) := dk_27 (dk_at dksJ11_copyOf_1 0 rfl rfl)
theorem dJ11_copyOf_25 : decode cJ11_copyOf 25 = .ok (.invokestatic 304, 3) := dk_184 1 48 (dk_at dksJ11_copyOf_1 1 rfl rfl)
theorem dJ11_copyOf_28 : decode cJ11_copyOf 28 = .ok (.invokestatic 150, 3) := dk_184 0 150 (dk_at dksJ11_copyOf_1 4 rfl rfl)
theorem dJ11_copyOf_31 : decode cJ11_copyOf 31 = .ok (.aload_n 2, 1) := dk_44 (dk_at dksJ11_copyOf_1 7 rfl rfl)
theorem dJ11_copyOf_32 : decode cJ11_copyOf 32 = .ok (.areturn, 1) := dk_176 (dk_at dksJ11_copyOf_1 8 rfl rfl)
abbrev cJ11_copyOf_2 : ByteArray := prog_27_method_121_code
def yJ11_copyOf_2 : MethodName := ⟨RJ11, "copyOf", "([BI)[B"⟩
def dkwJ11_copyOf_2_1 : List UInt8 := [27, 184, 1, 48, 184, 0, 150, 44, 176]
abbrev dktJ11_copyOf_2_1 : List UInt8 := dkwJ11_copyOf_2_1 ++ []
def dkwJ11_copyOf_2_0 : List UInt8 := [27, 42, 190, 160, 0, 11, 42, 182, 1, 54, 192, 1, 55, 176, 27, 188, 8, 77, 42, 3, 44, 3, 42, 190]
abbrev dktJ11_copyOf_2_0 : List UInt8 := dkwJ11_copyOf_2_0 ++ dktJ11_copyOf_2_1
theorem dksJ11_copyOf_2_0 : cJ11_copyOf_2.data.toList.drop 0 = dktJ11_copyOf_2_0 := by decide +kernel
theorem dksJ11_copyOf_2_1 : cJ11_copyOf_2.data.toList.drop 24 = dktJ11_copyOf_2_1 := dk_seg dksJ11_copyOf_2_0 24 rfl rfl
theorem dJ11_copyOf_2_0 : decode cJ11_copyOf_2 0 = .ok (.iload_n 1, 1) := dk_27 (dk_at dksJ11_copyOf_2_0 0 rfl rfl)
theorem dJ11_copyOf_2_1 : decode cJ11_copyOf_2 1 = .ok (.aload_n 0, 1) := dk_42 (dk_at dksJ11_copyOf_2_0 1 rfl rfl)
theorem dJ11_copyOf_2_2 : decode cJ11_copyOf_2 2 = .ok (.arraylength, 1) := dk_190 (dk_at dksJ11_copyOf_2_0 2 rfl rfl)
theorem dJ11_copyOf_2_3 : decode cJ11_copyOf_2 3 = .ok (.if_icmp .ne 11, 3) := dk_160 0 11 (dk_at dksJ11_copyOf_2_0 3 rfl rfl)
theorem dJ11_copyOf_2_6 : decode cJ11_copyOf_2 6 = .ok (.aload_n 0, 1) := dk_42 (dk_at dksJ11_copyOf_2_0 6 rfl rfl)
theorem dJ11_copyOf_2_7 : decode cJ11_copyOf_2 7 = .ok (.invokevirtual 310, 3) := dk_182 1 54 (dk_at dksJ11_copyOf_2_0 7 rfl rfl)
theorem dJ11_copyOf_2_10 : decode cJ11_copyOf_2 10 = .ok (.checkcast 311, 3) := dk_192 1 55 (dk_at dksJ11_copyOf_2_0 10 rfl rfl)
theorem dJ11_copyOf_2_13 : decode cJ11_copyOf_2 13 = .ok (.areturn, 1) := dk_176 (dk_at dksJ11_copyOf_2_0 13 rfl rfl)
theorem dJ11_copyOf_2_14 : decode cJ11_copyOf_2 14 = .ok (.iload_n 1, 1) := dk_27 (dk_at dksJ11_copyOf_2_0 14 rfl rfl)
theorem dJ11_copyOf_2_15 : decode cJ11_copyOf_2 15 = .ok (.newarray .byte, 2) := dk_188_8 (dk_at dksJ11_copyOf_2_0 15 rfl rfl)
theorem dJ11_copyOf_2_17 : decode cJ11_copyOf_2 17 = .ok (.astore_n 2, 1) := dk_77 (dk_at dksJ11_copyOf_2_0 17 rfl rfl)
theorem dJ11_copyOf_2_18 : decode cJ11_copyOf_2 18 = .ok (.aload_n 0, 1) := dk_42 (dk_at dksJ11_copyOf_2_0 18 rfl rfl)
theorem dJ11_copyOf_2_19 : decode cJ11_copyOf_2 19 = .ok (.iconst 0, 1) := dk_3 (dk_at dksJ11_copyOf_2_0 19 rfl rfl)
theorem dJ11_copyOf_2_20 : decode cJ11_copyOf_2 20 = .ok (.aload_n 2, 1) := dk_44 (dk_at dksJ11_copyOf_2_0 20 rfl rfl)
theorem dJ11_copyOf_2_21 : decode cJ11_copyOf_2 21 = .ok (.iconst 0, 1) := dk_3 (dk_at dksJ11_copyOf_2_0 21 rfl rfl)
theorem dJ11_copyOf_2_22 : decode cJ11_copyOf_2 22 = .ok (.aload_n 0, 1) := dk_42 (dk_at dksJ11_copyOf_2_0 22 rfl rfl)
theorem dJ11_copyOf_2_23 : decode cJ11_copyOf_2 23 = .ok (.arraylength, 1) := dk_190 (dk_at dksJ11_copyOf_2_0 23 rfl rfl)
theorem dJ11_copyOf_2_24 : decode cJ11_copyOf_2 24 = .ok (.iload_n 1, 1) := dk_27 (dk_at dksJ11_copyOf_2_1 0 rfl rfl)
theorem dJ11_copyOf_2_25 : decode cJ11_copyOf_2 25 = .ok (.invokestatic 304, 3) := dk_184 1 48 (dk_at dksJ11_copyOf_2_1 1 rfl rfl)
theorem dJ11_copyOf_2_28 : decode cJ11_copyOf_2 28 = .ok (.invokestatic 150, 3) := dk_184 0 150 (dk_at dksJ11_copyOf_2_1 4 rfl rfl)
theorem dJ11_copyOf_2_31 : decode cJ11_copyOf_2 31 = .ok (.aload_n 2, 1) := dk_44 (dk_at dksJ11_copyOf_2_1 7 rfl rfl)
theorem dJ11_copyOf_2_32 : decode cJ11_copyOf_2 32 = .ok (.areturn, 1) := dk_176 (dk_at dksJ11_copyOf_2_1 8 rfl rfl)
abbrev cJ11_copyOfRange : ByteArray := prog_27_method_132_code
def yJ11_copyOfRange : MethodName := ⟨RJ11, "copyOfRange", "([BII)[B"⟩
def dkwJ11_copyOfRange_1 : List UInt8 := [176]
abbrev dktJ11_copyOfRange_1 : List UInt8 := dkwJ11_copyOfRange_1 ++ []
def dkwJ11_copyOfRange_0 : List UInt8 := [27, 154, 0, 9, 28, 42, 190, 159, 0, 10, 42, 27, 28, 184, 1, 83, 176, 42, 182, 1, 54, 192, 1, 55]
abbrev dktJ11_copyOfRange_0 : List UInt8 := dkwJ11_copyOfRange_0 ++ dktJ11_copyOfRange_1
theorem dksJ11_copyOfRange_0 : cJ11_copyOfRange.data.toList.drop 0 = dktJ11_copyOfRange_0 := by decide +kernel
theorem dksJ11_copyOfRange_1 : cJ11_copyOfRange.data.toList.drop 24 = dktJ11_copyOfRange_1 := dk_seg dksJ11_copyOfRange_0 24 rfl rfl
theorem dJ11_copyOfRange_0 : decode cJ11_copyOfRange 0 = .ok (.iload_n 1, 1) := dk_27 (dk_at dksJ11_copyOfRange_0 0 rfl rfl)
theorem dJ11_copyOfRange_1 : decode cJ11_copyOfRange 1 = .ok (.ifCond .ne 9, 3) := dk_154 0 9 (dk_at dksJ11_copyOfRange_0 1 rfl rfl)
theorem dJ11_copyOfRange_4 : decode cJ11_copyOfRange 4 = .ok (.iload_n 2, 1) := dk_28 (dk_at dksJ11_copyOfRange_0 4 rfl rfl)
theorem dJ11_copyOfRange_5 : decode cJ11_copyOfRange 5 = .ok (.aload_n 0, 1) := dk_42 (dk_at dksJ11_copyOfRange_0 5 rfl rfl)
theorem dJ11_copyOfRange_6 : decode cJ11_copyOfRange 6 = .ok (.arraylength, 1) := dk_190 (dk_at dksJ11_copyOfRange_0 6 rfl rfl)
theorem dJ11_copyOfRange_7 : decode cJ11_copyOfRange 7 = .ok (.if_icmp .eq 10, 3) := dk_159 0 10 (dk_at dksJ11_copyOfRange_0 7 rfl rfl)
theorem dJ11_copyOfRange_10 : decode cJ11_copyOfRange 10 = .ok (.aload_n 0, 1) := dk_42 (dk_at dksJ11_copyOfRange_0 10 rfl rfl)
theorem dJ11_copyOfRange_11 : decode cJ11_copyOfRange 11 = .ok (.iload_n 1, 1) := dk_27 (dk_at dksJ11_copyOfRange_0 11 rfl rfl)
theorem dJ11_copyOfRange_12 : decode cJ11_copyOfRange 12 = .ok (.iload_n 2, 1) := dk_28 (dk_at dksJ11_copyOfRange_0 12 rfl rfl)
theorem dJ11_copyOfRange_13 : decode cJ11_copyOfRange 13 = .ok (.invokestatic 339, 3) := dk_184 1 83 (dk_at dksJ11_copyOfRange_0 13 rfl rfl)
theorem dJ11_copyOfRange_16 : decode cJ11_copyOfRange 16 = .ok (.areturn, 1) := dk_176 (dk_at dksJ11_copyOfRange_0 16 rfl rfl)
theorem dJ11_copyOfRange_17 : decode cJ11_copyOfRange 17 = .ok (.aload_n 0, 1) := dk_42 (dk_at dksJ11_copyOfRange_0 17 rfl rfl)
theorem dJ11_copyOfRange_18 : decode cJ11_copyOfRange 18 = .ok (.invokevirtual 310, 3) := dk_182 1 54 (dk_at dksJ11_copyOfRange_0 18 rfl rfl)
theorem dJ11_copyOfRange_21 : decode cJ11_copyOfRange 21 = .ok (.checkcast 311, 3) := dk_192 1 55 (dk_at dksJ11_copyOfRange_0 21 rfl rfl)
theorem dJ11_copyOfRange_24 : decode cJ11_copyOfRange 24 = .ok (.areturn, 1) := dk_176 (dk_at dksJ11_copyOfRange_1 0 rfl rfl)
abbrev cJ11_copyOfRangeByte : ByteArray := prog_27_method_133_code
def yJ11_copyOfRangeByte : MethodName := ⟨RJ11, "copyOfRangeByte", "([BII)[B"⟩
def dkwJ11_copyOfRangeByte_1 : List UInt8 := [184, 1, 48, 184, 0, 150, 25, 4, 176]
abbrev dktJ11_copyOfRangeByte_1 : List UInt8 := dkwJ11_copyOfRangeByte_1 ++ []
def dkwJ11_copyOfRangeByte_0 : List UInt8 := [27, 28, 184, 1, 87, 28, 27, 100, 62, 29, 188, 8, 58, 4, 42, 27, 25, 4, 3, 42, 190, 27, 100, 29]
abbrev dktJ11_copyOfRangeByte_0 : List UInt8 := dkwJ11_copyOfRangeByte_0 ++ dktJ11_copyOfRangeByte_1
theorem dksJ11_copyOfRangeByte_0 : cJ11_copyOfRangeByte.data.toList.drop 0 = dktJ11_copyOfRangeByte_0 := by decide +kernel
theorem dksJ11_copyOfRangeByte_1 : cJ11_copyOfRangeByte.data.toList.drop 24 = dktJ11_copyOfRangeByte_1 := dk_seg dksJ11_copyOfRangeByte_0 24 rfl rfl
theorem dJ11_copyOfRangeByte_0 : decode cJ11_copyOfRangeByte 0 = .ok (.iload_n 1, 1) := dk_27 (dk_at dksJ11_copyOfRangeByte_0 0 rfl rfl)
theorem dJ11_copyOfRangeByte_1 : decode cJ11_copyOfRangeByte 1 = .ok (.iload_n 2, 1) := dk_28 (dk_at dksJ11_copyOfRangeByte_0 1 rfl rfl)
theorem dJ11_copyOfRangeByte_2 : decode cJ11_copyOfRangeByte 2 = .ok (.invokestatic 343, 3) := dk_184 1 87 (dk_at dksJ11_copyOfRangeByte_0 2 rfl rfl)
theorem dJ11_copyOfRangeByte_5 : decode cJ11_copyOfRangeByte 5 = .ok (.iload_n 2, 1) := dk_28 (dk_at dksJ11_copyOfRangeByte_0 5 rfl rfl)
theorem dJ11_copyOfRangeByte_6 : decode cJ11_copyOfRangeByte 6 = .ok (.iload_n 1, 1) := dk_27 (dk_at dksJ11_copyOfRangeByte_0 6 rfl rfl)
theorem dJ11_copyOfRangeByte_7 : decode cJ11_copyOfRangeByte 7 = .ok (.isub, 1) := dk_100 (dk_at dksJ11_copyOfRangeByte_0 7 rfl rfl)
theorem dJ11_copyOfRangeByte_8 : decode cJ11_copyOfRangeByte 8 = .ok (.istore_n 3, 1) := dk_62 (dk_at dksJ11_copyOfRangeByte_0 8 rfl rfl)
theorem dJ11_copyOfRangeByte_9 : decode cJ11_copyOfRangeByte 9 = .ok (.iload_n 3, 1) := dk_29 (dk_at dksJ11_copyOfRangeByte_0 9 rfl rfl)
theorem dJ11_copyOfRangeByte_10 : decode cJ11_copyOfRangeByte 10 = .ok (.newarray .byte, 2) := dk_188_8 (dk_at dksJ11_copyOfRangeByte_0 10 rfl rfl)
theorem dJ11_copyOfRangeByte_12 : decode cJ11_copyOfRangeByte 12 = .ok (.astore 4, 2) := dk_58 4 (dk_at dksJ11_copyOfRangeByte_0 12 rfl rfl)
theorem dJ11_copyOfRangeByte_14 : decode cJ11_copyOfRangeByte 14 = .ok (.aload_n 0, 1) := dk_42 (dk_at dksJ11_copyOfRangeByte_0 14 rfl rfl)
theorem dJ11_copyOfRangeByte_15 : decode cJ11_copyOfRangeByte 15 = .ok (.iload_n 1, 1) := dk_27 (dk_at dksJ11_copyOfRangeByte_0 15 rfl rfl)
theorem dJ11_copyOfRangeByte_16 : decode cJ11_copyOfRangeByte 16 = .ok (.aload 4, 2) := dk_25 4 (dk_at dksJ11_copyOfRangeByte_0 16 rfl rfl)
theorem dJ11_copyOfRangeByte_18 : decode cJ11_copyOfRangeByte 18 = .ok (.iconst 0, 1) := dk_3 (dk_at dksJ11_copyOfRangeByte_0 18 rfl rfl)
theorem dJ11_copyOfRangeByte_19 : decode cJ11_copyOfRangeByte 19 = .ok (.aload_n 0, 1) := dk_42 (dk_at dksJ11_copyOfRangeByte_0 19 rfl rfl)
theorem dJ11_copyOfRangeByte_20 : decode cJ11_copyOfRangeByte 20 = .ok (.arraylength, 1) := dk_190 (dk_at dksJ11_copyOfRangeByte_0 20 rfl rfl)
theorem dJ11_copyOfRangeByte_21 : decode cJ11_copyOfRangeByte 21 = .ok (.iload_n 1, 1) := dk_27 (dk_at dksJ11_copyOfRangeByte_0 21 rfl rfl)
theorem dJ11_copyOfRangeByte_22 : decode cJ11_copyOfRangeByte 22 = .ok (.isub, 1) := dk_100 (dk_at dksJ11_copyOfRangeByte_0 22 rfl rfl)
theorem dJ11_copyOfRangeByte_23 : decode cJ11_copyOfRangeByte 23 = .ok (.iload_n 3, 1) := dk_29 (dk_at dksJ11_copyOfRangeByte_0 23 rfl rfl)
theorem dJ11_copyOfRangeByte_24 : decode cJ11_copyOfRangeByte 24 = .ok (.invokestatic 304, 3) := dk_184 1 48 (dk_at dksJ11_copyOfRangeByte_1 0 rfl rfl)
theorem dJ11_copyOfRangeByte_27 : decode cJ11_copyOfRangeByte 27 = .ok (.invokestatic 150, 3) := dk_184 0 150 (dk_at dksJ11_copyOfRangeByte_1 3 rfl rfl)
theorem dJ11_copyOfRangeByte_30 : decode cJ11_copyOfRangeByte 30 = .ok (.aload 4, 2) := dk_25 4 (dk_at dksJ11_copyOfRangeByte_1 6 rfl rfl)
theorem dJ11_copyOfRangeByte_32 : decode cJ11_copyOfRangeByte 32 = .ok (.areturn, 1) := dk_176 (dk_at dksJ11_copyOfRangeByte_1 8 rfl rfl)
abbrev cJ11_checkLength : ByteArray := prog_27_method_131_code
def yJ11_checkLength : MethodName := ⟨RJ11, "checkLength", "(II)V"⟩
def dkwJ11_checkLength_1 : List UInt8 := [182, 0, 50, 27, 182, 0, 54, 182, 0, 61, 183, 0, 65, 191, 177]
abbrev dktJ11_checkLength_1 : List UInt8 := dkwJ11_checkLength_1 ++ []
def dkwJ11_checkLength_0 : List UInt8 := [27, 26, 162, 0, 35, 187, 0, 43, 89, 187, 0, 45, 89, 183, 0, 47, 26, 182, 0, 54, 19, 1, 81]
abbrev dktJ11_checkLength_0 : List UInt8 := dkwJ11_checkLength_0 ++ dktJ11_checkLength_1
theorem dksJ11_checkLength_0 : cJ11_checkLength.data.toList.drop 0 = dktJ11_checkLength_0 := by decide +kernel
theorem dksJ11_checkLength_1 : cJ11_checkLength.data.toList.drop 23 = dktJ11_checkLength_1 := dk_seg dksJ11_checkLength_0 23 rfl rfl
theorem dJ11_checkLength_0 : decode cJ11_checkLength 0 = .ok (.iload_n 1, 1) := dk_27 (dk_at dksJ11_checkLength_0 0 rfl rfl)
theorem dJ11_checkLength_1 : decode cJ11_checkLength 1 = .ok (.iload_n 0, 1) := dk_26 (dk_at dksJ11_checkLength_0 1 rfl rfl)
theorem dJ11_checkLength_2 : decode cJ11_checkLength 2 = .ok (.if_icmp .ge 35, 3) := dk_162 0 35 (dk_at dksJ11_checkLength_0 2 rfl rfl)
theorem dJ11_checkLength_5 : decode cJ11_checkLength 5 = .ok (.new 43, 3) := dk_187 0 43 (dk_at dksJ11_checkLength_0 5 rfl rfl)
theorem dJ11_checkLength_8 : decode cJ11_checkLength 8 = .ok (.dup, 1) := dk_89 (dk_at dksJ11_checkLength_0 8 rfl rfl)
theorem dJ11_checkLength_9 : decode cJ11_checkLength 9 = .ok (.new 45, 3) := dk_187 0 45 (dk_at dksJ11_checkLength_0 9 rfl rfl)
theorem dJ11_checkLength_12 : decode cJ11_checkLength 12 = .ok (.dup, 1) := dk_89 (dk_at dksJ11_checkLength_0 12 rfl rfl)
theorem dJ11_checkLength_13 : decode cJ11_checkLength 13 = .ok (.invokespecial 47, 3) := dk_183 0 47 (dk_at dksJ11_checkLength_0 13 rfl rfl)
theorem dJ11_checkLength_16 : decode cJ11_checkLength 16 = .ok (.iload_n 0, 1) := dk_26 (dk_at dksJ11_checkLength_0 16 rfl rfl)
theorem dJ11_checkLength_17 : decode cJ11_checkLength 17 = .ok (.invokevirtual 54, 3) := dk_182 0 54 (dk_at dksJ11_checkLength_0 17 rfl rfl)
theorem dJ11_checkLength_20 : decode cJ11_checkLength 20 = .ok (.ldc_w 337, 3) := dk_19 1 81 (dk_at dksJ11_checkLength_0 20 rfl rfl)
theorem dJ11_checkLength_23 : decode cJ11_checkLength 23 = .ok (.invokevirtual 50, 3) := dk_182 0 50 (dk_at dksJ11_checkLength_1 0 rfl rfl)
theorem dJ11_checkLength_26 : decode cJ11_checkLength 26 = .ok (.iload_n 1, 1) := dk_27 (dk_at dksJ11_checkLength_1 3 rfl rfl)
theorem dJ11_checkLength_27 : decode cJ11_checkLength 27 = .ok (.invokevirtual 54, 3) := dk_182 0 54 (dk_at dksJ11_checkLength_1 4 rfl rfl)
theorem dJ11_checkLength_30 : decode cJ11_checkLength 30 = .ok (.invokevirtual 61, 3) := dk_182 0 61 (dk_at dksJ11_checkLength_1 7 rfl rfl)
theorem dJ11_checkLength_33 : decode cJ11_checkLength 33 = .ok (.invokespecial 65, 3) := dk_183 0 65 (dk_at dksJ11_checkLength_1 10 rfl rfl)
theorem dJ11_checkLength_36 : decode cJ11_checkLength 36 = .ok (.athrow, 1) := dk_191 (dk_at dksJ11_checkLength_1 13 rfl rfl)
theorem dJ11_checkLength_37 : decode cJ11_checkLength 37 = .ok (.return_, 1) := dk_177 (dk_at dksJ11_checkLength_1 14 rfl rfl)
theorem q49 : (Jvm.Cond.initialized "java/util/Arrays") ∈ lw_all := lw_g (lw_at lw_m1 16 rfl) rfl
theorem q862 : (Jvm.Cond.static ({ cls := "java/util/Arrays", name := "sort", desc := "([D)V" } : Jvm.MethodName)) ∈ lw_all := lw_g (lw_at lw_m4 109 rfl) rfl
theorem q863 : (Jvm.Cond.code ({ cls := "java/util/Arrays", name := "sort", desc := "([D)V" } : Jvm.MethodName) prog_27_method_14_code (1 : Nat) (Option.none : Option Jvm.ClassFile.FieldType)) ∈ lw_all := lw_g (lw_at lw_m4 110 rfl) rfl
theorem q864 : (Jvm.Cond.methodLink "java/util/Arrays" (34 : Nat) ({ cls := "java/util/DualPivotQuicksort", name := "sort", desc := "([DIII)V" } : Jvm.MethodName)) ∈ lw_all := lw_g (lw_at lw_m4 111 rfl) rfl
theorem q881 : (Jvm.Cond.static ({ cls := "java/util/Arrays", name := "copyOf", desc := "([II)[I" } : Jvm.MethodName)) ∈ lw_all := lw_g (lw_at lw_m4 128 rfl) rfl
theorem q882 : (Jvm.Cond.code ({ cls := "java/util/Arrays", name := "copyOf", desc := "([II)[I" } : Jvm.MethodName) prog_27_method_123_code (3 : Nat) (Option.some (Jvm.ClassFile.FieldType.array Jvm.ClassFile.FieldType.int))) ∈ lw_all := lw_g (lw_at lw_m4 129 rfl) rfl
theorem q883 : (Jvm.Cond.methodLink "java/util/Arrays" (316 : Nat) ({ cls := "[I", name := "clone", desc := "()Ljava/lang/Object;" } : Jvm.MethodName)) ∈ lw_all := lw_g (lw_at lw_m4 130 rfl) rfl
theorem q889 : (Jvm.Cond.classLink "java/util/Arrays" (317 : Nat) "[I") ∈ lw_all := lw_g (lw_at lw_m4 136 rfl) rfl
theorem q890 : (Jvm.Cond.methodLink "java/util/Arrays" (304 : Nat) ({ cls := "java/lang/Math", name := "min", desc := "(II)I" } : Jvm.MethodName)) ∈ lw_all := lw_g (lw_at lw_m4 137 rfl) rfl
theorem q891 : (Jvm.Cond.methodLink "java/util/Arrays" (150 : Nat) ({ cls := "java/lang/System", name := "arraycopy", desc := "(Ljava/lang/Object;ILjava/lang/Object;II)V" } : Jvm.MethodName)) ∈ lw_all := lw_g (lw_at lw_m4 138 rfl) rfl
theorem q989 : (Jvm.Cond.static ({ cls := "java/util/Arrays", name := "copyOf", desc := "([BI)[B" } : Jvm.MethodName)) ∈ lw_all := lw_g (lw_at lw_m4 236 rfl) rfl
theorem q990 : (Jvm.Cond.code ({ cls := "java/util/Arrays", name := "copyOf", desc := "([BI)[B" } : Jvm.MethodName) prog_27_method_121_code (3 : Nat) (Option.some (Jvm.ClassFile.FieldType.array Jvm.ClassFile.FieldType.byte))) ∈ lw_all := lw_g (lw_at lw_m4 237 rfl) rfl
theorem q991 : (Jvm.Cond.methodLink "java/util/Arrays" (310 : Nat) ({ cls := "[B", name := "clone", desc := "()Ljava/lang/Object;" } : Jvm.MethodName)) ∈ lw_all := lw_g (lw_at lw_m4 238 rfl) rfl
theorem q995 : (Jvm.Cond.classLink "java/util/Arrays" (311 : Nat) "[B") ∈ lw_all := lw_g (lw_at lw_m5 2 rfl) rfl
theorem q1115 : (Jvm.Cond.static ({ cls := "java/util/Arrays", name := "copyOfRange", desc := "([BII)[B" } : Jvm.MethodName)) ∈ lw_all := lw_g (lw_at lw_m5 122 rfl) rfl
theorem q1116 : (Jvm.Cond.code ({ cls := "java/util/Arrays", name := "copyOfRange", desc := "([BII)[B" } : Jvm.MethodName) prog_27_method_132_code (3 : Nat) (Option.some (Jvm.ClassFile.FieldType.array Jvm.ClassFile.FieldType.byte))) ∈ lw_all := lw_g (lw_at lw_m5 123 rfl) rfl
theorem q1117 : (Jvm.Cond.methodLink "java/util/Arrays" (339 : Nat) ({ cls := "java/util/Arrays", name := "copyOfRangeByte", desc := "([BII)[B" } : Jvm.MethodName)) ∈ lw_all := lw_g (lw_at lw_m5 124 rfl) rfl
theorem q1118 : (Jvm.Cond.static ({ cls := "java/util/Arrays", name := "copyOfRangeByte", desc := "([BII)[B" } : Jvm.MethodName)) ∈ lw_all := lw_g (lw_at lw_m5 125 rfl) rfl
theorem q1119 : (Jvm.Cond.code ({ cls := "java/util/Arrays", name := "copyOfRangeByte", desc := "([BII)[B" } : Jvm.MethodName) prog_27_method_133_code (5 : Nat) (Option.some (Jvm.ClassFile.FieldType.array Jvm.ClassFile.FieldType.byte))) ∈ lw_all := lw_g (lw_at lw_m5 126 rfl) rfl
theorem q1120 : (Jvm.Cond.methodLink "java/util/Arrays" (343 : Nat) ({ cls := "java/util/Arrays", name := "checkLength", desc := "(II)V" } : Jvm.MethodName)) ∈ lw_all := lw_g (lw_at lw_m5 127 rfl) rfl
theorem q1121 : (Jvm.Cond.static ({ cls := "java/util/Arrays", name := "checkLength", desc := "(II)V" } : Jvm.MethodName)) ∈ lw_all := lw_g (lw_at lw_m5 128 rfl) rfl
theorem q1122 : (Jvm.Cond.code ({ cls := "java/util/Arrays", name := "checkLength", desc := "(II)V" } : Jvm.MethodName) prog_27_method_131_code (2 : Nat) (Option.none : Option Jvm.ClassFile.FieldType)) ∈ lw_all := lw_g (lw_at lw_m5 129 rfl) rfl
theorem q1123 : (Jvm.Cond.classLink "java/util/Arrays" (43 : Nat) "java/lang/IllegalArgumentException") ∈ lw_all := lw_g (lw_at lw_m5 130 rfl) rfl
theorem q1124 : (Jvm.Cond.classLink "java/util/Arrays" (45 : Nat) "java/lang/StringBuilder") ∈ lw_all := lw_g (lw_at lw_m5 131 rfl) rfl
theorem q1125 : (Jvm.Cond.methodLink "java/util/Arrays" (47 : Nat) ({ cls := "java/lang/StringBuilder", name := "<init>", desc := "()V" } : Jvm.MethodName)) ∈ lw_all := lw_g (lw_at lw_m5 132 rfl) rfl
theorem q1126 : (Jvm.Cond.methodLink "java/util/Arrays" (54 : Nat) ({ cls := "java/lang/StringBuilder", name := "append", desc := "(I)Ljava/lang/StringBuilder;" } : Jvm.MethodName)) ∈ lw_all := lw_g (lw_at lw_m5 133 rfl) rfl
theorem q1127 : (Jvm.Cond.stringRef "java/util/Arrays" (337 : Nat) " > ") ∈ lw_tbl := lw_at lw_m5 134 rfl
theorem q1128 : (Jvm.Cond.methodLink "java/util/Arrays" (50 : Nat) ({ cls := "java/lang/StringBuilder", name := "append", desc := "(Ljava/lang/String;)Ljava/lang/StringBuilder;" } : Jvm.MethodName)) ∈ lw_all := lw_g (lw_at lw_m5 135 rfl) rfl
theorem q1161 : (Jvm.Cond.methodLink "java/util/Arrays" (61 : Nat) ({ cls := "java/lang/StringBuilder", name := "toString", desc := "()Ljava/lang/String;" } : Jvm.MethodName)) ∈ lw_all := lw_g (lw_at lw_m5 168 rfl) rfl
theorem q1162 : (Jvm.Cond.methodLink "java/util/Arrays" (65 : Nat) ({ cls := "java/lang/IllegalArgumentException", name := "<init>", desc := "(Ljava/lang/String;)V" } : Jvm.MethodName)) ∈ lw_all := lw_g (lw_at lw_m5 169 rfl) rfl
/-! java/lang/AbstractStringBuilder -/
set_option maxRecDepth 100000
def RJ13 : String := "java/lang/AbstractStringBuilder"
abbrev cJ13_compareTo : ByteArray := prog_6_method_5_code
def yJ13_compareTo : MethodName := ⟨RJ13, "compareTo", "(Ljava/lang/AbstractStringBuilder;)I"⟩
def dkwJ13_compareTo_4 : List UInt8 := [184, 0, 97, 172]
abbrev dktJ13_compareTo_4 : List UInt8 := dkwJ13_compareTo_4 ++ []
def dkwJ13_compareTo_3 : List UInt8 := [182, 0, 83, 153, 0, 15, 44, 45, 21, 4, 21, 5, 184, 0, 94, 167, 0, 12, 44, 45, 21, 4, 21, 5]
abbrev dktJ13_compareTo_3 : List UInt8 := dkwJ13_compareTo_3 ++ dktJ13_compareTo_4
def dkwJ13_compareTo_2 : List UInt8 := [45, 21, 4, 21, 5, 184, 0, 87, 167, 0, 12, 44, 45, 21, 4, 21, 5, 184, 0, 93, 172, 42]
abbrev dktJ13_compareTo_2 : List UInt8 := dkwJ13_compareTo_2 ++ dktJ13_compareTo_3
def dkwJ13_compareTo_1 : List UInt8 := [180, 0, 79, 54, 5, 42, 180, 0, 22, 43, 180, 0, 22, 160, 0, 32, 42, 182, 0, 83, 153, 0, 15, 44]
abbrev dktJ13_compareTo_1 : List UInt8 := dkwJ13_compareTo_1 ++ dktJ13_compareTo_2
def dkwJ13_compareTo_0 : List UInt8 := [42, 43, 166, 0, 5, 3, 172, 42, 180, 0, 15, 77, 43, 180, 0, 15, 78, 42, 180, 0, 79, 54, 4, 43]
abbrev dktJ13_compareTo_0 : List UInt8 := dkwJ13_compareTo_0 ++ dktJ13_compareTo_1
theorem dksJ13_compareTo_0 : cJ13_compareTo.data.toList.drop 0 = dktJ13_compareTo_0 := by decide +kernel
theorem dksJ13_compareTo_1 : cJ13_compareTo.data.toList.drop 24 = dktJ13_compareTo_1 := dk_seg dksJ13_compareTo_0 24 rfl rfl
theorem dksJ13_compareTo_2 : cJ13_compareTo.data.toList.drop 48 = dktJ13_compareTo_2 := dk_seg dksJ13_compareTo_1 24 rfl rfl
theorem dksJ13_compareTo_3 : cJ13_compareTo.data.toList.drop 70 = dktJ13_compareTo_3 := dk_seg dksJ13_compareTo_2 22 rfl rfl
theorem dksJ13_compareTo_4 : cJ13_compareTo.data.toList.drop 94 = dktJ13_compareTo_4 := dk_seg dksJ13_compareTo_3 24 rfl rfl
theorem dJ13_compareTo_0 : decode cJ13_compareTo 0 = .ok (.aload_n 0, 1) := dk_42 (dk_at dksJ13_compareTo_0 0 rfl rfl)
theorem dJ13_compareTo_1 : decode cJ13_compareTo 1 = .ok (.aload_n 1, 1) := dk_43 (dk_at dksJ13_compareTo_0 1 rfl rfl)
theorem dJ13_compareTo_2 : decode cJ13_compareTo 2 = .ok (.if_acmp .ne 5, 3) := dk_166 0 5 (dk_at dksJ13_compareTo_0 2 rfl rfl)
theorem dJ13_compareTo_5 : decode cJ13_compareTo 5 = .ok (.iconst 0, 1) := dk_3 (dk_at dksJ13_compareTo_0 5 rfl rfl)
theorem dJ13_compareTo_6 : decode cJ13_compareTo 6 = .ok (.ireturn, 1) := dk_172 (dk_at dksJ13_compareTo_0 6 rfl rfl)
theorem dJ13_compareTo_7 : decode cJ13_compareTo 7 = .ok (.aload_n 0, 1) := dk_42 (dk_at dksJ13_compareTo_0 7 rfl rfl)
theorem dJ13_compareTo_8 : decode cJ13_compareTo 8 = .ok (.getfield 15, 3) := dk_180 0 15 (dk_at dksJ13_compareTo_0 8 rfl rfl)
theorem dJ13_compareTo_11 : decode cJ13_compareTo 11 = .ok (.astore_n 2, 1) := dk_77 (dk_at dksJ13_compareTo_0 11 rfl rfl)
theorem dJ13_compareTo_12 : decode cJ13_compareTo 12 = .ok (.aload_n 1, 1) := dk_43 (dk_at dksJ13_compareTo_0 12 rfl rfl)
theorem dJ13_compareTo_13 : decode cJ13_compareTo 13 = .ok (.getfield 15, 3) := dk_180 0 15 (dk_at dksJ13_compareTo_0 13 rfl rfl)
theorem dJ13_compareTo_16 : decode cJ13_compareTo 16 = .ok (.astore_n 3, 1) := dk_78 (dk_at dksJ13_compareTo_0 16 rfl rfl)
theorem dJ13_compareTo_17 : decode cJ13_compareTo 17 = .ok (.aload_n 0, 1) := dk_42 (dk_at dksJ13_compareTo_0 17 rfl rfl)
theorem dJ13_compareTo_18 : decode cJ13_compareTo 18 = .ok (.getfield 79, 3) := dk_180 0 79 (dk_at dksJ13_compareTo_0 18 rfl rfl)
theorem dJ13_compareTo_21 : decode cJ13_compareTo 21 = .ok (.istore 4, 2) := dk_54 4 (dk_at dksJ13_compareTo_0 21 rfl rfl)
theorem dJ13_compareTo_23 : decode cJ13_compareTo 23 = .ok (.aload_n 1, 1) := dk_43 (dk_at dksJ13_compareTo_0 23 rfl rfl)
theorem dJ13_compareTo_24 : decode cJ13_compareTo 24 = .ok (.getfield 79, 3) := dk_180 0 79 (dk_at dksJ13_compareTo_1 0 rfl rfl)
theorem dJ13_compareTo_27 : decode cJ13_compareTo 27 = .ok (.istore 5, 2) := dk_54 5 (dk_at dksJ13_compareTo_1 3 rfl rfl)
theorem dJ13_compareTo_29 : decode cJ13_compareTo 29 = .ok (.aload_n 0, 1) := dk_42 (dk_at dksJ13_compareTo_1 5 rfl rfl)
theorem dJ13_compareTo_30 : decode cJ13_compareTo 30 = .ok (.getfield 22, 3) := dk_180 0 22 (dk_at dksJ13_compareTo_1 6 rfl rfl)
theorem dJ13_compareTo_33 : decode cJ13_compareTo 33 = .ok (.aload_n 1, 1) := dk_43 (dk_at dksJ13_compareTo_1 9 rfl rfl)
theorem dJ13_compareTo_34 : decode cJ13_compareTo 34 = .ok (.getfield 22, 3) := dk_180 0 22 (dk_at dksJ13_compareTo_1 10 rfl rfl)
theorem dJ13_compareTo_37 : decode cJ13_compareTo 37 = .ok (.if_icmp .ne 32, 3) := dk_160 0 32 (dk_at dksJ13_compareTo_1 13 rfl rfl)
theorem dJ13_compareTo_40 : decode cJ13_compareTo 40 = .ok (.aload_n 0, 1) := dk_42 (dk_at dksJ13_compareTo_1 16 rfl rfl)
theorem dJ13_compareTo_41 : decode cJ13_compareTo 41 = .ok (.invokevirtual 83, 3) := dk_182 0 83 (dk_at dksJ13_compareTo_1 17 rfl rfl)
theorem dJ13_compareTo_44 : decode cJ13_compareTo 44 = .ok (.ifCond .eq 15, 3) := dk_153 0 15 (dk_at dksJ13_compareTo_1 20 rfl rfl)
theorem dJ13_compareTo_47 : decode cJ13_compareTo 47 = .ok (.aload_n 2, 1) := dk_44 (dk_at dksJ13_compareTo_1 23 rfl rfl)
theorem dJ13_compareTo_48 : decode cJ13_compareTo 48 = .ok (.aload_n 3, 1) := dk_45 (dk_at dksJ13_compareTo_2 0 rfl rfl)
theorem dJ13_compareTo_49 : decode cJ13_compareTo 49 = .ok (.iload 4, 2) := dk_21 4 (dk_at dksJ13_compareTo_2 1 rfl rfl)
theorem dJ13_compareTo_51 : decode cJ13_compareTo 51 = .ok (.iload 5, 2) := dk_21 5 (dk_at dksJ13_compareTo_2 3 rfl rfl)
theorem dJ13_compareTo_53 : decode cJ13_compareTo 53 = .ok (.invokestatic 87, 3) := dk_184 0 87 (dk_at dksJ13_compareTo_2 5 rfl rfl)
theorem dJ13_compareTo_56 : decode cJ13_compareTo 56 = .ok (.goto 12, 3) := dk_167 0 12 (dk_at dksJ13_compareTo_2 8 rfl rfl)
theorem dJ13_compareTo_59 : decode cJ13_compareTo 59 = .ok (.aload_n 2, 1) := dk_44 (dk_at dksJ13_compareTo_2 11 rfl rfl)
theorem dJ13_compareTo_60 : decode cJ13_compareTo 60 = .ok (.aload_n 3, 1) := dk_45 (dk_at dksJ13_compareTo_2 12 rfl rfl)
theorem dJ13_compareTo_61 : decode cJ13_compareTo 61 = .ok (.iload 4, 2) := dk_21 4 (dk_at dksJ13_compareTo_2 13 rfl rfl)
theorem dJ13_compareTo_63 : decode cJ13_compareTo 63 = .ok (.iload 5, 2) := dk_21 5 (dk_at dksJ13_compareTo_2 15 rfl rfl)
theorem dJ13_compareTo_65 : decode cJ13_compareTo 65 = .ok (.invokestatic 93, 3) := dk_184 0 93 (dk_at dksJ13_compareTo_2 17 rfl rfl)
theorem dJ13_compareTo_68 : decode cJ13_compareTo 68 = .ok (.ireturn, 1) := dk_172 (dk_at dksJ13_compareTo_2 20 rfl rfl)
theorem dJ13_compareTo_69 : decode cJ13_compareTo 69 = .ok (.aload_n 0, 1) := dk_42 (dk_at dksJ13_compareTo_2 21 rfl rfl)
theorem dJ13_compareTo_70 : decode cJ13_compareTo 70 = .ok (.invokevirtual 83, 3) := dk_182 0 83 (dk_at dksJ13_compareTo_3 0 rfl rfl)
theorem dJ13_compareTo_73 : decode cJ13_compareTo 73 = .ok (.ifCond .eq 15, 3) := dk_153 0 15 (dk_at dksJ13_compareTo_3 3 rfl rfl)
theorem dJ13_compareTo_76 : decode cJ13_compareTo 76 = .ok (.aload_n 2, 1) := dk_44 (dk_at dksJ13_compareTo_3 6 rfl rfl)
theorem dJ13_compareTo_77 : decode cJ13_compareTo 77 = .ok (.aload_n 3, 1) := dk_45 (dk_at dksJ13_compareTo_3 7 rfl rfl)
theorem dJ13_compareTo_78 : decode cJ13_compareTo 78 = .ok (.iload 4, 2) := dk_21 4 (dk_at dksJ13_compareTo_3 8 rfl rfl)
theorem dJ13_compareTo_80 : decode cJ13_compareTo 80 = .ok (.iload 5, 2) := dk_21 5 (dk_at dksJ13_compareTo_3 10 rfl rfl)
theorem dJ13_compareTo_82 : decode cJ13_compareTo 82 = .ok (.invokestatic 94, 3) := dk_184 0 94 (dk_at dksJ13_compareTo_3 12 rfl rfl)
theorem dJ13_compareTo_85 : decode cJ13_compareTo 85 = .ok (.goto 12, 3) := dk_167 0 12 (dk_at dksJ13_compareTo_3 15 rfl rfl)
theorem dJ13_compareTo_88 : decode cJ13_compareTo 88 = .ok (.aload_n 2, 1) := dk_44 (dk_at dksJ13_compareTo_3 18 rfl rfl)
theorem dJ13_compareTo_89 : decode cJ13_compareTo 89 = .ok (.aload_n 3, 1) := dk_45 (dk_at dksJ13_compareTo_3 19 rfl rfl)
theorem dJ13_compareTo_90 : decode cJ13_compareTo 90 = .ok (.iload 4, 2) := dk_21 4 (dk_at dksJ13_compareTo_3 20 rfl rfl)
theorem dJ13_compareTo_92 : decode cJ13_compareTo 92 = .ok (.iload 5, 2) := dk_21 5 (dk_at dksJ13_compareTo_3 22 rfl rfl)
theorem dJ13_compareTo_94 : decode cJ13_compareTo 94 = .ok (.invokestatic 97, 3) := dk_184 0 97 (dk_at dksJ13_compareTo_4 0 rfl rfl)
theorem dJ13_compareTo_97 : decode cJ13_compareTo 97 = .ok (.ireturn, 1) := dk_172 (dk_at dksJ13_compareTo_4 3 rfl rfl)
abbrev cJ13_isLatin1 : ByteArray := prog_6_method_68_code
def yJ13_isLatin1 : MethodName := ⟨RJ13, "isLatin1", "()Z"⟩
def dkwJ13_isLatin1_0 : List UInt8 := [178, 0, 18, 153, 0, 14, 42, 180, 0, 22, 154, 0, 7, 4, 167, 0, 4, 3, 172]
abbrev dktJ13_isLatin1_0 : List UInt8 := dkwJ13_isLatin1_0 ++ []
theorem dksJ13_isLatin1_0 : cJ13_isLatin1.data.toList.drop 0 = dktJ13_isLatin1_0 := by decide +kernel
theorem dJ13_isLatin1_0 : decode cJ13_isLatin1 0 = .ok (.getstatic 18, 3) := dk_178 0 18 (dk_at dksJ13_isLatin1_0 0 rfl rfl)
theorem dJ13_isLatin1_3 : decode cJ13_isLatin1 3 = .ok (.ifCond .eq 14, 3) := dk_153 0 14 (dk_at dksJ13_isLatin1_0 3 rfl rfl)
theorem dJ13_isLatin1_6 : decode cJ13_isLatin1 6 = .ok (.aload_n 0, 1) := dk_42 (dk_at dksJ13_isLatin1_0 6 rfl rfl)
theorem dJ13_isLatin1_7 : decode cJ13_isLatin1 7 = .ok (.getfield 22, 3) := dk_180 0 22 (dk_at dksJ13_isLatin1_0 7 rfl rfl)
theorem dJ13_isLatin1_10 : decode cJ13_isLatin1 10 = .ok (.ifCond .ne 7, 3) := dk_154 0 7 (dk_at dksJ13_isLatin1_0 10 rfl rfl)
theorem dJ13_isLatin1_13 : decode cJ13_isLatin1 13 = .ok (.iconst 1, 1) := dk_4 (dk_at dksJ13_isLatin1_0 13 rfl rfl)
theorem dJ13_isLatin1_14 : decode cJ13_isLatin1 14 = .ok (.goto 4, 3) := dk_167 0 4 (dk_at dksJ13_isLatin1_0 14 rfl rfl)
theorem dJ13_isLatin1_17 : decode cJ13_isLatin1 17 = .ok (.iconst 0, 1) := dk_3 (dk_at dksJ13_isLatin1_0 17 rfl rfl)
theorem dJ13_isLatin1_18 : decode cJ13_isLatin1 18 = .ok (.ireturn, 1) := dk_172 (dk_at dksJ13_isLatin1_0 18 rfl rfl)
abbrev cJ13_init : ByteArray := prog_6_method_2_code
def yJ13_init : MethodName := ⟨RJ13, "<init>", "(I)V"⟩
def dkwJ13_init_1 : List UInt8 := [167, 0, 16, 42, 27, 184, 0, 26, 181, 0, 15, 42, 4, 181, 0, 22, 177]
abbrev dktJ13_init_1 : List UInt8 := dkwJ13_init_1 ++ []
def dkwJ13_init_0 : List UInt8 := [42, 183, 0, 3, 178, 0, 18, 153, 0, 18, 42, 27, 188, 8, 181, 0, 15, 42, 3, 181, 0, 22]
abbrev dktJ13_init_0 : List UInt8 := dkwJ13_init_0 ++ dktJ13_init_1
theorem dksJ13_init_0 : cJ13_init.data.toList.drop 0 = dktJ13_init_0 := by decide +kernel
theorem dksJ13_init_1 : cJ13_init.data.toList.drop 22 = dktJ13_init_1 := dk_seg dksJ13_init_0 22 rfl rfl
theorem dJ13_init_0 : decode cJ13_init 0 = .ok (.aload_n 0, 1) := dk_42 (dk_at dksJ13_init_0 0 rfl rfl)
theorem dJ13_init_1 : decode cJ13_init 1 = .ok (.invokespecial 3, 3) := dk_183 0 3 (dk_at dksJ13_init_0 1 rfl rfl)
theorem dJ13_init_4 : decode cJ13_init 4 = .ok (.getstatic 18, 3) := dk_178 0 18 (dk_at dksJ13_init_0 4 rfl rfl)
theorem dJ13_init_7 : decode cJ13_init 7 = .ok (.ifCond .eq 18, 3) := dk_153 0 18 (dk_at dksJ13_init_0 7 rfl rfl)
theorem dJ13_init_10 : decode cJ13_init 10 = .ok (.aload_n 0, 1) := dk_42 (dk_at dksJ13_init_0 10 rfl rfl)
theorem dJ13_init_11 : decode cJ13_init 11 = .ok (.iload_n 1, 1) := dk_27 (dk_at dksJ13_init_0 11 rfl rfl)
theorem dJ13_init_12 : decode cJ13_init 12 = .ok (.newarray .byte, 2) := dk_188_8 (dk_at dksJ13_init_0 12 rfl rfl)
theorem dJ13_init_14 : decode cJ13_init 14 = .ok (.putfield 15, 3) := dk_181 0 15 (dk_at dksJ13_init_0 14 rfl rfl)
theorem dJ13_init_17 : decode cJ13_init 17 = .ok (.aload_n 0, 1) := dk_42 (dk_at dksJ13_init_0 17 rfl rfl)
theorem dJ13_init_18 : decode cJ13_init 18 = .ok (.iconst 0, 1) := dk_3 (dk_at dksJ13_init_0 18 rfl rfl)
theorem dJ13_init_19 : decode cJ13_init 19 = .ok (.putfield 22, 3) := dk_181 0 22 (dk_at dksJ13_init_0 19 rfl rfl)
theorem dJ13_init_22 : decode cJ13_init 22 = .ok (.goto 16, 3) := dk_167 0 16 (dk_at dksJ13_init_1 0 rfl rfl)
theorem dJ13_init_25 : decode cJ13_init 25 = .ok (.aload_n 0, 1) := dk_42 (dk_at dksJ13_init_1 3 rfl rfl)
theorem dJ13_init_26 : decode cJ13_init 26 = .ok (.iload_n 1, 1) := dk_27 (dk_at dksJ13_init_1 4 rfl rfl)
theorem dJ13_init_27 : decode cJ13_init 27 = .ok (.invokestatic 26, 3) := dk_184 0 26 (dk_at dksJ13_init_1 5 rfl rfl)
theorem dJ13_init_30 : decode cJ13_init 30 = .ok (.putfield 15, 3) := dk_181 0 15 (dk_at dksJ13_init_1 8 rfl rfl)
theorem dJ13_init_33 : decode cJ13_init 33 = .ok (.aload_n 0, 1) := dk_42 (dk_at dksJ13_init_1 11 rfl rfl)
theorem dJ13_init_34 : decode cJ13_init 34 = .ok (.iconst 1, 1) := dk_4 (dk_at dksJ13_init_1 12 rfl rfl)
theorem dJ13_init_35 : decode cJ13_init 35 = .ok (.putfield 22, 3) := dk_181 0 22 (dk_at dksJ13_init_1 13 rfl rfl)
theorem dJ13_init_38 : decode cJ13_init 38 = .ok (.return_, 1) := dk_177 (dk_at dksJ13_init_1 16 rfl rfl)
abbrev cJ13_append : ByteArray := prog_6_method_32_code
def yJ13_append : MethodName := ⟨RJ13, "append", "(I)Ljava/lang/AbstractStringBuilder;"⟩
def dkwJ13_append_2 : List UInt8 := [42, 29, 181, 0, 79, 42, 176]
abbrev dktJ13_append_2 : List UInt8 := dkwJ13_append_2 ++ []
def dkwJ13_append_1 : List UInt8 := [27, 29, 42, 180, 0, 15, 184, 0, 248, 87, 167, 0, 14, 27, 28, 29, 42, 180, 0, 15, 184, 0, 251, 87]
abbrev dktJ13_append_1 : List UInt8 := dkwJ13_append_1 ++ dktJ13_append_2
def dkwJ13_append_0 : List UInt8 := [42, 180, 0, 79, 61, 28, 27, 184, 0, 245, 96, 62, 42, 29, 182, 0, 100, 42, 182, 0, 83, 153, 0, 16]
abbrev dktJ13_append_0 : List UInt8 := dkwJ13_append_0 ++ dktJ13_append_1
theorem dksJ13_append_0 : cJ13_append.data.toList.drop 0 = dktJ13_append_0 := by decide +kernel
theorem dksJ13_append_1 : cJ13_append.data.toList.drop 24 = dktJ13_append_1 := dk_seg dksJ13_append_0 24 rfl rfl
theorem dksJ13_append_2 : cJ13_append.data.toList.drop 48 = dktJ13_append_2 := dk_seg dksJ13_append_1 24 rfl rfl
theorem dJ13_append_0 : decode cJ13_append 0 = .ok (.aload_n 0, 1) := dk_42 (dk_at dksJ13_append_0 0 rfl rfl)
theorem dJ13_append_1 : decode cJ13_append 1 = .ok (.getfield 79, 3) := dk_180 0 79 (dk_at dksJ13_append_0 1 rfl rfl)
theorem dJ13_append_4 : decode cJ13_append 4 = .ok (.istore_n 2, 1) := dk_61 (dk_at dksJ13_append_0 4 rfl rfl)
theorem dJ13_append_5 : decode cJ13_append 5 = .ok (.iload_n 2, 1) := dk_28 (dk_at dksJ13_append_0 5 rfl rfl)
theorem dJ13_append_6 : decode cJ13_append 6 = .ok (.iload_n 1, 1) := dk_27 (dk_at dksJ13_append_0 6 rfl rfl)
theorem dJ13_append_7 : decode cJ13_append 7 = .ok (.invokestatic 245, 3) := dk_184 0 245 (dk_at dksJ13_append_0 7 rfl rfl)
theorem dJ13_append_10 : decode cJ13_append 10 = .ok (.iadd, 1) := dk_96 (dk_at dksJ13_append_0 10 rfl rfl)
theorem dJ13_append_11 : decode cJ13_append 11 = .ok (.istore_n 3, 1) := dk_62 (dk_at dksJ13_append_0 11 rfl rfl)
theorem dJ13_append_12 : decode cJ13_append 12 = .ok (.aload_n 0, 1) := dk_42 (dk_at dksJ13_append_0 12 rfl rfl)
theorem dJ13_append_13 : decode cJ13_append 13 = .ok (.iload_n 3, 1) := dk_29 (dk_at dksJ13_append_0 13 rfl rfl)
theorem dJ13_append_14 : decode cJ13_append 14 = .ok (.invokevirtual 100, 3) := dk_182 0 100 (dk_at dksJ13_append_0 14 rfl rfl)
theorem dJ13_append_17 : decode cJ13_append 17 = .ok (.aload_n 0, 1) := dk_42 (dk_at dksJ13_append_0 17 rfl rfl)
theorem dJ13_append_18 : decode cJ13_append 18 = .ok (.invokevirtual 83, 3) := dk_182 0 83 (dk_at dksJ13_append_0 18 rfl rfl)
theorem dJ13_append_21 : decode cJ13_append 21 = .ok (.ifCond .eq 16, 3) := dk_153 0 16 (dk_at dksJ13_append_0 21 rfl rfl)
theorem dJ13_append_24 : decode cJ13_append 24 = .ok (.iload_n 1, 1) := dk_27 (dk_at dksJ13_append_1 0 rfl rfl)
theorem dJ13_append_25 : decode cJ13_append 25 = .ok (.iload_n 3, 1) := dk_29 (dk_at dksJ13_append_1 1 rfl rfl)
theorem dJ13_append_26 : decode cJ13_append 26 = .ok (.aload_n 0, 1) := dk_42 (dk_at dksJ13_append_1 2 rfl rfl)
theorem dJ13_append_27 : decode cJ13_append 27 = .ok (.getfield 15, 3) := dk_180 0 15 (dk_at dksJ13_append_1 3 rfl rfl)
theorem dJ13_append_30 : decode cJ13_append 30 = .ok (.invokestatic 248, 3) := dk_184 0 248 (dk_at dksJ13_append_1 6 rfl rfl)
theorem dJ13_append_33 : decode cJ13_append 33 = .ok (.pop, 1) := dk_87 (dk_at dksJ13_append_1 9 rfl rfl)
theorem dJ13_append_34 : decode cJ13_append 34 = .ok (.goto 14, 3) := dk_167 0 14 (dk_at dksJ13_append_1 10 rfl rfl)
theorem dJ13_append_37 : decode cJ13_append 37 = .ok (.iload_n 1, 1) := dk_27 (dk_at dksJ13_append_1 13 rfl rfl)
theorem dJ13_append_38 : decode cJ13_append 38 = .ok (.iload_n 2, 1) := dk_28 (dk_at dksJ13_append_1 14 rfl rfl)
theorem dJ13_append_39 : decode cJ13_append 39 = .ok (.iload_n 3, 1) := dk_29 (dk_at dksJ13_append_1 15 rfl rfl)
theorem dJ13_append_40 : decode cJ13_append 40 = .ok (.aload_n 0, 1) := dk_42 (dk_at dksJ13_append_1 16 rfl rfl)
theorem dJ13_append_41 : decode cJ13_append 41 = .ok (.getfield 15, 3) := dk_180 0 15 (dk_at dksJ13_append_1 17 rfl rfl)
theorem dJ13_append_44 : decode cJ13_append 44 = .ok (.invokestatic 251, 3) := dk_184 0 251 (dk_at dksJ13_append_1 20 rfl rfl)
theorem dJ13_append_47 : decode cJ13_append 47 = .ok (.pop, 1) := dk_87 (dk_at dksJ13_append_1 23 rfl rfl)
theorem dJ13_append_48 : decode cJ13_append 48 = .ok (.aload_n 0, 1) := dk_42 (dk_at dksJ13_append_2 0 rfl rfl)
theorem dJ13_append_49 : decode cJ13_append 49 = .ok (.iload_n 3, 1) := dk_29 (dk_at dksJ13_append_2 1 rfl rfl)
theorem dJ13_append_50 : decode cJ13_append 50 = .ok (.putfield 79, 3) := dk_181 0 79 (dk_at dksJ13_append_2 2 rfl rfl)
theorem dJ13_append_53 : decode cJ13_append 53 = .ok (.aload_n 0, 1) := dk_42 (dk_at dksJ13_append_2 5 rfl rfl)
theorem dJ13_append_54 : decode cJ13_append 54 = .ok (.areturn, 1) := dk_176 (dk_at dksJ13_append_2 6 rfl rfl)
abbrev cJ13_ensureCapacityInternal : ByteArray := prog_6_method_9_code
def yJ13_ensureCapacityInternal : MethodName := ⟨RJ13, "ensureCapacityInternal", "(I)V"⟩
def dkwJ13_ensureCapacityInternal_1 : List UInt8 := [182, 0, 104, 42, 180, 0, 22, 120, 184, 0, 108, 181, 0, 15, 177]
abbrev dktJ13_ensureCapacityInternal_1 : List UInt8 := dkwJ13_ensureCapacityInternal_1 ++ []
def dkwJ13_ensureCapacityInternal_0 : List UInt8 := [42, 180, 0, 15, 190, 42, 180, 0, 22, 122, 61, 27, 28, 100, 158, 0, 24, 42, 42, 180, 0, 15, 42, 27]
abbrev dktJ13_ensureCapacityInternal_0 : List UInt8 := dkwJ13_ensureCapacityInternal_0 ++ dktJ13_ensureCapacityInternal_1
theorem dksJ13_ensureCapacityInternal_0 : cJ13_ensureCapacityInternal.data.toList.drop 0 = dktJ13_ensureCapacityInternal_0 := by decide +kernel
theorem dksJ13_ensureCapacityInternal_1 : cJ13_ensureCapacityInternal.data.toList.drop 24 = dktJ13_ensureCapacityInternal_1 := dk_seg dksJ13_ensureCapacityInternal_0 24 rfl rfl
theorem dJ13_ensureCapacityInternal_0 : decode cJ13_ensureCapacityInternal 0 = .ok (.aload_n 0, 1) := dk_42 (dk_at dksJ13_ensureCapacityInternal_0 0 rfl rfl)
theorem dJ13_ensureCapacityInternal_1 : decode cJ13_ensureCapacityInternal 1 = .ok (.getfield 15, 3) := dk_180 0 15 (dk_at dksJ13_ensureCapacityInternal_0 1 rfl rfl)
theorem dJ13_ensureCapacityInternal_4 : decode cJ13_ensureCapacityInternal 4 = .ok (.arraylength, 1) := dk_190 (dk_at dksJ13_ensureCapacityInternal_0 4 rfl rfl)
theorem dJ13_ensureCapacityInternal_5 : decode cJ13_ensureCapacityInternal 5 = .ok (.aload_n 0, 1) := dk_42 (dk_at dksJ13_ensureCapacityInternal_0 5 rfl rfl)
theorem dJ13_ensureCapacityInternal_6 : decode cJ13_ensureCapacityInternal 6 = .ok (.getfield 22, 3) := dk_180 0 22 (dk_at dksJ13_ensureCapacityInternal_0 6 rfl rfl)
theorem dJ13_ensureCapacityInternal_9 : decode cJ13_ensureCapacityInternal 9 = .ok (.ishr, 1) := dk_122 (dk_at dksJ13_ensureCapacityInternal_0 9 rfl rfl)
theorem dJ13_ensureCapacityInternal_10 : decode cJ13_ensureCapacityInternal 10 = .ok (.istore_n 2, 1) := dk_61 (dk_at dksJ13_ensureCapacityInternal_0 10 rfl rfl)
theorem dJ13_ensureCapacityInternal_11 : decode cJ13_ensureCapacityInternal 11 = .ok (.iload_n 1, 1) := dk_27 (dk_at dksJ13_ensureCapacityInternal_0 11 rfl rfl)
theorem dJ13_ensureCapacityInternal_12 : decode cJ13_ensureCapacityInternal 12 = .ok (.iload_n 2, 1) := dk_28 (dk_at dksJ13_ensureCapacityInternal_0 12 rfl rfl)
theorem dJ13_ensureCapacityInternal_13 : decode cJ13_ensureCapacityInternal 13 = .ok (.isub, 1) := dk_100 (dk_at dksJ13_ensureCapacityInternal_0 13 rfl rfl)
theorem dJ13_ensureCapacityInternal_14 : decode cJ13_ensureCapacityInternal 14 = .ok (.ifCond .le 24, 3) := dk_158 0 24 (dk_at dksJ13_ensureCapacityInternal_0 14 rfl rfl)
theorem dJ13_ensureCapacityInternal_17 : decode cJ13_ensureCapacityInternal 17 = .ok (.aload_n 0, 1) := dk_42 (dk_at dksJ13_ensureCapacityInternal_0 17 rfl rfl)
theorem dJ13_ensureCapacityInternal_18 : decode cJ13_ensureCapacityInternal 18 = .ok (.aload_n 0, 1) := dk_42 (dk_at dksJ13_ensureCapacityInternal_0 18 rfl rfl)
theorem dJ13_ensureCapacityInternal_19 : decode cJ13_ensureCapacityInternal 19 = .ok (.getfield 15, 3) := dk_180 0 15 (dk_at dksJ13_ensureCapacityInternal_0 19 rfl rfl)
theorem dJ13_ensureCapacityInternal_22 : decode cJ13_ensureCapacityInternal 22 = .ok (.aload_n 0, 1) := dk_42 (dk_at dksJ13_ensureCapacityInternal_0 22 rfl rfl)
theorem dJ13_ensureCapacityInternal_23 : decode cJ13_ensureCapacityInternal 23 = .ok (.iload_n 1, 1) := dk_27 (dk_at dksJ13_ensureCapacityInternal_0 23 rfl rfl)
theorem dJ13_ensureCapacityInternal_24 : decode cJ13_ensureCapacityInternal 24 = .ok (.invokevirtual 104, 3) := dk_182 0 104 (dk_at dksJ13_ensureCapacityInternal_1 0 rfl rfl)
theorem dJ13_ensureCapacityInternal_27 : decode cJ13_ensureCapacityInternal 27 = .ok (.aload_n 0, 1) := dk_42 (dk_at dksJ13_ensureCapacityInternal_1 3 rfl rfl)
theorem dJ13_ensureCapacityInternal_28 : decode cJ13_ensureCapacityInternal 28 = .ok (.getfield 22, 3) := dk_180 0 22 (dk_at dksJ13_ensureCapacityInternal_1 4 rfl rfl)
theorem dJ13_ensureCapacityInternal_31 : decode cJ13_ensureCapacityInternal 31 = .ok (.ishl, 1) := dk_120 (dk_at dksJ13_ensureCapacityInternal_1 7 rfl rfl)
theorem dJ13_ensureCapacityInternal_32 : decode cJ13_ensureCapacityInternal 32 = .ok (.invokestatic 108, 3) := dk_184 0 108 (dk_at dksJ13_ensureCapacityInternal_1 8 rfl rfl)
theorem dJ13_ensureCapacityInternal_35 : decode cJ13_ensureCapacityInternal 35 = .ok (.putfield 15, 3) := dk_181 0 15 (dk_at dksJ13_ensureCapacityInternal_1 11 rfl rfl)
theorem dJ13_ensureCapacityInternal_38 : decode cJ13_ensureCapacityInternal 38 = .ok (.return_, 1) := dk_177 (dk_at dksJ13_ensureCapacityInternal_1 14 rfl rfl)
abbrev cJ13_newCapacity : ByteArray := prog_6_method_10_code
def yJ13_newCapacity : MethodName := ⟨RJ13, "newCapacity", "(I)I"⟩
def dkwJ13_newCapacity_2 : List UInt8 := [183, 0, 124, 191, 21, 5, 42, 180, 0, 22, 122, 172]
abbrev dktJ13_newCapacity_2 : List UInt8 := dkwJ13_newCapacity_2 ++ []
def dkwJ13_newCapacity_1 : List UInt8 := [180, 0, 22, 120, 96, 184, 0, 114, 54, 5, 21, 5, 18, 39, 160, 0, 13, 187, 0, 120, 89, 18, 122]
abbrev dktJ13_newCapacity_1 : List UInt8 := dkwJ13_newCapacity_1 ++ dktJ13_newCapacity_2
def dkwJ13_newCapacity_0 : List UInt8 := [42, 180, 0, 15, 190, 61, 27, 42, 180, 0, 22, 120, 62, 29, 28, 100, 54, 4, 28, 21, 4, 28, 5, 42]
abbrev dktJ13_newCapacity_0 : List UInt8 := dkwJ13_newCapacity_0 ++ dktJ13_newCapacity_1
theorem dksJ13_newCapacity_0 : cJ13_newCapacity.data.toList.drop 0 = dktJ13_newCapacity_0 := by decide +kernel
theorem dksJ13_newCapacity_1 : cJ13_newCapacity.data.toList.drop 24 = dktJ13_newCapacity_1 := dk_seg dksJ13_newCapacity_0 24 rfl rfl
theorem dksJ13_newCapacity_2 : cJ13_newCapacity.data.toList.drop 47 = dktJ13_newCapacity_2 := dk_seg dksJ13_newCapacity_1 23 rfl rfl
theorem dJ13_newCapacity_0 : decode cJ13_newCapacity 0 = .ok (.aload_n 0, 1) := dk_42 (dk_at dksJ13_newCapacity_0 0 rfl rfl)
theorem dJ13_newCapacity_1 : decode cJ13_newCapacity 1 = .ok (.getfield 15, 3) := dk_180 0 15 (dk_at dksJ13_newCapacity_0 1 rfl rfl)
theorem dJ13_newCapacity_4 : decode cJ13_newCapacity 4 = .ok (.arraylength, 1) := dk_190 (dk_at dksJ13_newCapacity_0 4 rfl rfl)
theorem dJ13_newCapacity_5 : decode cJ13_newCapacity 5 = .ok (.istore_n 2, 1) := dk_61 (dk_at dksJ13_newCapacity_0 5 rfl rfl)
theorem dJ13_newCapacity_6 : decode cJ13_newCapacity 6 = .ok (.iload_n 1, 1) := dk_27 (dk_at dksJ13_newCapacity_0 6 rfl rfl)
theorem dJ13_newCapacity_7 : decode cJ13_newCapacity 7 = .ok (.aload_n 0, 1) := dk_42 (dk_at dksJ13_newCapacity_0 7 rfl rfl)
theorem dJ13_newCapacity_8 : decode cJ13_newCapacity 8 = .ok (.getfield 22, 3) := dk_180 0 22 (dk_at dksJ13_newCapacity_0 8 rfl rfl)
theorem dJ13_newCapacity_11 : decode cJ13_newCapacity 11 = .ok (.ishl, 1) := dk_120 (dk_at dksJ13_newCapacity_0 11 rfl rfl)
theorem dJ13_newCapacity_12 : decode cJ13_newCapacity 12 = .ok (.istore_n 3, 1) := dk_62 (dk_at dksJ13_newCapacity_0 12 rfl rfl)
theorem dJ13_newCapacity_13 : decode cJ13_newCapacity 13 = .ok (.iload_n 3, 1) := dk_29 (dk_at dksJ13_newCapacity_0 13 rfl rfl)
theorem dJ13_newCapacity_14 : decode cJ13_newCapacity 14 = .ok (.iload_n 2, 1) := dk_28 (dk_at dksJ13_newCapacity_0 14 rfl rfl)
theorem dJ13_newCapacity_15 : decode cJ13_newCapacity 15 = .ok (.isub, 1) := dk_100 (dk_at dksJ13_newCapacity_0 15 rfl rfl)
theorem dJ13_newCapacity_16 : decode cJ13_newCapacity 16 = .ok (.istore 4, 2) := dk_54 4 (dk_at dksJ13_newCapacity_0 16 rfl rfl)
theorem dJ13_newCapacity_18 : decode cJ13_newCapacity 18 = .ok (.iload_n 2, 1) := dk_28 (dk_at dksJ13_newCapacity_0 18 rfl rfl)
theorem dJ13_newCapacity_19 : decode cJ13_newCapacity 19 = .ok (.iload 4, 2) := dk_21 4 (dk_at dksJ13_newCapacity_0 19 rfl rfl)
theorem dJ13_newCapacity_21 : decode cJ13_newCapacity 21 = .ok (.iload_n 2, 1) := dk_28 (dk_at dksJ13_newCapacity_0 21 rfl rfl)
theorem dJ13_newCapacity_22 : decode cJ13_newCapacity 22 = .ok (.iconst 2, 1) := dk_5 (dk_at dksJ13_newCapacity_0 22 rfl rfl)
theorem dJ13_newCapacity_23 : decode cJ13_newCapacity 23 = .ok (.aload_n 0, 1) := dk_42 (dk_at dksJ13_newCapacity_0 23 rfl rfl)
theorem dJ13_newCapacity_24 : decode cJ13_newCapacity 24 = .ok (.getfield 22, 3) := dk_180 0 22 (dk_at dksJ13_newCapacity_1 0 rfl rfl)
theorem dJ13_newCapacity_27 : decode cJ13_newCapacity 27 = .ok (.ishl, 1) := dk_120 (dk_at dksJ13_newCapacity_1 3 rfl rfl)
theorem dJ13_newCapacity_28 : decode cJ13_newCapacity 28 = .ok (.iadd, 1) := dk_96 (dk_at dksJ13_newCapacity_1 4 rfl rfl)
theorem dJ13_newCapacity_29 : decode cJ13_newCapacity 29 = .ok (.invokestatic 114, 3) := dk_184 0 114 (dk_at dksJ13_newCapacity_1 5 rfl rfl)
theorem dJ13_newCapacity_32 : decode cJ13_newCapacity 32 = .ok (.istore 5, 2) := dk_54 5 (dk_at dksJ13_newCapacity_1 8 rfl rfl)
theorem dJ13_newCapacity_34 : decode cJ13_newCapacity 34 = .ok (.iload 5, 2) := dk_21 5 (dk_at dksJ13_newCapacity_1 10 rfl rfl)
theorem dJ13_newCapacity_36 : decode cJ13_newCapacity 36 = .ok (.ldc 39, 2) := dk_18 39 (dk_at dksJ13_newCapacity_1 12 rfl rfl)
theorem dJ13_newCapacity_38 : decode cJ13_newCapacity 38 = .ok (.if_icmp .ne 13, 3) := dk_160 0 13 (dk_at dksJ13_newCapacity_1 14 rfl rfl)
theorem dJ13_newCapacity_41 : decode cJ13_newCapacity 41 = .ok (.new 120, 3) := dk_187 0 120 (dk_at dksJ13_newCapacity_1 17 rfl rfl)
theorem dJ13_newCapacity_44 : decode cJ13_newCapacity 44 = .ok (.dup, 1) := dk_89 (dk_at dksJ13_newCapacity_1 20 rfl rfl)
theorem dJ13_newCapacity_45 : decode cJ13_newCapacity 45 = .ok (.ldc 122, 2) := dk_18 122 (dk_at dksJ13_newCapacity_1 21 rfl rfl)
theorem dJ13_newCapacity_47 : decode cJ13_newCapacity 47 = .ok (.invokespecial 124, 3) := dk_183 0 124 (dk_at dksJ13_newCapacity_2 0 rfl rfl)
theorem dJ13_newCapacity_50 : decode cJ13_newCapacity 50 = .ok (.athrow, 1) := dk_191 (dk_at dksJ13_newCapacity_2 3 rfl rfl)
theorem dJ13_newCapacity_51 : decode cJ13_newCapacity 51 = .ok (.iload 5, 2) := dk_21 5 (dk_at dksJ13_newCapacity_2 4 rfl rfl)
theorem dJ13_newCapacity_53 : decode cJ13_newCapacity 53 = .ok (.aload_n 0, 1) := dk_42 (dk_at dksJ13_newCapacity_2 6 rfl rfl)
theorem dJ13_newCapacity_54 : decode cJ13_newCapacity 54 = .ok (.getfield 22, 3) := dk_180 0 22 (dk_at dksJ13_newCapacity_2 7 rfl rfl)
theorem dJ13_newCapacity_57 : decode cJ13_newCapacity 57 = .ok (.ishr, 1) := dk_122 (dk_at dksJ13_newCapacity_2 10 rfl rfl)
theorem dJ13_newCapacity_58 : decode cJ13_newCapacity 58 = .ok (.ireturn, 1) := dk_172 (dk_at dksJ13_newCapacity_2 11 rfl rfl)
abbrev cJ13_append_2 : ByteArray := prog_6_method_31_code
def yJ13_append_2 : MethodName := ⟨RJ13, "append", "(C)Ljava/lang/AbstractStringBuilder;"⟩
def dkwJ13_append_2_3 : List UInt8 := [181, 0, 79, 27, 184, 0, 197, 42, 176]
abbrev dktJ13_append_2_3 : List UInt8 := dkwJ13_append_2_3 ++ []
def dkwJ13_append_2_2 : List UInt8 := [182, 0, 83, 153, 0, 7, 42, 182, 0, 195, 42, 180, 0, 15, 42, 89, 180, 0, 79, 90, 4, 96]
abbrev dktJ13_append_2_2 : List UInt8 := dkwJ13_append_2_2 ++ dktJ13_append_2_3
def dkwJ13_append_2_1 : List UInt8 := [42, 180, 0, 15, 42, 89, 180, 0, 79, 90, 4, 96, 181, 0, 79, 27, 145, 84, 167, 0, 33, 42]
abbrev dktJ13_append_2_1 : List UInt8 := dkwJ13_append_2_1 ++ dktJ13_append_2_2
def dkwJ13_append_2_0 : List UInt8 := [42, 42, 180, 0, 79, 4, 96, 182, 0, 100, 42, 182, 0, 83, 153, 0, 31, 27, 184, 0, 191, 153, 0, 24]
abbrev dktJ13_append_2_0 : List UInt8 := dkwJ13_append_2_0 ++ dktJ13_append_2_1
theorem dksJ13_append_2_0 : cJ13_append_2.data.toList.drop 0 = dktJ13_append_2_0 := by decide +kernel
theorem dksJ13_append_2_1 : cJ13_append_2.data.toList.drop 24 = dktJ13_append_2_1 := dk_seg dksJ13_append_2_0 24 rfl rfl
theorem dksJ13_append_2_2 : cJ13_append_2.data.toList.drop 46 = dktJ13_append_2_2 := dk_seg dksJ13_append_2_1 22 rfl rfl
theorem dksJ13_append_2_3 : cJ13_append_2.data.toList.drop 68 = dktJ13_append_2_3 := dk_seg dksJ13_append_2_2 22 rfl rfl
theorem dJ13_append_2_0 : decode cJ13_append_2 0 = .ok (.aload_n 0, 1) := dk_42 (dk_at dksJ13_append_2_0 0 rfl rfl)
theorem dJ13_append_2_1 : decode cJ13_append_2 1 = .ok (.aload_n 0, 1) := dk_42 (dk_at dksJ13_append_2_0 1 rfl rfl)
theorem dJ13_append_2_2 : decode cJ13_append_2 2 = .ok (.getfield 79, 3) := dk_180 0 79 (dk_at dksJ13_append_2_0 2 rfl rfl)
theorem dJ13_append_2_5 : decode cJ13_append_2 5 = .ok (.iconst 1, 1) := dk_4 (dk_at dksJ13_append_2_0 5 rfl rfl)
theorem dJ13_append_2_6 : decode cJ13_append_2 6 = .ok (.iadd, 1) := dk_96 (dk_at dksJ13_append_2_0 6 rfl rfl)
theorem dJ13_append_2_7 : decode cJ13_append_2 7 = .ok (.invokevirtual 100, 3) := dk_182 0 100 (dk_at dksJ13_append_2_0 7 rfl rfl)
theorem dJ13_append_2_10 : decode cJ13_append_2 10 = .ok (.aload_n 0, 1) := dk_42 (dk_at dksJ13_append_2_0 10 rfl rfl)
theorem dJ13_append_2_11 : decode cJ13_append_2 11 = .ok (.invokevirtual 83, 3) := dk_182 0 83 (dk_at dksJ13_append_2_0 11 rfl rfl)
theorem dJ13_append_2_14 : decode cJ13_append_2 14 = .ok (.ifCond .eq 31, 3) := dk_153 0 31 (dk_at dksJ13_append_2_0 14 rfl rfl)
theorem dJ13_append_2_17 : decode cJ13_append_2 17 = .ok (.iload_n 1, 1) := dk_27 (dk_at dksJ13_append_2_0 17 rfl rfl)
theorem dJ13_append_2_18 : decode cJ13_append_2 18 = .ok (.invokestatic 191, 3) := dk_184 0 191 (dk_at dksJ13_append_2_0 18 rfl rfl)
theorem dJ13_append_2_21 : decode cJ13_append_2 21 = .ok (.ifCond .eq 24, 3) := dk_153 0 24 (dk_at dksJ13_append_2_0 21 rfl rfl)
theorem dJ13_append_2_24 : decode cJ13_append_2 24 = .ok (.aload_n 0, 1) := dk_42 (dk_at dksJ13_append_2_1 0 rfl rfl)
theorem dJ13_append_2_25 : decode cJ13_append_2 25 = .ok (.getfield 15, 3) := dk_180 0 15 (dk_at dksJ13_append_2_1 1 rfl rfl)
theorem dJ13_append_2_28 : decode cJ13_append_2 28 = .ok (.aload_n 0, 1) := dk_42 (dk_at dksJ13_append_2_1 4 rfl rfl)
theorem dJ13_append_2_29 : decode cJ13_append_2 29 = .ok (.dup, 1) := dk_89 (dk_at dksJ13_append_2_1 5 rfl rfl)
theorem dJ13_append_2_30 : decode cJ13_append_2 30 = .ok (.getfield 79, 3) := dk_180 0 79 (dk_at dksJ13_append_2_1 6 rfl rfl)
theorem dJ13_append_2_33 : decode cJ13_append_2 33 = .ok (.dup_x1, 1) := dk_90 (dk_at dksJ13_append_2_1 9 rfl rfl)
theorem dJ13_append_2_34 : decode cJ13_append_2 34 = .ok (.iconst 1, 1) := dk_4 (dk_at dksJ13_append_2_1 10 rfl rfl)
theorem dJ13_append_2_35 : decode cJ13_append_2 35 = .ok (.iadd, 1) := dk_96 (dk_at dksJ13_append_2_1 11 rfl rfl)
theorem dJ13_append_2_36 : decode cJ13_append_2 36 = .ok (.putfield 79, 3) := dk_181 0 79 (dk_at dksJ13_append_2_1 12 rfl rfl)
theorem dJ13_append_2_39 : decode cJ13_append_2 39 = .ok (.iload_n 1, 1) := dk_27 (dk_at dksJ13_append_2_1 15 rfl rfl)
theorem dJ13_append_2_40 : decode cJ13_append_2 40 = .ok (.i2b, 1) := dk_145 (dk_at dksJ13_append_2_1 16 rfl rfl)
theorem dJ13_append_2_41 : decode cJ13_append_2 41 = .ok (.bastore, 1) := dk_84 (dk_at dksJ13_append_2_1 17 rfl rfl)
theorem dJ13_append_2_42 : decode cJ13_append_2 42 = .ok (.goto 33, 3) := dk_167 0 33 (dk_at dksJ13_append_2_1 18 rfl rfl)
theorem dJ13_append_2_45 : decode cJ13_append_2 45 = .ok (.aload_n 0, 1) := dk_42 (dk_at dksJ13_append_2_1 21 rfl rfl)
theorem dJ13_append_2_46 : decode cJ13_append_2 46 = .ok (.invokevirtual 83, 3) := dk_182 0 83 (dk_at dksJ13_append_2_2 0 rfl rfl)
theorem dJ13_append_2_49 : decode cJ13_append_2 49 = .ok (.ifCond .eq 7, 3) := dk_153 0 7 (dk_at dksJ13_append_2_2 3 rfl rfl)
theorem dJ13_append_2_52 : decode cJ13_append_2 52 = .ok (.aload_n 0, 1) := dk_42 (dk_at dksJ13_append_2_2 6 rfl rfl)
theorem dJ13_append_2_53 : decode cJ13_append_2 53 = .ok (.invokevirtual 195, 3) := dk_182 0 195 (dk_at dksJ13_append_2_2 7 rfl rfl)
theorem dJ13_append_2_56 : decode cJ13_append_2 56 = .ok (.aload_n 0, 1) := dk_42 (dk_at dksJ13_append_2_2 10 rfl rfl)
theorem dJ13_append_2_57 : decode cJ13_append_2 57 = .ok (.getfield 15, 3) := dk_180 0 15 (dk_at dksJ13_append_2_2 11 rfl rfl)
theorem dJ13_append_2_60 : decode cJ13_append_2 60 = .ok (.aload_n 0, 1) := dk_42 (dk_at dksJ13_append_2_2 14 rfl rfl)
theorem dJ13_append_2_61 : decode cJ13_append_2 61 = .ok (.dup, 1) := dk_89 (dk_at dksJ13_append_2_2 15 rfl rfl)
theorem dJ13_append_2_62 : decode cJ13_append_2 62 = .ok (.getfield 79, 3) := dk_180 0 79 (dk_at dksJ13_append_2_2 16 rfl rfl)
theorem dJ13_append_2_65 : decode cJ13_append_2 65 = .ok (.dup_x1, 1) := dk_90 (dk_at dksJ13_append_2_2 19 rfl rfl)
theorem dJ13_append_2_66 : decode cJ13_append_2 66 = .ok (.iconst 1, 1) := dk_4 (dk_at dksJ13_append_2_2 20 rfl rfl)
theorem dJ13_append_2_67 : decode cJ13_append_2 67 = .ok (.iadd, 1) := dk_96 (dk_at dksJ13_append_2_2 21 rfl rfl)
theorem dJ13_append_2_68 : decode cJ13_append_2 68 = .ok (.putfield 79, 3) := dk_181 0 79 (dk_at dksJ13_append_2_3 0 rfl rfl)
theorem dJ13_append_2_71 : decode cJ13_append_2 71 = .ok (.iload_n 1, 1) := dk_27 (dk_at dksJ13_append_2_3 3 rfl rfl)
theorem dJ13_append_2_72 : decode cJ13_append_2 72 = .ok (.invokestatic 197, 3) := dk_184 0 197 (dk_at dksJ13_append_2_3 4 rfl rfl)
theorem dJ13_append_2_75 : decode cJ13_append_2 75 = .ok (.aload_n 0, 1) := dk_42 (dk_at dksJ13_append_2_3 7 rfl rfl)
theorem dJ13_append_2_76 : decode cJ13_append_2 76 = .ok (.areturn, 1) := dk_176 (dk_at dksJ13_append_2_3 8 rfl rfl)
abbrev cJ13_inflate : ByteArray := prog_6_method_11_code
def yJ13_inflate : MethodName := ⟨RJ13, "inflate", "()V"⟩
def dkwJ13_inflate_1 : List UInt8 := [42, 180, 0, 79, 184, 0, 125, 42, 43, 181, 0, 15, 42, 4, 181, 0, 22, 177]
abbrev dktJ13_inflate_1 : List UInt8 := dkwJ13_inflate_1 ++ []
def dkwJ13_inflate_0 : List UInt8 := [42, 182, 0, 83, 154, 0, 4, 177, 42, 180, 0, 15, 190, 184, 0, 26, 76, 42, 180, 0, 15, 3, 43, 3]
abbrev dktJ13_inflate_0 : List UInt8 := dkwJ13_inflate_0 ++ dktJ13_inflate_1
theorem dksJ13_inflate_0 : cJ13_inflate.data.toList.drop 0 = dktJ13_inflate_0 := by decide +kernel
theorem dksJ13_inflate_1 : cJ13_inflate.data.toList.drop 24 = dktJ13_inflate_1 := dk_seg dksJ13_inflate_0 24 rfl rfl
theorem dJ13_inflate_0 : decode cJ13_inflate 0 = .ok (.aload_n 0, 1) := dk_42 (dk_at dksJ13_inflate_0 0 rfl rfl)
theorem dJ13_inflate_1 : decode cJ13_inflate 1 = .ok (.invokevirtual 83, 3) := dk_182 0 83 (dk_at dksJ13_inflate_0 1 rfl rfl)
theorem dJ13_inflate_4 : decode cJ13_inflate 4 = .ok (.ifCond .ne 4, 3) := dk_154 0 4 (dk_at dksJ13_inflate_0 4 rfl rfl)
theorem dJ13_inflate_7 : decode cJ13_inflate 7 = .ok (.return_, 1) := dk_177 (dk_at dksJ13_inflate_0 7 rfl rfl)
theorem dJ13_inflate_8 : decode cJ13_inflate 8 = .ok (.aload_n 0, 1) := dk_42 (dk_at dksJ13_inflate_0 8 rfl rfl)
theorem dJ13_inflate_9 : decode cJ13_inflate 9 = .ok (.getfield 15, 3) := dk_180 0 15 (dk_at dksJ13_inflate_0 9 rfl rfl)
theorem dJ13_inflate_12 : decode cJ13_inflate 12 = .ok (.arraylength, 1) := dk_190 (dk_at dksJ13_inflate_0 12 rfl rfl)
theorem dJ13_inflate_13 : decode cJ13_inflate 13 = .ok (.invokestatic 26, 3) := dk_184 0 26 (dk_at dksJ13_inflate_0 13 rfl rfl)
theorem dJ13_inflate_16 : decode cJ13_inflate 16 = .ok (.astore_n 1, 1) := dk_76 (dk_at dksJ13_inflate_0 16 rfl rfl)
theorem dJ13_inflate_17 : decode cJ13_inflate 17 = .ok (.aload_n 0, 1) := dk_42 (dk_at dksJ13_inflate_0 17 rfl rfl)
theorem dJ13_inflate_18 : decode cJ13_inflate 18 = .ok (.getfield 15, 3) := dk_180 0 15 (dk_at dksJ13_inflate_0 18 rfl rfl)
theorem dJ13_inflate_21 : decode cJ13_inflate 21 = .ok (.iconst 0, 1) := dk_3 (dk_at dksJ13_inflate_0 21 rfl rfl)
theorem dJ13_inflate_22 : decode cJ13_inflate 22 = .ok (.aload_n 1, 1) := dk_43 (dk_at dksJ13_inflate_0 22 rfl rfl)
theorem dJ13_inflate_23 : decode cJ13_inflate 23 = .ok (.iconst 0, 1) := dk_3 (dk_at dksJ13_inflate_0 23 rfl rfl)
theorem dJ13_inflate_24 : decode cJ13_inflate 24 = .ok (.aload_n 0, 1) := dk_42 (dk_at dksJ13_inflate_1 0 rfl rfl)
theorem dJ13_inflate_25 : decode cJ13_inflate 25 = .ok (.getfield 79, 3) := dk_180 0 79 (dk_at dksJ13_inflate_1 1 rfl rfl)
theorem dJ13_inflate_28 : decode cJ13_inflate 28 = .ok (.invokestatic 125, 3) := dk_184 0 125 (dk_at dksJ13_inflate_1 4 rfl rfl)
theorem dJ13_inflate_31 : decode cJ13_inflate 31 = .ok (.aload_n 0, 1) := dk_42 (dk_at dksJ13_inflate_1 7 rfl rfl)
theorem dJ13_inflate_32 : decode cJ13_inflate 32 = .ok (.aload_n 1, 1) := dk_43 (dk_at dksJ13_inflate_1 8 rfl rfl)
theorem dJ13_inflate_33 : decode cJ13_inflate 33 = .ok (.putfield 15, 3) := dk_181 0 15 (dk_at dksJ13_inflate_1 9 rfl rfl)
theorem dJ13_inflate_36 : decode cJ13_inflate 36 = .ok (.aload_n 0, 1) := dk_42 (dk_at dksJ13_inflate_1 12 rfl rfl)
theorem dJ13_inflate_37 : decode cJ13_inflate 37 = .ok (.iconst 1, 1) := dk_4 (dk_at dksJ13_inflate_1 13 rfl rfl)
theorem dJ13_inflate_38 : decode cJ13_inflate 38 = .ok (.putfield 22, 3) := dk_181 0 22 (dk_at dksJ13_inflate_1 14 rfl rfl)
theorem dJ13_inflate_41 : decode cJ13_inflate 41 = .ok (.return_, 1) := dk_177 (dk_at dksJ13_inflate_1 17 rfl rfl)
abbrev cJ13_append_3 : ByteArray := prog_6_method_33_code
def yJ13_append_3 : MethodName := ⟨RJ13, "append", "(J)Ljava/lang/AbstractStringBuilder;"⟩
def dkwJ13_append_3_2 : List UInt8 := [180, 0, 15, 184, 1, 6, 87, 42, 21, 4, 181, 0, 79, 42, 176]
abbrev dktJ13_append_3_2 : List UInt8 := dkwJ13_append_3_2 ++ []
def dkwJ13_append_3_1 : List UInt8 := [153, 0, 17, 31, 21, 4, 42, 180, 0, 15, 184, 1, 3, 87, 167, 0, 15, 31, 29, 21, 4, 42]
abbrev dktJ13_append_3_1 : List UInt8 := dkwJ13_append_3_1 ++ dktJ13_append_3_2
def dkwJ13_append_3_0 : List UInt8 := [42, 180, 0, 79, 62, 29, 31, 184, 0, 254, 96, 54, 4, 42, 21, 4, 182, 0, 100, 42, 182, 0, 83]
abbrev dktJ13_append_3_0 : List UInt8 := dkwJ13_append_3_0 ++ dktJ13_append_3_1
theorem dksJ13_append_3_0 : cJ13_append_3.data.toList.drop 0 = dktJ13_append_3_0 := by decide +kernel
theorem dksJ13_append_3_1 : cJ13_append_3.data.toList.drop 23 = dktJ13_append_3_1 := dk_seg dksJ13_append_3_0 23 rfl rfl
theorem dksJ13_append_3_2 : cJ13_append_3.data.toList.drop 45 = dktJ13_append_3_2 := dk_seg dksJ13_append_3_1 22 rfl rfl
theorem dJ13_append_3_0 : decode cJ13_append_3 0 = .ok (.aload_n 0, 1) := dk_42 (dk_at dksJ13_append_3_0 0 rfl rfl)
theorem dJ13_append_3_1 : decode cJ13_append_3 1 = .ok (.getfield 79, 3) := dk_180 0 79 (dk_at dksJ13_append_3_0 1 rfl rfl)
theorem dJ13_append_3_4 : decode cJ13_append_3 4 = .ok (.istore_n 3, 1) := dk_62 (dk_at dksJ13_append_3_0 4 rfl rfl)
theorem dJ13_append_3_5 : decode cJ13_append_3 5 = .ok (.iload_n 3, 1) := dk_29 (dk_at dksJ13_append_3_0 5 rfl rfl)
theorem dJ13_append_3_6 : decode cJ13_append_3 6 = .ok (.lload_n 1, 1) := dk_31 (dk_at dksJ13_append_3_0 6 rfl rfl)
theorem dJ13_append_3_7 : decode cJ13_append_3 7 = .ok (.invokestatic 254, 3) := dk_184 0 254 (dk_at dksJ13_append_3_0 7 rfl rfl)
theorem dJ13_append_3_10 : decode cJ13_append_3 10 = .ok (.iadd, 1) := dk_96 (dk_at dksJ13_append_3_0 10 rfl rfl)
theorem dJ13_append_3_11 : decode cJ13_append_3 11 = .ok (.istore 4, 2) := dk_54 4 (dk_at dksJ13_append_3_0 11 rfl rfl)
theorem dJ13_append_3_13 : decode cJ13_append_3 13 = .ok (.aload_n 0, 1) := dk_42 (dk_at dksJ13_append_3_0 13 rfl rfl)
theorem dJ13_append_3_14 : decode cJ13_append_3 14 = .ok (.iload 4, 2) := dk_21 4 (dk_at dksJ13_append_3_0 14 rfl rfl)
theorem dJ13_append_3_16 : decode cJ13_append_3 16 = .ok (.invokevirtual 100, 3) := dk_182 0 100 (dk_at dksJ13_append_3_0 16 rfl rfl)
theorem dJ13_append_3_19 : decode cJ13_append_3 19 = .ok (.aload_n 0, 1) := dk_42 (dk_at dksJ13_append_3_0 19 rfl rfl)
theorem dJ13_append_3_20 : decode cJ13_append_3 20 = .ok (.invokevirtual 83, 3) := dk_182 0 83 (dk_at dksJ13_append_3_0 20 rfl rfl)
theorem dJ13_append_3_23 : decode cJ13_append_3 23 = .ok (.ifCond .eq 17, 3) := dk_153 0 17 (dk_at dksJ13_append_3_1 0 rfl rfl)
theorem dJ13_append_3_26 : decode cJ13_append_3 26 = .ok (.lload_n 1, 1) := dk_31 (dk_at dksJ13_append_3_1 3 rfl rfl)
theorem dJ13_append_3_27 : decode cJ13_append_3 27 = .ok (.iload 4, 2) := dk_21 4 (dk_at dksJ13_append_3_1 4 rfl rfl)
theorem dJ13_append_3_29 : decode cJ13_append_3 29 = .ok (.aload_n 0, 1) := dk_42 (dk_at dksJ13_append_3_1 6 rfl rfl)
theorem dJ13_append_3_30 : decode cJ13_append_3 30 = .ok (.getfield 15, 3) := dk_180 0 15 (dk_at dksJ13_append_3_1 7 rfl rfl)
theorem dJ13_append_3_33 : decode cJ13_append_3 33 = .ok (.invokestatic 259, 3) := dk_184 1 3 (dk_at dksJ13_append_3_1 10 rfl rfl)
theorem dJ13_append_3_36 : decode cJ13_append_3 36 = .ok (.pop, 1) := dk_87 (dk_at dksJ13_append_3_1 13 rfl rfl)
theorem dJ13_append_3_37 : decode cJ13_append_3 37 = .ok (.goto 15, 3) := dk_167 0 15 (dk_at dksJ13_append_3_1 14 rfl rfl)
theorem dJ13_append_3_40 : decode cJ13_append_3 40 = .ok (.lload_n 1, 1) := dk_31 (dk_at dksJ13_append_3_1 17 rfl rfl)
theorem dJ13_append_3_41 : decode cJ13_append_3 41 = .ok (.iload_n 3, 1) := dk_29 (dk_at dksJ13_append_3_1 18 rfl rfl)
theorem dJ13_append_3_42 : decode cJ13_append_3 42 = .ok (.iload 4, 2) := dk_21 4 (dk_at dksJ13_append_3_1 19 rfl rfl)
theorem dJ13_append_3_44 : decode cJ13_append_3 44 = .ok (.aload_n 0, 1) := dk_42 (dk_at dksJ13_append_3_1 21 rfl rfl)
theorem dJ13_append_3_45 : decode cJ13_append_3 45 = .ok (.getfield 15, 3) := dk_180 0 15 (dk_at dksJ13_append_3_2 0 rfl rfl)
theorem dJ13_append_3_48 : decode cJ13_append_3 48 = .ok (.invokestatic 262, 3) := dk_184 1 6 (dk_at dksJ13_append_3_2 3 rfl rfl)
theorem dJ13_append_3_51 : decode cJ13_append_3 51 = .ok (.pop, 1) := dk_87 (dk_at dksJ13_append_3_2 6 rfl rfl)
theorem dJ13_append_3_52 : decode cJ13_append_3 52 = .ok (.aload_n 0, 1) := dk_42 (dk_at dksJ13_append_3_2 7 rfl rfl)
theorem dJ13_append_3_53 : decode cJ13_append_3 53 = .ok (.iload 4, 2) := dk_21 4 (dk_at dksJ13_append_3_2 8 rfl rfl)
theorem dJ13_append_3_55 : decode cJ13_append_3 55 = .ok (.putfield 79, 3) := dk_181 0 79 (dk_at dksJ13_append_3_2 10 rfl rfl)
theorem dJ13_append_3_58 : decode cJ13_append_3 58 = .ok (.aload_n 0, 1) := dk_42 (dk_at dksJ13_append_3_2 13 rfl rfl)
theorem dJ13_append_3_59 : decode cJ13_append_3 59 = .ok (.areturn, 1) := dk_176 (dk_at dksJ13_append_3_2 14 rfl rfl)
abbrev cJ13_getValue : ByteArray := prog_6_method_64_code
def yJ13_getValue : MethodName := ⟨RJ13, "getValue", "()[B"⟩
theorem dJ13_getValue_0 : decode cJ13_getValue 0 = .ok (.aload_n 0, 1) := by decide +kernel
theorem dJ13_getValue_1 : decode cJ13_getValue 1 = .ok (.getfield 15, 3) := by decide +kernel
theorem dJ13_getValue_4 : decode cJ13_getValue 4 = .ok (.areturn, 1) := by decide +kernel
abbrev cJ13_length : ByteArray := prog_6_method_6_code
def yJ13_length : MethodName := ⟨RJ13, "length", "()I"⟩
theorem dJ13_length_0 : decode cJ13_length 0 = .ok (.aload_n 0, 1) := by decide +kernel
theorem dJ13_length_1 : decode cJ13_length 1 = .ok (.getfield 79, 3) := by decide +kernel
theorem dJ13_length_4 : decode cJ13_length 4 = .ok (.ireturn, 1) := by decide +kernel
abbrev cJ13_append_4 : ByteArray := prog_6_method_22_code
def yJ13_append_4 : MethodName := ⟨RJ13, "append", "(Ljava/lang/String;)Ljava/lang/AbstractStringBuilder;"⟩
def dkwJ13_append_4_1 : List UInt8 := [42, 42, 180, 0, 79, 43, 182, 0, 208, 42, 89, 180, 0, 79, 28, 96, 181, 0, 79, 42, 176]
abbrev dktJ13_append_4_1 : List UInt8 := dkwJ13_append_4_1 ++ []
def dkwJ13_append_4_0 : List UInt8 := [43, 199, 0, 8, 42, 182, 0, 204, 176, 43, 182, 0, 32, 61, 42, 42, 180, 0, 79, 28, 96, 182, 0, 100]
abbrev dktJ13_append_4_0 : List UInt8 := dkwJ13_append_4_0 ++ dktJ13_append_4_1
theorem dksJ13_append_4_0 : cJ13_append_4.data.toList.drop 0 = dktJ13_append_4_0 := by decide +kernel
theorem dksJ13_append_4_1 : cJ13_append_4.data.toList.drop 24 = dktJ13_append_4_1 := dk_seg dksJ13_append_4_0 24 rfl rfl
theorem dJ13_append_4_0 : decode cJ13_append_4 0 = .ok (.aload_n 1, 1) := dk_43 (dk_at dksJ13_append_4_0 0 rfl rfl)
theorem dJ13_append_4_1 : decode cJ13_append_4 1 = .ok (.ifnonnull 8, 3) := dk_199 0 8 (dk_at dksJ13_append_4_0 1 rfl rfl)
theorem dJ13_append_4_4 : decode cJ13_append_4 4 = .ok (.aload_n 0, 1) := dk_42 (dk_at dksJ13_append_4_0 4 rfl rfl)
theorem dJ13_append_4_5 : decode cJ13_append_4 5 = .ok (.invokevirtual 204, 3) := dk_182 0 204 (dk_at dksJ13_append_4_0 5 rfl rfl)
theorem dJ13_append_4_8 : decode cJ13_append_4 8 = .ok (.areturn, 1) := dk_176 (dk_at dksJ13_append_4_0 8 rfl rfl)
theorem dJ13_append_4_9 : decode cJ13_append_4 9 = .ok (.aload_n 1, 1) := dk_43 (dk_at dksJ13_append_4_0 9 rfl rfl)
theorem dJ13_append_4_10 : decode cJ13_append_4 10 = .ok (.invokevirtual 32, 3) := dk_182 0 32 (dk_at dksJ13_append_4_0 10 rfl rfl)
theorem dJ13_append_4_13 : decode cJ13_append_4 13 = .ok (.istore_n 2, 1) := dk_61 (dk_at dksJ13_append_4_0 13 rfl rfl)
theorem dJ13_append_4_14 : decode cJ13_append_4 14 = .ok (.aload_n 0, 1) := dk_42 (dk_at dksJ13_append_4_0 14 rfl rfl)
theorem dJ13_append_4_15 : decode cJ13_append_4 15 = .ok (.aload_n 0, 1) := dk_42 (dk_at dksJ13_append_4_0 15 rfl rfl)
theorem dJ13_append_4_16 : decode cJ13_append_4 16 = .ok (.getfield 79, 3) := dk_180 0 79 (dk_at dksJ13_append_4_0 16 rfl rfl)
theorem dJ13_append_4_19 : decode cJ13_append_4 19 = .ok (.iload_n 2, 1) := dk_28 (dk_at dksJ13_append_4_0 19 rfl rfl)
theorem dJ13_append_4_20 : decode cJ13_append_4 20 = .ok (.iadd, 1) := dk_96 (dk_at dksJ13_append_4_0 20 rfl rfl)
theorem dJ13_append_4_21 : decode cJ13_append_4 21 = .ok (.invokevirtual 100, 3) := dk_182 0 100 (dk_at dksJ13_append_4_0 21 rfl rfl)
theorem dJ13_append_4_24 : decode cJ13_append_4 24 = .ok (.aload_n 0, 1) := dk_42 (dk_at dksJ13_append_4_1 0 rfl rfl)
theorem dJ13_append_4_25 : decode cJ13_append_4 25 = .ok (.aload_n 0, 1) := dk_42 (dk_at dksJ13_append_4_1 1 rfl rfl)
theorem dJ13_append_4_26 : decode cJ13_append_4 26 = .ok (.getfield 79, 3) := dk_180 0 79 (dk_at dksJ13_append_4_1 2 rfl rfl)
theorem dJ13_append_4_29 : decode cJ13_append_4 29 = .ok (.aload_n 1, 1) := dk_43 (dk_at dksJ13_append_4_1 5 rfl rfl)
theorem dJ13_append_4_30 : decode cJ13_append_4 30 = .ok (.invokevirtual 208, 3) := dk_182 0 208 (dk_at dksJ13_append_4_1 6 rfl rfl)
theorem dJ13_append_4_33 : decode cJ13_append_4 33 = .ok (.aload_n 0, 1) := dk_42 (dk_at dksJ13_append_4_1 9 rfl rfl)
theorem dJ13_append_4_34 : decode cJ13_append_4 34 = .ok (.dup, 1) := dk_89 (dk_at dksJ13_append_4_1 10 rfl rfl)
theorem dJ13_append_4_35 : decode cJ13_append_4 35 = .ok (.getfield 79, 3) := dk_180 0 79 (dk_at dksJ13_append_4_1 11 rfl rfl)
theorem dJ13_append_4_38 : decode cJ13_append_4 38 = .ok (.iload_n 2, 1) := dk_28 (dk_at dksJ13_append_4_1 14 rfl rfl)
theorem dJ13_append_4_39 : decode cJ13_append_4 39 = .ok (.iadd, 1) := dk_96 (dk_at dksJ13_append_4_1 15 rfl rfl)
theorem dJ13_append_4_40 : decode cJ13_append_4 40 = .ok (.putfield 79, 3) := dk_181 0 79 (dk_at dksJ13_append_4_1 16 rfl rfl)
theorem dJ13_append_4_43 : decode cJ13_append_4 43 = .ok (.aload_n 0, 1) := dk_42 (dk_at dksJ13_append_4_1 19 rfl rfl)
theorem dJ13_append_4_44 : decode cJ13_append_4 44 = .ok (.areturn, 1) := dk_176 (dk_at dksJ13_append_4_1 20 rfl rfl)
abbrev cJ13_appendNull : ByteArray := prog_6_method_26_code
def yJ13_appendNull : MethodName := ⟨RJ13, "appendNull", "()Ljava/lang/AbstractStringBuilder;"⟩
def dkwJ13_appendNull_3 : List UInt8 := [184, 0, 226, 60, 42, 27, 181, 0, 79, 42, 176]
abbrev dktJ13_appendNull_3 : List UInt8 := dkwJ13_appendNull_3 ++ []
def dkwJ13_appendNull_2 : List UInt8 := [16, 108, 84, 44, 27, 132, 1, 1, 16, 108, 84, 167, 0, 17, 44, 27, 16, 110, 16, 117, 16, 108, 16, 108]
abbrev dktJ13_appendNull_2 : List UInt8 := dkwJ13_appendNull_2 ++ dktJ13_appendNull_3
def dkwJ13_appendNull_1 : List UInt8 := [153, 0, 38, 44, 27, 132, 1, 1, 16, 110, 84, 44, 27, 132, 1, 1, 16, 117, 84, 44, 27, 132, 1, 1]
abbrev dktJ13_appendNull_1 : List UInt8 := dkwJ13_appendNull_1 ++ dktJ13_appendNull_2
def dkwJ13_appendNull_0 : List UInt8 := [42, 42, 180, 0, 79, 7, 96, 182, 0, 100, 42, 180, 0, 79, 60, 42, 180, 0, 15, 77, 42, 182, 0, 83]
abbrev dktJ13_appendNull_0 : List UInt8 := dkwJ13_appendNull_0 ++ dktJ13_appendNull_1
theorem dksJ13_appendNull_0 : cJ13_appendNull.data.toList.drop 0 = dktJ13_appendNull_0 := by decide +kernel
theorem dksJ13_appendNull_1 : cJ13_appendNull.data.toList.drop 24 = dktJ13_appendNull_1 := dk_seg dksJ13_appendNull_0 24 rfl rfl
theorem dksJ13_appendNull_2 : cJ13_appendNull.data.toList.drop 48 = dktJ13_appendNull_2 := dk_seg dksJ13_appendNull_1 24 rfl rfl
theorem dksJ13_appendNull_3 : cJ13_appendNull.data.toList.drop 72 = dktJ13_appendNull_3 := dk_seg dksJ13_appendNull_2 24 rfl rfl
theorem dJ13_appendNull_0 : decode cJ13_appendNull 0 = .ok (.aload_n 0, 1) := dk_42 (dk_at dksJ13_appendNull_0 0 rfl rfl)
theorem dJ13_appendNull_1 : decode cJ13_appendNull 1 = .ok (.aload_n 0, 1) := dk_42 (dk_at dksJ13_appendNull_0 1 rfl rfl)
theorem dJ13_appendNull_2 : decode cJ13_appendNull 2 = .ok (.getfield 79, 3) := dk_180 0 79 (dk_at dksJ13_appendNull_0 2 rfl rfl)
theorem dJ13_appendNull_5 : decode cJ13_appendNull 5 = .ok (.iconst 4, 1) := dk_7 (dk_at dksJ13_appendNull_0 5 rfl rfl)
theorem dJ13_appendNull_6 : decode cJ13_appendNull 6 = .ok (.iadd, 1) := dk_96 (dk_at dksJ13_appendNull_0 6 rfl rfl)
theorem dJ13_appendNull_7 : decode cJ13_appendNull 7 = .ok (.invokevirtual 100, 3) := dk_182 0 100 (dk_at dksJ13_appendNull_0 7 rfl rfl)
theorem dJ13_appendNull_10 : decode cJ13_appendNull 10 = .ok (.aload_n 0, 1) := dk_42 (dk_at dksJ13_appendNull_0 10 rfl rfl)
theorem dJ13_appendNull_11 : decode cJ13_appendNull 11 = .ok (.getfield 79, 3) := dk_180 0 79 (dk_at dksJ13_appendNull_0 11 rfl rfl)
theorem dJ13_appendNull_14 : decode cJ13_appendNull 14 = .ok (.istore_n 1, 1) := dk_60 (dk_at dksJ13_appendNull_0 14 rfl rfl)
theorem dJ13_appendNull_15 : decode cJ13_appendNull 15 = .ok (.aload_n 0, 1) := dk_42 (dk_at dksJ13_appendNull_0 15 rfl rfl)
theorem dJ13_appendNull_16 : decode cJ13_appendNull 16 = .ok (.getfield 15, 3) := dk_180 0 15 (dk_at dksJ13_appendNull_0 16 rfl rfl)
theorem dJ13_appendNull_19 : decode cJ13_appendNull 19 = .ok (.astore_n 2, 1) := dk_77 (dk_at dksJ13_appendNull_0 19 rfl rfl)
theorem dJ13_appendNull_20 : decode cJ13_appendNull 20 = .ok (.aload_n 0, 1) := dk_42 (dk_at dksJ13_appendNull_0 20 rfl rfl)
theorem dJ13_appendNull_21 : decode cJ13_appendNull 21 = .ok (.invokevirtual 83, 3) := dk_182 0 83 (dk_at dksJ13_appendNull_0 21 rfl rfl)
theorem dJ13_appendNull_24 : decode cJ13_appendNull 24 = .ok (.ifCond .eq 38, 3) := dk_153 0 38 (dk_at dksJ13_appendNull_1 0 rfl rfl)
theorem dJ13_appendNull_27 : decode cJ13_appendNull 27 = .ok (.aload_n 2, 1) := dk_44 (dk_at dksJ13_appendNull_1 3 rfl rfl)
theorem dJ13_appendNull_28 : decode cJ13_appendNull 28 = .ok (.iload_n 1, 1) := dk_27 (dk_at dksJ13_appendNull_1 4 rfl rfl)
theorem dJ13_appendNull_29 : decode cJ13_appendNull 29 = .ok (.iinc 1 1, 3) := dk_132 1 1 (dk_at dksJ13_appendNull_1 5 rfl rfl)
theorem dJ13_appendNull_32 : decode cJ13_appendNull 32 = .ok (.bipush 110, 2) := dk_16 110 (dk_at dksJ13_appendNull_1 8 rfl rfl)
theorem dJ13_appendNull_34 : decode cJ13_appendNull 34 = .ok (.bastore, 1) := dk_84 (dk_at dksJ13_appendNull_1 10 rfl rfl)
theorem dJ13_appendNull_35 : decode cJ13_appendNull 35 = .ok (.aload_n 2, 1) := dk_44 (dk_at dksJ13_appendNull_1 11 rfl rfl)
theorem dJ13_appendNull_36 : decode cJ13_appendNull 36 = .ok (.iload_n 1, 1) := dk_27 (dk_at dksJ13_appendNull_1 12 rfl rfl)
theorem dJ13_appendNull_37 : decode cJ13_appendNull 37 = .ok (.iinc 1 1, 3) := dk_132 1 1 (dk_at dksJ13_appendNull_1 13 rfl rfl)
theorem dJ13_appendNull_40 : decode cJ13_appendNull 40 = .ok (.bipush 117, 2) := dk_16 117 (dk_at dksJ13_appendNull_1 16 rfl rfl)
theorem dJ13_appendNull_42 : decode cJ13_appendNull 42 = .ok (.bastore, 1) := dk_84 (dk_at dksJ13_appendNull_1 18 rfl rfl)
theorem dJ13_appendNull_43 : decode cJ13_appendNull 43 = .ok (.aload_n 2, 1) := dk_44 (dk_at dksJ13_appendNull_1 19 rfl rfl)
theorem dJ13_appendNull_44 : decode cJ13_appendNull 44 = .ok (.iload_n 1, 1) := dk_27 (dk_at dksJ13_appendNull_1 20 rfl rfl)
theorem dJ13_appendNull_45 : decode cJ13_appendNull 45 = .ok (.iinc 1 1, 3) := dk_132 1 1 (dk_at dksJ13_appendNull_1 21 rfl rfl)
theorem dJ13_appendNull_48 : decode cJ13_appendNull 48 = .ok (.bipush 108, 2) := dk_16 108 (dk_at dksJ13_appendNull_2 0 rfl rfl)
theorem dJ13_appendNull_50 : decode cJ13_appendNull 50 = .ok (.bastore, 1) := dk_84 (dk_at dksJ13_appendNull_2 2 rfl rfl)
theorem dJ13_appendNull_51 : decode cJ13_appendNull 51 = .ok (.aload_n 2, 1) := dk_44 (dk_at dksJ13_appendNull_2 3 rfl rfl)
theorem dJ13_appendNull_52 : decode cJ13_appendNull 52 = .ok (.iload_n 1, 1) := dk_27 (dk_at dksJ13_appendNull_2 4 rfl rfl)
theorem dJ13_appendNull_53 : decode cJ13_appendNull 53 = .ok (.iinc 1 1, 3) := dk_132 1 1 (dk_at dksJ13_appendNull_2 5 rfl rfl)
theorem dJ13_appendNull_56 : decode cJ13_appendNull 56 = .ok (.bipush 108, 2) := dk_16 108 (dk_at dksJ13_appendNull_2 8 rfl rfl)
theorem dJ13_appendNull_58 : decode cJ13_appendNull 58 = .ok (.bastore, 1) := dk_84 (dk_at dksJ13_appendNull_2 10 rfl rfl)
theorem dJ13_appendNull_59 : decode cJ13_appendNull 59 = .ok (.goto 17, 3) := dk_167 0 17 (dk_at dksJ13_appendNull_2 11 rfl rfl)
theorem dJ13_appendNull_62 : decode cJ13_appendNull 62 = .ok (.aload_n 2, 1) := dk_44 (dk_at dksJ13_appendNull_2 14 rfl rfl)
theorem dJ13_appendNull_63 : decode cJ13_appendNull 63 = .ok (.iload_n 1, 1) := dk_27 (dk_at dksJ13_appendNull_2 15 rfl rfl)
theorem dJ13_appendNull_64 : decode cJ13_appendNull 64 = .ok (.bipush 110, 2) := dk_16 110 (dk_at dksJ13_appendNull_2 16 rfl rfl)
theorem dJ13_appendNull_66 : decode cJ13_appendNull 66 = .ok (.bipush 117, 2) := dk_16 117 (dk_at dksJ13_appendNull_2 18 rfl rfl)
theorem dJ13_appendNull_68 : decode cJ13_appendNull 68 = .ok (.bipush 108, 2) := dk_16 108 (dk_at dksJ13_appendNull_2 20 rfl rfl)
theorem dJ13_appendNull_70 : decode cJ13_appendNull 70 = .ok (.bipush 108, 2) := dk_16 108 (dk_at dksJ13_appendNull_2 22 rfl rfl)
theorem dJ13_appendNull_72 : decode cJ13_appendNull 72 = .ok (.invokestatic 226, 3) := dk_184 0 226 (dk_at dksJ13_appendNull_3 0 rfl rfl)
theorem dJ13_appendNull_75 : decode cJ13_appendNull 75 = .ok (.istore_n 1, 1) := dk_60 (dk_at dksJ13_appendNull_3 3 rfl rfl)
theorem dJ13_appendNull_76 : decode cJ13_appendNull 76 = .ok (.aload_n 0, 1) := dk_42 (dk_at dksJ13_appendNull_3 4 rfl rfl)
theorem dJ13_appendNull_77 : decode cJ13_appendNull 77 = .ok (.iload_n 1, 1) := dk_27 (dk_at dksJ13_appendNull_3 5 rfl rfl)
theorem dJ13_appendNull_78 : decode cJ13_appendNull 78 = .ok (.putfield 79, 3) := dk_181 0 79 (dk_at dksJ13_appendNull_3 6 rfl rfl)
theorem dJ13_appendNull_81 : decode cJ13_appendNull 81 = .ok (.aload_n 0, 1) := dk_42 (dk_at dksJ13_appendNull_3 9 rfl rfl)
theorem dJ13_appendNull_82 : decode cJ13_appendNull 82 = .ok (.areturn, 1) := dk_176 (dk_at dksJ13_appendNull_3 10 rfl rfl)
abbrev cJ13_putStringAt : ByteArray := prog_6_method_73_code
def yJ13_putStringAt : MethodName := ⟨RJ13, "putStringAt", "(ILjava/lang/String;)V"⟩
def dkwJ13_putStringAt_0 : List UInt8 := [42, 44, 182, 1, 141, 44, 42, 180, 0, 15, 27, 42, 180, 0, 22, 182, 1, 143, 177]
abbrev dktJ13_putStringAt_0 : List UInt8 := dkwJ13_putStringAt_0 ++ []
theorem dksJ13_putStringAt_0 : cJ13_putStringAt.data.toList.drop 0 = dktJ13_putStringAt_0 := by decide +kernel
theorem dJ13_putStringAt_0 : decode cJ13_putStringAt 0 = .ok (.aload_n 0, 1) := dk_42 (dk_at dksJ13_putStringAt_0 0 rfl rfl)
theorem dJ13_putStringAt_1 : decode cJ13_putStringAt 1 = .ok (.aload_n 2, 1) := dk_44 (dk_at dksJ13_putStringAt_0 1 rfl rfl)
theorem dJ13_putStringAt_2 : decode cJ13_putStringAt 2 = .ok (.invokevirtual 397, 3) := dk_182 1 141 (dk_at dksJ13_putStringAt_0 2 rfl rfl)
theorem dJ13_putStringAt_5 : decode cJ13_putStringAt 5 = .ok (.aload_n 2, 1) := dk_44 (dk_at dksJ13_putStringAt_0 5 rfl rfl)
theorem dJ13_putStringAt_6 : decode cJ13_putStringAt 6 = .ok (.aload_n 0, 1) := dk_42 (dk_at dksJ13_putStringAt_0 6 rfl rfl)
theorem dJ13_putStringAt_7 : decode cJ13_putStringAt 7 = .ok (.getfield 15, 3) := dk_180 0 15 (dk_at dksJ13_putStringAt_0 7 rfl rfl)
theorem dJ13_putStringAt_10 : decode cJ13_putStringAt 10 = .ok (.iload_n 1, 1) := dk_27 (dk_at dksJ13_putStringAt_0 10 rfl rfl)
theorem dJ13_putStringAt_11 : decode cJ13_putStringAt 11 = .ok (.aload_n 0, 1) := dk_42 (dk_at dksJ13_putStringAt_0 11 rfl rfl)
theorem dJ13_putStringAt_12 : decode cJ13_putStringAt 12 = .ok (.getfield 22, 3) := dk_180 0 22 (dk_at dksJ13_putStringAt_0 12 rfl rfl)
theorem dJ13_putStringAt_15 : decode cJ13_putStringAt 15 = .ok (.invokevirtual 399, 3) := dk_182 1 143 (dk_at dksJ13_putStringAt_0 15 rfl rfl)
theorem dJ13_putStringAt_18 : decode cJ13_putStringAt 18 = .ok (.return_, 1) := dk_177 (dk_at dksJ13_putStringAt_0 18 rfl rfl)
abbrev cJ13_inflateIfNeededFor : ByteArray := prog_6_method_71_code
def yJ13_inflateIfNeededFor : MethodName := ⟨RJ13, "inflateIfNeededFor", "(Ljava/lang/String;)V"⟩
def dkwJ13_inflateIfNeededFor_0 : List UInt8 := [178, 0, 18, 153, 0, 18, 42, 180, 0, 22, 43, 182, 0, 40, 159, 0, 7, 42, 182, 0, 195, 177]
abbrev dktJ13_inflateIfNeededFor_0 : List UInt8 := dkwJ13_inflateIfNeededFor_0 ++ []
theorem dksJ13_inflateIfNeededFor_0 : cJ13_inflateIfNeededFor.data.toList.drop 0 = dktJ13_inflateIfNeededFor_0 := by decide +kernel
theorem dJ13_inflateIfNeededFor_0 : decode cJ13_inflateIfNeededFor 0 = .ok (.getstatic 18, 3) := dk_178 0 18 (dk_at dksJ13_inflateIfNeededFor_0 0 rfl rfl)
theorem dJ13_inflateIfNeededFor_3 : decode cJ13_inflateIfNeededFor 3 = .ok (.ifCond .eq 18, 3) := dk_153 0 18 (dk_at dksJ13_inflateIfNeededFor_0 3 rfl rfl)
theorem dJ13_inflateIfNeededFor_6 : decode cJ13_inflateIfNeededFor 6 = .ok (.aload_n 0, 1) := dk_42 (dk_at dksJ13_inflateIfNeededFor_0 6 rfl rfl)
theorem dJ13_inflateIfNeededFor_7 : decode cJ13_inflateIfNeededFor 7 = .ok (.getfield 22, 3) := dk_180 0 22 (dk_at dksJ13_inflateIfNeededFor_0 7 rfl rfl)
theorem dJ13_inflateIfNeededFor_10 : decode cJ13_inflateIfNeededFor 10 = .ok (.aload_n 1, 1) := dk_43 (dk_at dksJ13_inflateIfNeededFor_0 10 rfl rfl)
theorem dJ13_inflateIfNeededFor_11 : decode cJ13_inflateIfNeededFor 11 = .ok (.invokevirtual 40, 3) := dk_182 0 40 (dk_at dksJ13_inflateIfNeededFor_0 11 rfl rfl)
theorem dJ13_inflateIfNeededFor_14 : decode cJ13_inflateIfNeededFor 14 = .ok (.if_icmp .eq 7, 3) := dk_159 0 7 (dk_at dksJ13_inflateIfNeededFor_0 14 rfl rfl)
theorem dJ13_inflateIfNeededFor_17 : decode cJ13_inflateIfNeededFor 17 = .ok (.aload_n 0, 1) := dk_42 (dk_at dksJ13_inflateIfNeededFor_0 17 rfl rfl)
theorem dJ13_inflateIfNeededFor_18 : decode cJ13_inflateIfNeededFor 18 = .ok (.invokevirtual 195, 3) := dk_182 0 195 (dk_at dksJ13_inflateIfNeededFor_0 18 rfl rfl)
theorem dJ13_inflateIfNeededFor_21 : decode cJ13_inflateIfNeededFor 21 = .ok (.return_, 1) := dk_177 (dk_at dksJ13_inflateIfNeededFor_0 21 rfl rfl)
theorem q52 : (Jvm.Cond.initialized "java/lang/AbstractStringBuilder") ∈ lw_all := lw_g (lw_at lw_m1 19 rfl) rfl
theorem q504 : (Jvm.Cond.instanceMethod ({ cls := "java/lang/AbstractStringBuilder", name := "compareTo", desc := "(Ljava/lang/AbstractStringBuilder;)I" } : Jvm.MethodName)) ∈ lw_all := lw_g (lw_at lw_m2 231 rfl) rfl
theorem q505 : (Jvm.Cond.code ({ cls := "java/lang/AbstractStringBuilder", name := "compareTo", desc := "(Ljava/lang/AbstractStringBuilder;)I" } : Jvm.MethodName) prog_6_method_5_code (6 : Nat) (Option.some Jvm.ClassFile.FieldType.int)) ∈ lw_all := lw_g (lw_at lw_m2 232 rfl) rfl
theorem q506 : (Jvm.Cond.methodLink "java/lang/AbstractStringBuilder" (83 : Nat) ({ cls := "java/lang/AbstractStringBuilder", name := "isLatin1", desc := "()Z" } : Jvm.MethodName)) ∈ lw_all := lw_g (lw_at lw_m2 233 rfl) rfl
theorem q507 : (Jvm.Cond.instanceMethod ({ cls := "java/lang/AbstractStringBuilder", name := "isLatin1", desc := "()Z" } : Jvm.MethodName)) ∈ lw_all := lw_g (lw_at lw_m2 234 rfl) rfl
theorem q508 : (Jvm.Cond.sameMethod "java/lang/AbstractStringBuilder" "java/lang/AbstractStringBuilder" "isLatin1" "()Z") ∈ lw_all := lw_g (lw_at lw_m2 235 rfl) rfl
theorem q510 : (Jvm.Cond.code ({ cls := "java/lang/AbstractStringBuilder", name := "isLatin1", desc := "()Z" } : Jvm.MethodName) prog_6_method_68_code (1 : Nat) (Option.some Jvm.ClassFile.FieldType.boolean)) ∈ lw_all := lw_g (lw_at lw_m2 237 rfl) rfl
theorem q511 : (Jvm.Cond.fieldLink "java/lang/AbstractStringBuilder" (18 : Nat) "java/lang/String" "COMPACT_STRINGS" "Z") ∈ lw_all := lw_g (lw_at lw_m2 238 rfl) rfl
theorem q512 : (Jvm.Cond.methodLink "java/lang/AbstractStringBuilder" (87 : Nat) ({ cls := "java/lang/StringLatin1", name := "compareTo", desc := "([B[BII)I" } : Jvm.MethodName)) ∈ lw_all := lw_g (lw_at lw_m2 239 rfl) rfl
theorem q513 : (Jvm.Cond.methodLink "java/lang/AbstractStringBuilder" (93 : Nat) ({ cls := "java/lang/StringUTF16", name := "compareTo", desc := "([B[BII)I" } : Jvm.MethodName)) ∈ lw_all := lw_g (lw_at lw_m3 0 rfl) rfl
theorem q527 : (Jvm.Cond.methodLink "java/lang/AbstractStringBuilder" (94 : Nat) ({ cls := "java/lang/StringLatin1", name := "compareToUTF16", desc := "([B[BII)I" } : Jvm.MethodName)) ∈ lw_all := lw_g (lw_at lw_m3 14 rfl) rfl
theorem q531 : (Jvm.Cond.methodLink "java/lang/AbstractStringBuilder" (97 : Nat) ({ cls := "java/lang/StringUTF16", name := "compareToLatin1", desc := "([B[BII)I" } : Jvm.MethodName)) ∈ lw_all := lw_g (lw_at lw_m3 18 rfl) rfl
theorem q937 : (Jvm.Cond.instanceMethod ({ cls := "java/lang/AbstractStringBuilder", name := "<init>", desc := "(I)V" } : Jvm.MethodName)) ∈ lw_all := lw_g (lw_at lw_m4 184 rfl) rfl
theorem q938 : (Jvm.Cond.code ({ cls := "java/lang/AbstractStringBuilder", name := "<init>", desc := "(I)V" } : Jvm.MethodName) prog_6_method_2_code (2 : Nat) (Option.none : Option Jvm.ClassFile.FieldType)) ∈ lw_all := lw_g (lw_at lw_m4 185 rfl) rfl
theorem q939 : (Jvm.Cond.methodLink "java/lang/AbstractStringBuilder" (3 : Nat) ({ cls := "java/lang/Object", name := "<init>", desc := "()V" } : Jvm.MethodName)) ∈ lw_all := lw_g (lw_at lw_m4 186 rfl) rfl
theorem q940 : (Jvm.Cond.methodLink "java/lang/AbstractStringBuilder" (26 : Nat) ({ cls := "java/lang/StringUTF16", name := "newBytesFor", desc := "(I)[B" } : Jvm.MethodName)) ∈ lw_all := lw_g (lw_at lw_m4 187 rfl) rfl
theorem q947 : (Jvm.Cond.fieldLink "java/lang/AbstractStringBuilder" (15 : Nat) "java/lang/AbstractStringBuilder" "value" "[B") ∈ lw_all := lw_g (lw_at lw_m4 194 rfl) rfl
theorem q948 : (Jvm.Cond.fieldLink "java/lang/AbstractStringBuilder" (22 : Nat) "java/lang/AbstractStringBuilder" "coder" "B") ∈ lw_all := lw_g (lw_at lw_m4 195 rfl) rfl
theorem q950 : (Jvm.Cond.fieldLink "java/lang/AbstractStringBuilder" (79 : Nat) "java/lang/AbstractStringBuilder" "count" "I") ∈ lw_all := lw_g (lw_at lw_m4 197 rfl) rfl
theorem q952 : (Jvm.Cond.soleField "java/lang/AbstractStringBuilder" "value") ∈ lw_all := lw_g (lw_at lw_m4 199 rfl) rfl
theorem q954 : (Jvm.Cond.soleField "java/lang/AbstractStringBuilder" "coder") ∈ lw_all := lw_g (lw_at lw_m4 201 rfl) rfl
theorem q956 : (Jvm.Cond.soleField "java/lang/AbstractStringBuilder" "maybeLatin1") ∈ lw_all := lw_g (lw_at lw_m4 203 rfl) rfl
theorem q958 : (Jvm.Cond.soleField "java/lang/AbstractStringBuilder" "count") ∈ lw_all := lw_g (lw_at lw_m4 205 rfl) rfl
theorem q964 : (Jvm.Cond.instanceMethod ({ cls := "java/lang/AbstractStringBuilder", name := "append", desc := "(I)Ljava/lang/AbstractStringBuilder;" } : Jvm.MethodName)) ∈ lw_all := lw_g (lw_at lw_m4 211 rfl) rfl
theorem q965 : (Jvm.Cond.code ({ cls := "java/lang/AbstractStringBuilder", name := "append", desc := "(I)Ljava/lang/AbstractStringBuilder;" } : Jvm.MethodName) prog_6_method_32_code (4 : Nat) (Option.some (Jvm.ClassFile.FieldType.object "java/lang/AbstractStringBuilder"))) ∈ lw_all := lw_g (lw_at lw_m4 212 rfl) rfl
theorem q966 : (Jvm.Cond.methodLink "java/lang/AbstractStringBuilder" (245 : Nat) ({ cls := "java/lang/Integer", name := "stringSize", desc := "(I)I" } : Jvm.MethodName)) ∈ lw_all := lw_g (lw_at lw_m4 213 rfl) rfl
theorem q969 : (Jvm.Cond.methodLink "java/lang/AbstractStringBuilder" (100 : Nat) ({ cls := "java/lang/AbstractStringBuilder", name := "ensureCapacityInternal", desc := "(I)V" } : Jvm.MethodName)) ∈ lw_all := lw_g (lw_at lw_m4 216 rfl) rfl
theorem q970 : (Jvm.Cond.privateMethod ({ cls := "java/lang/AbstractStringBuilder", name := "ensureCapacityInternal", desc := "(I)V" } : Jvm.MethodName)) ∈ lw_tbl := lw_at lw_m4 217 rfl
theorem q971 : (Jvm.Cond.instanceMethod ({ cls := "java/lang/AbstractStringBuilder", name := "ensureCapacityInternal", desc := "(I)V" } : Jvm.MethodName)) ∈ lw_all := lw_g (lw_at lw_m4 218 rfl) rfl
theorem q972 : (Jvm.Cond.code ({ cls := "java/lang/AbstractStringBuilder", name := "ensureCapacityInternal", desc := "(I)V" } : Jvm.MethodName) prog_6_method_9_code (3 : Nat) (Option.none : Option Jvm.ClassFile.FieldType)) ∈ lw_all := lw_g (lw_at lw_m4 219 rfl) rfl
theorem q973 : (Jvm.Cond.methodLink "java/lang/AbstractStringBuilder" (104 : Nat) ({ cls := "java/lang/AbstractStringBuilder", name := "newCapacity", desc := "(I)I" } : Jvm.MethodName)) ∈ lw_all := lw_g (lw_at lw_m4 220 rfl) rfl
theorem q974 : (Jvm.Cond.privateMethod ({ cls := "java/lang/AbstractStringBuilder", name := "newCapacity", desc := "(I)I" } : Jvm.MethodName)) ∈ lw_tbl := lw_at lw_m4 221 rfl
theorem q975 : (Jvm.Cond.instanceMethod ({ cls := "java/lang/AbstractStringBuilder", name := "newCapacity", desc := "(I)I" } : Jvm.MethodName)) ∈ lw_all := lw_g (lw_at lw_m4 222 rfl) rfl
theorem q976 : (Jvm.Cond.code ({ cls := "java/lang/AbstractStringBuilder", name := "newCapacity", desc := "(I)I" } : Jvm.MethodName) prog_6_method_10_code (6 : Nat) (Option.some Jvm.ClassFile.FieldType.int)) ∈ lw_all := lw_g (lw_at lw_m4 223 rfl) rfl
theorem q977 : (Jvm.Cond.methodLink "java/lang/AbstractStringBuilder" (114 : Nat) ({ cls := "jdk/internal/util/ArraysSupport", name := "newLength", desc := "(III)I" } : Jvm.MethodName)) ∈ lw_all := lw_g (lw_at lw_m4 224 rfl) rfl
theorem q987 : (Jvm.Cond.constant "java/lang/AbstractStringBuilder" (39 : Nat) (2147483647 : Int32)) ∈ lw_all := lw_g (lw_at lw_m4 234 rfl) rfl
theorem q988 : (Jvm.Cond.methodLink "java/lang/AbstractStringBuilder" (108 : Nat) ({ cls := "java/util/Arrays", name := "copyOf", desc := "([BI)[B" } : Jvm.MethodName)) ∈ lw_all := lw_g (lw_at lw_m4 235 rfl) rfl
theorem q996 : (Jvm.Cond.methodLink "java/lang/AbstractStringBuilder" (248 : Nat) ({ cls := "java/lang/Integer", name := "getChars", desc := "(II[B)I" } : Jvm.MethodName)) ∈ lw_all := lw_g (lw_at lw_m5 3 rfl) rfl
theorem q1003 : (Jvm.Cond.methodLink "java/lang/AbstractStringBuilder" (251 : Nat) ({ cls := "java/lang/StringUTF16", name := "getChars", desc := "(III[B)I" } : Jvm.MethodName)) ∈ lw_all := lw_g (lw_at lw_m5 10 rfl) rfl
theorem q1025 : (Jvm.Cond.instanceMethod ({ cls := "java/lang/AbstractStringBuilder", name := "append", desc := "(C)Ljava/lang/AbstractStringBuilder;" } : Jvm.MethodName)) ∈ lw_all := lw_g (lw_at lw_m5 32 rfl) rfl
theorem q1026 : (Jvm.Cond.code ({ cls := "java/lang/AbstractStringBuilder", name := "append", desc := "(C)Ljava/lang/AbstractStringBuilder;" } : Jvm.MethodName) prog_6_method_31_code (2 : Nat) (Option.some (Jvm.ClassFile.FieldType.object "java/lang/AbstractStringBuilder"))) ∈ lw_all := lw_g (lw_at lw_m5 33 rfl) rfl
theorem q1027 : (Jvm.Cond.methodLink "java/lang/AbstractStringBuilder" (191 : Nat) ({ cls := "java/lang/StringLatin1", name := "canEncode", desc := "(C)Z" } : Jvm.MethodName)) ∈ lw_all := lw_g (lw_at lw_m5 34 rfl) rfl
theorem q1030 : (Jvm.Cond.methodLink "java/lang/AbstractStringBuilder" (195 : Nat) ({ cls := "java/lang/AbstractStringBuilder", name := "inflate", desc := "()V" } : Jvm.MethodName)) ∈ lw_all := lw_g (lw_at lw_m5 37 rfl) rfl
theorem q1031 : (Jvm.Cond.privateMethod ({ cls := "java/lang/AbstractStringBuilder", name := "inflate", desc := "()V" } : Jvm.MethodName)) ∈ lw_tbl := lw_at lw_m5 38 rfl
theorem q1032 : (Jvm.Cond.instanceMethod ({ cls := "java/lang/AbstractStringBuilder", name := "inflate", desc := "()V" } : Jvm.MethodName)) ∈ lw_all := lw_g (lw_at lw_m5 39 rfl) rfl
theorem q1033 : (Jvm.Cond.code ({ cls := "java/lang/AbstractStringBuilder", name := "inflate", desc := "()V" } : Jvm.MethodName) prog_6_method_11_code (2 : Nat) (Option.none : Option Jvm.ClassFile.FieldType)) ∈ lw_all := lw_g (lw_at lw_m5 40 rfl) rfl
theorem q1034 : (Jvm.Cond.methodLink "java/lang/AbstractStringBuilder" (125 : Nat) ({ cls := "java/lang/StringLatin1", name := "inflate", desc := "([BI[BII)V" } : Jvm.MethodName)) ∈ lw_all := lw_g (lw_at lw_m5 41 rfl) rfl
theorem q1049 : (Jvm.Cond.methodLink "java/lang/AbstractStringBuilder" (197 : Nat) ({ cls := "java/lang/StringUTF16", name := "putCharSB", desc := "([BII)V" } : Jvm.MethodName)) ∈ lw_all := lw_g (lw_at lw_m5 56 rfl) rfl
theorem q1066 : (Jvm.Cond.instanceMethod ({ cls := "java/lang/AbstractStringBuilder", name := "append", desc := "(J)Ljava/lang/AbstractStringBuilder;" } : Jvm.MethodName)) ∈ lw_all := lw_g (lw_at lw_m5 73 rfl) rfl
theorem q1067 : (Jvm.Cond.code ({ cls := "java/lang/AbstractStringBuilder", name := "append", desc := "(J)Ljava/lang/AbstractStringBuilder;" } : Jvm.MethodName) prog_6_method_33_code (5 : Nat) (Option.some (Jvm.ClassFile.FieldType.object "java/lang/AbstractStringBuilder"))) ∈ lw_all := lw_g (lw_at lw_m5 74 rfl) rfl
theorem q1068 : (Jvm.Cond.methodLink "java/lang/AbstractStringBuilder" (254 : Nat) ({ cls := "java/lang/Long", name := "stringSize", desc := "(J)I" } : Jvm.MethodName)) ∈ lw_all := lw_g (lw_at lw_m5 75 rfl) rfl
theorem q1073 : (Jvm.Cond.methodLink "java/lang/AbstractStringBuilder" (259 : Nat) ({ cls := "java/lang/Long", name := "getChars", desc := "(JI[B)I" } : Jvm.MethodName)) ∈ lw_all := lw_g (lw_at lw_m5 80 rfl) rfl
theorem q1080 : (Jvm.Cond.methodLink "java/lang/AbstractStringBuilder" (262 : Nat) ({ cls := "java/lang/StringUTF16", name := "getChars", desc := "(JII[B)I" } : Jvm.MethodName)) ∈ lw_all := lw_g (lw_at lw_m5 87 rfl) rfl
theorem q1101 : (Jvm.Cond.instanceMethod ({ cls := "java/lang/AbstractStringBuilder", name := "getValue", desc := "()[B" } : Jvm.MethodName)) ∈ lw_all := lw_g (lw_at lw_m5 108 rfl) rfl
theorem q1102 : (Jvm.Cond.sameMethod "java/lang/AbstractStringBuilder" "java/lang/AbstractStringBuilder" "getValue" "()[B") ∈ lw_all := lw_g (lw_at lw_m5 109 rfl) rfl
theorem q1104 : (Jvm.Cond.code ({ cls := "java/lang/AbstractStringBuilder", name := "getValue", desc := "()[B" } : Jvm.MethodName) prog_6_method_64_code (1 : Nat) (Option.some (Jvm.ClassFile.FieldType.array Jvm.ClassFile.FieldType.byte))) ∈ lw_all := lw_g (lw_at lw_m5 111 rfl) rfl
theorem q1106 : (Jvm.Cond.instanceMethod ({ cls := "java/lang/AbstractStringBuilder", name := "length", desc := "()I" } : Jvm.MethodName)) ∈ lw_all := lw_g (lw_at lw_m5 113 rfl) rfl
theorem q1107 : (Jvm.Cond.sameMethod "java/lang/AbstractStringBuilder" "java/lang/AbstractStringBuilder" "length" "()I") ∈ lw_all := lw_g (lw_at lw_m5 114 rfl) rfl
theorem q1112 : (Jvm.Cond.code ({ cls := "java/lang/AbstractStringBuilder", name := "length", desc := "()I" } : Jvm.MethodName) prog_6_method_6_code (1 : Nat) (Option.some Jvm.ClassFile.FieldType.int)) ∈ lw_all := lw_g (lw_at lw_m5 119 rfl) rfl
theorem q1133 : (Jvm.Cond.instanceMethod ({ cls := "java/lang/AbstractStringBuilder", name := "append", desc := "(Ljava/lang/String;)Ljava/lang/AbstractStringBuilder;" } : Jvm.MethodName)) ∈ lw_all := lw_g (lw_at lw_m5 140 rfl) rfl
theorem q1134 : (Jvm.Cond.code ({ cls := "java/lang/AbstractStringBuilder", name := "append", desc := "(Ljava/lang/String;)Ljava/lang/AbstractStringBuilder;" } : Jvm.MethodName) prog_6_method_22_code (3 : Nat) (Option.some (Jvm.ClassFile.FieldType.object "java/lang/AbstractStringBuilder"))) ∈ lw_all := lw_g (lw_at lw_m5 141 rfl) rfl
theorem q1135 : (Jvm.Cond.methodLink "java/lang/AbstractStringBuilder" (204 : Nat) ({ cls := "java/lang/AbstractStringBuilder", name := "appendNull", desc := "()Ljava/lang/AbstractStringBuilder;" } : Jvm.MethodName)) ∈ lw_all := lw_g (lw_at lw_m5 142 rfl) rfl
theorem q1136 : (Jvm.Cond.privateMethod ({ cls := "java/lang/AbstractStringBuilder", name := "appendNull", desc := "()Ljava/lang/AbstractStringBuilder;" } : Jvm.MethodName)) ∈ lw_tbl := lw_at lw_m5 143 rfl
theorem q1137 : (Jvm.Cond.instanceMethod ({ cls := "java/lang/AbstractStringBuilder", name := "appendNull", desc := "()Ljava/lang/AbstractStringBuilder;" } : Jvm.MethodName)) ∈ lw_all := lw_g (lw_at lw_m5 144 rfl) rfl
theorem q1138 : (Jvm.Cond.code ({ cls := "java/lang/AbstractStringBuilder", name := "appendNull", desc := "()Ljava/lang/AbstractStringBuilder;" } : Jvm.MethodName) prog_6_method_26_code (3 : Nat) (Option.some (Jvm.ClassFile.FieldType.object "java/lang/AbstractStringBuilder"))) ∈ lw_all := lw_g (lw_at lw_m5 145 rfl) rfl
theorem q1139 : (Jvm.Cond.methodLink "java/lang/AbstractStringBuilder" (226 : Nat) ({ cls := "java/lang/StringUTF16", name := "putCharsAt", desc := "([BICCCC)I" } : Jvm.MethodName)) ∈ lw_all := lw_g (lw_at lw_m5 146 rfl) rfl
theorem q1142 : (Jvm.Cond.methodLink "java/lang/AbstractStringBuilder" (32 : Nat) ({ cls := "java/lang/String", name := "length", desc := "()I" } : Jvm.MethodName)) ∈ lw_all := lw_g (lw_at lw_m5 149 rfl) rfl
theorem q1146 : (Jvm.Cond.methodLink "java/lang/AbstractStringBuilder" (208 : Nat) ({ cls := "java/lang/AbstractStringBuilder", name := "putStringAt", desc := "(ILjava/lang/String;)V" } : Jvm.MethodName)) ∈ lw_all := lw_g (lw_at lw_m5 153 rfl) rfl
theorem q1147 : (Jvm.Cond.privateMethod ({ cls := "java/lang/AbstractStringBuilder", name := "putStringAt", desc := "(ILjava/lang/String;)V" } : Jvm.MethodName)) ∈ lw_tbl := lw_at lw_m5 154 rfl
theorem q1148 : (Jvm.Cond.instanceMethod ({ cls := "java/lang/AbstractStringBuilder", name := "putStringAt", desc := "(ILjava/lang/String;)V" } : Jvm.MethodName)) ∈ lw_all := lw_g (lw_at lw_m5 155 rfl) rfl
theorem q1149 : (Jvm.Cond.code ({ cls := "java/lang/AbstractStringBuilder", name := "putStringAt", desc := "(ILjava/lang/String;)V" } : Jvm.MethodName) prog_6_method_73_code (3 : Nat) (Option.none : Option Jvm.ClassFile.FieldType)) ∈ lw_all := lw_g (lw_at lw_m5 156 rfl) rfl
theorem q1150 : (Jvm.Cond.methodLink "java/lang/AbstractStringBuilder" (397 : Nat) ({ cls := "java/lang/AbstractStringBuilder", name := "inflateIfNeededFor", desc := "(Ljava/lang/String;)V" } : Jvm.MethodName)) ∈ lw_all := lw_g (lw_at lw_m5 157 rfl) rfl
theorem q1151 : (Jvm.Cond.privateMethod ({ cls := "java/lang/AbstractStringBuilder", name := "inflateIfNeededFor", desc := "(Ljava/lang/String;)V" } : Jvm.MethodName)) ∈ lw_tbl := lw_at lw_m5 158 rfl
theorem q1152 : (Jvm.Cond.instanceMethod ({ cls := "java/lang/AbstractStringBuilder", name := "inflateIfNeededFor", desc := "(Ljava/lang/String;)V" } : Jvm.MethodName)) ∈ lw_all := lw_g (lw_at lw_m5 159 rfl) rfl
theorem q1153 : (Jvm.Cond.code ({ cls := "java/lang/AbstractStringBuilder", name := "inflateIfNeededFor", desc := "(Ljava/lang/String;)V" } : Jvm.MethodName) prog_6_method_71_code (2 : Nat) (Option.none : Option Jvm.ClassFile.FieldType)) ∈ lw_all := lw_g (lw_at lw_m5 160 rfl) rfl
theorem q1154 : (Jvm.Cond.methodLink "java/lang/AbstractStringBuilder" (40 : Nat) ({ cls := "java/lang/String", name := "coder", desc := "()B" } : Jvm.MethodName)) ∈ lw_all := lw_g (lw_at lw_m5 161 rfl) rfl
theorem q1155 : (Jvm.Cond.methodLink "java/lang/AbstractStringBuilder" (399 : Nat) ({ cls := "java/lang/String", name := "getBytes", desc := "([BIB)V" } : Jvm.MethodName)) ∈ lw_all := lw_g (lw_at lw_m5 162 rfl) rfl
theorem q1958 : (Jvm.Cond.sameMethod "java/lang/AbstractStringBuilder" "java/lang/AbstractStringBuilder" "compareTo" "(Ljava/lang/AbstractStringBuilder;)I") ∈ lw_all := lw_g (lw_at lw_m9 5 rfl) rfl
theorem q1959 : (Jvm.Cond.sameMethod "java/lang/AbstractStringBuilder" "java/lang/AbstractStringBuilder" "append" "(I)Ljava/lang/AbstractStringBuilder;") ∈ lw_all := lw_g (lw_at lw_m9 6 rfl) rfl
theorem q1960 : (Jvm.Cond.sameMethod "java/lang/AbstractStringBuilder" "java/lang/AbstractStringBuilder" "ensureCapacityInternal" "(I)V") ∈ lw_all := lw_g (lw_at lw_m9 7 rfl) rfl
theorem q1961 : (Jvm.Cond.sameMethod "java/lang/AbstractStringBuilder" "java/lang/AbstractStringBuilder" "newCapacity" "(I)I") ∈ lw_all := lw_g (lw_at lw_m9 8 rfl) rfl
theorem q1962 : (Jvm.Cond.sameMethod "java/lang/AbstractStringBuilder" "java/lang/AbstractStringBuilder" "append" "(C)Ljava/lang/AbstractStringBuilder;") ∈ lw_all := lw_g (lw_at lw_m9 9 rfl) rfl
theorem q1963 : (Jvm.Cond.sameMethod "java/lang/AbstractStringBuilder" "java/lang/AbstractStringBuilder" "inflate" "()V") ∈ lw_all := lw_g (lw_at lw_m9 10 rfl) rfl
theorem q1964 : (Jvm.Cond.sameMethod "java/lang/AbstractStringBuilder" "java/lang/AbstractStringBuilder" "append" "(J)Ljava/lang/AbstractStringBuilder;") ∈ lw_all := lw_g (lw_at lw_m9 11 rfl) rfl
theorem q1965 : (Jvm.Cond.sameMethod "java/lang/AbstractStringBuilder" "java/lang/AbstractStringBuilder" "append" "(Ljava/lang/String;)Ljava/lang/AbstractStringBuilder;") ∈ lw_all := lw_g (lw_at lw_m9 12 rfl) rfl
theorem q1966 : (Jvm.Cond.sameMethod "java/lang/AbstractStringBuilder" "java/lang/AbstractStringBuilder" "appendNull" "()Ljava/lang/AbstractStringBuilder;") ∈ lw_all := lw_g (lw_at lw_m9 13 rfl) rfl
theorem q1967 : (Jvm.Cond.sameMethod "java/lang/AbstractStringBuilder" "java/lang/AbstractStringBuilder" "putStringAt" "(ILjava/lang/String;)V") ∈ lw_all := lw_g (lw_at lw_m9 14 rfl) rfl
theorem q1968 : (Jvm.Cond.sameMethod "java/lang/AbstractStringBuilder" "java/lang/AbstractStringBuilder" "inflateIfNeededFor" "(Ljava/lang/String;)V") ∈ lw_all := lw_g (lw_at lw_m9 15 rfl) rfl
/-! java/lang/StringBuilder -/
set_option maxRecDepth 100000
def RJ14 : String := "java/lang/StringBuilder"
def TJ14 : u_T := fun k => match k with
  | 0 => ("java/lang/AbstractStringBuilder", "value", "[B", false)
  | 1 => ("java/lang/AbstractStringBuilder", "coder", "B", false)
  | 2 => ("java/lang/AbstractStringBuilder", "maybeLatin1", "Z", false)
  | _ => ("java/lang/AbstractStringBuilder", "count", "I", false)
def tyJ14 : Nat → FieldType := fun k => match k with
  | 0 => .array .byte
  | 1 => .byte
  | 2 => .boolean
  | _ => .int
abbrev wsJ140 : List Cond := u_ws RJ14 TJ14 4
theorem nmJ14 : ∀ a, a < 4 → ∀ b, b < 4 → a ≠ b → (TJ14 a).2.1 ≠ (TJ14 b).2.1 := by decide +kernel
theorem tyJ14_ok : ∀ k, k < 4 → parseFieldDescriptor (TJ14 k).2.2.1 = some (tyJ14 k) := by decide +kernel
abbrev cJ14_compareTo : ByteArray := prog_22_method_97_code
def yJ14_compareTo : MethodName := ⟨RJ14, "compareTo", "(Ljava/lang/Object;)I"⟩
def dkwJ14_compareTo_0 : List UInt8 := [42, 43, 192, 0, 24, 182, 1, 90, 172]
abbrev dktJ14_compareTo_0 : List UInt8 := dkwJ14_compareTo_0 ++ []
theorem dksJ14_compareTo_0 : cJ14_compareTo.data.toList.drop 0 = dktJ14_compareTo_0 := by decide +kernel
theorem dJ14_compareTo_0 : decode cJ14_compareTo 0 = .ok (.aload_n 0, 1) := dk_42 (dk_at dksJ14_compareTo_0 0 rfl rfl)
theorem dJ14_compareTo_1 : decode cJ14_compareTo 1 = .ok (.aload_n 1, 1) := dk_43 (dk_at dksJ14_compareTo_0 1 rfl rfl)
theorem dJ14_compareTo_2 : decode cJ14_compareTo 2 = .ok (.checkcast 24, 3) := dk_192 0 24 (dk_at dksJ14_compareTo_0 2 rfl rfl)
theorem dJ14_compareTo_5 : decode cJ14_compareTo 5 = .ok (.invokevirtual 346, 3) := dk_182 1 90 (dk_at dksJ14_compareTo_0 5 rfl rfl)
theorem dJ14_compareTo_8 : decode cJ14_compareTo 8 = .ok (.ireturn, 1) := dk_172 (dk_at dksJ14_compareTo_0 8 rfl rfl)
abbrev cJ14_compareTo_2 : ByteArray := prog_22_method_5_code
def yJ14_compareTo_2 : MethodName := ⟨RJ14, "compareTo", "(Ljava/lang/StringBuilder;)I"⟩
def dkwJ14_compareTo_2_0 : List UInt8 := [42, 43, 183, 0, 13, 172]
abbrev dktJ14_compareTo_2_0 : List UInt8 := dkwJ14_compareTo_2_0 ++ []
theorem dksJ14_compareTo_2_0 : cJ14_compareTo_2.data.toList.drop 0 = dktJ14_compareTo_2_0 := by decide +kernel
theorem dJ14_compareTo_2_0 : decode cJ14_compareTo_2 0 = .ok (.aload_n 0, 1) := dk_42 (dk_at dksJ14_compareTo_2_0 0 rfl rfl)
theorem dJ14_compareTo_2_1 : decode cJ14_compareTo_2 1 = .ok (.aload_n 1, 1) := dk_43 (dk_at dksJ14_compareTo_2_0 1 rfl rfl)
theorem dJ14_compareTo_2_2 : decode cJ14_compareTo_2 2 = .ok (.invokespecial 13, 3) := dk_183 0 13 (dk_at dksJ14_compareTo_2_0 2 rfl rfl)
theorem dJ14_compareTo_2_5 : decode cJ14_compareTo_2 5 = .ok (.ireturn, 1) := dk_172 (dk_at dksJ14_compareTo_2_0 5 rfl rfl)
abbrev cJ14_init : ByteArray := prog_22_method_1_code
def yJ14_init : MethodName := ⟨RJ14, "<init>", "()V"⟩
def dkwJ14_init_0 : List UInt8 := [42, 16, 16, 183, 0, 1, 177]
abbrev dktJ14_init_0 : List UInt8 := dkwJ14_init_0 ++ []
theorem dksJ14_init_0 : cJ14_init.data.toList.drop 0 = dktJ14_init_0 := by decide +kernel
theorem dJ14_init_0 : decode cJ14_init 0 = .ok (.aload_n 0, 1) := dk_42 (dk_at dksJ14_init_0 0 rfl rfl)
theorem dJ14_init_1 : decode cJ14_init 1 = .ok (.bipush 16, 2) := dk_16 16 (dk_at dksJ14_init_0 1 rfl rfl)
theorem dJ14_init_3 : decode cJ14_init 3 = .ok (.invokespecial 1, 3) := dk_183 0 1 (dk_at dksJ14_init_0 3 rfl rfl)
theorem dJ14_init_6 : decode cJ14_init 6 = .ok (.return_, 1) := dk_177 (dk_at dksJ14_init_0 6 rfl rfl)
abbrev cJ14_append : ByteArray := prog_22_method_15_code
def yJ14_append : MethodName := ⟨RJ14, "append", "(I)Ljava/lang/StringBuilder;"⟩
def dkwJ14_append_0 : List UInt8 := [42, 27, 183, 0, 53, 87, 42, 176]
abbrev dktJ14_append_0 : List UInt8 := dkwJ14_append_0 ++ []
theorem dksJ14_append_0 : cJ14_append.data.toList.drop 0 = dktJ14_append_0 := by decide +kernel
theorem dJ14_append_0 : decode cJ14_append 0 = .ok (.aload_n 0, 1) := dk_42 (dk_at dksJ14_append_0 0 rfl rfl)
theorem dJ14_append_1 : decode cJ14_append 1 = .ok (.iload_n 1, 1) := dk_27 (dk_at dksJ14_append_0 1 rfl rfl)
theorem dJ14_append_2 : decode cJ14_append 2 = .ok (.invokespecial 53, 3) := dk_183 0 53 (dk_at dksJ14_append_0 2 rfl rfl)
theorem dJ14_append_5 : decode cJ14_append 5 = .ok (.pop, 1) := dk_87 (dk_at dksJ14_append_0 5 rfl rfl)
theorem dJ14_append_6 : decode cJ14_append 6 = .ok (.aload_n 0, 1) := dk_42 (dk_at dksJ14_append_0 6 rfl rfl)
theorem dJ14_append_7 : decode cJ14_append 7 = .ok (.areturn, 1) := dk_176 (dk_at dksJ14_append_0 7 rfl rfl)
abbrev cJ14_append_2 : ByteArray := prog_22_method_14_code
def yJ14_append_2 : MethodName := ⟨RJ14, "append", "(C)Ljava/lang/StringBuilder;"⟩
def dkwJ14_append_2_0 : List UInt8 := [42, 27, 183, 0, 50, 87, 42, 176]
abbrev dktJ14_append_2_0 : List UInt8 := dkwJ14_append_2_0 ++ []
theorem dksJ14_append_2_0 : cJ14_append_2.data.toList.drop 0 = dktJ14_append_2_0 := by decide +kernel
theorem dJ14_append_2_0 : decode cJ14_append_2 0 = .ok (.aload_n 0, 1) := dk_42 (dk_at dksJ14_append_2_0 0 rfl rfl)
theorem dJ14_append_2_1 : decode cJ14_append_2 1 = .ok (.iload_n 1, 1) := dk_27 (dk_at dksJ14_append_2_0 1 rfl rfl)
theorem dJ14_append_2_2 : decode cJ14_append_2 2 = .ok (.invokespecial 50, 3) := dk_183 0 50 (dk_at dksJ14_append_2_0 2 rfl rfl)
theorem dJ14_append_2_5 : decode cJ14_append_2 5 = .ok (.pop, 1) := dk_87 (dk_at dksJ14_append_2_0 5 rfl rfl)
theorem dJ14_append_2_6 : decode cJ14_append_2 6 = .ok (.aload_n 0, 1) := dk_42 (dk_at dksJ14_append_2_0 6 rfl rfl)
theorem dJ14_append_2_7 : decode cJ14_append_2 7 = .ok (.areturn, 1) := dk_176 (dk_at dksJ14_append_2_0 7 rfl rfl)
abbrev cJ14_append_3 : ByteArray := prog_22_method_16_code
def yJ14_append_3 : MethodName := ⟨RJ14, "append", "(J)Ljava/lang/StringBuilder;"⟩
def dkwJ14_append_3_0 : List UInt8 := [42, 31, 183, 0, 56, 87, 42, 176]
abbrev dktJ14_append_3_0 : List UInt8 := dkwJ14_append_3_0 ++ []
theorem dksJ14_append_3_0 : cJ14_append_3.data.toList.drop 0 = dktJ14_append_3_0 := by decide +kernel
theorem dJ14_append_3_0 : decode cJ14_append_3 0 = .ok (.aload_n 0, 1) := dk_42 (dk_at dksJ14_append_3_0 0 rfl rfl)
theorem dJ14_append_3_1 : decode cJ14_append_3 1 = .ok (.lload_n 1, 1) := dk_31 (dk_at dksJ14_append_3_0 1 rfl rfl)
theorem dJ14_append_3_2 : decode cJ14_append_3 2 = .ok (.invokespecial 56, 3) := dk_183 0 56 (dk_at dksJ14_append_3_0 2 rfl rfl)
theorem dJ14_append_3_5 : decode cJ14_append_3 5 = .ok (.pop, 1) := dk_87 (dk_at dksJ14_append_3_0 5 rfl rfl)
theorem dJ14_append_3_6 : decode cJ14_append_3 6 = .ok (.aload_n 0, 1) := dk_42 (dk_at dksJ14_append_3_0 6 rfl rfl)
theorem dJ14_append_3_7 : decode cJ14_append_3 7 = .ok (.areturn, 1) := dk_176 (dk_at dksJ14_append_3_0 7 rfl rfl)
abbrev cJ14_toString : ByteArray := prog_22_method_42_code
def yJ14_toString : MethodName := ⟨RJ14, "toString", "()Ljava/lang/String;"⟩
def dkwJ14_toString_0 : List UInt8 := [187, 0, 18, 89, 42, 183, 0, 137, 176]
abbrev dktJ14_toString_0 : List UInt8 := dkwJ14_toString_0 ++ []
theorem dksJ14_toString_0 : cJ14_toString.data.toList.drop 0 = dktJ14_toString_0 := by decide +kernel
theorem dJ14_toString_0 : decode cJ14_toString 0 = .ok (.new 18, 3) := dk_187 0 18 (dk_at dksJ14_toString_0 0 rfl rfl)
theorem dJ14_toString_3 : decode cJ14_toString 3 = .ok (.dup, 1) := dk_89 (dk_at dksJ14_toString_0 3 rfl rfl)
theorem dJ14_toString_4 : decode cJ14_toString 4 = .ok (.aload_n 0, 1) := dk_42 (dk_at dksJ14_toString_0 4 rfl rfl)
theorem dJ14_toString_5 : decode cJ14_toString 5 = .ok (.invokespecial 137, 3) := dk_183 0 137 (dk_at dksJ14_toString_0 5 rfl rfl)
theorem dJ14_toString_8 : decode cJ14_toString 8 = .ok (.areturn, 1) := dk_176 (dk_at dksJ14_toString_0 8 rfl rfl)
abbrev cJ14_length : ByteArray := prog_22_method_93_code
def yJ14_length : MethodName := ⟨RJ14, "length", "()I"⟩
theorem dJ14_length_0 : decode cJ14_length 0 = .ok (.aload_n 0, 1) := by decide +kernel
theorem dJ14_length_1 : decode cJ14_length 1 = .ok (.invokespecial 343, 3) := by decide +kernel
theorem dJ14_length_4 : decode cJ14_length 4 = .ok (.ireturn, 1) := by decide +kernel
abbrev cJ14_append_4 : ByteArray := prog_22_method_7_code
def yJ14_append_4 : MethodName := ⟨RJ14, "append", "(Ljava/lang/String;)Ljava/lang/StringBuilder;"⟩
def dkwJ14_append_4_0 : List UInt8 := [42, 43, 183, 0, 29, 87, 42, 176]
abbrev dktJ14_append_4_0 : List UInt8 := dkwJ14_append_4_0 ++ []
theorem dksJ14_append_4_0 : cJ14_append_4.data.toList.drop 0 = dktJ14_append_4_0 := by decide +kernel
theorem dJ14_append_4_0 : decode cJ14_append_4 0 = .ok (.aload_n 0, 1) := dk_42 (dk_at dksJ14_append_4_0 0 rfl rfl)
theorem dJ14_append_4_1 : decode cJ14_append_4 1 = .ok (.aload_n 1, 1) := dk_43 (dk_at dksJ14_append_4_0 1 rfl rfl)
theorem dJ14_append_4_2 : decode cJ14_append_4 2 = .ok (.invokespecial 29, 3) := dk_183 0 29 (dk_at dksJ14_append_4_0 2 rfl rfl)
theorem dJ14_append_4_5 : decode cJ14_append_4 5 = .ok (.pop, 1) := dk_87 (dk_at dksJ14_append_4_0 5 rfl rfl)
theorem dJ14_append_4_6 : decode cJ14_append_4 6 = .ok (.aload_n 0, 1) := dk_42 (dk_at dksJ14_append_4_0 6 rfl rfl)
theorem dJ14_append_4_7 : decode cJ14_append_4 7 = .ok (.areturn, 1) := dk_176 (dk_at dksJ14_append_4_0 7 rfl rfl)
theorem q53 : (Jvm.Cond.initialized "java/lang/StringBuilder") ∈ lw_all := lw_g (lw_at lw_m1 20 rfl) rfl
theorem q491 : (Jvm.Cond.castable "java/lang/StringBuilder" "java/lang/Comparable") ∈ lw_tbl := lw_at lw_m2 218 rfl
theorem q492 : (Jvm.Cond.selects "java/lang/StringBuilder" ({ cls := "java/lang/Comparable", name := "compareTo", desc := "(Ljava/lang/Object;)I" } : Jvm.MethodName) ({ cls := "java/lang/StringBuilder", name := "compareTo", desc := "(Ljava/lang/Object;)I" } : Jvm.MethodName)) ∈ lw_all := lw_g (lw_at lw_m2 219 rfl) rfl
theorem q493 : (Jvm.Cond.unhidden "java/lang/StringBuilder" "compareTo" "(Ljava/lang/Object;)I") ∈ lw_tbl := lw_at lw_m2 220 rfl
theorem q494 : (Jvm.Cond.instanceMethod ({ cls := "java/lang/StringBuilder", name := "compareTo", desc := "(Ljava/lang/Object;)I" } : Jvm.MethodName)) ∈ lw_all := lw_g (lw_at lw_m2 221 rfl) rfl
theorem q495 : (Jvm.Cond.publicMethod ({ cls := "java/lang/StringBuilder", name := "compareTo", desc := "(Ljava/lang/Object;)I" } : Jvm.MethodName)) ∈ lw_tbl := lw_at lw_m2 222 rfl
theorem q496 : (Jvm.Cond.code ({ cls := "java/lang/StringBuilder", name := "compareTo", desc := "(Ljava/lang/Object;)I" } : Jvm.MethodName) prog_22_method_97_code (2 : Nat) (Option.some Jvm.ClassFile.FieldType.int)) ∈ lw_all := lw_g (lw_at lw_m2 223 rfl) rfl
theorem q497 : (Jvm.Cond.classLink "java/lang/StringBuilder" (24 : Nat) "java/lang/StringBuilder") ∈ lw_all := lw_g (lw_at lw_m2 224 rfl) rfl
theorem q498 : (Jvm.Cond.methodLink "java/lang/StringBuilder" (346 : Nat) ({ cls := "java/lang/StringBuilder", name := "compareTo", desc := "(Ljava/lang/StringBuilder;)I" } : Jvm.MethodName)) ∈ lw_all := lw_g (lw_at lw_m2 225 rfl) rfl
theorem q499 : (Jvm.Cond.instanceMethod ({ cls := "java/lang/StringBuilder", name := "compareTo", desc := "(Ljava/lang/StringBuilder;)I" } : Jvm.MethodName)) ∈ lw_all := lw_g (lw_at lw_m2 226 rfl) rfl
theorem q500 : (Jvm.Cond.selects "java/lang/StringBuilder" ({ cls := "java/lang/StringBuilder", name := "compareTo", desc := "(Ljava/lang/StringBuilder;)I" } : Jvm.MethodName) ({ cls := "java/lang/StringBuilder", name := "compareTo", desc := "(Ljava/lang/StringBuilder;)I" } : Jvm.MethodName)) ∈ lw_all := lw_g (lw_at lw_m2 227 rfl) rfl
theorem q501 : (Jvm.Cond.code ({ cls := "java/lang/StringBuilder", name := "compareTo", desc := "(Ljava/lang/StringBuilder;)I" } : Jvm.MethodName) prog_22_method_5_code (2 : Nat) (Option.some Jvm.ClassFile.FieldType.int)) ∈ lw_all := lw_g (lw_at lw_m2 228 rfl) rfl
theorem q502 : (Jvm.Cond.methodLink "java/lang/StringBuilder" (13 : Nat) ({ cls := "java/lang/AbstractStringBuilder", name := "compareTo", desc := "(Ljava/lang/AbstractStringBuilder;)I" } : Jvm.MethodName)) ∈ lw_all := lw_g (lw_at lw_m2 229 rfl) rfl
theorem q503 : (Jvm.Cond.superclass "java/lang/StringBuilder" "java/lang/AbstractStringBuilder") ∈ lw_all := lw_g (lw_at lw_m2 230 rfl) rfl
theorem q509 : (Jvm.Cond.selects "java/lang/StringBuilder" ({ cls := "java/lang/AbstractStringBuilder", name := "isLatin1", desc := "()Z" } : Jvm.MethodName) ({ cls := "java/lang/AbstractStringBuilder", name := "isLatin1", desc := "()Z" } : Jvm.MethodName)) ∈ lw_all := lw_g (lw_at lw_m2 236 rfl) rfl
theorem q932 : (Jvm.Cond.instantiable "java/lang/StringBuilder" (4 : Nat)) ∈ lw_all := lw_g (lw_at lw_m4 179 rfl) rfl
theorem q934 : (Jvm.Cond.instanceMethod ({ cls := "java/lang/StringBuilder", name := "<init>", desc := "()V" } : Jvm.MethodName)) ∈ lw_all := lw_g (lw_at lw_m4 181 rfl) rfl
theorem q935 : (Jvm.Cond.code ({ cls := "java/lang/StringBuilder", name := "<init>", desc := "()V" } : Jvm.MethodName) prog_22_method_1_code (1 : Nat) (Option.none : Option Jvm.ClassFile.FieldType)) ∈ lw_all := lw_g (lw_at lw_m4 182 rfl) rfl
theorem q936 : (Jvm.Cond.methodLink "java/lang/StringBuilder" (1 : Nat) ({ cls := "java/lang/AbstractStringBuilder", name := "<init>", desc := "(I)V" } : Jvm.MethodName)) ∈ lw_all := lw_g (lw_at lw_m4 183 rfl) rfl
theorem q951 : (Jvm.Cond.lays "java/lang/StringBuilder" "java/lang/AbstractStringBuilder" "value" "[B") ∈ lw_all := lw_g (lw_at lw_m4 198 rfl) rfl
theorem q953 : (Jvm.Cond.lays "java/lang/StringBuilder" "java/lang/AbstractStringBuilder" "coder" "B") ∈ lw_all := lw_g (lw_at lw_m4 200 rfl) rfl
theorem q955 : (Jvm.Cond.lays "java/lang/StringBuilder" "java/lang/AbstractStringBuilder" "maybeLatin1" "Z") ∈ lw_all := lw_g (lw_at lw_m4 202 rfl) rfl
theorem q957 : (Jvm.Cond.lays "java/lang/StringBuilder" "java/lang/AbstractStringBuilder" "count" "I") ∈ lw_all := lw_g (lw_at lw_m4 204 rfl) rfl
theorem q960 : (Jvm.Cond.instanceMethod ({ cls := "java/lang/StringBuilder", name := "append", desc := "(I)Ljava/lang/StringBuilder;" } : Jvm.MethodName)) ∈ lw_all := lw_g (lw_at lw_m4 207 rfl) rfl
theorem q961 : (Jvm.Cond.selects "java/lang/StringBuilder" ({ cls := "java/lang/StringBuilder", name := "append", desc := "(I)Ljava/lang/StringBuilder;" } : Jvm.MethodName) ({ cls := "java/lang/StringBuilder", name := "append", desc := "(I)Ljava/lang/StringBuilder;" } : Jvm.MethodName)) ∈ lw_all := lw_g (lw_at lw_m4 208 rfl) rfl
theorem q962 : (Jvm.Cond.code ({ cls := "java/lang/StringBuilder", name := "append", desc := "(I)Ljava/lang/StringBuilder;" } : Jvm.MethodName) prog_22_method_15_code (2 : Nat) (Option.some (Jvm.ClassFile.FieldType.object "java/lang/StringBuilder"))) ∈ lw_all := lw_g (lw_at lw_m4 209 rfl) rfl
theorem q963 : (Jvm.Cond.methodLink "java/lang/StringBuilder" (53 : Nat) ({ cls := "java/lang/AbstractStringBuilder", name := "append", desc := "(I)Ljava/lang/AbstractStringBuilder;" } : Jvm.MethodName)) ∈ lw_all := lw_g (lw_at lw_m4 210 rfl) rfl
theorem q1021 : (Jvm.Cond.instanceMethod ({ cls := "java/lang/StringBuilder", name := "append", desc := "(C)Ljava/lang/StringBuilder;" } : Jvm.MethodName)) ∈ lw_all := lw_g (lw_at lw_m5 28 rfl) rfl
theorem q1022 : (Jvm.Cond.selects "java/lang/StringBuilder" ({ cls := "java/lang/StringBuilder", name := "append", desc := "(C)Ljava/lang/StringBuilder;" } : Jvm.MethodName) ({ cls := "java/lang/StringBuilder", name := "append", desc := "(C)Ljava/lang/StringBuilder;" } : Jvm.MethodName)) ∈ lw_all := lw_g (lw_at lw_m5 29 rfl) rfl
theorem q1023 : (Jvm.Cond.code ({ cls := "java/lang/StringBuilder", name := "append", desc := "(C)Ljava/lang/StringBuilder;" } : Jvm.MethodName) prog_22_method_14_code (2 : Nat) (Option.some (Jvm.ClassFile.FieldType.object "java/lang/StringBuilder"))) ∈ lw_all := lw_g (lw_at lw_m5 30 rfl) rfl
theorem q1024 : (Jvm.Cond.methodLink "java/lang/StringBuilder" (50 : Nat) ({ cls := "java/lang/AbstractStringBuilder", name := "append", desc := "(C)Ljava/lang/AbstractStringBuilder;" } : Jvm.MethodName)) ∈ lw_all := lw_g (lw_at lw_m5 31 rfl) rfl
theorem q1062 : (Jvm.Cond.instanceMethod ({ cls := "java/lang/StringBuilder", name := "append", desc := "(J)Ljava/lang/StringBuilder;" } : Jvm.MethodName)) ∈ lw_all := lw_g (lw_at lw_m5 69 rfl) rfl
theorem q1063 : (Jvm.Cond.selects "java/lang/StringBuilder" ({ cls := "java/lang/StringBuilder", name := "append", desc := "(J)Ljava/lang/StringBuilder;" } : Jvm.MethodName) ({ cls := "java/lang/StringBuilder", name := "append", desc := "(J)Ljava/lang/StringBuilder;" } : Jvm.MethodName)) ∈ lw_all := lw_g (lw_at lw_m5 70 rfl) rfl
theorem q1064 : (Jvm.Cond.code ({ cls := "java/lang/StringBuilder", name := "append", desc := "(J)Ljava/lang/StringBuilder;" } : Jvm.MethodName) prog_22_method_16_code (3 : Nat) (Option.some (Jvm.ClassFile.FieldType.object "java/lang/StringBuilder"))) ∈ lw_all := lw_g (lw_at lw_m5 71 rfl) rfl
theorem q1065 : (Jvm.Cond.methodLink "java/lang/StringBuilder" (56 : Nat) ({ cls := "java/lang/AbstractStringBuilder", name := "append", desc := "(J)Ljava/lang/AbstractStringBuilder;" } : Jvm.MethodName)) ∈ lw_all := lw_g (lw_at lw_m5 72 rfl) rfl
theorem q1089 : (Jvm.Cond.instanceMethod ({ cls := "java/lang/StringBuilder", name := "toString", desc := "()Ljava/lang/String;" } : Jvm.MethodName)) ∈ lw_all := lw_g (lw_at lw_m5 96 rfl) rfl
theorem q1090 : (Jvm.Cond.selects "java/lang/StringBuilder" ({ cls := "java/lang/StringBuilder", name := "toString", desc := "()Ljava/lang/String;" } : Jvm.MethodName) ({ cls := "java/lang/StringBuilder", name := "toString", desc := "()Ljava/lang/String;" } : Jvm.MethodName)) ∈ lw_all := lw_g (lw_at lw_m5 97 rfl) rfl
theorem q1091 : (Jvm.Cond.code ({ cls := "java/lang/StringBuilder", name := "toString", desc := "()Ljava/lang/String;" } : Jvm.MethodName) prog_22_method_42_code (1 : Nat) (Option.some (Jvm.ClassFile.FieldType.object "java/lang/String"))) ∈ lw_all := lw_g (lw_at lw_m5 98 rfl) rfl
theorem q1092 : (Jvm.Cond.classLink "java/lang/StringBuilder" (18 : Nat) "java/lang/String") ∈ lw_all := lw_g (lw_at lw_m5 99 rfl) rfl
theorem q1093 : (Jvm.Cond.methodLink "java/lang/StringBuilder" (137 : Nat) ({ cls := "java/lang/String", name := "<init>", desc := "(Ljava/lang/StringBuilder;)V" } : Jvm.MethodName)) ∈ lw_all := lw_g (lw_at lw_m5 100 rfl) rfl
theorem q1103 : (Jvm.Cond.selects "java/lang/StringBuilder" ({ cls := "java/lang/AbstractStringBuilder", name := "getValue", desc := "()[B" } : Jvm.MethodName) ({ cls := "java/lang/AbstractStringBuilder", name := "getValue", desc := "()[B" } : Jvm.MethodName)) ∈ lw_all := lw_g (lw_at lw_m5 110 rfl) rfl
theorem q1108 : (Jvm.Cond.selects "java/lang/StringBuilder" ({ cls := "java/lang/AbstractStringBuilder", name := "length", desc := "()I" } : Jvm.MethodName) ({ cls := "java/lang/StringBuilder", name := "length", desc := "()I" } : Jvm.MethodName)) ∈ lw_all := lw_g (lw_at lw_m5 115 rfl) rfl
theorem q1109 : (Jvm.Cond.instanceMethod ({ cls := "java/lang/StringBuilder", name := "length", desc := "()I" } : Jvm.MethodName)) ∈ lw_all := lw_g (lw_at lw_m5 116 rfl) rfl
theorem q1110 : (Jvm.Cond.code ({ cls := "java/lang/StringBuilder", name := "length", desc := "()I" } : Jvm.MethodName) prog_22_method_93_code (1 : Nat) (Option.some Jvm.ClassFile.FieldType.int)) ∈ lw_all := lw_g (lw_at lw_m5 117 rfl) rfl
theorem q1111 : (Jvm.Cond.methodLink "java/lang/StringBuilder" (343 : Nat) ({ cls := "java/lang/AbstractStringBuilder", name := "length", desc := "()I" } : Jvm.MethodName)) ∈ lw_all := lw_g (lw_at lw_m5 118 rfl) rfl
theorem q1129 : (Jvm.Cond.instanceMethod ({ cls := "java/lang/StringBuilder", name := "append", desc := "(Ljava/lang/String;)Ljava/lang/StringBuilder;" } : Jvm.MethodName)) ∈ lw_all := lw_g (lw_at lw_m5 136 rfl) rfl
theorem q1130 : (Jvm.Cond.selects "java/lang/StringBuilder" ({ cls := "java/lang/StringBuilder", name := "append", desc := "(Ljava/lang/String;)Ljava/lang/StringBuilder;" } : Jvm.MethodName) ({ cls := "java/lang/StringBuilder", name := "append", desc := "(Ljava/lang/String;)Ljava/lang/StringBuilder;" } : Jvm.MethodName)) ∈ lw_all := lw_g (lw_at lw_m5 137 rfl) rfl
theorem q1131 : (Jvm.Cond.code ({ cls := "java/lang/StringBuilder", name := "append", desc := "(Ljava/lang/String;)Ljava/lang/StringBuilder;" } : Jvm.MethodName) prog_22_method_7_code (2 : Nat) (Option.some (Jvm.ClassFile.FieldType.object "java/lang/StringBuilder"))) ∈ lw_all := lw_g (lw_at lw_m5 138 rfl) rfl
theorem q1132 : (Jvm.Cond.methodLink "java/lang/StringBuilder" (29 : Nat) ({ cls := "java/lang/AbstractStringBuilder", name := "append", desc := "(Ljava/lang/String;)Ljava/lang/AbstractStringBuilder;" } : Jvm.MethodName)) ∈ lw_all := lw_g (lw_at lw_m5 139 rfl) rfl
theorem q1219 : (Jvm.Cond.selects "java/lang/StringBuilder" ({ cls := "java/lang/Object", name := "equals", desc := "(Ljava/lang/Object;)Z" } : Jvm.MethodName) ({ cls := "java/lang/Object", name := "equals", desc := "(Ljava/lang/Object;)Z" } : Jvm.MethodName)) ∈ lw_all := lw_g (lw_at lw_m5 226 rfl) rfl
theorem in_J14 : ∀ w ∈ wsJ140, w ∈ lw_all := lw_in wsJ140 [951, 953, 955, 957] (by decide +kernel) (by decide +kernel)
/-! java/lang/Integer -/
set_option maxRecDepth 100000
def RJ16 : String := "java/lang/Integer"
def TJ16 : u_T := fun k => match k with
  | _ => ("java/lang/Integer", "value", "I", true)
def tyJ16 : Nat → FieldType := fun k => match k with
  | _ => .int
abbrev wsJ160 : List Cond := u_ws RJ16 TJ16 1
theorem nmJ16 : ∀ a, a < 1 → ∀ b, b < 1 → a ≠ b → (TJ16 a).2.1 ≠ (TJ16 b).2.1 := by decide +kernel
theorem tyJ16_ok : ∀ k, k < 1 → parseFieldDescriptor (TJ16 k).2.2.1 = some (tyJ16 k) := by decide +kernel
abbrev cJ16_compareTo : ByteArray := prog_15_method_63_code
def yJ16_compareTo : MethodName := ⟨RJ16, "compareTo", "(Ljava/lang/Object;)I"⟩
def dkwJ16_compareTo_0 : List UInt8 := [42, 43, 192, 0, 1, 182, 1, 28, 172]
abbrev dktJ16_compareTo_0 : List UInt8 := dkwJ16_compareTo_0 ++ []
theorem dksJ16_compareTo_0 : cJ16_compareTo.data.toList.drop 0 = dktJ16_compareTo_0 := by decide +kernel
theorem dJ16_compareTo_0 : decode cJ16_compareTo 0 = .ok (.aload_n 0, 1) := dk_42 (dk_at dksJ16_compareTo_0 0 rfl rfl)
theorem dJ16_compareTo_1 : decode cJ16_compareTo 1 = .ok (.aload_n 1, 1) := dk_43 (dk_at dksJ16_compareTo_0 1 rfl rfl)
theorem dJ16_compareTo_2 : decode cJ16_compareTo 2 = .ok (.checkcast 1, 3) := dk_192 0 1 (dk_at dksJ16_compareTo_0 2 rfl rfl)
theorem dJ16_compareTo_5 : decode cJ16_compareTo 5 = .ok (.invokevirtual 284, 3) := dk_182 1 28 (dk_at dksJ16_compareTo_0 5 rfl rfl)
theorem dJ16_compareTo_8 : decode cJ16_compareTo 8 = .ok (.ireturn, 1) := dk_172 (dk_at dksJ16_compareTo_0 8 rfl rfl)
abbrev cJ16_compareTo_2 : ByteArray := prog_15_method_39_code
def yJ16_compareTo_2 : MethodName := ⟨RJ16, "compareTo", "(Ljava/lang/Integer;)I"⟩
def dkwJ16_compareTo_2_0 : List UInt8 := [42, 180, 0, 205, 43, 180, 0, 205, 184, 1, 3, 172]
abbrev dktJ16_compareTo_2_0 : List UInt8 := dkwJ16_compareTo_2_0 ++ []
theorem dksJ16_compareTo_2_0 : cJ16_compareTo_2.data.toList.drop 0 = dktJ16_compareTo_2_0 := by decide +kernel
theorem dJ16_compareTo_2_0 : decode cJ16_compareTo_2 0 = .ok (.aload_n 0, 1) := dk_42 (dk_at dksJ16_compareTo_2_0 0 rfl rfl)
theorem dJ16_compareTo_2_1 : decode cJ16_compareTo_2 1 = .ok (.getfield 205, 3) := dk_180 0 205 (dk_at dksJ16_compareTo_2_0 1 rfl rfl)
theorem dJ16_compareTo_2_4 : decode cJ16_compareTo_2 4 = .ok (.aload_n 1, 1) := dk_43 (dk_at dksJ16_compareTo_2_0 4 rfl rfl)
theorem dJ16_compareTo_2_5 : decode cJ16_compareTo_2 5 = .ok (.getfield 205, 3) := dk_180 0 205 (dk_at dksJ16_compareTo_2_0 5 rfl rfl)
theorem dJ16_compareTo_2_8 : decode cJ16_compareTo_2 8 = .ok (.invokestatic 259, 3) := dk_184 1 3 (dk_at dksJ16_compareTo_2_0 8 rfl rfl)
theorem dJ16_compareTo_2_11 : decode cJ16_compareTo_2 11 = .ok (.ireturn, 1) := dk_172 (dk_at dksJ16_compareTo_2_0 11 rfl rfl)
abbrev cJ16_compare : ByteArray := prog_15_method_40_code
def yJ16_compare : MethodName := ⟨RJ16, "compare", "(II)I"⟩
def dkwJ16_compare_0 : List UInt8 := [26, 27, 162, 0, 7, 2, 167, 0, 13, 26, 27, 160, 0, 7, 3, 167, 0, 4, 4, 172]
abbrev dktJ16_compare_0 : List UInt8 := dkwJ16_compare_0 ++ []
theorem dksJ16_compare_0 : cJ16_compare.data.toList.drop 0 = dktJ16_compare_0 := by decide +kernel
theorem dJ16_compare_0 : decode cJ16_compare 0 = .ok (.iload_n 0, 1) := dk_26 (dk_at dksJ16_compare_0 0 rfl rfl)
theorem dJ16_compare_1 : decode cJ16_compare 1 = .ok (.iload_n 1, 1) := dk_27 (dk_at dksJ16_compare_0 1 rfl rfl)
theorem dJ16_compare_2 : decode cJ16_compare 2 = .ok (.if_icmp .ge 7, 3) := dk_162 0 7 (dk_at dksJ16_compare_0 2 rfl rfl)
theorem dJ16_compare_5 : decode cJ16_compare 5 = .ok (.iconst (-1), 1) := dk_2 (dk_at dksJ16_compare_0 5 rfl rfl)
theorem dJ16_compare_6 : decode cJ16_compare 6 = .ok (.goto 13, 3) := dk_167 0 13 (dk_at dksJ16_compare_0 6 rfl rfl)
theorem dJ16_compare_9 : decode cJ16_compare 9 = .ok (.iload_n 0, 1) := dk_26 (dk_at dksJ16_compare_0 9 rfl rfl)
theorem dJ16_compare_10 : decode cJ16_compare 10 = .ok (.iload_n 1, 1) := dk_27 (dk_at dksJ16_compare_0 10 rfl rfl)
theorem dJ16_compare_11 : decode cJ16_compare 11 = .ok (.if_icmp .ne 7, 3) := dk_160 0 7 (dk_at dksJ16_compare_0 11 rfl rfl)
theorem dJ16_compare_14 : decode cJ16_compare 14 = .ok (.iconst 0, 1) := dk_3 (dk_at dksJ16_compare_0 14 rfl rfl)
theorem dJ16_compare_15 : decode cJ16_compare 15 = .ok (.goto 4, 3) := dk_167 0 4 (dk_at dksJ16_compare_0 15 rfl rfl)
theorem dJ16_compare_18 : decode cJ16_compare 18 = .ok (.iconst 1, 1) := dk_4 (dk_at dksJ16_compare_0 18 rfl rfl)
theorem dJ16_compare_19 : decode cJ16_compare 19 = .ok (.ireturn, 1) := dk_172 (dk_at dksJ16_compare_0 19 rfl rfl)
abbrev cJ16_numberOfLeadingZeros : ByteArray := prog_15_method_47_code
def yJ16_numberOfLeadingZeros : MethodName := ⟨RJ16, "numberOfLeadingZeros", "(I)I"⟩
def dkwJ16_numberOfLeadingZeros_3 : List UInt8 := [5, 124, 59, 27, 26, 4, 124, 100, 172]
abbrev dktJ16_numberOfLeadingZeros_3 : List UInt8 := dkwJ16_numberOfLeadingZeros_3 ++ []
def dkwJ16_numberOfLeadingZeros_2 : List UInt8 := [124, 59, 26, 16, 16, 161, 0, 10, 132, 1, 252, 26, 7, 124, 59, 26, 7, 161, 0, 10, 132, 1, 254, 26]
abbrev dktJ16_numberOfLeadingZeros_2 : List UInt8 := dkwJ16_numberOfLeadingZeros_2 ++ dktJ16_numberOfLeadingZeros_3
def dkwJ16_numberOfLeadingZeros_1 : List UInt8 := [161, 0, 11, 132, 1, 240, 26, 16, 16, 124, 59, 26, 17, 1, 0, 161, 0, 11, 132, 1, 248, 26, 16, 8]
abbrev dktJ16_numberOfLeadingZeros_1 : List UInt8 := dkwJ16_numberOfLeadingZeros_1 ++ dktJ16_numberOfLeadingZeros_2
def dkwJ16_numberOfLeadingZeros_0 : List UInt8 := [26, 157, 0, 14, 26, 154, 0, 8, 16, 32, 167, 0, 4, 3, 172, 16, 31, 60, 26, 19, 1, 8]
abbrev dktJ16_numberOfLeadingZeros_0 : List UInt8 := dkwJ16_numberOfLeadingZeros_0 ++ dktJ16_numberOfLeadingZeros_1
theorem dksJ16_numberOfLeadingZeros_0 : cJ16_numberOfLeadingZeros.data.toList.drop 0 = dktJ16_numberOfLeadingZeros_0 := by decide +kernel
theorem dksJ16_numberOfLeadingZeros_1 : cJ16_numberOfLeadingZeros.data.toList.drop 22 = dktJ16_numberOfLeadingZeros_1 := dk_seg dksJ16_numberOfLeadingZeros_0 22 rfl rfl
theorem dksJ16_numberOfLeadingZeros_2 : cJ16_numberOfLeadingZeros.data.toList.drop 46 = dktJ16_numberOfLeadingZeros_2 := dk_seg dksJ16_numberOfLeadingZeros_1 24 rfl rfl
theorem dksJ16_numberOfLeadingZeros_3 : cJ16_numberOfLeadingZeros.data.toList.drop 70 = dktJ16_numberOfLeadingZeros_3 := dk_seg dksJ16_numberOfLeadingZeros_2 24 rfl rfl
theorem dJ16_numberOfLeadingZeros_0 : decode cJ16_numberOfLeadingZeros 0 = .ok (.iload_n 0, 1) := dk_26 (dk_at dksJ16_numberOfLeadingZeros_0 0 rfl rfl)
theorem dJ16_numberOfLeadingZeros_1 : decode cJ16_numberOfLeadingZeros 1 = .ok (.ifCond .gt 14, 3) := dk_157 0 14 (dk_at dksJ16_numberOfLeadingZeros_0 1 rfl rfl)
theorem dJ16_numberOfLeadingZeros_4 : decode cJ16_numberOfLeadingZeros 4 = .ok (.iload_n 0, 1) := dk_26 (dk_at dksJ16_numberOfLeadingZeros_0 4 rfl rfl)
theorem dJ16_numberOfLeadingZeros_5 : decode cJ16_numberOfLeadingZeros 5 = .ok (.ifCond .ne 8, 3) := dk_154 0 8 (dk_at dksJ16_numberOfLeadingZeros_0 5 rfl rfl)
theorem dJ16_numberOfLeadingZeros_8 : decode cJ16_numberOfLeadingZeros 8 = .ok (.bipush 32, 2) := dk_16 32 (dk_at dksJ16_numberOfLeadingZeros_0 8 rfl rfl)
theorem dJ16_numberOfLeadingZeros_10 : decode cJ16_numberOfLeadingZeros 10 = .ok (.goto 4, 3) := dk_167 0 4 (dk_at dksJ16_numberOfLeadingZeros_0 10 rfl rfl)
theorem dJ16_numberOfLeadingZeros_13 : decode cJ16_numberOfLeadingZeros 13 = .ok (.iconst 0, 1) := dk_3 (dk_at dksJ16_numberOfLeadingZeros_0 13 rfl rfl)
theorem dJ16_numberOfLeadingZeros_14 : decode cJ16_numberOfLeadingZeros 14 = .ok (.ireturn, 1) := dk_172 (dk_at dksJ16_numberOfLeadingZeros_0 14 rfl rfl)
theorem dJ16_numberOfLeadingZeros_15 : decode cJ16_numberOfLeadingZeros 15 = .ok (.bipush 31, 2) := dk_16 31 (dk_at dksJ16_numberOfLeadingZeros_0 15 rfl rfl)
theorem dJ16_numberOfLeadingZeros_17 : decode cJ16_numberOfLeadingZeros 17 = .ok (.istore_n 1, 1) := dk_60 (dk_at dksJ16_numberOfLeadingZeros_0 17 rfl rfl)
theorem dJ16_numberOfLeadingZeros_18 : decode cJ16_numberOfLeadingZeros 18 = .ok (.iload_n 0, 1) := dk_26 (dk_at dksJ16_numberOfLeadingZeros_0 18 rfl rfl)
theorem dJ16_numberOfLeadingZeros_19 : decode cJ16_numberOfLeadingZeros 19 = .ok (.ldc_w 264, 3) := dk_19 1 8 (dk_at dksJ16_numberOfLeadingZeros_0 19 rfl rfl)
theorem dJ16_numberOfLeadingZeros_22 : decode cJ16_numberOfLeadingZeros 22 = .ok (.if_icmp .lt 11, 3) := dk_161 0 11 (dk_at dksJ16_numberOfLeadingZeros_1 0 rfl rfl)
theorem dJ16_numberOfLeadingZeros_25 : decode cJ16_numberOfLeadingZeros 25 = .ok (.iinc 1 (-16), 3) := dk_132 1 240 (dk_at dksJ16_numberOfLeadingZeros_1 3 rfl rfl)
theorem dJ16_numberOfLeadingZeros_28 : decode cJ16_numberOfLeadingZeros 28 = .ok (.iload_n 0, 1) := dk_26 (dk_at dksJ16_numberOfLeadingZeros_1 6 rfl rfl)
theorem dJ16_numberOfLeadingZeros_29 : decode cJ16_numberOfLeadingZeros 29 = .ok (.bipush 16, 2) := dk_16 16 (dk_at dksJ16_numberOfLeadingZeros_1 7 rfl rfl)
theorem dJ16_numberOfLeadingZeros_31 : decode cJ16_numberOfLeadingZeros 31 = .ok (.iushr, 1) := dk_124 (dk_at dksJ16_numberOfLeadingZeros_1 9 rfl rfl)
theorem dJ16_numberOfLeadingZeros_32 : decode cJ16_numberOfLeadingZeros 32 = .ok (.istore_n 0, 1) := dk_59 (dk_at dksJ16_numberOfLeadingZeros_1 10 rfl rfl)
theorem dJ16_numberOfLeadingZeros_33 : decode cJ16_numberOfLeadingZeros 33 = .ok (.iload_n 0, 1) := dk_26 (dk_at dksJ16_numberOfLeadingZeros_1 11 rfl rfl)
theorem dJ16_numberOfLeadingZeros_34 : decode cJ16_numberOfLeadingZeros 34 = .ok (.sipush 256, 3) := dk_17 1 0 (dk_at dksJ16_numberOfLeadingZeros_1 12 rfl rfl)
theorem dJ16_numberOfLeadingZeros_37 : decode cJ16_numberOfLeadingZeros 37 = .ok (.if_icmp .lt 11, 3) := dk_161 0 11 (dk_at dksJ16_numberOfLeadingZeros_1 15 rfl rfl)
theorem dJ16_numberOfLeadingZeros_40 : decode cJ16_numberOfLeadingZeros 40 = .ok (.iinc 1 (-8), 3) := dk_132 1 248 (dk_at dksJ16_numberOfLeadingZeros_1 18 rfl rfl)
theorem dJ16_numberOfLeadingZeros_43 : decode cJ16_numberOfLeadingZeros 43 = .ok (.iload_n 0, 1) := dk_26 (dk_at dksJ16_numberOfLeadingZeros_1 21 rfl rfl)
theorem dJ16_numberOfLeadingZeros_44 : decode cJ16_numberOfLeadingZeros 44 = .ok (.bipush 8, 2) := dk_16 8 (dk_at dksJ16_numberOfLeadingZeros_1 22 rfl rfl)
theorem dJ16_numberOfLeadingZeros_46 : decode cJ16_numberOfLeadingZeros 46 = .ok (.iushr, 1) := dk_124 (dk_at dksJ16_numberOfLeadingZeros_2 0 rfl rfl)
theorem dJ16_numberOfLeadingZeros_47 : decode cJ16_numberOfLeadingZeros 47 = .ok (.istore_n 0, 1) := dk_59 (dk_at dksJ16_numberOfLeadingZeros_2 1 rfl rfl)
theorem dJ16_numberOfLeadingZeros_48 : decode cJ16_numberOfLeadingZeros 48 = .ok (.iload_n 0, 1) := dk_26 (dk_at dksJ16_numberOfLeadingZeros_2 2 rfl rfl)
theorem dJ16_numberOfLeadingZeros_49 : decode cJ16_numberOfLeadingZeros 49 = .ok (.bipush 16, 2) := dk_16 16 (dk_at dksJ16_numberOfLeadingZeros_2 3 rfl rfl)
theorem dJ16_numberOfLeadingZeros_51 : decode cJ16_numberOfLeadingZeros 51 = .ok (.if_icmp .lt 10, 3) := dk_161 0 10 (dk_at dksJ16_numberOfLeadingZeros_2 5 rfl rfl)
theorem dJ16_numberOfLeadingZeros_54 : decode cJ16_numberOfLeadingZeros 54 = .ok (.iinc 1 (-4), 3) := dk_132 1 252 (dk_at dksJ16_numberOfLeadingZeros_2 8 rfl rfl)
theorem dJ16_numberOfLeadingZeros_57 : decode cJ16_numberOfLeadingZeros 57 = .ok (.iload_n 0, 1) := dk_26 (dk_at dksJ16_numberOfLeadingZeros_2 11 rfl rfl)
theorem dJ16_numberOfLeadingZeros_58 : decode cJ16_numberOfLeadingZeros 58 = .ok (.iconst 4, 1) := dk_7 (dk_at dksJ16_numberOfLeadingZeros_2 12 rfl rfl)
theorem dJ16_numberOfLeadingZeros_59 : decode cJ16_numberOfLeadingZeros 59 = .ok (.iushr, 1) := dk_124 (dk_at dksJ16_numberOfLeadingZeros_2 13 rfl rfl)
theorem dJ16_numberOfLeadingZeros_60 : decode cJ16_numberOfLeadingZeros 60 = .ok (.istore_n 0, 1) := dk_59 (dk_at dksJ16_numberOfLeadingZeros_2 14 rfl rfl)
theorem dJ16_numberOfLeadingZeros_61 : decode cJ16_numberOfLeadingZeros 61 = .ok (.iload_n 0, 1) := dk_26 (dk_at dksJ16_numberOfLeadingZeros_2 15 rfl rfl)
theorem dJ16_numberOfLeadingZeros_62 : decode cJ16_numberOfLeadingZeros 62 = .ok (.iconst 4, 1) := dk_7 (dk_at dksJ16_numberOfLeadingZeros_2 16 rfl rfl)
theorem dJ16_numberOfLeadingZeros_63 : decode cJ16_numberOfLeadingZeros 63 = .ok (.if_icmp .lt 10, 3) := dk_161 0 10 (dk_at dksJ16_numberOfLeadingZeros_2 17 rfl rfl)
theorem dJ16_numberOfLeadingZeros_66 : decode cJ16_numberOfLeadingZeros 66 = .ok (.iinc 1 (-2), 3) := dk_132 1 254 (dk_at dksJ16_numberOfLeadingZeros_2 20 rfl rfl)
theorem dJ16_numberOfLeadingZeros_69 : decode cJ16_numberOfLeadingZeros 69 = .ok (.iload_n 0, 1) := dk_26 (dk_at dksJ16_numberOfLeadingZeros_2 23 rfl rfl)
theorem dJ16_numberOfLeadingZeros_70 : decode cJ16_numberOfLeadingZeros 70 = .ok (.iconst 2, 1) := dk_5 (dk_at dksJ16_numberOfLeadingZeros_3 0 rfl rfl)
theorem dJ16_numberOfLeadingZeros_71 : decode cJ16_numberOfLeadingZeros 71 = .ok (.iushr, 1) := dk_124 (dk_at dksJ16_numberOfLeadingZeros_3 1 rfl rfl)
theorem dJ16_numberOfLeadingZeros_72 : decode cJ16_numberOfLeadingZeros 72 = .ok (.istore_n 0, 1) := dk_59 (dk_at dksJ16_numberOfLeadingZeros_3 2 rfl rfl)
theorem dJ16_numberOfLeadingZeros_73 : decode cJ16_numberOfLeadingZeros 73 = .ok (.iload_n 1, 1) := dk_27 (dk_at dksJ16_numberOfLeadingZeros_3 3 rfl rfl)
theorem dJ16_numberOfLeadingZeros_74 : decode cJ16_numberOfLeadingZeros 74 = .ok (.iload_n 0, 1) := dk_26 (dk_at dksJ16_numberOfLeadingZeros_3 4 rfl rfl)
theorem dJ16_numberOfLeadingZeros_75 : decode cJ16_numberOfLeadingZeros 75 = .ok (.iconst 1, 1) := dk_4 (dk_at dksJ16_numberOfLeadingZeros_3 5 rfl rfl)
theorem dJ16_numberOfLeadingZeros_76 : decode cJ16_numberOfLeadingZeros 76 = .ok (.iushr, 1) := dk_124 (dk_at dksJ16_numberOfLeadingZeros_3 6 rfl rfl)
theorem dJ16_numberOfLeadingZeros_77 : decode cJ16_numberOfLeadingZeros 77 = .ok (.isub, 1) := dk_100 (dk_at dksJ16_numberOfLeadingZeros_3 7 rfl rfl)
theorem dJ16_numberOfLeadingZeros_78 : decode cJ16_numberOfLeadingZeros 78 = .ok (.ireturn, 1) := dk_172 (dk_at dksJ16_numberOfLeadingZeros_3 8 rfl rfl)
abbrev cJ16_numberOfTrailingZeros : ByteArray := prog_15_method_48_code
def yJ16_numberOfTrailingZeros : MethodName := ⟨RJ16, "numberOfTrailingZeros", "(I)I"⟩
def dkwJ16_numberOfTrailingZeros_3 : List UInt8 := [5, 124, 59, 27, 26, 4, 124, 96, 172]
abbrev dktJ16_numberOfTrailingZeros_3 : List UInt8 := dkwJ16_numberOfTrailingZeros_3 ++ []
def dkwJ16_numberOfTrailingZeros_2 : List UInt8 := [124, 59, 26, 16, 16, 164, 0, 10, 132, 1, 4, 26, 7, 124, 59, 26, 7, 164, 0, 10, 132, 1, 2, 26]
abbrev dktJ16_numberOfTrailingZeros_2 : List UInt8 := dkwJ16_numberOfTrailingZeros_2 ++ dktJ16_numberOfTrailingZeros_3
def dkwJ16_numberOfTrailingZeros_1 : List UInt8 := [164, 0, 11, 132, 1, 16, 26, 16, 16, 124, 59, 26, 17, 1, 0, 164, 0, 11, 132, 1, 8, 26, 16, 8]
abbrev dktJ16_numberOfTrailingZeros_1 : List UInt8 := dkwJ16_numberOfTrailingZeros_1 ++ dktJ16_numberOfTrailingZeros_2
def dkwJ16_numberOfTrailingZeros_0 : List UInt8 := [26, 2, 130, 26, 4, 100, 126, 59, 26, 157, 0, 8, 26, 16, 32, 126, 172, 4, 60, 26, 19, 1, 8]
abbrev dktJ16_numberOfTrailingZeros_0 : List UInt8 := dkwJ16_numberOfTrailingZeros_0 ++ dktJ16_numberOfTrailingZeros_1
theorem dksJ16_numberOfTrailingZeros_0 : cJ16_numberOfTrailingZeros.data.toList.drop 0 = dktJ16_numberOfTrailingZeros_0 := by decide +kernel
theorem dksJ16_numberOfTrailingZeros_1 : cJ16_numberOfTrailingZeros.data.toList.drop 23 = dktJ16_numberOfTrailingZeros_1 := dk_seg dksJ16_numberOfTrailingZeros_0 23 rfl rfl
theorem dksJ16_numberOfTrailingZeros_2 : cJ16_numberOfTrailingZeros.data.toList.drop 47 = dktJ16_numberOfTrailingZeros_2 := dk_seg dksJ16_numberOfTrailingZeros_1 24 rfl rfl
theorem dksJ16_numberOfTrailingZeros_3 : cJ16_numberOfTrailingZeros.data.toList.drop 71 = dktJ16_numberOfTrailingZeros_3 := dk_seg dksJ16_numberOfTrailingZeros_2 24 rfl rfl
theorem dJ16_numberOfTrailingZeros_0 : decode cJ16_numberOfTrailingZeros 0 = .ok (.iload_n 0, 1) := dk_26 (dk_at dksJ16_numberOfTrailingZeros_0 0 rfl rfl)
theorem dJ16_numberOfTrailingZeros_1 : decode cJ16_numberOfTrailingZeros 1 = .ok (.iconst (-1), 1) := dk_2 (dk_at dksJ16_numberOfTrailingZeros_0 1 rfl rfl)
theorem dJ16_numberOfTrailingZeros_2 : decode cJ16_numberOfTrailingZeros 2 = .ok (.ixor, 1) := dk_130 (dk_at dksJ16_numberOfTrailingZeros_0 2 rfl rfl)
theorem dJ16_numberOfTrailingZeros_3 : decode cJ16_numberOfTrailingZeros 3 = .ok (.iload_n 0, 1) := dk_26 (dk_at dksJ16_numberOfTrailingZeros_0 3 rfl rfl)
theorem dJ16_numberOfTrailingZeros_4 : decode cJ16_numberOfTrailingZeros 4 = .ok (.iconst 1, 1) := dk_4 (dk_at dksJ16_numberOfTrailingZeros_0 4 rfl rfl)
theorem dJ16_numberOfTrailingZeros_5 : decode cJ16_numberOfTrailingZeros 5 = .ok (.isub, 1) := dk_100 (dk_at dksJ16_numberOfTrailingZeros_0 5 rfl rfl)
theorem dJ16_numberOfTrailingZeros_6 : decode cJ16_numberOfTrailingZeros 6 = .ok (.iand, 1) := dk_126 (dk_at dksJ16_numberOfTrailingZeros_0 6 rfl rfl)
theorem dJ16_numberOfTrailingZeros_7 : decode cJ16_numberOfTrailingZeros 7 = .ok (.istore_n 0, 1) := dk_59 (dk_at dksJ16_numberOfTrailingZeros_0 7 rfl rfl)
theorem dJ16_numberOfTrailingZeros_8 : decode cJ16_numberOfTrailingZeros 8 = .ok (.iload_n 0, 1) := dk_26 (dk_at dksJ16_numberOfTrailingZeros_0 8 rfl rfl)
theorem dJ16_numberOfTrailingZeros_9 : decode cJ16_numberOfTrailingZeros 9 = .ok (.ifCond .gt 8, 3) := dk_157 0 8 (dk_at dksJ16_numberOfTrailingZeros_0 9 rfl rfl)
theorem dJ16_numberOfTrailingZeros_12 : decode cJ16_numberOfTrailingZeros 12 = .ok (.iload_n 0, 1) := dk_26 (dk_at dksJ16_numberOfTrailingZeros_0 12 rfl rfl)
theorem dJ16_numberOfTrailingZeros_13 : decode cJ16_numberOfTrailingZeros 13 = .ok (.bipush 32, 2) := dk_16 32 (dk_at dksJ16_numberOfTrailingZeros_0 13 rfl rfl)
theorem dJ16_numberOfTrailingZeros_15 : decode cJ16_numberOfTrailingZeros 15 = .ok (.iand, 1) := dk_126 (dk_at dksJ16_numberOfTrailingZeros_0 15 rfl rfl)
theorem dJ16_numberOfTrailingZeros_16 : decode cJ16_numberOfTrailingZeros 16 = .ok (.ireturn, 1) := dk_172 (dk_at dksJ16_numberOfTrailingZeros_0 16 rfl rfl)
theorem dJ16_numberOfTrailingZeros_17 : decode cJ16_numberOfTrailingZeros 17 = .ok (.iconst 1, 1) := dk_4 (dk_at dksJ16_numberOfTrailingZeros_0 17 rfl rfl)
theorem dJ16_numberOfTrailingZeros_18 : decode cJ16_numberOfTrailingZeros 18 = .ok (.istore_n 1, 1) := dk_60 (dk_at dksJ16_numberOfTrailingZeros_0 18 rfl rfl)
theorem dJ16_numberOfTrailingZeros_19 : decode cJ16_numberOfTrailingZeros 19 = .ok (.iload_n 0, 1) := dk_26 (dk_at dksJ16_numberOfTrailingZeros_0 19 rfl rfl)
theorem dJ16_numberOfTrailingZeros_20 : decode cJ16_numberOfTrailingZeros 20 = .ok (.ldc_w 264, 3) := dk_19 1 8 (dk_at dksJ16_numberOfTrailingZeros_0 20 rfl rfl)
theorem dJ16_numberOfTrailingZeros_23 : decode cJ16_numberOfTrailingZeros 23 = .ok (.if_icmp .le 11, 3) := dk_164 0 11 (dk_at dksJ16_numberOfTrailingZeros_1 0 rfl rfl)
theorem dJ16_numberOfTrailingZeros_26 : decode cJ16_numberOfTrailingZeros 26 = .ok (.iinc 1 16, 3) := dk_132 1 16 (dk_at dksJ16_numberOfTrailingZeros_1 3 rfl rfl)
theorem dJ16_numberOfTrailingZeros_29 : decode cJ16_numberOfTrailingZeros 29 = .ok (.iload_n 0, 1) := dk_26 (dk_at dksJ16_numberOfTrailingZeros_1 6 rfl rfl)
theorem dJ16_numberOfTrailingZeros_30 : decode cJ16_numberOfTrailingZeros 30 = .ok (.bipush 16, 2) := dk_16 16 (dk_at dksJ16_numberOfTrailingZeros_1 7 rfl rfl)
theorem dJ16_numberOfTrailingZeros_32 : decode cJ16_numberOfTrailingZeros 32 = .ok (.iushr, 1) := dk_124 (dk_at dksJ16_numberOfTrailingZeros_1 9 rfl rfl)
theorem dJ16_numberOfTrailingZeros_33 : decode cJ16_numberOfTrailingZeros 33 = .ok (.istore_n 0, 1) := dk_59 (dk_at dksJ16_numberOfTrailingZeros_1 10 rfl rfl)
theorem dJ16_numberOfTrailingZeros_34 : decode cJ16_numberOfTrailingZeros 34 = .ok (.iload_n 0, 1) := dk_26 (dk_at dksJ16_numberOfTrailingZeros_1 11 rfl rfl)
theorem dJ16_numberOfTrailingZeros_35 : decode cJ16_numberOfTrailingZeros 35 = .ok (.sipush 256, 3) := dk_17 1 0 (dk_at dksJ16_numberOfTrailingZeros_1 12 rfl rfl)
theorem dJ16_numberOfTrailingZeros_38 : decode cJ16_numberOfTrailingZeros 38 = .ok (.if_icmp .le 11, 3) := dk_164 0 11 (dk_at dksJ16_numberOfTrailingZeros_1 15 rfl rfl)
theorem dJ16_numberOfTrailingZeros_41 : decode cJ16_numberOfTrailingZeros 41 = .ok (.iinc 1 8, 3) := dk_132 1 8 (dk_at dksJ16_numberOfTrailingZeros_1 18 rfl rfl)
theorem dJ16_numberOfTrailingZeros_44 : decode cJ16_numberOfTrailingZeros 44 = .ok (.iload_n 0, 1) := dk_26 (dk_at dksJ16_numberOfTrailingZeros_1 21 rfl rfl)
theorem dJ16_numberOfTrailingZeros_45 : decode cJ16_numberOfTrailingZeros 45 = .ok (.bipush 8, 2) := dk_16 8 (dk_at dksJ16_numberOfTrailingZeros_1 22 rfl rfl)
theorem dJ16_numberOfTrailingZeros_47 : decode cJ16_numberOfTrailingZeros 47 = .ok (.iushr, 1) := dk_124 (dk_at dksJ16_numberOfTrailingZeros_2 0 rfl rfl)
theorem dJ16_numberOfTrailingZeros_48 : decode cJ16_numberOfTrailingZeros 48 = .ok (.istore_n 0, 1) := dk_59 (dk_at dksJ16_numberOfTrailingZeros_2 1 rfl rfl)
theorem dJ16_numberOfTrailingZeros_49 : decode cJ16_numberOfTrailingZeros 49 = .ok (.iload_n 0, 1) := dk_26 (dk_at dksJ16_numberOfTrailingZeros_2 2 rfl rfl)
theorem dJ16_numberOfTrailingZeros_50 : decode cJ16_numberOfTrailingZeros 50 = .ok (.bipush 16, 2) := dk_16 16 (dk_at dksJ16_numberOfTrailingZeros_2 3 rfl rfl)
theorem dJ16_numberOfTrailingZeros_52 : decode cJ16_numberOfTrailingZeros 52 = .ok (.if_icmp .le 10, 3) := dk_164 0 10 (dk_at dksJ16_numberOfTrailingZeros_2 5 rfl rfl)
theorem dJ16_numberOfTrailingZeros_55 : decode cJ16_numberOfTrailingZeros 55 = .ok (.iinc 1 4, 3) := dk_132 1 4 (dk_at dksJ16_numberOfTrailingZeros_2 8 rfl rfl)
theorem dJ16_numberOfTrailingZeros_58 : decode cJ16_numberOfTrailingZeros 58 = .ok (.iload_n 0, 1) := dk_26 (dk_at dksJ16_numberOfTrailingZeros_2 11 rfl rfl)
theorem dJ16_numberOfTrailingZeros_59 : decode cJ16_numberOfTrailingZeros 59 = .ok (.iconst 4, 1) := dk_7 (dk_at dksJ16_numberOfTrailingZeros_2 12 rfl rfl)
theorem dJ16_numberOfTrailingZeros_60 : decode cJ16_numberOfTrailingZeros 60 = .ok (.iushr, 1) := dk_124 (dk_at dksJ16_numberOfTrailingZeros_2 13 rfl rfl)
theorem dJ16_numberOfTrailingZeros_61 : decode cJ16_numberOfTrailingZeros 61 = .ok (.istore_n 0, 1) := dk_59 (dk_at dksJ16_numberOfTrailingZeros_2 14 rfl rfl)
theorem dJ16_numberOfTrailingZeros_62 : decode cJ16_numberOfTrailingZeros 62 = .ok (.iload_n 0, 1) := dk_26 (dk_at dksJ16_numberOfTrailingZeros_2 15 rfl rfl)
theorem dJ16_numberOfTrailingZeros_63 : decode cJ16_numberOfTrailingZeros 63 = .ok (.iconst 4, 1) := dk_7 (dk_at dksJ16_numberOfTrailingZeros_2 16 rfl rfl)
theorem dJ16_numberOfTrailingZeros_64 : decode cJ16_numberOfTrailingZeros 64 = .ok (.if_icmp .le 10, 3) := dk_164 0 10 (dk_at dksJ16_numberOfTrailingZeros_2 17 rfl rfl)
theorem dJ16_numberOfTrailingZeros_67 : decode cJ16_numberOfTrailingZeros 67 = .ok (.iinc 1 2, 3) := dk_132 1 2 (dk_at dksJ16_numberOfTrailingZeros_2 20 rfl rfl)
theorem dJ16_numberOfTrailingZeros_70 : decode cJ16_numberOfTrailingZeros 70 = .ok (.iload_n 0, 1) := dk_26 (dk_at dksJ16_numberOfTrailingZeros_2 23 rfl rfl)
theorem dJ16_numberOfTrailingZeros_71 : decode cJ16_numberOfTrailingZeros 71 = .ok (.iconst 2, 1) := dk_5 (dk_at dksJ16_numberOfTrailingZeros_3 0 rfl rfl)
theorem dJ16_numberOfTrailingZeros_72 : decode cJ16_numberOfTrailingZeros 72 = .ok (.iushr, 1) := dk_124 (dk_at dksJ16_numberOfTrailingZeros_3 1 rfl rfl)
theorem dJ16_numberOfTrailingZeros_73 : decode cJ16_numberOfTrailingZeros 73 = .ok (.istore_n 0, 1) := dk_59 (dk_at dksJ16_numberOfTrailingZeros_3 2 rfl rfl)
theorem dJ16_numberOfTrailingZeros_74 : decode cJ16_numberOfTrailingZeros 74 = .ok (.iload_n 1, 1) := dk_27 (dk_at dksJ16_numberOfTrailingZeros_3 3 rfl rfl)
theorem dJ16_numberOfTrailingZeros_75 : decode cJ16_numberOfTrailingZeros 75 = .ok (.iload_n 0, 1) := dk_26 (dk_at dksJ16_numberOfTrailingZeros_3 4 rfl rfl)
theorem dJ16_numberOfTrailingZeros_76 : decode cJ16_numberOfTrailingZeros 76 = .ok (.iconst 1, 1) := dk_4 (dk_at dksJ16_numberOfTrailingZeros_3 5 rfl rfl)
theorem dJ16_numberOfTrailingZeros_77 : decode cJ16_numberOfTrailingZeros 77 = .ok (.iushr, 1) := dk_124 (dk_at dksJ16_numberOfTrailingZeros_3 6 rfl rfl)
theorem dJ16_numberOfTrailingZeros_78 : decode cJ16_numberOfTrailingZeros 78 = .ok (.iadd, 1) := dk_96 (dk_at dksJ16_numberOfTrailingZeros_3 7 rfl rfl)
theorem dJ16_numberOfTrailingZeros_79 : decode cJ16_numberOfTrailingZeros 79 = .ok (.ireturn, 1) := dk_172 (dk_at dksJ16_numberOfTrailingZeros_3 8 rfl rfl)
abbrev cJ16_signum : ByteArray := prog_15_method_56_code
def yJ16_signum : MethodName := ⟨RJ16, "signum", "(I)I"⟩
def dkwJ16_signum_0 : List UInt8 := [26, 16, 31, 122, 26, 116, 16, 31, 124, 128, 172]
abbrev dktJ16_signum_0 : List UInt8 := dkwJ16_signum_0 ++ []
theorem dksJ16_signum_0 : cJ16_signum.data.toList.drop 0 = dktJ16_signum_0 := by decide +kernel
theorem dJ16_signum_0 : decode cJ16_signum 0 = .ok (.iload_n 0, 1) := dk_26 (dk_at dksJ16_signum_0 0 rfl rfl)
theorem dJ16_signum_1 : decode cJ16_signum 1 = .ok (.bipush 31, 2) := dk_16 31 (dk_at dksJ16_signum_0 1 rfl rfl)
theorem dJ16_signum_3 : decode cJ16_signum 3 = .ok (.ishr, 1) := dk_122 (dk_at dksJ16_signum_0 3 rfl rfl)
theorem dJ16_signum_4 : decode cJ16_signum 4 = .ok (.iload_n 0, 1) := dk_26 (dk_at dksJ16_signum_0 4 rfl rfl)
theorem dJ16_signum_5 : decode cJ16_signum 5 = .ok (.ineg, 1) := dk_116 (dk_at dksJ16_signum_0 5 rfl rfl)
theorem dJ16_signum_6 : decode cJ16_signum 6 = .ok (.bipush 31, 2) := dk_16 31 (dk_at dksJ16_signum_0 6 rfl rfl)
theorem dJ16_signum_8 : decode cJ16_signum 8 = .ok (.iushr, 1) := dk_124 (dk_at dksJ16_signum_0 8 rfl rfl)
theorem dJ16_signum_9 : decode cJ16_signum 9 = .ok (.ior, 1) := dk_128 (dk_at dksJ16_signum_0 9 rfl rfl)
theorem dJ16_signum_10 : decode cJ16_signum 10 = .ok (.ireturn, 1) := dk_172 (dk_at dksJ16_signum_0 10 rfl rfl)
abbrev cJ16_stringSize : ByteArray := prog_15_method_13_code
def yJ16_stringSize : MethodName := ⟨RJ16, "stringSize", "(I)I"⟩
def dkwJ16_stringSize_1 : List UInt8 := [164, 0, 7, 29, 27, 96, 172, 16, 10, 28, 104, 61, 132, 3, 1, 167, 255, 233, 16, 10, 27, 96, 172]
abbrev dktJ16_stringSize_1 : List UInt8 := dkwJ16_stringSize_1 ++ []
def dkwJ16_stringSize_0 : List UInt8 := [4, 60, 26, 155, 0, 8, 3, 60, 26, 116, 59, 16, 246, 61, 4, 62, 29, 16, 10, 162, 0, 23, 26, 28]
abbrev dktJ16_stringSize_0 : List UInt8 := dkwJ16_stringSize_0 ++ dktJ16_stringSize_1
theorem dksJ16_stringSize_0 : cJ16_stringSize.data.toList.drop 0 = dktJ16_stringSize_0 := by decide +kernel
theorem dksJ16_stringSize_1 : cJ16_stringSize.data.toList.drop 24 = dktJ16_stringSize_1 := dk_seg dksJ16_stringSize_0 24 rfl rfl
theorem dJ16_stringSize_0 : decode cJ16_stringSize 0 = .ok (.iconst 1, 1) := dk_4 (dk_at dksJ16_stringSize_0 0 rfl rfl)
theorem dJ16_stringSize_1 : decode cJ16_stringSize 1 = .ok (.istore_n 1, 1) := dk_60 (dk_at dksJ16_stringSize_0 1 rfl rfl)
theorem dJ16_stringSize_2 : decode cJ16_stringSize 2 = .ok (.iload_n 0, 1) := dk_26 (dk_at dksJ16_stringSize_0 2 rfl rfl)
theorem dJ16_stringSize_3 : decode cJ16_stringSize 3 = .ok (.ifCond .lt 8, 3) := dk_155 0 8 (dk_at dksJ16_stringSize_0 3 rfl rfl)
theorem dJ16_stringSize_6 : decode cJ16_stringSize 6 = .ok (.iconst 0, 1) := dk_3 (dk_at dksJ16_stringSize_0 6 rfl rfl)
theorem dJ16_stringSize_7 : decode cJ16_stringSize 7 = .ok (.istore_n 1, 1) := dk_60 (dk_at dksJ16_stringSize_0 7 rfl rfl)
theorem dJ16_stringSize_8 : decode cJ16_stringSize 8 = .ok (.iload_n 0, 1) := dk_26 (dk_at dksJ16_stringSize_0 8 rfl rfl)
theorem dJ16_stringSize_9 : decode cJ16_stringSize 9 = .ok (.ineg, 1) := dk_116 (dk_at dksJ16_stringSize_0 9 rfl rfl)
theorem dJ16_stringSize_10 : decode cJ16_stringSize 10 = .ok (.istore_n 0, 1) := dk_59 (dk_at dksJ16_stringSize_0 10 rfl rfl)
theorem dJ16_stringSize_11 : decode cJ16_stringSize 11 = .ok (.bipush (-10), 2) := dk_16 246 (dk_at dksJ16_stringSize_0 11 rfl rfl)
theorem dJ16_stringSize_13 : decode cJ16_stringSize 13 = .ok (.istore_n 2, 1) := dk_61 (dk_at dksJ16_stringSize_0 13 rfl rfl)
theorem dJ16_stringSize_14 : decode cJ16_stringSize 14 = .ok (.iconst 1, 1) := dk_4 (dk_at dksJ16_stringSize_0 14 rfl rfl)
theorem dJ16_stringSize_15 : decode cJ16_stringSize 15 = .ok (.istore_n 3, 1) := dk_62 (dk_at dksJ16_stringSize_0 15 rfl rfl)
theorem dJ16_stringSize_16 : decode cJ16_stringSize 16 = .ok (.iload_n 3, 1) := dk_29 (dk_at dksJ16_stringSize_0 16 rfl rfl)
theorem dJ16_stringSize_17 : decode cJ16_stringSize 17 = .ok (.bipush 10, 2) := dk_16 10 (dk_at dksJ16_stringSize_0 17 rfl rfl)
theorem dJ16_stringSize_19 : decode cJ16_stringSize 19 = .ok (.if_icmp .ge 23, 3) := dk_162 0 23 (dk_at dksJ16_stringSize_0 19 rfl rfl)
theorem dJ16_stringSize_22 : decode cJ16_stringSize 22 = .ok (.iload_n 0, 1) := dk_26 (dk_at dksJ16_stringSize_0 22 rfl rfl)
theorem dJ16_stringSize_23 : decode cJ16_stringSize 23 = .ok (.iload_n 2, 1) := dk_28 (dk_at dksJ16_stringSize_0 23 rfl rfl)
theorem dJ16_stringSize_24 : decode cJ16_stringSize 24 = .ok (.if_icmp .le 7, 3) := dk_164 0 7 (dk_at dksJ16_stringSize_1 0 rfl rfl)
theorem dJ16_stringSize_27 : decode cJ16_stringSize 27 = .ok (.iload_n 3, 1) := dk_29 (dk_at dksJ16_stringSize_1 3 rfl rfl)
theorem dJ16_stringSize_28 : decode cJ16_stringSize 28 = .ok (.iload_n 1, 1) := dk_27 (dk_at dksJ16_stringSize_1 4 rfl rfl)
theorem dJ16_stringSize_29 : decode cJ16_stringSize 29 = .ok (.iadd, 1) := dk_96 (dk_at dksJ16_stringSize_1 5 rfl rfl)
theorem dJ16_stringSize_30 : decode cJ16_stringSize 30 = .ok (.ireturn, 1) := dk_172 (dk_at dksJ16_stringSize_1 6 rfl rfl)
theorem dJ16_stringSize_31 : decode cJ16_stringSize 31 = .ok (.bipush 10, 2) := dk_16 10 (dk_at dksJ16_stringSize_1 7 rfl rfl)
theorem dJ16_stringSize_33 : decode cJ16_stringSize 33 = .ok (.iload_n 2, 1) := dk_28 (dk_at dksJ16_stringSize_1 9 rfl rfl)
theorem dJ16_stringSize_34 : decode cJ16_stringSize 34 = .ok (.imul, 1) := dk_104 (dk_at dksJ16_stringSize_1 10 rfl rfl)
theorem dJ16_stringSize_35 : decode cJ16_stringSize 35 = .ok (.istore_n 2, 1) := dk_61 (dk_at dksJ16_stringSize_1 11 rfl rfl)
theorem dJ16_stringSize_36 : decode cJ16_stringSize 36 = .ok (.iinc 3 1, 3) := dk_132 3 1 (dk_at dksJ16_stringSize_1 12 rfl rfl)
theorem dJ16_stringSize_39 : decode cJ16_stringSize 39 = .ok (.goto (-23), 3) := dk_167 255 233 (dk_at dksJ16_stringSize_1 15 rfl rfl)
theorem dJ16_stringSize_42 : decode cJ16_stringSize 42 = .ok (.bipush 10, 2) := dk_16 10 (dk_at dksJ16_stringSize_1 18 rfl rfl)
theorem dJ16_stringSize_44 : decode cJ16_stringSize 44 = .ok (.iload_n 1, 1) := dk_27 (dk_at dksJ16_stringSize_1 20 rfl rfl)
theorem dJ16_stringSize_45 : decode cJ16_stringSize 45 = .ok (.iadd, 1) := dk_96 (dk_at dksJ16_stringSize_1 21 rfl rfl)
theorem dJ16_stringSize_46 : decode cJ16_stringSize 46 = .ok (.ireturn, 1) := dk_172 (dk_at dksJ16_stringSize_1 22 rfl rfl)
abbrev cJ16_getChars : ByteArray := prog_15_method_12_code
def yJ16_getChars : MethodName := ⟨RJ16, "getChars", "(II[B)I"⟩
def dkwJ16_getChars_5 : List UInt8 := [16, 45, 84, 21, 5, 172]
abbrev dktJ16_getChars_5 : List UInt8 := dkwJ16_getChars_5 ++ []
def dkwJ16_getChars_4 : List UInt8 := [132, 5, 255, 21, 5, 178, 0, 87, 26, 116, 51, 84, 21, 6, 153, 0, 12, 44, 132, 5, 255, 21, 5]
abbrev dktJ16_getChars_4 : List UInt8 := dkwJ16_getChars_4 ++ dktJ16_getChars_5
def dkwJ16_getChars_3 : List UInt8 := [167, 255, 209, 44, 132, 5, 255, 21, 5, 178, 0, 83, 26, 116, 51, 84, 26, 16, 247, 162, 0, 16, 44]
abbrev dktJ16_getChars_3 : List UInt8 := dkwJ16_getChars_3 ++ dktJ16_getChars_4
def dkwJ16_getChars_2 : List UInt8 := [21, 5, 178, 0, 83, 21, 4, 51, 84, 44, 132, 5, 255, 21, 5, 178, 0, 87, 21, 4, 51, 84]
abbrev dktJ16_getChars_2 : List UInt8 := dkwJ16_getChars_2 ++ dktJ16_getChars_3
def dkwJ16_getChars_1 : List UInt8 := [16, 156, 163, 0, 47, 26, 16, 100, 108, 62, 29, 16, 100, 104, 26, 100, 54, 4, 29, 59, 44, 132, 5, 255]
abbrev dktJ16_getChars_1 : List UInt8 := dkwJ16_getChars_1 ++ dktJ16_getChars_2
def dkwJ16_getChars_0 : List UInt8 := [27, 54, 5, 26, 156, 0, 7, 4, 167, 0, 4, 3, 54, 6, 21, 6, 154, 0, 6, 26, 116, 59, 26]
abbrev dktJ16_getChars_0 : List UInt8 := dkwJ16_getChars_0 ++ dktJ16_getChars_1
theorem dksJ16_getChars_0 : cJ16_getChars.data.toList.drop 0 = dktJ16_getChars_0 := by decide +kernel
theorem dksJ16_getChars_1 : cJ16_getChars.data.toList.drop 23 = dktJ16_getChars_1 := dk_seg dksJ16_getChars_0 23 rfl rfl
theorem dksJ16_getChars_2 : cJ16_getChars.data.toList.drop 47 = dktJ16_getChars_2 := dk_seg dksJ16_getChars_1 24 rfl rfl
theorem dksJ16_getChars_3 : cJ16_getChars.data.toList.drop 69 = dktJ16_getChars_3 := dk_seg dksJ16_getChars_2 22 rfl rfl
theorem dksJ16_getChars_4 : cJ16_getChars.data.toList.drop 92 = dktJ16_getChars_4 := dk_seg dksJ16_getChars_3 23 rfl rfl
theorem dksJ16_getChars_5 : cJ16_getChars.data.toList.drop 115 = dktJ16_getChars_5 := dk_seg dksJ16_getChars_4 23 rfl rfl
theorem dJ16_getChars_0 : decode cJ16_getChars 0 = .ok (.iload_n 1, 1) := dk_27 (dk_at dksJ16_getChars_0 0 rfl rfl)
theorem dJ16_getChars_1 : decode cJ16_getChars 1 = .ok (.istore 5, 2) := dk_54 5 (dk_at dksJ16_getChars_0 1 rfl rfl)
theorem dJ16_getChars_3 : decode cJ16_getChars 3 = .ok (.iload_n 0, 1) := dk_26 (dk_at dksJ16_getChars_0 3 rfl rfl)
theorem dJ16_getChars_4 : decode cJ16_getChars 4 = .ok (.ifCond .ge 7, 3) := dk_156 0 7 (dk_at dksJ16_getChars_0 4 rfl rfl)
theorem dJ16_getChars_7 : decode cJ16_getChars 7 = .ok (.iconst 1, 1) := dk_4 (dk_at dksJ16_getChars_0 7 rfl rfl)
theorem dJ16_getChars_8 : decode cJ16_getChars 8 = .ok (.goto 4, 3) := dk_167 0 4 (dk_at dksJ16_getChars_0 8 rfl rfl)
theorem dJ16_getChars_11 : decode cJ16_getChars 11 = .ok (.iconst 0, 1) := dk_3 (dk_at dksJ16_getChars_0 11 rfl rfl)
theorem dJ16_getChars_12 : decode cJ16_getChars 12 = .ok (.istore 6, 2) := dk_54 6 (dk_at dksJ16_getChars_0 12 rfl rfl)
theorem dJ16_getChars_14 : decode cJ16_getChars 14 = .ok (.iload 6, 2) := dk_21 6 (dk_at dksJ16_getChars_0 14 rfl rfl)
theorem dJ16_getChars_16 : decode cJ16_getChars 16 = .ok (.ifCond .ne 6, 3) := dk_154 0 6 (dk_at dksJ16_getChars_0 16 rfl rfl)
theorem dJ16_getChars_19 : decode cJ16_getChars 19 = .ok (.iload_n 0, 1) := dk_26 (dk_at dksJ16_getChars_0 19 rfl rfl)
theorem dJ16_getChars_20 : decode cJ16_getChars 20 = .ok (.ineg, 1) := dk_116 (dk_at dksJ16_getChars_0 20 rfl rfl)
theorem dJ16_getChars_21 : decode cJ16_getChars 21 = .ok (.istore_n 0, 1) := dk_59 (dk_at dksJ16_getChars_0 21 rfl rfl)
theorem dJ16_getChars_22 : decode cJ16_getChars 22 = .ok (.iload_n 0, 1) := dk_26 (dk_at dksJ16_getChars_0 22 rfl rfl)
theorem dJ16_getChars_23 : decode cJ16_getChars 23 = .ok (.bipush (-100), 2) := dk_16 156 (dk_at dksJ16_getChars_1 0 rfl rfl)
theorem dJ16_getChars_25 : decode cJ16_getChars 25 = .ok (.if_icmp .gt 47, 3) := dk_163 0 47 (dk_at dksJ16_getChars_1 2 rfl rfl)
theorem dJ16_getChars_28 : decode cJ16_getChars 28 = .ok (.iload_n 0, 1) := dk_26 (dk_at dksJ16_getChars_1 5 rfl rfl)
theorem dJ16_getChars_29 : decode cJ16_getChars 29 = .ok (.bipush 100, 2) := dk_16 100 (dk_at dksJ16_getChars_1 6 rfl rfl)
theorem dJ16_getChars_31 : decode cJ16_getChars 31 = .ok (.idiv, 1) := dk_108 (dk_at dksJ16_getChars_1 8 rfl rfl)
theorem dJ16_getChars_32 : decode cJ16_getChars 32 = .ok (.istore_n 3, 1) := dk_62 (dk_at dksJ16_getChars_1 9 rfl rfl)
theorem dJ16_getChars_33 : decode cJ16_getChars 33 = .ok (.iload_n 3, 1) := dk_29 (dk_at dksJ16_getChars_1 10 rfl rfl)
theorem dJ16_getChars_34 : decode cJ16_getChars 34 = .ok (.bipush 100, 2) := dk_16 100 (dk_at dksJ16_getChars_1 11 rfl rfl)
theorem dJ16_getChars_36 : decode cJ16_getChars 36 = .ok (.imul, 1) := dk_104 (dk_at dksJ16_getChars_1 13 rfl rfl)
theorem dJ16_getChars_37 : decode cJ16_getChars 37 = .ok (.iload_n 0, 1) := dk_26 (dk_at dksJ16_getChars_1 14 rfl rfl)
theorem dJ16_getChars_38 : decode cJ16_getChars 38 = .ok (.isub, 1) := dk_100 (dk_at dksJ16_getChars_1 15 rfl rfl)
theorem dJ16_getChars_39 : decode cJ16_getChars 39 = .ok (.istore 4, 2) := dk_54 4 (dk_at dksJ16_getChars_1 16 rfl rfl)
theorem dJ16_getChars_41 : decode cJ16_getChars 41 = .ok (.iload_n 3, 1) := dk_29 (dk_at dksJ16_getChars_1 18 rfl rfl)
theorem dJ16_getChars_42 : decode cJ16_getChars 42 = .ok (.istore_n 0, 1) := dk_59 (dk_at dksJ16_getChars_1 19 rfl rfl)
theorem dJ16_getChars_43 : decode cJ16_getChars 43 = .ok (.aload_n 2, 1) := dk_44 (dk_at dksJ16_getChars_1 20 rfl rfl)
theorem dJ16_getChars_44 : decode cJ16_getChars 44 = .ok (.iinc 5 (-1), 3) := dk_132 5 255 (dk_at dksJ16_getChars_1 21 rfl rfl)
theorem dJ16_getChars_47 : decode cJ16_getChars 47 = .ok (.iload 5, 2) := dk_21 5 (dk_at dksJ16_getChars_2 0 rfl rfl)
theorem dJ16_getChars_49 : decode cJ16_getChars 49 = .ok (.getstatic 83, 3) := dk_178 0 83 (dk_at dksJ16_getChars_2 2 rfl rfl)
theorem dJ16_getChars_52 : decode cJ16_getChars 52 = .ok (.iload 4, 2) := dk_21 4 (dk_at dksJ16_getChars_2 5 rfl rfl)
theorem dJ16_getChars_54 : decode cJ16_getChars 54 = .ok (.baload, 1) := dk_51 (dk_at dksJ16_getChars_2 7 rfl rfl)
theorem dJ16_getChars_55 : decode cJ16_getChars 55 = .ok (.bastore, 1) := dk_84 (dk_at dksJ16_getChars_2 8 rfl rfl)
theorem dJ16_getChars_56 : decode cJ16_getChars 56 = .ok (.aload_n 2, 1) := dk_44 (dk_at dksJ16_getChars_2 9 rfl rfl)
theorem dJ16_getChars_57 : decode cJ16_getChars 57 = .ok (.iinc 5 (-1), 3) := dk_132 5 255 (dk_at dksJ16_getChars_2 10 rfl rfl)
theorem dJ16_getChars_60 : decode cJ16_getChars 60 = .ok (.iload 5, 2) := dk_21 5 (dk_at dksJ16_getChars_2 13 rfl rfl)
theorem dJ16_getChars_62 : decode cJ16_getChars 62 = .ok (.getstatic 87, 3) := dk_178 0 87 (dk_at dksJ16_getChars_2 15 rfl rfl)
theorem dJ16_getChars_65 : decode cJ16_getChars 65 = .ok (.iload 4, 2) := dk_21 4 (dk_at dksJ16_getChars_2 18 rfl rfl)
theorem dJ16_getChars_67 : decode cJ16_getChars 67 = .ok (.baload, 1) := dk_51 (dk_at dksJ16_getChars_2 20 rfl rfl)
theorem dJ16_getChars_68 : decode cJ16_getChars 68 = .ok (.bastore, 1) := dk_84 (dk_at dksJ16_getChars_2 21 rfl rfl)
theorem dJ16_getChars_69 : decode cJ16_getChars 69 = .ok (.goto (-47), 3) := dk_167 255 209 (dk_at dksJ16_getChars_3 0 rfl rfl)
theorem dJ16_getChars_72 : decode cJ16_getChars 72 = .ok (.aload_n 2, 1) := dk_44 (dk_at dksJ16_getChars_3 3 rfl rfl)
theorem dJ16_getChars_73 : decode cJ16_getChars 73 = .ok (.iinc 5 (-1), 3) := dk_132 5 255 (dk_at dksJ16_getChars_3 4 rfl rfl)
theorem dJ16_getChars_76 : decode cJ16_getChars 76 = .ok (.iload 5, 2) := dk_21 5 (dk_at dksJ16_getChars_3 7 rfl rfl)
theorem dJ16_getChars_78 : decode cJ16_getChars 78 = .ok (.getstatic 83, 3) := dk_178 0 83 (dk_at dksJ16_getChars_3 9 rfl rfl)
theorem dJ16_getChars_81 : decode cJ16_getChars 81 = .ok (.iload_n 0, 1) := dk_26 (dk_at dksJ16_getChars_3 12 rfl rfl)
theorem dJ16_getChars_82 : decode cJ16_getChars 82 = .ok (.ineg, 1) := dk_116 (dk_at dksJ16_getChars_3 13 rfl rfl)
theorem dJ16_getChars_83 : decode cJ16_getChars 83 = .ok (.baload, 1) := dk_51 (dk_at dksJ16_getChars_3 14 rfl rfl)
theorem dJ16_getChars_84 : decode cJ16_getChars 84 = .ok (.bastore, 1) := dk_84 (dk_at dksJ16_getChars_3 15 rfl rfl)
theorem dJ16_getChars_85 : decode cJ16_getChars 85 = .ok (.iload_n 0, 1) := dk_26 (dk_at dksJ16_getChars_3 16 rfl rfl)
theorem dJ16_getChars_86 : decode cJ16_getChars 86 = .ok (.bipush (-9), 2) := dk_16 247 (dk_at dksJ16_getChars_3 17 rfl rfl)
theorem dJ16_getChars_88 : decode cJ16_getChars 88 = .ok (.if_icmp .ge 16, 3) := dk_162 0 16 (dk_at dksJ16_getChars_3 19 rfl rfl)
theorem dJ16_getChars_91 : decode cJ16_getChars 91 = .ok (.aload_n 2, 1) := dk_44 (dk_at dksJ16_getChars_3 22 rfl rfl)
theorem dJ16_getChars_92 : decode cJ16_getChars 92 = .ok (.iinc 5 (-1), 3) := dk_132 5 255 (dk_at dksJ16_getChars_4 0 rfl rfl)
theorem dJ16_getChars_95 : decode cJ16_getChars 95 = .ok (.iload 5, 2) := dk_21 5 (dk_at dksJ16_getChars_4 3 rfl rfl)
theorem dJ16_getChars_97 : decode cJ16_getChars 97 = .ok (.getstatic 87, 3) := dk_178 0 87 (dk_at dksJ16_getChars_4 5 rfl rfl)
theorem dJ16_getChars_100 : decode cJ16_getChars 100 = .ok (.iload_n 0, 1) := dk_26 (dk_at dksJ16_getChars_4 8 rfl rfl)
theorem dJ16_getChars_101 : decode cJ16_getChars 101 = .ok (.ineg, 1) := dk_116 (dk_at dksJ16_getChars_4 9 rfl rfl)
theorem dJ16_getChars_102 : decode cJ16_getChars 102 = .ok (.baload, 1) := dk_51 (dk_at dksJ16_getChars_4 10 rfl rfl)
theorem dJ16_getChars_103 : decode cJ16_getChars 103 = .ok (.bastore, 1) := dk_84 (dk_at dksJ16_getChars_4 11 rfl rfl)
theorem dJ16_getChars_104 : decode cJ16_getChars 104 = .ok (.iload 6, 2) := dk_21 6 (dk_at dksJ16_getChars_4 12 rfl rfl)
theorem dJ16_getChars_106 : decode cJ16_getChars 106 = .ok (.ifCond .eq 12, 3) := dk_153 0 12 (dk_at dksJ16_getChars_4 14 rfl rfl)
theorem dJ16_getChars_109 : decode cJ16_getChars 109 = .ok (.aload_n 2, 1) := dk_44 (dk_at dksJ16_getChars_4 17 rfl rfl)
theorem dJ16_getChars_110 : decode cJ16_getChars 110 = .ok (.iinc 5 (-1), 3) := dk_132 5 255 (dk_at dksJ16_getChars_4 18 rfl rfl)
theorem dJ16_getChars_113 : decode cJ16_getChars 113 = .ok (.iload 5, 2) := dk_21 5 (dk_at dksJ16_getChars_4 21 rfl rfl)
theorem dJ16_getChars_115 : decode cJ16_getChars 115 = .ok (.bipush 45, 2) := dk_16 45 (dk_at dksJ16_getChars_5 0 rfl rfl)
theorem dJ16_getChars_117 : decode cJ16_getChars 117 = .ok (.bastore, 1) := dk_84 (dk_at dksJ16_getChars_5 2 rfl rfl)
theorem dJ16_getChars_118 : decode cJ16_getChars 118 = .ok (.iload 5, 2) := dk_21 5 (dk_at dksJ16_getChars_5 3 rfl rfl)
theorem dJ16_getChars_120 : decode cJ16_getChars 120 = .ok (.ireturn, 1) := dk_172 (dk_at dksJ16_getChars_5 5 rfl rfl)
abbrev cJ16_equals : ByteArray := prog_15_method_34_code
def yJ16_equals : MethodName := ⟨RJ16, "equals", "(Ljava/lang/Object;)Z"⟩
def dkwJ16_equals_1 : List UInt8 := [167, 0, 4, 3, 172, 3, 172]
abbrev dktJ16_equals_1 : List UInt8 := dkwJ16_equals_1 ++ []
def dkwJ16_equals_0 : List UInt8 := [43, 193, 0, 1, 153, 0, 23, 42, 180, 0, 205, 43, 192, 0, 1, 182, 0, 211, 160, 0, 7, 4]
abbrev dktJ16_equals_0 : List UInt8 := dkwJ16_equals_0 ++ dktJ16_equals_1
theorem dksJ16_equals_0 : cJ16_equals.data.toList.drop 0 = dktJ16_equals_0 := by decide +kernel
theorem dksJ16_equals_1 : cJ16_equals.data.toList.drop 22 = dktJ16_equals_1 := dk_seg dksJ16_equals_0 22 rfl rfl
theorem dJ16_equals_0 : decode cJ16_equals 0 = .ok (.aload_n 1, 1) := dk_43 (dk_at dksJ16_equals_0 0 rfl rfl)
theorem dJ16_equals_1 : decode cJ16_equals 1 = .ok (.instanceof 1, 3) := dk_193 0 1 (dk_at dksJ16_equals_0 1 rfl rfl)
theorem dJ16_equals_4 : decode cJ16_equals 4 = .ok (.ifCond .eq 23, 3) := dk_153 0 23 (dk_at dksJ16_equals_0 4 rfl rfl)
theorem dJ16_equals_7 : decode cJ16_equals 7 = .ok (.aload_n 0, 1) := dk_42 (dk_at dksJ16_equals_0 7 rfl rfl)
theorem dJ16_equals_8 : decode cJ16_equals 8 = .ok (.getfield 205, 3) := dk_180 0 205 (dk_at dksJ16_equals_0 8 rfl rfl)
theorem dJ16_equals_11 : decode cJ16_equals 11 = .ok (.aload_n 1, 1) := dk_43 (dk_at dksJ16_equals_0 11 rfl rfl)
theorem dJ16_equals_12 : decode cJ16_equals 12 = .ok (.checkcast 1, 3) := dk_192 0 1 (dk_at dksJ16_equals_0 12 rfl rfl)
theorem dJ16_equals_15 : decode cJ16_equals 15 = .ok (.invokevirtual 211, 3) := dk_182 0 211 (dk_at dksJ16_equals_0 15 rfl rfl)
theorem dJ16_equals_18 : decode cJ16_equals 18 = .ok (.if_icmp .ne 7, 3) := dk_160 0 7 (dk_at dksJ16_equals_0 18 rfl rfl)
theorem dJ16_equals_21 : decode cJ16_equals 21 = .ok (.iconst 1, 1) := dk_4 (dk_at dksJ16_equals_0 21 rfl rfl)
theorem dJ16_equals_22 : decode cJ16_equals 22 = .ok (.goto 4, 3) := dk_167 0 4 (dk_at dksJ16_equals_1 0 rfl rfl)
theorem dJ16_equals_25 : decode cJ16_equals 25 = .ok (.iconst 0, 1) := dk_3 (dk_at dksJ16_equals_1 3 rfl rfl)
theorem dJ16_equals_26 : decode cJ16_equals 26 = .ok (.ireturn, 1) := dk_172 (dk_at dksJ16_equals_1 4 rfl rfl)
theorem dJ16_equals_27 : decode cJ16_equals 27 = .ok (.iconst 0, 1) := dk_3 (dk_at dksJ16_equals_1 5 rfl rfl)
theorem dJ16_equals_28 : decode cJ16_equals 28 = .ok (.ireturn, 1) := dk_172 (dk_at dksJ16_equals_1 6 rfl rfl)
abbrev cJ16_intValue : ByteArray := prog_15_method_27_code
def yJ16_intValue : MethodName := ⟨RJ16, "intValue", "()I"⟩
theorem dJ16_intValue_0 : decode cJ16_intValue 0 = .ok (.aload_n 0, 1) := by decide +kernel
theorem dJ16_intValue_1 : decode cJ16_intValue 1 = .ok (.getfield 205, 3) := by decide +kernel
theorem dJ16_intValue_4 : decode cJ16_intValue 4 = .ok (.ireturn, 1) := by decide +kernel
abbrev cJ16_valueOf : ByteArray := prog_15_method_22_code
def yJ16_valueOf : MethodName := ⟨RJ16, "valueOf", "(I)Ljava/lang/Integer;"⟩
def dkwJ16_valueOf_1 : List UInt8 := [187, 0, 1, 89, 26, 183, 0, 199, 176]
abbrev dktJ16_valueOf_1 : List UInt8 := dkwJ16_valueOf_1 ++ []
def dkwJ16_valueOf_0 : List UInt8 := [26, 16, 128, 161, 0, 20, 26, 178, 0, 191, 163, 0, 13, 178, 0, 195, 26, 17, 0, 128, 96, 50, 176]
abbrev dktJ16_valueOf_0 : List UInt8 := dkwJ16_valueOf_0 ++ dktJ16_valueOf_1
theorem dksJ16_valueOf_0 : cJ16_valueOf.data.toList.drop 0 = dktJ16_valueOf_0 := by decide +kernel
theorem dksJ16_valueOf_1 : cJ16_valueOf.data.toList.drop 23 = dktJ16_valueOf_1 := dk_seg dksJ16_valueOf_0 23 rfl rfl
theorem dJ16_valueOf_0 : decode cJ16_valueOf 0 = .ok (.iload_n 0, 1) := dk_26 (dk_at dksJ16_valueOf_0 0 rfl rfl)
theorem dJ16_valueOf_1 : decode cJ16_valueOf 1 = .ok (.bipush (-128), 2) := dk_16 128 (dk_at dksJ16_valueOf_0 1 rfl rfl)
theorem dJ16_valueOf_3 : decode cJ16_valueOf 3 = .ok (.if_icmp .lt 20, 3) := dk_161 0 20 (dk_at dksJ16_valueOf_0 3 rfl rfl)
theorem dJ16_valueOf_6 : decode cJ16_valueOf 6 = .ok (.iload_n 0, 1) := dk_26 (dk_at dksJ16_valueOf_0 6 rfl rfl)
theorem dJ16_valueOf_7 : decode cJ16_valueOf 7 = .ok (.getstatic 191, 3) := dk_178 0 191 (dk_at dksJ16_valueOf_0 7 rfl rfl)
theorem dJ16_valueOf_10 : decode cJ16_valueOf 10 = .ok (.if_icmp .gt 13, 3) := dk_163 0 13 (dk_at dksJ16_valueOf_0 10 rfl rfl)
theorem dJ16_valueOf_13 : decode cJ16_valueOf 13 = .ok (.getstatic 195, 3) := dk_178 0 195 (dk_at dksJ16_valueOf_0 13 rfl rfl)
theorem dJ16_valueOf_16 : decode cJ16_valueOf 16 = .ok (.iload_n 0, 1) := dk_26 (dk_at dksJ16_valueOf_0 16 rfl rfl)
theorem dJ16_valueOf_17 : decode cJ16_valueOf 17 = .ok (.sipush 128, 3) := dk_17 0 128 (dk_at dksJ16_valueOf_0 17 rfl rfl)
theorem dJ16_valueOf_20 : decode cJ16_valueOf 20 = .ok (.iadd, 1) := dk_96 (dk_at dksJ16_valueOf_0 20 rfl rfl)
theorem dJ16_valueOf_21 : decode cJ16_valueOf 21 = .ok (.aaload, 1) := dk_50 (dk_at dksJ16_valueOf_0 21 rfl rfl)
theorem dJ16_valueOf_22 : decode cJ16_valueOf 22 = .ok (.areturn, 1) := dk_176 (dk_at dksJ16_valueOf_0 22 rfl rfl)
theorem dJ16_valueOf_23 : decode cJ16_valueOf 23 = .ok (.new 1, 3) := dk_187 0 1 (dk_at dksJ16_valueOf_1 0 rfl rfl)
theorem dJ16_valueOf_26 : decode cJ16_valueOf 26 = .ok (.dup, 1) := dk_89 (dk_at dksJ16_valueOf_1 3 rfl rfl)
theorem dJ16_valueOf_27 : decode cJ16_valueOf 27 = .ok (.iload_n 0, 1) := dk_26 (dk_at dksJ16_valueOf_1 4 rfl rfl)
theorem dJ16_valueOf_28 : decode cJ16_valueOf 28 = .ok (.invokespecial 199, 3) := dk_183 0 199 (dk_at dksJ16_valueOf_1 5 rfl rfl)
theorem dJ16_valueOf_31 : decode cJ16_valueOf 31 = .ok (.areturn, 1) := dk_176 (dk_at dksJ16_valueOf_1 8 rfl rfl)
abbrev cJ16_init : ByteArray := prog_15_method_23_code
def yJ16_init : MethodName := ⟨RJ16, "<init>", "(I)V"⟩
def dkwJ16_init_0 : List UInt8 := [42, 183, 0, 202, 42, 27, 181, 0, 205, 177]
abbrev dktJ16_init_0 : List UInt8 := dkwJ16_init_0 ++ []
theorem dksJ16_init_0 : cJ16_init.data.toList.drop 0 = dktJ16_init_0 := by decide +kernel
theorem dJ16_init_0 : decode cJ16_init 0 = .ok (.aload_n 0, 1) := dk_42 (dk_at dksJ16_init_0 0 rfl rfl)
theorem dJ16_init_1 : decode cJ16_init 1 = .ok (.invokespecial 202, 3) := dk_183 0 202 (dk_at dksJ16_init_0 1 rfl rfl)
theorem dJ16_init_4 : decode cJ16_init 4 = .ok (.aload_n 0, 1) := dk_42 (dk_at dksJ16_init_0 4 rfl rfl)
theorem dJ16_init_5 : decode cJ16_init 5 = .ok (.iload_n 1, 1) := dk_27 (dk_at dksJ16_init_0 5 rfl rfl)
theorem dJ16_init_6 : decode cJ16_init 6 = .ok (.putfield 205, 3) := dk_181 0 205 (dk_at dksJ16_init_0 6 rfl rfl)
theorem dJ16_init_9 : decode cJ16_init 9 = .ok (.return_, 1) := dk_177 (dk_at dksJ16_init_0 9 rfl rfl)
theorem q55 : (Jvm.Cond.initialized "java/lang/Integer") ∈ lw_all := lw_g (lw_at lw_m1 22 rfl) rfl
theorem q310 : (Jvm.Cond.castable "java/lang/Integer" "java/lang/Comparable") ∈ lw_tbl := lw_at lw_m2 37 rfl
theorem q311 : (Jvm.Cond.selects "java/lang/Integer" ({ cls := "java/lang/Comparable", name := "compareTo", desc := "(Ljava/lang/Object;)I" } : Jvm.MethodName) ({ cls := "java/lang/Integer", name := "compareTo", desc := "(Ljava/lang/Object;)I" } : Jvm.MethodName)) ∈ lw_all := lw_g (lw_at lw_m2 38 rfl) rfl
theorem q312 : (Jvm.Cond.unhidden "java/lang/Integer" "compareTo" "(Ljava/lang/Object;)I") ∈ lw_tbl := lw_at lw_m2 39 rfl
theorem q313 : (Jvm.Cond.instanceMethod ({ cls := "java/lang/Integer", name := "compareTo", desc := "(Ljava/lang/Object;)I" } : Jvm.MethodName)) ∈ lw_all := lw_g (lw_at lw_m2 40 rfl) rfl
theorem q314 : (Jvm.Cond.publicMethod ({ cls := "java/lang/Integer", name := "compareTo", desc := "(Ljava/lang/Object;)I" } : Jvm.MethodName)) ∈ lw_tbl := lw_at lw_m2 41 rfl
theorem q315 : (Jvm.Cond.code ({ cls := "java/lang/Integer", name := "compareTo", desc := "(Ljava/lang/Object;)I" } : Jvm.MethodName) prog_15_method_63_code (2 : Nat) (Option.some Jvm.ClassFile.FieldType.int)) ∈ lw_all := lw_g (lw_at lw_m2 42 rfl) rfl
theorem q316 : (Jvm.Cond.classLink "java/lang/Integer" (1 : Nat) "java/lang/Integer") ∈ lw_all := lw_g (lw_at lw_m2 43 rfl) rfl
theorem q317 : (Jvm.Cond.methodLink "java/lang/Integer" (284 : Nat) ({ cls := "java/lang/Integer", name := "compareTo", desc := "(Ljava/lang/Integer;)I" } : Jvm.MethodName)) ∈ lw_all := lw_g (lw_at lw_m2 44 rfl) rfl
theorem q318 : (Jvm.Cond.instanceMethod ({ cls := "java/lang/Integer", name := "compareTo", desc := "(Ljava/lang/Integer;)I" } : Jvm.MethodName)) ∈ lw_all := lw_g (lw_at lw_m2 45 rfl) rfl
theorem q319 : (Jvm.Cond.selects "java/lang/Integer" ({ cls := "java/lang/Integer", name := "compareTo", desc := "(Ljava/lang/Integer;)I" } : Jvm.MethodName) ({ cls := "java/lang/Integer", name := "compareTo", desc := "(Ljava/lang/Integer;)I" } : Jvm.MethodName)) ∈ lw_all := lw_g (lw_at lw_m2 46 rfl) rfl
theorem q320 : (Jvm.Cond.code ({ cls := "java/lang/Integer", name := "compareTo", desc := "(Ljava/lang/Integer;)I" } : Jvm.MethodName) prog_15_method_39_code (2 : Nat) (Option.some Jvm.ClassFile.FieldType.int)) ∈ lw_all := lw_g (lw_at lw_m2 47 rfl) rfl
theorem q321 : (Jvm.Cond.methodLink "java/lang/Integer" (259 : Nat) ({ cls := "java/lang/Integer", name := "compare", desc := "(II)I" } : Jvm.MethodName)) ∈ lw_all := lw_g (lw_at lw_m2 48 rfl) rfl
theorem q322 : (Jvm.Cond.static ({ cls := "java/lang/Integer", name := "compare", desc := "(II)I" } : Jvm.MethodName)) ∈ lw_all := lw_g (lw_at lw_m2 49 rfl) rfl
theorem q323 : (Jvm.Cond.code ({ cls := "java/lang/Integer", name := "compare", desc := "(II)I" } : Jvm.MethodName) prog_15_method_40_code (2 : Nat) (Option.some Jvm.ClassFile.FieldType.int)) ∈ lw_all := lw_g (lw_at lw_m2 50 rfl) rfl
theorem q422 : (Jvm.Cond.static ({ cls := "java/lang/Integer", name := "numberOfLeadingZeros", desc := "(I)I" } : Jvm.MethodName)) ∈ lw_all := lw_g (lw_at lw_m2 149 rfl) rfl
theorem q423 : (Jvm.Cond.code ({ cls := "java/lang/Integer", name := "numberOfLeadingZeros", desc := "(I)I" } : Jvm.MethodName) prog_15_method_47_code (2 : Nat) (Option.some Jvm.ClassFile.FieldType.int)) ∈ lw_all := lw_g (lw_at lw_m2 150 rfl) rfl
theorem q424 : (Jvm.Cond.constant "java/lang/Integer" (264 : Nat) (65536 : Int32)) ∈ lw_all := lw_g (lw_at lw_m2 151 rfl) rfl
theorem q431 : (Jvm.Cond.static ({ cls := "java/lang/Integer", name := "numberOfTrailingZeros", desc := "(I)I" } : Jvm.MethodName)) ∈ lw_all := lw_g (lw_at lw_m2 158 rfl) rfl
theorem q432 : (Jvm.Cond.code ({ cls := "java/lang/Integer", name := "numberOfTrailingZeros", desc := "(I)I" } : Jvm.MethodName) prog_15_method_48_code (2 : Nat) (Option.some Jvm.ClassFile.FieldType.int)) ∈ lw_all := lw_g (lw_at lw_m2 159 rfl) rfl
theorem q536 : (Jvm.Cond.static ({ cls := "java/lang/Integer", name := "signum", desc := "(I)I" } : Jvm.MethodName)) ∈ lw_all := lw_g (lw_at lw_m3 23 rfl) rfl
theorem q537 : (Jvm.Cond.code ({ cls := "java/lang/Integer", name := "signum", desc := "(I)I" } : Jvm.MethodName) prog_15_method_56_code (1 : Nat) (Option.some Jvm.ClassFile.FieldType.int)) ∈ lw_all := lw_g (lw_at lw_m3 24 rfl) rfl
theorem q967 : (Jvm.Cond.static ({ cls := "java/lang/Integer", name := "stringSize", desc := "(I)I" } : Jvm.MethodName)) ∈ lw_all := lw_g (lw_at lw_m4 214 rfl) rfl
theorem q968 : (Jvm.Cond.code ({ cls := "java/lang/Integer", name := "stringSize", desc := "(I)I" } : Jvm.MethodName) prog_15_method_13_code (4 : Nat) (Option.some Jvm.ClassFile.FieldType.int)) ∈ lw_all := lw_g (lw_at lw_m4 215 rfl) rfl
theorem q997 : (Jvm.Cond.static ({ cls := "java/lang/Integer", name := "getChars", desc := "(II[B)I" } : Jvm.MethodName)) ∈ lw_all := lw_g (lw_at lw_m5 4 rfl) rfl
theorem q998 : (Jvm.Cond.code ({ cls := "java/lang/Integer", name := "getChars", desc := "(II[B)I" } : Jvm.MethodName) prog_15_method_12_code (7 : Nat) (Option.some Jvm.ClassFile.FieldType.int)) ∈ lw_all := lw_g (lw_at lw_m5 5 rfl) rfl
theorem q999 : (Jvm.Cond.fieldLink "java/lang/Integer" (83 : Nat) "java/lang/Integer" "DigitOnes" "[B") ∈ lw_all := lw_g (lw_at lw_m5 6 rfl) rfl
theorem q1000 : (Jvm.Cond.laysStatic "java/lang/Integer" "DigitOnes" "[B") ∈ lw_tbl := lw_at lw_m5 7 rfl
theorem q1001 : (Jvm.Cond.fieldLink "java/lang/Integer" (87 : Nat) "java/lang/Integer" "DigitTens" "[B") ∈ lw_all := lw_g (lw_at lw_m5 8 rfl) rfl
theorem q1002 : (Jvm.Cond.laysStatic "java/lang/Integer" "DigitTens" "[B") ∈ lw_tbl := lw_at lw_m5 9 rfl
theorem q1206 : (Jvm.Cond.selects "java/lang/Integer" ({ cls := "java/lang/Object", name := "equals", desc := "(Ljava/lang/Object;)Z" } : Jvm.MethodName) ({ cls := "java/lang/Integer", name := "equals", desc := "(Ljava/lang/Object;)Z" } : Jvm.MethodName)) ∈ lw_all := lw_g (lw_at lw_m5 213 rfl) rfl
theorem q1207 : (Jvm.Cond.instanceMethod ({ cls := "java/lang/Integer", name := "equals", desc := "(Ljava/lang/Object;)Z" } : Jvm.MethodName)) ∈ lw_all := lw_g (lw_at lw_m5 214 rfl) rfl
theorem q1208 : (Jvm.Cond.code ({ cls := "java/lang/Integer", name := "equals", desc := "(Ljava/lang/Object;)Z" } : Jvm.MethodName) prog_15_method_34_code (2 : Nat) (Option.some Jvm.ClassFile.FieldType.boolean)) ∈ lw_all := lw_g (lw_at lw_m5 215 rfl) rfl
theorem q1209 : (Jvm.Cond.methodLink "java/lang/Integer" (211 : Nat) ({ cls := "java/lang/Integer", name := "intValue", desc := "()I" } : Jvm.MethodName)) ∈ lw_all := lw_g (lw_at lw_m5 216 rfl) rfl
theorem q1210 : (Jvm.Cond.instanceMethod ({ cls := "java/lang/Integer", name := "intValue", desc := "()I" } : Jvm.MethodName)) ∈ lw_all := lw_g (lw_at lw_m5 217 rfl) rfl
theorem q1211 : (Jvm.Cond.selects "java/lang/Integer" ({ cls := "java/lang/Integer", name := "intValue", desc := "()I" } : Jvm.MethodName) ({ cls := "java/lang/Integer", name := "intValue", desc := "()I" } : Jvm.MethodName)) ∈ lw_all := lw_g (lw_at lw_m5 218 rfl) rfl
theorem q1212 : (Jvm.Cond.code ({ cls := "java/lang/Integer", name := "intValue", desc := "()I" } : Jvm.MethodName) prog_15_method_27_code (1 : Nat) (Option.some Jvm.ClassFile.FieldType.int)) ∈ lw_all := lw_g (lw_at lw_m5 219 rfl) rfl
theorem q1236 : (Jvm.Cond.static ({ cls := "java/lang/Integer", name := "valueOf", desc := "(I)Ljava/lang/Integer;" } : Jvm.MethodName)) ∈ lw_all := lw_g (lw_at lw_m6 3 rfl) rfl
theorem q1237 : (Jvm.Cond.code ({ cls := "java/lang/Integer", name := "valueOf", desc := "(I)Ljava/lang/Integer;" } : Jvm.MethodName) prog_15_method_22_code (1 : Nat) (Option.some (Jvm.ClassFile.FieldType.object "java/lang/Integer"))) ∈ lw_all := lw_g (lw_at lw_m6 4 rfl) rfl
theorem q1238 : (Jvm.Cond.fieldLink "java/lang/Integer" (191 : Nat) "java/lang/Integer$IntegerCache" "high" "I") ∈ lw_all := lw_g (lw_at lw_m6 5 rfl) rfl
theorem q1240 : (Jvm.Cond.fieldLink "java/lang/Integer" (195 : Nat) "java/lang/Integer$IntegerCache" "cache" "[Ljava/lang/Integer;") ∈ lw_all := lw_g (lw_at lw_m6 7 rfl) rfl
theorem q1242 : (Jvm.Cond.instantiable "java/lang/Integer" (1 : Nat)) ∈ lw_all := lw_g (lw_at lw_m6 9 rfl) rfl
theorem q1243 : (Jvm.Cond.methodLink "java/lang/Integer" (199 : Nat) ({ cls := "java/lang/Integer", name := "<init>", desc := "(I)V" } : Jvm.MethodName)) ∈ lw_all := lw_g (lw_at lw_m6 10 rfl) rfl
theorem q1244 : (Jvm.Cond.instanceMethod ({ cls := "java/lang/Integer", name := "<init>", desc := "(I)V" } : Jvm.MethodName)) ∈ lw_all := lw_g (lw_at lw_m6 11 rfl) rfl
theorem q1245 : (Jvm.Cond.code ({ cls := "java/lang/Integer", name := "<init>", desc := "(I)V" } : Jvm.MethodName) prog_15_method_23_code (2 : Nat) (Option.none : Option Jvm.ClassFile.FieldType)) ∈ lw_all := lw_g (lw_at lw_m6 12 rfl) rfl
theorem q1246 : (Jvm.Cond.methodLink "java/lang/Integer" (202 : Nat) ({ cls := "java/lang/Number", name := "<init>", desc := "()V" } : Jvm.MethodName)) ∈ lw_all := lw_g (lw_at lw_m6 13 rfl) rfl
theorem q1247 : (Jvm.Cond.fieldLink "java/lang/Integer" (205 : Nat) "java/lang/Integer" "value" "I") ∈ lw_all := lw_g (lw_at lw_m6 14 rfl) rfl
theorem q1248 : (Jvm.Cond.laysFinal "java/lang/Integer" "java/lang/Integer" "value" "I") ∈ lw_all := lw_g (lw_at lw_m6 15 rfl) rfl
theorem q1249 : (Jvm.Cond.soleField "java/lang/Integer" "value") ∈ lw_all := lw_g (lw_at lw_m6 16 rfl) rfl
theorem q1250 : (Jvm.Cond.superclass "java/lang/Integer" "java/lang/Number") ∈ lw_all := lw_g (lw_at lw_m6 17 rfl) rfl
theorem in_J16 : ∀ w ∈ wsJ160, w ∈ lw_all := lw_in wsJ160 [1248] (by decide +kernel) (by decide +kernel)
/-! java/lang/StringLatin1 -/
set_option maxRecDepth 100000
def RJ19 : String := "java/lang/StringLatin1"
abbrev cJ19_compareTo : ByteArray := prog_23_method_14_code
def yJ19_compareTo : MethodName := ⟨RJ19, "compareTo", "([B[B)I"⟩
def dkwJ19_compareTo_0 : List UInt8 := [42, 190, 61, 43, 190, 62, 42, 43, 28, 29, 184, 0, 34, 172]
abbrev dktJ19_compareTo_0 : List UInt8 := dkwJ19_compareTo_0 ++ []
theorem dksJ19_compareTo_0 : cJ19_compareTo.data.toList.drop 0 = dktJ19_compareTo_0 := by decide +kernel
theorem dJ19_compareTo_0 : decode cJ19_compareTo 0 = .ok (.aload_n 0, 1) := dk_42 (dk_at dksJ19_compareTo_0 0 rfl rfl)
theorem dJ19_compareTo_1 : decode cJ19_compareTo 1 = .ok (.arraylength, 1) := dk_190 (dk_at dksJ19_compareTo_0 1 rfl rfl)
theorem dJ19_compareTo_2 : decode cJ19_compareTo 2 = .ok (.istore_n 2, 1) := dk_61 (dk_at dksJ19_compareTo_0 2 rfl rfl)
theorem dJ19_compareTo_3 : decode cJ19_compareTo 3 = .ok (.aload_n 1, 1) := dk_43 (dk_at dksJ19_compareTo_0 3 rfl rfl)
theorem dJ19_compareTo_4 : decode cJ19_compareTo 4 = .ok (.arraylength, 1) := dk_190 (dk_at dksJ19_compareTo_0 4 rfl rfl)
theorem dJ19_compareTo_5 : decode cJ19_compareTo 5 = .ok (.istore_n 3, 1) := dk_62 (dk_at dksJ19_compareTo_0 5 rfl rfl)
theorem dJ19_compareTo_6 : decode cJ19_compareTo 6 = .ok (.aload_n 0, 1) := dk_42 (dk_at dksJ19_compareTo_0 6 rfl rfl)
theorem dJ19_compareTo_7 : decode cJ19_compareTo 7 = .ok (.aload_n 1, 1) := dk_43 (dk_at dksJ19_compareTo_0 7 rfl rfl)
theorem dJ19_compareTo_8 : decode cJ19_compareTo 8 = .ok (.iload_n 2, 1) := dk_28 (dk_at dksJ19_compareTo_0 8 rfl rfl)
theorem dJ19_compareTo_9 : decode cJ19_compareTo 9 = .ok (.iload_n 3, 1) := dk_29 (dk_at dksJ19_compareTo_0 9 rfl rfl)
theorem dJ19_compareTo_10 : decode cJ19_compareTo 10 = .ok (.invokestatic 34, 3) := dk_184 0 34 (dk_at dksJ19_compareTo_0 10 rfl rfl)
theorem dJ19_compareTo_13 : decode cJ19_compareTo 13 = .ok (.ireturn, 1) := dk_172 (dk_at dksJ19_compareTo_0 13 rfl rfl)
abbrev cJ19_compareTo_2 : ByteArray := prog_23_method_15_code
def yJ19_compareTo_2 : MethodName := ⟨RJ19, "compareTo", "([B[BII)I"⟩
def dkwJ19_compareTo_2_1 : List UInt8 := [167, 0, 16, 42, 21, 5, 184, 0, 50, 43, 21, 5, 184, 0, 50, 100, 172]
abbrev dktJ19_compareTo_2_1 : List UInt8 := dkwJ19_compareTo_2_1 ++ []
def dkwJ19_compareTo_2_0 : List UInt8 := [28, 29, 184, 0, 38, 54, 4, 42, 43, 21, 4, 184, 0, 44, 54, 5, 21, 5, 156, 0, 9, 28, 29, 100]
abbrev dktJ19_compareTo_2_0 : List UInt8 := dkwJ19_compareTo_2_0 ++ dktJ19_compareTo_2_1
theorem dksJ19_compareTo_2_0 : cJ19_compareTo_2.data.toList.drop 0 = dktJ19_compareTo_2_0 := by decide +kernel
theorem dksJ19_compareTo_2_1 : cJ19_compareTo_2.data.toList.drop 24 = dktJ19_compareTo_2_1 := dk_seg dksJ19_compareTo_2_0 24 rfl rfl
theorem dJ19_compareTo_2_0 : decode cJ19_compareTo_2 0 = .ok (.iload_n 2, 1) := dk_28 (dk_at dksJ19_compareTo_2_0 0 rfl rfl)
theorem dJ19_compareTo_2_1 : decode cJ19_compareTo_2 1 = .ok (.iload_n 3, 1) := dk_29 (dk_at dksJ19_compareTo_2_0 1 rfl rfl)
theorem dJ19_compareTo_2_2 : decode cJ19_compareTo_2 2 = .ok (.invokestatic 38, 3) := dk_184 0 38 (dk_at dksJ19_compareTo_2_0 2 rfl rfl)
theorem dJ19_compareTo_2_5 : decode cJ19_compareTo_2 5 = .ok (.istore 4, 2) := dk_54 4 (dk_at dksJ19_compareTo_2_0 5 rfl rfl)
theorem dJ19_compareTo_2_7 : decode cJ19_compareTo_2 7 = .ok (.aload_n 0, 1) := dk_42 (dk_at dksJ19_compareTo_2_0 7 rfl rfl)
theorem dJ19_compareTo_2_8 : decode cJ19_compareTo_2 8 = .ok (.aload_n 1, 1) := dk_43 (dk_at dksJ19_compareTo_2_0 8 rfl rfl)
theorem dJ19_compareTo_2_9 : decode cJ19_compareTo_2 9 = .ok (.iload 4, 2) := dk_21 4 (dk_at dksJ19_compareTo_2_0 9 rfl rfl)
theorem dJ19_compareTo_2_11 : decode cJ19_compareTo_2 11 = .ok (.invokestatic 44, 3) := dk_184 0 44 (dk_at dksJ19_compareTo_2_0 11 rfl rfl)
theorem dJ19_compareTo_2_14 : decode cJ19_compareTo_2 14 = .ok (.istore 5, 2) := dk_54 5 (dk_at dksJ19_compareTo_2_0 14 rfl rfl)
theorem dJ19_compareTo_2_16 : decode cJ19_compareTo_2 16 = .ok (.iload 5, 2) := dk_21 5 (dk_at dksJ19_compareTo_2_0 16 rfl rfl)
theorem dJ19_compareTo_2_18 : decode cJ19_compareTo_2 18 = .ok (.ifCond .ge 9, 3) := dk_156 0 9 (dk_at dksJ19_compareTo_2_0 18 rfl rfl)
theorem dJ19_compareTo_2_21 : decode cJ19_compareTo_2 21 = .ok (.iload_n 2, 1) := dk_28 (dk_at dksJ19_compareTo_2_0 21 rfl rfl)
theorem dJ19_compareTo_2_22 : decode cJ19_compareTo_2 22 = .ok (.iload_n 3, 1) := dk_29 (dk_at dksJ19_compareTo_2_0 22 rfl rfl)
theorem dJ19_compareTo_2_23 : decode cJ19_compareTo_2 23 = .ok (.isub, 1) := dk_100 (dk_at dksJ19_compareTo_2_0 23 rfl rfl)
theorem dJ19_compareTo_2_24 : decode cJ19_compareTo_2 24 = .ok (.goto 16, 3) := dk_167 0 16 (dk_at dksJ19_compareTo_2_1 0 rfl rfl)
theorem dJ19_compareTo_2_27 : decode cJ19_compareTo_2 27 = .ok (.aload_n 0, 1) := dk_42 (dk_at dksJ19_compareTo_2_1 3 rfl rfl)
theorem dJ19_compareTo_2_28 : decode cJ19_compareTo_2 28 = .ok (.iload 5, 2) := dk_21 5 (dk_at dksJ19_compareTo_2_1 4 rfl rfl)
theorem dJ19_compareTo_2_30 : decode cJ19_compareTo_2 30 = .ok (.invokestatic 50, 3) := dk_184 0 50 (dk_at dksJ19_compareTo_2_1 6 rfl rfl)
theorem dJ19_compareTo_2_33 : decode cJ19_compareTo_2 33 = .ok (.aload_n 1, 1) := dk_43 (dk_at dksJ19_compareTo_2_1 9 rfl rfl)
theorem dJ19_compareTo_2_34 : decode cJ19_compareTo_2 34 = .ok (.iload 5, 2) := dk_21 5 (dk_at dksJ19_compareTo_2_1 10 rfl rfl)
theorem dJ19_compareTo_2_36 : decode cJ19_compareTo_2 36 = .ok (.invokestatic 50, 3) := dk_184 0 50 (dk_at dksJ19_compareTo_2_1 12 rfl rfl)
theorem dJ19_compareTo_2_39 : decode cJ19_compareTo_2 39 = .ok (.isub, 1) := dk_100 (dk_at dksJ19_compareTo_2_1 15 rfl rfl)
theorem dJ19_compareTo_2_40 : decode cJ19_compareTo_2 40 = .ok (.ireturn, 1) := dk_172 (dk_at dksJ19_compareTo_2_1 16 rfl rfl)
abbrev cJ19_getChar : ByteArray := prog_23_method_44_code
def yJ19_getChar : MethodName := ⟨RJ19, "getChar", "([BI)C"⟩
def dkwJ19_getChar_0 : List UInt8 := [42, 27, 51, 17, 0, 255, 126, 146, 172]
abbrev dktJ19_getChar_0 : List UInt8 := dkwJ19_getChar_0 ++ []
theorem dksJ19_getChar_0 : cJ19_getChar.data.toList.drop 0 = dktJ19_getChar_0 := by decide +kernel
theorem dJ19_getChar_0 : decode cJ19_getChar 0 = .ok (.aload_n 0, 1) := dk_42 (dk_at dksJ19_getChar_0 0 rfl rfl)
theorem dJ19_getChar_1 : decode cJ19_getChar 1 = .ok (.iload_n 1, 1) := dk_27 (dk_at dksJ19_getChar_0 1 rfl rfl)
theorem dJ19_getChar_2 : decode cJ19_getChar 2 = .ok (.baload, 1) := dk_51 (dk_at dksJ19_getChar_0 2 rfl rfl)
theorem dJ19_getChar_3 : decode cJ19_getChar 3 = .ok (.sipush 255, 3) := dk_17 0 255 (dk_at dksJ19_getChar_0 3 rfl rfl)
theorem dJ19_getChar_6 : decode cJ19_getChar 6 = .ok (.iand, 1) := dk_126 (dk_at dksJ19_getChar_0 6 rfl rfl)
theorem dJ19_getChar_7 : decode cJ19_getChar 7 = .ok (.i2c, 1) := dk_146 (dk_at dksJ19_getChar_0 7 rfl rfl)
theorem dJ19_getChar_8 : decode cJ19_getChar 8 = .ok (.ireturn, 1) := dk_172 (dk_at dksJ19_getChar_0 8 rfl rfl)
abbrev cJ19_compareToUTF16 : ByteArray := prog_23_method_16_code
def yJ19_compareToUTF16 : MethodName := ⟨RJ19, "compareToUTF16", "([B[B)I"⟩
def dkwJ19_compareToUTF16_0 : List UInt8 := [42, 184, 0, 54, 61, 43, 184, 0, 58, 62, 42, 43, 28, 29, 184, 0, 59, 172]
abbrev dktJ19_compareToUTF16_0 : List UInt8 := dkwJ19_compareToUTF16_0 ++ []
theorem dksJ19_compareToUTF16_0 : cJ19_compareToUTF16.data.toList.drop 0 = dktJ19_compareToUTF16_0 := by decide +kernel
theorem dJ19_compareToUTF16_0 : decode cJ19_compareToUTF16 0 = .ok (.aload_n 0, 1) := dk_42 (dk_at dksJ19_compareToUTF16_0 0 rfl rfl)
theorem dJ19_compareToUTF16_1 : decode cJ19_compareToUTF16 1 = .ok (.invokestatic 54, 3) := dk_184 0 54 (dk_at dksJ19_compareToUTF16_0 1 rfl rfl)
theorem dJ19_compareToUTF16_4 : decode cJ19_compareToUTF16 4 = .ok (.istore_n 2, 1) := dk_61 (dk_at dksJ19_compareToUTF16_0 4 rfl rfl)
theorem dJ19_compareToUTF16_5 : decode cJ19_compareToUTF16 5 = .ok (.aload_n 1, 1) := dk_43 (dk_at dksJ19_compareToUTF16_0 5 rfl rfl)
theorem dJ19_compareToUTF16_6 : decode cJ19_compareToUTF16 6 = .ok (.invokestatic 58, 3) := dk_184 0 58 (dk_at dksJ19_compareToUTF16_0 6 rfl rfl)
theorem dJ19_compareToUTF16_9 : decode cJ19_compareToUTF16 9 = .ok (.istore_n 3, 1) := dk_62 (dk_at dksJ19_compareToUTF16_0 9 rfl rfl)
theorem dJ19_compareToUTF16_10 : decode cJ19_compareToUTF16 10 = .ok (.aload_n 0, 1) := dk_42 (dk_at dksJ19_compareToUTF16_0 10 rfl rfl)
theorem dJ19_compareToUTF16_11 : decode cJ19_compareToUTF16 11 = .ok (.aload_n 1, 1) := dk_43 (dk_at dksJ19_compareToUTF16_0 11 rfl rfl)
theorem dJ19_compareToUTF16_12 : decode cJ19_compareToUTF16 12 = .ok (.iload_n 2, 1) := dk_28 (dk_at dksJ19_compareToUTF16_0 12 rfl rfl)
theorem dJ19_compareToUTF16_13 : decode cJ19_compareToUTF16 13 = .ok (.iload_n 3, 1) := dk_29 (dk_at dksJ19_compareToUTF16_0 13 rfl rfl)
theorem dJ19_compareToUTF16_14 : decode cJ19_compareToUTF16 14 = .ok (.invokestatic 59, 3) := dk_184 0 59 (dk_at dksJ19_compareToUTF16_0 14 rfl rfl)
theorem dJ19_compareToUTF16_17 : decode cJ19_compareToUTF16 17 = .ok (.ireturn, 1) := dk_172 (dk_at dksJ19_compareToUTF16_0 17 rfl rfl)
abbrev cJ19_length : ByteArray := prog_23_method_5_code
def yJ19_length : MethodName := ⟨RJ19, "length", "([B)I"⟩
theorem dJ19_length_0 : decode cJ19_length 0 = .ok (.aload_n 0, 1) := by decide +kernel
theorem dJ19_length_1 : decode cJ19_length 1 = .ok (.arraylength, 1) := by decide +kernel
theorem dJ19_length_2 : decode cJ19_length 2 = .ok (.ireturn, 1) := by decide +kernel
abbrev cJ19_compareToUTF16Values : ByteArray := prog_23_method_18_code
def yJ19_compareToUTF16Values : MethodName := ⟨RJ19, "compareToUTF16Values", "([B[BII)I"⟩
def dkwJ19_compareToUTF16Values_2 : List UInt8 := [132, 5, 1, 167, 255, 217, 28, 29, 100, 172]
abbrev dktJ19_compareToUTF16Values_2 : List UInt8 := dkwJ19_compareToUTF16Values_2 ++ []
def dkwJ19_compareToUTF16Values_1 : List UInt8 := [54, 6, 43, 21, 5, 184, 0, 65, 54, 7, 21, 6, 21, 7, 159, 0, 9, 21, 6, 21, 7, 100, 172]
abbrev dktJ19_compareToUTF16Values_1 : List UInt8 := dkwJ19_compareToUTF16Values_1 ++ dktJ19_compareToUTF16Values_2
def dkwJ19_compareToUTF16Values_0 : List UInt8 := [28, 29, 184, 0, 38, 54, 4, 3, 54, 5, 21, 5, 21, 4, 162, 0, 38, 42, 21, 5, 184, 0, 50]
abbrev dktJ19_compareToUTF16Values_0 : List UInt8 := dkwJ19_compareToUTF16Values_0 ++ dktJ19_compareToUTF16Values_1
theorem dksJ19_compareToUTF16Values_0 : cJ19_compareToUTF16Values.data.toList.drop 0 = dktJ19_compareToUTF16Values_0 := by decide +kernel
theorem dksJ19_compareToUTF16Values_1 : cJ19_compareToUTF16Values.data.toList.drop 23 = dktJ19_compareToUTF16Values_1 := dk_seg dksJ19_compareToUTF16Values_0 23 rfl rfl
theorem dksJ19_compareToUTF16Values_2 : cJ19_compareToUTF16Values.data.toList.drop 46 = dktJ19_compareToUTF16Values_2 := dk_seg dksJ19_compareToUTF16Values_1 23 rfl rfl
theorem dJ19_compareToUTF16Values_0 : decode cJ19_compareToUTF16Values 0 = .ok (.iload_n 2, 1) := dk_28 (dk_at dksJ19_compareToUTF16Values_0 0 rfl rfl)
theorem dJ19_compareToUTF16Values_1 : decode cJ19_compareToUTF16Values 1 = .ok (.iload_n 3, 1) := dk_29 (dk_at dksJ19_compareToUTF16Values_0 1 rfl rfl)
theorem dJ19_compareToUTF16Values_2 : decode cJ19_compareToUTF16Values 2 = .ok (.invokestatic 38, 3) := dk_184 0 38 (dk_at dksJ19_compareToUTF16Values_0 2 rfl rfl)
theorem dJ19_compareToUTF16Values_5 : decode cJ19_compareToUTF16Values 5 = .ok (.istore 4, 2) := dk_54 4 (dk_at dksJ19_compareToUTF16Values_0 5 rfl rfl)
theorem dJ19_compareToUTF16Values_7 : decode cJ19_compareToUTF16Values 7 = .ok (.iconst 0, 1) := dk_3 (dk_at dksJ19_compareToUTF16Values_0 7 rfl rfl)
theorem dJ19_compareToUTF16Values_8 : decode cJ19_compareToUTF16Values 8 = .ok (.istore 5, 2) := dk_54 5 (dk_at dksJ19_compareToUTF16Values_0 8 rfl rfl)
theorem dJ19_compareToUTF16Values_10 : decode cJ19_compareToUTF16Values 10 = .ok (.iload 5, 2) := dk_21 5 (dk_at dksJ19_compareToUTF16Values_0 10 rfl rfl)
theorem dJ19_compareToUTF16Values_12 : decode cJ19_compareToUTF16Values 12 = .ok (.iload 4, 2) := dk_21 4 (dk_at dksJ19_compareToUTF16Values_0 12 rfl rfl)
theorem dJ19_compareToUTF16Values_14 : decode cJ19_compareToUTF16Values 14 = .ok (.if_icmp .ge 38, 3) := dk_162 0 38 (dk_at dksJ19_compareToUTF16Values_0 14 rfl rfl)
theorem dJ19_compareToUTF16Values_17 : decode cJ19_compareToUTF16Values 17 = .ok (.aload_n 0, 1) := dk_42 (dk_at dksJ19_compareToUTF16Values_0 17 rfl rfl)
theorem dJ19_compareToUTF16Values_18 : decode cJ19_compareToUTF16Values 18 = .ok (.iload 5, 2) := dk_21 5 (dk_at dksJ19_compareToUTF16Values_0 18 rfl rfl)
theorem dJ19_compareToUTF16Values_20 : decode cJ19_compareToUTF16Values 20 = .ok (.invokestatic 50, 3) := dk_184 0 50 (dk_at dksJ19_compareToUTF16Values_0 20 rfl rfl)
theorem dJ19_compareToUTF16Values_23 : decode cJ19_compareToUTF16Values 23 = .ok (.istore 6, 2) := dk_54 6 (dk_at dksJ19_compareToUTF16Values_1 0 rfl rfl)
theorem dJ19_compareToUTF16Values_25 : decode cJ19_compareToUTF16Values 25 = .ok (.aload_n 1, 1) := dk_43 (dk_at dksJ19_compareToUTF16Values_1 2 rfl rfl)
theorem dJ19_compareToUTF16Values_26 : decode cJ19_compareToUTF16Values 26 = .ok (.iload 5, 2) := dk_21 5 (dk_at dksJ19_compareToUTF16Values_1 3 rfl rfl)
theorem dJ19_compareToUTF16Values_28 : decode cJ19_compareToUTF16Values 28 = .ok (.invokestatic 65, 3) := dk_184 0 65 (dk_at dksJ19_compareToUTF16Values_1 5 rfl rfl)
theorem dJ19_compareToUTF16Values_31 : decode cJ19_compareToUTF16Values 31 = .ok (.istore 7, 2) := dk_54 7 (dk_at dksJ19_compareToUTF16Values_1 8 rfl rfl)
theorem dJ19_compareToUTF16Values_33 : decode cJ19_compareToUTF16Values 33 = .ok (.iload 6, 2) := dk_21 6 (dk_at dksJ19_compareToUTF16Values_1 10 rfl rfl)
theorem dJ19_compareToUTF16Values_35 : decode cJ19_compareToUTF16Values 35 = .ok (.iload 7, 2) := dk_21 7 (dk_at dksJ19_compareToUTF16Values_1 12 rfl rfl)
theorem dJ19_compareToUTF16Values_37 : decode cJ19_compareToUTF16Values 37 = .ok (.if_icmp .eq 9, 3) := dk_159 0 9 (dk_at dksJ19_compareToUTF16Values_1 14 rfl rfl)
theorem dJ19_compareToUTF16Values_40 : decode cJ19_compareToUTF16Values 40 = .ok (.iload 6, 2) := dk_21 6 (dk_at dksJ19_compareToUTF16Values_1 17 rfl rfl)
theorem dJ19_compareToUTF16Values_42 : decode cJ19_compareToUTF16Values 42 = .ok (.iload 7, 2) := dk_21 7 (dk_at dksJ19_compareToUTF16Values_1 19 rfl rfl)
theorem dJ19_compareToUTF16Values_44 : decode cJ19_compareToUTF16Values 44 = .ok (.isub, 1) := dk_100 (dk_at dksJ19_compareToUTF16Values_1 21 rfl rfl)
theorem dJ19_compareToUTF16Values_45 : decode cJ19_compareToUTF16Values 45 = .ok (.ireturn, 1) := dk_172 (dk_at dksJ19_compareToUTF16Values_1 22 rfl rfl)
theorem dJ19_compareToUTF16Values_46 : decode cJ19_compareToUTF16Values 46 = .ok (.iinc 5 1, 3) := dk_132 5 1 (dk_at dksJ19_compareToUTF16Values_2 0 rfl rfl)
theorem dJ19_compareToUTF16Values_49 : decode cJ19_compareToUTF16Values 49 = .ok (.goto (-39), 3) := dk_167 255 217 (dk_at dksJ19_compareToUTF16Values_2 3 rfl rfl)
theorem dJ19_compareToUTF16Values_52 : decode cJ19_compareToUTF16Values 52 = .ok (.iload_n 2, 1) := dk_28 (dk_at dksJ19_compareToUTF16Values_2 6 rfl rfl)
theorem dJ19_compareToUTF16Values_53 : decode cJ19_compareToUTF16Values 53 = .ok (.iload_n 3, 1) := dk_29 (dk_at dksJ19_compareToUTF16Values_2 7 rfl rfl)
theorem dJ19_compareToUTF16Values_54 : decode cJ19_compareToUTF16Values 54 = .ok (.isub, 1) := dk_100 (dk_at dksJ19_compareToUTF16Values_2 8 rfl rfl)
theorem dJ19_compareToUTF16Values_55 : decode cJ19_compareToUTF16Values 55 = .ok (.ireturn, 1) := dk_172 (dk_at dksJ19_compareToUTF16Values_2 9 rfl rfl)
abbrev cJ19_compareToUTF16_2 : ByteArray := prog_23_method_17_code
def yJ19_compareToUTF16_2 : MethodName := ⟨RJ19, "compareToUTF16", "([B[BII)I"⟩
def dkwJ19_compareToUTF16_2_0 : List UInt8 := [28, 42, 184, 0, 54, 184, 0, 62, 29, 43, 184, 0, 58, 184, 0, 62, 42, 43, 28, 29, 184, 0, 59, 172]
abbrev dktJ19_compareToUTF16_2_0 : List UInt8 := dkwJ19_compareToUTF16_2_0 ++ []
theorem dksJ19_compareToUTF16_2_0 : cJ19_compareToUTF16_2.data.toList.drop 0 = dktJ19_compareToUTF16_2_0 := by decide +kernel
theorem dJ19_compareToUTF16_2_0 : decode cJ19_compareToUTF16_2 0 = .ok (.iload_n 2, 1) := dk_28 (dk_at dksJ19_compareToUTF16_2_0 0 rfl rfl)
theorem dJ19_compareToUTF16_2_1 : decode cJ19_compareToUTF16_2 1 = .ok (.aload_n 0, 1) := dk_42 (dk_at dksJ19_compareToUTF16_2_0 1 rfl rfl)
theorem dJ19_compareToUTF16_2_2 : decode cJ19_compareToUTF16_2 2 = .ok (.invokestatic 54, 3) := dk_184 0 54 (dk_at dksJ19_compareToUTF16_2_0 2 rfl rfl)
theorem dJ19_compareToUTF16_2_5 : decode cJ19_compareToUTF16_2 5 = .ok (.invokestatic 62, 3) := dk_184 0 62 (dk_at dksJ19_compareToUTF16_2_0 5 rfl rfl)
theorem dJ19_compareToUTF16_2_8 : decode cJ19_compareToUTF16_2 8 = .ok (.iload_n 3, 1) := dk_29 (dk_at dksJ19_compareToUTF16_2_0 8 rfl rfl)
theorem dJ19_compareToUTF16_2_9 : decode cJ19_compareToUTF16_2 9 = .ok (.aload_n 1, 1) := dk_43 (dk_at dksJ19_compareToUTF16_2_0 9 rfl rfl)
theorem dJ19_compareToUTF16_2_10 : decode cJ19_compareToUTF16_2 10 = .ok (.invokestatic 58, 3) := dk_184 0 58 (dk_at dksJ19_compareToUTF16_2_0 10 rfl rfl)
theorem dJ19_compareToUTF16_2_13 : decode cJ19_compareToUTF16_2 13 = .ok (.invokestatic 62, 3) := dk_184 0 62 (dk_at dksJ19_compareToUTF16_2_0 13 rfl rfl)
theorem dJ19_compareToUTF16_2_16 : decode cJ19_compareToUTF16_2 16 = .ok (.aload_n 0, 1) := dk_42 (dk_at dksJ19_compareToUTF16_2_0 16 rfl rfl)
theorem dJ19_compareToUTF16_2_17 : decode cJ19_compareToUTF16_2 17 = .ok (.aload_n 1, 1) := dk_43 (dk_at dksJ19_compareToUTF16_2_0 17 rfl rfl)
theorem dJ19_compareToUTF16_2_18 : decode cJ19_compareToUTF16_2 18 = .ok (.iload_n 2, 1) := dk_28 (dk_at dksJ19_compareToUTF16_2_0 18 rfl rfl)
theorem dJ19_compareToUTF16_2_19 : decode cJ19_compareToUTF16_2 19 = .ok (.iload_n 3, 1) := dk_29 (dk_at dksJ19_compareToUTF16_2_0 19 rfl rfl)
theorem dJ19_compareToUTF16_2_20 : decode cJ19_compareToUTF16_2 20 = .ok (.invokestatic 59, 3) := dk_184 0 59 (dk_at dksJ19_compareToUTF16_2_0 20 rfl rfl)
theorem dJ19_compareToUTF16_2_23 : decode cJ19_compareToUTF16_2 23 = .ok (.ireturn, 1) := dk_172 (dk_at dksJ19_compareToUTF16_2_0 23 rfl rfl)
abbrev cJ19_canEncode : ByteArray := prog_23_method_3_code
def yJ19_canEncode : MethodName := ⟨RJ19, "canEncode", "(C)Z"⟩
def dkwJ19_canEncode_0 : List UInt8 := [26, 17, 0, 255, 163, 0, 7, 4, 167, 0, 4, 3, 172]
abbrev dktJ19_canEncode_0 : List UInt8 := dkwJ19_canEncode_0 ++ []
theorem dksJ19_canEncode_0 : cJ19_canEncode.data.toList.drop 0 = dktJ19_canEncode_0 := by decide +kernel
theorem dJ19_canEncode_0 : decode cJ19_canEncode 0 = .ok (.iload_n 0, 1) := dk_26 (dk_at dksJ19_canEncode_0 0 rfl rfl)
theorem dJ19_canEncode_1 : decode cJ19_canEncode 1 = .ok (.sipush 255, 3) := dk_17 0 255 (dk_at dksJ19_canEncode_0 1 rfl rfl)
theorem dJ19_canEncode_4 : decode cJ19_canEncode 4 = .ok (.if_icmp .gt 7, 3) := dk_163 0 7 (dk_at dksJ19_canEncode_0 4 rfl rfl)
theorem dJ19_canEncode_7 : decode cJ19_canEncode 7 = .ok (.iconst 1, 1) := dk_4 (dk_at dksJ19_canEncode_0 7 rfl rfl)
theorem dJ19_canEncode_8 : decode cJ19_canEncode 8 = .ok (.goto 4, 3) := dk_167 0 4 (dk_at dksJ19_canEncode_0 8 rfl rfl)
theorem dJ19_canEncode_11 : decode cJ19_canEncode 11 = .ok (.iconst 0, 1) := dk_3 (dk_at dksJ19_canEncode_0 11 rfl rfl)
theorem dJ19_canEncode_12 : decode cJ19_canEncode 12 = .ok (.ireturn, 1) := dk_172 (dk_at dksJ19_canEncode_0 12 rfl rfl)
abbrev cJ19_inflate : ByteArray := prog_23_method_50_code
def yJ19_inflate : MethodName := ⟨RJ19, "inflate", "([BI[BII)V"⟩
def dkwJ19_inflate_0 : List UInt8 := [42, 27, 44, 29, 21, 4, 184, 0, 240, 177]
abbrev dktJ19_inflate_0 : List UInt8 := dkwJ19_inflate_0 ++ []
theorem dksJ19_inflate_0 : cJ19_inflate.data.toList.drop 0 = dktJ19_inflate_0 := by decide +kernel
theorem dJ19_inflate_0 : decode cJ19_inflate 0 = .ok (.aload_n 0, 1) := dk_42 (dk_at dksJ19_inflate_0 0 rfl rfl)
theorem dJ19_inflate_1 : decode cJ19_inflate 1 = .ok (.iload_n 1, 1) := dk_27 (dk_at dksJ19_inflate_0 1 rfl rfl)
theorem dJ19_inflate_2 : decode cJ19_inflate 2 = .ok (.aload_n 2, 1) := dk_44 (dk_at dksJ19_inflate_0 2 rfl rfl)
theorem dJ19_inflate_3 : decode cJ19_inflate 3 = .ok (.iload_n 3, 1) := dk_29 (dk_at dksJ19_inflate_0 3 rfl rfl)
theorem dJ19_inflate_4 : decode cJ19_inflate 4 = .ok (.iload 4, 2) := dk_21 4 (dk_at dksJ19_inflate_0 4 rfl rfl)
theorem dJ19_inflate_6 : decode cJ19_inflate 6 = .ok (.invokestatic 240, 3) := dk_184 0 240 (dk_at dksJ19_inflate_0 6 rfl rfl)
theorem dJ19_inflate_9 : decode cJ19_inflate 9 = .ok (.return_, 1) := dk_177 (dk_at dksJ19_inflate_0 9 rfl rfl)
abbrev cJ19_equals : ByteArray := prog_23_method_13_code
def yJ19_equals : MethodName := ⟨RJ19, "equals", "([B[B)Z"⟩
def dkwJ19_equals_1 : List UInt8 := [3, 172, 132, 2, 1, 167, 255, 236, 4, 172, 3, 172]
abbrev dktJ19_equals_1 : List UInt8 := dkwJ19_equals_1 ++ []
def dkwJ19_equals_0 : List UInt8 := [42, 190, 43, 190, 160, 0, 30, 3, 61, 28, 42, 190, 162, 0, 20, 42, 28, 51, 43, 28, 51, 159, 0, 5]
abbrev dktJ19_equals_0 : List UInt8 := dkwJ19_equals_0 ++ dktJ19_equals_1
theorem dksJ19_equals_0 : cJ19_equals.data.toList.drop 0 = dktJ19_equals_0 := by decide +kernel
theorem dksJ19_equals_1 : cJ19_equals.data.toList.drop 24 = dktJ19_equals_1 := dk_seg dksJ19_equals_0 24 rfl rfl
theorem dJ19_equals_0 : decode cJ19_equals 0 = .ok (.aload_n 0, 1) := dk_42 (dk_at dksJ19_equals_0 0 rfl rfl)
theorem dJ19_equals_1 : decode cJ19_equals 1 = .ok (.arraylength, 1) := dk_190 (dk_at dksJ19_equals_0 1 rfl rfl)
theorem dJ19_equals_2 : decode cJ19_equals 2 = .ok (.aload_n 1, 1) := dk_43 (dk_at dksJ19_equals_0 2 rfl rfl)
theorem dJ19_equals_3 : decode cJ19_equals 3 = .ok (.arraylength, 1) := dk_190 (dk_at dksJ19_equals_0 3 rfl rfl)
theorem dJ19_equals_4 : decode cJ19_equals 4 = .ok (.if_icmp .ne 30, 3) := dk_160 0 30 (dk_at dksJ19_equals_0 4 rfl rfl)
theorem dJ19_equals_7 : decode cJ19_equals 7 = .ok (.iconst 0, 1) := dk_3 (dk_at dksJ19_equals_0 7 rfl rfl)
theorem dJ19_equals_8 : decode cJ19_equals 8 = .ok (.istore_n 2, 1) := dk_61 (dk_at dksJ19_equals_0 8 rfl rfl)
theorem dJ19_equals_9 : decode cJ19_equals 9 = .ok (.iload_n 2, 1) := dk_28 (dk_at dksJ19_equals_0 9 rfl rfl)
theorem dJ19_equals_10 : decode cJ19_equals 10 = .ok (.aload_n 0, 1) := dk_42 (dk_at dksJ19_equals_0 10 rfl rfl)
theorem dJ19_equals_11 : decode cJ19_equals 11 = .ok (.arraylength, 1) := dk_190 (dk_at dksJ19_equals_0 11 rfl rfl)
theorem dJ19_equals_12 : decode cJ19_equals 12 = .ok (.if_icmp .ge 20, 3) := dk_162 0 20 (dk_at dksJ19_equals_0 12 rfl rfl)
theorem dJ19_equals_15 : decode cJ19_equals 15 = .ok (.aload_n 0, 1) := dk_42 (dk_at dksJ19_equals_0 15 rfl rfl)
theorem dJ19_equals_16 : decode cJ19_equals 16 = .ok (.iload_n 2, 1) := dk_28 (dk_at dksJ19_equals_0 16 rfl rfl)
theorem dJ19_equals_17 : decode cJ19_equals 17 = .ok (.baload, 1) := dk_51 (dk_at dksJ19_equals_0 17 rfl rfl)
theorem dJ19_equals_18 : decode cJ19_equals 18 = .ok (.aload_n 1, 1) := dk_43 (dk_at dksJ19_equals_0 18 rfl rfl)
theorem dJ19_equals_19 : decode cJ19_equals 19 = .ok (.iload_n 2, 1) := dk_28 (dk_at dksJ19_equals_0 19 rfl rfl)
theorem dJ19_equals_20 : decode cJ19_equals 20 = .ok (.baload, 1) := dk_51 (dk_at dksJ19_equals_0 20 rfl rfl)
theorem dJ19_equals_21 : decode cJ19_equals 21 = .ok (.if_icmp .eq 5, 3) := dk_159 0 5 (dk_at dksJ19_equals_0 21 rfl rfl)
theorem dJ19_equals_24 : decode cJ19_equals 24 = .ok (.iconst 0, 1) := dk_3 (dk_at dksJ19_equals_1 0 rfl rfl)
theorem dJ19_equals_25 : decode cJ19_equals 25 = .ok (.ireturn, 1) := dk_172 (dk_at dksJ19_equals_1 1 rfl rfl)
theorem dJ19_equals_26 : decode cJ19_equals 26 = .ok (.iinc 2 1, 3) := dk_132 2 1 (dk_at dksJ19_equals_1 2 rfl rfl)
theorem dJ19_equals_29 : decode cJ19_equals 29 = .ok (.goto (-20), 3) := dk_167 255 236 (dk_at dksJ19_equals_1 5 rfl rfl)
theorem dJ19_equals_32 : decode cJ19_equals 32 = .ok (.iconst 1, 1) := dk_4 (dk_at dksJ19_equals_1 8 rfl rfl)
theorem dJ19_equals_33 : decode cJ19_equals 33 = .ok (.ireturn, 1) := dk_172 (dk_at dksJ19_equals_1 9 rfl rfl)
theorem dJ19_equals_34 : decode cJ19_equals 34 = .ok (.iconst 0, 1) := dk_3 (dk_at dksJ19_equals_1 10 rfl rfl)
theorem dJ19_equals_35 : decode cJ19_equals 35 = .ok (.ireturn, 1) := dk_172 (dk_at dksJ19_equals_1 11 rfl rfl)
theorem q58 : (Jvm.Cond.initialized "java/lang/StringLatin1") ∈ lw_all := lw_g (lw_at lw_m1 25 rfl) rfl
theorem q342 : (Jvm.Cond.static ({ cls := "java/lang/StringLatin1", name := "compareTo", desc := "([B[B)I" } : Jvm.MethodName)) ∈ lw_all := lw_g (lw_at lw_m2 69 rfl) rfl
theorem q343 : (Jvm.Cond.code ({ cls := "java/lang/StringLatin1", name := "compareTo", desc := "([B[B)I" } : Jvm.MethodName) prog_23_method_14_code (4 : Nat) (Option.some Jvm.ClassFile.FieldType.int)) ∈ lw_all := lw_g (lw_at lw_m2 70 rfl) rfl
theorem q344 : (Jvm.Cond.methodLink "java/lang/StringLatin1" (34 : Nat) ({ cls := "java/lang/StringLatin1", name := "compareTo", desc := "([B[BII)I" } : Jvm.MethodName)) ∈ lw_all := lw_g (lw_at lw_m2 71 rfl) rfl
theorem q345 : (Jvm.Cond.static ({ cls := "java/lang/StringLatin1", name := "compareTo", desc := "([B[BII)I" } : Jvm.MethodName)) ∈ lw_all := lw_g (lw_at lw_m2 72 rfl) rfl
theorem q346 : (Jvm.Cond.code ({ cls := "java/lang/StringLatin1", name := "compareTo", desc := "([B[BII)I" } : Jvm.MethodName) prog_23_method_15_code (6 : Nat) (Option.some Jvm.ClassFile.FieldType.int)) ∈ lw_all := lw_g (lw_at lw_m2 73 rfl) rfl
theorem q347 : (Jvm.Cond.methodLink "java/lang/StringLatin1" (38 : Nat) ({ cls := "java/lang/Math", name := "min", desc := "(II)I" } : Jvm.MethodName)) ∈ lw_all := lw_g (lw_at lw_m2 74 rfl) rfl
theorem q350 : (Jvm.Cond.methodLink "java/lang/StringLatin1" (44 : Nat) ({ cls := "jdk/internal/util/ArraysSupport", name := "mismatch", desc := "([B[BI)I" } : Jvm.MethodName)) ∈ lw_all := lw_g (lw_at lw_m2 77 rfl) rfl
theorem q454 : (Jvm.Cond.methodLink "java/lang/StringLatin1" (50 : Nat) ({ cls := "java/lang/StringLatin1", name := "getChar", desc := "([BI)C" } : Jvm.MethodName)) ∈ lw_all := lw_g (lw_at lw_m2 181 rfl) rfl
theorem q455 : (Jvm.Cond.static ({ cls := "java/lang/StringLatin1", name := "getChar", desc := "([BI)C" } : Jvm.MethodName)) ∈ lw_all := lw_g (lw_at lw_m2 182 rfl) rfl
theorem q456 : (Jvm.Cond.code ({ cls := "java/lang/StringLatin1", name := "getChar", desc := "([BI)C" } : Jvm.MethodName) prog_23_method_44_code (2 : Nat) (Option.some Jvm.ClassFile.FieldType.char)) ∈ lw_all := lw_g (lw_at lw_m2 183 rfl) rfl
theorem q477 : (Jvm.Cond.static ({ cls := "java/lang/StringLatin1", name := "compareToUTF16", desc := "([B[B)I" } : Jvm.MethodName)) ∈ lw_all := lw_g (lw_at lw_m2 204 rfl) rfl
theorem q478 : (Jvm.Cond.code ({ cls := "java/lang/StringLatin1", name := "compareToUTF16", desc := "([B[B)I" } : Jvm.MethodName) prog_23_method_16_code (4 : Nat) (Option.some Jvm.ClassFile.FieldType.int)) ∈ lw_all := lw_g (lw_at lw_m2 205 rfl) rfl
theorem q479 : (Jvm.Cond.methodLink "java/lang/StringLatin1" (54 : Nat) ({ cls := "java/lang/StringLatin1", name := "length", desc := "([B)I" } : Jvm.MethodName)) ∈ lw_all := lw_g (lw_at lw_m2 206 rfl) rfl
theorem q480 : (Jvm.Cond.static ({ cls := "java/lang/StringLatin1", name := "length", desc := "([B)I" } : Jvm.MethodName)) ∈ lw_all := lw_g (lw_at lw_m2 207 rfl) rfl
theorem q481 : (Jvm.Cond.code ({ cls := "java/lang/StringLatin1", name := "length", desc := "([B)I" } : Jvm.MethodName) prog_23_method_5_code (1 : Nat) (Option.some Jvm.ClassFile.FieldType.int)) ∈ lw_all := lw_g (lw_at lw_m2 208 rfl) rfl
theorem q482 : (Jvm.Cond.methodLink "java/lang/StringLatin1" (58 : Nat) ({ cls := "java/lang/StringUTF16", name := "length", desc := "([B)I" } : Jvm.MethodName)) ∈ lw_all := lw_g (lw_at lw_m2 209 rfl) rfl
theorem q483 : (Jvm.Cond.methodLink "java/lang/StringLatin1" (59 : Nat) ({ cls := "java/lang/StringLatin1", name := "compareToUTF16Values", desc := "([B[BII)I" } : Jvm.MethodName)) ∈ lw_all := lw_g (lw_at lw_m2 210 rfl) rfl
theorem q484 : (Jvm.Cond.static ({ cls := "java/lang/StringLatin1", name := "compareToUTF16Values", desc := "([B[BII)I" } : Jvm.MethodName)) ∈ lw_all := lw_g (lw_at lw_m2 211 rfl) rfl
theorem q485 : (Jvm.Cond.code ({ cls := "java/lang/StringLatin1", name := "compareToUTF16Values", desc := "([B[BII)I" } : Jvm.MethodName) prog_23_method_18_code (8 : Nat) (Option.some Jvm.ClassFile.FieldType.int)) ∈ lw_all := lw_g (lw_at lw_m2 212 rfl) rfl
theorem q486 : (Jvm.Cond.methodLink "java/lang/StringLatin1" (65 : Nat) ({ cls := "java/lang/StringUTF16", name := "getChar", desc := "([BI)C" } : Jvm.MethodName)) ∈ lw_all := lw_g (lw_at lw_m2 213 rfl) rfl
theorem q528 : (Jvm.Cond.static ({ cls := "java/lang/StringLatin1", name := "compareToUTF16", desc := "([B[BII)I" } : Jvm.MethodName)) ∈ lw_all := lw_g (lw_at lw_m3 15 rfl) rfl
theorem q529 : (Jvm.Cond.code ({ cls := "java/lang/StringLatin1", name := "compareToUTF16", desc := "([B[BII)I" } : Jvm.MethodName) prog_23_method_17_code (4 : Nat) (Option.some Jvm.ClassFile.FieldType.int)) ∈ lw_all := lw_g (lw_at lw_m3 16 rfl) rfl
theorem q530 : (Jvm.Cond.methodLink "java/lang/StringLatin1" (62 : Nat) ({ cls := "java/lang/String", name := "checkOffset", desc := "(II)V" } : Jvm.MethodName)) ∈ lw_all := lw_g (lw_at lw_m3 17 rfl) rfl
theorem q1028 : (Jvm.Cond.static ({ cls := "java/lang/StringLatin1", name := "canEncode", desc := "(C)Z" } : Jvm.MethodName)) ∈ lw_all := lw_g (lw_at lw_m5 35 rfl) rfl
theorem q1029 : (Jvm.Cond.code ({ cls := "java/lang/StringLatin1", name := "canEncode", desc := "(C)Z" } : Jvm.MethodName) prog_23_method_3_code (1 : Nat) (Option.some Jvm.ClassFile.FieldType.boolean)) ∈ lw_all := lw_g (lw_at lw_m5 36 rfl) rfl
theorem q1035 : (Jvm.Cond.static ({ cls := "java/lang/StringLatin1", name := "inflate", desc := "([BI[BII)V" } : Jvm.MethodName)) ∈ lw_all := lw_g (lw_at lw_m5 42 rfl) rfl
theorem q1036 : (Jvm.Cond.code ({ cls := "java/lang/StringLatin1", name := "inflate", desc := "([BI[BII)V" } : Jvm.MethodName) prog_23_method_50_code (5 : Nat) (Option.none : Option Jvm.ClassFile.FieldType)) ∈ lw_all := lw_g (lw_at lw_m5 43 rfl) rfl
theorem q1037 : (Jvm.Cond.methodLink "java/lang/StringLatin1" (240 : Nat) ({ cls := "java/lang/StringUTF16", name := "inflate", desc := "([BI[BII)V" } : Jvm.MethodName)) ∈ lw_all := lw_g (lw_at lw_m5 44 rfl) rfl
theorem q1217 : (Jvm.Cond.static ({ cls := "java/lang/StringLatin1", name := "equals", desc := "([B[B)Z" } : Jvm.MethodName)) ∈ lw_all := lw_g (lw_at lw_m5 224 rfl) rfl
theorem q1218 : (Jvm.Cond.code ({ cls := "java/lang/StringLatin1", name := "equals", desc := "([B[B)Z" } : Jvm.MethodName) prog_23_method_13_code (3 : Nat) (Option.some Jvm.ClassFile.FieldType.boolean)) ∈ lw_all := lw_g (lw_at lw_m5 225 rfl) rfl
/-! java/lang/Long -/
set_option maxRecDepth 100000
def RJ20 : String := "java/lang/Long"
abbrev cJ20_numberOfLeadingZeros : ByteArray := prog_17_method_48_code
def yJ20_numberOfLeadingZeros : MethodName := ⟨RJ20, "numberOfLeadingZeros", "(J)I"⟩
def dkwJ20_numberOfLeadingZeros_1 : List UInt8 := [184, 1, 52, 172]
abbrev dktJ20_numberOfLeadingZeros_1 : List UInt8 := dkwJ20_numberOfLeadingZeros_1 ++ []
def dkwJ20_numberOfLeadingZeros_0 : List UInt8 := [30, 16, 32, 125, 136, 61, 28, 154, 0, 14, 16, 32, 30, 136, 184, 1, 52, 96, 167, 0, 7, 28]
abbrev dktJ20_numberOfLeadingZeros_0 : List UInt8 := dkwJ20_numberOfLeadingZeros_0 ++ dktJ20_numberOfLeadingZeros_1
theorem dksJ20_numberOfLeadingZeros_0 : cJ20_numberOfLeadingZeros.data.toList.drop 0 = dktJ20_numberOfLeadingZeros_0 := by decide +kernel
theorem dksJ20_numberOfLeadingZeros_1 : cJ20_numberOfLeadingZeros.data.toList.drop 22 = dktJ20_numberOfLeadingZeros_1 := dk_seg dksJ20_numberOfLeadingZeros_0 22 rfl rfl
theorem dJ20_numberOfLeadingZeros_0 : decode cJ20_numberOfLeadingZeros 0 = .ok (.lload_n 0, 1) := dk_30 (dk_at dksJ20_numberOfLeadingZeros_0 0 rfl rfl)
theorem dJ20_numberOfLeadingZeros_1 : decode cJ20_numberOfLeadingZeros 1 = .ok (.bipush 32, 2) := dk_16 32 (dk_at dksJ20_numberOfLeadingZeros_0 1 rfl rfl)
theorem dJ20_numberOfLeadingZeros_3 : decode cJ20_numberOfLeadingZeros 3 = .ok (.lushr, 1) := dk_125 (dk_at dksJ20_numberOfLeadingZeros_0 3 rfl rfl)
theorem dJ20_numberOfLeadingZeros_4 : decode cJ20_numberOfLeadingZeros 4 = .ok (.l2i, 1) := dk_136 (dk_at dksJ20_numberOfLeadingZeros_0 4 rfl rfl)
theorem dJ20_numberOfLeadingZeros_5 : decode cJ20_numberOfLeadingZeros 5 = .ok (.istore_n 2, 1) := dk_61 (dk_at dksJ20_numberOfLeadingZeros_0 5 rfl rfl)
theorem dJ20_numberOfLeadingZeros_6 : decode cJ20_numberOfLeadingZeros 6 = .ok (.iload_n 2, 1) := dk_28 (dk_at dksJ20_numberOfLeadingZeros_0 6 rfl rfl)
theorem dJ20_numberOfLeadingZeros_7 : decode cJ20_numberOfLeadingZeros 7 = .ok (.ifCond .ne 14, 3) := dk_154 0 14 (dk_at dksJ20_numberOfLeadingZeros_0 7 rfl rfl)
theorem dJ20_numberOfLeadingZeros_10 : decode cJ20_numberOfLeadingZeros 10 = .ok (.bipush 32, 2) := dk_16 32 (dk_at dksJ20_numberOfLeadingZeros_0 10 rfl rfl)
theorem dJ20_numberOfLeadingZeros_12 : decode cJ20_numberOfLeadingZeros 12 = .ok (.lload_n 0, 1) := dk_30 (dk_at dksJ20_numberOfLeadingZeros_0 12 rfl rfl)
theorem dJ20_numberOfLeadingZeros_13 : decode cJ20_numberOfLeadingZeros 13 = .ok (.l2i, 1) := dk_136 (dk_at dksJ20_numberOfLeadingZeros_0 13 rfl rfl)
theorem dJ20_numberOfLeadingZeros_14 : decode cJ20_numberOfLeadingZeros 14 = .ok (.invokestatic 308, 3) := dk_184 1 52 (dk_at dksJ20_numberOfLeadingZeros_0 14 rfl rfl)
theorem dJ20_numberOfLeadingZeros_17 : decode cJ20_numberOfLeadingZeros 17 = .ok (.iadd, 1) := dk_96 (dk_at dksJ20_numberOfLeadingZeros_0 17 rfl rfl)
theorem dJ20_numberOfLeadingZeros_18 : decode cJ20_numberOfLeadingZeros 18 = .ok (.goto 7, 3) := dk_167 0 7 (dk_at dksJ20_numberOfLeadingZeros_0 18 rfl rfl)
theorem dJ20_numberOfLeadingZeros_21 : decode cJ20_numberOfLeadingZeros 21 = .ok (.iload_n 2, 1) := dk_28 (dk_at dksJ20_numberOfLeadingZeros_0 21 rfl rfl)
theorem dJ20_numberOfLeadingZeros_22 : decode cJ20_numberOfLeadingZeros 22 = .ok (.invokestatic 308, 3) := dk_184 1 52 (dk_at dksJ20_numberOfLeadingZeros_1 0 rfl rfl)
theorem dJ20_numberOfLeadingZeros_25 : decode cJ20_numberOfLeadingZeros 25 = .ok (.ireturn, 1) := dk_172 (dk_at dksJ20_numberOfLeadingZeros_1 3 rfl rfl)
abbrev cJ20_numberOfTrailingZeros : ByteArray := prog_17_method_49_code
def yJ20_numberOfTrailingZeros : MethodName := ⟨RJ20, "numberOfTrailingZeros", "(J)I"⟩
def dkwJ20_numberOfTrailingZeros_1 : List UInt8 := [184, 1, 55, 172]
abbrev dktJ20_numberOfTrailingZeros_1 : List UInt8 := dkwJ20_numberOfTrailingZeros_1 ++ []
def dkwJ20_numberOfTrailingZeros_0 : List UInt8 := [30, 136, 61, 28, 154, 0, 17, 16, 32, 30, 16, 32, 125, 136, 184, 1, 55, 96, 167, 0, 7, 28]
abbrev dktJ20_numberOfTrailingZeros_0 : List UInt8 := dkwJ20_numberOfTrailingZeros_0 ++ dktJ20_numberOfTrailingZeros_1
theorem dksJ20_numberOfTrailingZeros_0 : cJ20_numberOfTrailingZeros.data.toList.drop 0 = dktJ20_numberOfTrailingZeros_0 := by decide +kernel
theorem dksJ20_numberOfTrailingZeros_1 : cJ20_numberOfTrailingZeros.data.toList.drop 22 = dktJ20_numberOfTrailingZeros_1 := dk_seg dksJ20_numberOfTrailingZeros_0 22 rfl rfl
theorem dJ20_numberOfTrailingZeros_0 : decode cJ20_numberOfTrailingZeros 0 = .ok (.lload_n 0, 1) := dk_30 (dk_at dksJ20_numberOfTrailingZeros_0 0 rfl rfl)
theorem dJ20_numberOfTrailingZeros_1 : decode cJ20_numberOfTrailingZeros 1 = .ok (.l2i, 1) := dk_136 (dk_at dksJ20_numberOfTrailingZeros_0 1 rfl rfl)
theorem dJ20_numberOfTrailingZeros_2 : decode cJ20_numberOfTrailingZeros 2 = .ok (.istore_n 2, 1) := dk_61 (dk_at dksJ20_numberOfTrailingZeros_0 2 rfl rfl)
theorem dJ20_numberOfTrailingZeros_3 : decode cJ20_numberOfTrailingZeros 3 = .ok (.iload_n 2, 1) := dk_28 (dk_at dksJ20_numberOfTrailingZeros_0 3 rfl rfl)
theorem dJ20_numberOfTrailingZeros_4 : decode cJ20_numberOfTrailingZeros 4 = .ok (.ifCond .ne 17, 3) := dk_154 0 17 (dk_at dksJ20_numberOfTrailingZeros_0 4 rfl rfl)
theorem dJ20_numberOfTrailingZeros_7 : decode cJ20_numberOfTrailingZeros 7 = .ok (.bipush 32, 2) := dk_16 32 (dk_at dksJ20_numberOfTrailingZeros_0 7 rfl rfl)
theorem dJ20_numberOfTrailingZeros_9 : decode cJ20_numberOfTrailingZeros 9 = .ok (.lload_n 0, 1) := dk_30 (dk_at dksJ20_numberOfTrailingZeros_0 9 rfl rfl)
theorem dJ20_numberOfTrailingZeros_10 : decode cJ20_numberOfTrailingZeros 10 = .ok (.bipush 32, 2) := dk_16 32 (dk_at dksJ20_numberOfTrailingZeros_0 10 rfl rfl)
theorem dJ20_numberOfTrailingZeros_12 : decode cJ20_numberOfTrailingZeros 12 = .ok (.lushr, 1) := dk_125 (dk_at dksJ20_numberOfTrailingZeros_0 12 rfl rfl)
theorem dJ20_numberOfTrailingZeros_13 : decode cJ20_numberOfTrailingZeros 13 = .ok (.l2i, 1) := dk_136 (dk_at dksJ20_numberOfTrailingZeros_0 13 rfl rfl)
theorem dJ20_numberOfTrailingZeros_14 : decode cJ20_numberOfTrailingZeros 14 = .ok (.invokestatic 311, 3) := dk_184 1 55 (dk_at dksJ20_numberOfTrailingZeros_0 14 rfl rfl)
theorem dJ20_numberOfTrailingZeros_17 : decode cJ20_numberOfTrailingZeros 17 = .ok (.iadd, 1) := dk_96 (dk_at dksJ20_numberOfTrailingZeros_0 17 rfl rfl)
theorem dJ20_numberOfTrailingZeros_18 : decode cJ20_numberOfTrailingZeros 18 = .ok (.goto 7, 3) := dk_167 0 7 (dk_at dksJ20_numberOfTrailingZeros_0 18 rfl rfl)
theorem dJ20_numberOfTrailingZeros_21 : decode cJ20_numberOfTrailingZeros 21 = .ok (.iload_n 2, 1) := dk_28 (dk_at dksJ20_numberOfTrailingZeros_0 21 rfl rfl)
theorem dJ20_numberOfTrailingZeros_22 : decode cJ20_numberOfTrailingZeros 22 = .ok (.invokestatic 311, 3) := dk_184 1 55 (dk_at dksJ20_numberOfTrailingZeros_1 0 rfl rfl)
theorem dJ20_numberOfTrailingZeros_25 : decode cJ20_numberOfTrailingZeros 25 = .ok (.ireturn, 1) := dk_172 (dk_at dksJ20_numberOfTrailingZeros_1 3 rfl rfl)
abbrev cJ20_hashCode : ByteArray := prog_17_method_36_code
def yJ20_hashCode : MethodName := ⟨RJ20, "hashCode", "(J)I"⟩
def dkwJ20_hashCode_0 : List UInt8 := [30, 30, 16, 32, 125, 131, 136, 172]
abbrev dktJ20_hashCode_0 : List UInt8 := dkwJ20_hashCode_0 ++ []
theorem dksJ20_hashCode_0 : cJ20_hashCode.data.toList.drop 0 = dktJ20_hashCode_0 := by decide +kernel
theorem dJ20_hashCode_0 : decode cJ20_hashCode 0 = .ok (.lload_n 0, 1) := dk_30 (dk_at dksJ20_hashCode_0 0 rfl rfl)
theorem dJ20_hashCode_1 : decode cJ20_hashCode 1 = .ok (.lload_n 0, 1) := dk_30 (dk_at dksJ20_hashCode_0 1 rfl rfl)
theorem dJ20_hashCode_2 : decode cJ20_hashCode 2 = .ok (.bipush 32, 2) := dk_16 32 (dk_at dksJ20_hashCode_0 2 rfl rfl)
theorem dJ20_hashCode_4 : decode cJ20_hashCode 4 = .ok (.lushr, 1) := dk_125 (dk_at dksJ20_hashCode_0 4 rfl rfl)
theorem dJ20_hashCode_5 : decode cJ20_hashCode 5 = .ok (.lxor, 1) := dk_131 (dk_at dksJ20_hashCode_0 5 rfl rfl)
theorem dJ20_hashCode_6 : decode cJ20_hashCode 6 = .ok (.l2i, 1) := dk_136 (dk_at dksJ20_hashCode_0 6 rfl rfl)
theorem dJ20_hashCode_7 : decode cJ20_hashCode 7 = .ok (.ireturn, 1) := dk_172 (dk_at dksJ20_hashCode_0 7 rfl rfl)
abbrev cJ20_stringSize : ByteArray := prog_17_method_15_code
def yJ20_stringSize : MethodName := ⟨RJ20, "stringSize", "(J)I"⟩
def dkwJ20_stringSize_2 : List UInt8 := [167, 255, 229, 16, 19, 28, 96, 172]
abbrev dktJ20_stringSize_2 : List UInt8 := dkwJ20_stringSize_2 ++ []
def dkwJ20_stringSize_1 : List UInt8 := [162, 0, 26, 30, 33, 148, 158, 0, 8, 21, 5, 28, 96, 172, 20, 0, 53, 33, 105, 66, 132, 5, 1]
abbrev dktJ20_stringSize_1 : List UInt8 := dkwJ20_stringSize_1 ++ dktJ20_stringSize_2
def dkwJ20_stringSize_0 : List UInt8 := [4, 61, 30, 9, 148, 155, 0, 8, 3, 61, 30, 117, 63, 20, 0, 140, 66, 4, 54, 5, 21, 5, 16, 19]
abbrev dktJ20_stringSize_0 : List UInt8 := dkwJ20_stringSize_0 ++ dktJ20_stringSize_1
theorem dksJ20_stringSize_0 : cJ20_stringSize.data.toList.drop 0 = dktJ20_stringSize_0 := by decide +kernel
theorem dksJ20_stringSize_1 : cJ20_stringSize.data.toList.drop 24 = dktJ20_stringSize_1 := dk_seg dksJ20_stringSize_0 24 rfl rfl
theorem dksJ20_stringSize_2 : cJ20_stringSize.data.toList.drop 47 = dktJ20_stringSize_2 := dk_seg dksJ20_stringSize_1 23 rfl rfl
theorem dJ20_stringSize_0 : decode cJ20_stringSize 0 = .ok (.iconst 1, 1) := dk_4 (dk_at dksJ20_stringSize_0 0 rfl rfl)
theorem dJ20_stringSize_1 : decode cJ20_stringSize 1 = .ok (.istore_n 2, 1) := dk_61 (dk_at dksJ20_stringSize_0 1 rfl rfl)
theorem dJ20_stringSize_2 : decode cJ20_stringSize 2 = .ok (.lload_n 0, 1) := dk_30 (dk_at dksJ20_stringSize_0 2 rfl rfl)
theorem dJ20_stringSize_3 : decode cJ20_stringSize 3 = .ok (.lconst 0, 1) := dk_9 (dk_at dksJ20_stringSize_0 3 rfl rfl)
theorem dJ20_stringSize_4 : decode cJ20_stringSize 4 = .ok (.lcmp, 1) := dk_148 (dk_at dksJ20_stringSize_0 4 rfl rfl)
theorem dJ20_stringSize_5 : decode cJ20_stringSize 5 = .ok (.ifCond .lt 8, 3) := dk_155 0 8 (dk_at dksJ20_stringSize_0 5 rfl rfl)
theorem dJ20_stringSize_8 : decode cJ20_stringSize 8 = .ok (.iconst 0, 1) := dk_3 (dk_at dksJ20_stringSize_0 8 rfl rfl)
theorem dJ20_stringSize_9 : decode cJ20_stringSize 9 = .ok (.istore_n 2, 1) := dk_61 (dk_at dksJ20_stringSize_0 9 rfl rfl)
theorem dJ20_stringSize_10 : decode cJ20_stringSize 10 = .ok (.lload_n 0, 1) := dk_30 (dk_at dksJ20_stringSize_0 10 rfl rfl)
theorem dJ20_stringSize_11 : decode cJ20_stringSize 11 = .ok (.lneg, 1) := dk_117 (dk_at dksJ20_stringSize_0 11 rfl rfl)
theorem dJ20_stringSize_12 : decode cJ20_stringSize 12 = .ok (.lstore_n 0, 1) := dk_63 (dk_at dksJ20_stringSize_0 12 rfl rfl)
theorem dJ20_stringSize_13 : decode cJ20_stringSize 13 = .ok (.ldc2_w 140, 3) := dk_20 0 140 (dk_at dksJ20_stringSize_0 13 rfl rfl)
theorem dJ20_stringSize_16 : decode cJ20_stringSize 16 = .ok (.lstore_n 3, 1) := dk_66 (dk_at dksJ20_stringSize_0 16 rfl rfl)
theorem dJ20_stringSize_17 : decode cJ20_stringSize 17 = .ok (.iconst 1, 1) := dk_4 (dk_at dksJ20_stringSize_0 17 rfl rfl)
theorem dJ20_stringSize_18 : decode cJ20_stringSize 18 = .ok (.istore 5, 2) := dk_54 5 (dk_at dksJ20_stringSize_0 18 rfl rfl)
theorem dJ20_stringSize_20 : decode cJ20_stringSize 20 = .ok (.iload 5, 2) := dk_21 5 (dk_at dksJ20_stringSize_0 20 rfl rfl)
theorem dJ20_stringSize_22 : decode cJ20_stringSize 22 = .ok (.bipush 19, 2) := dk_16 19 (dk_at dksJ20_stringSize_0 22 rfl rfl)
theorem dJ20_stringSize_24 : decode cJ20_stringSize 24 = .ok (.if_icmp .ge 26, 3) := dk_162 0 26 (dk_at dksJ20_stringSize_1 0 rfl rfl)
theorem dJ20_stringSize_27 : decode cJ20_stringSize 27 = .ok (.lload_n 0, 1) := dk_30 (dk_at dksJ20_stringSize_1 3 rfl rfl)
theorem dJ20_stringSize_28 : decode cJ20_stringSize 28 = .ok (.lload_n 3, 1) := dk_33 (dk_at dksJ20_stringSize_1 4 rfl rfl)
theorem dJ20_stringSize_29 : decode cJ20_stringSize 29 = .ok (.lcmp, 1) := dk_148 (dk_at dksJ20_stringSize_1 5 rfl rfl)
theorem dJ20_stringSize_30 : decode cJ20_stringSize 30 = .ok (.ifCond .le 8, 3) := dk_158 0 8 (dk_at dksJ20_stringSize_1 6 rfl rfl)
theorem dJ20_stringSize_33 : decode cJ20_stringSize 33 = .ok (.iload 5, 2) := dk_21 5 (dk_at dksJ20_stringSize_1 9 rfl rfl)
theorem dJ20_stringSize_35 : decode cJ20_stringSize 35 = .ok (.iload_n 2, 1) := dk_28 (dk_at dksJ20_stringSize_1 11 rfl rfl)
theorem dJ20_stringSize_36 : decode cJ20_stringSize 36 = .ok (.iadd, 1) := dk_96 (dk_at dksJ20_stringSize_1 12 rfl rfl)
theorem dJ20_stringSize_37 : decode cJ20_stringSize 37 = .ok (.ireturn, 1) := dk_172 (dk_at dksJ20_stringSize_1 13 rfl rfl)
theorem dJ20_stringSize_38 : decode cJ20_stringSize 38 = .ok (.ldc2_w 53, 3) := dk_20 0 53 (dk_at dksJ20_stringSize_1 14 rfl rfl)
theorem dJ20_stringSize_41 : decode cJ20_stringSize 41 = .ok (.lload_n 3, 1) := dk_33 (dk_at dksJ20_stringSize_1 17 rfl rfl)
theorem dJ20_stringSize_42 : decode cJ20_stringSize 42 = .ok (.lmul, 1) := dk_105 (dk_at dksJ20_stringSize_1 18 rfl rfl)
theorem dJ20_stringSize_43 : decode cJ20_stringSize 43 = .ok (.lstore_n 3, 1) := dk_66 (dk_at dksJ20_stringSize_1 19 rfl rfl)
theorem dJ20_stringSize_44 : decode cJ20_stringSize 44 = .ok (.iinc 5 1, 3) := dk_132 5 1 (dk_at dksJ20_stringSize_1 20 rfl rfl)
theorem dJ20_stringSize_47 : decode cJ20_stringSize 47 = .ok (.goto (-27), 3) := dk_167 255 229 (dk_at dksJ20_stringSize_2 0 rfl rfl)
theorem dJ20_stringSize_50 : decode cJ20_stringSize 50 = .ok (.bipush 19, 2) := dk_16 19 (dk_at dksJ20_stringSize_2 3 rfl rfl)
theorem dJ20_stringSize_52 : decode cJ20_stringSize 52 = .ok (.iload_n 2, 1) := dk_28 (dk_at dksJ20_stringSize_2 5 rfl rfl)
theorem dJ20_stringSize_53 : decode cJ20_stringSize 53 = .ok (.iadd, 1) := dk_96 (dk_at dksJ20_stringSize_2 6 rfl rfl)
theorem dJ20_stringSize_54 : decode cJ20_stringSize 54 = .ok (.ireturn, 1) := dk_172 (dk_at dksJ20_stringSize_2 7 rfl rfl)
abbrev cJ20_getChars : ByteArray := prog_17_method_14_code
def yJ20_getChars : MethodName := ⟨RJ20, "getChars", "(JI[B)I"⟩
def dkwJ20_getChars_8 : List UInt8 := [21, 7, 16, 45, 84, 21, 7, 172]
abbrev dktJ20_getChars_8 : List UInt8 := dkwJ20_getChars_8 ++ []
def dkwJ20_getChars_7 : List UInt8 := [45, 132, 7, 255, 21, 7, 178, 0, 137, 21, 10, 116, 51, 84, 21, 8, 153, 0, 12, 45, 132, 7, 255]
abbrev dktJ20_getChars_7 : List UInt8 := dkwJ20_getChars_7 ++ dktJ20_getChars_8
def dkwJ20_getChars_6 : List UInt8 := [167, 255, 202, 45, 132, 7, 255, 21, 7, 178, 0, 133, 21, 10, 116, 51, 84, 21, 10, 16, 247, 162, 0, 17]
abbrev dktJ20_getChars_6 : List UInt8 := dkwJ20_getChars_6 ++ dktJ20_getChars_7
def dkwJ20_getChars_5 : List UInt8 := [21, 7, 178, 0, 133, 21, 6, 51, 84, 45, 132, 7, 255, 21, 7, 178, 0, 137, 21, 6, 51, 84]
abbrev dktJ20_getChars_5 : List UInt8 := dkwJ20_getChars_5 ++ dktJ20_getChars_6
def dkwJ20_getChars_4 : List UInt8 := [16, 100, 108, 54, 9, 21, 9, 16, 100, 104, 21, 10, 100, 54, 6, 21, 9, 54, 10, 45, 132, 7, 255]
abbrev dktJ20_getChars_4 : List UInt8 := dkwJ20_getChars_4 ++ dktJ20_getChars_5
def dkwJ20_getChars_3 : List UInt8 := [178, 0, 137, 21, 6, 51, 84, 167, 255, 201, 30, 136, 54, 10, 21, 10, 16, 156, 163, 0, 53, 21, 10]
abbrev dktJ20_getChars_3 : List UInt8 := dkwJ20_getChars_3 ++ dktJ20_getChars_4
def dkwJ20_getChars_2 : List UInt8 := [54, 6, 22, 4, 63, 45, 132, 7, 255, 21, 7, 178, 0, 133, 21, 6, 51, 84, 45, 132, 7, 255, 21, 7]
abbrev dktJ20_getChars_2 : List UInt8 := dkwJ20_getChars_2 ++ dktJ20_getChars_3
def dkwJ20_getChars_1 : List UInt8 := [30, 20, 0, 129, 148, 157, 0, 53, 30, 20, 0, 131, 109, 55, 4, 22, 4, 20, 0, 131, 105, 30, 101, 136]
abbrev dktJ20_getChars_1 : List UInt8 := dkwJ20_getChars_1 ++ dktJ20_getChars_2
def dkwJ20_getChars_0 : List UInt8 := [28, 54, 7, 30, 9, 148, 156, 0, 7, 4, 167, 0, 4, 3, 54, 8, 21, 8, 154, 0, 6, 30, 117, 63]
abbrev dktJ20_getChars_0 : List UInt8 := dkwJ20_getChars_0 ++ dktJ20_getChars_1
theorem dksJ20_getChars_0 : cJ20_getChars.data.toList.drop 0 = dktJ20_getChars_0 := by decide +kernel
theorem dksJ20_getChars_1 : cJ20_getChars.data.toList.drop 24 = dktJ20_getChars_1 := dk_seg dksJ20_getChars_0 24 rfl rfl
theorem dksJ20_getChars_2 : cJ20_getChars.data.toList.drop 48 = dktJ20_getChars_2 := dk_seg dksJ20_getChars_1 24 rfl rfl
theorem dksJ20_getChars_3 : cJ20_getChars.data.toList.drop 72 = dktJ20_getChars_3 := dk_seg dksJ20_getChars_2 24 rfl rfl
theorem dksJ20_getChars_4 : cJ20_getChars.data.toList.drop 95 = dktJ20_getChars_4 := dk_seg dksJ20_getChars_3 23 rfl rfl
theorem dksJ20_getChars_5 : cJ20_getChars.data.toList.drop 118 = dktJ20_getChars_5 := dk_seg dksJ20_getChars_4 23 rfl rfl
theorem dksJ20_getChars_6 : cJ20_getChars.data.toList.drop 140 = dktJ20_getChars_6 := dk_seg dksJ20_getChars_5 22 rfl rfl
theorem dksJ20_getChars_7 : cJ20_getChars.data.toList.drop 164 = dktJ20_getChars_7 := dk_seg dksJ20_getChars_6 24 rfl rfl
theorem dksJ20_getChars_8 : cJ20_getChars.data.toList.drop 187 = dktJ20_getChars_8 := dk_seg dksJ20_getChars_7 23 rfl rfl
theorem dJ20_getChars_0 : decode cJ20_getChars 0 = .ok (.iload_n 2, 1) := dk_28 (dk_at dksJ20_getChars_0 0 rfl rfl)
theorem dJ20_getChars_1 : decode cJ20_getChars 1 = .ok (.istore 7, 2) := dk_54 7 (dk_at dksJ20_getChars_0 1 rfl rfl)
theorem dJ20_getChars_3 : decode cJ20_getChars 3 = .ok (.lload_n 0, 1) := dk_30 (dk_at dksJ20_getChars_0 3 rfl rfl)
theorem dJ20_getChars_4 : decode cJ20_getChars 4 = .ok (.lconst 0, 1) := dk_9 (dk_at dksJ20_getChars_0 4 rfl rfl)
theorem dJ20_getChars_5 : decode cJ20_getChars 5 = .ok (.lcmp, 1) := dk_148 (dk_at dksJ20_getChars_0 5 rfl rfl)
theorem dJ20_getChars_6 : decode cJ20_getChars 6 = .ok (.ifCond .ge 7, 3) := dk_156 0 7 (dk_at dksJ20_getChars_0 6 rfl rfl)
theorem dJ20_getChars_9 : decode cJ20_getChars 9 = .ok (.iconst 1, 1) := dk_4 (dk_at dksJ20_getChars_0 9 rfl rfl)
theorem dJ20_getChars_10 : decode cJ20_getChars 10 = .ok (.goto 4, 3) := dk_167 0 4 (dk_at dksJ20_getChars_0 10 rfl rfl)
theorem dJ20_getChars_13 : decode cJ20_getChars 13 = .ok (.iconst 0, 1) := dk_3 (dk_at dksJ20_getChars_0 13 rfl rfl)
theorem dJ20_getChars_14 : decode cJ20_getChars 14 = .ok (.istore 8, 2) := dk_54 8 (dk_at dksJ20_getChars_0 14 rfl rfl)
theorem dJ20_getChars_16 : decode cJ20_getChars 16 = .ok (.iload 8, 2) := dk_21 8 (dk_at dksJ20_getChars_0 16 rfl rfl)
theorem dJ20_getChars_18 : decode cJ20_getChars 18 = .ok (.ifCond .ne 6, 3) := dk_154 0 6 (dk_at dksJ20_getChars_0 18 rfl rfl)
theorem dJ20_getChars_21 : decode cJ20_getChars 21 = .ok (.lload_n 0, 1) := dk_30 (dk_at dksJ20_getChars_0 21 rfl rfl)
theorem dJ20_getChars_22 : decode cJ20_getChars 22 = .ok (.lneg, 1) := dk_117 (dk_at dksJ20_getChars_0 22 rfl rfl)
theorem dJ20_getChars_23 : decode cJ20_getChars 23 = .ok (.lstore_n 0, 1) := dk_63 (dk_at dksJ20_getChars_0 23 rfl rfl)
theorem dJ20_getChars_24 : decode cJ20_getChars 24 = .ok (.lload_n 0, 1) := dk_30 (dk_at dksJ20_getChars_1 0 rfl rfl)
theorem dJ20_getChars_25 : decode cJ20_getChars 25 = .ok (.ldc2_w 129, 3) := dk_20 0 129 (dk_at dksJ20_getChars_1 1 rfl rfl)
theorem dJ20_getChars_28 : decode cJ20_getChars 28 = .ok (.lcmp, 1) := dk_148 (dk_at dksJ20_getChars_1 4 rfl rfl)
theorem dJ20_getChars_29 : decode cJ20_getChars 29 = .ok (.ifCond .gt 53, 3) := dk_157 0 53 (dk_at dksJ20_getChars_1 5 rfl rfl)
theorem dJ20_getChars_32 : decode cJ20_getChars 32 = .ok (.lload_n 0, 1) := dk_30 (dk_at dksJ20_getChars_1 8 rfl rfl)
theorem dJ20_getChars_33 : decode cJ20_getChars 33 = .ok (.ldc2_w 131, 3) := dk_20 0 131 (dk_at dksJ20_getChars_1 9 rfl rfl)
theorem dJ20_getChars_36 : decode cJ20_getChars 36 = .ok (.ldiv, 1) := dk_109 (dk_at dksJ20_getChars_1 12 rfl rfl)
theorem dJ20_getChars_37 : decode cJ20_getChars 37 = .ok (.lstore 4, 2) := dk_55 4 (dk_at dksJ20_getChars_1 13 rfl rfl)
theorem dJ20_getChars_39 : decode cJ20_getChars 39 = .ok (.lload 4, 2) := dk_22 4 (dk_at dksJ20_getChars_1 15 rfl rfl)
theorem dJ20_getChars_41 : decode cJ20_getChars 41 = .ok (.ldc2_w 131, 3) := dk_20 0 131 (dk_at dksJ20_getChars_1 17 rfl rfl)
theorem dJ20_getChars_44 : decode cJ20_getChars 44 = .ok (.lmul, 1) := dk_105 (dk_at dksJ20_getChars_1 20 rfl rfl)
theorem dJ20_getChars_45 : decode cJ20_getChars 45 = .ok (.lload_n 0, 1) := dk_30 (dk_at dksJ20_getChars_1 21 rfl rfl)
theorem dJ20_getChars_46 : decode cJ20_getChars 46 = .ok (.lsub, 1) := dk_101 (dk_at dksJ20_getChars_1 22 rfl rfl)
theorem dJ20_getChars_47 : decode cJ20_getChars 47 = .ok (.l2i, 1) := dk_136 (dk_at dksJ20_getChars_1 23 rfl rfl)
theorem dJ20_getChars_48 : decode cJ20_getChars 48 = .ok (.istore 6, 2) := dk_54 6 (dk_at dksJ20_getChars_2 0 rfl rfl)
theorem dJ20_getChars_50 : decode cJ20_getChars 50 = .ok (.lload 4, 2) := dk_22 4 (dk_at dksJ20_getChars_2 2 rfl rfl)
theorem dJ20_getChars_52 : decode cJ20_getChars 52 = .ok (.lstore_n 0, 1) := dk_63 (dk_at dksJ20_getChars_2 4 rfl rfl)
theorem dJ20_getChars_53 : decode cJ20_getChars 53 = .ok (.aload_n 3, 1) := dk_45 (dk_at dksJ20_getChars_2 5 rfl rfl)
theorem dJ20_getChars_54 : decode cJ20_getChars 54 = .ok (.iinc 7 (-1), 3) := dk_132 7 255 (dk_at dksJ20_getChars_2 6 rfl rfl)
theorem dJ20_getChars_57 : decode cJ20_getChars 57 = .ok (.iload 7, 2) := dk_21 7 (dk_at dksJ20_getChars_2 9 rfl rfl)
theorem dJ20_getChars_59 : decode cJ20_getChars 59 = .ok (.getstatic 133, 3) := dk_178 0 133 (dk_at dksJ20_getChars_2 11 rfl rfl)
theorem dJ20_getChars_62 : decode cJ20_getChars 62 = .ok (.iload 6, 2) := dk_21 6 (dk_at dksJ20_getChars_2 14 rfl rfl)
theorem dJ20_getChars_64 : decode cJ20_getChars 64 = .ok (.baload, 1) := dk_51 (dk_at dksJ20_getChars_2 16 rfl rfl)
theorem dJ20_getChars_65 : decode cJ20_getChars 65 = .ok (.bastore, 1) := dk_84 (dk_at dksJ20_getChars_2 17 rfl rfl)
theorem dJ20_getChars_66 : decode cJ20_getChars 66 = .ok (.aload_n 3, 1) := dk_45 (dk_at dksJ20_getChars_2 18 rfl rfl)
theorem dJ20_getChars_67 : decode cJ20_getChars 67 = .ok (.iinc 7 (-1), 3) := dk_132 7 255 (dk_at dksJ20_getChars_2 19 rfl rfl)
theorem dJ20_getChars_70 : decode cJ20_getChars 70 = .ok (.iload 7, 2) := dk_21 7 (dk_at dksJ20_getChars_2 22 rfl rfl)
theorem dJ20_getChars_72 : decode cJ20_getChars 72 = .ok (.getstatic 137, 3) := dk_178 0 137 (dk_at dksJ20_getChars_3 0 rfl rfl)
theorem dJ20_getChars_75 : decode cJ20_getChars 75 = .ok (.iload 6, 2) := dk_21 6 (dk_at dksJ20_getChars_3 3 rfl rfl)
theorem dJ20_getChars_77 : decode cJ20_getChars 77 = .ok (.baload, 1) := dk_51 (dk_at dksJ20_getChars_3 5 rfl rfl)
theorem dJ20_getChars_78 : decode cJ20_getChars 78 = .ok (.bastore, 1) := dk_84 (dk_at dksJ20_getChars_3 6 rfl rfl)
theorem dJ20_getChars_79 : decode cJ20_getChars 79 = .ok (.goto (-55), 3) := dk_167 255 201 (dk_at dksJ20_getChars_3 7 rfl rfl)
theorem dJ20_getChars_82 : decode cJ20_getChars 82 = .ok (.lload_n 0, 1) := dk_30 (dk_at dksJ20_getChars_3 10 rfl rfl)
theorem dJ20_getChars_83 : decode cJ20_getChars 83 = .ok (.l2i, 1) := dk_136 (dk_at dksJ20_getChars_3 11 rfl rfl)
theorem dJ20_getChars_84 : decode cJ20_getChars 84 = .ok (.istore 10, 2) := dk_54 10 (dk_at dksJ20_getChars_3 12 rfl rfl)
theorem dJ20_getChars_86 : decode cJ20_getChars 86 = .ok (.iload 10, 2) := dk_21 10 (dk_at dksJ20_getChars_3 14 rfl rfl)
theorem dJ20_getChars_88 : decode cJ20_getChars 88 = .ok (.bipush (-100), 2) := dk_16 156 (dk_at dksJ20_getChars_3 16 rfl rfl)
theorem dJ20_getChars_90 : decode cJ20_getChars 90 = .ok (.if_icmp .gt 53, 3) := dk_163 0 53 (dk_at dksJ20_getChars_3 18 rfl rfl)
theorem dJ20_getChars_93 : decode cJ20_getChars 93 = .ok (.iload 10, 2) := dk_21 10 (dk_at dksJ20_getChars_3 21 rfl rfl)
theorem dJ20_getChars_95 : decode cJ20_getChars 95 = .ok (.bipush 100, 2) := dk_16 100 (dk_at dksJ20_getChars_4 0 rfl rfl)
theorem dJ20_getChars_97 : decode cJ20_getChars 97 = .ok (.idiv, 1) := dk_108 (dk_at dksJ20_getChars_4 2 rfl rfl)
theorem dJ20_getChars_98 : decode cJ20_getChars 98 = .ok (.istore 9, 2) := dk_54 9 (dk_at dksJ20_getChars_4 3 rfl rfl)
theorem dJ20_getChars_100 : decode cJ20_getChars 100 = .ok (.iload 9, 2) := dk_21 9 (dk_at dksJ20_getChars_4 5 rfl rfl)
theorem dJ20_getChars_102 : decode cJ20_getChars 102 = .ok (.bipush 100, 2) := dk_16 100 (dk_at dksJ20_getChars_4 7 rfl rfl)
theorem dJ20_getChars_104 : decode cJ20_getChars 104 = .ok (.imul, 1) := dk_104 (dk_at dksJ20_getChars_4 9 rfl rfl)
theorem dJ20_getChars_105 : decode cJ20_getChars 105 = .ok (.iload 10, 2) := dk_21 10 (dk_at dksJ20_getChars_4 10 rfl rfl)
theorem dJ20_getChars_107 : decode cJ20_getChars 107 = .ok (.isub, 1) := dk_100 (dk_at dksJ20_getChars_4 12 rfl rfl)
theorem dJ20_getChars_108 : decode cJ20_getChars 108 = .ok (.istore 6, 2) := dk_54 6 (dk_at dksJ20_getChars_4 13 rfl rfl)
theorem dJ20_getChars_110 : decode cJ20_getChars 110 = .ok (.iload 9, 2) := dk_21 9 (dk_at dksJ20_getChars_4 15 rfl rfl)
theorem dJ20_getChars_112 : decode cJ20_getChars 112 = .ok (.istore 10, 2) := dk_54 10 (dk_at dksJ20_getChars_4 17 rfl rfl)
theorem dJ20_getChars_114 : decode cJ20_getChars 114 = .ok (.aload_n 3, 1) := dk_45 (dk_at dksJ20_getChars_4 19 rfl rfl)
theorem dJ20_getChars_115 : decode cJ20_getChars 115 = .ok (.iinc 7 (-1), 3) := dk_132 7 255 (dk_at dksJ20_getChars_4 20 rfl rfl)
theorem dJ20_getChars_118 : decode cJ20_getChars 118 = .ok (.iload 7, 2) := dk_21 7 (dk_at dksJ20_getChars_5 0 rfl rfl)
theorem dJ20_getChars_120 : decode cJ20_getChars 120 = .ok (.getstatic 133, 3) := dk_178 0 133 (dk_at dksJ20_getChars_5 2 rfl rfl)
theorem dJ20_getChars_123 : decode cJ20_getChars 123 = .ok (.iload 6, 2) := dk_21 6 (dk_at dksJ20_getChars_5 5 rfl rfl)
theorem dJ20_getChars_125 : decode cJ20_getChars 125 = .ok (.baload, 1) := dk_51 (dk_at dksJ20_getChars_5 7 rfl rfl)
theorem dJ20_getChars_126 : decode cJ20_getChars 126 = .ok (.bastore, 1) := dk_84 (dk_at dksJ20_getChars_5 8 rfl rfl)
theorem dJ20_getChars_127 : decode cJ20_getChars 127 = .ok (.aload_n 3, 1) := dk_45 (dk_at dksJ20_getChars_5 9 rfl rfl)
theorem dJ20_getChars_128 : decode cJ20_getChars 128 = .ok (.iinc 7 (-1), 3) := dk_132 7 255 (dk_at dksJ20_getChars_5 10 rfl rfl)
theorem dJ20_getChars_131 : decode cJ20_getChars 131 = .ok (.iload 7, 2) := dk_21 7 (dk_at dksJ20_getChars_5 13 rfl rfl)
theorem dJ20_getChars_133 : decode cJ20_getChars 133 = .ok (.getstatic 137, 3) := dk_178 0 137 (dk_at dksJ20_getChars_5 15 rfl rfl)
theorem dJ20_getChars_136 : decode cJ20_getChars 136 = .ok (.iload 6, 2) := dk_21 6 (dk_at dksJ20_getChars_5 18 rfl rfl)
theorem dJ20_getChars_138 : decode cJ20_getChars 138 = .ok (.baload, 1) := dk_51 (dk_at dksJ20_getChars_5 20 rfl rfl)
theorem dJ20_getChars_139 : decode cJ20_getChars 139 = .ok (.bastore, 1) := dk_84 (dk_at dksJ20_getChars_5 21 rfl rfl)
theorem dJ20_getChars_140 : decode cJ20_getChars 140 = .ok (.goto (-54), 3) := dk_167 255 202 (dk_at dksJ20_getChars_6 0 rfl rfl)
theorem dJ20_getChars_143 : decode cJ20_getChars 143 = .ok (.aload_n 3, 1) := dk_45 (dk_at dksJ20_getChars_6 3 rfl rfl)
theorem dJ20_getChars_144 : decode cJ20_getChars 144 = .ok (.iinc 7 (-1), 3) := dk_132 7 255 (dk_at dksJ20_getChars_6 4 rfl rfl)
theorem dJ20_getChars_147 : decode cJ20_getChars 147 = .ok (.iload 7, 2) := dk_21 7 (dk_at dksJ20_getChars_6 7 rfl rfl)
theorem dJ20_getChars_149 : decode cJ20_getChars 149 = .ok (.getstatic 133, 3) := dk_178 0 133 (dk_at dksJ20_getChars_6 9 rfl rfl)
theorem dJ20_getChars_152 : decode cJ20_getChars 152 = .ok (.iload 10, 2) := dk_21 10 (dk_at dksJ20_getChars_6 12 rfl rfl)
theorem dJ20_getChars_154 : decode cJ20_getChars 154 = .ok (.ineg, 1) := dk_116 (dk_at dksJ20_getChars_6 14 rfl rfl)
theorem dJ20_getChars_155 : decode cJ20_getChars 155 = .ok (.baload, 1) := dk_51 (dk_at dksJ20_getChars_6 15 rfl rfl)
theorem dJ20_getChars_156 : decode cJ20_getChars 156 = .ok (.bastore, 1) := dk_84 (dk_at dksJ20_getChars_6 16 rfl rfl)
theorem dJ20_getChars_157 : decode cJ20_getChars 157 = .ok (.iload 10, 2) := dk_21 10 (dk_at dksJ20_getChars_6 17 rfl rfl)
theorem dJ20_getChars_159 : decode cJ20_getChars 159 = .ok (.bipush (-9), 2) := dk_16 247 (dk_at dksJ20_getChars_6 19 rfl rfl)
theorem dJ20_getChars_161 : decode cJ20_getChars 161 = .ok (.if_icmp .ge 17, 3) := dk_162 0 17 (dk_at dksJ20_getChars_6 21 rfl rfl)
theorem dJ20_getChars_164 : decode cJ20_getChars 164 = .ok (.aload_n 3, 1) := dk_45 (dk_at dksJ20_getChars_7 0 rfl rfl)
theorem dJ20_getChars_165 : decode cJ20_getChars 165 = .ok (.iinc 7 (-1), 3) := dk_132 7 255 (dk_at dksJ20_getChars_7 1 rfl rfl)
theorem dJ20_getChars_168 : decode cJ20_getChars 168 = .ok (.iload 7, 2) := dk_21 7 (dk_at dksJ20_getChars_7 4 rfl rfl)
theorem dJ20_getChars_170 : decode cJ20_getChars 170 = .ok (.getstatic 137, 3) := dk_178 0 137 (dk_at dksJ20_getChars_7 6 rfl rfl)
theorem dJ20_getChars_173 : decode cJ20_getChars 173 = .ok (.iload 10, 2) := dk_21 10 (dk_at dksJ20_getChars_7 9 rfl rfl)
theorem dJ20_getChars_175 : decode cJ20_getChars 175 = .ok (.ineg, 1) := dk_116 (dk_at dksJ20_getChars_7 11 rfl rfl)
theorem dJ20_getChars_176 : decode cJ20_getChars 176 = .ok (.baload, 1) := dk_51 (dk_at dksJ20_getChars_7 12 rfl rfl)
theorem dJ20_getChars_177 : decode cJ20_getChars 177 = .ok (.bastore, 1) := dk_84 (dk_at dksJ20_getChars_7 13 rfl rfl)
theorem dJ20_getChars_178 : decode cJ20_getChars 178 = .ok (.iload 8, 2) := dk_21 8 (dk_at dksJ20_getChars_7 14 rfl rfl)
theorem dJ20_getChars_180 : decode cJ20_getChars 180 = .ok (.ifCond .eq 12, 3) := dk_153 0 12 (dk_at dksJ20_getChars_7 16 rfl rfl)
theorem dJ20_getChars_183 : decode cJ20_getChars 183 = .ok (.aload_n 3, 1) := dk_45 (dk_at dksJ20_getChars_7 19 rfl rfl)
theorem dJ20_getChars_184 : decode cJ20_getChars 184 = .ok (.iinc 7 (-1), 3) := dk_132 7 255 (dk_at dksJ20_getChars_7 20 rfl rfl)
theorem dJ20_getChars_187 : decode cJ20_getChars 187 = .ok (.iload 7, 2) := dk_21 7 (dk_at dksJ20_getChars_8 0 rfl rfl)
theorem dJ20_getChars_189 : decode cJ20_getChars 189 = .ok (.bipush 45, 2) := dk_16 45 (dk_at dksJ20_getChars_8 2 rfl rfl)
theorem dJ20_getChars_191 : decode cJ20_getChars 191 = .ok (.bastore, 1) := dk_84 (dk_at dksJ20_getChars_8 4 rfl rfl)
theorem dJ20_getChars_192 : decode cJ20_getChars 192 = .ok (.iload 7, 2) := dk_21 7 (dk_at dksJ20_getChars_8 5 rfl rfl)
theorem dJ20_getChars_194 : decode cJ20_getChars 194 = .ok (.ireturn, 1) := dk_172 (dk_at dksJ20_getChars_8 7 rfl rfl)
theorem q59 : (Jvm.Cond.initialized "java/lang/Long") ∈ lw_all := lw_g (lw_at lw_m1 26 rfl) rfl
theorem q419 : (Jvm.Cond.static ({ cls := "java/lang/Long", name := "numberOfLeadingZeros", desc := "(J)I" } : Jvm.MethodName)) ∈ lw_all := lw_g (lw_at lw_m2 146 rfl) rfl
theorem q420 : (Jvm.Cond.code ({ cls := "java/lang/Long", name := "numberOfLeadingZeros", desc := "(J)I" } : Jvm.MethodName) prog_17_method_48_code (3 : Nat) (Option.some Jvm.ClassFile.FieldType.int)) ∈ lw_all := lw_g (lw_at lw_m2 147 rfl) rfl
theorem q421 : (Jvm.Cond.methodLink "java/lang/Long" (308 : Nat) ({ cls := "java/lang/Integer", name := "numberOfLeadingZeros", desc := "(I)I" } : Jvm.MethodName)) ∈ lw_all := lw_g (lw_at lw_m2 148 rfl) rfl
theorem q428 : (Jvm.Cond.static ({ cls := "java/lang/Long", name := "numberOfTrailingZeros", desc := "(J)I" } : Jvm.MethodName)) ∈ lw_all := lw_g (lw_at lw_m2 155 rfl) rfl
theorem q429 : (Jvm.Cond.code ({ cls := "java/lang/Long", name := "numberOfTrailingZeros", desc := "(J)I" } : Jvm.MethodName) prog_17_method_49_code (3 : Nat) (Option.some Jvm.ClassFile.FieldType.int)) ∈ lw_all := lw_g (lw_at lw_m2 156 rfl) rfl
theorem q430 : (Jvm.Cond.methodLink "java/lang/Long" (311 : Nat) ({ cls := "java/lang/Integer", name := "numberOfTrailingZeros", desc := "(I)I" } : Jvm.MethodName)) ∈ lw_all := lw_g (lw_at lw_m2 157 rfl) rfl
theorem q550 : (Jvm.Cond.static ({ cls := "java/lang/Long", name := "hashCode", desc := "(J)I" } : Jvm.MethodName)) ∈ lw_all := lw_g (lw_at lw_m3 37 rfl) rfl
theorem q551 : (Jvm.Cond.code ({ cls := "java/lang/Long", name := "hashCode", desc := "(J)I" } : Jvm.MethodName) prog_17_method_36_code (2 : Nat) (Option.some Jvm.ClassFile.FieldType.int)) ∈ lw_all := lw_g (lw_at lw_m3 38 rfl) rfl
theorem q1069 : (Jvm.Cond.static ({ cls := "java/lang/Long", name := "stringSize", desc := "(J)I" } : Jvm.MethodName)) ∈ lw_all := lw_g (lw_at lw_m5 76 rfl) rfl
theorem q1070 : (Jvm.Cond.code ({ cls := "java/lang/Long", name := "stringSize", desc := "(J)I" } : Jvm.MethodName) prog_17_method_15_code (6 : Nat) (Option.some Jvm.ClassFile.FieldType.int)) ∈ lw_all := lw_g (lw_at lw_m5 77 rfl) rfl
theorem q1071 : (Jvm.Cond.constantLong "java/lang/Long" (140 : Nat) (-10 : Int64)) ∈ lw_all := lw_g (lw_at lw_m5 78 rfl) rfl
theorem q1072 : (Jvm.Cond.constantLong "java/lang/Long" (53 : Nat) (10 : Int64)) ∈ lw_all := lw_g (lw_at lw_m5 79 rfl) rfl
theorem q1074 : (Jvm.Cond.static ({ cls := "java/lang/Long", name := "getChars", desc := "(JI[B)I" } : Jvm.MethodName)) ∈ lw_all := lw_g (lw_at lw_m5 81 rfl) rfl
theorem q1075 : (Jvm.Cond.code ({ cls := "java/lang/Long", name := "getChars", desc := "(JI[B)I" } : Jvm.MethodName) prog_17_method_14_code (11 : Nat) (Option.some Jvm.ClassFile.FieldType.int)) ∈ lw_all := lw_g (lw_at lw_m5 82 rfl) rfl
theorem q1076 : (Jvm.Cond.constantLong "java/lang/Long" (129 : Nat) (-2147483648 : Int64)) ∈ lw_all := lw_g (lw_at lw_m5 83 rfl) rfl
theorem q1077 : (Jvm.Cond.constantLong "java/lang/Long" (131 : Nat) (100 : Int64)) ∈ lw_all := lw_g (lw_at lw_m5 84 rfl) rfl
theorem q1078 : (Jvm.Cond.fieldLink "java/lang/Long" (133 : Nat) "java/lang/Integer" "DigitOnes" "[B") ∈ lw_all := lw_g (lw_at lw_m5 85 rfl) rfl
theorem q1079 : (Jvm.Cond.fieldLink "java/lang/Long" (137 : Nat) "java/lang/Integer" "DigitTens" "[B") ∈ lw_all := lw_g (lw_at lw_m5 86 rfl) rfl
/-! java/util/Objects -/
set_option maxRecDepth 100000
def RJ22 : String := "java/util/Objects"
abbrev cJ22_equals : ByteArray := prog_29_method_2_code
def yJ22_equals : MethodName := ⟨RJ22, "equals", "(Ljava/lang/Object;Ljava/lang/Object;)Z"⟩
def dkwJ22_equals_0 : List UInt8 := [42, 43, 165, 0, 15, 42, 198, 0, 15, 42, 43, 182, 0, 14, 153, 0, 7, 4, 167, 0, 4, 3, 172]
abbrev dktJ22_equals_0 : List UInt8 := dkwJ22_equals_0 ++ []
theorem dksJ22_equals_0 : cJ22_equals.data.toList.drop 0 = dktJ22_equals_0 := by decide +kernel
theorem dJ22_equals_0 : decode cJ22_equals 0 = .ok (.aload_n 0, 1) := dk_42 (dk_at dksJ22_equals_0 0 rfl rfl)
theorem dJ22_equals_1 : decode cJ22_equals 1 = .ok (.aload_n 1, 1) := dk_43 (dk_at dksJ22_equals_0 1 rfl rfl)
theorem dJ22_equals_2 : decode cJ22_equals 2 = .ok (.if_acmp .eq 15, 3) := dk_165 0 15 (dk_at dksJ22_equals_0 2 rfl rfl)
theorem dJ22_equals_5 : decode cJ22_equals 5 = .ok (.aload_n 0, 1) := dk_42 (dk_at dksJ22_equals_0 5 rfl rfl)
theorem dJ22_equals_6 : decode cJ22_equals 6 = .ok (.ifnull 15, 3) := dk_198 0 15 (dk_at dksJ22_equals_0 6 rfl rfl)
theorem dJ22_equals_9 : decode cJ22_equals 9 = .ok (.aload_n 0, 1) := dk_42 (dk_at dksJ22_equals_0 9 rfl rfl)
theorem dJ22_equals_10 : decode cJ22_equals 10 = .ok (.aload_n 1, 1) := dk_43 (dk_at dksJ22_equals_0 10 rfl rfl)
theorem dJ22_equals_11 : decode cJ22_equals 11 = .ok (.invokevirtual 14, 3) := dk_182 0 14 (dk_at dksJ22_equals_0 11 rfl rfl)
theorem dJ22_equals_14 : decode cJ22_equals 14 = .ok (.ifCond .eq 7, 3) := dk_153 0 7 (dk_at dksJ22_equals_0 14 rfl rfl)
theorem dJ22_equals_17 : decode cJ22_equals 17 = .ok (.iconst 1, 1) := dk_4 (dk_at dksJ22_equals_0 17 rfl rfl)
theorem dJ22_equals_18 : decode cJ22_equals 18 = .ok (.goto 4, 3) := dk_167 0 4 (dk_at dksJ22_equals_0 18 rfl rfl)
theorem dJ22_equals_21 : decode cJ22_equals 21 = .ok (.iconst 0, 1) := dk_3 (dk_at dksJ22_equals_0 21 rfl rfl)
theorem dJ22_equals_22 : decode cJ22_equals 22 = .ok (.ireturn, 1) := dk_172 (dk_at dksJ22_equals_0 22 rfl rfl)
theorem q62 : (Jvm.Cond.initialized "java/util/Objects") ∈ lw_all := lw_g (lw_at lw_m1 29 rfl) rfl
theorem q1223 : (Jvm.Cond.static ({ cls := "java/util/Objects", name := "equals", desc := "(Ljava/lang/Object;Ljava/lang/Object;)Z" } : Jvm.MethodName)) ∈ lw_all := lw_g (lw_at lw_m5 230 rfl) rfl
theorem q1224 : (Jvm.Cond.code ({ cls := "java/util/Objects", name := "equals", desc := "(Ljava/lang/Object;Ljava/lang/Object;)Z" } : Jvm.MethodName) prog_29_method_2_code (2 : Nat) (Option.some Jvm.ClassFile.FieldType.boolean)) ∈ lw_all := lw_g (lw_at lw_m5 231 rfl) rfl
theorem q1226 : (Jvm.Cond.methodLink "java/util/Objects" (14 : Nat) ({ cls := "java/lang/Object", name := "equals", desc := "(Ljava/lang/Object;)Z" } : Jvm.MethodName)) ∈ lw_all := lw_g (lw_at lw_m5 233 rfl) rfl
/-! java/lang/Object -/
set_option maxRecDepth 100000
def RJ23 : String := "java/lang/Object"
abbrev cJ23_init : ByteArray := object_method_1_code
def yJ23_init : MethodName := ⟨RJ23, "<init>", "()V"⟩
theorem dJ23_init_0 : decode cJ23_init 0 = .ok (.return_, 1) := by decide +kernel
abbrev cJ23_equals : ByteArray := object_method_4_code
def yJ23_equals : MethodName := ⟨RJ23, "equals", "(Ljava/lang/Object;)Z"⟩
def dkwJ23_equals_0 : List UInt8 := [42, 43, 166, 0, 7, 4, 167, 0, 4, 3, 172]
abbrev dktJ23_equals_0 : List UInt8 := dkwJ23_equals_0 ++ []
theorem dksJ23_equals_0 : cJ23_equals.data.toList.drop 0 = dktJ23_equals_0 := by decide +kernel
theorem dJ23_equals_0 : decode cJ23_equals 0 = .ok (.aload_n 0, 1) := dk_42 (dk_at dksJ23_equals_0 0 rfl rfl)
theorem dJ23_equals_1 : decode cJ23_equals 1 = .ok (.aload_n 1, 1) := dk_43 (dk_at dksJ23_equals_0 1 rfl rfl)
theorem dJ23_equals_2 : decode cJ23_equals 2 = .ok (.if_acmp .ne 7, 3) := dk_166 0 7 (dk_at dksJ23_equals_0 2 rfl rfl)
theorem dJ23_equals_5 : decode cJ23_equals 5 = .ok (.iconst 1, 1) := dk_4 (dk_at dksJ23_equals_0 5 rfl rfl)
theorem dJ23_equals_6 : decode cJ23_equals 6 = .ok (.goto 4, 3) := dk_167 0 4 (dk_at dksJ23_equals_0 6 rfl rfl)
theorem dJ23_equals_9 : decode cJ23_equals 9 = .ok (.iconst 0, 1) := dk_3 (dk_at dksJ23_equals_0 9 rfl rfl)
theorem dJ23_equals_10 : decode cJ23_equals 10 = .ok (.ireturn, 1) := dk_172 (dk_at dksJ23_equals_0 10 rfl rfl)
theorem q70 : (Jvm.Cond.instanceMethod ({ cls := "java/lang/Object", name := "<init>", desc := "()V" } : Jvm.MethodName)) ∈ lw_all := lw_g (lw_at lw_m1 37 rfl) rfl
theorem q71 : (Jvm.Cond.code ({ cls := "java/lang/Object", name := "<init>", desc := "()V" } : Jvm.MethodName) object_method_1_code (1 : Nat) (Option.none : Option Jvm.ClassFile.FieldType)) ∈ lw_all := lw_g (lw_at lw_m1 38 rfl) rfl
theorem q885 : (Jvm.Cond.native ({ cls := "java/lang/Object", name := "clone", desc := "()Ljava/lang/Object;" } : Jvm.MethodName)) ∈ lw_all := lw_g (lw_at lw_m4 132 rfl) rfl
theorem q886 : (Jvm.Cond.instanceMethod ({ cls := "java/lang/Object", name := "clone", desc := "()Ljava/lang/Object;" } : Jvm.MethodName)) ∈ lw_all := lw_g (lw_at lw_m4 133 rfl) rfl
theorem q1195 : (Jvm.Cond.instanceMethod ({ cls := "java/lang/Object", name := "equals", desc := "(Ljava/lang/Object;)Z" } : Jvm.MethodName)) ∈ lw_all := lw_g (lw_at lw_m5 202 rfl) rfl
theorem q1196 : (Jvm.Cond.sameMethod "java/lang/Object" "java/lang/Object" "equals" "(Ljava/lang/Object;)Z") ∈ lw_all := lw_g (lw_at lw_m5 203 rfl) rfl
theorem q1221 : (Jvm.Cond.code ({ cls := "java/lang/Object", name := "equals", desc := "(Ljava/lang/Object;)Z" } : Jvm.MethodName) object_method_4_code (2 : Nat) (Option.some Jvm.ClassFile.FieldType.boolean)) ∈ lw_all := lw_g (lw_at lw_m5 228 rfl) rfl
theorem q1225 : (Jvm.Cond.declares ({ cls := "java/lang/Object", name := "equals", desc := "(Ljava/lang/Object;)Z" } : Jvm.MethodName)) ∈ lw_tbl := lw_at lw_m5 232 rfl
theorem q1970 : (Jvm.Cond.initialized "java/lang/Object") ∈ lw_all := lw_g (lw_at lw_m9 17 rfl) rfl
theorem q992 : (Jvm.Cond.sameMethod "[B" "java/lang/Object" "clone" "()Ljava/lang/Object;") ∈ lw_all := lw_g (lw_at lw_m4 239 rfl) rfl
set_option maxRecDepth 100000
theorem q993 : (Jvm.Cond.selects "[B" ({ cls := "[B", name := "clone", desc := "()Ljava/lang/Object;" } : Jvm.MethodName) ({ cls := "java/lang/Object", name := "clone", desc := "()Ljava/lang/Object;" } : Jvm.MethodName)) ∈ lw_all := lw_g (lw_at lw_m5 0 rfl) rfl
theorem q994 : (Jvm.Cond.castable "[B" "java/lang/Cloneable") ∈ lw_tbl := lw_at lw_m5 1 rfl
theorem q884 : (Jvm.Cond.sameMethod "[I" "java/lang/Object" "clone" "()Ljava/lang/Object;") ∈ lw_all := lw_g (lw_at lw_m4 131 rfl) rfl
set_option maxRecDepth 100000
theorem q887 : (Jvm.Cond.selects "[I" ({ cls := "[I", name := "clone", desc := "()Ljava/lang/Object;" } : Jvm.MethodName) ({ cls := "java/lang/Object", name := "clone", desc := "()Ljava/lang/Object;" } : Jvm.MethodName)) ∈ lw_all := lw_g (lw_at lw_m4 134 rfl) rfl
theorem q888 : (Jvm.Cond.castable "[I" "java/lang/Cloneable") ∈ lw_tbl := lw_at lw_m4 135 rfl
theorem q287 : (Jvm.Cond.interfaceMethod "java/lang/Comparable" "java/lang/Comparable" "compareTo" "(Ljava/lang/Object;)I") ∈ lw_tbl := lw_at lw_m2 14 rfl
set_option maxRecDepth 100000
theorem q288 : (Jvm.Cond.declares ({ cls := "java/lang/Comparable", name := "compareTo", desc := "(Ljava/lang/Object;)I" } : Jvm.MethodName)) ∈ lw_tbl := lw_at lw_m2 15 rfl
theorem q63 : (Jvm.Cond.initialized "java/lang/Integer$IntegerCache") ∈ lw_all := lw_g (lw_at lw_m1 30 rfl) rfl
set_option maxRecDepth 100000
theorem q1239 : (Jvm.Cond.laysStatic "java/lang/Integer$IntegerCache" "high" "I") ∈ lw_tbl := lw_at lw_m6 6 rfl
theorem q1241 : (Jvm.Cond.laysStatic "java/lang/Integer$IntegerCache" "cache" "[Ljava/lang/Integer;") ∈ lw_tbl := lw_at lw_m6 8 rfl
theorem q51 : (Jvm.Cond.initialized "java/lang/System") ∈ lw_all := lw_g (lw_at lw_m1 18 rfl) rfl
set_option maxRecDepth 100000
theorem q892 : (Jvm.Cond.static ({ cls := "java/lang/System", name := "arraycopy", desc := "(Ljava/lang/Object;ILjava/lang/Object;II)V" } : Jvm.MethodName)) ∈ lw_all := lw_g (lw_at lw_m4 139 rfl) rfl
theorem q893 : (Jvm.Cond.native ({ cls := "java/lang/System", name := "arraycopy", desc := "(Ljava/lang/Object;ILjava/lang/Object;II)V" } : Jvm.MethodName)) ∈ lw_all := lw_g (lw_at lw_m4 140 rfl) rfl
theorem q61 : (Jvm.Cond.initialized "jdk/internal/misc/UnsafeConstants") ∈ lw_all := lw_g (lw_at lw_m1 28 rfl) rfl
set_option maxRecDepth 100000
theorem q390 : (Jvm.Cond.laysStatic "jdk/internal/misc/UnsafeConstants" "BIG_ENDIAN" "Z") ∈ lw_tbl := lw_at lw_m2 117 rfl
theorem q73 : (Jvm.Cond.arrayOver (Jvm.ClassFile.FieldType.object "java/lang/Double")) ∈ lw_tbl := lw_at lw_m1 40 rfl
set_option maxRecDepth 100000
theorem q75 : (Jvm.Cond.arrayOver (Jvm.ClassFile.FieldType.object "java/lang/Float")) ∈ lw_tbl := lw_at lw_m1 42 rfl
theorem q701 : (Jvm.Cond.arrayClass Jvm.ClassFile.FieldType.int) ∈ lw_all := lw_g (lw_at lw_m3 188 rfl) rfl
theorem q746 : (Jvm.Cond.arrayClass Jvm.ClassFile.FieldType.byte) ∈ lw_all := lw_g (lw_at lw_m3 233 rfl) rfl
theorem q908 : (Jvm.Cond.arrayClass Jvm.ClassFile.FieldType.double) ∈ lw_all := lw_g (lw_at lw_m4 155 rfl) rfl
theorem q1509 : (Jvm.Cond.arrayClass Jvm.ClassFile.FieldType.long) ∈ lw_all := lw_g (lw_at lw_m7 36 rfl) rfl
