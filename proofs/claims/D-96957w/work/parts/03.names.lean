/-! java/lang/Math -/
set_option maxRecDepth 100000
def RJ0 : String := "java/lang/Math"
abbrev cJ0_min : ByteArray := prog_25_method_69_code
def yJ0_min : MethodName := ⟨RJ0, "min", "(II)I"⟩
def dkwJ0_min_0 : List UInt8 := [26, 27, 163, 0, 7, 26, 167, 0, 4, 27, 172]
abbrev dktJ0_min_0 : List UInt8 := dkwJ0_min_0 ++ []
theorem dksJ0_min_0 : cJ0_min.data.toList.drop 0 = dktJ0_min_0 := by decide +kernel
theorem dJ0_min_0 : decode cJ0_min 0 = .ok (.iload_n 0, 1) := dk_26 (dk_at dksJ0_min_0 0 rfl rfl)
theorem dJ0_min_1 : decode cJ0_min 1 = .ok (.iload_n 1, 1) := dk_27 (dk_at dksJ0_min_0 1 rfl rfl)
theorem dJ0_min_2 : decode cJ0_min 2 = .ok (.if_icmp .gt 7, 3) := dk_163 0 7 (dk_at dksJ0_min_0 2 rfl rfl)
theorem dJ0_min_5 : decode cJ0_min 5 = .ok (.iload_n 0, 1) := dk_26 (dk_at dksJ0_min_0 5 rfl rfl)
theorem dJ0_min_6 : decode cJ0_min 6 = .ok (.goto 4, 3) := dk_167 0 4 (dk_at dksJ0_min_0 6 rfl rfl)
theorem dJ0_min_9 : decode cJ0_min 9 = .ok (.iload_n 1, 1) := dk_27 (dk_at dksJ0_min_0 9 rfl rfl)
theorem dJ0_min_10 : decode cJ0_min 10 = .ok (.ireturn, 1) := dk_172 (dk_at dksJ0_min_0 10 rfl rfl)
abbrev cJ0_max : ByteArray := prog_25_method_65_code
def yJ0_max : MethodName := ⟨RJ0, "max", "(II)I"⟩
def dkwJ0_max_0 : List UInt8 := [26, 27, 161, 0, 7, 26, 167, 0, 4, 27, 172]
abbrev dktJ0_max_0 : List UInt8 := dkwJ0_max_0 ++ []
theorem dksJ0_max_0 : cJ0_max.data.toList.drop 0 = dktJ0_max_0 := by decide +kernel
theorem dJ0_max_0 : decode cJ0_max 0 = .ok (.iload_n 0, 1) := dk_26 (dk_at dksJ0_max_0 0 rfl rfl)
theorem dJ0_max_1 : decode cJ0_max 1 = .ok (.iload_n 1, 1) := dk_27 (dk_at dksJ0_max_0 1 rfl rfl)
theorem dJ0_max_2 : decode cJ0_max 2 = .ok (.if_icmp .lt 7, 3) := dk_161 0 7 (dk_at dksJ0_max_0 2 rfl rfl)
theorem dJ0_max_5 : decode cJ0_max 5 = .ok (.iload_n 0, 1) := dk_26 (dk_at dksJ0_max_0 5 rfl rfl)
theorem dJ0_max_6 : decode cJ0_max 6 = .ok (.goto 4, 3) := dk_167 0 4 (dk_at dksJ0_max_0 6 rfl rfl)
theorem dJ0_max_9 : decode cJ0_max 9 = .ok (.iload_n 1, 1) := dk_27 (dk_at dksJ0_max_0 9 rfl rfl)
theorem dJ0_max_10 : decode cJ0_max 10 = .ok (.ireturn, 1) := dk_172 (dk_at dksJ0_max_0 10 rfl rfl)
abbrev cJ0_abs : ByteArray := prog_25_method_61_code
def yJ0_abs : MethodName := ⟨RJ0, "abs", "(J)J"⟩
def dkwJ0_abs_0 : List UInt8 := [30, 9, 148, 156, 0, 8, 30, 117, 167, 0, 4, 30, 173]
abbrev dktJ0_abs_0 : List UInt8 := dkwJ0_abs_0 ++ []
theorem dksJ0_abs_0 : cJ0_abs.data.toList.drop 0 = dktJ0_abs_0 := by decide +kernel
theorem dJ0_abs_0 : decode cJ0_abs 0 = .ok (.lload_n 0, 1) := dk_30 (dk_at dksJ0_abs_0 0 rfl rfl)
theorem dJ0_abs_1 : decode cJ0_abs 1 = .ok (.lconst 0, 1) := dk_9 (dk_at dksJ0_abs_0 1 rfl rfl)
theorem dJ0_abs_2 : decode cJ0_abs 2 = .ok (.lcmp, 1) := dk_148 (dk_at dksJ0_abs_0 2 rfl rfl)
theorem dJ0_abs_3 : decode cJ0_abs 3 = .ok (.ifCond .ge 8, 3) := dk_156 0 8 (dk_at dksJ0_abs_0 3 rfl rfl)
theorem dJ0_abs_6 : decode cJ0_abs 6 = .ok (.lload_n 0, 1) := dk_30 (dk_at dksJ0_abs_0 6 rfl rfl)
theorem dJ0_abs_7 : decode cJ0_abs 7 = .ok (.lneg, 1) := dk_117 (dk_at dksJ0_abs_0 7 rfl rfl)
theorem dJ0_abs_8 : decode cJ0_abs 8 = .ok (.goto 4, 3) := dk_167 0 4 (dk_at dksJ0_abs_0 8 rfl rfl)
theorem dJ0_abs_11 : decode cJ0_abs 11 = .ok (.lload_n 0, 1) := dk_30 (dk_at dksJ0_abs_0 11 rfl rfl)
theorem dJ0_abs_12 : decode cJ0_abs 12 = .ok (.lreturn, 1) := dk_173 (dk_at dksJ0_abs_0 12 rfl rfl)
theorem q98 : (Jvm.Cond.initialized "java/lang/Math") ∈ lw_all := lw_g (lw_at lw_m1 13 rfl) rfl
theorem q509 : (Jvm.Cond.static ({ cls := "java/lang/Math", name := "min", desc := "(II)I" } : Jvm.MethodName)) ∈ lw_all := lw_g (lw_at lw_m2 184 rfl) rfl
theorem q510 : (Jvm.Cond.code ({ cls := "java/lang/Math", name := "min", desc := "(II)I" } : Jvm.MethodName) prog_25_method_69_code (2 : Nat) (Option.some Jvm.ClassFile.FieldType.int)) ∈ lw_all := lw_g (lw_at lw_m2 185 rfl) rfl
theorem q512 : (Jvm.Cond.static ({ cls := "java/lang/Math", name := "max", desc := "(II)I" } : Jvm.MethodName)) ∈ lw_all := lw_g (lw_at lw_m2 187 rfl) rfl
theorem q513 : (Jvm.Cond.code ({ cls := "java/lang/Math", name := "max", desc := "(II)I" } : Jvm.MethodName) prog_25_method_65_code (2 : Nat) (Option.some Jvm.ClassFile.FieldType.int)) ∈ lw_all := lw_g (lw_at lw_m2 188 rfl) rfl
theorem q921 : (Jvm.Cond.static ({ cls := "java/lang/Math", name := "abs", desc := "(J)J" } : Jvm.MethodName)) ∈ lw_all := lw_g (lw_at lw_m4 116 rfl) rfl
theorem q922 : (Jvm.Cond.code ({ cls := "java/lang/Math", name := "abs", desc := "(J)J" } : Jvm.MethodName) prog_25_method_61_code (2 : Nat) (Option.some Jvm.ClassFile.FieldType.long)) ∈ lw_all := lw_g (lw_at lw_m4 117 rfl) rfl

/-! java/lang/Throwable -/
set_option maxRecDepth 100000
def RJ1 : String := "java/lang/Throwable"
def TJ1 : u_T := fun k => match k with
  | 0 => ("java/lang/Throwable", "cause", "Ljava/lang/Throwable;", false)
  | 1 => ("java/lang/Throwable", "stackTrace", "[Ljava/lang/StackTraceElement;", false)
  | 2 => ("java/lang/Throwable", "suppressedExceptions", "Ljava/util/List;", false)
  | 3 => ("java/lang/Throwable", "detailMessage", "Ljava/lang/String;", false)
  | _ => ("java/lang/Throwable", "backtrace", "Ljava/lang/Object;", false)
def tyJ1 : Nat → FieldType := fun k => match k with
  | 0 => .object "java/lang/Throwable"
  | 1 => .array (.object "java/lang/StackTraceElement")
  | 2 => .object "java/util/List"
  | 3 => .object "java/lang/String"
  | _ => .object "java/lang/Object"
abbrev wsJ10 : List Cond := u_ws RJ1 TJ1 5
theorem nmJ1 : ∀ a, a < 5 → ∀ b, b < 5 → a ≠ b → (TJ1 a).2.1 ≠ (TJ1 b).2.1 := by decide +kernel
theorem tyJ1_ok : ∀ k, k < 5 → parseFieldDescriptor (TJ1 k).2.2.1 = some (tyJ1 k) := by decide +kernel
abbrev cJ1_init : ByteArray := prog_32_method_1_code
def yJ1_init : MethodName := ⟨RJ1, "<init>", "()V"⟩
def dkwJ1_init_1 : List UInt8 := [182, 0, 27, 87, 177]
abbrev dktJ1_init_1 : List UInt8 := dkwJ1_init_1 ++ []
def dkwJ1_init_0 : List UInt8 := [42, 183, 0, 1, 42, 42, 181, 0, 7, 42, 178, 0, 13, 181, 0, 17, 42, 178, 0, 20, 181, 0, 24, 42]
abbrev dktJ1_init_0 : List UInt8 := dkwJ1_init_0 ++ dktJ1_init_1
theorem dksJ1_init_0 : cJ1_init.data.toList.drop 0 = dktJ1_init_0 := by decide +kernel
theorem dksJ1_init_1 : cJ1_init.data.toList.drop 24 = dktJ1_init_1 := dk_seg dksJ1_init_0 24 rfl rfl
theorem dJ1_init_0 : decode cJ1_init 0 = .ok (.aload_n 0, 1) := dk_42 (dk_at dksJ1_init_0 0 rfl rfl)
theorem dJ1_init_1 : decode cJ1_init 1 = .ok (.invokespecial 1, 3) := dk_183 0 1 (dk_at dksJ1_init_0 1 rfl rfl)
theorem dJ1_init_4 : decode cJ1_init 4 = .ok (.aload_n 0, 1) := dk_42 (dk_at dksJ1_init_0 4 rfl rfl)
theorem dJ1_init_5 : decode cJ1_init 5 = .ok (.aload_n 0, 1) := dk_42 (dk_at dksJ1_init_0 5 rfl rfl)
theorem dJ1_init_6 : decode cJ1_init 6 = .ok (.putfield 7, 3) := dk_181 0 7 (dk_at dksJ1_init_0 6 rfl rfl)
theorem dJ1_init_9 : decode cJ1_init 9 = .ok (.aload_n 0, 1) := dk_42 (dk_at dksJ1_init_0 9 rfl rfl)
theorem dJ1_init_10 : decode cJ1_init 10 = .ok (.getstatic 13, 3) := dk_178 0 13 (dk_at dksJ1_init_0 10 rfl rfl)
theorem dJ1_init_13 : decode cJ1_init 13 = .ok (.putfield 17, 3) := dk_181 0 17 (dk_at dksJ1_init_0 13 rfl rfl)
theorem dJ1_init_16 : decode cJ1_init 16 = .ok (.aload_n 0, 1) := dk_42 (dk_at dksJ1_init_0 16 rfl rfl)
theorem dJ1_init_17 : decode cJ1_init 17 = .ok (.getstatic 20, 3) := dk_178 0 20 (dk_at dksJ1_init_0 17 rfl rfl)
theorem dJ1_init_20 : decode cJ1_init 20 = .ok (.putfield 24, 3) := dk_181 0 24 (dk_at dksJ1_init_0 20 rfl rfl)
theorem dJ1_init_23 : decode cJ1_init 23 = .ok (.aload_n 0, 1) := dk_42 (dk_at dksJ1_init_0 23 rfl rfl)
theorem dJ1_init_24 : decode cJ1_init 24 = .ok (.invokevirtual 27, 3) := dk_182 0 27 (dk_at dksJ1_init_1 0 rfl rfl)
theorem dJ1_init_27 : decode cJ1_init 27 = .ok (.pop, 1) := dk_87 (dk_at dksJ1_init_1 3 rfl rfl)
theorem dJ1_init_28 : decode cJ1_init 28 = .ok (.return_, 1) := dk_177 (dk_at dksJ1_init_1 4 rfl rfl)
abbrev cJ1_init_2 : ByteArray := prog_32_method_5_code
def yJ1_init_2 : MethodName := ⟨RJ1, "<init>", "(Ljava/lang/String;Ljava/lang/Throwable;ZZ)V"⟩
def dkwJ1_init_2_2 : List UInt8 := [44, 181, 0, 7, 29, 154, 0, 8, 42, 1, 181, 0, 24, 177]
abbrev dktJ1_init_2_2 : List UInt8 := dkwJ1_init_2_2 ++ []
def dkwJ1_init_2_1 : List UInt8 := [21, 4, 153, 0, 11, 42, 182, 0, 27, 87, 167, 0, 8, 42, 1, 181, 0, 17, 42, 43, 181, 0, 31, 42]
abbrev dktJ1_init_2_1 : List UInt8 := dkwJ1_init_2_1 ++ dktJ1_init_2_2
def dkwJ1_init_2_0 : List UInt8 := [42, 183, 0, 1, 42, 42, 181, 0, 7, 42, 178, 0, 13, 181, 0, 17, 42, 178, 0, 20, 181, 0, 24]
abbrev dktJ1_init_2_0 : List UInt8 := dkwJ1_init_2_0 ++ dktJ1_init_2_1
theorem dksJ1_init_2_0 : cJ1_init_2.data.toList.drop 0 = dktJ1_init_2_0 := by decide +kernel
theorem dksJ1_init_2_1 : cJ1_init_2.data.toList.drop 23 = dktJ1_init_2_1 := dk_seg dksJ1_init_2_0 23 rfl rfl
theorem dksJ1_init_2_2 : cJ1_init_2.data.toList.drop 47 = dktJ1_init_2_2 := dk_seg dksJ1_init_2_1 24 rfl rfl
theorem dJ1_init_2_0 : decode cJ1_init_2 0 = .ok (.aload_n 0, 1) := dk_42 (dk_at dksJ1_init_2_0 0 rfl rfl)
theorem dJ1_init_2_1 : decode cJ1_init_2 1 = .ok (.invokespecial 1, 3) := dk_183 0 1 (dk_at dksJ1_init_2_0 1 rfl rfl)
theorem dJ1_init_2_4 : decode cJ1_init_2 4 = .ok (.aload_n 0, 1) := dk_42 (dk_at dksJ1_init_2_0 4 rfl rfl)
theorem dJ1_init_2_5 : decode cJ1_init_2 5 = .ok (.aload_n 0, 1) := dk_42 (dk_at dksJ1_init_2_0 5 rfl rfl)
theorem dJ1_init_2_6 : decode cJ1_init_2 6 = .ok (.putfield 7, 3) := dk_181 0 7 (dk_at dksJ1_init_2_0 6 rfl rfl)
theorem dJ1_init_2_9 : decode cJ1_init_2 9 = .ok (.aload_n 0, 1) := dk_42 (dk_at dksJ1_init_2_0 9 rfl rfl)
theorem dJ1_init_2_10 : decode cJ1_init_2 10 = .ok (.getstatic 13, 3) := dk_178 0 13 (dk_at dksJ1_init_2_0 10 rfl rfl)
theorem dJ1_init_2_13 : decode cJ1_init_2 13 = .ok (.putfield 17, 3) := dk_181 0 17 (dk_at dksJ1_init_2_0 13 rfl rfl)
theorem dJ1_init_2_16 : decode cJ1_init_2 16 = .ok (.aload_n 0, 1) := dk_42 (dk_at dksJ1_init_2_0 16 rfl rfl)
theorem dJ1_init_2_17 : decode cJ1_init_2 17 = .ok (.getstatic 20, 3) := dk_178 0 20 (dk_at dksJ1_init_2_0 17 rfl rfl)
theorem dJ1_init_2_20 : decode cJ1_init_2 20 = .ok (.putfield 24, 3) := dk_181 0 24 (dk_at dksJ1_init_2_0 20 rfl rfl)
theorem dJ1_init_2_23 : decode cJ1_init_2 23 = .ok (.iload 4, 2) := dk_21 4 (dk_at dksJ1_init_2_1 0 rfl rfl)
theorem dJ1_init_2_25 : decode cJ1_init_2 25 = .ok (.ifCond .eq 11, 3) := dk_153 0 11 (dk_at dksJ1_init_2_1 2 rfl rfl)
theorem dJ1_init_2_28 : decode cJ1_init_2 28 = .ok (.aload_n 0, 1) := dk_42 (dk_at dksJ1_init_2_1 5 rfl rfl)
theorem dJ1_init_2_29 : decode cJ1_init_2 29 = .ok (.invokevirtual 27, 3) := dk_182 0 27 (dk_at dksJ1_init_2_1 6 rfl rfl)
theorem dJ1_init_2_32 : decode cJ1_init_2 32 = .ok (.pop, 1) := dk_87 (dk_at dksJ1_init_2_1 9 rfl rfl)
theorem dJ1_init_2_33 : decode cJ1_init_2 33 = .ok (.goto 8, 3) := dk_167 0 8 (dk_at dksJ1_init_2_1 10 rfl rfl)
theorem dJ1_init_2_36 : decode cJ1_init_2 36 = .ok (.aload_n 0, 1) := dk_42 (dk_at dksJ1_init_2_1 13 rfl rfl)
theorem dJ1_init_2_37 : decode cJ1_init_2 37 = .ok (.aconst_null, 1) := dk_1 (dk_at dksJ1_init_2_1 14 rfl rfl)
theorem dJ1_init_2_38 : decode cJ1_init_2 38 = .ok (.putfield 17, 3) := dk_181 0 17 (dk_at dksJ1_init_2_1 15 rfl rfl)
theorem dJ1_init_2_41 : decode cJ1_init_2 41 = .ok (.aload_n 0, 1) := dk_42 (dk_at dksJ1_init_2_1 18 rfl rfl)
theorem dJ1_init_2_42 : decode cJ1_init_2 42 = .ok (.aload_n 1, 1) := dk_43 (dk_at dksJ1_init_2_1 19 rfl rfl)
theorem dJ1_init_2_43 : decode cJ1_init_2 43 = .ok (.putfield 31, 3) := dk_181 0 31 (dk_at dksJ1_init_2_1 20 rfl rfl)
theorem dJ1_init_2_46 : decode cJ1_init_2 46 = .ok (.aload_n 0, 1) := dk_42 (dk_at dksJ1_init_2_1 23 rfl rfl)
theorem dJ1_init_2_47 : decode cJ1_init_2 47 = .ok (.aload_n 2, 1) := dk_44 (dk_at dksJ1_init_2_2 0 rfl rfl)
theorem dJ1_init_2_48 : decode cJ1_init_2 48 = .ok (.putfield 7, 3) := dk_181 0 7 (dk_at dksJ1_init_2_2 1 rfl rfl)
theorem dJ1_init_2_51 : decode cJ1_init_2 51 = .ok (.iload_n 3, 1) := dk_29 (dk_at dksJ1_init_2_2 4 rfl rfl)
theorem dJ1_init_2_52 : decode cJ1_init_2 52 = .ok (.ifCond .ne 8, 3) := dk_154 0 8 (dk_at dksJ1_init_2_2 5 rfl rfl)
theorem dJ1_init_2_55 : decode cJ1_init_2 55 = .ok (.aload_n 0, 1) := dk_42 (dk_at dksJ1_init_2_2 8 rfl rfl)
theorem dJ1_init_2_56 : decode cJ1_init_2 56 = .ok (.aconst_null, 1) := dk_1 (dk_at dksJ1_init_2_2 9 rfl rfl)
theorem dJ1_init_2_57 : decode cJ1_init_2 57 = .ok (.putfield 24, 3) := dk_181 0 24 (dk_at dksJ1_init_2_2 10 rfl rfl)
theorem dJ1_init_2_60 : decode cJ1_init_2 60 = .ok (.return_, 1) := dk_177 (dk_at dksJ1_init_2_2 13 rfl rfl)
abbrev cJ1_init_3 : ByteArray := prog_32_method_2_code
def yJ1_init_3 : MethodName := ⟨RJ1, "<init>", "(Ljava/lang/String;)V"⟩
def dkwJ1_init_3_1 : List UInt8 := [182, 0, 27, 87, 42, 43, 181, 0, 31, 177]
abbrev dktJ1_init_3_1 : List UInt8 := dkwJ1_init_3_1 ++ []
def dkwJ1_init_3_0 : List UInt8 := [42, 183, 0, 1, 42, 42, 181, 0, 7, 42, 178, 0, 13, 181, 0, 17, 42, 178, 0, 20, 181, 0, 24, 42]
abbrev dktJ1_init_3_0 : List UInt8 := dkwJ1_init_3_0 ++ dktJ1_init_3_1
theorem dksJ1_init_3_0 : cJ1_init_3.data.toList.drop 0 = dktJ1_init_3_0 := by decide +kernel
theorem dksJ1_init_3_1 : cJ1_init_3.data.toList.drop 24 = dktJ1_init_3_1 := dk_seg dksJ1_init_3_0 24 rfl rfl
theorem dJ1_init_3_0 : decode cJ1_init_3 0 = .ok (.aload_n 0, 1) := dk_42 (dk_at dksJ1_init_3_0 0 rfl rfl)
theorem dJ1_init_3_1 : decode cJ1_init_3 1 = .ok (.invokespecial 1, 3) := dk_183 0 1 (dk_at dksJ1_init_3_0 1 rfl rfl)
theorem dJ1_init_3_4 : decode cJ1_init_3 4 = .ok (.aload_n 0, 1) := dk_42 (dk_at dksJ1_init_3_0 4 rfl rfl)
theorem dJ1_init_3_5 : decode cJ1_init_3 5 = .ok (.aload_n 0, 1) := dk_42 (dk_at dksJ1_init_3_0 5 rfl rfl)
theorem dJ1_init_3_6 : decode cJ1_init_3 6 = .ok (.putfield 7, 3) := dk_181 0 7 (dk_at dksJ1_init_3_0 6 rfl rfl)
theorem dJ1_init_3_9 : decode cJ1_init_3 9 = .ok (.aload_n 0, 1) := dk_42 (dk_at dksJ1_init_3_0 9 rfl rfl)
theorem dJ1_init_3_10 : decode cJ1_init_3 10 = .ok (.getstatic 13, 3) := dk_178 0 13 (dk_at dksJ1_init_3_0 10 rfl rfl)
theorem dJ1_init_3_13 : decode cJ1_init_3 13 = .ok (.putfield 17, 3) := dk_181 0 17 (dk_at dksJ1_init_3_0 13 rfl rfl)
theorem dJ1_init_3_16 : decode cJ1_init_3 16 = .ok (.aload_n 0, 1) := dk_42 (dk_at dksJ1_init_3_0 16 rfl rfl)
theorem dJ1_init_3_17 : decode cJ1_init_3 17 = .ok (.getstatic 20, 3) := dk_178 0 20 (dk_at dksJ1_init_3_0 17 rfl rfl)
theorem dJ1_init_3_20 : decode cJ1_init_3 20 = .ok (.putfield 24, 3) := dk_181 0 24 (dk_at dksJ1_init_3_0 20 rfl rfl)
theorem dJ1_init_3_23 : decode cJ1_init_3 23 = .ok (.aload_n 0, 1) := dk_42 (dk_at dksJ1_init_3_0 23 rfl rfl)
theorem dJ1_init_3_24 : decode cJ1_init_3 24 = .ok (.invokevirtual 27, 3) := dk_182 0 27 (dk_at dksJ1_init_3_1 0 rfl rfl)
theorem dJ1_init_3_27 : decode cJ1_init_3 27 = .ok (.pop, 1) := dk_87 (dk_at dksJ1_init_3_1 3 rfl rfl)
theorem dJ1_init_3_28 : decode cJ1_init_3 28 = .ok (.aload_n 0, 1) := dk_42 (dk_at dksJ1_init_3_1 4 rfl rfl)
theorem dJ1_init_3_29 : decode cJ1_init_3 29 = .ok (.aload_n 1, 1) := dk_43 (dk_at dksJ1_init_3_1 5 rfl rfl)
theorem dJ1_init_3_30 : decode cJ1_init_3 30 = .ok (.putfield 31, 3) := dk_181 0 31 (dk_at dksJ1_init_3_1 6 rfl rfl)
theorem dJ1_init_3_33 : decode cJ1_init_3 33 = .ok (.return_, 1) := dk_177 (dk_at dksJ1_init_3_1 9 rfl rfl)
theorem q101 : (Jvm.Cond.initialized "java/lang/Throwable") ∈ lw_all := lw_g (lw_at lw_m1 16 rfl) rfl
theorem q702 : (Jvm.Cond.declares ({ cls := "java/lang/Throwable", name := "<init>", desc := "()V" } : Jvm.MethodName)) ∈ lw_tbl := lw_at lw_m3 137 rfl
theorem q703 : (Jvm.Cond.declares ({ cls := "java/lang/Throwable", name := "<init>", desc := "(Ljava/lang/String;)V" } : Jvm.MethodName)) ∈ lw_tbl := lw_at lw_m3 138 rfl
theorem q707 : (Jvm.Cond.lays "java/lang/Throwable" "java/lang/Throwable" "cause" "Ljava/lang/Throwable;") ∈ lw_all := lw_g (lw_at lw_m3 142 rfl) rfl
theorem q709 : (Jvm.Cond.lays "java/lang/Throwable" "java/lang/Throwable" "stackTrace" "[Ljava/lang/StackTraceElement;") ∈ lw_all := lw_g (lw_at lw_m3 144 rfl) rfl
theorem q711 : (Jvm.Cond.lays "java/lang/Throwable" "java/lang/Throwable" "suppressedExceptions" "Ljava/util/List;") ∈ lw_all := lw_g (lw_at lw_m3 146 rfl) rfl
theorem q713 : (Jvm.Cond.lays "java/lang/Throwable" "java/lang/Throwable" "detailMessage" "Ljava/lang/String;") ∈ lw_all := lw_g (lw_at lw_m3 148 rfl) rfl
theorem q715 : (Jvm.Cond.lays "java/lang/Throwable" "java/lang/Throwable" "backtrace" "Ljava/lang/Object;") ∈ lw_all := lw_g (lw_at lw_m3 150 rfl) rfl
theorem q716 : (Jvm.Cond.fieldLink "java/lang/Throwable" (198 : Nat) "java/lang/Throwable" "backtrace" "Ljava/lang/Object;") ∈ lw_all := lw_g (lw_at lw_m3 151 rfl) rfl
theorem q717 : (Jvm.Cond.superclass "java/lang/Throwable" "java/lang/Object") ∈ lw_all := lw_g (lw_at lw_m3 152 rfl) rfl
theorem q718 : (Jvm.Cond.instanceMethod ({ cls := "java/lang/Throwable", name := "<init>", desc := "()V" } : Jvm.MethodName)) ∈ lw_all := lw_g (lw_at lw_m3 153 rfl) rfl
theorem q719 : (Jvm.Cond.code ({ cls := "java/lang/Throwable", name := "<init>", desc := "()V" } : Jvm.MethodName) prog_32_method_1_code (1 : Nat) (Option.none : Option Jvm.ClassFile.FieldType)) ∈ lw_all := lw_g (lw_at lw_m3 154 rfl) rfl
theorem q720 : (Jvm.Cond.methodLink "java/lang/Throwable" (1 : Nat) ({ cls := "java/lang/Object", name := "<init>", desc := "()V" } : Jvm.MethodName)) ∈ lw_all := lw_g (lw_at lw_m3 155 rfl) rfl
theorem q721 : (Jvm.Cond.fieldLink "java/lang/Throwable" (13 : Nat) "java/lang/Throwable" "UNASSIGNED_STACK" "[Ljava/lang/StackTraceElement;") ∈ lw_all := lw_g (lw_at lw_m3 156 rfl) rfl
theorem q722 : (Jvm.Cond.laysStatic "java/lang/Throwable" "UNASSIGNED_STACK" "[Ljava/lang/StackTraceElement;") ∈ lw_tbl := lw_at lw_m3 157 rfl
theorem q723 : (Jvm.Cond.fieldLink "java/lang/Throwable" (20 : Nat) "java/lang/Throwable" "SUPPRESSED_SENTINEL" "Ljava/util/List;") ∈ lw_all := lw_g (lw_at lw_m3 158 rfl) rfl
theorem q724 : (Jvm.Cond.laysStatic "java/lang/Throwable" "SUPPRESSED_SENTINEL" "Ljava/util/List;") ∈ lw_tbl := lw_at lw_m3 159 rfl
theorem q725 : (Jvm.Cond.methodLink "java/lang/Throwable" (27 : Nat) ({ cls := "java/lang/Throwable", name := "fillInStackTrace", desc := "()Ljava/lang/Throwable;" } : Jvm.MethodName)) ∈ lw_all := lw_g (lw_at lw_m3 160 rfl) rfl
theorem q726 : (Jvm.Cond.instanceMethod ({ cls := "java/lang/Throwable", name := "fillInStackTrace", desc := "()Ljava/lang/Throwable;" } : Jvm.MethodName)) ∈ lw_all := lw_g (lw_at lw_m3 161 rfl) rfl
theorem q727 : (Jvm.Cond.sameMethod "java/lang/Throwable" "java/lang/Throwable" "fillInStackTrace" "()Ljava/lang/Throwable;") ∈ lw_all := lw_g (lw_at lw_m3 162 rfl) rfl
theorem q731 : (Jvm.Cond.codeSync ({ cls := "java/lang/Throwable", name := "fillInStackTrace", desc := "()Ljava/lang/Throwable;" } : Jvm.MethodName) prog_32_method_18_code (1 : Nat) (Option.some (Jvm.ClassFile.FieldType.object "java/lang/Throwable"))) ∈ lw_all := lw_g (lw_at lw_m3 166 rfl) rfl
theorem q732 : (Jvm.Cond.methodLink "java/lang/Throwable" (202 : Nat) ({ cls := "java/lang/Throwable", name := "fillInStackTrace", desc := "(I)Ljava/lang/Throwable;" } : Jvm.MethodName)) ∈ lw_all := lw_g (lw_at lw_m3 167 rfl) rfl
theorem q733 : (Jvm.Cond.privateMethod ({ cls := "java/lang/Throwable", name := "fillInStackTrace", desc := "(I)Ljava/lang/Throwable;" } : Jvm.MethodName)) ∈ lw_tbl := lw_at lw_m3 168 rfl
theorem q734 : (Jvm.Cond.instanceMethod ({ cls := "java/lang/Throwable", name := "fillInStackTrace", desc := "(I)Ljava/lang/Throwable;" } : Jvm.MethodName)) ∈ lw_all := lw_g (lw_at lw_m3 169 rfl) rfl
theorem q735 : (Jvm.Cond.instantiable "java/lang/Throwable" (6 : Nat)) ∈ lw_all := lw_g (lw_at lw_m3 170 rfl) rfl
theorem q736 : (Jvm.Cond.native ({ cls := "java/lang/Throwable", name := "fillInStackTrace", desc := "(I)Ljava/lang/Throwable;" } : Jvm.MethodName)) ∈ lw_all := lw_g (lw_at lw_m3 171 rfl) rfl
theorem q744 : (Jvm.Cond.instanceMethod ({ cls := "java/lang/Throwable", name := "<init>", desc := "(Ljava/lang/String;Ljava/lang/Throwable;ZZ)V" } : Jvm.MethodName)) ∈ lw_all := lw_g (lw_at lw_m3 179 rfl) rfl
theorem q745 : (Jvm.Cond.code ({ cls := "java/lang/Throwable", name := "<init>", desc := "(Ljava/lang/String;Ljava/lang/Throwable;ZZ)V" } : Jvm.MethodName) prog_32_method_5_code (5 : Nat) (Option.none : Option Jvm.ClassFile.FieldType)) ∈ lw_all := lw_g (lw_at lw_m3 180 rfl) rfl
theorem q748 : (Jvm.Cond.fieldLink "java/lang/Throwable" (198 : Nat) "java/lang/Throwable" "backtrace" "Ljava/lang/Object;") ∈ lw_all := lw_g (lw_at lw_m3 183 rfl) rfl
theorem q749 : (Jvm.Cond.fieldLink "java/lang/Throwable" (31 : Nat) "java/lang/Throwable" "detailMessage" "Ljava/lang/String;") ∈ lw_all := lw_g (lw_at lw_m3 184 rfl) rfl
theorem q750 : (Jvm.Cond.fieldLink "java/lang/Throwable" (7 : Nat) "java/lang/Throwable" "cause" "Ljava/lang/Throwable;") ∈ lw_all := lw_g (lw_at lw_m3 185 rfl) rfl
theorem q751 : (Jvm.Cond.fieldLink "java/lang/Throwable" (17 : Nat) "java/lang/Throwable" "stackTrace" "[Ljava/lang/StackTraceElement;") ∈ lw_all := lw_g (lw_at lw_m3 186 rfl) rfl
theorem q752 : (Jvm.Cond.fieldLink "java/lang/Throwable" (24 : Nat) "java/lang/Throwable" "suppressedExceptions" "Ljava/util/List;") ∈ lw_all := lw_g (lw_at lw_m3 187 rfl) rfl
theorem q755 : (Jvm.Cond.soleField "java/lang/Throwable" "backtrace") ∈ lw_all := lw_g (lw_at lw_m3 190 rfl) rfl
theorem q756 : (Jvm.Cond.soleField "java/lang/Throwable" "detailMessage") ∈ lw_all := lw_g (lw_at lw_m3 191 rfl) rfl
theorem q757 : (Jvm.Cond.soleField "java/lang/Throwable" "cause") ∈ lw_all := lw_g (lw_at lw_m3 192 rfl) rfl
theorem q758 : (Jvm.Cond.soleField "java/lang/Throwable" "stackTrace") ∈ lw_all := lw_g (lw_at lw_m3 193 rfl) rfl
theorem q760 : (Jvm.Cond.soleField "java/lang/Throwable" "depth") ∈ lw_all := lw_g (lw_at lw_m3 195 rfl) rfl
theorem q761 : (Jvm.Cond.soleField "java/lang/Throwable" "suppressedExceptions") ∈ lw_all := lw_g (lw_at lw_m3 196 rfl) rfl
theorem q1038 : (Jvm.Cond.instanceMethod ({ cls := "java/lang/Throwable", name := "<init>", desc := "(Ljava/lang/String;)V" } : Jvm.MethodName)) ∈ lw_all := lw_g (lw_at lw_m4 233 rfl) rfl
theorem q1039 : (Jvm.Cond.code ({ cls := "java/lang/Throwable", name := "<init>", desc := "(Ljava/lang/String;)V" } : Jvm.MethodName) prog_32_method_2_code (2 : Nat) (Option.none : Option Jvm.ClassFile.FieldType)) ∈ lw_all := lw_g (lw_at lw_m4 234 rfl) rfl
theorem q1756 : (Jvm.Cond.sameMethod "java/lang/Throwable" "java/lang/Throwable" "fillInStackTrace" "(I)Ljava/lang/Throwable;") ∈ lw_all := lw_g (lw_at lw_m7 231 rfl) rfl
theorem in_J1 : ∀ w ∈ wsJ10, w ∈ lw_all := lw_in wsJ10 [707, 709, 711, 713, 715] (by decide +kernel) (by decide +kernel)

/-! java/lang/ArithmeticException -/
set_option maxRecDepth 100000
def RJ10 : String := "java/lang/ArithmeticException"
def TJ10 : u_T := fun k => match k with
  | 0 => ("java/lang/Throwable", "backtrace", "Ljava/lang/Object;", false)
  | 1 => ("java/lang/Throwable", "detailMessage", "Ljava/lang/String;", false)
  | 2 => ("java/lang/Throwable", "cause", "Ljava/lang/Throwable;", false)
  | 3 => ("java/lang/Throwable", "stackTrace", "[Ljava/lang/StackTraceElement;", false)
  | 4 => ("java/lang/Throwable", "depth", "I", false)
  | _ => ("java/lang/Throwable", "suppressedExceptions", "Ljava/util/List;", false)
def tyJ10 : Nat → FieldType := fun k => match k with
  | 0 => .object "java/lang/Object"
  | 1 => .object "java/lang/String"
  | 2 => .object "java/lang/Throwable"
  | 3 => .array (.object "java/lang/StackTraceElement")
  | 4 => .int
  | _ => .object "java/util/List"
abbrev wsJ100 : List Cond := u_ws RJ10 TJ10 6
theorem nmJ10 : ∀ a, a < 6 → ∀ b, b < 6 → a ≠ b → (TJ10 a).2.1 ≠ (TJ10 b).2.1 := by decide +kernel
theorem tyJ10_ok : ∀ k, k < 6 → parseFieldDescriptor (TJ10 k).2.2.1 = some (tyJ10 k) := by decide +kernel
abbrev cJ10_init : ByteArray := prog_20_method_2_code
def yJ10_init : MethodName := ⟨RJ10, "<init>", "(Ljava/lang/String;)V"⟩
def dkwJ10_init_0 : List UInt8 := [42, 43, 183, 0, 7, 177]
abbrev dktJ10_init_0 : List UInt8 := dkwJ10_init_0 ++ []
theorem dksJ10_init_0 : cJ10_init.data.toList.drop 0 = dktJ10_init_0 := by decide +kernel
theorem dJ10_init_0 : decode cJ10_init 0 = .ok (.aload_n 0, 1) := dk_42 (dk_at dksJ10_init_0 0 rfl rfl)
theorem dJ10_init_1 : decode cJ10_init 1 = .ok (.aload_n 1, 1) := dk_43 (dk_at dksJ10_init_0 1 rfl rfl)
theorem dJ10_init_2 : decode cJ10_init 2 = .ok (.invokespecial 7, 3) := dk_183 0 7 (dk_at dksJ10_init_0 2 rfl rfl)
theorem dJ10_init_5 : decode cJ10_init 5 = .ok (.return_, 1) := dk_177 (dk_at dksJ10_init_0 5 rfl rfl)
theorem q112 : (Jvm.Cond.initialized "java/lang/ArithmeticException") ∈ lw_all := lw_g (lw_at lw_m1 27 rfl) rfl
theorem q728 : (Jvm.Cond.selects "java/lang/ArithmeticException" ({ cls := "java/lang/Throwable", name := "fillInStackTrace", desc := "()Ljava/lang/Throwable;" } : Jvm.MethodName) ({ cls := "java/lang/Throwable", name := "fillInStackTrace", desc := "()Ljava/lang/Throwable;" } : Jvm.MethodName)) ∈ lw_all := lw_g (lw_at lw_m3 163 rfl) rfl
theorem q1028 : (Jvm.Cond.instantiable "java/lang/ArithmeticException" (6 : Nat)) ∈ lw_all := lw_g (lw_at lw_m4 223 rfl) rfl
theorem q1029 : (Jvm.Cond.instanceMethod ({ cls := "java/lang/ArithmeticException", name := "<init>", desc := "(Ljava/lang/String;)V" } : Jvm.MethodName)) ∈ lw_all := lw_g (lw_at lw_m4 224 rfl) rfl
theorem q1030 : (Jvm.Cond.code ({ cls := "java/lang/ArithmeticException", name := "<init>", desc := "(Ljava/lang/String;)V" } : Jvm.MethodName) prog_20_method_2_code (2 : Nat) (Option.none : Option Jvm.ClassFile.FieldType)) ∈ lw_all := lw_g (lw_at lw_m4 225 rfl) rfl
theorem q1031 : (Jvm.Cond.methodLink "java/lang/ArithmeticException" (7 : Nat) ({ cls := "java/lang/RuntimeException", name := "<init>", desc := "(Ljava/lang/String;)V" } : Jvm.MethodName)) ∈ lw_all := lw_g (lw_at lw_m4 226 rfl) rfl
theorem q1040 : (Jvm.Cond.lays "java/lang/ArithmeticException" "java/lang/Throwable" "backtrace" "Ljava/lang/Object;") ∈ lw_all := lw_g (lw_at lw_m4 235 rfl) rfl
theorem q1041 : (Jvm.Cond.lays "java/lang/ArithmeticException" "java/lang/Throwable" "detailMessage" "Ljava/lang/String;") ∈ lw_all := lw_g (lw_at lw_m4 236 rfl) rfl
theorem q1042 : (Jvm.Cond.lays "java/lang/ArithmeticException" "java/lang/Throwable" "cause" "Ljava/lang/Throwable;") ∈ lw_all := lw_g (lw_at lw_m4 237 rfl) rfl
theorem q1043 : (Jvm.Cond.lays "java/lang/ArithmeticException" "java/lang/Throwable" "stackTrace" "[Ljava/lang/StackTraceElement;") ∈ lw_all := lw_g (lw_at lw_m4 238 rfl) rfl
theorem q1044 : (Jvm.Cond.lays "java/lang/ArithmeticException" "java/lang/Throwable" "depth" "I") ∈ lw_all := lw_g (lw_at lw_m4 239 rfl) rfl
theorem q1045 : (Jvm.Cond.lays "java/lang/ArithmeticException" "java/lang/Throwable" "suppressedExceptions" "Ljava/util/List;") ∈ lw_all := lw_g (lw_at lw_m5 0 rfl) rfl
theorem q1046 : (Jvm.Cond.superclass "java/lang/ArithmeticException" "java/lang/RuntimeException") ∈ lw_all := lw_g (lw_at lw_m5 1 rfl) rfl
theorem q1047 : (Jvm.Cond.castable "java/lang/ArithmeticException" "java/lang/ArithmeticException") ∈ lw_tbl := lw_at lw_m5 2 rfl
theorem q1050 : (Jvm.Cond.selects "java/lang/ArithmeticException" ({ cls := "java/lang/Throwable", name := "fillInStackTrace", desc := "(I)Ljava/lang/Throwable;" } : Jvm.MethodName) ({ cls := "java/lang/Throwable", name := "fillInStackTrace", desc := "(I)Ljava/lang/Throwable;" } : Jvm.MethodName)) ∈ lw_all := lw_g (lw_at lw_m5 5 rfl) rfl
theorem in_J10 : ∀ w ∈ wsJ100, w ∈ lw_all := lw_in wsJ100 [1040, 1041, 1042, 1043, 1044, 1045] (by decide +kernel) (by decide +kernel)

/-! java/lang/NegativeArraySizeException -/
set_option maxRecDepth 100000
def RJ11 : String := "java/lang/NegativeArraySizeException"
def TJ11 : u_T := fun k => match k with
  | 0 => ("java/lang/Throwable", "backtrace", "Ljava/lang/Object;", false)
  | 1 => ("java/lang/Throwable", "detailMessage", "Ljava/lang/String;", false)
  | 2 => ("java/lang/Throwable", "cause", "Ljava/lang/Throwable;", false)
  | 3 => ("java/lang/Throwable", "stackTrace", "[Ljava/lang/StackTraceElement;", false)
  | 4 => ("java/lang/Throwable", "depth", "I", false)
  | _ => ("java/lang/Throwable", "suppressedExceptions", "Ljava/util/List;", false)
def tyJ11 : Nat → FieldType := fun k => match k with
  | 0 => .object "java/lang/Object"
  | 1 => .object "java/lang/String"
  | 2 => .object "java/lang/Throwable"
  | 3 => .array (.object "java/lang/StackTraceElement")
  | 4 => .int
  | _ => .object "java/util/List"
abbrev wsJ110 : List Cond := u_ws RJ11 TJ11 6
theorem nmJ11 : ∀ a, a < 6 → ∀ b, b < 6 → a ≠ b → (TJ11 a).2.1 ≠ (TJ11 b).2.1 := by decide +kernel
theorem tyJ11_ok : ∀ k, k < 6 → parseFieldDescriptor (TJ11 k).2.2.1 = some (tyJ11 k) := by decide +kernel
abbrev cJ11_init : ByteArray := prog_26_method_2_code
def yJ11_init : MethodName := ⟨RJ11, "<init>", "(Ljava/lang/String;)V"⟩
def dkwJ11_init_0 : List UInt8 := [42, 43, 183, 0, 7, 177]
abbrev dktJ11_init_0 : List UInt8 := dkwJ11_init_0 ++ []
theorem dksJ11_init_0 : cJ11_init.data.toList.drop 0 = dktJ11_init_0 := by decide +kernel
theorem dJ11_init_0 : decode cJ11_init 0 = .ok (.aload_n 0, 1) := dk_42 (dk_at dksJ11_init_0 0 rfl rfl)
theorem dJ11_init_1 : decode cJ11_init 1 = .ok (.aload_n 1, 1) := dk_43 (dk_at dksJ11_init_0 1 rfl rfl)
theorem dJ11_init_2 : decode cJ11_init 2 = .ok (.invokespecial 7, 3) := dk_183 0 7 (dk_at dksJ11_init_0 2 rfl rfl)
theorem dJ11_init_5 : decode cJ11_init 5 = .ok (.return_, 1) := dk_177 (dk_at dksJ11_init_0 5 rfl rfl)
theorem q113 : (Jvm.Cond.initialized "java/lang/NegativeArraySizeException") ∈ lw_all := lw_g (lw_at lw_m1 28 rfl) rfl
theorem q730 : (Jvm.Cond.selects "java/lang/NegativeArraySizeException" ({ cls := "java/lang/Throwable", name := "fillInStackTrace", desc := "()Ljava/lang/Throwable;" } : Jvm.MethodName) ({ cls := "java/lang/Throwable", name := "fillInStackTrace", desc := "()Ljava/lang/Throwable;" } : Jvm.MethodName)) ∈ lw_all := lw_g (lw_at lw_m3 165 rfl) rfl
theorem q1175 : (Jvm.Cond.instantiable "java/lang/NegativeArraySizeException" (6 : Nat)) ∈ lw_all := lw_g (lw_at lw_m5 130 rfl) rfl
theorem q1176 : (Jvm.Cond.instanceMethod ({ cls := "java/lang/NegativeArraySizeException", name := "<init>", desc := "(Ljava/lang/String;)V" } : Jvm.MethodName)) ∈ lw_all := lw_g (lw_at lw_m5 131 rfl) rfl
theorem q1177 : (Jvm.Cond.code ({ cls := "java/lang/NegativeArraySizeException", name := "<init>", desc := "(Ljava/lang/String;)V" } : Jvm.MethodName) prog_26_method_2_code (2 : Nat) (Option.none : Option Jvm.ClassFile.FieldType)) ∈ lw_all := lw_g (lw_at lw_m5 132 rfl) rfl
theorem q1178 : (Jvm.Cond.methodLink "java/lang/NegativeArraySizeException" (7 : Nat) ({ cls := "java/lang/RuntimeException", name := "<init>", desc := "(Ljava/lang/String;)V" } : Jvm.MethodName)) ∈ lw_all := lw_g (lw_at lw_m5 133 rfl) rfl
theorem q1179 : (Jvm.Cond.lays "java/lang/NegativeArraySizeException" "java/lang/Throwable" "backtrace" "Ljava/lang/Object;") ∈ lw_all := lw_g (lw_at lw_m5 134 rfl) rfl
theorem q1180 : (Jvm.Cond.lays "java/lang/NegativeArraySizeException" "java/lang/Throwable" "detailMessage" "Ljava/lang/String;") ∈ lw_all := lw_g (lw_at lw_m5 135 rfl) rfl
theorem q1181 : (Jvm.Cond.lays "java/lang/NegativeArraySizeException" "java/lang/Throwable" "cause" "Ljava/lang/Throwable;") ∈ lw_all := lw_g (lw_at lw_m5 136 rfl) rfl
theorem q1182 : (Jvm.Cond.lays "java/lang/NegativeArraySizeException" "java/lang/Throwable" "stackTrace" "[Ljava/lang/StackTraceElement;") ∈ lw_all := lw_g (lw_at lw_m5 137 rfl) rfl
theorem q1183 : (Jvm.Cond.lays "java/lang/NegativeArraySizeException" "java/lang/Throwable" "depth" "I") ∈ lw_all := lw_g (lw_at lw_m5 138 rfl) rfl
theorem q1184 : (Jvm.Cond.lays "java/lang/NegativeArraySizeException" "java/lang/Throwable" "suppressedExceptions" "Ljava/util/List;") ∈ lw_all := lw_g (lw_at lw_m5 139 rfl) rfl
theorem q1185 : (Jvm.Cond.superclass "java/lang/NegativeArraySizeException" "java/lang/RuntimeException") ∈ lw_all := lw_g (lw_at lw_m5 140 rfl) rfl
theorem q1186 : (Jvm.Cond.castable "java/lang/NegativeArraySizeException" "java/lang/NegativeArraySizeException") ∈ lw_tbl := lw_at lw_m5 141 rfl
theorem q1187 : (Jvm.Cond.selects "java/lang/NegativeArraySizeException" ({ cls := "java/lang/Throwable", name := "fillInStackTrace", desc := "(I)Ljava/lang/Throwable;" } : Jvm.MethodName) ({ cls := "java/lang/Throwable", name := "fillInStackTrace", desc := "(I)Ljava/lang/Throwable;" } : Jvm.MethodName)) ∈ lw_all := lw_g (lw_at lw_m5 142 rfl) rfl
theorem in_J11 : ∀ w ∈ wsJ110, w ∈ lw_all := lw_in wsJ110 [1179, 1180, 1181, 1182, 1183, 1184] (by decide +kernel) (by decide +kernel)

/-! java/lang/ArrayStoreException -/
set_option maxRecDepth 100000
def RJ12 : String := "java/lang/ArrayStoreException"
def TJ12 : u_T := fun k => match k with
  | 0 => ("java/lang/Throwable", "backtrace", "Ljava/lang/Object;", false)
  | 1 => ("java/lang/Throwable", "detailMessage", "Ljava/lang/String;", false)
  | 2 => ("java/lang/Throwable", "cause", "Ljava/lang/Throwable;", false)
  | 3 => ("java/lang/Throwable", "stackTrace", "[Ljava/lang/StackTraceElement;", false)
  | 4 => ("java/lang/Throwable", "depth", "I", false)
  | _ => ("java/lang/Throwable", "suppressedExceptions", "Ljava/util/List;", false)
def tyJ12 : Nat → FieldType := fun k => match k with
  | 0 => .object "java/lang/Object"
  | 1 => .object "java/lang/String"
  | 2 => .object "java/lang/Throwable"
  | 3 => .array (.object "java/lang/StackTraceElement")
  | 4 => .int
  | _ => .object "java/util/List"
abbrev wsJ120 : List Cond := u_ws RJ12 TJ12 6
theorem nmJ12 : ∀ a, a < 6 → ∀ b, b < 6 → a ≠ b → (TJ12 a).2.1 ≠ (TJ12 b).2.1 := by decide +kernel
theorem tyJ12_ok : ∀ k, k < 6 → parseFieldDescriptor (TJ12 k).2.2.1 = some (tyJ12 k) := by decide +kernel
abbrev cJ12_init : ByteArray := prog_21_method_2_code
def yJ12_init : MethodName := ⟨RJ12, "<init>", "(Ljava/lang/String;)V"⟩
def dkwJ12_init_0 : List UInt8 := [42, 43, 183, 0, 7, 177]
abbrev dktJ12_init_0 : List UInt8 := dkwJ12_init_0 ++ []
theorem dksJ12_init_0 : cJ12_init.data.toList.drop 0 = dktJ12_init_0 := by decide +kernel
theorem dJ12_init_0 : decode cJ12_init 0 = .ok (.aload_n 0, 1) := dk_42 (dk_at dksJ12_init_0 0 rfl rfl)
theorem dJ12_init_1 : decode cJ12_init 1 = .ok (.aload_n 1, 1) := dk_43 (dk_at dksJ12_init_0 1 rfl rfl)
theorem dJ12_init_2 : decode cJ12_init 2 = .ok (.invokespecial 7, 3) := dk_183 0 7 (dk_at dksJ12_init_0 2 rfl rfl)
theorem dJ12_init_5 : decode cJ12_init 5 = .ok (.return_, 1) := dk_177 (dk_at dksJ12_init_0 5 rfl rfl)
theorem q114 : (Jvm.Cond.initialized "java/lang/ArrayStoreException") ∈ lw_all := lw_g (lw_at lw_m1 29 rfl) rfl
theorem q729 : (Jvm.Cond.selects "java/lang/ArrayStoreException" ({ cls := "java/lang/Throwable", name := "fillInStackTrace", desc := "()Ljava/lang/Throwable;" } : Jvm.MethodName) ({ cls := "java/lang/Throwable", name := "fillInStackTrace", desc := "()Ljava/lang/Throwable;" } : Jvm.MethodName)) ∈ lw_all := lw_g (lw_at lw_m3 164 rfl) rfl
theorem q1197 : (Jvm.Cond.instantiable "java/lang/ArrayStoreException" (6 : Nat)) ∈ lw_all := lw_g (lw_at lw_m5 152 rfl) rfl
theorem q1198 : (Jvm.Cond.instanceMethod ({ cls := "java/lang/ArrayStoreException", name := "<init>", desc := "(Ljava/lang/String;)V" } : Jvm.MethodName)) ∈ lw_all := lw_g (lw_at lw_m5 153 rfl) rfl
theorem q1199 : (Jvm.Cond.code ({ cls := "java/lang/ArrayStoreException", name := "<init>", desc := "(Ljava/lang/String;)V" } : Jvm.MethodName) prog_21_method_2_code (2 : Nat) (Option.none : Option Jvm.ClassFile.FieldType)) ∈ lw_all := lw_g (lw_at lw_m5 154 rfl) rfl
theorem q1200 : (Jvm.Cond.methodLink "java/lang/ArrayStoreException" (7 : Nat) ({ cls := "java/lang/RuntimeException", name := "<init>", desc := "(Ljava/lang/String;)V" } : Jvm.MethodName)) ∈ lw_all := lw_g (lw_at lw_m5 155 rfl) rfl
theorem q1201 : (Jvm.Cond.lays "java/lang/ArrayStoreException" "java/lang/Throwable" "backtrace" "Ljava/lang/Object;") ∈ lw_all := lw_g (lw_at lw_m5 156 rfl) rfl
theorem q1202 : (Jvm.Cond.lays "java/lang/ArrayStoreException" "java/lang/Throwable" "detailMessage" "Ljava/lang/String;") ∈ lw_all := lw_g (lw_at lw_m5 157 rfl) rfl
theorem q1203 : (Jvm.Cond.lays "java/lang/ArrayStoreException" "java/lang/Throwable" "cause" "Ljava/lang/Throwable;") ∈ lw_all := lw_g (lw_at lw_m5 158 rfl) rfl
theorem q1204 : (Jvm.Cond.lays "java/lang/ArrayStoreException" "java/lang/Throwable" "stackTrace" "[Ljava/lang/StackTraceElement;") ∈ lw_all := lw_g (lw_at lw_m5 159 rfl) rfl
theorem q1205 : (Jvm.Cond.lays "java/lang/ArrayStoreException" "java/lang/Throwable" "depth" "I") ∈ lw_all := lw_g (lw_at lw_m5 160 rfl) rfl
theorem q1206 : (Jvm.Cond.lays "java/lang/ArrayStoreException" "java/lang/Throwable" "suppressedExceptions" "Ljava/util/List;") ∈ lw_all := lw_g (lw_at lw_m5 161 rfl) rfl
theorem q1207 : (Jvm.Cond.superclass "java/lang/ArrayStoreException" "java/lang/RuntimeException") ∈ lw_all := lw_g (lw_at lw_m5 162 rfl) rfl
theorem q1208 : (Jvm.Cond.castable "java/lang/ArrayStoreException" "java/lang/ArrayStoreException") ∈ lw_tbl := lw_at lw_m5 163 rfl
theorem q1209 : (Jvm.Cond.selects "java/lang/ArrayStoreException" ({ cls := "java/lang/Throwable", name := "fillInStackTrace", desc := "(I)Ljava/lang/Throwable;" } : Jvm.MethodName) ({ cls := "java/lang/Throwable", name := "fillInStackTrace", desc := "(I)Ljava/lang/Throwable;" } : Jvm.MethodName)) ∈ lw_all := lw_g (lw_at lw_m5 164 rfl) rfl
theorem in_J12 : ∀ w ∈ wsJ120, w ∈ lw_all := lw_in wsJ120 [1201, 1202, 1203, 1204, 1205, 1206] (by decide +kernel) (by decide +kernel)

/-! java/lang/Object -/
set_option maxRecDepth 100000
def RJ13 : String := "java/lang/Object"
abbrev cJ13_init : ByteArray := object_method_1_code
def yJ13_init : MethodName := ⟨RJ13, "<init>", "()V"⟩
theorem dJ13_init_0 : decode cJ13_init 0 = .ok (.return_, 1) := by decide +kernel
theorem q121 : (Jvm.Cond.instanceMethod ({ cls := "java/lang/Object", name := "<init>", desc := "()V" } : Jvm.MethodName)) ∈ lw_all := lw_g (lw_at lw_m1 36 rfl) rfl
theorem q122 : (Jvm.Cond.code ({ cls := "java/lang/Object", name := "<init>", desc := "()V" } : Jvm.MethodName) object_method_1_code (1 : Nat) (Option.none : Option Jvm.ClassFile.FieldType)) ∈ lw_all := lw_g (lw_at lw_m1 37 rfl) rfl

/-! java/lang/Exception -/
set_option maxRecDepth 100000
def RJ2 : String := "java/lang/Exception"
abbrev cJ2_init : ByteArray := prog_23_method_5_code
def yJ2_init : MethodName := ⟨RJ2, "<init>", "(Ljava/lang/String;Ljava/lang/Throwable;ZZ)V"⟩
def dkwJ2_init_0 : List UInt8 := [42, 43, 44, 29, 21, 4, 183, 0, 16, 177]
abbrev dktJ2_init_0 : List UInt8 := dkwJ2_init_0 ++ []
theorem dksJ2_init_0 : cJ2_init.data.toList.drop 0 = dktJ2_init_0 := by decide +kernel
theorem dJ2_init_0 : decode cJ2_init 0 = .ok (.aload_n 0, 1) := dk_42 (dk_at dksJ2_init_0 0 rfl rfl)
theorem dJ2_init_1 : decode cJ2_init 1 = .ok (.aload_n 1, 1) := dk_43 (dk_at dksJ2_init_0 1 rfl rfl)
theorem dJ2_init_2 : decode cJ2_init 2 = .ok (.aload_n 2, 1) := dk_44 (dk_at dksJ2_init_0 2 rfl rfl)
theorem dJ2_init_3 : decode cJ2_init 3 = .ok (.iload_n 3, 1) := dk_29 (dk_at dksJ2_init_0 3 rfl rfl)
theorem dJ2_init_4 : decode cJ2_init 4 = .ok (.iload 4, 2) := dk_21 4 (dk_at dksJ2_init_0 4 rfl rfl)
theorem dJ2_init_6 : decode cJ2_init 6 = .ok (.invokespecial 16, 3) := dk_183 0 16 (dk_at dksJ2_init_0 6 rfl rfl)
theorem dJ2_init_9 : decode cJ2_init 9 = .ok (.return_, 1) := dk_177 (dk_at dksJ2_init_0 9 rfl rfl)
abbrev cJ2_init_2 : ByteArray := prog_23_method_2_code
def yJ2_init_2 : MethodName := ⟨RJ2, "<init>", "(Ljava/lang/String;)V"⟩
def dkwJ2_init_2_0 : List UInt8 := [42, 43, 183, 0, 7, 177]
abbrev dktJ2_init_2_0 : List UInt8 := dkwJ2_init_2_0 ++ []
theorem dksJ2_init_2_0 : cJ2_init_2.data.toList.drop 0 = dktJ2_init_2_0 := by decide +kernel
theorem dJ2_init_2_0 : decode cJ2_init_2 0 = .ok (.aload_n 0, 1) := dk_42 (dk_at dksJ2_init_2_0 0 rfl rfl)
theorem dJ2_init_2_1 : decode cJ2_init_2 1 = .ok (.aload_n 1, 1) := dk_43 (dk_at dksJ2_init_2_0 1 rfl rfl)
theorem dJ2_init_2_2 : decode cJ2_init_2 2 = .ok (.invokespecial 7, 3) := dk_183 0 7 (dk_at dksJ2_init_2_0 2 rfl rfl)
theorem dJ2_init_2_5 : decode cJ2_init_2 5 = .ok (.return_, 1) := dk_177 (dk_at dksJ2_init_2_0 5 rfl rfl)
theorem q102 : (Jvm.Cond.initialized "java/lang/Exception") ∈ lw_all := lw_g (lw_at lw_m1 17 rfl) rfl
theorem q700 : (Jvm.Cond.declares ({ cls := "java/lang/Exception", name := "<init>", desc := "()V" } : Jvm.MethodName)) ∈ lw_tbl := lw_at lw_m3 135 rfl
theorem q701 : (Jvm.Cond.declares ({ cls := "java/lang/Exception", name := "<init>", desc := "(Ljava/lang/String;)V" } : Jvm.MethodName)) ∈ lw_tbl := lw_at lw_m3 136 rfl
theorem q741 : (Jvm.Cond.instanceMethod ({ cls := "java/lang/Exception", name := "<init>", desc := "(Ljava/lang/String;Ljava/lang/Throwable;ZZ)V" } : Jvm.MethodName)) ∈ lw_all := lw_g (lw_at lw_m3 176 rfl) rfl
theorem q742 : (Jvm.Cond.code ({ cls := "java/lang/Exception", name := "<init>", desc := "(Ljava/lang/String;Ljava/lang/Throwable;ZZ)V" } : Jvm.MethodName) prog_23_method_5_code (5 : Nat) (Option.none : Option Jvm.ClassFile.FieldType)) ∈ lw_all := lw_g (lw_at lw_m3 177 rfl) rfl
theorem q743 : (Jvm.Cond.methodLink "java/lang/Exception" (16 : Nat) ({ cls := "java/lang/Throwable", name := "<init>", desc := "(Ljava/lang/String;Ljava/lang/Throwable;ZZ)V" } : Jvm.MethodName)) ∈ lw_all := lw_g (lw_at lw_m3 178 rfl) rfl
theorem q1035 : (Jvm.Cond.instanceMethod ({ cls := "java/lang/Exception", name := "<init>", desc := "(Ljava/lang/String;)V" } : Jvm.MethodName)) ∈ lw_all := lw_g (lw_at lw_m4 230 rfl) rfl
theorem q1036 : (Jvm.Cond.code ({ cls := "java/lang/Exception", name := "<init>", desc := "(Ljava/lang/String;)V" } : Jvm.MethodName) prog_23_method_2_code (2 : Nat) (Option.none : Option Jvm.ClassFile.FieldType)) ∈ lw_all := lw_g (lw_at lw_m4 231 rfl) rfl
theorem q1037 : (Jvm.Cond.methodLink "java/lang/Exception" (7 : Nat) ({ cls := "java/lang/Throwable", name := "<init>", desc := "(Ljava/lang/String;)V" } : Jvm.MethodName)) ∈ lw_all := lw_g (lw_at lw_m4 232 rfl) rfl

/-! java/lang/String -/
set_option maxRecDepth 100000
def RJ3 : String := "java/lang/String"
def TJ3 : u_T := fun k => match k with
  | 0 => ("java/lang/String", "value", "[B", true)
  | _ => ("java/lang/String", "coder", "B", true)
def tyJ3 : Nat → FieldType := fun k => match k with
  | 0 => .array .byte
  | _ => .byte
abbrev wsJ30 : List Cond := u_ws RJ3 TJ3 2
theorem nmJ3 : ∀ a, a < 2 → ∀ b, b < 2 → a ≠ b → (TJ3 a).2.1 ≠ (TJ3 b).2.1 := by decide +kernel
theorem tyJ3_ok : ∀ k, k < 2 → parseFieldDescriptor (TJ3 k).2.2.1 = some (tyJ3 k) := by decide +kernel
abbrev cJ3_indexOf : ByteArray := prog_28_method_79_code
def yJ3_indexOf : MethodName := ⟨RJ3, "indexOf", "(I)I"⟩
def dkwJ3_indexOf_0 : List UInt8 := [42, 27, 3, 182, 2, 121, 172]
abbrev dktJ3_indexOf_0 : List UInt8 := dkwJ3_indexOf_0 ++ []
theorem dksJ3_indexOf_0 : cJ3_indexOf.data.toList.drop 0 = dktJ3_indexOf_0 := by decide +kernel
theorem dJ3_indexOf_0 : decode cJ3_indexOf 0 = .ok (.aload_n 0, 1) := dk_42 (dk_at dksJ3_indexOf_0 0 rfl rfl)
theorem dJ3_indexOf_1 : decode cJ3_indexOf 1 = .ok (.iload_n 1, 1) := dk_27 (dk_at dksJ3_indexOf_0 1 rfl rfl)
theorem dJ3_indexOf_2 : decode cJ3_indexOf 2 = .ok (.iconst 0, 1) := dk_3 (dk_at dksJ3_indexOf_0 2 rfl rfl)
theorem dJ3_indexOf_3 : decode cJ3_indexOf 3 = .ok (.invokevirtual 633, 3) := dk_182 2 121 (dk_at dksJ3_indexOf_0 3 rfl rfl)
theorem dJ3_indexOf_6 : decode cJ3_indexOf 6 = .ok (.ireturn, 1) := dk_172 (dk_at dksJ3_indexOf_0 6 rfl rfl)
abbrev cJ3_indexOf_2 : ByteArray := prog_28_method_80_code
def yJ3_indexOf_2 : MethodName := ⟨RJ3, "indexOf", "(II)I"⟩
def dkwJ3_indexOf_2_1 : List UInt8 := [180, 0, 9, 27, 28, 42, 182, 1, 249, 184, 2, 128, 172]
abbrev dktJ3_indexOf_2_1 : List UInt8 := dkwJ3_indexOf_2_1 ++ []
def dkwJ3_indexOf_2_0 : List UInt8 := [42, 182, 1, 236, 153, 0, 19, 42, 180, 0, 9, 27, 28, 42, 182, 1, 249, 184, 2, 125, 167, 0, 16, 42]
abbrev dktJ3_indexOf_2_0 : List UInt8 := dkwJ3_indexOf_2_0 ++ dktJ3_indexOf_2_1
theorem dksJ3_indexOf_2_0 : cJ3_indexOf_2.data.toList.drop 0 = dktJ3_indexOf_2_0 := by decide +kernel
theorem dksJ3_indexOf_2_1 : cJ3_indexOf_2.data.toList.drop 24 = dktJ3_indexOf_2_1 := dk_seg dksJ3_indexOf_2_0 24 rfl rfl
theorem dJ3_indexOf_2_0 : decode cJ3_indexOf_2 0 = .ok (.aload_n 0, 1) := dk_42 (dk_at dksJ3_indexOf_2_0 0 rfl rfl)
theorem dJ3_indexOf_2_1 : decode cJ3_indexOf_2 1 = .ok (.invokevirtual 492, 3) := dk_182 1 236 (dk_at dksJ3_indexOf_2_0 1 rfl rfl)
theorem dJ3_indexOf_2_4 : decode cJ3_indexOf_2 4 = .ok (.ifCond .eq 19, 3) := dk_153 0 19 (dk_at dksJ3_indexOf_2_0 4 rfl rfl)
theorem dJ3_indexOf_2_7 : decode cJ3_indexOf_2 7 = .ok (.aload_n 0, 1) := dk_42 (dk_at dksJ3_indexOf_2_0 7 rfl rfl)
theorem dJ3_indexOf_2_8 : decode cJ3_indexOf_2 8 = .ok (.getfield 9, 3) := dk_180 0 9 (dk_at dksJ3_indexOf_2_0 8 rfl rfl)
theorem dJ3_indexOf_2_11 : decode cJ3_indexOf_2 11 = .ok (.iload_n 1, 1) := dk_27 (dk_at dksJ3_indexOf_2_0 11 rfl rfl)
theorem dJ3_indexOf_2_12 : decode cJ3_indexOf_2 12 = .ok (.iload_n 2, 1) := dk_28 (dk_at dksJ3_indexOf_2_0 12 rfl rfl)
theorem dJ3_indexOf_2_13 : decode cJ3_indexOf_2 13 = .ok (.aload_n 0, 1) := dk_42 (dk_at dksJ3_indexOf_2_0 13 rfl rfl)
theorem dJ3_indexOf_2_14 : decode cJ3_indexOf_2 14 = .ok (.invokevirtual 505, 3) := dk_182 1 249 (dk_at dksJ3_indexOf_2_0 14 rfl rfl)
theorem dJ3_indexOf_2_17 : decode cJ3_indexOf_2 17 = .ok (.invokestatic 637, 3) := dk_184 2 125 (dk_at dksJ3_indexOf_2_0 17 rfl rfl)
theorem dJ3_indexOf_2_20 : decode cJ3_indexOf_2 20 = .ok (.goto 16, 3) := dk_167 0 16 (dk_at dksJ3_indexOf_2_0 20 rfl rfl)
theorem dJ3_indexOf_2_23 : decode cJ3_indexOf_2 23 = .ok (.aload_n 0, 1) := dk_42 (dk_at dksJ3_indexOf_2_0 23 rfl rfl)
theorem dJ3_indexOf_2_24 : decode cJ3_indexOf_2 24 = .ok (.getfield 9, 3) := dk_180 0 9 (dk_at dksJ3_indexOf_2_1 0 rfl rfl)
theorem dJ3_indexOf_2_27 : decode cJ3_indexOf_2 27 = .ok (.iload_n 1, 1) := dk_27 (dk_at dksJ3_indexOf_2_1 3 rfl rfl)
theorem dJ3_indexOf_2_28 : decode cJ3_indexOf_2 28 = .ok (.iload_n 2, 1) := dk_28 (dk_at dksJ3_indexOf_2_1 4 rfl rfl)
theorem dJ3_indexOf_2_29 : decode cJ3_indexOf_2 29 = .ok (.aload_n 0, 1) := dk_42 (dk_at dksJ3_indexOf_2_1 5 rfl rfl)
theorem dJ3_indexOf_2_30 : decode cJ3_indexOf_2 30 = .ok (.invokevirtual 505, 3) := dk_182 1 249 (dk_at dksJ3_indexOf_2_1 6 rfl rfl)
theorem dJ3_indexOf_2_33 : decode cJ3_indexOf_2 33 = .ok (.invokestatic 640, 3) := dk_184 2 128 (dk_at dksJ3_indexOf_2_1 9 rfl rfl)
theorem dJ3_indexOf_2_36 : decode cJ3_indexOf_2 36 = .ok (.ireturn, 1) := dk_172 (dk_at dksJ3_indexOf_2_1 12 rfl rfl)
abbrev cJ3_isLatin1 : ByteArray := prog_28_method_154_code
def yJ3_isLatin1 : MethodName := ⟨RJ3, "isLatin1", "()Z"⟩
def dkwJ3_isLatin1_0 : List UInt8 := [178, 0, 38, 153, 0, 14, 42, 180, 0, 15, 154, 0, 7, 4, 167, 0, 4, 3, 172]
abbrev dktJ3_isLatin1_0 : List UInt8 := dkwJ3_isLatin1_0 ++ []
theorem dksJ3_isLatin1_0 : cJ3_isLatin1.data.toList.drop 0 = dktJ3_isLatin1_0 := by decide +kernel
theorem dJ3_isLatin1_0 : decode cJ3_isLatin1 0 = .ok (.getstatic 38, 3) := dk_178 0 38 (dk_at dksJ3_isLatin1_0 0 rfl rfl)
theorem dJ3_isLatin1_3 : decode cJ3_isLatin1 3 = .ok (.ifCond .eq 14, 3) := dk_153 0 14 (dk_at dksJ3_isLatin1_0 3 rfl rfl)
theorem dJ3_isLatin1_6 : decode cJ3_isLatin1 6 = .ok (.aload_n 0, 1) := dk_42 (dk_at dksJ3_isLatin1_0 6 rfl rfl)
theorem dJ3_isLatin1_7 : decode cJ3_isLatin1 7 = .ok (.getfield 15, 3) := dk_180 0 15 (dk_at dksJ3_isLatin1_0 7 rfl rfl)
theorem dJ3_isLatin1_10 : decode cJ3_isLatin1 10 = .ok (.ifCond .ne 7, 3) := dk_154 0 7 (dk_at dksJ3_isLatin1_0 10 rfl rfl)
theorem dJ3_isLatin1_13 : decode cJ3_isLatin1 13 = .ok (.iconst 1, 1) := dk_4 (dk_at dksJ3_isLatin1_0 13 rfl rfl)
theorem dJ3_isLatin1_14 : decode cJ3_isLatin1 14 = .ok (.goto 4, 3) := dk_167 0 4 (dk_at dksJ3_isLatin1_0 14 rfl rfl)
theorem dJ3_isLatin1_17 : decode cJ3_isLatin1 17 = .ok (.iconst 0, 1) := dk_3 (dk_at dksJ3_isLatin1_0 17 rfl rfl)
theorem dJ3_isLatin1_18 : decode cJ3_isLatin1 18 = .ok (.ireturn, 1) := dk_172 (dk_at dksJ3_isLatin1_0 18 rfl rfl)
abbrev cJ3_length : ByteArray := prog_28_method_54_code
def yJ3_length : MethodName := ⟨RJ3, "length", "()I"⟩
def dkwJ3_length_0 : List UInt8 := [42, 180, 0, 9, 190, 42, 182, 1, 79, 122, 172]
abbrev dktJ3_length_0 : List UInt8 := dkwJ3_length_0 ++ []
theorem dksJ3_length_0 : cJ3_length.data.toList.drop 0 = dktJ3_length_0 := by decide +kernel
theorem dJ3_length_0 : decode cJ3_length 0 = .ok (.aload_n 0, 1) := dk_42 (dk_at dksJ3_length_0 0 rfl rfl)
theorem dJ3_length_1 : decode cJ3_length 1 = .ok (.getfield 9, 3) := dk_180 0 9 (dk_at dksJ3_length_0 1 rfl rfl)
theorem dJ3_length_4 : decode cJ3_length 4 = .ok (.arraylength, 1) := dk_190 (dk_at dksJ3_length_0 4 rfl rfl)
theorem dJ3_length_5 : decode cJ3_length 5 = .ok (.aload_n 0, 1) := dk_42 (dk_at dksJ3_length_0 5 rfl rfl)
theorem dJ3_length_6 : decode cJ3_length 6 = .ok (.invokevirtual 335, 3) := dk_182 1 79 (dk_at dksJ3_length_0 6 rfl rfl)
theorem dJ3_length_9 : decode cJ3_length 9 = .ok (.ishr, 1) := dk_122 (dk_at dksJ3_length_0 9 rfl rfl)
theorem dJ3_length_10 : decode cJ3_length 10 = .ok (.ireturn, 1) := dk_172 (dk_at dksJ3_length_0 10 rfl rfl)
abbrev cJ3_coder : ByteArray := prog_28_method_152_code
def yJ3_coder : MethodName := ⟨RJ3, "coder", "()B"⟩
def dkwJ3_coder_0 : List UInt8 := [178, 0, 38, 153, 0, 10, 42, 180, 0, 15, 167, 0, 4, 4, 172]
abbrev dktJ3_coder_0 : List UInt8 := dkwJ3_coder_0 ++ []
theorem dksJ3_coder_0 : cJ3_coder.data.toList.drop 0 = dktJ3_coder_0 := by decide +kernel
theorem dJ3_coder_0 : decode cJ3_coder 0 = .ok (.getstatic 38, 3) := dk_178 0 38 (dk_at dksJ3_coder_0 0 rfl rfl)
theorem dJ3_coder_3 : decode cJ3_coder 3 = .ok (.ifCond .eq 10, 3) := dk_153 0 10 (dk_at dksJ3_coder_0 3 rfl rfl)
theorem dJ3_coder_6 : decode cJ3_coder 6 = .ok (.aload_n 0, 1) := dk_42 (dk_at dksJ3_coder_0 6 rfl rfl)
theorem dJ3_coder_7 : decode cJ3_coder 7 = .ok (.getfield 15, 3) := dk_180 0 15 (dk_at dksJ3_coder_0 7 rfl rfl)
theorem dJ3_coder_10 : decode cJ3_coder 10 = .ok (.goto 4, 3) := dk_167 0 4 (dk_at dksJ3_coder_0 10 rfl rfl)
theorem dJ3_coder_13 : decode cJ3_coder 13 = .ok (.iconst 1, 1) := dk_4 (dk_at dksJ3_coder_0 13 rfl rfl)
theorem dJ3_coder_14 : decode cJ3_coder 14 = .ok (.ireturn, 1) := dk_172 (dk_at dksJ3_coder_0 14 rfl rfl)
abbrev cJ3_checkBoundsBeginEnd : ByteArray := prog_28_method_158_code
def yJ3_checkBoundsBeginEnd : MethodName := ⟨RJ3, "checkBoundsBeginEnd", "(III)V"⟩
def dkwJ3_checkBoundsBeginEnd_0 : List UInt8 := [26, 27, 28, 178, 4, 29, 184, 4, 38, 87, 177]
abbrev dktJ3_checkBoundsBeginEnd_0 : List UInt8 := dkwJ3_checkBoundsBeginEnd_0 ++ []
theorem dksJ3_checkBoundsBeginEnd_0 : cJ3_checkBoundsBeginEnd.data.toList.drop 0 = dktJ3_checkBoundsBeginEnd_0 := by decide +kernel
theorem dJ3_checkBoundsBeginEnd_0 : decode cJ3_checkBoundsBeginEnd 0 = .ok (.iload_n 0, 1) := dk_26 (dk_at dksJ3_checkBoundsBeginEnd_0 0 rfl rfl)
theorem dJ3_checkBoundsBeginEnd_1 : decode cJ3_checkBoundsBeginEnd 1 = .ok (.iload_n 1, 1) := dk_27 (dk_at dksJ3_checkBoundsBeginEnd_0 1 rfl rfl)
theorem dJ3_checkBoundsBeginEnd_2 : decode cJ3_checkBoundsBeginEnd 2 = .ok (.iload_n 2, 1) := dk_28 (dk_at dksJ3_checkBoundsBeginEnd_0 2 rfl rfl)
theorem dJ3_checkBoundsBeginEnd_3 : decode cJ3_checkBoundsBeginEnd 3 = .ok (.getstatic 1053, 3) := dk_178 4 29 (dk_at dksJ3_checkBoundsBeginEnd_0 3 rfl rfl)
theorem dJ3_checkBoundsBeginEnd_6 : decode cJ3_checkBoundsBeginEnd 6 = .ok (.invokestatic 1062, 3) := dk_184 4 38 (dk_at dksJ3_checkBoundsBeginEnd_0 6 rfl rfl)
theorem dJ3_checkBoundsBeginEnd_9 : decode cJ3_checkBoundsBeginEnd 9 = .ok (.pop, 1) := dk_87 (dk_at dksJ3_checkBoundsBeginEnd_0 9 rfl rfl)
theorem dJ3_checkBoundsBeginEnd_10 : decode cJ3_checkBoundsBeginEnd 10 = .ok (.return_, 1) := dk_177 (dk_at dksJ3_checkBoundsBeginEnd_0 10 rfl rfl)
theorem q104 : (Jvm.Cond.initialized "java/lang/String") ∈ lw_all := lw_g (lw_at lw_m1 19 rfl) rfl
theorem q776 : (Jvm.Cond.instanceMethod ({ cls := "java/lang/String", name := "indexOf", desc := "(I)I" } : Jvm.MethodName)) ∈ lw_all := lw_g (lw_at lw_m3 211 rfl) rfl
theorem q777 : (Jvm.Cond.selects "java/lang/String" ({ cls := "java/lang/String", name := "indexOf", desc := "(I)I" } : Jvm.MethodName) ({ cls := "java/lang/String", name := "indexOf", desc := "(I)I" } : Jvm.MethodName)) ∈ lw_all := lw_g (lw_at lw_m3 212 rfl) rfl
theorem q778 : (Jvm.Cond.code ({ cls := "java/lang/String", name := "indexOf", desc := "(I)I" } : Jvm.MethodName) prog_28_method_79_code (2 : Nat) (Option.some Jvm.ClassFile.FieldType.int)) ∈ lw_all := lw_g (lw_at lw_m3 213 rfl) rfl
theorem q779 : (Jvm.Cond.methodLink "java/lang/String" (633 : Nat) ({ cls := "java/lang/String", name := "indexOf", desc := "(II)I" } : Jvm.MethodName)) ∈ lw_all := lw_g (lw_at lw_m3 214 rfl) rfl
theorem q780 : (Jvm.Cond.instanceMethod ({ cls := "java/lang/String", name := "indexOf", desc := "(II)I" } : Jvm.MethodName)) ∈ lw_all := lw_g (lw_at lw_m3 215 rfl) rfl
theorem q781 : (Jvm.Cond.selects "java/lang/String" ({ cls := "java/lang/String", name := "indexOf", desc := "(II)I" } : Jvm.MethodName) ({ cls := "java/lang/String", name := "indexOf", desc := "(II)I" } : Jvm.MethodName)) ∈ lw_all := lw_g (lw_at lw_m3 216 rfl) rfl
theorem q782 : (Jvm.Cond.code ({ cls := "java/lang/String", name := "indexOf", desc := "(II)I" } : Jvm.MethodName) prog_28_method_80_code (3 : Nat) (Option.some Jvm.ClassFile.FieldType.int)) ∈ lw_all := lw_g (lw_at lw_m3 217 rfl) rfl
theorem q783 : (Jvm.Cond.methodLink "java/lang/String" (492 : Nat) ({ cls := "java/lang/String", name := "isLatin1", desc := "()Z" } : Jvm.MethodName)) ∈ lw_all := lw_g (lw_at lw_m3 218 rfl) rfl
theorem q784 : (Jvm.Cond.instanceMethod ({ cls := "java/lang/String", name := "isLatin1", desc := "()Z" } : Jvm.MethodName)) ∈ lw_all := lw_g (lw_at lw_m3 219 rfl) rfl
theorem q785 : (Jvm.Cond.selects "java/lang/String" ({ cls := "java/lang/String", name := "isLatin1", desc := "()Z" } : Jvm.MethodName) ({ cls := "java/lang/String", name := "isLatin1", desc := "()Z" } : Jvm.MethodName)) ∈ lw_all := lw_g (lw_at lw_m3 220 rfl) rfl
theorem q786 : (Jvm.Cond.code ({ cls := "java/lang/String", name := "isLatin1", desc := "()Z" } : Jvm.MethodName) prog_28_method_154_code (1 : Nat) (Option.some Jvm.ClassFile.FieldType.boolean)) ∈ lw_all := lw_g (lw_at lw_m3 221 rfl) rfl
theorem q787 : (Jvm.Cond.fieldLink "java/lang/String" (38 : Nat) "java/lang/String" "COMPACT_STRINGS" "Z") ∈ lw_all := lw_g (lw_at lw_m3 222 rfl) rfl
theorem q788 : (Jvm.Cond.laysStatic "java/lang/String" "COMPACT_STRINGS" "Z") ∈ lw_tbl := lw_at lw_m3 223 rfl
theorem q789 : (Jvm.Cond.methodLink "java/lang/String" (505 : Nat) ({ cls := "java/lang/String", name := "length", desc := "()I" } : Jvm.MethodName)) ∈ lw_all := lw_g (lw_at lw_m3 224 rfl) rfl
theorem q790 : (Jvm.Cond.instanceMethod ({ cls := "java/lang/String", name := "length", desc := "()I" } : Jvm.MethodName)) ∈ lw_all := lw_g (lw_at lw_m3 225 rfl) rfl
theorem q791 : (Jvm.Cond.selects "java/lang/String" ({ cls := "java/lang/String", name := "length", desc := "()I" } : Jvm.MethodName) ({ cls := "java/lang/String", name := "length", desc := "()I" } : Jvm.MethodName)) ∈ lw_all := lw_g (lw_at lw_m3 226 rfl) rfl
theorem q792 : (Jvm.Cond.code ({ cls := "java/lang/String", name := "length", desc := "()I" } : Jvm.MethodName) prog_28_method_54_code (1 : Nat) (Option.some Jvm.ClassFile.FieldType.int)) ∈ lw_all := lw_g (lw_at lw_m3 227 rfl) rfl
theorem q793 : (Jvm.Cond.methodLink "java/lang/String" (335 : Nat) ({ cls := "java/lang/String", name := "coder", desc := "()B" } : Jvm.MethodName)) ∈ lw_all := lw_g (lw_at lw_m3 228 rfl) rfl
theorem q794 : (Jvm.Cond.instanceMethod ({ cls := "java/lang/String", name := "coder", desc := "()B" } : Jvm.MethodName)) ∈ lw_all := lw_g (lw_at lw_m3 229 rfl) rfl
theorem q795 : (Jvm.Cond.selects "java/lang/String" ({ cls := "java/lang/String", name := "coder", desc := "()B" } : Jvm.MethodName) ({ cls := "java/lang/String", name := "coder", desc := "()B" } : Jvm.MethodName)) ∈ lw_all := lw_g (lw_at lw_m3 230 rfl) rfl
theorem q796 : (Jvm.Cond.code ({ cls := "java/lang/String", name := "coder", desc := "()B" } : Jvm.MethodName) prog_28_method_152_code (1 : Nat) (Option.some Jvm.ClassFile.FieldType.byte)) ∈ lw_all := lw_g (lw_at lw_m3 231 rfl) rfl
theorem q797 : (Jvm.Cond.methodLink "java/lang/String" (637 : Nat) ({ cls := "java/lang/StringLatin1", name := "indexOf", desc := "([BIII)I" } : Jvm.MethodName)) ∈ lw_all := lw_g (lw_at lw_m3 232 rfl) rfl
theorem q808 : (Jvm.Cond.methodLink "java/lang/String" (640 : Nat) ({ cls := "java/lang/StringUTF16", name := "indexOf", desc := "([BIII)I" } : Jvm.MethodName)) ∈ lw_all := lw_g (lw_at lw_m4 3 rfl) rfl
theorem q824 : (Jvm.Cond.static ({ cls := "java/lang/String", name := "checkBoundsBeginEnd", desc := "(III)V" } : Jvm.MethodName)) ∈ lw_all := lw_g (lw_at lw_m4 19 rfl) rfl
theorem q825 : (Jvm.Cond.code ({ cls := "java/lang/String", name := "checkBoundsBeginEnd", desc := "(III)V" } : Jvm.MethodName) prog_28_method_158_code (3 : Nat) (Option.none : Option Jvm.ClassFile.FieldType)) ∈ lw_all := lw_g (lw_at lw_m4 20 rfl) rfl
theorem q826 : (Jvm.Cond.fieldLink "java/lang/String" (1053 : Nat) "jdk/internal/util/Preconditions" "SIOOBE_FORMATTER" "Ljava/util/function/BiFunction;") ∈ lw_all := lw_g (lw_at lw_m4 21 rfl) rfl
theorem q828 : (Jvm.Cond.methodLink "java/lang/String" (1062 : Nat) ({ cls := "jdk/internal/util/Preconditions", name := "checkFromToIndex", desc := "(IIILjava/util/function/BiFunction;)I" } : Jvm.MethodName)) ∈ lw_all := lw_g (lw_at lw_m4 23 rfl) rfl
theorem q1051 : (Jvm.Cond.instantiable "java/lang/String" (4 : Nat)) ∈ lw_all := lw_g (lw_at lw_m5 6 rfl) rfl
theorem q1052 : (Jvm.Cond.laysFinal "java/lang/String" "java/lang/String" "value" "[B") ∈ lw_all := lw_g (lw_at lw_m5 7 rfl) rfl
theorem q1053 : (Jvm.Cond.soleField "java/lang/String" "value") ∈ lw_all := lw_g (lw_at lw_m5 8 rfl) rfl
theorem q1054 : (Jvm.Cond.laysFinal "java/lang/String" "java/lang/String" "coder" "B") ∈ lw_all := lw_g (lw_at lw_m5 9 rfl) rfl
theorem q1055 : (Jvm.Cond.soleField "java/lang/String" "coder") ∈ lw_all := lw_g (lw_at lw_m5 10 rfl) rfl
theorem q1767 : (Jvm.Cond.fieldLink "java/lang/String" (15 : Nat) "java/lang/String" "coder" "B") ∈ lw_all := lw_g (lw_at lw_m8 2 rfl) rfl
theorem q1768 : (Jvm.Cond.fieldLink "java/lang/String" (9 : Nat) "java/lang/String" "value" "[B") ∈ lw_all := lw_g (lw_at lw_m8 3 rfl) rfl
theorem in_J3 : ∀ w ∈ wsJ30, w ∈ lw_all := lw_in wsJ30 [1052, 1054] (by decide +kernel) (by decide +kernel)

/-! java/lang/StringLatin1 -/
set_option maxRecDepth 100000
def RJ4 : String := "java/lang/StringLatin1"
abbrev cJ4_indexOf : ByteArray := prog_29_method_22_code
def yJ4_indexOf : MethodName := ⟨RJ4, "indexOf", "([BIII)I"⟩
def dkwJ4_indexOf_1 : List UInt8 := [161, 0, 5, 2, 172, 42, 27, 28, 29, 184, 0, 95, 172]
abbrev dktJ4_indexOf_1 : List UInt8 := dkwJ4_indexOf_1 ++ []
def dkwJ4_indexOf_0 : List UInt8 := [27, 184, 0, 88, 154, 0, 5, 2, 172, 28, 3, 184, 0, 92, 61, 29, 42, 190, 184, 0, 38, 62, 28, 29]
abbrev dktJ4_indexOf_0 : List UInt8 := dkwJ4_indexOf_0 ++ dktJ4_indexOf_1
theorem dksJ4_indexOf_0 : cJ4_indexOf.data.toList.drop 0 = dktJ4_indexOf_0 := by decide +kernel
theorem dksJ4_indexOf_1 : cJ4_indexOf.data.toList.drop 24 = dktJ4_indexOf_1 := dk_seg dksJ4_indexOf_0 24 rfl rfl
theorem dJ4_indexOf_0 : decode cJ4_indexOf 0 = .ok (.iload_n 1, 1) := dk_27 (dk_at dksJ4_indexOf_0 0 rfl rfl)
theorem dJ4_indexOf_1 : decode cJ4_indexOf 1 = .ok (.invokestatic 88, 3) := dk_184 0 88 (dk_at dksJ4_indexOf_0 1 rfl rfl)
theorem dJ4_indexOf_4 : decode cJ4_indexOf 4 = .ok (.ifCond .ne 5, 3) := dk_154 0 5 (dk_at dksJ4_indexOf_0 4 rfl rfl)
theorem dJ4_indexOf_7 : decode cJ4_indexOf 7 = .ok (.iconst (-1), 1) := dk_2 (dk_at dksJ4_indexOf_0 7 rfl rfl)
theorem dJ4_indexOf_8 : decode cJ4_indexOf 8 = .ok (.ireturn, 1) := dk_172 (dk_at dksJ4_indexOf_0 8 rfl rfl)
theorem dJ4_indexOf_9 : decode cJ4_indexOf 9 = .ok (.iload_n 2, 1) := dk_28 (dk_at dksJ4_indexOf_0 9 rfl rfl)
theorem dJ4_indexOf_10 : decode cJ4_indexOf 10 = .ok (.iconst 0, 1) := dk_3 (dk_at dksJ4_indexOf_0 10 rfl rfl)
theorem dJ4_indexOf_11 : decode cJ4_indexOf 11 = .ok (.invokestatic 92, 3) := dk_184 0 92 (dk_at dksJ4_indexOf_0 11 rfl rfl)
theorem dJ4_indexOf_14 : decode cJ4_indexOf 14 = .ok (.istore_n 2, 1) := dk_61 (dk_at dksJ4_indexOf_0 14 rfl rfl)
theorem dJ4_indexOf_15 : decode cJ4_indexOf 15 = .ok (.iload_n 3, 1) := dk_29 (dk_at dksJ4_indexOf_0 15 rfl rfl)
theorem dJ4_indexOf_16 : decode cJ4_indexOf 16 = .ok (.aload_n 0, 1) := dk_42 (dk_at dksJ4_indexOf_0 16 rfl rfl)
theorem dJ4_indexOf_17 : decode cJ4_indexOf 17 = .ok (.arraylength, 1) := dk_190 (dk_at dksJ4_indexOf_0 17 rfl rfl)
theorem dJ4_indexOf_18 : decode cJ4_indexOf 18 = .ok (.invokestatic 38, 3) := dk_184 0 38 (dk_at dksJ4_indexOf_0 18 rfl rfl)
theorem dJ4_indexOf_21 : decode cJ4_indexOf 21 = .ok (.istore_n 3, 1) := dk_62 (dk_at dksJ4_indexOf_0 21 rfl rfl)
theorem dJ4_indexOf_22 : decode cJ4_indexOf 22 = .ok (.iload_n 2, 1) := dk_28 (dk_at dksJ4_indexOf_0 22 rfl rfl)
theorem dJ4_indexOf_23 : decode cJ4_indexOf 23 = .ok (.iload_n 3, 1) := dk_29 (dk_at dksJ4_indexOf_0 23 rfl rfl)
theorem dJ4_indexOf_24 : decode cJ4_indexOf 24 = .ok (.if_icmp .lt 5, 3) := dk_161 0 5 (dk_at dksJ4_indexOf_1 0 rfl rfl)
theorem dJ4_indexOf_27 : decode cJ4_indexOf 27 = .ok (.iconst (-1), 1) := dk_2 (dk_at dksJ4_indexOf_1 3 rfl rfl)
theorem dJ4_indexOf_28 : decode cJ4_indexOf 28 = .ok (.ireturn, 1) := dk_172 (dk_at dksJ4_indexOf_1 4 rfl rfl)
theorem dJ4_indexOf_29 : decode cJ4_indexOf 29 = .ok (.aload_n 0, 1) := dk_42 (dk_at dksJ4_indexOf_1 5 rfl rfl)
theorem dJ4_indexOf_30 : decode cJ4_indexOf 30 = .ok (.iload_n 1, 1) := dk_27 (dk_at dksJ4_indexOf_1 6 rfl rfl)
theorem dJ4_indexOf_31 : decode cJ4_indexOf 31 = .ok (.iload_n 2, 1) := dk_28 (dk_at dksJ4_indexOf_1 7 rfl rfl)
theorem dJ4_indexOf_32 : decode cJ4_indexOf 32 = .ok (.iload_n 3, 1) := dk_29 (dk_at dksJ4_indexOf_1 8 rfl rfl)
theorem dJ4_indexOf_33 : decode cJ4_indexOf 33 = .ok (.invokestatic 95, 3) := dk_184 0 95 (dk_at dksJ4_indexOf_1 9 rfl rfl)
theorem dJ4_indexOf_36 : decode cJ4_indexOf 36 = .ok (.ireturn, 1) := dk_172 (dk_at dksJ4_indexOf_1 12 rfl rfl)
abbrev cJ4_canEncode : ByteArray := prog_29_method_4_code
def yJ4_canEncode : MethodName := ⟨RJ4, "canEncode", "(I)Z"⟩
def dkwJ4_canEncode_0 : List UInt8 := [26, 155, 0, 14, 26, 17, 0, 255, 163, 0, 7, 4, 167, 0, 4, 3, 172]
abbrev dktJ4_canEncode_0 : List UInt8 := dkwJ4_canEncode_0 ++ []
theorem dksJ4_canEncode_0 : cJ4_canEncode.data.toList.drop 0 = dktJ4_canEncode_0 := by decide +kernel
theorem dJ4_canEncode_0 : decode cJ4_canEncode 0 = .ok (.iload_n 0, 1) := dk_26 (dk_at dksJ4_canEncode_0 0 rfl rfl)
theorem dJ4_canEncode_1 : decode cJ4_canEncode 1 = .ok (.ifCond .lt 14, 3) := dk_155 0 14 (dk_at dksJ4_canEncode_0 1 rfl rfl)
theorem dJ4_canEncode_4 : decode cJ4_canEncode 4 = .ok (.iload_n 0, 1) := dk_26 (dk_at dksJ4_canEncode_0 4 rfl rfl)
theorem dJ4_canEncode_5 : decode cJ4_canEncode 5 = .ok (.sipush 255, 3) := dk_17 0 255 (dk_at dksJ4_canEncode_0 5 rfl rfl)
theorem dJ4_canEncode_8 : decode cJ4_canEncode 8 = .ok (.if_icmp .gt 7, 3) := dk_163 0 7 (dk_at dksJ4_canEncode_0 8 rfl rfl)
theorem dJ4_canEncode_11 : decode cJ4_canEncode 11 = .ok (.iconst 1, 1) := dk_4 (dk_at dksJ4_canEncode_0 11 rfl rfl)
theorem dJ4_canEncode_12 : decode cJ4_canEncode 12 = .ok (.goto 4, 3) := dk_167 0 4 (dk_at dksJ4_canEncode_0 12 rfl rfl)
theorem dJ4_canEncode_15 : decode cJ4_canEncode 15 = .ok (.iconst 0, 1) := dk_3 (dk_at dksJ4_canEncode_0 15 rfl rfl)
theorem dJ4_canEncode_16 : decode cJ4_canEncode 16 = .ok (.ireturn, 1) := dk_172 (dk_at dksJ4_canEncode_0 16 rfl rfl)
abbrev cJ4_indexOfChar : ByteArray := prog_29_method_23_code
def yJ4_indexOfChar : MethodName := ⟨RJ4, "indexOfChar", "([BIII)I"⟩
def dkwJ4_indexOfChar_1 : List UInt8 := [172, 132, 5, 1, 167, 255, 235, 2, 172]
abbrev dktJ4_indexOfChar_1 : List UInt8 := dkwJ4_indexOfChar_1 ++ []
def dkwJ4_indexOfChar_0 : List UInt8 := [27, 145, 54, 4, 28, 54, 5, 21, 5, 29, 162, 0, 21, 42, 21, 5, 51, 21, 4, 160, 0, 6, 21, 5]
abbrev dktJ4_indexOfChar_0 : List UInt8 := dkwJ4_indexOfChar_0 ++ dktJ4_indexOfChar_1
theorem dksJ4_indexOfChar_0 : cJ4_indexOfChar.data.toList.drop 0 = dktJ4_indexOfChar_0 := by decide +kernel
theorem dksJ4_indexOfChar_1 : cJ4_indexOfChar.data.toList.drop 24 = dktJ4_indexOfChar_1 := dk_seg dksJ4_indexOfChar_0 24 rfl rfl
theorem dJ4_indexOfChar_0 : decode cJ4_indexOfChar 0 = .ok (.iload_n 1, 1) := dk_27 (dk_at dksJ4_indexOfChar_0 0 rfl rfl)
theorem dJ4_indexOfChar_1 : decode cJ4_indexOfChar 1 = .ok (.i2b, 1) := dk_145 (dk_at dksJ4_indexOfChar_0 1 rfl rfl)
theorem dJ4_indexOfChar_2 : decode cJ4_indexOfChar 2 = .ok (.istore 4, 2) := dk_54 4 (dk_at dksJ4_indexOfChar_0 2 rfl rfl)
theorem dJ4_indexOfChar_4 : decode cJ4_indexOfChar 4 = .ok (.iload_n 2, 1) := dk_28 (dk_at dksJ4_indexOfChar_0 4 rfl rfl)
theorem dJ4_indexOfChar_5 : decode cJ4_indexOfChar 5 = .ok (.istore 5, 2) := dk_54 5 (dk_at dksJ4_indexOfChar_0 5 rfl rfl)
theorem dJ4_indexOfChar_7 : decode cJ4_indexOfChar 7 = .ok (.iload 5, 2) := dk_21 5 (dk_at dksJ4_indexOfChar_0 7 rfl rfl)
theorem dJ4_indexOfChar_9 : decode cJ4_indexOfChar 9 = .ok (.iload_n 3, 1) := dk_29 (dk_at dksJ4_indexOfChar_0 9 rfl rfl)
theorem dJ4_indexOfChar_10 : decode cJ4_indexOfChar 10 = .ok (.if_icmp .ge 21, 3) := dk_162 0 21 (dk_at dksJ4_indexOfChar_0 10 rfl rfl)
theorem dJ4_indexOfChar_13 : decode cJ4_indexOfChar 13 = .ok (.aload_n 0, 1) := dk_42 (dk_at dksJ4_indexOfChar_0 13 rfl rfl)
theorem dJ4_indexOfChar_14 : decode cJ4_indexOfChar 14 = .ok (.iload 5, 2) := dk_21 5 (dk_at dksJ4_indexOfChar_0 14 rfl rfl)
theorem dJ4_indexOfChar_16 : decode cJ4_indexOfChar 16 = .ok (.baload, 1) := dk_51 (dk_at dksJ4_indexOfChar_0 16 rfl rfl)
theorem dJ4_indexOfChar_17 : decode cJ4_indexOfChar 17 = .ok (.iload 4, 2) := dk_21 4 (dk_at dksJ4_indexOfChar_0 17 rfl rfl)
theorem dJ4_indexOfChar_19 : decode cJ4_indexOfChar 19 = .ok (.if_icmp .ne 6, 3) := dk_160 0 6 (dk_at dksJ4_indexOfChar_0 19 rfl rfl)
theorem dJ4_indexOfChar_22 : decode cJ4_indexOfChar 22 = .ok (.iload 5, 2) := dk_21 5 (dk_at dksJ4_indexOfChar_0 22 rfl rfl)
theorem dJ4_indexOfChar_24 : decode cJ4_indexOfChar 24 = .ok (.ireturn, 1) := dk_172 (dk_at dksJ4_indexOfChar_1 0 rfl rfl)
theorem dJ4_indexOfChar_25 : decode cJ4_indexOfChar 25 = .ok (.iinc 5 1, 3) := dk_132 5 1 (dk_at dksJ4_indexOfChar_1 1 rfl rfl)
theorem dJ4_indexOfChar_28 : decode cJ4_indexOfChar 28 = .ok (.goto (-21), 3) := dk_167 255 235 (dk_at dksJ4_indexOfChar_1 4 rfl rfl)
theorem dJ4_indexOfChar_31 : decode cJ4_indexOfChar 31 = .ok (.iconst (-1), 1) := dk_2 (dk_at dksJ4_indexOfChar_1 7 rfl rfl)
theorem dJ4_indexOfChar_32 : decode cJ4_indexOfChar 32 = .ok (.ireturn, 1) := dk_172 (dk_at dksJ4_indexOfChar_1 8 rfl rfl)
theorem q105 : (Jvm.Cond.initialized "java/lang/StringLatin1") ∈ lw_all := lw_g (lw_at lw_m1 20 rfl) rfl
theorem q798 : (Jvm.Cond.static ({ cls := "java/lang/StringLatin1", name := "indexOf", desc := "([BIII)I" } : Jvm.MethodName)) ∈ lw_all := lw_g (lw_at lw_m3 233 rfl) rfl
theorem q799 : (Jvm.Cond.code ({ cls := "java/lang/StringLatin1", name := "indexOf", desc := "([BIII)I" } : Jvm.MethodName) prog_29_method_22_code (4 : Nat) (Option.some Jvm.ClassFile.FieldType.int)) ∈ lw_all := lw_g (lw_at lw_m3 234 rfl) rfl
theorem q800 : (Jvm.Cond.methodLink "java/lang/StringLatin1" (88 : Nat) ({ cls := "java/lang/StringLatin1", name := "canEncode", desc := "(I)Z" } : Jvm.MethodName)) ∈ lw_all := lw_g (lw_at lw_m3 235 rfl) rfl
theorem q801 : (Jvm.Cond.static ({ cls := "java/lang/StringLatin1", name := "canEncode", desc := "(I)Z" } : Jvm.MethodName)) ∈ lw_all := lw_g (lw_at lw_m3 236 rfl) rfl
theorem q802 : (Jvm.Cond.code ({ cls := "java/lang/StringLatin1", name := "canEncode", desc := "(I)Z" } : Jvm.MethodName) prog_29_method_4_code (1 : Nat) (Option.some Jvm.ClassFile.FieldType.boolean)) ∈ lw_all := lw_g (lw_at lw_m3 237 rfl) rfl
theorem q803 : (Jvm.Cond.methodLink "java/lang/StringLatin1" (92 : Nat) ({ cls := "java/lang/Math", name := "max", desc := "(II)I" } : Jvm.MethodName)) ∈ lw_all := lw_g (lw_at lw_m3 238 rfl) rfl
theorem q804 : (Jvm.Cond.methodLink "java/lang/StringLatin1" (38 : Nat) ({ cls := "java/lang/Math", name := "min", desc := "(II)I" } : Jvm.MethodName)) ∈ lw_all := lw_g (lw_at lw_m3 239 rfl) rfl
theorem q805 : (Jvm.Cond.methodLink "java/lang/StringLatin1" (95 : Nat) ({ cls := "java/lang/StringLatin1", name := "indexOfChar", desc := "([BIII)I" } : Jvm.MethodName)) ∈ lw_all := lw_g (lw_at lw_m4 0 rfl) rfl
theorem q806 : (Jvm.Cond.static ({ cls := "java/lang/StringLatin1", name := "indexOfChar", desc := "([BIII)I" } : Jvm.MethodName)) ∈ lw_all := lw_g (lw_at lw_m4 1 rfl) rfl
theorem q807 : (Jvm.Cond.code ({ cls := "java/lang/StringLatin1", name := "indexOfChar", desc := "([BIII)I" } : Jvm.MethodName) prog_29_method_23_code (6 : Nat) (Option.some Jvm.ClassFile.FieldType.int)) ∈ lw_all := lw_g (lw_at lw_m4 2 rfl) rfl

/-! java/lang/StringUTF16 -/
set_option maxRecDepth 100000
def RJ5 : String := "java/lang/StringUTF16"
abbrev cJ5_indexOf : ByteArray := prog_30_method_40_code
def yJ5_indexOf : MethodName := ⟨RJ5, "indexOf", "([BIII)I"⟩
def dkwJ5_indexOf_1 : List UInt8 := [18, 227, 162, 0, 11, 42, 27, 28, 29, 184, 0, 228, 172, 42, 27, 28, 29, 184, 0, 232, 172]
abbrev dktJ5_indexOf_1 : List UInt8 := dkwJ5_indexOf_1 ++ []
def dkwJ5_indexOf_0 : List UInt8 := [28, 3, 184, 0, 224, 61, 29, 42, 190, 4, 122, 184, 0, 183, 62, 28, 29, 161, 0, 5, 2, 172, 27]
abbrev dktJ5_indexOf_0 : List UInt8 := dkwJ5_indexOf_0 ++ dktJ5_indexOf_1
theorem dksJ5_indexOf_0 : cJ5_indexOf.data.toList.drop 0 = dktJ5_indexOf_0 := by decide +kernel
theorem dksJ5_indexOf_1 : cJ5_indexOf.data.toList.drop 23 = dktJ5_indexOf_1 := dk_seg dksJ5_indexOf_0 23 rfl rfl
theorem dJ5_indexOf_0 : decode cJ5_indexOf 0 = .ok (.iload_n 2, 1) := dk_28 (dk_at dksJ5_indexOf_0 0 rfl rfl)
theorem dJ5_indexOf_1 : decode cJ5_indexOf 1 = .ok (.iconst 0, 1) := dk_3 (dk_at dksJ5_indexOf_0 1 rfl rfl)
theorem dJ5_indexOf_2 : decode cJ5_indexOf 2 = .ok (.invokestatic 224, 3) := dk_184 0 224 (dk_at dksJ5_indexOf_0 2 rfl rfl)
theorem dJ5_indexOf_5 : decode cJ5_indexOf 5 = .ok (.istore_n 2, 1) := dk_61 (dk_at dksJ5_indexOf_0 5 rfl rfl)
theorem dJ5_indexOf_6 : decode cJ5_indexOf 6 = .ok (.iload_n 3, 1) := dk_29 (dk_at dksJ5_indexOf_0 6 rfl rfl)
theorem dJ5_indexOf_7 : decode cJ5_indexOf 7 = .ok (.aload_n 0, 1) := dk_42 (dk_at dksJ5_indexOf_0 7 rfl rfl)
theorem dJ5_indexOf_8 : decode cJ5_indexOf 8 = .ok (.arraylength, 1) := dk_190 (dk_at dksJ5_indexOf_0 8 rfl rfl)
theorem dJ5_indexOf_9 : decode cJ5_indexOf 9 = .ok (.iconst 1, 1) := dk_4 (dk_at dksJ5_indexOf_0 9 rfl rfl)
theorem dJ5_indexOf_10 : decode cJ5_indexOf 10 = .ok (.ishr, 1) := dk_122 (dk_at dksJ5_indexOf_0 10 rfl rfl)
theorem dJ5_indexOf_11 : decode cJ5_indexOf 11 = .ok (.invokestatic 183, 3) := dk_184 0 183 (dk_at dksJ5_indexOf_0 11 rfl rfl)
theorem dJ5_indexOf_14 : decode cJ5_indexOf 14 = .ok (.istore_n 3, 1) := dk_62 (dk_at dksJ5_indexOf_0 14 rfl rfl)
theorem dJ5_indexOf_15 : decode cJ5_indexOf 15 = .ok (.iload_n 2, 1) := dk_28 (dk_at dksJ5_indexOf_0 15 rfl rfl)
theorem dJ5_indexOf_16 : decode cJ5_indexOf 16 = .ok (.iload_n 3, 1) := dk_29 (dk_at dksJ5_indexOf_0 16 rfl rfl)
theorem dJ5_indexOf_17 : decode cJ5_indexOf 17 = .ok (.if_icmp .lt 5, 3) := dk_161 0 5 (dk_at dksJ5_indexOf_0 17 rfl rfl)
theorem dJ5_indexOf_20 : decode cJ5_indexOf 20 = .ok (.iconst (-1), 1) := dk_2 (dk_at dksJ5_indexOf_0 20 rfl rfl)
theorem dJ5_indexOf_21 : decode cJ5_indexOf 21 = .ok (.ireturn, 1) := dk_172 (dk_at dksJ5_indexOf_0 21 rfl rfl)
theorem dJ5_indexOf_22 : decode cJ5_indexOf 22 = .ok (.iload_n 1, 1) := dk_27 (dk_at dksJ5_indexOf_0 22 rfl rfl)
theorem dJ5_indexOf_23 : decode cJ5_indexOf 23 = .ok (.ldc 227, 2) := dk_18 227 (dk_at dksJ5_indexOf_1 0 rfl rfl)
theorem dJ5_indexOf_25 : decode cJ5_indexOf 25 = .ok (.if_icmp .ge 11, 3) := dk_162 0 11 (dk_at dksJ5_indexOf_1 2 rfl rfl)
theorem dJ5_indexOf_28 : decode cJ5_indexOf 28 = .ok (.aload_n 0, 1) := dk_42 (dk_at dksJ5_indexOf_1 5 rfl rfl)
theorem dJ5_indexOf_29 : decode cJ5_indexOf 29 = .ok (.iload_n 1, 1) := dk_27 (dk_at dksJ5_indexOf_1 6 rfl rfl)
theorem dJ5_indexOf_30 : decode cJ5_indexOf 30 = .ok (.iload_n 2, 1) := dk_28 (dk_at dksJ5_indexOf_1 7 rfl rfl)
theorem dJ5_indexOf_31 : decode cJ5_indexOf 31 = .ok (.iload_n 3, 1) := dk_29 (dk_at dksJ5_indexOf_1 8 rfl rfl)
theorem dJ5_indexOf_32 : decode cJ5_indexOf 32 = .ok (.invokestatic 228, 3) := dk_184 0 228 (dk_at dksJ5_indexOf_1 9 rfl rfl)
theorem dJ5_indexOf_35 : decode cJ5_indexOf 35 = .ok (.ireturn, 1) := dk_172 (dk_at dksJ5_indexOf_1 12 rfl rfl)
theorem dJ5_indexOf_36 : decode cJ5_indexOf 36 = .ok (.aload_n 0, 1) := dk_42 (dk_at dksJ5_indexOf_1 13 rfl rfl)
theorem dJ5_indexOf_37 : decode cJ5_indexOf 37 = .ok (.iload_n 1, 1) := dk_27 (dk_at dksJ5_indexOf_1 14 rfl rfl)
theorem dJ5_indexOf_38 : decode cJ5_indexOf 38 = .ok (.iload_n 2, 1) := dk_28 (dk_at dksJ5_indexOf_1 15 rfl rfl)
theorem dJ5_indexOf_39 : decode cJ5_indexOf 39 = .ok (.iload_n 3, 1) := dk_29 (dk_at dksJ5_indexOf_1 16 rfl rfl)
theorem dJ5_indexOf_40 : decode cJ5_indexOf 40 = .ok (.invokestatic 232, 3) := dk_184 0 232 (dk_at dksJ5_indexOf_1 17 rfl rfl)
theorem dJ5_indexOf_43 : decode cJ5_indexOf 43 = .ok (.ireturn, 1) := dk_172 (dk_at dksJ5_indexOf_1 20 rfl rfl)
abbrev cJ5_indexOfChar : ByteArray := prog_30_method_47_code
def yJ5_indexOfChar : MethodName := ⟨RJ5, "indexOfChar", "([BIII)I"⟩
def dkwJ5_indexOfChar_0 : List UInt8 := [28, 29, 42, 184, 0, 96, 42, 27, 28, 29, 184, 0, 244, 172]
abbrev dktJ5_indexOfChar_0 : List UInt8 := dkwJ5_indexOfChar_0 ++ []
theorem dksJ5_indexOfChar_0 : cJ5_indexOfChar.data.toList.drop 0 = dktJ5_indexOfChar_0 := by decide +kernel
theorem dJ5_indexOfChar_0 : decode cJ5_indexOfChar 0 = .ok (.iload_n 2, 1) := dk_28 (dk_at dksJ5_indexOfChar_0 0 rfl rfl)
theorem dJ5_indexOfChar_1 : decode cJ5_indexOfChar 1 = .ok (.iload_n 3, 1) := dk_29 (dk_at dksJ5_indexOfChar_0 1 rfl rfl)
theorem dJ5_indexOfChar_2 : decode cJ5_indexOfChar 2 = .ok (.aload_n 0, 1) := dk_42 (dk_at dksJ5_indexOfChar_0 2 rfl rfl)
theorem dJ5_indexOfChar_3 : decode cJ5_indexOfChar 3 = .ok (.invokestatic 96, 3) := dk_184 0 96 (dk_at dksJ5_indexOfChar_0 3 rfl rfl)
theorem dJ5_indexOfChar_6 : decode cJ5_indexOfChar 6 = .ok (.aload_n 0, 1) := dk_42 (dk_at dksJ5_indexOfChar_0 6 rfl rfl)
theorem dJ5_indexOfChar_7 : decode cJ5_indexOfChar 7 = .ok (.iload_n 1, 1) := dk_27 (dk_at dksJ5_indexOfChar_0 7 rfl rfl)
theorem dJ5_indexOfChar_8 : decode cJ5_indexOfChar 8 = .ok (.iload_n 2, 1) := dk_28 (dk_at dksJ5_indexOfChar_0 8 rfl rfl)
theorem dJ5_indexOfChar_9 : decode cJ5_indexOfChar 9 = .ok (.iload_n 3, 1) := dk_29 (dk_at dksJ5_indexOfChar_0 9 rfl rfl)
theorem dJ5_indexOfChar_10 : decode cJ5_indexOfChar 10 = .ok (.invokestatic 244, 3) := dk_184 0 244 (dk_at dksJ5_indexOfChar_0 10 rfl rfl)
theorem dJ5_indexOfChar_13 : decode cJ5_indexOfChar 13 = .ok (.ireturn, 1) := dk_172 (dk_at dksJ5_indexOfChar_0 13 rfl rfl)
abbrev cJ5_checkBoundsBeginEnd : ByteArray := prog_30_method_93_code
def yJ5_checkBoundsBeginEnd : MethodName := ⟨RJ5, "checkBoundsBeginEnd", "(II[B)V"⟩
def dkwJ5_checkBoundsBeginEnd_0 : List UInt8 := [26, 27, 44, 184, 0, 48, 184, 0, 241, 177]
abbrev dktJ5_checkBoundsBeginEnd_0 : List UInt8 := dkwJ5_checkBoundsBeginEnd_0 ++ []
theorem dksJ5_checkBoundsBeginEnd_0 : cJ5_checkBoundsBeginEnd.data.toList.drop 0 = dktJ5_checkBoundsBeginEnd_0 := by decide +kernel
theorem dJ5_checkBoundsBeginEnd_0 : decode cJ5_checkBoundsBeginEnd 0 = .ok (.iload_n 0, 1) := dk_26 (dk_at dksJ5_checkBoundsBeginEnd_0 0 rfl rfl)
theorem dJ5_checkBoundsBeginEnd_1 : decode cJ5_checkBoundsBeginEnd 1 = .ok (.iload_n 1, 1) := dk_27 (dk_at dksJ5_checkBoundsBeginEnd_0 1 rfl rfl)
theorem dJ5_checkBoundsBeginEnd_2 : decode cJ5_checkBoundsBeginEnd 2 = .ok (.aload_n 2, 1) := dk_44 (dk_at dksJ5_checkBoundsBeginEnd_0 2 rfl rfl)
theorem dJ5_checkBoundsBeginEnd_3 : decode cJ5_checkBoundsBeginEnd 3 = .ok (.invokestatic 48, 3) := dk_184 0 48 (dk_at dksJ5_checkBoundsBeginEnd_0 3 rfl rfl)
theorem dJ5_checkBoundsBeginEnd_6 : decode cJ5_checkBoundsBeginEnd 6 = .ok (.invokestatic 241, 3) := dk_184 0 241 (dk_at dksJ5_checkBoundsBeginEnd_0 6 rfl rfl)
theorem dJ5_checkBoundsBeginEnd_9 : decode cJ5_checkBoundsBeginEnd 9 = .ok (.return_, 1) := dk_177 (dk_at dksJ5_checkBoundsBeginEnd_0 9 rfl rfl)
abbrev cJ5_length : ByteArray := prog_30_method_6_code
def yJ5_length : MethodName := ⟨RJ5, "length", "([B)I"⟩
def dkwJ5_length_0 : List UInt8 := [42, 190, 4, 122, 172]
abbrev dktJ5_length_0 : List UInt8 := dkwJ5_length_0 ++ []
theorem dksJ5_length_0 : cJ5_length.data.toList.drop 0 = dktJ5_length_0 := by decide +kernel
theorem dJ5_length_0 : decode cJ5_length 0 = .ok (.aload_n 0, 1) := dk_42 (dk_at dksJ5_length_0 0 rfl rfl)
theorem dJ5_length_1 : decode cJ5_length 1 = .ok (.arraylength, 1) := dk_190 (dk_at dksJ5_length_0 1 rfl rfl)
theorem dJ5_length_2 : decode cJ5_length 2 = .ok (.iconst 1, 1) := dk_4 (dk_at dksJ5_length_0 2 rfl rfl)
theorem dJ5_length_3 : decode cJ5_length 3 = .ok (.ishr, 1) := dk_122 (dk_at dksJ5_length_0 3 rfl rfl)
theorem dJ5_length_4 : decode cJ5_length 4 = .ok (.ireturn, 1) := dk_172 (dk_at dksJ5_length_0 4 rfl rfl)
abbrev cJ5_indexOfCharUnsafe : ByteArray := prog_30_method_48_code
def yJ5_indexOfCharUnsafe : MethodName := ⟨RJ5, "indexOfCharUnsafe", "([BIII)I"⟩
def dkwJ5_indexOfCharUnsafe_1 : List UInt8 := [132, 4, 1, 167, 255, 234, 2, 172]
abbrev dktJ5_indexOfCharUnsafe_1 : List UInt8 := dkwJ5_indexOfCharUnsafe_1 ++ []
def dkwJ5_indexOfCharUnsafe_0 : List UInt8 := [28, 54, 4, 21, 4, 29, 162, 0, 22, 42, 21, 4, 184, 0, 71, 27, 160, 0, 6, 21, 4, 172]
abbrev dktJ5_indexOfCharUnsafe_0 : List UInt8 := dkwJ5_indexOfCharUnsafe_0 ++ dktJ5_indexOfCharUnsafe_1
theorem dksJ5_indexOfCharUnsafe_0 : cJ5_indexOfCharUnsafe.data.toList.drop 0 = dktJ5_indexOfCharUnsafe_0 := by decide +kernel
theorem dksJ5_indexOfCharUnsafe_1 : cJ5_indexOfCharUnsafe.data.toList.drop 22 = dktJ5_indexOfCharUnsafe_1 := dk_seg dksJ5_indexOfCharUnsafe_0 22 rfl rfl
theorem dJ5_indexOfCharUnsafe_0 : decode cJ5_indexOfCharUnsafe 0 = .ok (.iload_n 2, 1) := dk_28 (dk_at dksJ5_indexOfCharUnsafe_0 0 rfl rfl)
theorem dJ5_indexOfCharUnsafe_1 : decode cJ5_indexOfCharUnsafe 1 = .ok (.istore 4, 2) := dk_54 4 (dk_at dksJ5_indexOfCharUnsafe_0 1 rfl rfl)
theorem dJ5_indexOfCharUnsafe_3 : decode cJ5_indexOfCharUnsafe 3 = .ok (.iload 4, 2) := dk_21 4 (dk_at dksJ5_indexOfCharUnsafe_0 3 rfl rfl)
theorem dJ5_indexOfCharUnsafe_5 : decode cJ5_indexOfCharUnsafe 5 = .ok (.iload_n 3, 1) := dk_29 (dk_at dksJ5_indexOfCharUnsafe_0 5 rfl rfl)
theorem dJ5_indexOfCharUnsafe_6 : decode cJ5_indexOfCharUnsafe 6 = .ok (.if_icmp .ge 22, 3) := dk_162 0 22 (dk_at dksJ5_indexOfCharUnsafe_0 6 rfl rfl)
theorem dJ5_indexOfCharUnsafe_9 : decode cJ5_indexOfCharUnsafe 9 = .ok (.aload_n 0, 1) := dk_42 (dk_at dksJ5_indexOfCharUnsafe_0 9 rfl rfl)
theorem dJ5_indexOfCharUnsafe_10 : decode cJ5_indexOfCharUnsafe 10 = .ok (.iload 4, 2) := dk_21 4 (dk_at dksJ5_indexOfCharUnsafe_0 10 rfl rfl)
theorem dJ5_indexOfCharUnsafe_12 : decode cJ5_indexOfCharUnsafe 12 = .ok (.invokestatic 71, 3) := dk_184 0 71 (dk_at dksJ5_indexOfCharUnsafe_0 12 rfl rfl)
theorem dJ5_indexOfCharUnsafe_15 : decode cJ5_indexOfCharUnsafe 15 = .ok (.iload_n 1, 1) := dk_27 (dk_at dksJ5_indexOfCharUnsafe_0 15 rfl rfl)
theorem dJ5_indexOfCharUnsafe_16 : decode cJ5_indexOfCharUnsafe 16 = .ok (.if_icmp .ne 6, 3) := dk_160 0 6 (dk_at dksJ5_indexOfCharUnsafe_0 16 rfl rfl)
theorem dJ5_indexOfCharUnsafe_19 : decode cJ5_indexOfCharUnsafe 19 = .ok (.iload 4, 2) := dk_21 4 (dk_at dksJ5_indexOfCharUnsafe_0 19 rfl rfl)
theorem dJ5_indexOfCharUnsafe_21 : decode cJ5_indexOfCharUnsafe 21 = .ok (.ireturn, 1) := dk_172 (dk_at dksJ5_indexOfCharUnsafe_0 21 rfl rfl)
theorem dJ5_indexOfCharUnsafe_22 : decode cJ5_indexOfCharUnsafe 22 = .ok (.iinc 4 1, 3) := dk_132 4 1 (dk_at dksJ5_indexOfCharUnsafe_1 0 rfl rfl)
theorem dJ5_indexOfCharUnsafe_25 : decode cJ5_indexOfCharUnsafe 25 = .ok (.goto (-22), 3) := dk_167 255 234 (dk_at dksJ5_indexOfCharUnsafe_1 3 rfl rfl)
theorem dJ5_indexOfCharUnsafe_28 : decode cJ5_indexOfCharUnsafe 28 = .ok (.iconst (-1), 1) := dk_2 (dk_at dksJ5_indexOfCharUnsafe_1 6 rfl rfl)
theorem dJ5_indexOfCharUnsafe_29 : decode cJ5_indexOfCharUnsafe 29 = .ok (.ireturn, 1) := dk_172 (dk_at dksJ5_indexOfCharUnsafe_1 7 rfl rfl)
abbrev cJ5_getChar : ByteArray := prog_30_method_5_code
def yJ5_getChar : MethodName := ⟨RJ5, "getChar", "([BI)C"⟩
def dkwJ5_getChar_2 : List UInt8 := [51, 17, 0, 255, 126, 178, 0, 63, 120, 128, 146, 172]
abbrev dktJ5_getChar_2 : List UInt8 := dkwJ5_getChar_2 ++ []
def dkwJ5_getChar_1 : List UInt8 := [183, 0, 56, 191, 27, 4, 120, 60, 42, 27, 132, 1, 1, 51, 17, 0, 255, 126, 178, 0, 59, 120, 42, 27]
abbrev dktJ5_getChar_1 : List UInt8 := dkwJ5_getChar_1 ++ dktJ5_getChar_2
def dkwJ5_getChar_0 : List UInt8 := [178, 0, 44, 154, 0, 25, 27, 155, 0, 11, 27, 42, 184, 0, 48, 161, 0, 13, 187, 0, 52, 89, 18, 54]
abbrev dktJ5_getChar_0 : List UInt8 := dkwJ5_getChar_0 ++ dktJ5_getChar_1
theorem dksJ5_getChar_0 : cJ5_getChar.data.toList.drop 0 = dktJ5_getChar_0 := by decide +kernel
theorem dksJ5_getChar_1 : cJ5_getChar.data.toList.drop 24 = dktJ5_getChar_1 := dk_seg dksJ5_getChar_0 24 rfl rfl
theorem dksJ5_getChar_2 : cJ5_getChar.data.toList.drop 48 = dktJ5_getChar_2 := dk_seg dksJ5_getChar_1 24 rfl rfl
theorem dJ5_getChar_0 : decode cJ5_getChar 0 = .ok (.getstatic 44, 3) := dk_178 0 44 (dk_at dksJ5_getChar_0 0 rfl rfl)
theorem dJ5_getChar_3 : decode cJ5_getChar 3 = .ok (.ifCond .ne 25, 3) := dk_154 0 25 (dk_at dksJ5_getChar_0 3 rfl rfl)
theorem dJ5_getChar_6 : decode cJ5_getChar 6 = .ok (.iload_n 1, 1) := dk_27 (dk_at dksJ5_getChar_0 6 rfl rfl)
theorem dJ5_getChar_7 : decode cJ5_getChar 7 = .ok (.ifCond .lt 11, 3) := dk_155 0 11 (dk_at dksJ5_getChar_0 7 rfl rfl)
theorem dJ5_getChar_10 : decode cJ5_getChar 10 = .ok (.iload_n 1, 1) := dk_27 (dk_at dksJ5_getChar_0 10 rfl rfl)
theorem dJ5_getChar_11 : decode cJ5_getChar 11 = .ok (.aload_n 0, 1) := dk_42 (dk_at dksJ5_getChar_0 11 rfl rfl)
theorem dJ5_getChar_12 : decode cJ5_getChar 12 = .ok (.invokestatic 48, 3) := dk_184 0 48 (dk_at dksJ5_getChar_0 12 rfl rfl)
theorem dJ5_getChar_15 : decode cJ5_getChar 15 = .ok (.if_icmp .lt 13, 3) := dk_161 0 13 (dk_at dksJ5_getChar_0 15 rfl rfl)
theorem dJ5_getChar_18 : decode cJ5_getChar 18 = .ok (.new 52, 3) := dk_187 0 52 (dk_at dksJ5_getChar_0 18 rfl rfl)
theorem dJ5_getChar_21 : decode cJ5_getChar 21 = .ok (.dup, 1) := dk_89 (dk_at dksJ5_getChar_0 21 rfl rfl)
theorem dJ5_getChar_22 : decode cJ5_getChar 22 = .ok (.ldc 54, 2) := dk_18 54 (dk_at dksJ5_getChar_0 22 rfl rfl)
theorem dJ5_getChar_24 : decode cJ5_getChar 24 = .ok (.invokespecial 56, 3) := dk_183 0 56 (dk_at dksJ5_getChar_1 0 rfl rfl)
theorem dJ5_getChar_27 : decode cJ5_getChar 27 = .ok (.athrow, 1) := dk_191 (dk_at dksJ5_getChar_1 3 rfl rfl)
theorem dJ5_getChar_28 : decode cJ5_getChar 28 = .ok (.iload_n 1, 1) := dk_27 (dk_at dksJ5_getChar_1 4 rfl rfl)
theorem dJ5_getChar_29 : decode cJ5_getChar 29 = .ok (.iconst 1, 1) := dk_4 (dk_at dksJ5_getChar_1 5 rfl rfl)
theorem dJ5_getChar_30 : decode cJ5_getChar 30 = .ok (.ishl, 1) := dk_120 (dk_at dksJ5_getChar_1 6 rfl rfl)
theorem dJ5_getChar_31 : decode cJ5_getChar 31 = .ok (.istore_n 1, 1) := dk_60 (dk_at dksJ5_getChar_1 7 rfl rfl)
theorem dJ5_getChar_32 : decode cJ5_getChar 32 = .ok (.aload_n 0, 1) := dk_42 (dk_at dksJ5_getChar_1 8 rfl rfl)
theorem dJ5_getChar_33 : decode cJ5_getChar 33 = .ok (.iload_n 1, 1) := dk_27 (dk_at dksJ5_getChar_1 9 rfl rfl)
theorem dJ5_getChar_34 : decode cJ5_getChar 34 = .ok (.iinc 1 1, 3) := dk_132 1 1 (dk_at dksJ5_getChar_1 10 rfl rfl)
theorem dJ5_getChar_37 : decode cJ5_getChar 37 = .ok (.baload, 1) := dk_51 (dk_at dksJ5_getChar_1 13 rfl rfl)
theorem dJ5_getChar_38 : decode cJ5_getChar 38 = .ok (.sipush 255, 3) := dk_17 0 255 (dk_at dksJ5_getChar_1 14 rfl rfl)
theorem dJ5_getChar_41 : decode cJ5_getChar 41 = .ok (.iand, 1) := dk_126 (dk_at dksJ5_getChar_1 17 rfl rfl)
theorem dJ5_getChar_42 : decode cJ5_getChar 42 = .ok (.getstatic 59, 3) := dk_178 0 59 (dk_at dksJ5_getChar_1 18 rfl rfl)
theorem dJ5_getChar_45 : decode cJ5_getChar 45 = .ok (.ishl, 1) := dk_120 (dk_at dksJ5_getChar_1 21 rfl rfl)
theorem dJ5_getChar_46 : decode cJ5_getChar 46 = .ok (.aload_n 0, 1) := dk_42 (dk_at dksJ5_getChar_1 22 rfl rfl)
theorem dJ5_getChar_47 : decode cJ5_getChar 47 = .ok (.iload_n 1, 1) := dk_27 (dk_at dksJ5_getChar_1 23 rfl rfl)
theorem dJ5_getChar_48 : decode cJ5_getChar 48 = .ok (.baload, 1) := dk_51 (dk_at dksJ5_getChar_2 0 rfl rfl)
theorem dJ5_getChar_49 : decode cJ5_getChar 49 = .ok (.sipush 255, 3) := dk_17 0 255 (dk_at dksJ5_getChar_2 1 rfl rfl)
theorem dJ5_getChar_52 : decode cJ5_getChar 52 = .ok (.iand, 1) := dk_126 (dk_at dksJ5_getChar_2 4 rfl rfl)
theorem dJ5_getChar_53 : decode cJ5_getChar 53 = .ok (.getstatic 63, 3) := dk_178 0 63 (dk_at dksJ5_getChar_2 5 rfl rfl)
theorem dJ5_getChar_56 : decode cJ5_getChar 56 = .ok (.ishl, 1) := dk_120 (dk_at dksJ5_getChar_2 8 rfl rfl)
theorem dJ5_getChar_57 : decode cJ5_getChar 57 = .ok (.ior, 1) := dk_128 (dk_at dksJ5_getChar_2 9 rfl rfl)
theorem dJ5_getChar_58 : decode cJ5_getChar 58 = .ok (.i2c, 1) := dk_146 (dk_at dksJ5_getChar_2 10 rfl rfl)
theorem dJ5_getChar_59 : decode cJ5_getChar 59 = .ok (.ireturn, 1) := dk_172 (dk_at dksJ5_getChar_2 11 rfl rfl)
abbrev cJ5_indexOfSupplementary : ByteArray := prog_30_method_49_code
def yJ5_indexOfSupplementary : MethodName := ⟨RJ5, "indexOfSupplementary", "([BIII)I"⟩
def dkwJ5_indexOfSupplementary_3 : List UInt8 := [167, 255, 218, 2, 172]
abbrev dktJ5_indexOfSupplementary_3 : List UInt8 := dkwJ5_indexOfSupplementary_3 ++ []
def dkwJ5_indexOfSupplementary_2 : List UInt8 := [160, 0, 19, 42, 21, 6, 4, 96, 184, 0, 71, 21, 5, 160, 0, 6, 21, 6, 172, 132, 6, 1]
abbrev dktJ5_indexOfSupplementary_2 : List UInt8 := dkwJ5_indexOfSupplementary_2 ++ dktJ5_indexOfSupplementary_3
def dkwJ5_indexOfSupplementary_1 : List UInt8 := [184, 0, 96, 28, 54, 6, 21, 6, 29, 4, 100, 162, 0, 36, 42, 21, 6, 184, 0, 71, 21, 4]
abbrev dktJ5_indexOfSupplementary_1 : List UInt8 := dkwJ5_indexOfSupplementary_1 ++ dktJ5_indexOfSupplementary_2
def dkwJ5_indexOfSupplementary_0 : List UInt8 := [27, 184, 0, 164, 153, 0, 65, 27, 184, 0, 157, 54, 4, 27, 184, 0, 161, 54, 5, 28, 29, 42]
abbrev dktJ5_indexOfSupplementary_0 : List UInt8 := dkwJ5_indexOfSupplementary_0 ++ dktJ5_indexOfSupplementary_1
theorem dksJ5_indexOfSupplementary_0 : cJ5_indexOfSupplementary.data.toList.drop 0 = dktJ5_indexOfSupplementary_0 := by decide +kernel
theorem dksJ5_indexOfSupplementary_1 : cJ5_indexOfSupplementary.data.toList.drop 22 = dktJ5_indexOfSupplementary_1 := dk_seg dksJ5_indexOfSupplementary_0 22 rfl rfl
theorem dksJ5_indexOfSupplementary_2 : cJ5_indexOfSupplementary.data.toList.drop 44 = dktJ5_indexOfSupplementary_2 := dk_seg dksJ5_indexOfSupplementary_1 22 rfl rfl
theorem dksJ5_indexOfSupplementary_3 : cJ5_indexOfSupplementary.data.toList.drop 66 = dktJ5_indexOfSupplementary_3 := dk_seg dksJ5_indexOfSupplementary_2 22 rfl rfl
theorem dJ5_indexOfSupplementary_0 : decode cJ5_indexOfSupplementary 0 = .ok (.iload_n 1, 1) := dk_27 (dk_at dksJ5_indexOfSupplementary_0 0 rfl rfl)
theorem dJ5_indexOfSupplementary_1 : decode cJ5_indexOfSupplementary 1 = .ok (.invokestatic 164, 3) := dk_184 0 164 (dk_at dksJ5_indexOfSupplementary_0 1 rfl rfl)
theorem dJ5_indexOfSupplementary_4 : decode cJ5_indexOfSupplementary 4 = .ok (.ifCond .eq 65, 3) := dk_153 0 65 (dk_at dksJ5_indexOfSupplementary_0 4 rfl rfl)
theorem dJ5_indexOfSupplementary_7 : decode cJ5_indexOfSupplementary 7 = .ok (.iload_n 1, 1) := dk_27 (dk_at dksJ5_indexOfSupplementary_0 7 rfl rfl)
theorem dJ5_indexOfSupplementary_8 : decode cJ5_indexOfSupplementary 8 = .ok (.invokestatic 157, 3) := dk_184 0 157 (dk_at dksJ5_indexOfSupplementary_0 8 rfl rfl)
theorem dJ5_indexOfSupplementary_11 : decode cJ5_indexOfSupplementary 11 = .ok (.istore 4, 2) := dk_54 4 (dk_at dksJ5_indexOfSupplementary_0 11 rfl rfl)
theorem dJ5_indexOfSupplementary_13 : decode cJ5_indexOfSupplementary 13 = .ok (.iload_n 1, 1) := dk_27 (dk_at dksJ5_indexOfSupplementary_0 13 rfl rfl)
theorem dJ5_indexOfSupplementary_14 : decode cJ5_indexOfSupplementary 14 = .ok (.invokestatic 161, 3) := dk_184 0 161 (dk_at dksJ5_indexOfSupplementary_0 14 rfl rfl)
theorem dJ5_indexOfSupplementary_17 : decode cJ5_indexOfSupplementary 17 = .ok (.istore 5, 2) := dk_54 5 (dk_at dksJ5_indexOfSupplementary_0 17 rfl rfl)
theorem dJ5_indexOfSupplementary_19 : decode cJ5_indexOfSupplementary 19 = .ok (.iload_n 2, 1) := dk_28 (dk_at dksJ5_indexOfSupplementary_0 19 rfl rfl)
theorem dJ5_indexOfSupplementary_20 : decode cJ5_indexOfSupplementary 20 = .ok (.iload_n 3, 1) := dk_29 (dk_at dksJ5_indexOfSupplementary_0 20 rfl rfl)
theorem dJ5_indexOfSupplementary_21 : decode cJ5_indexOfSupplementary 21 = .ok (.aload_n 0, 1) := dk_42 (dk_at dksJ5_indexOfSupplementary_0 21 rfl rfl)
theorem dJ5_indexOfSupplementary_22 : decode cJ5_indexOfSupplementary 22 = .ok (.invokestatic 96, 3) := dk_184 0 96 (dk_at dksJ5_indexOfSupplementary_1 0 rfl rfl)
theorem dJ5_indexOfSupplementary_25 : decode cJ5_indexOfSupplementary 25 = .ok (.iload_n 2, 1) := dk_28 (dk_at dksJ5_indexOfSupplementary_1 3 rfl rfl)
theorem dJ5_indexOfSupplementary_26 : decode cJ5_indexOfSupplementary 26 = .ok (.istore 6, 2) := dk_54 6 (dk_at dksJ5_indexOfSupplementary_1 4 rfl rfl)
theorem dJ5_indexOfSupplementary_28 : decode cJ5_indexOfSupplementary 28 = .ok (.iload 6, 2) := dk_21 6 (dk_at dksJ5_indexOfSupplementary_1 6 rfl rfl)
theorem dJ5_indexOfSupplementary_30 : decode cJ5_indexOfSupplementary 30 = .ok (.iload_n 3, 1) := dk_29 (dk_at dksJ5_indexOfSupplementary_1 8 rfl rfl)
theorem dJ5_indexOfSupplementary_31 : decode cJ5_indexOfSupplementary 31 = .ok (.iconst 1, 1) := dk_4 (dk_at dksJ5_indexOfSupplementary_1 9 rfl rfl)
theorem dJ5_indexOfSupplementary_32 : decode cJ5_indexOfSupplementary 32 = .ok (.isub, 1) := dk_100 (dk_at dksJ5_indexOfSupplementary_1 10 rfl rfl)
theorem dJ5_indexOfSupplementary_33 : decode cJ5_indexOfSupplementary 33 = .ok (.if_icmp .ge 36, 3) := dk_162 0 36 (dk_at dksJ5_indexOfSupplementary_1 11 rfl rfl)
theorem dJ5_indexOfSupplementary_36 : decode cJ5_indexOfSupplementary 36 = .ok (.aload_n 0, 1) := dk_42 (dk_at dksJ5_indexOfSupplementary_1 14 rfl rfl)
theorem dJ5_indexOfSupplementary_37 : decode cJ5_indexOfSupplementary 37 = .ok (.iload 6, 2) := dk_21 6 (dk_at dksJ5_indexOfSupplementary_1 15 rfl rfl)
theorem dJ5_indexOfSupplementary_39 : decode cJ5_indexOfSupplementary 39 = .ok (.invokestatic 71, 3) := dk_184 0 71 (dk_at dksJ5_indexOfSupplementary_1 17 rfl rfl)
theorem dJ5_indexOfSupplementary_42 : decode cJ5_indexOfSupplementary 42 = .ok (.iload 4, 2) := dk_21 4 (dk_at dksJ5_indexOfSupplementary_1 20 rfl rfl)
theorem dJ5_indexOfSupplementary_44 : decode cJ5_indexOfSupplementary 44 = .ok (.if_icmp .ne 19, 3) := dk_160 0 19 (dk_at dksJ5_indexOfSupplementary_2 0 rfl rfl)
theorem dJ5_indexOfSupplementary_47 : decode cJ5_indexOfSupplementary 47 = .ok (.aload_n 0, 1) := dk_42 (dk_at dksJ5_indexOfSupplementary_2 3 rfl rfl)
theorem dJ5_indexOfSupplementary_48 : decode cJ5_indexOfSupplementary 48 = .ok (.iload 6, 2) := dk_21 6 (dk_at dksJ5_indexOfSupplementary_2 4 rfl rfl)
theorem dJ5_indexOfSupplementary_50 : decode cJ5_indexOfSupplementary 50 = .ok (.iconst 1, 1) := dk_4 (dk_at dksJ5_indexOfSupplementary_2 6 rfl rfl)
theorem dJ5_indexOfSupplementary_51 : decode cJ5_indexOfSupplementary 51 = .ok (.iadd, 1) := dk_96 (dk_at dksJ5_indexOfSupplementary_2 7 rfl rfl)
theorem dJ5_indexOfSupplementary_52 : decode cJ5_indexOfSupplementary 52 = .ok (.invokestatic 71, 3) := dk_184 0 71 (dk_at dksJ5_indexOfSupplementary_2 8 rfl rfl)
theorem dJ5_indexOfSupplementary_55 : decode cJ5_indexOfSupplementary 55 = .ok (.iload 5, 2) := dk_21 5 (dk_at dksJ5_indexOfSupplementary_2 11 rfl rfl)
theorem dJ5_indexOfSupplementary_57 : decode cJ5_indexOfSupplementary 57 = .ok (.if_icmp .ne 6, 3) := dk_160 0 6 (dk_at dksJ5_indexOfSupplementary_2 13 rfl rfl)
theorem dJ5_indexOfSupplementary_60 : decode cJ5_indexOfSupplementary 60 = .ok (.iload 6, 2) := dk_21 6 (dk_at dksJ5_indexOfSupplementary_2 16 rfl rfl)
theorem dJ5_indexOfSupplementary_62 : decode cJ5_indexOfSupplementary 62 = .ok (.ireturn, 1) := dk_172 (dk_at dksJ5_indexOfSupplementary_2 18 rfl rfl)
theorem dJ5_indexOfSupplementary_63 : decode cJ5_indexOfSupplementary 63 = .ok (.iinc 6 1, 3) := dk_132 6 1 (dk_at dksJ5_indexOfSupplementary_2 19 rfl rfl)
theorem dJ5_indexOfSupplementary_66 : decode cJ5_indexOfSupplementary 66 = .ok (.goto (-38), 3) := dk_167 255 218 (dk_at dksJ5_indexOfSupplementary_3 0 rfl rfl)
theorem dJ5_indexOfSupplementary_69 : decode cJ5_indexOfSupplementary 69 = .ok (.iconst (-1), 1) := dk_2 (dk_at dksJ5_indexOfSupplementary_3 3 rfl rfl)
theorem dJ5_indexOfSupplementary_70 : decode cJ5_indexOfSupplementary 70 = .ok (.ireturn, 1) := dk_172 (dk_at dksJ5_indexOfSupplementary_3 4 rfl rfl)
theorem q106 : (Jvm.Cond.initialized "java/lang/StringUTF16") ∈ lw_all := lw_g (lw_at lw_m1 21 rfl) rfl
theorem q809 : (Jvm.Cond.static ({ cls := "java/lang/StringUTF16", name := "indexOf", desc := "([BIII)I" } : Jvm.MethodName)) ∈ lw_all := lw_g (lw_at lw_m4 4 rfl) rfl
theorem q810 : (Jvm.Cond.code ({ cls := "java/lang/StringUTF16", name := "indexOf", desc := "([BIII)I" } : Jvm.MethodName) prog_30_method_40_code (4 : Nat) (Option.some Jvm.ClassFile.FieldType.int)) ∈ lw_all := lw_g (lw_at lw_m4 5 rfl) rfl
theorem q811 : (Jvm.Cond.methodLink "java/lang/StringUTF16" (224 : Nat) ({ cls := "java/lang/Math", name := "max", desc := "(II)I" } : Jvm.MethodName)) ∈ lw_all := lw_g (lw_at lw_m4 6 rfl) rfl
theorem q812 : (Jvm.Cond.methodLink "java/lang/StringUTF16" (183 : Nat) ({ cls := "java/lang/Math", name := "min", desc := "(II)I" } : Jvm.MethodName)) ∈ lw_all := lw_g (lw_at lw_m4 7 rfl) rfl
theorem q813 : (Jvm.Cond.constant "java/lang/StringUTF16" (227 : Nat) (65536 : Int32)) ∈ lw_all := lw_g (lw_at lw_m4 8 rfl) rfl
theorem q814 : (Jvm.Cond.methodLink "java/lang/StringUTF16" (228 : Nat) ({ cls := "java/lang/StringUTF16", name := "indexOfChar", desc := "([BIII)I" } : Jvm.MethodName)) ∈ lw_all := lw_g (lw_at lw_m4 9 rfl) rfl
theorem q815 : (Jvm.Cond.static ({ cls := "java/lang/StringUTF16", name := "indexOfChar", desc := "([BIII)I" } : Jvm.MethodName)) ∈ lw_all := lw_g (lw_at lw_m4 10 rfl) rfl
theorem q816 : (Jvm.Cond.code ({ cls := "java/lang/StringUTF16", name := "indexOfChar", desc := "([BIII)I" } : Jvm.MethodName) prog_30_method_47_code (4 : Nat) (Option.some Jvm.ClassFile.FieldType.int)) ∈ lw_all := lw_g (lw_at lw_m4 11 rfl) rfl
theorem q817 : (Jvm.Cond.methodLink "java/lang/StringUTF16" (96 : Nat) ({ cls := "java/lang/StringUTF16", name := "checkBoundsBeginEnd", desc := "(II[B)V" } : Jvm.MethodName)) ∈ lw_all := lw_g (lw_at lw_m4 12 rfl) rfl
theorem q818 : (Jvm.Cond.static ({ cls := "java/lang/StringUTF16", name := "checkBoundsBeginEnd", desc := "(II[B)V" } : Jvm.MethodName)) ∈ lw_all := lw_g (lw_at lw_m4 13 rfl) rfl
theorem q819 : (Jvm.Cond.code ({ cls := "java/lang/StringUTF16", name := "checkBoundsBeginEnd", desc := "(II[B)V" } : Jvm.MethodName) prog_30_method_93_code (3 : Nat) (Option.none : Option Jvm.ClassFile.FieldType)) ∈ lw_all := lw_g (lw_at lw_m4 14 rfl) rfl
theorem q820 : (Jvm.Cond.methodLink "java/lang/StringUTF16" (48 : Nat) ({ cls := "java/lang/StringUTF16", name := "length", desc := "([B)I" } : Jvm.MethodName)) ∈ lw_all := lw_g (lw_at lw_m4 15 rfl) rfl
theorem q821 : (Jvm.Cond.static ({ cls := "java/lang/StringUTF16", name := "length", desc := "([B)I" } : Jvm.MethodName)) ∈ lw_all := lw_g (lw_at lw_m4 16 rfl) rfl
theorem q822 : (Jvm.Cond.code ({ cls := "java/lang/StringUTF16", name := "length", desc := "([B)I" } : Jvm.MethodName) prog_30_method_6_code (1 : Nat) (Option.some Jvm.ClassFile.FieldType.int)) ∈ lw_all := lw_g (lw_at lw_m4 17 rfl) rfl
theorem q823 : (Jvm.Cond.methodLink "java/lang/StringUTF16" (241 : Nat) ({ cls := "java/lang/String", name := "checkBoundsBeginEnd", desc := "(III)V" } : Jvm.MethodName)) ∈ lw_all := lw_g (lw_at lw_m4 18 rfl) rfl
theorem q831 : (Jvm.Cond.methodLink "java/lang/StringUTF16" (244 : Nat) ({ cls := "java/lang/StringUTF16", name := "indexOfCharUnsafe", desc := "([BIII)I" } : Jvm.MethodName)) ∈ lw_all := lw_g (lw_at lw_m4 26 rfl) rfl
theorem q832 : (Jvm.Cond.static ({ cls := "java/lang/StringUTF16", name := "indexOfCharUnsafe", desc := "([BIII)I" } : Jvm.MethodName)) ∈ lw_all := lw_g (lw_at lw_m4 27 rfl) rfl
theorem q833 : (Jvm.Cond.code ({ cls := "java/lang/StringUTF16", name := "indexOfCharUnsafe", desc := "([BIII)I" } : Jvm.MethodName) prog_30_method_48_code (5 : Nat) (Option.some Jvm.ClassFile.FieldType.int)) ∈ lw_all := lw_g (lw_at lw_m4 28 rfl) rfl
theorem q834 : (Jvm.Cond.methodLink "java/lang/StringUTF16" (71 : Nat) ({ cls := "java/lang/StringUTF16", name := "getChar", desc := "([BI)C" } : Jvm.MethodName)) ∈ lw_all := lw_g (lw_at lw_m4 29 rfl) rfl
theorem q835 : (Jvm.Cond.static ({ cls := "java/lang/StringUTF16", name := "getChar", desc := "([BI)C" } : Jvm.MethodName)) ∈ lw_all := lw_g (lw_at lw_m4 30 rfl) rfl
theorem q836 : (Jvm.Cond.code ({ cls := "java/lang/StringUTF16", name := "getChar", desc := "([BI)C" } : Jvm.MethodName) prog_30_method_5_code (2 : Nat) (Option.some Jvm.ClassFile.FieldType.char)) ∈ lw_all := lw_g (lw_at lw_m4 31 rfl) rfl
theorem q837 : (Jvm.Cond.fieldLink "java/lang/StringUTF16" (44 : Nat) "java/lang/StringUTF16" "$assertionsDisabled" "Z") ∈ lw_all := lw_g (lw_at lw_m4 32 rfl) rfl
theorem q838 : (Jvm.Cond.laysStatic "java/lang/StringUTF16" "$assertionsDisabled" "Z") ∈ lw_tbl := lw_at lw_m4 33 rfl
theorem q839 : (Jvm.Cond.fieldLink "java/lang/StringUTF16" (59 : Nat) "java/lang/StringUTF16" "HI_BYTE_SHIFT" "I") ∈ lw_all := lw_g (lw_at lw_m4 34 rfl) rfl
theorem q840 : (Jvm.Cond.laysStatic "java/lang/StringUTF16" "HI_BYTE_SHIFT" "I") ∈ lw_tbl := lw_at lw_m4 35 rfl
theorem q841 : (Jvm.Cond.fieldLink "java/lang/StringUTF16" (63 : Nat) "java/lang/StringUTF16" "LO_BYTE_SHIFT" "I") ∈ lw_all := lw_g (lw_at lw_m4 36 rfl) rfl
theorem q842 : (Jvm.Cond.laysStatic "java/lang/StringUTF16" "LO_BYTE_SHIFT" "I") ∈ lw_tbl := lw_at lw_m4 37 rfl
theorem q843 : (Jvm.Cond.methodLink "java/lang/StringUTF16" (232 : Nat) ({ cls := "java/lang/StringUTF16", name := "indexOfSupplementary", desc := "([BIII)I" } : Jvm.MethodName)) ∈ lw_all := lw_g (lw_at lw_m4 38 rfl) rfl
theorem q844 : (Jvm.Cond.static ({ cls := "java/lang/StringUTF16", name := "indexOfSupplementary", desc := "([BIII)I" } : Jvm.MethodName)) ∈ lw_all := lw_g (lw_at lw_m4 39 rfl) rfl
theorem q845 : (Jvm.Cond.code ({ cls := "java/lang/StringUTF16", name := "indexOfSupplementary", desc := "([BIII)I" } : Jvm.MethodName) prog_30_method_49_code (7 : Nat) (Option.some Jvm.ClassFile.FieldType.int)) ∈ lw_all := lw_g (lw_at lw_m4 40 rfl) rfl
theorem q846 : (Jvm.Cond.methodLink "java/lang/StringUTF16" (164 : Nat) ({ cls := "java/lang/Character", name := "isValidCodePoint", desc := "(I)Z" } : Jvm.MethodName)) ∈ lw_all := lw_g (lw_at lw_m4 41 rfl) rfl
theorem q849 : (Jvm.Cond.methodLink "java/lang/StringUTF16" (157 : Nat) ({ cls := "java/lang/Character", name := "highSurrogate", desc := "(I)C" } : Jvm.MethodName)) ∈ lw_all := lw_g (lw_at lw_m4 44 rfl) rfl
theorem q853 : (Jvm.Cond.methodLink "java/lang/StringUTF16" (161 : Nat) ({ cls := "java/lang/Character", name := "lowSurrogate", desc := "(I)C" } : Jvm.MethodName)) ∈ lw_all := lw_g (lw_at lw_m4 48 rfl) rfl

/-! jdk/internal/util/Preconditions -/
set_option maxRecDepth 100000
def RJ6 : String := "jdk/internal/util/Preconditions"
abbrev cJ6_checkFromToIndex : ByteArray := prog_33_method_12_code
def yJ6_checkFromToIndex : MethodName := ⟨RJ6, "checkFromToIndex", "(IIILjava/util/function/BiFunction;)I"⟩
def dkwJ6_checkFromToIndex_0 : List UInt8 := [26, 155, 0, 13, 26, 27, 163, 0, 8, 27, 28, 164, 0, 11, 45, 26, 27, 28, 184, 0, 99, 191, 26, 172]
abbrev dktJ6_checkFromToIndex_0 : List UInt8 := dkwJ6_checkFromToIndex_0 ++ []
theorem dksJ6_checkFromToIndex_0 : cJ6_checkFromToIndex.data.toList.drop 0 = dktJ6_checkFromToIndex_0 := by decide +kernel
theorem dJ6_checkFromToIndex_0 : decode cJ6_checkFromToIndex 0 = .ok (.iload_n 0, 1) := dk_26 (dk_at dksJ6_checkFromToIndex_0 0 rfl rfl)
theorem dJ6_checkFromToIndex_1 : decode cJ6_checkFromToIndex 1 = .ok (.ifCond .lt 13, 3) := dk_155 0 13 (dk_at dksJ6_checkFromToIndex_0 1 rfl rfl)
theorem dJ6_checkFromToIndex_4 : decode cJ6_checkFromToIndex 4 = .ok (.iload_n 0, 1) := dk_26 (dk_at dksJ6_checkFromToIndex_0 4 rfl rfl)
theorem dJ6_checkFromToIndex_5 : decode cJ6_checkFromToIndex 5 = .ok (.iload_n 1, 1) := dk_27 (dk_at dksJ6_checkFromToIndex_0 5 rfl rfl)
theorem dJ6_checkFromToIndex_6 : decode cJ6_checkFromToIndex 6 = .ok (.if_icmp .gt 8, 3) := dk_163 0 8 (dk_at dksJ6_checkFromToIndex_0 6 rfl rfl)
theorem dJ6_checkFromToIndex_9 : decode cJ6_checkFromToIndex 9 = .ok (.iload_n 1, 1) := dk_27 (dk_at dksJ6_checkFromToIndex_0 9 rfl rfl)
theorem dJ6_checkFromToIndex_10 : decode cJ6_checkFromToIndex 10 = .ok (.iload_n 2, 1) := dk_28 (dk_at dksJ6_checkFromToIndex_0 10 rfl rfl)
theorem dJ6_checkFromToIndex_11 : decode cJ6_checkFromToIndex 11 = .ok (.if_icmp .le 11, 3) := dk_164 0 11 (dk_at dksJ6_checkFromToIndex_0 11 rfl rfl)
theorem dJ6_checkFromToIndex_14 : decode cJ6_checkFromToIndex 14 = .ok (.aload_n 3, 1) := dk_45 (dk_at dksJ6_checkFromToIndex_0 14 rfl rfl)
theorem dJ6_checkFromToIndex_15 : decode cJ6_checkFromToIndex 15 = .ok (.iload_n 0, 1) := dk_26 (dk_at dksJ6_checkFromToIndex_0 15 rfl rfl)
theorem dJ6_checkFromToIndex_16 : decode cJ6_checkFromToIndex 16 = .ok (.iload_n 1, 1) := dk_27 (dk_at dksJ6_checkFromToIndex_0 16 rfl rfl)
theorem dJ6_checkFromToIndex_17 : decode cJ6_checkFromToIndex 17 = .ok (.iload_n 2, 1) := dk_28 (dk_at dksJ6_checkFromToIndex_0 17 rfl rfl)
theorem dJ6_checkFromToIndex_18 : decode cJ6_checkFromToIndex 18 = .ok (.invokestatic 99, 3) := dk_184 0 99 (dk_at dksJ6_checkFromToIndex_0 18 rfl rfl)
theorem dJ6_checkFromToIndex_21 : decode cJ6_checkFromToIndex 21 = .ok (.athrow, 1) := dk_191 (dk_at dksJ6_checkFromToIndex_0 21 rfl rfl)
theorem dJ6_checkFromToIndex_22 : decode cJ6_checkFromToIndex 22 = .ok (.iload_n 0, 1) := dk_26 (dk_at dksJ6_checkFromToIndex_0 22 rfl rfl)
theorem dJ6_checkFromToIndex_23 : decode cJ6_checkFromToIndex 23 = .ok (.ireturn, 1) := dk_172 (dk_at dksJ6_checkFromToIndex_0 23 rfl rfl)
theorem q107 : (Jvm.Cond.initialized "jdk/internal/util/Preconditions") ∈ lw_all := lw_g (lw_at lw_m1 22 rfl) rfl
theorem q827 : (Jvm.Cond.laysStatic "jdk/internal/util/Preconditions" "SIOOBE_FORMATTER" "Ljava/util/function/BiFunction;") ∈ lw_tbl := lw_at lw_m4 22 rfl
theorem q829 : (Jvm.Cond.static ({ cls := "jdk/internal/util/Preconditions", name := "checkFromToIndex", desc := "(IIILjava/util/function/BiFunction;)I" } : Jvm.MethodName)) ∈ lw_all := lw_g (lw_at lw_m4 24 rfl) rfl
theorem q830 : (Jvm.Cond.code ({ cls := "jdk/internal/util/Preconditions", name := "checkFromToIndex", desc := "(IIILjava/util/function/BiFunction;)I" } : Jvm.MethodName) prog_33_method_12_code (4 : Nat) (Option.some Jvm.ClassFile.FieldType.int)) ∈ lw_all := lw_g (lw_at lw_m4 25 rfl) rfl

/-! java/lang/Character -/
set_option maxRecDepth 100000
def RJ7 : String := "java/lang/Character"
abbrev cJ7_isValidCodePoint : ByteArray := prog_22_method_11_code
def yJ7_isValidCodePoint : MethodName := ⟨RJ7, "isValidCodePoint", "(I)Z"⟩
def dkwJ7_isValidCodePoint_0 : List UInt8 := [26, 16, 16, 124, 60, 27, 16, 17, 162, 0, 7, 4, 167, 0, 4, 3, 172]
abbrev dktJ7_isValidCodePoint_0 : List UInt8 := dkwJ7_isValidCodePoint_0 ++ []
theorem dksJ7_isValidCodePoint_0 : cJ7_isValidCodePoint.data.toList.drop 0 = dktJ7_isValidCodePoint_0 := by decide +kernel
theorem dJ7_isValidCodePoint_0 : decode cJ7_isValidCodePoint 0 = .ok (.iload_n 0, 1) := dk_26 (dk_at dksJ7_isValidCodePoint_0 0 rfl rfl)
theorem dJ7_isValidCodePoint_1 : decode cJ7_isValidCodePoint 1 = .ok (.bipush 16, 2) := dk_16 16 (dk_at dksJ7_isValidCodePoint_0 1 rfl rfl)
theorem dJ7_isValidCodePoint_3 : decode cJ7_isValidCodePoint 3 = .ok (.iushr, 1) := dk_124 (dk_at dksJ7_isValidCodePoint_0 3 rfl rfl)
theorem dJ7_isValidCodePoint_4 : decode cJ7_isValidCodePoint 4 = .ok (.istore_n 1, 1) := dk_60 (dk_at dksJ7_isValidCodePoint_0 4 rfl rfl)
theorem dJ7_isValidCodePoint_5 : decode cJ7_isValidCodePoint 5 = .ok (.iload_n 1, 1) := dk_27 (dk_at dksJ7_isValidCodePoint_0 5 rfl rfl)
theorem dJ7_isValidCodePoint_6 : decode cJ7_isValidCodePoint 6 = .ok (.bipush 17, 2) := dk_16 17 (dk_at dksJ7_isValidCodePoint_0 6 rfl rfl)
theorem dJ7_isValidCodePoint_8 : decode cJ7_isValidCodePoint 8 = .ok (.if_icmp .ge 7, 3) := dk_162 0 7 (dk_at dksJ7_isValidCodePoint_0 8 rfl rfl)
theorem dJ7_isValidCodePoint_11 : decode cJ7_isValidCodePoint 11 = .ok (.iconst 1, 1) := dk_4 (dk_at dksJ7_isValidCodePoint_0 11 rfl rfl)
theorem dJ7_isValidCodePoint_12 : decode cJ7_isValidCodePoint 12 = .ok (.goto 4, 3) := dk_167 0 4 (dk_at dksJ7_isValidCodePoint_0 12 rfl rfl)
theorem dJ7_isValidCodePoint_15 : decode cJ7_isValidCodePoint 15 = .ok (.iconst 0, 1) := dk_3 (dk_at dksJ7_isValidCodePoint_0 15 rfl rfl)
theorem dJ7_isValidCodePoint_16 : decode cJ7_isValidCodePoint 16 = .ok (.ireturn, 1) := dk_172 (dk_at dksJ7_isValidCodePoint_0 16 rfl rfl)
abbrev cJ7_highSurrogate : ByteArray := prog_22_method_28_code
def yJ7_highSurrogate : MethodName := ⟨RJ7, "highSurrogate", "(I)C"⟩
def dkwJ7_highSurrogate_0 : List UInt8 := [26, 16, 10, 124, 18, 110, 96, 146, 172]
abbrev dktJ7_highSurrogate_0 : List UInt8 := dkwJ7_highSurrogate_0 ++ []
theorem dksJ7_highSurrogate_0 : cJ7_highSurrogate.data.toList.drop 0 = dktJ7_highSurrogate_0 := by decide +kernel
theorem dJ7_highSurrogate_0 : decode cJ7_highSurrogate 0 = .ok (.iload_n 0, 1) := dk_26 (dk_at dksJ7_highSurrogate_0 0 rfl rfl)
theorem dJ7_highSurrogate_1 : decode cJ7_highSurrogate 1 = .ok (.bipush 10, 2) := dk_16 10 (dk_at dksJ7_highSurrogate_0 1 rfl rfl)
theorem dJ7_highSurrogate_3 : decode cJ7_highSurrogate 3 = .ok (.iushr, 1) := dk_124 (dk_at dksJ7_highSurrogate_0 3 rfl rfl)
theorem dJ7_highSurrogate_4 : decode cJ7_highSurrogate 4 = .ok (.ldc 110, 2) := dk_18 110 (dk_at dksJ7_highSurrogate_0 4 rfl rfl)
theorem dJ7_highSurrogate_6 : decode cJ7_highSurrogate 6 = .ok (.iadd, 1) := dk_96 (dk_at dksJ7_highSurrogate_0 6 rfl rfl)
theorem dJ7_highSurrogate_7 : decode cJ7_highSurrogate 7 = .ok (.i2c, 1) := dk_146 (dk_at dksJ7_highSurrogate_0 7 rfl rfl)
theorem dJ7_highSurrogate_8 : decode cJ7_highSurrogate 8 = .ok (.ireturn, 1) := dk_172 (dk_at dksJ7_highSurrogate_0 8 rfl rfl)
abbrev cJ7_lowSurrogate : ByteArray := prog_22_method_29_code
def yJ7_lowSurrogate : MethodName := ⟨RJ7, "lowSurrogate", "(I)C"⟩
def dkwJ7_lowSurrogate_0 : List UInt8 := [26, 17, 3, 255, 126, 18, 76, 96, 146, 172]
abbrev dktJ7_lowSurrogate_0 : List UInt8 := dkwJ7_lowSurrogate_0 ++ []
theorem dksJ7_lowSurrogate_0 : cJ7_lowSurrogate.data.toList.drop 0 = dktJ7_lowSurrogate_0 := by decide +kernel
theorem dJ7_lowSurrogate_0 : decode cJ7_lowSurrogate 0 = .ok (.iload_n 0, 1) := dk_26 (dk_at dksJ7_lowSurrogate_0 0 rfl rfl)
theorem dJ7_lowSurrogate_1 : decode cJ7_lowSurrogate 1 = .ok (.sipush 1023, 3) := dk_17 3 255 (dk_at dksJ7_lowSurrogate_0 1 rfl rfl)
theorem dJ7_lowSurrogate_4 : decode cJ7_lowSurrogate 4 = .ok (.iand, 1) := dk_126 (dk_at dksJ7_lowSurrogate_0 4 rfl rfl)
theorem dJ7_lowSurrogate_5 : decode cJ7_lowSurrogate 5 = .ok (.ldc 76, 2) := dk_18 76 (dk_at dksJ7_lowSurrogate_0 5 rfl rfl)
theorem dJ7_lowSurrogate_7 : decode cJ7_lowSurrogate 7 = .ok (.iadd, 1) := dk_96 (dk_at dksJ7_lowSurrogate_0 7 rfl rfl)
theorem dJ7_lowSurrogate_8 : decode cJ7_lowSurrogate 8 = .ok (.i2c, 1) := dk_146 (dk_at dksJ7_lowSurrogate_0 8 rfl rfl)
theorem dJ7_lowSurrogate_9 : decode cJ7_lowSurrogate 9 = .ok (.ireturn, 1) := dk_172 (dk_at dksJ7_lowSurrogate_0 9 rfl rfl)
theorem q108 : (Jvm.Cond.initialized "java/lang/Character") ∈ lw_all := lw_g (lw_at lw_m1 23 rfl) rfl
theorem q847 : (Jvm.Cond.static ({ cls := "java/lang/Character", name := "isValidCodePoint", desc := "(I)Z" } : Jvm.MethodName)) ∈ lw_all := lw_g (lw_at lw_m4 42 rfl) rfl
theorem q848 : (Jvm.Cond.code ({ cls := "java/lang/Character", name := "isValidCodePoint", desc := "(I)Z" } : Jvm.MethodName) prog_22_method_11_code (2 : Nat) (Option.some Jvm.ClassFile.FieldType.boolean)) ∈ lw_all := lw_g (lw_at lw_m4 43 rfl) rfl
theorem q850 : (Jvm.Cond.static ({ cls := "java/lang/Character", name := "highSurrogate", desc := "(I)C" } : Jvm.MethodName)) ∈ lw_all := lw_g (lw_at lw_m4 45 rfl) rfl
theorem q851 : (Jvm.Cond.code ({ cls := "java/lang/Character", name := "highSurrogate", desc := "(I)C" } : Jvm.MethodName) prog_22_method_28_code (1 : Nat) (Option.some Jvm.ClassFile.FieldType.char)) ∈ lw_all := lw_g (lw_at lw_m4 46 rfl) rfl
theorem q852 : (Jvm.Cond.constant "java/lang/Character" (110 : Nat) (55232 : Int32)) ∈ lw_all := lw_g (lw_at lw_m4 47 rfl) rfl
theorem q854 : (Jvm.Cond.static ({ cls := "java/lang/Character", name := "lowSurrogate", desc := "(I)C" } : Jvm.MethodName)) ∈ lw_all := lw_g (lw_at lw_m4 49 rfl) rfl
theorem q855 : (Jvm.Cond.code ({ cls := "java/lang/Character", name := "lowSurrogate", desc := "(I)C" } : Jvm.MethodName) prog_22_method_29_code (1 : Nat) (Option.some Jvm.ClassFile.FieldType.char)) ∈ lw_all := lw_g (lw_at lw_m4 50 rfl) rfl
theorem q856 : (Jvm.Cond.constant "java/lang/Character" (76 : Nat) (56320 : Int32)) ∈ lw_all := lw_g (lw_at lw_m4 51 rfl) rfl

/-! java/lang/Integer -/
set_option maxRecDepth 100000
def RJ8 : String := "java/lang/Integer"
abbrev cJ8_bitCount : ByteArray := prog_24_method_49_code
def yJ8_bitCount : MethodName := ⟨RJ8, "bitCount", "(I)I"⟩
def dkwJ8_bitCount_2 : List UInt8 := [26, 16, 63, 126, 172]
abbrev dktJ8_bitCount_2 : List UInt8 := dkwJ8_bitCount_2 ++ []
def dkwJ8_bitCount_1 : List UInt8 := [26, 26, 7, 124, 96, 19, 1, 11, 126, 59, 26, 26, 16, 8, 124, 96, 59, 26, 26, 16, 16, 124, 96, 59]
abbrev dktJ8_bitCount_1 : List UInt8 := dkwJ8_bitCount_1 ++ dktJ8_bitCount_2
def dkwJ8_bitCount_0 : List UInt8 := [26, 26, 4, 124, 19, 1, 9, 126, 100, 59, 26, 19, 1, 10, 126, 26, 5, 124, 19, 1, 10, 126, 96, 59]
abbrev dktJ8_bitCount_0 : List UInt8 := dkwJ8_bitCount_0 ++ dktJ8_bitCount_1
theorem dksJ8_bitCount_0 : cJ8_bitCount.data.toList.drop 0 = dktJ8_bitCount_0 := by decide +kernel
theorem dksJ8_bitCount_1 : cJ8_bitCount.data.toList.drop 24 = dktJ8_bitCount_1 := dk_seg dksJ8_bitCount_0 24 rfl rfl
theorem dksJ8_bitCount_2 : cJ8_bitCount.data.toList.drop 48 = dktJ8_bitCount_2 := dk_seg dksJ8_bitCount_1 24 rfl rfl
theorem dJ8_bitCount_0 : decode cJ8_bitCount 0 = .ok (.iload_n 0, 1) := dk_26 (dk_at dksJ8_bitCount_0 0 rfl rfl)
theorem dJ8_bitCount_1 : decode cJ8_bitCount 1 = .ok (.iload_n 0, 1) := dk_26 (dk_at dksJ8_bitCount_0 1 rfl rfl)
theorem dJ8_bitCount_2 : decode cJ8_bitCount 2 = .ok (.iconst 1, 1) := dk_4 (dk_at dksJ8_bitCount_0 2 rfl rfl)
theorem dJ8_bitCount_3 : decode cJ8_bitCount 3 = .ok (.iushr, 1) := dk_124 (dk_at dksJ8_bitCount_0 3 rfl rfl)
theorem dJ8_bitCount_4 : decode cJ8_bitCount 4 = .ok (.ldc_w 265, 3) := dk_19 1 9 (dk_at dksJ8_bitCount_0 4 rfl rfl)
theorem dJ8_bitCount_7 : decode cJ8_bitCount 7 = .ok (.iand, 1) := dk_126 (dk_at dksJ8_bitCount_0 7 rfl rfl)
theorem dJ8_bitCount_8 : decode cJ8_bitCount 8 = .ok (.isub, 1) := dk_100 (dk_at dksJ8_bitCount_0 8 rfl rfl)
theorem dJ8_bitCount_9 : decode cJ8_bitCount 9 = .ok (.istore_n 0, 1) := dk_59 (dk_at dksJ8_bitCount_0 9 rfl rfl)
theorem dJ8_bitCount_10 : decode cJ8_bitCount 10 = .ok (.iload_n 0, 1) := dk_26 (dk_at dksJ8_bitCount_0 10 rfl rfl)
theorem dJ8_bitCount_11 : decode cJ8_bitCount 11 = .ok (.ldc_w 266, 3) := dk_19 1 10 (dk_at dksJ8_bitCount_0 11 rfl rfl)
theorem dJ8_bitCount_14 : decode cJ8_bitCount 14 = .ok (.iand, 1) := dk_126 (dk_at dksJ8_bitCount_0 14 rfl rfl)
theorem dJ8_bitCount_15 : decode cJ8_bitCount 15 = .ok (.iload_n 0, 1) := dk_26 (dk_at dksJ8_bitCount_0 15 rfl rfl)
theorem dJ8_bitCount_16 : decode cJ8_bitCount 16 = .ok (.iconst 2, 1) := dk_5 (dk_at dksJ8_bitCount_0 16 rfl rfl)
theorem dJ8_bitCount_17 : decode cJ8_bitCount 17 = .ok (.iushr, 1) := dk_124 (dk_at dksJ8_bitCount_0 17 rfl rfl)
theorem dJ8_bitCount_18 : decode cJ8_bitCount 18 = .ok (.ldc_w 266, 3) := dk_19 1 10 (dk_at dksJ8_bitCount_0 18 rfl rfl)
theorem dJ8_bitCount_21 : decode cJ8_bitCount 21 = .ok (.iand, 1) := dk_126 (dk_at dksJ8_bitCount_0 21 rfl rfl)
theorem dJ8_bitCount_22 : decode cJ8_bitCount 22 = .ok (.iadd, 1) := dk_96 (dk_at dksJ8_bitCount_0 22 rfl rfl)
theorem dJ8_bitCount_23 : decode cJ8_bitCount 23 = .ok (.istore_n 0, 1) := dk_59 (dk_at dksJ8_bitCount_0 23 rfl rfl)
theorem dJ8_bitCount_24 : decode cJ8_bitCount 24 = .ok (.iload_n 0, 1) := dk_26 (dk_at dksJ8_bitCount_1 0 rfl rfl)
theorem dJ8_bitCount_25 : decode cJ8_bitCount 25 = .ok (.iload_n 0, 1) := dk_26 (dk_at dksJ8_bitCount_1 1 rfl rfl)
theorem dJ8_bitCount_26 : decode cJ8_bitCount 26 = .ok (.iconst 4, 1) := dk_7 (dk_at dksJ8_bitCount_1 2 rfl rfl)
theorem dJ8_bitCount_27 : decode cJ8_bitCount 27 = .ok (.iushr, 1) := dk_124 (dk_at dksJ8_bitCount_1 3 rfl rfl)
theorem dJ8_bitCount_28 : decode cJ8_bitCount 28 = .ok (.iadd, 1) := dk_96 (dk_at dksJ8_bitCount_1 4 rfl rfl)
theorem dJ8_bitCount_29 : decode cJ8_bitCount 29 = .ok (.ldc_w 267, 3) := dk_19 1 11 (dk_at dksJ8_bitCount_1 5 rfl rfl)
theorem dJ8_bitCount_32 : decode cJ8_bitCount 32 = .ok (.iand, 1) := dk_126 (dk_at dksJ8_bitCount_1 8 rfl rfl)
theorem dJ8_bitCount_33 : decode cJ8_bitCount 33 = .ok (.istore_n 0, 1) := dk_59 (dk_at dksJ8_bitCount_1 9 rfl rfl)
theorem dJ8_bitCount_34 : decode cJ8_bitCount 34 = .ok (.iload_n 0, 1) := dk_26 (dk_at dksJ8_bitCount_1 10 rfl rfl)
theorem dJ8_bitCount_35 : decode cJ8_bitCount 35 = .ok (.iload_n 0, 1) := dk_26 (dk_at dksJ8_bitCount_1 11 rfl rfl)
theorem dJ8_bitCount_36 : decode cJ8_bitCount 36 = .ok (.bipush 8, 2) := dk_16 8 (dk_at dksJ8_bitCount_1 12 rfl rfl)
theorem dJ8_bitCount_38 : decode cJ8_bitCount 38 = .ok (.iushr, 1) := dk_124 (dk_at dksJ8_bitCount_1 14 rfl rfl)
theorem dJ8_bitCount_39 : decode cJ8_bitCount 39 = .ok (.iadd, 1) := dk_96 (dk_at dksJ8_bitCount_1 15 rfl rfl)
theorem dJ8_bitCount_40 : decode cJ8_bitCount 40 = .ok (.istore_n 0, 1) := dk_59 (dk_at dksJ8_bitCount_1 16 rfl rfl)
theorem dJ8_bitCount_41 : decode cJ8_bitCount 41 = .ok (.iload_n 0, 1) := dk_26 (dk_at dksJ8_bitCount_1 17 rfl rfl)
theorem dJ8_bitCount_42 : decode cJ8_bitCount 42 = .ok (.iload_n 0, 1) := dk_26 (dk_at dksJ8_bitCount_1 18 rfl rfl)
theorem dJ8_bitCount_43 : decode cJ8_bitCount 43 = .ok (.bipush 16, 2) := dk_16 16 (dk_at dksJ8_bitCount_1 19 rfl rfl)
theorem dJ8_bitCount_45 : decode cJ8_bitCount 45 = .ok (.iushr, 1) := dk_124 (dk_at dksJ8_bitCount_1 21 rfl rfl)
theorem dJ8_bitCount_46 : decode cJ8_bitCount 46 = .ok (.iadd, 1) := dk_96 (dk_at dksJ8_bitCount_1 22 rfl rfl)
theorem dJ8_bitCount_47 : decode cJ8_bitCount 47 = .ok (.istore_n 0, 1) := dk_59 (dk_at dksJ8_bitCount_1 23 rfl rfl)
theorem dJ8_bitCount_48 : decode cJ8_bitCount 48 = .ok (.iload_n 0, 1) := dk_26 (dk_at dksJ8_bitCount_2 0 rfl rfl)
theorem dJ8_bitCount_49 : decode cJ8_bitCount 49 = .ok (.bipush 63, 2) := dk_16 63 (dk_at dksJ8_bitCount_2 1 rfl rfl)
theorem dJ8_bitCount_51 : decode cJ8_bitCount 51 = .ok (.iand, 1) := dk_126 (dk_at dksJ8_bitCount_2 3 rfl rfl)
theorem dJ8_bitCount_52 : decode cJ8_bitCount 52 = .ok (.ireturn, 1) := dk_172 (dk_at dksJ8_bitCount_2 4 rfl rfl)
theorem q109 : (Jvm.Cond.initialized "java/lang/Integer") ∈ lw_all := lw_g (lw_at lw_m1 24 rfl) rfl
theorem q924 : (Jvm.Cond.static ({ cls := "java/lang/Integer", name := "bitCount", desc := "(I)I" } : Jvm.MethodName)) ∈ lw_all := lw_g (lw_at lw_m4 119 rfl) rfl
theorem q925 : (Jvm.Cond.code ({ cls := "java/lang/Integer", name := "bitCount", desc := "(I)I" } : Jvm.MethodName) prog_24_method_49_code (1 : Nat) (Option.some Jvm.ClassFile.FieldType.int)) ∈ lw_all := lw_g (lw_at lw_m4 120 rfl) rfl
theorem q926 : (Jvm.Cond.constant "java/lang/Integer" (265 : Nat) (1431655765 : Int32)) ∈ lw_all := lw_g (lw_at lw_m4 121 rfl) rfl
theorem q927 : (Jvm.Cond.constant "java/lang/Integer" (266 : Nat) (858993459 : Int32)) ∈ lw_all := lw_g (lw_at lw_m4 122 rfl) rfl
theorem q928 : (Jvm.Cond.constant "java/lang/Integer" (267 : Nat) (252645135 : Int32)) ∈ lw_all := lw_g (lw_at lw_m4 123 rfl) rfl

/-! java/lang/RuntimeException -/
set_option maxRecDepth 100000
def RJ9 : String := "java/lang/RuntimeException"
abbrev cJ9_init : ByteArray := prog_27_method_2_code
def yJ9_init : MethodName := ⟨RJ9, "<init>", "(Ljava/lang/String;)V"⟩
def dkwJ9_init_0 : List UInt8 := [42, 43, 183, 0, 7, 177]
abbrev dktJ9_init_0 : List UInt8 := dkwJ9_init_0 ++ []
theorem dksJ9_init_0 : cJ9_init.data.toList.drop 0 = dktJ9_init_0 := by decide +kernel
theorem dJ9_init_0 : decode cJ9_init 0 = .ok (.aload_n 0, 1) := dk_42 (dk_at dksJ9_init_0 0 rfl rfl)
theorem dJ9_init_1 : decode cJ9_init 1 = .ok (.aload_n 1, 1) := dk_43 (dk_at dksJ9_init_0 1 rfl rfl)
theorem dJ9_init_2 : decode cJ9_init 2 = .ok (.invokespecial 7, 3) := dk_183 0 7 (dk_at dksJ9_init_0 2 rfl rfl)
theorem dJ9_init_5 : decode cJ9_init 5 = .ok (.return_, 1) := dk_177 (dk_at dksJ9_init_0 5 rfl rfl)
theorem q111 : (Jvm.Cond.initialized "java/lang/RuntimeException") ∈ lw_all := lw_g (lw_at lw_m1 26 rfl) rfl
theorem q1032 : (Jvm.Cond.instanceMethod ({ cls := "java/lang/RuntimeException", name := "<init>", desc := "(Ljava/lang/String;)V" } : Jvm.MethodName)) ∈ lw_all := lw_g (lw_at lw_m4 227 rfl) rfl
theorem q1033 : (Jvm.Cond.code ({ cls := "java/lang/RuntimeException", name := "<init>", desc := "(Ljava/lang/String;)V" } : Jvm.MethodName) prog_27_method_2_code (2 : Nat) (Option.none : Option Jvm.ClassFile.FieldType)) ∈ lw_all := lw_g (lw_at lw_m4 228 rfl) rfl
theorem q1034 : (Jvm.Cond.methodLink "java/lang/RuntimeException" (7 : Nat) ({ cls := "java/lang/Exception", name := "<init>", desc := "(Ljava/lang/String;)V" } : Jvm.MethodName)) ∈ lw_all := lw_g (lw_at lw_m4 229 rfl) rfl
theorem q1048 : (Jvm.Cond.declares ({ cls := "java/lang/RuntimeException", name := "<init>", desc := "()V" } : Jvm.MethodName)) ∈ lw_tbl := lw_at lw_m5 3 rfl
theorem q1049 : (Jvm.Cond.declares ({ cls := "java/lang/RuntimeException", name := "<init>", desc := "(Ljava/lang/String;)V" } : Jvm.MethodName)) ∈ lw_tbl := lw_at lw_m5 4 rfl

/-! PictureBlock$House -/
set_option maxRecDepth 100000
def RX1 : String := "PictureBlock$House"
def TX1 : u_T := fun k => match k with
  | 0 => ("PictureBlock$House", "marks", "I", false)
  | 1 => ("PictureBlock$House", "pictures", "I", false)
  | 2 => ("PictureBlock$House", "round", "I", false)
  | 3 => ("PictureBlock$House", "limit", "I", false)
  | 4 => ("PictureBlock$House", "dropped", "I", false)
  | 5 => ("PictureBlock$House", "z", "I", false)
  | 6 => ("PictureBlock$House", "taped", "I", false)
  | 7 => ("PictureBlock$House", "waiting", "I", false)
  | 8 => ("PictureBlock$House", "mark", "[LPictureBlock$Slot;", true)
  | 9 => ("PictureBlock$House", "from", "[I", true)
  | 10 => ("PictureBlock$House", "to", "[I", true)
  | 11 => ("PictureBlock$House", "told", "[I", true)
  | 12 => ("PictureBlock$House", "on", "[I", true)
  | 13 => ("PictureBlock$House", "texts", "[LPictureBlock$Text;", true)
  | 14 => ("PictureBlock$House", "tape", "[B", true)
  | _ => ("PictureBlock$House", "waits", "[I", true)
def tyX1 : Nat → FieldType := fun k => match k with
  | 0 => .int
  | 1 => .int
  | 2 => .int
  | 3 => .int
  | 4 => .int
  | 5 => .int
  | 6 => .int
  | 7 => .int
  | 8 => .array (.object "PictureBlock$Slot")
  | 9 => .array .int
  | 10 => .array .int
  | 11 => .array .int
  | 12 => .array .int
  | 13 => .array (.object "PictureBlock$Text")
  | 14 => .array .byte
  | _ => .array .int
abbrev wsX10 : List Cond := u_ws RX1 TX1 16
set_option maxRecDepth 100000 in
theorem nmX1 : ∀ a, a < 16 → ∀ b, b < 16 → a ≠ b → (TX1 a).2.1 ≠ (TX1 b).2.1 := by decide +kernel
set_option maxRecDepth 100000 in
theorem tyX1_ok : ∀ k, k < 16 → parseFieldDescriptor (TX1 k).2.2.1 = some (tyX1 k) := by decide +kernel
abbrev cX1_init : ByteArray := prog_7_method_1_code
def yX1_init : MethodName := ⟨RX1, "<init>", "()V"⟩
def dkwX1_init_4 : List UInt8 := [180, 0, 23, 27, 187, 0, 21, 89, 183, 0, 53, 83, 132, 1, 1, 167, 255, 234, 177]
abbrev dktX1_init_4 : List UInt8 := dkwX1_init_4 ++ []
def dkwX1_init_3 : List UInt8 := [16, 60, 188, 8, 181, 0, 46, 42, 16, 24, 188, 10, 181, 0, 50, 3, 60, 27, 16, 8, 162, 0, 22, 42]
abbrev dktX1_init_3 : List UInt8 := dkwX1_init_3 ++ dktX1_init_4
def dkwX1_init_2 : List UInt8 := [16, 8, 188, 10, 181, 0, 34, 42, 16, 8, 188, 10, 181, 0, 37, 42, 5, 189, 0, 40, 181, 0, 42, 42]
abbrev dktX1_init_2 : List UInt8 := dkwX1_init_2 ++ dktX1_init_3
def dkwX1_init_1 : List UInt8 := [189, 0, 21, 181, 0, 23, 42, 16, 8, 188, 10, 181, 0, 27, 42, 16, 8, 188, 10, 181, 0, 31, 42]
abbrev dktX1_init_1 : List UInt8 := dkwX1_init_1 ++ dktX1_init_2
def dkwX1_init_0 : List UInt8 := [42, 183, 0, 3, 42, 5, 181, 0, 9, 42, 16, 20, 181, 0, 15, 42, 4, 181, 0, 18, 42, 16, 8]
abbrev dktX1_init_0 : List UInt8 := dkwX1_init_0 ++ dktX1_init_1
theorem dksX1_init_0 : cX1_init.data.toList.drop 0 = dktX1_init_0 := by decide +kernel
theorem dksX1_init_1 : cX1_init.data.toList.drop 23 = dktX1_init_1 := dk_seg dksX1_init_0 23 rfl rfl
theorem dksX1_init_2 : cX1_init.data.toList.drop 46 = dktX1_init_2 := dk_seg dksX1_init_1 23 rfl rfl
theorem dksX1_init_3 : cX1_init.data.toList.drop 70 = dktX1_init_3 := dk_seg dksX1_init_2 24 rfl rfl
theorem dksX1_init_4 : cX1_init.data.toList.drop 94 = dktX1_init_4 := dk_seg dksX1_init_3 24 rfl rfl
theorem dX1_init_0 : decode cX1_init 0 = .ok (.aload_n 0, 1) := dk_42 (dk_at dksX1_init_0 0 rfl rfl)
theorem dX1_init_1 : decode cX1_init 1 = .ok (.invokespecial 3, 3) := dk_183 0 3 (dk_at dksX1_init_0 1 rfl rfl)
theorem dX1_init_4 : decode cX1_init 4 = .ok (.aload_n 0, 1) := dk_42 (dk_at dksX1_init_0 4 rfl rfl)
theorem dX1_init_5 : decode cX1_init 5 = .ok (.iconst 2, 1) := dk_5 (dk_at dksX1_init_0 5 rfl rfl)
theorem dX1_init_6 : decode cX1_init 6 = .ok (.putfield 9, 3) := dk_181 0 9 (dk_at dksX1_init_0 6 rfl rfl)
theorem dX1_init_9 : decode cX1_init 9 = .ok (.aload_n 0, 1) := dk_42 (dk_at dksX1_init_0 9 rfl rfl)
theorem dX1_init_10 : decode cX1_init 10 = .ok (.bipush 20, 2) := dk_16 20 (dk_at dksX1_init_0 10 rfl rfl)
theorem dX1_init_12 : decode cX1_init 12 = .ok (.putfield 15, 3) := dk_181 0 15 (dk_at dksX1_init_0 12 rfl rfl)
theorem dX1_init_15 : decode cX1_init 15 = .ok (.aload_n 0, 1) := dk_42 (dk_at dksX1_init_0 15 rfl rfl)
theorem dX1_init_16 : decode cX1_init 16 = .ok (.iconst 1, 1) := dk_4 (dk_at dksX1_init_0 16 rfl rfl)
theorem dX1_init_17 : decode cX1_init 17 = .ok (.putfield 18, 3) := dk_181 0 18 (dk_at dksX1_init_0 17 rfl rfl)
theorem dX1_init_20 : decode cX1_init 20 = .ok (.aload_n 0, 1) := dk_42 (dk_at dksX1_init_0 20 rfl rfl)
theorem dX1_init_21 : decode cX1_init 21 = .ok (.bipush 8, 2) := dk_16 8 (dk_at dksX1_init_0 21 rfl rfl)
theorem dX1_init_23 : decode cX1_init 23 = .ok (.anewarray 21, 3) := dk_189 0 21 (dk_at dksX1_init_1 0 rfl rfl)
theorem dX1_init_26 : decode cX1_init 26 = .ok (.putfield 23, 3) := dk_181 0 23 (dk_at dksX1_init_1 3 rfl rfl)
theorem dX1_init_29 : decode cX1_init 29 = .ok (.aload_n 0, 1) := dk_42 (dk_at dksX1_init_1 6 rfl rfl)
theorem dX1_init_30 : decode cX1_init 30 = .ok (.bipush 8, 2) := dk_16 8 (dk_at dksX1_init_1 7 rfl rfl)
theorem dX1_init_32 : decode cX1_init 32 = .ok (.newarray .int, 2) := dk_188_10 (dk_at dksX1_init_1 9 rfl rfl)
theorem dX1_init_34 : decode cX1_init 34 = .ok (.putfield 27, 3) := dk_181 0 27 (dk_at dksX1_init_1 11 rfl rfl)
theorem dX1_init_37 : decode cX1_init 37 = .ok (.aload_n 0, 1) := dk_42 (dk_at dksX1_init_1 14 rfl rfl)
theorem dX1_init_38 : decode cX1_init 38 = .ok (.bipush 8, 2) := dk_16 8 (dk_at dksX1_init_1 15 rfl rfl)
theorem dX1_init_40 : decode cX1_init 40 = .ok (.newarray .int, 2) := dk_188_10 (dk_at dksX1_init_1 17 rfl rfl)
theorem dX1_init_42 : decode cX1_init 42 = .ok (.putfield 31, 3) := dk_181 0 31 (dk_at dksX1_init_1 19 rfl rfl)
theorem dX1_init_45 : decode cX1_init 45 = .ok (.aload_n 0, 1) := dk_42 (dk_at dksX1_init_1 22 rfl rfl)
theorem dX1_init_46 : decode cX1_init 46 = .ok (.bipush 8, 2) := dk_16 8 (dk_at dksX1_init_2 0 rfl rfl)
theorem dX1_init_48 : decode cX1_init 48 = .ok (.newarray .int, 2) := dk_188_10 (dk_at dksX1_init_2 2 rfl rfl)
theorem dX1_init_50 : decode cX1_init 50 = .ok (.putfield 34, 3) := dk_181 0 34 (dk_at dksX1_init_2 4 rfl rfl)
theorem dX1_init_53 : decode cX1_init 53 = .ok (.aload_n 0, 1) := dk_42 (dk_at dksX1_init_2 7 rfl rfl)
theorem dX1_init_54 : decode cX1_init 54 = .ok (.bipush 8, 2) := dk_16 8 (dk_at dksX1_init_2 8 rfl rfl)
theorem dX1_init_56 : decode cX1_init 56 = .ok (.newarray .int, 2) := dk_188_10 (dk_at dksX1_init_2 10 rfl rfl)
theorem dX1_init_58 : decode cX1_init 58 = .ok (.putfield 37, 3) := dk_181 0 37 (dk_at dksX1_init_2 12 rfl rfl)
theorem dX1_init_61 : decode cX1_init 61 = .ok (.aload_n 0, 1) := dk_42 (dk_at dksX1_init_2 15 rfl rfl)
theorem dX1_init_62 : decode cX1_init 62 = .ok (.iconst 2, 1) := dk_5 (dk_at dksX1_init_2 16 rfl rfl)
theorem dX1_init_63 : decode cX1_init 63 = .ok (.anewarray 40, 3) := dk_189 0 40 (dk_at dksX1_init_2 17 rfl rfl)
theorem dX1_init_66 : decode cX1_init 66 = .ok (.putfield 42, 3) := dk_181 0 42 (dk_at dksX1_init_2 20 rfl rfl)
theorem dX1_init_69 : decode cX1_init 69 = .ok (.aload_n 0, 1) := dk_42 (dk_at dksX1_init_2 23 rfl rfl)
theorem dX1_init_70 : decode cX1_init 70 = .ok (.bipush 60, 2) := dk_16 60 (dk_at dksX1_init_3 0 rfl rfl)
theorem dX1_init_72 : decode cX1_init 72 = .ok (.newarray .byte, 2) := dk_188_8 (dk_at dksX1_init_3 2 rfl rfl)
theorem dX1_init_74 : decode cX1_init 74 = .ok (.putfield 46, 3) := dk_181 0 46 (dk_at dksX1_init_3 4 rfl rfl)
theorem dX1_init_77 : decode cX1_init 77 = .ok (.aload_n 0, 1) := dk_42 (dk_at dksX1_init_3 7 rfl rfl)
theorem dX1_init_78 : decode cX1_init 78 = .ok (.bipush 24, 2) := dk_16 24 (dk_at dksX1_init_3 8 rfl rfl)
theorem dX1_init_80 : decode cX1_init 80 = .ok (.newarray .int, 2) := dk_188_10 (dk_at dksX1_init_3 10 rfl rfl)
theorem dX1_init_82 : decode cX1_init 82 = .ok (.putfield 50, 3) := dk_181 0 50 (dk_at dksX1_init_3 12 rfl rfl)
theorem dX1_init_85 : decode cX1_init 85 = .ok (.iconst 0, 1) := dk_3 (dk_at dksX1_init_3 15 rfl rfl)
theorem dX1_init_86 : decode cX1_init 86 = .ok (.istore_n 1, 1) := dk_60 (dk_at dksX1_init_3 16 rfl rfl)
theorem dX1_init_87 : decode cX1_init 87 = .ok (.iload_n 1, 1) := dk_27 (dk_at dksX1_init_3 17 rfl rfl)
theorem dX1_init_88 : decode cX1_init 88 = .ok (.bipush 8, 2) := dk_16 8 (dk_at dksX1_init_3 18 rfl rfl)
theorem dX1_init_90 : decode cX1_init 90 = .ok (.if_icmp .ge 22, 3) := dk_162 0 22 (dk_at dksX1_init_3 20 rfl rfl)
theorem dX1_init_93 : decode cX1_init 93 = .ok (.aload_n 0, 1) := dk_42 (dk_at dksX1_init_3 23 rfl rfl)
theorem dX1_init_94 : decode cX1_init 94 = .ok (.getfield 23, 3) := dk_180 0 23 (dk_at dksX1_init_4 0 rfl rfl)
theorem dX1_init_97 : decode cX1_init 97 = .ok (.iload_n 1, 1) := dk_27 (dk_at dksX1_init_4 3 rfl rfl)
theorem dX1_init_98 : decode cX1_init 98 = .ok (.new 21, 3) := dk_187 0 21 (dk_at dksX1_init_4 4 rfl rfl)
theorem dX1_init_101 : decode cX1_init 101 = .ok (.dup, 1) := dk_89 (dk_at dksX1_init_4 7 rfl rfl)
theorem dX1_init_102 : decode cX1_init 102 = .ok (.invokespecial 53, 3) := dk_183 0 53 (dk_at dksX1_init_4 8 rfl rfl)
theorem dX1_init_105 : decode cX1_init 105 = .ok (.aastore, 1) := dk_83 (dk_at dksX1_init_4 11 rfl rfl)
theorem dX1_init_106 : decode cX1_init 106 = .ok (.iinc 1 1, 3) := dk_132 1 1 (dk_at dksX1_init_4 12 rfl rfl)
theorem dX1_init_109 : decode cX1_init 109 = .ok (.goto (-22), 3) := dk_167 255 234 (dk_at dksX1_init_4 15 rfl rfl)
theorem dX1_init_112 : decode cX1_init 112 = .ok (.return_, 1) := dk_177 (dk_at dksX1_init_4 18 rfl rfl)
abbrev cX1_at : ByteArray := prog_7_method_6_code
def yX1_at : MethodName := ⟨RX1, "at", "(I)LPictureBlock$Mark;"⟩
def dkwX1_at_0 : List UInt8 := [42, 180, 0, 23, 27, 50, 180, 0, 69, 192, 0, 79, 176]
abbrev dktX1_at_0 : List UInt8 := dkwX1_at_0 ++ []
theorem dksX1_at_0 : cX1_at.data.toList.drop 0 = dktX1_at_0 := by decide +kernel
theorem dX1_at_0 : decode cX1_at 0 = .ok (.aload_n 0, 1) := dk_42 (dk_at dksX1_at_0 0 rfl rfl)
theorem dX1_at_1 : decode cX1_at 1 = .ok (.getfield 23, 3) := dk_180 0 23 (dk_at dksX1_at_0 1 rfl rfl)
theorem dX1_at_4 : decode cX1_at 4 = .ok (.iload_n 1, 1) := dk_27 (dk_at dksX1_at_0 4 rfl rfl)
theorem dX1_at_5 : decode cX1_at 5 = .ok (.aaload, 1) := dk_50 (dk_at dksX1_at_0 5 rfl rfl)
theorem dX1_at_6 : decode cX1_at 6 = .ok (.getfield 69, 3) := dk_180 0 69 (dk_at dksX1_at_0 6 rfl rfl)
theorem dX1_at_9 : decode cX1_at 9 = .ok (.checkcast 79, 3) := dk_192 0 79 (dk_at dksX1_at_0 9 rfl rfl)
theorem dX1_at_12 : decode cX1_at 12 = .ok (.areturn, 1) := dk_176 (dk_at dksX1_at_0 12 rfl rfl)
abbrev cX1_round : ByteArray := prog_7_method_3_code
def yX1_round : MethodName := ⟨RX1, "round", "()I"⟩
theorem dX1_round_0 : decode cX1_round 0 = .ok (.aload_n 0, 1) := by decide +kernel
theorem dX1_round_1 : decode cX1_round 1 = .ok (.getfield 57, 3) := by decide +kernel
theorem dX1_round_4 : decode cX1_round 4 = .ok (.ireturn, 1) := by decide +kernel
abbrev cX1_marks : ByteArray := prog_7_method_5_code
def yX1_marks : MethodName := ⟨RX1, "marks", "(I)I"⟩
def dkwX1_marks_2 : List UInt8 := [27, 46, 160, 0, 7, 4, 167, 0, 4, 3, 96, 61, 132, 3, 1, 167, 255, 197, 28, 172]
abbrev dktX1_marks_2 : List UInt8 := dkwX1_marks_2 ++ []
def dkwX1_marks_1 : List UInt8 := [180, 0, 31, 29, 46, 42, 180, 0, 31, 27, 46, 159, 0, 18, 42, 180, 0, 27, 29, 46, 42, 180, 0, 31]
abbrev dktX1_marks_1 : List UInt8 := dkwX1_marks_1 ++ dktX1_marks_2
def dkwX1_marks_0 : List UInt8 := [3, 61, 3, 62, 29, 42, 180, 0, 54, 162, 0, 57, 28, 42, 180, 0, 37, 29, 46, 4, 160, 0, 37, 42]
abbrev dktX1_marks_0 : List UInt8 := dkwX1_marks_0 ++ dktX1_marks_1
theorem dksX1_marks_0 : cX1_marks.data.toList.drop 0 = dktX1_marks_0 := by decide +kernel
theorem dksX1_marks_1 : cX1_marks.data.toList.drop 24 = dktX1_marks_1 := dk_seg dksX1_marks_0 24 rfl rfl
theorem dksX1_marks_2 : cX1_marks.data.toList.drop 48 = dktX1_marks_2 := dk_seg dksX1_marks_1 24 rfl rfl
theorem dX1_marks_0 : decode cX1_marks 0 = .ok (.iconst 0, 1) := dk_3 (dk_at dksX1_marks_0 0 rfl rfl)
theorem dX1_marks_1 : decode cX1_marks 1 = .ok (.istore_n 2, 1) := dk_61 (dk_at dksX1_marks_0 1 rfl rfl)
theorem dX1_marks_2 : decode cX1_marks 2 = .ok (.iconst 0, 1) := dk_3 (dk_at dksX1_marks_0 2 rfl rfl)
theorem dX1_marks_3 : decode cX1_marks 3 = .ok (.istore_n 3, 1) := dk_62 (dk_at dksX1_marks_0 3 rfl rfl)
theorem dX1_marks_4 : decode cX1_marks 4 = .ok (.iload_n 3, 1) := dk_29 (dk_at dksX1_marks_0 4 rfl rfl)
theorem dX1_marks_5 : decode cX1_marks 5 = .ok (.aload_n 0, 1) := dk_42 (dk_at dksX1_marks_0 5 rfl rfl)
theorem dX1_marks_6 : decode cX1_marks 6 = .ok (.getfield 54, 3) := dk_180 0 54 (dk_at dksX1_marks_0 6 rfl rfl)
theorem dX1_marks_9 : decode cX1_marks 9 = .ok (.if_icmp .ge 57, 3) := dk_162 0 57 (dk_at dksX1_marks_0 9 rfl rfl)
theorem dX1_marks_12 : decode cX1_marks 12 = .ok (.iload_n 2, 1) := dk_28 (dk_at dksX1_marks_0 12 rfl rfl)
theorem dX1_marks_13 : decode cX1_marks 13 = .ok (.aload_n 0, 1) := dk_42 (dk_at dksX1_marks_0 13 rfl rfl)
theorem dX1_marks_14 : decode cX1_marks 14 = .ok (.getfield 37, 3) := dk_180 0 37 (dk_at dksX1_marks_0 14 rfl rfl)
theorem dX1_marks_17 : decode cX1_marks 17 = .ok (.iload_n 3, 1) := dk_29 (dk_at dksX1_marks_0 17 rfl rfl)
theorem dX1_marks_18 : decode cX1_marks 18 = .ok (.iaload, 1) := dk_46 (dk_at dksX1_marks_0 18 rfl rfl)
theorem dX1_marks_19 : decode cX1_marks 19 = .ok (.iconst 1, 1) := dk_4 (dk_at dksX1_marks_0 19 rfl rfl)
theorem dX1_marks_20 : decode cX1_marks 20 = .ok (.if_icmp .ne 37, 3) := dk_160 0 37 (dk_at dksX1_marks_0 20 rfl rfl)
theorem dX1_marks_23 : decode cX1_marks 23 = .ok (.aload_n 0, 1) := dk_42 (dk_at dksX1_marks_0 23 rfl rfl)
theorem dX1_marks_24 : decode cX1_marks 24 = .ok (.getfield 31, 3) := dk_180 0 31 (dk_at dksX1_marks_1 0 rfl rfl)
theorem dX1_marks_27 : decode cX1_marks 27 = .ok (.iload_n 3, 1) := dk_29 (dk_at dksX1_marks_1 3 rfl rfl)
theorem dX1_marks_28 : decode cX1_marks 28 = .ok (.iaload, 1) := dk_46 (dk_at dksX1_marks_1 4 rfl rfl)
theorem dX1_marks_29 : decode cX1_marks 29 = .ok (.aload_n 0, 1) := dk_42 (dk_at dksX1_marks_1 5 rfl rfl)
theorem dX1_marks_30 : decode cX1_marks 30 = .ok (.getfield 31, 3) := dk_180 0 31 (dk_at dksX1_marks_1 6 rfl rfl)
theorem dX1_marks_33 : decode cX1_marks 33 = .ok (.iload_n 1, 1) := dk_27 (dk_at dksX1_marks_1 9 rfl rfl)
theorem dX1_marks_34 : decode cX1_marks 34 = .ok (.iaload, 1) := dk_46 (dk_at dksX1_marks_1 10 rfl rfl)
theorem dX1_marks_35 : decode cX1_marks 35 = .ok (.if_icmp .eq 18, 3) := dk_159 0 18 (dk_at dksX1_marks_1 11 rfl rfl)
theorem dX1_marks_38 : decode cX1_marks 38 = .ok (.aload_n 0, 1) := dk_42 (dk_at dksX1_marks_1 14 rfl rfl)
theorem dX1_marks_39 : decode cX1_marks 39 = .ok (.getfield 27, 3) := dk_180 0 27 (dk_at dksX1_marks_1 15 rfl rfl)
theorem dX1_marks_42 : decode cX1_marks 42 = .ok (.iload_n 3, 1) := dk_29 (dk_at dksX1_marks_1 18 rfl rfl)
theorem dX1_marks_43 : decode cX1_marks 43 = .ok (.iaload, 1) := dk_46 (dk_at dksX1_marks_1 19 rfl rfl)
theorem dX1_marks_44 : decode cX1_marks 44 = .ok (.aload_n 0, 1) := dk_42 (dk_at dksX1_marks_1 20 rfl rfl)
theorem dX1_marks_45 : decode cX1_marks 45 = .ok (.getfield 31, 3) := dk_180 0 31 (dk_at dksX1_marks_1 21 rfl rfl)
theorem dX1_marks_48 : decode cX1_marks 48 = .ok (.iload_n 1, 1) := dk_27 (dk_at dksX1_marks_2 0 rfl rfl)
theorem dX1_marks_49 : decode cX1_marks 49 = .ok (.iaload, 1) := dk_46 (dk_at dksX1_marks_2 1 rfl rfl)
theorem dX1_marks_50 : decode cX1_marks 50 = .ok (.if_icmp .ne 7, 3) := dk_160 0 7 (dk_at dksX1_marks_2 2 rfl rfl)
theorem dX1_marks_53 : decode cX1_marks 53 = .ok (.iconst 1, 1) := dk_4 (dk_at dksX1_marks_2 5 rfl rfl)
theorem dX1_marks_54 : decode cX1_marks 54 = .ok (.goto 4, 3) := dk_167 0 4 (dk_at dksX1_marks_2 6 rfl rfl)
theorem dX1_marks_57 : decode cX1_marks 57 = .ok (.iconst 0, 1) := dk_3 (dk_at dksX1_marks_2 9 rfl rfl)
theorem dX1_marks_58 : decode cX1_marks 58 = .ok (.iadd, 1) := dk_96 (dk_at dksX1_marks_2 10 rfl rfl)
theorem dX1_marks_59 : decode cX1_marks 59 = .ok (.istore_n 2, 1) := dk_61 (dk_at dksX1_marks_2 11 rfl rfl)
theorem dX1_marks_60 : decode cX1_marks 60 = .ok (.iinc 3 1, 3) := dk_132 3 1 (dk_at dksX1_marks_2 12 rfl rfl)
theorem dX1_marks_63 : decode cX1_marks 63 = .ok (.goto (-59), 3) := dk_167 255 197 (dk_at dksX1_marks_2 15 rfl rfl)
theorem dX1_marks_66 : decode cX1_marks 66 = .ok (.iload_n 2, 1) := dk_28 (dk_at dksX1_marks_2 18 rfl rfl)
theorem dX1_marks_67 : decode cX1_marks 67 = .ok (.ireturn, 1) := dk_172 (dk_at dksX1_marks_2 19 rfl rfl)
abbrev cX1_told : ByteArray := prog_7_method_4_code
def yX1_told : MethodName := ⟨RX1, "told", "(I)I"⟩
def dkwX1_told_0 : List UInt8 := [42, 180, 0, 34, 27, 46, 172]
abbrev dktX1_told_0 : List UInt8 := dkwX1_told_0 ++ []
theorem dksX1_told_0 : cX1_told.data.toList.drop 0 = dktX1_told_0 := by decide +kernel
theorem dX1_told_0 : decode cX1_told 0 = .ok (.aload_n 0, 1) := dk_42 (dk_at dksX1_told_0 0 rfl rfl)
theorem dX1_told_1 : decode cX1_told 1 = .ok (.getfield 34, 3) := dk_180 0 34 (dk_at dksX1_told_0 1 rfl rfl)
theorem dX1_told_4 : decode cX1_told 4 = .ok (.iload_n 1, 1) := dk_27 (dk_at dksX1_told_0 4 rfl rfl)
theorem dX1_told_5 : decode cX1_told 5 = .ok (.iaload, 1) := dk_46 (dk_at dksX1_told_0 5 rfl rfl)
theorem dX1_told_6 : decode cX1_told 6 = .ok (.ireturn, 1) := dk_172 (dk_at dksX1_told_0 6 rfl rfl)
abbrev cX1_used : ByteArray := prog_7_method_7_code
def yX1_used : MethodName := ⟨RX1, "used", "()I"⟩
def dkwX1_used_1 : List UInt8 := [132, 2, 1, 167, 255, 234, 27, 172]
abbrev dktX1_used_1 : List UInt8 := dkwX1_used_1 ++ []
def dkwX1_used_0 : List UInt8 := [3, 60, 3, 61, 28, 42, 180, 0, 54, 162, 0, 20, 27, 42, 180, 0, 37, 28, 46, 28, 120, 128, 60]
abbrev dktX1_used_0 : List UInt8 := dkwX1_used_0 ++ dktX1_used_1
theorem dksX1_used_0 : cX1_used.data.toList.drop 0 = dktX1_used_0 := by decide +kernel
theorem dksX1_used_1 : cX1_used.data.toList.drop 23 = dktX1_used_1 := dk_seg dksX1_used_0 23 rfl rfl
theorem dX1_used_0 : decode cX1_used 0 = .ok (.iconst 0, 1) := dk_3 (dk_at dksX1_used_0 0 rfl rfl)
theorem dX1_used_1 : decode cX1_used 1 = .ok (.istore_n 1, 1) := dk_60 (dk_at dksX1_used_0 1 rfl rfl)
theorem dX1_used_2 : decode cX1_used 2 = .ok (.iconst 0, 1) := dk_3 (dk_at dksX1_used_0 2 rfl rfl)
theorem dX1_used_3 : decode cX1_used 3 = .ok (.istore_n 2, 1) := dk_61 (dk_at dksX1_used_0 3 rfl rfl)
theorem dX1_used_4 : decode cX1_used 4 = .ok (.iload_n 2, 1) := dk_28 (dk_at dksX1_used_0 4 rfl rfl)
theorem dX1_used_5 : decode cX1_used 5 = .ok (.aload_n 0, 1) := dk_42 (dk_at dksX1_used_0 5 rfl rfl)
theorem dX1_used_6 : decode cX1_used 6 = .ok (.getfield 54, 3) := dk_180 0 54 (dk_at dksX1_used_0 6 rfl rfl)
theorem dX1_used_9 : decode cX1_used 9 = .ok (.if_icmp .ge 20, 3) := dk_162 0 20 (dk_at dksX1_used_0 9 rfl rfl)
theorem dX1_used_12 : decode cX1_used 12 = .ok (.iload_n 1, 1) := dk_27 (dk_at dksX1_used_0 12 rfl rfl)
theorem dX1_used_13 : decode cX1_used 13 = .ok (.aload_n 0, 1) := dk_42 (dk_at dksX1_used_0 13 rfl rfl)
theorem dX1_used_14 : decode cX1_used 14 = .ok (.getfield 37, 3) := dk_180 0 37 (dk_at dksX1_used_0 14 rfl rfl)
theorem dX1_used_17 : decode cX1_used 17 = .ok (.iload_n 2, 1) := dk_28 (dk_at dksX1_used_0 17 rfl rfl)
theorem dX1_used_18 : decode cX1_used 18 = .ok (.iaload, 1) := dk_46 (dk_at dksX1_used_0 18 rfl rfl)
theorem dX1_used_19 : decode cX1_used 19 = .ok (.iload_n 2, 1) := dk_28 (dk_at dksX1_used_0 19 rfl rfl)
theorem dX1_used_20 : decode cX1_used 20 = .ok (.ishl, 1) := dk_120 (dk_at dksX1_used_0 20 rfl rfl)
theorem dX1_used_21 : decode cX1_used 21 = .ok (.ior, 1) := dk_128 (dk_at dksX1_used_0 21 rfl rfl)
theorem dX1_used_22 : decode cX1_used 22 = .ok (.istore_n 1, 1) := dk_60 (dk_at dksX1_used_0 22 rfl rfl)
theorem dX1_used_23 : decode cX1_used 23 = .ok (.iinc 2 1, 3) := dk_132 2 1 (dk_at dksX1_used_1 0 rfl rfl)
theorem dX1_used_26 : decode cX1_used 26 = .ok (.goto (-22), 3) := dk_167 255 234 (dk_at dksX1_used_1 3 rfl rfl)
theorem dX1_used_29 : decode cX1_used 29 = .ok (.iload_n 1, 1) := dk_27 (dk_at dksX1_used_1 6 rfl rfl)
theorem dX1_used_30 : decode cX1_used 30 = .ok (.ireturn, 1) := dk_172 (dk_at dksX1_used_1 7 rfl rfl)
abbrev cX1_tied : ByteArray := prog_7_method_8_code
def yX1_tied : MethodName := ⟨RX1, "tied", "(I)I"⟩
def dkwX1_tied_5 : List UInt8 := [61, 132, 4, 1, 167, 255, 146, 132, 3, 1, 167, 255, 132, 28, 172]
abbrev dktX1_tied_5 : List UInt8 := dkwX1_tied_5 ++ []
def dkwX1_tied_4 : List UInt8 := [160, 0, 25, 42, 180, 0, 27, 21, 4, 46, 155, 0, 15, 28, 4, 42, 180, 0, 27, 21, 4, 46, 120, 128]
abbrev dktX1_tied_4 : List UInt8 := dkwX1_tied_4 ++ dktX1_tied_5
def dkwX1_tied_3 : List UInt8 := [42, 180, 0, 31, 21, 4, 46, 120, 128, 61, 28, 42, 180, 0, 31, 21, 4, 46, 122, 4, 126, 4]
abbrev dktX1_tied_3 : List UInt8 := dkwX1_tied_3 ++ dktX1_tied_4
def dkwX1_tied_2 : List UInt8 := [21, 4, 46, 122, 4, 126, 4, 160, 0, 7, 4, 167, 0, 4, 3, 54, 5, 21, 5, 153, 0, 15, 28, 4]
abbrev dktX1_tied_2 : List UInt8 := dkwX1_tied_2 ++ dktX1_tied_3
def dkwX1_tied_1 : List UInt8 := [122, 4, 126, 154, 0, 6, 167, 0, 89, 42, 180, 0, 27, 21, 4, 46, 155, 0, 18, 28, 42, 180, 0, 27]
abbrev dktX1_tied_1 : List UInt8 := dkwX1_tied_1 ++ dktX1_tied_2
def dkwX1_tied_0 : List UInt8 := [3, 61, 3, 62, 29, 7, 162, 0, 125, 3, 54, 4, 21, 4, 42, 180, 0, 54, 162, 0, 107, 27, 21, 4]
abbrev dktX1_tied_0 : List UInt8 := dkwX1_tied_0 ++ dktX1_tied_1
theorem dksX1_tied_0 : cX1_tied.data.toList.drop 0 = dktX1_tied_0 := by decide +kernel
theorem dksX1_tied_1 : cX1_tied.data.toList.drop 24 = dktX1_tied_1 := dk_seg dksX1_tied_0 24 rfl rfl
theorem dksX1_tied_2 : cX1_tied.data.toList.drop 48 = dktX1_tied_2 := dk_seg dksX1_tied_1 24 rfl rfl
theorem dksX1_tied_3 : cX1_tied.data.toList.drop 72 = dktX1_tied_3 := dk_seg dksX1_tied_2 24 rfl rfl
theorem dksX1_tied_4 : cX1_tied.data.toList.drop 94 = dktX1_tied_4 := dk_seg dksX1_tied_3 22 rfl rfl
theorem dksX1_tied_5 : cX1_tied.data.toList.drop 118 = dktX1_tied_5 := dk_seg dksX1_tied_4 24 rfl rfl
theorem dX1_tied_0 : decode cX1_tied 0 = .ok (.iconst 0, 1) := dk_3 (dk_at dksX1_tied_0 0 rfl rfl)
theorem dX1_tied_1 : decode cX1_tied 1 = .ok (.istore_n 2, 1) := dk_61 (dk_at dksX1_tied_0 1 rfl rfl)
theorem dX1_tied_2 : decode cX1_tied 2 = .ok (.iconst 0, 1) := dk_3 (dk_at dksX1_tied_0 2 rfl rfl)
theorem dX1_tied_3 : decode cX1_tied 3 = .ok (.istore_n 3, 1) := dk_62 (dk_at dksX1_tied_0 3 rfl rfl)
theorem dX1_tied_4 : decode cX1_tied 4 = .ok (.iload_n 3, 1) := dk_29 (dk_at dksX1_tied_0 4 rfl rfl)
theorem dX1_tied_5 : decode cX1_tied 5 = .ok (.iconst 4, 1) := dk_7 (dk_at dksX1_tied_0 5 rfl rfl)
theorem dX1_tied_6 : decode cX1_tied 6 = .ok (.if_icmp .ge 125, 3) := dk_162 0 125 (dk_at dksX1_tied_0 6 rfl rfl)
theorem dX1_tied_9 : decode cX1_tied 9 = .ok (.iconst 0, 1) := dk_3 (dk_at dksX1_tied_0 9 rfl rfl)
theorem dX1_tied_10 : decode cX1_tied 10 = .ok (.istore 4, 2) := dk_54 4 (dk_at dksX1_tied_0 10 rfl rfl)
theorem dX1_tied_12 : decode cX1_tied 12 = .ok (.iload 4, 2) := dk_21 4 (dk_at dksX1_tied_0 12 rfl rfl)
theorem dX1_tied_14 : decode cX1_tied 14 = .ok (.aload_n 0, 1) := dk_42 (dk_at dksX1_tied_0 14 rfl rfl)
theorem dX1_tied_15 : decode cX1_tied 15 = .ok (.getfield 54, 3) := dk_180 0 54 (dk_at dksX1_tied_0 15 rfl rfl)
theorem dX1_tied_18 : decode cX1_tied 18 = .ok (.if_icmp .ge 107, 3) := dk_162 0 107 (dk_at dksX1_tied_0 18 rfl rfl)
theorem dX1_tied_21 : decode cX1_tied 21 = .ok (.iload_n 1, 1) := dk_27 (dk_at dksX1_tied_0 21 rfl rfl)
theorem dX1_tied_22 : decode cX1_tied 22 = .ok (.iload 4, 2) := dk_21 4 (dk_at dksX1_tied_0 22 rfl rfl)
theorem dX1_tied_24 : decode cX1_tied 24 = .ok (.ishr, 1) := dk_122 (dk_at dksX1_tied_1 0 rfl rfl)
theorem dX1_tied_25 : decode cX1_tied 25 = .ok (.iconst 1, 1) := dk_4 (dk_at dksX1_tied_1 1 rfl rfl)
theorem dX1_tied_26 : decode cX1_tied 26 = .ok (.iand, 1) := dk_126 (dk_at dksX1_tied_1 2 rfl rfl)
theorem dX1_tied_27 : decode cX1_tied 27 = .ok (.ifCond .ne 6, 3) := dk_154 0 6 (dk_at dksX1_tied_1 3 rfl rfl)
theorem dX1_tied_30 : decode cX1_tied 30 = .ok (.goto 89, 3) := dk_167 0 89 (dk_at dksX1_tied_1 6 rfl rfl)
theorem dX1_tied_33 : decode cX1_tied 33 = .ok (.aload_n 0, 1) := dk_42 (dk_at dksX1_tied_1 9 rfl rfl)
theorem dX1_tied_34 : decode cX1_tied 34 = .ok (.getfield 27, 3) := dk_180 0 27 (dk_at dksX1_tied_1 10 rfl rfl)
theorem dX1_tied_37 : decode cX1_tied 37 = .ok (.iload 4, 2) := dk_21 4 (dk_at dksX1_tied_1 13 rfl rfl)
theorem dX1_tied_39 : decode cX1_tied 39 = .ok (.iaload, 1) := dk_46 (dk_at dksX1_tied_1 15 rfl rfl)
theorem dX1_tied_40 : decode cX1_tied 40 = .ok (.ifCond .lt 18, 3) := dk_155 0 18 (dk_at dksX1_tied_1 16 rfl rfl)
theorem dX1_tied_43 : decode cX1_tied 43 = .ok (.iload_n 2, 1) := dk_28 (dk_at dksX1_tied_1 19 rfl rfl)
theorem dX1_tied_44 : decode cX1_tied 44 = .ok (.aload_n 0, 1) := dk_42 (dk_at dksX1_tied_1 20 rfl rfl)
theorem dX1_tied_45 : decode cX1_tied 45 = .ok (.getfield 27, 3) := dk_180 0 27 (dk_at dksX1_tied_1 21 rfl rfl)
theorem dX1_tied_48 : decode cX1_tied 48 = .ok (.iload 4, 2) := dk_21 4 (dk_at dksX1_tied_2 0 rfl rfl)
theorem dX1_tied_50 : decode cX1_tied 50 = .ok (.iaload, 1) := dk_46 (dk_at dksX1_tied_2 2 rfl rfl)
theorem dX1_tied_51 : decode cX1_tied 51 = .ok (.ishr, 1) := dk_122 (dk_at dksX1_tied_2 3 rfl rfl)
theorem dX1_tied_52 : decode cX1_tied 52 = .ok (.iconst 1, 1) := dk_4 (dk_at dksX1_tied_2 4 rfl rfl)
theorem dX1_tied_53 : decode cX1_tied 53 = .ok (.iand, 1) := dk_126 (dk_at dksX1_tied_2 5 rfl rfl)
theorem dX1_tied_54 : decode cX1_tied 54 = .ok (.iconst 1, 1) := dk_4 (dk_at dksX1_tied_2 6 rfl rfl)
theorem dX1_tied_55 : decode cX1_tied 55 = .ok (.if_icmp .ne 7, 3) := dk_160 0 7 (dk_at dksX1_tied_2 7 rfl rfl)
theorem dX1_tied_58 : decode cX1_tied 58 = .ok (.iconst 1, 1) := dk_4 (dk_at dksX1_tied_2 10 rfl rfl)
theorem dX1_tied_59 : decode cX1_tied 59 = .ok (.goto 4, 3) := dk_167 0 4 (dk_at dksX1_tied_2 11 rfl rfl)
theorem dX1_tied_62 : decode cX1_tied 62 = .ok (.iconst 0, 1) := dk_3 (dk_at dksX1_tied_2 14 rfl rfl)
theorem dX1_tied_63 : decode cX1_tied 63 = .ok (.istore 5, 2) := dk_54 5 (dk_at dksX1_tied_2 15 rfl rfl)
theorem dX1_tied_65 : decode cX1_tied 65 = .ok (.iload 5, 2) := dk_21 5 (dk_at dksX1_tied_2 17 rfl rfl)
theorem dX1_tied_67 : decode cX1_tied 67 = .ok (.ifCond .eq 15, 3) := dk_153 0 15 (dk_at dksX1_tied_2 19 rfl rfl)
theorem dX1_tied_70 : decode cX1_tied 70 = .ok (.iload_n 2, 1) := dk_28 (dk_at dksX1_tied_2 22 rfl rfl)
theorem dX1_tied_71 : decode cX1_tied 71 = .ok (.iconst 1, 1) := dk_4 (dk_at dksX1_tied_2 23 rfl rfl)
theorem dX1_tied_72 : decode cX1_tied 72 = .ok (.aload_n 0, 1) := dk_42 (dk_at dksX1_tied_3 0 rfl rfl)
theorem dX1_tied_73 : decode cX1_tied 73 = .ok (.getfield 31, 3) := dk_180 0 31 (dk_at dksX1_tied_3 1 rfl rfl)
theorem dX1_tied_76 : decode cX1_tied 76 = .ok (.iload 4, 2) := dk_21 4 (dk_at dksX1_tied_3 4 rfl rfl)
theorem dX1_tied_78 : decode cX1_tied 78 = .ok (.iaload, 1) := dk_46 (dk_at dksX1_tied_3 6 rfl rfl)
theorem dX1_tied_79 : decode cX1_tied 79 = .ok (.ishl, 1) := dk_120 (dk_at dksX1_tied_3 7 rfl rfl)
theorem dX1_tied_80 : decode cX1_tied 80 = .ok (.ior, 1) := dk_128 (dk_at dksX1_tied_3 8 rfl rfl)
theorem dX1_tied_81 : decode cX1_tied 81 = .ok (.istore_n 2, 1) := dk_61 (dk_at dksX1_tied_3 9 rfl rfl)
theorem dX1_tied_82 : decode cX1_tied 82 = .ok (.iload_n 2, 1) := dk_28 (dk_at dksX1_tied_3 10 rfl rfl)
theorem dX1_tied_83 : decode cX1_tied 83 = .ok (.aload_n 0, 1) := dk_42 (dk_at dksX1_tied_3 11 rfl rfl)
theorem dX1_tied_84 : decode cX1_tied 84 = .ok (.getfield 31, 3) := dk_180 0 31 (dk_at dksX1_tied_3 12 rfl rfl)
theorem dX1_tied_87 : decode cX1_tied 87 = .ok (.iload 4, 2) := dk_21 4 (dk_at dksX1_tied_3 15 rfl rfl)
theorem dX1_tied_89 : decode cX1_tied 89 = .ok (.iaload, 1) := dk_46 (dk_at dksX1_tied_3 17 rfl rfl)
theorem dX1_tied_90 : decode cX1_tied 90 = .ok (.ishr, 1) := dk_122 (dk_at dksX1_tied_3 18 rfl rfl)
theorem dX1_tied_91 : decode cX1_tied 91 = .ok (.iconst 1, 1) := dk_4 (dk_at dksX1_tied_3 19 rfl rfl)
theorem dX1_tied_92 : decode cX1_tied 92 = .ok (.iand, 1) := dk_126 (dk_at dksX1_tied_3 20 rfl rfl)
theorem dX1_tied_93 : decode cX1_tied 93 = .ok (.iconst 1, 1) := dk_4 (dk_at dksX1_tied_3 21 rfl rfl)
theorem dX1_tied_94 : decode cX1_tied 94 = .ok (.if_icmp .ne 25, 3) := dk_160 0 25 (dk_at dksX1_tied_4 0 rfl rfl)
theorem dX1_tied_97 : decode cX1_tied 97 = .ok (.aload_n 0, 1) := dk_42 (dk_at dksX1_tied_4 3 rfl rfl)
theorem dX1_tied_98 : decode cX1_tied 98 = .ok (.getfield 27, 3) := dk_180 0 27 (dk_at dksX1_tied_4 4 rfl rfl)
theorem dX1_tied_101 : decode cX1_tied 101 = .ok (.iload 4, 2) := dk_21 4 (dk_at dksX1_tied_4 7 rfl rfl)
theorem dX1_tied_103 : decode cX1_tied 103 = .ok (.iaload, 1) := dk_46 (dk_at dksX1_tied_4 9 rfl rfl)
theorem dX1_tied_104 : decode cX1_tied 104 = .ok (.ifCond .lt 15, 3) := dk_155 0 15 (dk_at dksX1_tied_4 10 rfl rfl)
theorem dX1_tied_107 : decode cX1_tied 107 = .ok (.iload_n 2, 1) := dk_28 (dk_at dksX1_tied_4 13 rfl rfl)
theorem dX1_tied_108 : decode cX1_tied 108 = .ok (.iconst 1, 1) := dk_4 (dk_at dksX1_tied_4 14 rfl rfl)
theorem dX1_tied_109 : decode cX1_tied 109 = .ok (.aload_n 0, 1) := dk_42 (dk_at dksX1_tied_4 15 rfl rfl)
theorem dX1_tied_110 : decode cX1_tied 110 = .ok (.getfield 27, 3) := dk_180 0 27 (dk_at dksX1_tied_4 16 rfl rfl)
theorem dX1_tied_113 : decode cX1_tied 113 = .ok (.iload 4, 2) := dk_21 4 (dk_at dksX1_tied_4 19 rfl rfl)
theorem dX1_tied_115 : decode cX1_tied 115 = .ok (.iaload, 1) := dk_46 (dk_at dksX1_tied_4 21 rfl rfl)
theorem dX1_tied_116 : decode cX1_tied 116 = .ok (.ishl, 1) := dk_120 (dk_at dksX1_tied_4 22 rfl rfl)
theorem dX1_tied_117 : decode cX1_tied 117 = .ok (.ior, 1) := dk_128 (dk_at dksX1_tied_4 23 rfl rfl)
theorem dX1_tied_118 : decode cX1_tied 118 = .ok (.istore_n 2, 1) := dk_61 (dk_at dksX1_tied_5 0 rfl rfl)
theorem dX1_tied_119 : decode cX1_tied 119 = .ok (.iinc 4 1, 3) := dk_132 4 1 (dk_at dksX1_tied_5 1 rfl rfl)
theorem dX1_tied_122 : decode cX1_tied 122 = .ok (.goto (-110), 3) := dk_167 255 146 (dk_at dksX1_tied_5 4 rfl rfl)
theorem dX1_tied_125 : decode cX1_tied 125 = .ok (.iinc 3 1, 3) := dk_132 3 1 (dk_at dksX1_tied_5 7 rfl rfl)
theorem dX1_tied_128 : decode cX1_tied 128 = .ok (.goto (-124), 3) := dk_167 255 132 (dk_at dksX1_tied_5 10 rfl rfl)
theorem dX1_tied_131 : decode cX1_tied 131 = .ok (.iload_n 2, 1) := dk_28 (dk_at dksX1_tied_5 13 rfl rfl)
theorem dX1_tied_132 : decode cX1_tied 132 = .ok (.ireturn, 1) := dk_172 (dk_at dksX1_tied_5 14 rfl rfl)
abbrev cX1_drawn : ByteArray := prog_7_method_9_code
def yX1_drawn : MethodName := ⟨RX1, "drawn", "()I"⟩
def dkwX1_drawn_0 : List UInt8 := [42, 42, 180, 0, 18, 18, 81, 104, 17, 48, 57, 96, 181, 0, 18, 42, 180, 0, 18, 16, 8, 124, 172]
abbrev dktX1_drawn_0 : List UInt8 := dkwX1_drawn_0 ++ []
theorem dksX1_drawn_0 : cX1_drawn.data.toList.drop 0 = dktX1_drawn_0 := by decide +kernel
theorem dX1_drawn_0 : decode cX1_drawn 0 = .ok (.aload_n 0, 1) := dk_42 (dk_at dksX1_drawn_0 0 rfl rfl)
theorem dX1_drawn_1 : decode cX1_drawn 1 = .ok (.aload_n 0, 1) := dk_42 (dk_at dksX1_drawn_0 1 rfl rfl)
theorem dX1_drawn_2 : decode cX1_drawn 2 = .ok (.getfield 18, 3) := dk_180 0 18 (dk_at dksX1_drawn_0 2 rfl rfl)
theorem dX1_drawn_5 : decode cX1_drawn 5 = .ok (.ldc 81, 2) := dk_18 81 (dk_at dksX1_drawn_0 5 rfl rfl)
theorem dX1_drawn_7 : decode cX1_drawn 7 = .ok (.imul, 1) := dk_104 (dk_at dksX1_drawn_0 7 rfl rfl)
theorem dX1_drawn_8 : decode cX1_drawn 8 = .ok (.sipush 12345, 3) := dk_17 48 57 (dk_at dksX1_drawn_0 8 rfl rfl)
theorem dX1_drawn_11 : decode cX1_drawn 11 = .ok (.iadd, 1) := dk_96 (dk_at dksX1_drawn_0 11 rfl rfl)
theorem dX1_drawn_12 : decode cX1_drawn 12 = .ok (.putfield 18, 3) := dk_181 0 18 (dk_at dksX1_drawn_0 12 rfl rfl)
theorem dX1_drawn_15 : decode cX1_drawn 15 = .ok (.aload_n 0, 1) := dk_42 (dk_at dksX1_drawn_0 15 rfl rfl)
theorem dX1_drawn_16 : decode cX1_drawn 16 = .ok (.getfield 18, 3) := dk_180 0 18 (dk_at dksX1_drawn_0 16 rfl rfl)
theorem dX1_drawn_19 : decode cX1_drawn 19 = .ok (.bipush 8, 2) := dk_16 8 (dk_at dksX1_drawn_0 19 rfl rfl)
theorem dX1_drawn_21 : decode cX1_drawn 21 = .ok (.iushr, 1) := dk_124 (dk_at dksX1_drawn_0 21 rfl rfl)
theorem dX1_drawn_22 : decode cX1_drawn 22 = .ok (.ireturn, 1) := dk_172 (dk_at dksX1_drawn_0 22 rfl rfl)
abbrev cX1_follows : ByteArray := prog_7_method_2_code
def yX1_follows : MethodName := ⟨RX1, "follows", "(LPictureBlock$House;)V"⟩
def dkwX1_follows_8 : List UInt8 := [42, 180, 0, 50, 3, 16, 24, 184, 0, 73, 177]
abbrev dktX1_follows_8 : List UInt8 := dkwX1_follows_8 ++ []
def dkwX1_follows_7 : List UInt8 := [5, 184, 0, 73, 43, 180, 0, 46, 3, 42, 180, 0, 46, 3, 16, 60, 184, 0, 73, 43, 180, 0, 50, 3]
abbrev dktX1_follows_7 : List UInt8 := dkwX1_follows_7 ++ dktX1_follows_8
def dkwX1_follows_6 : List UInt8 := [180, 0, 37, 3, 42, 180, 0, 37, 3, 16, 8, 184, 0, 73, 43, 180, 0, 42, 3, 42, 180, 0, 42, 3]
abbrev dktX1_follows_6 : List UInt8 := dkwX1_follows_6 ++ dktX1_follows_7
def dkwX1_follows_5 : List UInt8 := [3, 16, 8, 184, 0, 73, 43, 180, 0, 34, 3, 42, 180, 0, 34, 3, 16, 8, 184, 0, 73, 43]
abbrev dktX1_follows_5 : List UInt8 := dkwX1_follows_5 ++ dktX1_follows_6
def dkwX1_follows_4 : List UInt8 := [43, 180, 0, 27, 3, 42, 180, 0, 27, 3, 16, 8, 184, 0, 73, 43, 180, 0, 31, 3, 42, 180, 0, 31]
abbrev dktX1_follows_4 : List UInt8 := dkwX1_follows_4 ++ dktX1_follows_5
def dkwX1_follows_3 : List UInt8 := [42, 180, 0, 23, 28, 50, 43, 180, 0, 23, 28, 50, 180, 0, 69, 181, 0, 69, 132, 2, 1, 167, 255, 229]
abbrev dktX1_follows_3 : List UInt8 := dkwX1_follows_3 ++ dktX1_follows_4
def dkwX1_follows_2 : List UInt8 := [42, 43, 180, 0, 63, 181, 0, 63, 42, 43, 180, 0, 66, 181, 0, 66, 3, 61, 28, 16, 8, 162, 0, 27]
abbrev dktX1_follows_2 : List UInt8 := dkwX1_follows_2 ++ dktX1_follows_3
def dkwX1_follows_1 : List UInt8 := [42, 43, 180, 0, 15, 181, 0, 15, 42, 43, 180, 0, 60, 181, 0, 60, 42, 43, 180, 0, 18, 181, 0, 18]
abbrev dktX1_follows_1 : List UInt8 := dkwX1_follows_1 ++ dktX1_follows_2
def dkwX1_follows_0 : List UInt8 := [42, 43, 180, 0, 54, 181, 0, 54, 42, 43, 180, 0, 9, 181, 0, 9, 42, 43, 180, 0, 57, 181, 0, 57]
abbrev dktX1_follows_0 : List UInt8 := dkwX1_follows_0 ++ dktX1_follows_1
theorem dksX1_follows_0 : cX1_follows.data.toList.drop 0 = dktX1_follows_0 := by decide +kernel
theorem dksX1_follows_1 : cX1_follows.data.toList.drop 24 = dktX1_follows_1 := dk_seg dksX1_follows_0 24 rfl rfl
theorem dksX1_follows_2 : cX1_follows.data.toList.drop 48 = dktX1_follows_2 := dk_seg dksX1_follows_1 24 rfl rfl
theorem dksX1_follows_3 : cX1_follows.data.toList.drop 72 = dktX1_follows_3 := dk_seg dksX1_follows_2 24 rfl rfl
theorem dksX1_follows_4 : cX1_follows.data.toList.drop 96 = dktX1_follows_4 := dk_seg dksX1_follows_3 24 rfl rfl
theorem dksX1_follows_5 : cX1_follows.data.toList.drop 120 = dktX1_follows_5 := dk_seg dksX1_follows_4 24 rfl rfl
theorem dksX1_follows_6 : cX1_follows.data.toList.drop 142 = dktX1_follows_6 := dk_seg dksX1_follows_5 22 rfl rfl
theorem dksX1_follows_7 : cX1_follows.data.toList.drop 166 = dktX1_follows_7 := dk_seg dksX1_follows_6 24 rfl rfl
theorem dksX1_follows_8 : cX1_follows.data.toList.drop 190 = dktX1_follows_8 := dk_seg dksX1_follows_7 24 rfl rfl
theorem dX1_follows_0 : decode cX1_follows 0 = .ok (.aload_n 0, 1) := dk_42 (dk_at dksX1_follows_0 0 rfl rfl)
theorem dX1_follows_1 : decode cX1_follows 1 = .ok (.aload_n 1, 1) := dk_43 (dk_at dksX1_follows_0 1 rfl rfl)
theorem dX1_follows_2 : decode cX1_follows 2 = .ok (.getfield 54, 3) := dk_180 0 54 (dk_at dksX1_follows_0 2 rfl rfl)
theorem dX1_follows_5 : decode cX1_follows 5 = .ok (.putfield 54, 3) := dk_181 0 54 (dk_at dksX1_follows_0 5 rfl rfl)
theorem dX1_follows_8 : decode cX1_follows 8 = .ok (.aload_n 0, 1) := dk_42 (dk_at dksX1_follows_0 8 rfl rfl)
theorem dX1_follows_9 : decode cX1_follows 9 = .ok (.aload_n 1, 1) := dk_43 (dk_at dksX1_follows_0 9 rfl rfl)
theorem dX1_follows_10 : decode cX1_follows 10 = .ok (.getfield 9, 3) := dk_180 0 9 (dk_at dksX1_follows_0 10 rfl rfl)
theorem dX1_follows_13 : decode cX1_follows 13 = .ok (.putfield 9, 3) := dk_181 0 9 (dk_at dksX1_follows_0 13 rfl rfl)
theorem dX1_follows_16 : decode cX1_follows 16 = .ok (.aload_n 0, 1) := dk_42 (dk_at dksX1_follows_0 16 rfl rfl)
theorem dX1_follows_17 : decode cX1_follows 17 = .ok (.aload_n 1, 1) := dk_43 (dk_at dksX1_follows_0 17 rfl rfl)
theorem dX1_follows_18 : decode cX1_follows 18 = .ok (.getfield 57, 3) := dk_180 0 57 (dk_at dksX1_follows_0 18 rfl rfl)
theorem dX1_follows_21 : decode cX1_follows 21 = .ok (.putfield 57, 3) := dk_181 0 57 (dk_at dksX1_follows_0 21 rfl rfl)
theorem dX1_follows_24 : decode cX1_follows 24 = .ok (.aload_n 0, 1) := dk_42 (dk_at dksX1_follows_1 0 rfl rfl)
theorem dX1_follows_25 : decode cX1_follows 25 = .ok (.aload_n 1, 1) := dk_43 (dk_at dksX1_follows_1 1 rfl rfl)
theorem dX1_follows_26 : decode cX1_follows 26 = .ok (.getfield 15, 3) := dk_180 0 15 (dk_at dksX1_follows_1 2 rfl rfl)
theorem dX1_follows_29 : decode cX1_follows 29 = .ok (.putfield 15, 3) := dk_181 0 15 (dk_at dksX1_follows_1 5 rfl rfl)
theorem dX1_follows_32 : decode cX1_follows 32 = .ok (.aload_n 0, 1) := dk_42 (dk_at dksX1_follows_1 8 rfl rfl)
theorem dX1_follows_33 : decode cX1_follows 33 = .ok (.aload_n 1, 1) := dk_43 (dk_at dksX1_follows_1 9 rfl rfl)
theorem dX1_follows_34 : decode cX1_follows 34 = .ok (.getfield 60, 3) := dk_180 0 60 (dk_at dksX1_follows_1 10 rfl rfl)
theorem dX1_follows_37 : decode cX1_follows 37 = .ok (.putfield 60, 3) := dk_181 0 60 (dk_at dksX1_follows_1 13 rfl rfl)
theorem dX1_follows_40 : decode cX1_follows 40 = .ok (.aload_n 0, 1) := dk_42 (dk_at dksX1_follows_1 16 rfl rfl)
theorem dX1_follows_41 : decode cX1_follows 41 = .ok (.aload_n 1, 1) := dk_43 (dk_at dksX1_follows_1 17 rfl rfl)
theorem dX1_follows_42 : decode cX1_follows 42 = .ok (.getfield 18, 3) := dk_180 0 18 (dk_at dksX1_follows_1 18 rfl rfl)
theorem dX1_follows_45 : decode cX1_follows 45 = .ok (.putfield 18, 3) := dk_181 0 18 (dk_at dksX1_follows_1 21 rfl rfl)
theorem dX1_follows_48 : decode cX1_follows 48 = .ok (.aload_n 0, 1) := dk_42 (dk_at dksX1_follows_2 0 rfl rfl)
theorem dX1_follows_49 : decode cX1_follows 49 = .ok (.aload_n 1, 1) := dk_43 (dk_at dksX1_follows_2 1 rfl rfl)
theorem dX1_follows_50 : decode cX1_follows 50 = .ok (.getfield 63, 3) := dk_180 0 63 (dk_at dksX1_follows_2 2 rfl rfl)
theorem dX1_follows_53 : decode cX1_follows 53 = .ok (.putfield 63, 3) := dk_181 0 63 (dk_at dksX1_follows_2 5 rfl rfl)
theorem dX1_follows_56 : decode cX1_follows 56 = .ok (.aload_n 0, 1) := dk_42 (dk_at dksX1_follows_2 8 rfl rfl)
theorem dX1_follows_57 : decode cX1_follows 57 = .ok (.aload_n 1, 1) := dk_43 (dk_at dksX1_follows_2 9 rfl rfl)
theorem dX1_follows_58 : decode cX1_follows 58 = .ok (.getfield 66, 3) := dk_180 0 66 (dk_at dksX1_follows_2 10 rfl rfl)
theorem dX1_follows_61 : decode cX1_follows 61 = .ok (.putfield 66, 3) := dk_181 0 66 (dk_at dksX1_follows_2 13 rfl rfl)
theorem dX1_follows_64 : decode cX1_follows 64 = .ok (.iconst 0, 1) := dk_3 (dk_at dksX1_follows_2 16 rfl rfl)
theorem dX1_follows_65 : decode cX1_follows 65 = .ok (.istore_n 2, 1) := dk_61 (dk_at dksX1_follows_2 17 rfl rfl)
theorem dX1_follows_66 : decode cX1_follows 66 = .ok (.iload_n 2, 1) := dk_28 (dk_at dksX1_follows_2 18 rfl rfl)
theorem dX1_follows_67 : decode cX1_follows 67 = .ok (.bipush 8, 2) := dk_16 8 (dk_at dksX1_follows_2 19 rfl rfl)
theorem dX1_follows_69 : decode cX1_follows 69 = .ok (.if_icmp .ge 27, 3) := dk_162 0 27 (dk_at dksX1_follows_2 21 rfl rfl)
theorem dX1_follows_72 : decode cX1_follows 72 = .ok (.aload_n 0, 1) := dk_42 (dk_at dksX1_follows_3 0 rfl rfl)
theorem dX1_follows_73 : decode cX1_follows 73 = .ok (.getfield 23, 3) := dk_180 0 23 (dk_at dksX1_follows_3 1 rfl rfl)
theorem dX1_follows_76 : decode cX1_follows 76 = .ok (.iload_n 2, 1) := dk_28 (dk_at dksX1_follows_3 4 rfl rfl)
theorem dX1_follows_77 : decode cX1_follows 77 = .ok (.aaload, 1) := dk_50 (dk_at dksX1_follows_3 5 rfl rfl)
theorem dX1_follows_78 : decode cX1_follows 78 = .ok (.aload_n 1, 1) := dk_43 (dk_at dksX1_follows_3 6 rfl rfl)
theorem dX1_follows_79 : decode cX1_follows 79 = .ok (.getfield 23, 3) := dk_180 0 23 (dk_at dksX1_follows_3 7 rfl rfl)
theorem dX1_follows_82 : decode cX1_follows 82 = .ok (.iload_n 2, 1) := dk_28 (dk_at dksX1_follows_3 10 rfl rfl)
theorem dX1_follows_83 : decode cX1_follows 83 = .ok (.aaload, 1) := dk_50 (dk_at dksX1_follows_3 11 rfl rfl)
theorem dX1_follows_84 : decode cX1_follows 84 = .ok (.getfield 69, 3) := dk_180 0 69 (dk_at dksX1_follows_3 12 rfl rfl)
theorem dX1_follows_87 : decode cX1_follows 87 = .ok (.putfield 69, 3) := dk_181 0 69 (dk_at dksX1_follows_3 15 rfl rfl)
theorem dX1_follows_90 : decode cX1_follows 90 = .ok (.iinc 2 1, 3) := dk_132 2 1 (dk_at dksX1_follows_3 18 rfl rfl)
theorem dX1_follows_93 : decode cX1_follows 93 = .ok (.goto (-27), 3) := dk_167 255 229 (dk_at dksX1_follows_3 21 rfl rfl)
theorem dX1_follows_96 : decode cX1_follows 96 = .ok (.aload_n 1, 1) := dk_43 (dk_at dksX1_follows_4 0 rfl rfl)
theorem dX1_follows_97 : decode cX1_follows 97 = .ok (.getfield 27, 3) := dk_180 0 27 (dk_at dksX1_follows_4 1 rfl rfl)
theorem dX1_follows_100 : decode cX1_follows 100 = .ok (.iconst 0, 1) := dk_3 (dk_at dksX1_follows_4 4 rfl rfl)
theorem dX1_follows_101 : decode cX1_follows 101 = .ok (.aload_n 0, 1) := dk_42 (dk_at dksX1_follows_4 5 rfl rfl)
theorem dX1_follows_102 : decode cX1_follows 102 = .ok (.getfield 27, 3) := dk_180 0 27 (dk_at dksX1_follows_4 6 rfl rfl)
theorem dX1_follows_105 : decode cX1_follows 105 = .ok (.iconst 0, 1) := dk_3 (dk_at dksX1_follows_4 9 rfl rfl)
theorem dX1_follows_106 : decode cX1_follows 106 = .ok (.bipush 8, 2) := dk_16 8 (dk_at dksX1_follows_4 10 rfl rfl)
theorem dX1_follows_108 : decode cX1_follows 108 = .ok (.invokestatic 73, 3) := dk_184 0 73 (dk_at dksX1_follows_4 12 rfl rfl)
theorem dX1_follows_111 : decode cX1_follows 111 = .ok (.aload_n 1, 1) := dk_43 (dk_at dksX1_follows_4 15 rfl rfl)
theorem dX1_follows_112 : decode cX1_follows 112 = .ok (.getfield 31, 3) := dk_180 0 31 (dk_at dksX1_follows_4 16 rfl rfl)
theorem dX1_follows_115 : decode cX1_follows 115 = .ok (.iconst 0, 1) := dk_3 (dk_at dksX1_follows_4 19 rfl rfl)
theorem dX1_follows_116 : decode cX1_follows 116 = .ok (.aload_n 0, 1) := dk_42 (dk_at dksX1_follows_4 20 rfl rfl)
theorem dX1_follows_117 : decode cX1_follows 117 = .ok (.getfield 31, 3) := dk_180 0 31 (dk_at dksX1_follows_4 21 rfl rfl)
theorem dX1_follows_120 : decode cX1_follows 120 = .ok (.iconst 0, 1) := dk_3 (dk_at dksX1_follows_5 0 rfl rfl)
theorem dX1_follows_121 : decode cX1_follows 121 = .ok (.bipush 8, 2) := dk_16 8 (dk_at dksX1_follows_5 1 rfl rfl)
theorem dX1_follows_123 : decode cX1_follows 123 = .ok (.invokestatic 73, 3) := dk_184 0 73 (dk_at dksX1_follows_5 3 rfl rfl)
theorem dX1_follows_126 : decode cX1_follows 126 = .ok (.aload_n 1, 1) := dk_43 (dk_at dksX1_follows_5 6 rfl rfl)
theorem dX1_follows_127 : decode cX1_follows 127 = .ok (.getfield 34, 3) := dk_180 0 34 (dk_at dksX1_follows_5 7 rfl rfl)
theorem dX1_follows_130 : decode cX1_follows 130 = .ok (.iconst 0, 1) := dk_3 (dk_at dksX1_follows_5 10 rfl rfl)
theorem dX1_follows_131 : decode cX1_follows 131 = .ok (.aload_n 0, 1) := dk_42 (dk_at dksX1_follows_5 11 rfl rfl)
theorem dX1_follows_132 : decode cX1_follows 132 = .ok (.getfield 34, 3) := dk_180 0 34 (dk_at dksX1_follows_5 12 rfl rfl)
theorem dX1_follows_135 : decode cX1_follows 135 = .ok (.iconst 0, 1) := dk_3 (dk_at dksX1_follows_5 15 rfl rfl)
theorem dX1_follows_136 : decode cX1_follows 136 = .ok (.bipush 8, 2) := dk_16 8 (dk_at dksX1_follows_5 16 rfl rfl)
theorem dX1_follows_138 : decode cX1_follows 138 = .ok (.invokestatic 73, 3) := dk_184 0 73 (dk_at dksX1_follows_5 18 rfl rfl)
theorem dX1_follows_141 : decode cX1_follows 141 = .ok (.aload_n 1, 1) := dk_43 (dk_at dksX1_follows_5 21 rfl rfl)
theorem dX1_follows_142 : decode cX1_follows 142 = .ok (.getfield 37, 3) := dk_180 0 37 (dk_at dksX1_follows_6 0 rfl rfl)
theorem dX1_follows_145 : decode cX1_follows 145 = .ok (.iconst 0, 1) := dk_3 (dk_at dksX1_follows_6 3 rfl rfl)
theorem dX1_follows_146 : decode cX1_follows 146 = .ok (.aload_n 0, 1) := dk_42 (dk_at dksX1_follows_6 4 rfl rfl)
theorem dX1_follows_147 : decode cX1_follows 147 = .ok (.getfield 37, 3) := dk_180 0 37 (dk_at dksX1_follows_6 5 rfl rfl)
theorem dX1_follows_150 : decode cX1_follows 150 = .ok (.iconst 0, 1) := dk_3 (dk_at dksX1_follows_6 8 rfl rfl)
theorem dX1_follows_151 : decode cX1_follows 151 = .ok (.bipush 8, 2) := dk_16 8 (dk_at dksX1_follows_6 9 rfl rfl)
theorem dX1_follows_153 : decode cX1_follows 153 = .ok (.invokestatic 73, 3) := dk_184 0 73 (dk_at dksX1_follows_6 11 rfl rfl)
theorem dX1_follows_156 : decode cX1_follows 156 = .ok (.aload_n 1, 1) := dk_43 (dk_at dksX1_follows_6 14 rfl rfl)
theorem dX1_follows_157 : decode cX1_follows 157 = .ok (.getfield 42, 3) := dk_180 0 42 (dk_at dksX1_follows_6 15 rfl rfl)
theorem dX1_follows_160 : decode cX1_follows 160 = .ok (.iconst 0, 1) := dk_3 (dk_at dksX1_follows_6 18 rfl rfl)
theorem dX1_follows_161 : decode cX1_follows 161 = .ok (.aload_n 0, 1) := dk_42 (dk_at dksX1_follows_6 19 rfl rfl)
theorem dX1_follows_162 : decode cX1_follows 162 = .ok (.getfield 42, 3) := dk_180 0 42 (dk_at dksX1_follows_6 20 rfl rfl)
theorem dX1_follows_165 : decode cX1_follows 165 = .ok (.iconst 0, 1) := dk_3 (dk_at dksX1_follows_6 23 rfl rfl)
theorem dX1_follows_166 : decode cX1_follows 166 = .ok (.iconst 2, 1) := dk_5 (dk_at dksX1_follows_7 0 rfl rfl)
theorem dX1_follows_167 : decode cX1_follows 167 = .ok (.invokestatic 73, 3) := dk_184 0 73 (dk_at dksX1_follows_7 1 rfl rfl)
theorem dX1_follows_170 : decode cX1_follows 170 = .ok (.aload_n 1, 1) := dk_43 (dk_at dksX1_follows_7 4 rfl rfl)
theorem dX1_follows_171 : decode cX1_follows 171 = .ok (.getfield 46, 3) := dk_180 0 46 (dk_at dksX1_follows_7 5 rfl rfl)
theorem dX1_follows_174 : decode cX1_follows 174 = .ok (.iconst 0, 1) := dk_3 (dk_at dksX1_follows_7 8 rfl rfl)
theorem dX1_follows_175 : decode cX1_follows 175 = .ok (.aload_n 0, 1) := dk_42 (dk_at dksX1_follows_7 9 rfl rfl)
theorem dX1_follows_176 : decode cX1_follows 176 = .ok (.getfield 46, 3) := dk_180 0 46 (dk_at dksX1_follows_7 10 rfl rfl)
theorem dX1_follows_179 : decode cX1_follows 179 = .ok (.iconst 0, 1) := dk_3 (dk_at dksX1_follows_7 13 rfl rfl)
theorem dX1_follows_180 : decode cX1_follows 180 = .ok (.bipush 60, 2) := dk_16 60 (dk_at dksX1_follows_7 14 rfl rfl)
theorem dX1_follows_182 : decode cX1_follows 182 = .ok (.invokestatic 73, 3) := dk_184 0 73 (dk_at dksX1_follows_7 16 rfl rfl)
theorem dX1_follows_185 : decode cX1_follows 185 = .ok (.aload_n 1, 1) := dk_43 (dk_at dksX1_follows_7 19 rfl rfl)
theorem dX1_follows_186 : decode cX1_follows 186 = .ok (.getfield 50, 3) := dk_180 0 50 (dk_at dksX1_follows_7 20 rfl rfl)
theorem dX1_follows_189 : decode cX1_follows 189 = .ok (.iconst 0, 1) := dk_3 (dk_at dksX1_follows_7 23 rfl rfl)
theorem dX1_follows_190 : decode cX1_follows 190 = .ok (.aload_n 0, 1) := dk_42 (dk_at dksX1_follows_8 0 rfl rfl)
theorem dX1_follows_191 : decode cX1_follows 191 = .ok (.getfield 50, 3) := dk_180 0 50 (dk_at dksX1_follows_8 1 rfl rfl)
theorem dX1_follows_194 : decode cX1_follows 194 = .ok (.iconst 0, 1) := dk_3 (dk_at dksX1_follows_8 4 rfl rfl)
theorem dX1_follows_195 : decode cX1_follows 195 = .ok (.bipush 24, 2) := dk_16 24 (dk_at dksX1_follows_8 5 rfl rfl)
theorem dX1_follows_197 : decode cX1_follows 197 = .ok (.invokestatic 73, 3) := dk_184 0 73 (dk_at dksX1_follows_8 7 rfl rfl)
theorem dX1_follows_200 : decode cX1_follows 200 = .ok (.return_, 1) := dk_177 (dk_at dksX1_follows_8 10 rfl rfl)
theorem q87 : (Jvm.Cond.initialized "PictureBlock$House") ∈ lw_all := lw_g (lw_at lw_m1 2 rfl) rfl
theorem q124 : (Jvm.Cond.instantiable "PictureBlock$House" (16 : Nat)) ∈ lw_all := lw_g (lw_at lw_m1 39 rfl) rfl
theorem q126 : (Jvm.Cond.instanceMethod ({ cls := "PictureBlock$House", name := "<init>", desc := "()V" } : Jvm.MethodName)) ∈ lw_all := lw_g (lw_at lw_m1 41 rfl) rfl
theorem q127 : (Jvm.Cond.code ({ cls := "PictureBlock$House", name := "<init>", desc := "()V" } : Jvm.MethodName) prog_7_method_1_code (2 : Nat) (Option.none : Option Jvm.ClassFile.FieldType)) ∈ lw_all := lw_g (lw_at lw_m1 42 rfl) rfl
theorem q128 : (Jvm.Cond.methodLink "PictureBlock$House" (3 : Nat) ({ cls := "java/lang/Object", name := "<init>", desc := "()V" } : Jvm.MethodName)) ∈ lw_all := lw_g (lw_at lw_m1 43 rfl) rfl
theorem q129 : (Jvm.Cond.classLink "PictureBlock$House" (21 : Nat) "PictureBlock$Slot") ∈ lw_all := lw_g (lw_at lw_m1 44 rfl) rfl
theorem q131 : (Jvm.Cond.classLink "PictureBlock$House" (40 : Nat) "PictureBlock$Text") ∈ lw_all := lw_g (lw_at lw_m1 46 rfl) rfl
theorem q134 : (Jvm.Cond.methodLinkNest "PictureBlock$House" (53 : Nat) ({ cls := "PictureBlock$Slot", name := "<init>", desc := "()V" } : Jvm.MethodName) "PictureBlock") ∈ lw_tbl := lw_at lw_m1 49 rfl
theorem q138 : (Jvm.Cond.fieldLinkNest "PictureBlock$House" (69 : Nat) "PictureBlock$Slot" "held" "Ljava/lang/Object;" "PictureBlock") ∈ lw_tbl := lw_at lw_m1 53 rfl
theorem q145 : (Jvm.Cond.fieldLink "PictureBlock$House" (54 : Nat) "PictureBlock$House" "marks" "I") ∈ lw_all := lw_g (lw_at lw_m1 60 rfl) rfl
theorem q147 : (Jvm.Cond.fieldLink "PictureBlock$House" (9 : Nat) "PictureBlock$House" "pictures" "I") ∈ lw_all := lw_g (lw_at lw_m1 62 rfl) rfl
theorem q149 : (Jvm.Cond.fieldLink "PictureBlock$House" (57 : Nat) "PictureBlock$House" "round" "I") ∈ lw_all := lw_g (lw_at lw_m1 64 rfl) rfl
theorem q151 : (Jvm.Cond.fieldLink "PictureBlock$House" (15 : Nat) "PictureBlock$House" "limit" "I") ∈ lw_all := lw_g (lw_at lw_m1 66 rfl) rfl
theorem q153 : (Jvm.Cond.fieldLink "PictureBlock$House" (60 : Nat) "PictureBlock$House" "dropped" "I") ∈ lw_all := lw_g (lw_at lw_m1 68 rfl) rfl
theorem q155 : (Jvm.Cond.fieldLink "PictureBlock$House" (18 : Nat) "PictureBlock$House" "z" "I") ∈ lw_all := lw_g (lw_at lw_m1 70 rfl) rfl
theorem q157 : (Jvm.Cond.fieldLink "PictureBlock$House" (63 : Nat) "PictureBlock$House" "taped" "I") ∈ lw_all := lw_g (lw_at lw_m1 72 rfl) rfl
theorem q159 : (Jvm.Cond.fieldLink "PictureBlock$House" (66 : Nat) "PictureBlock$House" "waiting" "I") ∈ lw_all := lw_g (lw_at lw_m1 74 rfl) rfl
theorem q161 : (Jvm.Cond.fieldLink "PictureBlock$House" (23 : Nat) "PictureBlock$House" "mark" "[LPictureBlock$Slot;") ∈ lw_all := lw_g (lw_at lw_m1 76 rfl) rfl
theorem q163 : (Jvm.Cond.fieldLink "PictureBlock$House" (27 : Nat) "PictureBlock$House" "from" "[I") ∈ lw_all := lw_g (lw_at lw_m1 78 rfl) rfl
theorem q165 : (Jvm.Cond.fieldLink "PictureBlock$House" (31 : Nat) "PictureBlock$House" "to" "[I") ∈ lw_all := lw_g (lw_at lw_m1 80 rfl) rfl
theorem q167 : (Jvm.Cond.fieldLink "PictureBlock$House" (34 : Nat) "PictureBlock$House" "told" "[I") ∈ lw_all := lw_g (lw_at lw_m1 82 rfl) rfl
theorem q169 : (Jvm.Cond.fieldLink "PictureBlock$House" (37 : Nat) "PictureBlock$House" "on" "[I") ∈ lw_all := lw_g (lw_at lw_m1 84 rfl) rfl
theorem q171 : (Jvm.Cond.fieldLink "PictureBlock$House" (42 : Nat) "PictureBlock$House" "texts" "[LPictureBlock$Text;") ∈ lw_all := lw_g (lw_at lw_m1 86 rfl) rfl
theorem q173 : (Jvm.Cond.fieldLink "PictureBlock$House" (46 : Nat) "PictureBlock$House" "tape" "[B") ∈ lw_all := lw_g (lw_at lw_m1 88 rfl) rfl
theorem q175 : (Jvm.Cond.fieldLink "PictureBlock$House" (50 : Nat) "PictureBlock$House" "waits" "[I") ∈ lw_all := lw_g (lw_at lw_m1 90 rfl) rfl
theorem q177 : (Jvm.Cond.lays "PictureBlock$House" "PictureBlock$House" "marks" "I") ∈ lw_all := lw_g (lw_at lw_m1 92 rfl) rfl
theorem q178 : (Jvm.Cond.soleField "PictureBlock$House" "marks") ∈ lw_all := lw_g (lw_at lw_m1 93 rfl) rfl
theorem q179 : (Jvm.Cond.lays "PictureBlock$House" "PictureBlock$House" "pictures" "I") ∈ lw_all := lw_g (lw_at lw_m1 94 rfl) rfl
theorem q180 : (Jvm.Cond.soleField "PictureBlock$House" "pictures") ∈ lw_all := lw_g (lw_at lw_m1 95 rfl) rfl
theorem q181 : (Jvm.Cond.lays "PictureBlock$House" "PictureBlock$House" "round" "I") ∈ lw_all := lw_g (lw_at lw_m1 96 rfl) rfl
theorem q182 : (Jvm.Cond.soleField "PictureBlock$House" "round") ∈ lw_all := lw_g (lw_at lw_m1 97 rfl) rfl
theorem q183 : (Jvm.Cond.lays "PictureBlock$House" "PictureBlock$House" "limit" "I") ∈ lw_all := lw_g (lw_at lw_m1 98 rfl) rfl
theorem q184 : (Jvm.Cond.soleField "PictureBlock$House" "limit") ∈ lw_all := lw_g (lw_at lw_m1 99 rfl) rfl
theorem q185 : (Jvm.Cond.lays "PictureBlock$House" "PictureBlock$House" "dropped" "I") ∈ lw_all := lw_g (lw_at lw_m1 100 rfl) rfl
theorem q186 : (Jvm.Cond.soleField "PictureBlock$House" "dropped") ∈ lw_all := lw_g (lw_at lw_m1 101 rfl) rfl
theorem q187 : (Jvm.Cond.lays "PictureBlock$House" "PictureBlock$House" "z" "I") ∈ lw_all := lw_g (lw_at lw_m1 102 rfl) rfl
theorem q188 : (Jvm.Cond.soleField "PictureBlock$House" "z") ∈ lw_all := lw_g (lw_at lw_m1 103 rfl) rfl
theorem q189 : (Jvm.Cond.lays "PictureBlock$House" "PictureBlock$House" "taped" "I") ∈ lw_all := lw_g (lw_at lw_m1 104 rfl) rfl
theorem q190 : (Jvm.Cond.soleField "PictureBlock$House" "taped") ∈ lw_all := lw_g (lw_at lw_m1 105 rfl) rfl
theorem q191 : (Jvm.Cond.lays "PictureBlock$House" "PictureBlock$House" "waiting" "I") ∈ lw_all := lw_g (lw_at lw_m1 106 rfl) rfl
theorem q192 : (Jvm.Cond.soleField "PictureBlock$House" "waiting") ∈ lw_all := lw_g (lw_at lw_m1 107 rfl) rfl
theorem q193 : (Jvm.Cond.laysFinal "PictureBlock$House" "PictureBlock$House" "mark" "[LPictureBlock$Slot;") ∈ lw_all := lw_g (lw_at lw_m1 108 rfl) rfl
theorem q194 : (Jvm.Cond.soleField "PictureBlock$House" "mark") ∈ lw_all := lw_g (lw_at lw_m1 109 rfl) rfl
theorem q195 : (Jvm.Cond.laysFinal "PictureBlock$House" "PictureBlock$House" "from" "[I") ∈ lw_all := lw_g (lw_at lw_m1 110 rfl) rfl
theorem q196 : (Jvm.Cond.soleField "PictureBlock$House" "from") ∈ lw_all := lw_g (lw_at lw_m1 111 rfl) rfl
theorem q197 : (Jvm.Cond.laysFinal "PictureBlock$House" "PictureBlock$House" "to" "[I") ∈ lw_all := lw_g (lw_at lw_m1 112 rfl) rfl
theorem q198 : (Jvm.Cond.soleField "PictureBlock$House" "to") ∈ lw_all := lw_g (lw_at lw_m1 113 rfl) rfl
theorem q199 : (Jvm.Cond.laysFinal "PictureBlock$House" "PictureBlock$House" "told" "[I") ∈ lw_all := lw_g (lw_at lw_m1 114 rfl) rfl
theorem q200 : (Jvm.Cond.soleField "PictureBlock$House" "told") ∈ lw_all := lw_g (lw_at lw_m1 115 rfl) rfl
theorem q201 : (Jvm.Cond.laysFinal "PictureBlock$House" "PictureBlock$House" "on" "[I") ∈ lw_all := lw_g (lw_at lw_m1 116 rfl) rfl
theorem q202 : (Jvm.Cond.soleField "PictureBlock$House" "on") ∈ lw_all := lw_g (lw_at lw_m1 117 rfl) rfl
theorem q203 : (Jvm.Cond.laysFinal "PictureBlock$House" "PictureBlock$House" "texts" "[LPictureBlock$Text;") ∈ lw_all := lw_g (lw_at lw_m1 118 rfl) rfl
theorem q204 : (Jvm.Cond.soleField "PictureBlock$House" "texts") ∈ lw_all := lw_g (lw_at lw_m1 119 rfl) rfl
theorem q205 : (Jvm.Cond.laysFinal "PictureBlock$House" "PictureBlock$House" "tape" "[B") ∈ lw_all := lw_g (lw_at lw_m1 120 rfl) rfl
theorem q206 : (Jvm.Cond.soleField "PictureBlock$House" "tape") ∈ lw_all := lw_g (lw_at lw_m1 121 rfl) rfl
theorem q207 : (Jvm.Cond.laysFinal "PictureBlock$House" "PictureBlock$House" "waits" "[I") ∈ lw_all := lw_g (lw_at lw_m1 122 rfl) rfl
theorem q208 : (Jvm.Cond.soleField "PictureBlock$House" "waits") ∈ lw_all := lw_g (lw_at lw_m1 123 rfl) rfl
theorem q209 : (Jvm.Cond.superclass "PictureBlock$House" "java/lang/Object") ∈ lw_all := lw_g (lw_at lw_m1 124 rfl) rfl
theorem q385 : (Jvm.Cond.instanceMethod ({ cls := "PictureBlock$House", name := "at", desc := "(I)LPictureBlock$Mark;" } : Jvm.MethodName)) ∈ lw_all := lw_g (lw_at lw_m2 60 rfl) rfl
theorem q386 : (Jvm.Cond.selects "PictureBlock$House" ({ cls := "PictureBlock$House", name := "at", desc := "(I)LPictureBlock$Mark;" } : Jvm.MethodName) ({ cls := "PictureBlock$House", name := "at", desc := "(I)LPictureBlock$Mark;" } : Jvm.MethodName)) ∈ lw_all := lw_g (lw_at lw_m2 61 rfl) rfl
theorem q387 : (Jvm.Cond.code ({ cls := "PictureBlock$House", name := "at", desc := "(I)LPictureBlock$Mark;" } : Jvm.MethodName) prog_7_method_6_code (2 : Nat) (Option.some (Jvm.ClassFile.FieldType.object "PictureBlock$Mark"))) ∈ lw_all := lw_g (lw_at lw_m2 62 rfl) rfl
theorem q388 : (Jvm.Cond.classLink "PictureBlock$House" (79 : Nat) "PictureBlock$Mark") ∈ lw_all := lw_g (lw_at lw_m2 63 rfl) rfl
theorem q436 : (Jvm.Cond.castable "PictureBlock$House" "PictureBlock$Block") ∈ lw_tbl := lw_at lw_m2 111 rfl
theorem q437 : (Jvm.Cond.selects "PictureBlock$House" ({ cls := "PictureBlock$Block", name := "round", desc := "()I" } : Jvm.MethodName) ({ cls := "PictureBlock$House", name := "round", desc := "()I" } : Jvm.MethodName)) ∈ lw_all := lw_g (lw_at lw_m2 112 rfl) rfl
theorem q438 : (Jvm.Cond.unhidden "PictureBlock$House" "round" "()I") ∈ lw_tbl := lw_at lw_m2 113 rfl
theorem q439 : (Jvm.Cond.instanceMethod ({ cls := "PictureBlock$House", name := "round", desc := "()I" } : Jvm.MethodName)) ∈ lw_all := lw_g (lw_at lw_m2 114 rfl) rfl
theorem q440 : (Jvm.Cond.publicMethod ({ cls := "PictureBlock$House", name := "round", desc := "()I" } : Jvm.MethodName)) ∈ lw_tbl := lw_at lw_m2 115 rfl
theorem q441 : (Jvm.Cond.code ({ cls := "PictureBlock$House", name := "round", desc := "()I" } : Jvm.MethodName) prog_7_method_3_code (1 : Nat) (Option.some Jvm.ClassFile.FieldType.int)) ∈ lw_all := lw_g (lw_at lw_m2 116 rfl) rfl
theorem q461 : (Jvm.Cond.selects "PictureBlock$House" ({ cls := "PictureBlock$Block", name := "marks", desc := "(I)I" } : Jvm.MethodName) ({ cls := "PictureBlock$House", name := "marks", desc := "(I)I" } : Jvm.MethodName)) ∈ lw_all := lw_g (lw_at lw_m2 136 rfl) rfl
theorem q462 : (Jvm.Cond.unhidden "PictureBlock$House" "marks" "(I)I") ∈ lw_tbl := lw_at lw_m2 137 rfl
theorem q463 : (Jvm.Cond.instanceMethod ({ cls := "PictureBlock$House", name := "marks", desc := "(I)I" } : Jvm.MethodName)) ∈ lw_all := lw_g (lw_at lw_m2 138 rfl) rfl
theorem q464 : (Jvm.Cond.publicMethod ({ cls := "PictureBlock$House", name := "marks", desc := "(I)I" } : Jvm.MethodName)) ∈ lw_tbl := lw_at lw_m2 139 rfl
theorem q465 : (Jvm.Cond.code ({ cls := "PictureBlock$House", name := "marks", desc := "(I)I" } : Jvm.MethodName) prog_7_method_5_code (4 : Nat) (Option.some Jvm.ClassFile.FieldType.int)) ∈ lw_all := lw_g (lw_at lw_m2 140 rfl) rfl
theorem q536 : (Jvm.Cond.selects "PictureBlock$House" ({ cls := "PictureBlock$Block", name := "told", desc := "(I)I" } : Jvm.MethodName) ({ cls := "PictureBlock$House", name := "told", desc := "(I)I" } : Jvm.MethodName)) ∈ lw_all := lw_g (lw_at lw_m2 211 rfl) rfl
theorem q537 : (Jvm.Cond.unhidden "PictureBlock$House" "told" "(I)I") ∈ lw_tbl := lw_at lw_m2 212 rfl
theorem q538 : (Jvm.Cond.instanceMethod ({ cls := "PictureBlock$House", name := "told", desc := "(I)I" } : Jvm.MethodName)) ∈ lw_all := lw_g (lw_at lw_m2 213 rfl) rfl
theorem q539 : (Jvm.Cond.publicMethod ({ cls := "PictureBlock$House", name := "told", desc := "(I)I" } : Jvm.MethodName)) ∈ lw_tbl := lw_at lw_m2 214 rfl
theorem q540 : (Jvm.Cond.code ({ cls := "PictureBlock$House", name := "told", desc := "(I)I" } : Jvm.MethodName) prog_7_method_4_code (2 : Nat) (Option.some Jvm.ClassFile.FieldType.int)) ∈ lw_all := lw_g (lw_at lw_m2 215 rfl) rfl
theorem q894 : (Jvm.Cond.instanceMethod ({ cls := "PictureBlock$House", name := "used", desc := "()I" } : Jvm.MethodName)) ∈ lw_all := lw_g (lw_at lw_m4 89 rfl) rfl
theorem q895 : (Jvm.Cond.selects "PictureBlock$House" ({ cls := "PictureBlock$House", name := "used", desc := "()I" } : Jvm.MethodName) ({ cls := "PictureBlock$House", name := "used", desc := "()I" } : Jvm.MethodName)) ∈ lw_all := lw_g (lw_at lw_m4 90 rfl) rfl
theorem q896 : (Jvm.Cond.code ({ cls := "PictureBlock$House", name := "used", desc := "()I" } : Jvm.MethodName) prog_7_method_7_code (3 : Nat) (Option.some Jvm.ClassFile.FieldType.int)) ∈ lw_all := lw_g (lw_at lw_m4 91 rfl) rfl
theorem q898 : (Jvm.Cond.instanceMethod ({ cls := "PictureBlock$House", name := "tied", desc := "(I)I" } : Jvm.MethodName)) ∈ lw_all := lw_g (lw_at lw_m4 93 rfl) rfl
theorem q899 : (Jvm.Cond.selects "PictureBlock$House" ({ cls := "PictureBlock$House", name := "tied", desc := "(I)I" } : Jvm.MethodName) ({ cls := "PictureBlock$House", name := "tied", desc := "(I)I" } : Jvm.MethodName)) ∈ lw_all := lw_g (lw_at lw_m4 94 rfl) rfl
theorem q900 : (Jvm.Cond.code ({ cls := "PictureBlock$House", name := "tied", desc := "(I)I" } : Jvm.MethodName) prog_7_method_8_code (6 : Nat) (Option.some Jvm.ClassFile.FieldType.int)) ∈ lw_all := lw_g (lw_at lw_m4 95 rfl) rfl
theorem q934 : (Jvm.Cond.instanceMethod ({ cls := "PictureBlock$House", name := "drawn", desc := "()I" } : Jvm.MethodName)) ∈ lw_all := lw_g (lw_at lw_m4 129 rfl) rfl
theorem q935 : (Jvm.Cond.selects "PictureBlock$House" ({ cls := "PictureBlock$House", name := "drawn", desc := "()I" } : Jvm.MethodName) ({ cls := "PictureBlock$House", name := "drawn", desc := "()I" } : Jvm.MethodName)) ∈ lw_all := lw_g (lw_at lw_m4 130 rfl) rfl
theorem q936 : (Jvm.Cond.code ({ cls := "PictureBlock$House", name := "drawn", desc := "()I" } : Jvm.MethodName) prog_7_method_9_code (1 : Nat) (Option.some Jvm.ClassFile.FieldType.int)) ∈ lw_all := lw_g (lw_at lw_m4 131 rfl) rfl
theorem q937 : (Jvm.Cond.constant "PictureBlock$House" (81 : Nat) (1103515245 : Int32)) ∈ lw_all := lw_g (lw_at lw_m4 132 rfl) rfl
theorem q985 : (Jvm.Cond.instanceMethod ({ cls := "PictureBlock$House", name := "follows", desc := "(LPictureBlock$House;)V" } : Jvm.MethodName)) ∈ lw_all := lw_g (lw_at lw_m4 180 rfl) rfl
theorem q986 : (Jvm.Cond.selects "PictureBlock$House" ({ cls := "PictureBlock$House", name := "follows", desc := "(LPictureBlock$House;)V" } : Jvm.MethodName) ({ cls := "PictureBlock$House", name := "follows", desc := "(LPictureBlock$House;)V" } : Jvm.MethodName)) ∈ lw_all := lw_g (lw_at lw_m4 181 rfl) rfl
theorem q987 : (Jvm.Cond.code ({ cls := "PictureBlock$House", name := "follows", desc := "(LPictureBlock$House;)V" } : Jvm.MethodName) prog_7_method_2_code (3 : Nat) (Option.none : Option Jvm.ClassFile.FieldType)) ∈ lw_all := lw_g (lw_at lw_m4 182 rfl) rfl
theorem q988 : (Jvm.Cond.methodLink "PictureBlock$House" (73 : Nat) ({ cls := "java/lang/System", name := "arraycopy", desc := "(Ljava/lang/Object;ILjava/lang/Object;II)V" } : Jvm.MethodName)) ∈ lw_all := lw_g (lw_at lw_m4 183 rfl) rfl
theorem q1754 : (Jvm.Cond.selects "PictureBlock$House" ({ cls := "PictureBlock$House", name := "marks", desc := "(I)I" } : Jvm.MethodName) ({ cls := "PictureBlock$House", name := "marks", desc := "(I)I" } : Jvm.MethodName)) ∈ lw_all := lw_g (lw_at lw_m7 229 rfl) rfl
theorem in_X1 : ∀ w ∈ wsX10, w ∈ lw_all := lw_in wsX10 [177, 179, 181, 183, 185, 187, 189, 191, 193, 195, 197, 199, 201, 203, 205, 207] (by decide +kernel) (by decide +kernel)

/-! PictureBlock$Faint -/
set_option maxRecDepth 100000
def RX10 : String := "PictureBlock$Faint"
def TX10 : u_T := fun k => match k with
  | 0 => ("PictureBlock$Mark", "number", "I", true)
  | _ => ("PictureBlock$Mark", "m", "I", true)
def tyX10 : Nat → FieldType := fun k => match k with
  | 0 => .int
  | _ => .int
abbrev wsX100 : List Cond := u_ws RX10 TX10 2
theorem nmX10 : ∀ a, a < 2 → ∀ b, b < 2 → a ≠ b → (TX10 a).2.1 ≠ (TX10 b).2.1 := by decide +kernel
theorem tyX10_ok : ∀ k, k < 2 → parseFieldDescriptor (TX10 k).2.2.1 = some (tyX10 k) := by decide +kernel
abbrev cX10_init : ByteArray := prog_4_method_1_code
def yX10_init : MethodName := ⟨RX10, "<init>", "(II)V"⟩
def dkwX10_init_0 : List UInt8 := [42, 27, 28, 183, 0, 1, 177]
abbrev dktX10_init_0 : List UInt8 := dkwX10_init_0 ++ []
theorem dksX10_init_0 : cX10_init.data.toList.drop 0 = dktX10_init_0 := by decide +kernel
theorem dX10_init_0 : decode cX10_init 0 = .ok (.aload_n 0, 1) := dk_42 (dk_at dksX10_init_0 0 rfl rfl)
theorem dX10_init_1 : decode cX10_init 1 = .ok (.iload_n 1, 1) := dk_27 (dk_at dksX10_init_0 1 rfl rfl)
theorem dX10_init_2 : decode cX10_init 2 = .ok (.iload_n 2, 1) := dk_28 (dk_at dksX10_init_0 2 rfl rfl)
theorem dX10_init_3 : decode cX10_init 3 = .ok (.invokespecial 1, 3) := dk_183 0 1 (dk_at dksX10_init_0 3 rfl rfl)
theorem dX10_init_6 : decode cX10_init 6 = .ok (.return_, 1) := dk_177 (dk_at dksX10_init_0 6 rfl rfl)
abbrev cX10_kind : ByteArray := prog_4_method_2_code
def yX10_kind : MethodName := ⟨RX10, "kind", "()I"⟩
def dkwX10_kind_0 : List UInt8 := [42, 183, 0, 7, 6, 96, 172]
abbrev dktX10_kind_0 : List UInt8 := dkwX10_kind_0 ++ []
theorem dksX10_kind_0 : cX10_kind.data.toList.drop 0 = dktX10_kind_0 := by decide +kernel
theorem dX10_kind_0 : decode cX10_kind 0 = .ok (.aload_n 0, 1) := dk_42 (dk_at dksX10_kind_0 0 rfl rfl)
theorem dX10_kind_1 : decode cX10_kind 1 = .ok (.invokespecial 7, 3) := dk_183 0 7 (dk_at dksX10_kind_0 1 rfl rfl)
theorem dX10_kind_4 : decode cX10_kind 4 = .ok (.iconst 3, 1) := dk_6 (dk_at dksX10_kind_0 4 rfl rfl)
theorem dX10_kind_5 : decode cX10_kind 5 = .ok (.iadd, 1) := dk_96 (dk_at dksX10_kind_0 5 rfl rfl)
theorem dX10_kind_6 : decode cX10_kind 6 = .ok (.ireturn, 1) := dk_172 (dk_at dksX10_kind_0 6 rfl rfl)
abbrev cX10_weight : ByteArray := prog_4_method_3_code
def yX10_weight : MethodName := ⟨RX10, "weight", "(LPictureBlock$Block;)I"⟩
def dkwX10_weight_0 : List UInt8 := [42, 43, 183, 0, 11, 4, 100, 172]
abbrev dktX10_weight_0 : List UInt8 := dkwX10_weight_0 ++ []
theorem dksX10_weight_0 : cX10_weight.data.toList.drop 0 = dktX10_weight_0 := by decide +kernel
theorem dX10_weight_0 : decode cX10_weight 0 = .ok (.aload_n 0, 1) := dk_42 (dk_at dksX10_weight_0 0 rfl rfl)
theorem dX10_weight_1 : decode cX10_weight 1 = .ok (.aload_n 1, 1) := dk_43 (dk_at dksX10_weight_0 1 rfl rfl)
theorem dX10_weight_2 : decode cX10_weight 2 = .ok (.invokespecial 11, 3) := dk_183 0 11 (dk_at dksX10_weight_0 2 rfl rfl)
theorem dX10_weight_5 : decode cX10_weight 5 = .ok (.iconst 1, 1) := dk_4 (dk_at dksX10_weight_0 5 rfl rfl)
theorem dX10_weight_6 : decode cX10_weight 6 = .ok (.isub, 1) := dk_100 (dk_at dksX10_weight_0 6 rfl rfl)
theorem dX10_weight_7 : decode cX10_weight 7 = .ok (.ireturn, 1) := dk_172 (dk_at dksX10_weight_0 7 rfl rfl)
abbrev cX10_value : ByteArray := prog_4_method_4_code
def yX10_value : MethodName := ⟨RX10, "value", "(LPictureBlock$Block;)I"⟩
def dkwX10_value_0 : List UInt8 := [42, 43, 183, 0, 15, 5, 108, 5, 104, 172]
abbrev dktX10_value_0 : List UInt8 := dkwX10_value_0 ++ []
theorem dksX10_value_0 : cX10_value.data.toList.drop 0 = dktX10_value_0 := by decide +kernel
theorem dX10_value_0 : decode cX10_value 0 = .ok (.aload_n 0, 1) := dk_42 (dk_at dksX10_value_0 0 rfl rfl)
theorem dX10_value_1 : decode cX10_value 1 = .ok (.aload_n 1, 1) := dk_43 (dk_at dksX10_value_0 1 rfl rfl)
theorem dX10_value_2 : decode cX10_value 2 = .ok (.invokespecial 15, 3) := dk_183 0 15 (dk_at dksX10_value_0 2 rfl rfl)
theorem dX10_value_5 : decode cX10_value 5 = .ok (.iconst 2, 1) := dk_5 (dk_at dksX10_value_0 5 rfl rfl)
theorem dX10_value_6 : decode cX10_value 6 = .ok (.idiv, 1) := dk_108 (dk_at dksX10_value_0 6 rfl rfl)
theorem dX10_value_7 : decode cX10_value 7 = .ok (.iconst 2, 1) := dk_5 (dk_at dksX10_value_0 7 rfl rfl)
theorem dX10_value_8 : decode cX10_value 8 = .ok (.imul, 1) := dk_104 (dk_at dksX10_value_0 8 rfl rfl)
theorem dX10_value_9 : decode cX10_value 9 = .ok (.ireturn, 1) := dk_172 (dk_at dksX10_value_0 9 rfl rfl)
abbrev cX10_says : ByteArray := prog_4_method_5_code
def yX10_says : MethodName := ⟨RX10, "says", "(ILPictureBlock$Trace;)I"⟩
def dkwX10_says_0 : List UInt8 := [44, 16, 60, 182, 0, 18, 42, 27, 4, 96, 44, 183, 0, 24, 172]
abbrev dktX10_says_0 : List UInt8 := dkwX10_says_0 ++ []
theorem dksX10_says_0 : cX10_says.data.toList.drop 0 = dktX10_says_0 := by decide +kernel
theorem dX10_says_0 : decode cX10_says 0 = .ok (.aload_n 2, 1) := dk_44 (dk_at dksX10_says_0 0 rfl rfl)
theorem dX10_says_1 : decode cX10_says 1 = .ok (.bipush 60, 2) := dk_16 60 (dk_at dksX10_says_0 1 rfl rfl)
theorem dX10_says_3 : decode cX10_says 3 = .ok (.invokevirtual 18, 3) := dk_182 0 18 (dk_at dksX10_says_0 3 rfl rfl)
theorem dX10_says_6 : decode cX10_says 6 = .ok (.aload_n 0, 1) := dk_42 (dk_at dksX10_says_0 6 rfl rfl)
theorem dX10_says_7 : decode cX10_says 7 = .ok (.iload_n 1, 1) := dk_27 (dk_at dksX10_says_0 7 rfl rfl)
theorem dX10_says_8 : decode cX10_says 8 = .ok (.iconst 1, 1) := dk_4 (dk_at dksX10_says_0 8 rfl rfl)
theorem dX10_says_9 : decode cX10_says 9 = .ok (.iadd, 1) := dk_96 (dk_at dksX10_says_0 9 rfl rfl)
theorem dX10_says_10 : decode cX10_says 10 = .ok (.aload_n 2, 1) := dk_44 (dk_at dksX10_says_0 10 rfl rfl)
theorem dX10_says_11 : decode cX10_says 11 = .ok (.invokespecial 24, 3) := dk_183 0 24 (dk_at dksX10_says_0 11 rfl rfl)
theorem dX10_says_14 : decode cX10_says 14 = .ok (.ireturn, 1) := dk_172 (dk_at dksX10_says_0 14 rfl rfl)
theorem q96 : (Jvm.Cond.initialized "PictureBlock$Faint") ∈ lw_all := lw_g (lw_at lw_m1 11 rfl) rfl
theorem q353 : (Jvm.Cond.instantiable "PictureBlock$Faint" (2 : Nat)) ∈ lw_all := lw_g (lw_at lw_m2 28 rfl) rfl
theorem q355 : (Jvm.Cond.instanceMethod ({ cls := "PictureBlock$Faint", name := "<init>", desc := "(II)V" } : Jvm.MethodName)) ∈ lw_all := lw_g (lw_at lw_m2 30 rfl) rfl
theorem q356 : (Jvm.Cond.code ({ cls := "PictureBlock$Faint", name := "<init>", desc := "(II)V" } : Jvm.MethodName) prog_4_method_1_code (3 : Nat) (Option.none : Option Jvm.ClassFile.FieldType)) ∈ lw_all := lw_g (lw_at lw_m2 31 rfl) rfl
theorem q357 : (Jvm.Cond.methodLink "PictureBlock$Faint" (1 : Nat) ({ cls := "PictureBlock$Star", name := "<init>", desc := "(II)V" } : Jvm.MethodName)) ∈ lw_all := lw_g (lw_at lw_m2 32 rfl) rfl
theorem q358 : (Jvm.Cond.laysFinal "PictureBlock$Faint" "PictureBlock$Mark" "number" "I") ∈ lw_all := lw_g (lw_at lw_m2 33 rfl) rfl
theorem q359 : (Jvm.Cond.laysFinal "PictureBlock$Faint" "PictureBlock$Mark" "m" "I") ∈ lw_all := lw_g (lw_at lw_m2 34 rfl) rfl
theorem q360 : (Jvm.Cond.superclass "PictureBlock$Faint" "PictureBlock$Star") ∈ lw_all := lw_g (lw_at lw_m2 35 rfl) rfl
theorem q400 : (Jvm.Cond.selects "PictureBlock$Faint" ({ cls := "PictureBlock$Mark", name := "kind", desc := "()I" } : Jvm.MethodName) ({ cls := "PictureBlock$Faint", name := "kind", desc := "()I" } : Jvm.MethodName)) ∈ lw_all := lw_g (lw_at lw_m2 75 rfl) rfl
theorem q401 : (Jvm.Cond.instanceMethod ({ cls := "PictureBlock$Faint", name := "kind", desc := "()I" } : Jvm.MethodName)) ∈ lw_all := lw_g (lw_at lw_m2 76 rfl) rfl
theorem q402 : (Jvm.Cond.code ({ cls := "PictureBlock$Faint", name := "kind", desc := "()I" } : Jvm.MethodName) prog_4_method_2_code (1 : Nat) (Option.some Jvm.ClassFile.FieldType.int)) ∈ lw_all := lw_g (lw_at lw_m2 77 rfl) rfl
theorem q403 : (Jvm.Cond.methodLink "PictureBlock$Faint" (7 : Nat) ({ cls := "PictureBlock$Star", name := "kind", desc := "()I" } : Jvm.MethodName)) ∈ lw_all := lw_g (lw_at lw_m2 78 rfl) rfl
theorem q448 : (Jvm.Cond.castable "PictureBlock$Faint" "PictureBlock$Seen") ∈ lw_tbl := lw_at lw_m2 123 rfl
theorem q449 : (Jvm.Cond.selects "PictureBlock$Faint" ({ cls := "PictureBlock$Seen", name := "weight", desc := "(LPictureBlock$Block;)I" } : Jvm.MethodName) ({ cls := "PictureBlock$Faint", name := "weight", desc := "(LPictureBlock$Block;)I" } : Jvm.MethodName)) ∈ lw_all := lw_g (lw_at lw_m2 124 rfl) rfl
theorem q450 : (Jvm.Cond.unhidden "PictureBlock$Faint" "weight" "(LPictureBlock$Block;)I") ∈ lw_tbl := lw_at lw_m2 125 rfl
theorem q451 : (Jvm.Cond.instanceMethod ({ cls := "PictureBlock$Faint", name := "weight", desc := "(LPictureBlock$Block;)I" } : Jvm.MethodName)) ∈ lw_all := lw_g (lw_at lw_m2 126 rfl) rfl
theorem q452 : (Jvm.Cond.publicMethod ({ cls := "PictureBlock$Faint", name := "weight", desc := "(LPictureBlock$Block;)I" } : Jvm.MethodName)) ∈ lw_tbl := lw_at lw_m2 127 rfl
theorem q453 : (Jvm.Cond.code ({ cls := "PictureBlock$Faint", name := "weight", desc := "(LPictureBlock$Block;)I" } : Jvm.MethodName) prog_4_method_3_code (2 : Nat) (Option.some Jvm.ClassFile.FieldType.int)) ∈ lw_all := lw_g (lw_at lw_m2 128 rfl) rfl
theorem q454 : (Jvm.Cond.methodLink "PictureBlock$Faint" (11 : Nat) ({ cls := "PictureBlock$Star", name := "weight", desc := "(LPictureBlock$Block;)I" } : Jvm.MethodName)) ∈ lw_all := lw_g (lw_at lw_m2 129 rfl) rfl
theorem q541 : (Jvm.Cond.selects "PictureBlock$Faint" ({ cls := "PictureBlock$Seen", name := "value", desc := "(LPictureBlock$Block;)I" } : Jvm.MethodName) ({ cls := "PictureBlock$Faint", name := "value", desc := "(LPictureBlock$Block;)I" } : Jvm.MethodName)) ∈ lw_all := lw_g (lw_at lw_m2 216 rfl) rfl
theorem q542 : (Jvm.Cond.unhidden "PictureBlock$Faint" "value" "(LPictureBlock$Block;)I") ∈ lw_tbl := lw_at lw_m2 217 rfl
theorem q543 : (Jvm.Cond.instanceMethod ({ cls := "PictureBlock$Faint", name := "value", desc := "(LPictureBlock$Block;)I" } : Jvm.MethodName)) ∈ lw_all := lw_g (lw_at lw_m2 218 rfl) rfl
theorem q544 : (Jvm.Cond.publicMethod ({ cls := "PictureBlock$Faint", name := "value", desc := "(LPictureBlock$Block;)I" } : Jvm.MethodName)) ∈ lw_tbl := lw_at lw_m2 219 rfl
theorem q545 : (Jvm.Cond.code ({ cls := "PictureBlock$Faint", name := "value", desc := "(LPictureBlock$Block;)I" } : Jvm.MethodName) prog_4_method_4_code (2 : Nat) (Option.some Jvm.ClassFile.FieldType.int)) ∈ lw_all := lw_g (lw_at lw_m2 220 rfl) rfl
theorem q546 : (Jvm.Cond.methodLink "PictureBlock$Faint" (15 : Nat) ({ cls := "PictureBlock$Star", name := "value", desc := "(LPictureBlock$Block;)I" } : Jvm.MethodName)) ∈ lw_all := lw_g (lw_at lw_m2 221 rfl) rfl
theorem q1072 : (Jvm.Cond.selects "PictureBlock$Faint" ({ cls := "PictureBlock$Mark", name := "weighs", desc := "(ILPictureBlock$Trace;)I" } : Jvm.MethodName) ({ cls := "PictureBlock$Mark", name := "weighs", desc := "(ILPictureBlock$Trace;)I" } : Jvm.MethodName)) ∈ lw_all := lw_g (lw_at lw_m5 27 rfl) rfl
theorem q1084 : (Jvm.Cond.selects "PictureBlock$Faint" ({ cls := "PictureBlock$Weighs", name := "says", desc := "(ILPictureBlock$Trace;)I" } : Jvm.MethodName) ({ cls := "PictureBlock$Faint", name := "says", desc := "(ILPictureBlock$Trace;)I" } : Jvm.MethodName)) ∈ lw_all := lw_g (lw_at lw_m5 39 rfl) rfl
theorem q1085 : (Jvm.Cond.instanceMethod ({ cls := "PictureBlock$Faint", name := "says", desc := "(ILPictureBlock$Trace;)I" } : Jvm.MethodName)) ∈ lw_all := lw_g (lw_at lw_m5 40 rfl) rfl
theorem q1086 : (Jvm.Cond.code ({ cls := "PictureBlock$Faint", name := "says", desc := "(ILPictureBlock$Trace;)I" } : Jvm.MethodName) prog_4_method_5_code (3 : Nat) (Option.some Jvm.ClassFile.FieldType.int)) ∈ lw_all := lw_g (lw_at lw_m5 41 rfl) rfl
theorem q1087 : (Jvm.Cond.methodLink "PictureBlock$Faint" (18 : Nat) ({ cls := "PictureBlock$Trace", name := "ran", desc := "(I)V" } : Jvm.MethodName)) ∈ lw_all := lw_g (lw_at lw_m5 42 rfl) rfl
theorem q1088 : (Jvm.Cond.methodLink "PictureBlock$Faint" (24 : Nat) ({ cls := "PictureBlock$Star", name := "says", desc := "(ILPictureBlock$Trace;)I" } : Jvm.MethodName)) ∈ lw_all := lw_g (lw_at lw_m5 43 rfl) rfl
theorem q1103 : (Jvm.Cond.castable "PictureBlock$Faint" "PictureBlock$Weighs") ∈ lw_tbl := lw_at lw_m5 58 rfl
theorem q1104 : (Jvm.Cond.selects "PictureBlock$Faint" ({ cls := "PictureBlock$Weighs", name := "weighs", desc := "(ILPictureBlock$Trace;)I" } : Jvm.MethodName) ({ cls := "PictureBlock$Mark", name := "weighs", desc := "(ILPictureBlock$Trace;)I" } : Jvm.MethodName)) ∈ lw_all := lw_g (lw_at lw_m5 59 rfl) rfl
theorem q1105 : (Jvm.Cond.unhidden "PictureBlock$Faint" "weighs" "(ILPictureBlock$Trace;)I") ∈ lw_tbl := lw_at lw_m5 60 rfl
theorem q1142 : (Jvm.Cond.selects "PictureBlock$Faint" ({ cls := "PictureBlock$Mark", name := "ties", desc := "(ILPictureBlock$Trace;)I" } : Jvm.MethodName) ({ cls := "PictureBlock$Mark", name := "ties", desc := "(ILPictureBlock$Trace;)I" } : Jvm.MethodName)) ∈ lw_all := lw_g (lw_at lw_m5 97 rfl) rfl
theorem q1160 : (Jvm.Cond.selects "PictureBlock$Faint" ({ cls := "PictureBlock$Mark", name := "parts", desc := "(ILPictureBlock$Trace;)I" } : Jvm.MethodName) ({ cls := "PictureBlock$Mark", name := "parts", desc := "(ILPictureBlock$Trace;)I" } : Jvm.MethodName)) ∈ lw_all := lw_g (lw_at lw_m5 115 rfl) rfl
theorem q1760 : (Jvm.Cond.castable "PictureBlock$Faint" "PictureBlock$Mark") ∈ lw_tbl := lw_at lw_m7 235 rfl
theorem q1766 : (Jvm.Cond.castable "PictureBlock$Faint" "PictureBlock$Star") ∈ lw_tbl := lw_at lw_m8 1 rfl
theorem in_X10 : ∀ w ∈ wsX100, w ∈ lw_all := lw_in wsX100 [358, 359] (by decide +kernel) (by decide +kernel)

/-! PictureBlock$Shore -/
set_option maxRecDepth 100000
def RX11 : String := "PictureBlock$Shore"
def TX11 : u_T := fun k => match k with
  | 0 => ("PictureBlock$Mark", "number", "I", true)
  | _ => ("PictureBlock$Mark", "m", "I", true)
def tyX11 : Nat → FieldType := fun k => match k with
  | 0 => .int
  | _ => .int
abbrev wsX110 : List Cond := u_ws RX11 TX11 2
theorem nmX11 : ∀ a, a < 2 → ∀ b, b < 2 → a ≠ b → (TX11 a).2.1 ≠ (TX11 b).2.1 := by decide +kernel
theorem tyX11_ok : ∀ k, k < 2 → parseFieldDescriptor (TX11 k).2.2.1 = some (tyX11 k) := by decide +kernel
abbrev cX11_init : ByteArray := prog_12_method_1_code
def yX11_init : MethodName := ⟨RX11, "<init>", "(II)V"⟩
def dkwX11_init_0 : List UInt8 := [42, 27, 28, 183, 0, 3, 177]
abbrev dktX11_init_0 : List UInt8 := dkwX11_init_0 ++ []
theorem dksX11_init_0 : cX11_init.data.toList.drop 0 = dktX11_init_0 := by decide +kernel
theorem dX11_init_0 : decode cX11_init 0 = .ok (.aload_n 0, 1) := dk_42 (dk_at dksX11_init_0 0 rfl rfl)
theorem dX11_init_1 : decode cX11_init 1 = .ok (.iload_n 1, 1) := dk_27 (dk_at dksX11_init_0 1 rfl rfl)
theorem dX11_init_2 : decode cX11_init 2 = .ok (.iload_n 2, 1) := dk_28 (dk_at dksX11_init_0 2 rfl rfl)
theorem dX11_init_3 : decode cX11_init 3 = .ok (.invokespecial 3, 3) := dk_183 0 3 (dk_at dksX11_init_0 3 rfl rfl)
theorem dX11_init_6 : decode cX11_init 6 = .ok (.return_, 1) := dk_177 (dk_at dksX11_init_0 6 rfl rfl)
abbrev cX11_kind : ByteArray := prog_12_method_2_code
def yX11_kind : MethodName := ⟨RX11, "kind", "()I"⟩
def dkwX11_kind_0 : List UInt8 := [42, 183, 0, 9, 16, 6, 96, 172]
abbrev dktX11_kind_0 : List UInt8 := dkwX11_kind_0 ++ []
theorem dksX11_kind_0 : cX11_kind.data.toList.drop 0 = dktX11_kind_0 := by decide +kernel
theorem dX11_kind_0 : decode cX11_kind 0 = .ok (.aload_n 0, 1) := dk_42 (dk_at dksX11_kind_0 0 rfl rfl)
theorem dX11_kind_1 : decode cX11_kind 1 = .ok (.invokespecial 9, 3) := dk_183 0 9 (dk_at dksX11_kind_0 1 rfl rfl)
theorem dX11_kind_4 : decode cX11_kind 4 = .ok (.bipush 6, 2) := dk_16 6 (dk_at dksX11_kind_0 4 rfl rfl)
theorem dX11_kind_6 : decode cX11_kind 6 = .ok (.iadd, 1) := dk_96 (dk_at dksX11_kind_0 6 rfl rfl)
theorem dX11_kind_7 : decode cX11_kind 7 = .ok (.ireturn, 1) := dk_172 (dk_at dksX11_kind_0 7 rfl rfl)
abbrev cX11_weight : ByteArray := prog_12_method_3_code
def yX11_weight : MethodName := ⟨RX11, "weight", "(LPictureBlock$Block;)I"⟩
def dkwX11_weight_0 : List UInt8 := [42, 43, 183, 0, 13, 5, 104, 172]
abbrev dktX11_weight_0 : List UInt8 := dkwX11_weight_0 ++ []
theorem dksX11_weight_0 : cX11_weight.data.toList.drop 0 = dktX11_weight_0 := by decide +kernel
theorem dX11_weight_0 : decode cX11_weight 0 = .ok (.aload_n 0, 1) := dk_42 (dk_at dksX11_weight_0 0 rfl rfl)
theorem dX11_weight_1 : decode cX11_weight 1 = .ok (.aload_n 1, 1) := dk_43 (dk_at dksX11_weight_0 1 rfl rfl)
theorem dX11_weight_2 : decode cX11_weight 2 = .ok (.invokespecial 13, 3) := dk_183 0 13 (dk_at dksX11_weight_0 2 rfl rfl)
theorem dX11_weight_5 : decode cX11_weight 5 = .ok (.iconst 2, 1) := dk_5 (dk_at dksX11_weight_0 5 rfl rfl)
theorem dX11_weight_6 : decode cX11_weight 6 = .ok (.imul, 1) := dk_104 (dk_at dksX11_weight_0 6 rfl rfl)
theorem dX11_weight_7 : decode cX11_weight 7 = .ok (.ireturn, 1) := dk_172 (dk_at dksX11_weight_0 7 rfl rfl)
abbrev cX11_value : ByteArray := prog_12_method_4_code
def yX11_value : MethodName := ⟨RX11, "value", "(LPictureBlock$Block;)I"⟩
def dkwX11_value_0 : List UInt8 := [3, 42, 43, 183, 0, 17, 184, 0, 20, 42, 180, 0, 26, 100, 172]
abbrev dktX11_value_0 : List UInt8 := dkwX11_value_0 ++ []
theorem dksX11_value_0 : cX11_value.data.toList.drop 0 = dktX11_value_0 := by decide +kernel
theorem dX11_value_0 : decode cX11_value 0 = .ok (.iconst 0, 1) := dk_3 (dk_at dksX11_value_0 0 rfl rfl)
theorem dX11_value_1 : decode cX11_value 1 = .ok (.aload_n 0, 1) := dk_42 (dk_at dksX11_value_0 1 rfl rfl)
theorem dX11_value_2 : decode cX11_value 2 = .ok (.aload_n 1, 1) := dk_43 (dk_at dksX11_value_0 2 rfl rfl)
theorem dX11_value_3 : decode cX11_value 3 = .ok (.invokespecial 17, 3) := dk_183 0 17 (dk_at dksX11_value_0 3 rfl rfl)
theorem dX11_value_6 : decode cX11_value 6 = .ok (.invokestatic 20, 3) := dk_184 0 20 (dk_at dksX11_value_0 6 rfl rfl)
theorem dX11_value_9 : decode cX11_value 9 = .ok (.aload_n 0, 1) := dk_42 (dk_at dksX11_value_0 9 rfl rfl)
theorem dX11_value_10 : decode cX11_value 10 = .ok (.getfield 26, 3) := dk_180 0 26 (dk_at dksX11_value_0 10 rfl rfl)
theorem dX11_value_13 : decode cX11_value 13 = .ok (.isub, 1) := dk_100 (dk_at dksX11_value_0 13 rfl rfl)
theorem dX11_value_14 : decode cX11_value 14 = .ok (.ireturn, 1) := dk_172 (dk_at dksX11_value_0 14 rfl rfl)
abbrev cX11_weighs : ByteArray := prog_12_method_5_code
def yX11_weighs : MethodName := ⟨RX11, "weighs", "(ILPictureBlock$Trace;)I"⟩
def dkwX11_weighs_0 : List UInt8 := [44, 16, 70, 182, 0, 32, 16, 9, 172]
abbrev dktX11_weighs_0 : List UInt8 := dkwX11_weighs_0 ++ []
theorem dksX11_weighs_0 : cX11_weighs.data.toList.drop 0 = dktX11_weighs_0 := by decide +kernel
theorem dX11_weighs_0 : decode cX11_weighs 0 = .ok (.aload_n 2, 1) := dk_44 (dk_at dksX11_weighs_0 0 rfl rfl)
theorem dX11_weighs_1 : decode cX11_weighs 1 = .ok (.bipush 70, 2) := dk_16 70 (dk_at dksX11_weighs_0 1 rfl rfl)
theorem dX11_weighs_3 : decode cX11_weighs 3 = .ok (.invokevirtual 32, 3) := dk_182 0 32 (dk_at dksX11_weighs_0 3 rfl rfl)
theorem dX11_weighs_6 : decode cX11_weighs 6 = .ok (.bipush 9, 2) := dk_16 9 (dk_at dksX11_weighs_0 6 rfl rfl)
theorem dX11_weighs_8 : decode cX11_weighs 8 = .ok (.ireturn, 1) := dk_172 (dk_at dksX11_weighs_0 8 rfl rfl)
abbrev cX11_says : ByteArray := prog_12_method_6_code
def yX11_says : MethodName := ⟨RX11, "says", "(ILPictureBlock$Trace;)I"⟩
def dkwX11_says_0 : List UInt8 := [44, 16, 71, 182, 0, 32, 42, 27, 44, 183, 0, 38, 42, 180, 0, 26, 96, 172]
abbrev dktX11_says_0 : List UInt8 := dkwX11_says_0 ++ []
theorem dksX11_says_0 : cX11_says.data.toList.drop 0 = dktX11_says_0 := by decide +kernel
theorem dX11_says_0 : decode cX11_says 0 = .ok (.aload_n 2, 1) := dk_44 (dk_at dksX11_says_0 0 rfl rfl)
theorem dX11_says_1 : decode cX11_says 1 = .ok (.bipush 71, 2) := dk_16 71 (dk_at dksX11_says_0 1 rfl rfl)
theorem dX11_says_3 : decode cX11_says 3 = .ok (.invokevirtual 32, 3) := dk_182 0 32 (dk_at dksX11_says_0 3 rfl rfl)
theorem dX11_says_6 : decode cX11_says 6 = .ok (.aload_n 0, 1) := dk_42 (dk_at dksX11_says_0 6 rfl rfl)
theorem dX11_says_7 : decode cX11_says 7 = .ok (.iload_n 1, 1) := dk_27 (dk_at dksX11_says_0 7 rfl rfl)
theorem dX11_says_8 : decode cX11_says 8 = .ok (.aload_n 2, 1) := dk_44 (dk_at dksX11_says_0 8 rfl rfl)
theorem dX11_says_9 : decode cX11_says 9 = .ok (.invokespecial 38, 3) := dk_183 0 38 (dk_at dksX11_says_0 9 rfl rfl)
theorem dX11_says_12 : decode cX11_says 12 = .ok (.aload_n 0, 1) := dk_42 (dk_at dksX11_says_0 12 rfl rfl)
theorem dX11_says_13 : decode cX11_says 13 = .ok (.getfield 26, 3) := dk_180 0 26 (dk_at dksX11_says_0 13 rfl rfl)
theorem dX11_says_16 : decode cX11_says 16 = .ok (.iadd, 1) := dk_96 (dk_at dksX11_says_0 16 rfl rfl)
theorem dX11_says_17 : decode cX11_says 17 = .ok (.ireturn, 1) := dk_172 (dk_at dksX11_says_0 17 rfl rfl)
theorem q97 : (Jvm.Cond.initialized "PictureBlock$Shore") ∈ lw_all := lw_g (lw_at lw_m1 12 rfl) rfl
theorem q315 : (Jvm.Cond.fieldLink "PictureBlock$Shore" (26 : Nat) "PictureBlock$Shore" "m" "I") ∈ lw_all := lw_g (lw_at lw_m1 230 rfl) rfl
theorem q316 : (Jvm.Cond.sameField "PictureBlock$Shore" "PictureBlock$Mark" "m" "I") ∈ lw_all := lw_g (lw_at lw_m1 231 rfl) rfl
theorem q362 : (Jvm.Cond.instantiable "PictureBlock$Shore" (2 : Nat)) ∈ lw_all := lw_g (lw_at lw_m2 37 rfl) rfl
theorem q364 : (Jvm.Cond.instanceMethod ({ cls := "PictureBlock$Shore", name := "<init>", desc := "(II)V" } : Jvm.MethodName)) ∈ lw_all := lw_g (lw_at lw_m2 39 rfl) rfl
theorem q365 : (Jvm.Cond.code ({ cls := "PictureBlock$Shore", name := "<init>", desc := "(II)V" } : Jvm.MethodName) prog_12_method_1_code (3 : Nat) (Option.none : Option Jvm.ClassFile.FieldType)) ∈ lw_all := lw_g (lw_at lw_m2 40 rfl) rfl
theorem q366 : (Jvm.Cond.methodLink "PictureBlock$Shore" (3 : Nat) ({ cls := "PictureBlock$Mark", name := "<init>", desc := "(II)V" } : Jvm.MethodName)) ∈ lw_all := lw_g (lw_at lw_m2 41 rfl) rfl
theorem q367 : (Jvm.Cond.laysFinal "PictureBlock$Shore" "PictureBlock$Mark" "number" "I") ∈ lw_all := lw_g (lw_at lw_m2 42 rfl) rfl
theorem q368 : (Jvm.Cond.laysFinal "PictureBlock$Shore" "PictureBlock$Mark" "m" "I") ∈ lw_all := lw_g (lw_at lw_m2 43 rfl) rfl
theorem q369 : (Jvm.Cond.superclass "PictureBlock$Shore" "PictureBlock$Mark") ∈ lw_all := lw_g (lw_at lw_m2 44 rfl) rfl
theorem q412 : (Jvm.Cond.selects "PictureBlock$Shore" ({ cls := "PictureBlock$Mark", name := "kind", desc := "()I" } : Jvm.MethodName) ({ cls := "PictureBlock$Shore", name := "kind", desc := "()I" } : Jvm.MethodName)) ∈ lw_all := lw_g (lw_at lw_m2 87 rfl) rfl
theorem q413 : (Jvm.Cond.instanceMethod ({ cls := "PictureBlock$Shore", name := "kind", desc := "()I" } : Jvm.MethodName)) ∈ lw_all := lw_g (lw_at lw_m2 88 rfl) rfl
theorem q414 : (Jvm.Cond.code ({ cls := "PictureBlock$Shore", name := "kind", desc := "()I" } : Jvm.MethodName) prog_12_method_2_code (1 : Nat) (Option.some Jvm.ClassFile.FieldType.int)) ∈ lw_all := lw_g (lw_at lw_m2 89 rfl) rfl
theorem q415 : (Jvm.Cond.methodLink "PictureBlock$Shore" (9 : Nat) ({ cls := "PictureBlock$Mark", name := "kind", desc := "()I" } : Jvm.MethodName)) ∈ lw_all := lw_g (lw_at lw_m2 90 rfl) rfl
theorem q482 : (Jvm.Cond.castable "PictureBlock$Shore" "PictureBlock$Seen") ∈ lw_tbl := lw_at lw_m2 157 rfl
theorem q483 : (Jvm.Cond.selects "PictureBlock$Shore" ({ cls := "PictureBlock$Seen", name := "weight", desc := "(LPictureBlock$Block;)I" } : Jvm.MethodName) ({ cls := "PictureBlock$Shore", name := "weight", desc := "(LPictureBlock$Block;)I" } : Jvm.MethodName)) ∈ lw_all := lw_g (lw_at lw_m2 158 rfl) rfl
theorem q484 : (Jvm.Cond.unhidden "PictureBlock$Shore" "weight" "(LPictureBlock$Block;)I") ∈ lw_tbl := lw_at lw_m2 159 rfl
theorem q485 : (Jvm.Cond.instanceMethod ({ cls := "PictureBlock$Shore", name := "weight", desc := "(LPictureBlock$Block;)I" } : Jvm.MethodName)) ∈ lw_all := lw_g (lw_at lw_m2 160 rfl) rfl
theorem q486 : (Jvm.Cond.publicMethod ({ cls := "PictureBlock$Shore", name := "weight", desc := "(LPictureBlock$Block;)I" } : Jvm.MethodName)) ∈ lw_tbl := lw_at lw_m2 161 rfl
theorem q487 : (Jvm.Cond.code ({ cls := "PictureBlock$Shore", name := "weight", desc := "(LPictureBlock$Block;)I" } : Jvm.MethodName) prog_12_method_3_code (2 : Nat) (Option.some Jvm.ClassFile.FieldType.int)) ∈ lw_all := lw_g (lw_at lw_m2 162 rfl) rfl
theorem q488 : (Jvm.Cond.methodLink "PictureBlock$Shore" (13 : Nat) ({ cls := "PictureBlock$Mark", name := "weight", desc := "(LPictureBlock$Block;)I" } : Jvm.MethodName)) ∈ lw_all := lw_g (lw_at lw_m2 163 rfl) rfl
theorem q559 : (Jvm.Cond.selects "PictureBlock$Shore" ({ cls := "PictureBlock$Seen", name := "value", desc := "(LPictureBlock$Block;)I" } : Jvm.MethodName) ({ cls := "PictureBlock$Shore", name := "value", desc := "(LPictureBlock$Block;)I" } : Jvm.MethodName)) ∈ lw_all := lw_g (lw_at lw_m2 234 rfl) rfl
theorem q560 : (Jvm.Cond.unhidden "PictureBlock$Shore" "value" "(LPictureBlock$Block;)I") ∈ lw_tbl := lw_at lw_m2 235 rfl
theorem q561 : (Jvm.Cond.instanceMethod ({ cls := "PictureBlock$Shore", name := "value", desc := "(LPictureBlock$Block;)I" } : Jvm.MethodName)) ∈ lw_all := lw_g (lw_at lw_m2 236 rfl) rfl
theorem q562 : (Jvm.Cond.publicMethod ({ cls := "PictureBlock$Shore", name := "value", desc := "(LPictureBlock$Block;)I" } : Jvm.MethodName)) ∈ lw_tbl := lw_at lw_m2 237 rfl
theorem q563 : (Jvm.Cond.code ({ cls := "PictureBlock$Shore", name := "value", desc := "(LPictureBlock$Block;)I" } : Jvm.MethodName) prog_12_method_4_code (2 : Nat) (Option.some Jvm.ClassFile.FieldType.int)) ∈ lw_all := lw_g (lw_at lw_m2 238 rfl) rfl
theorem q564 : (Jvm.Cond.methodLink "PictureBlock$Shore" (17 : Nat) ({ cls := "PictureBlock$Mark", name := "value", desc := "(LPictureBlock$Block;)I" } : Jvm.MethodName)) ∈ lw_all := lw_g (lw_at lw_m2 239 rfl) rfl
theorem q565 : (Jvm.Cond.methodLink "PictureBlock$Shore" (20 : Nat) ({ cls := "java/lang/Math", name := "max", desc := "(II)I" } : Jvm.MethodName)) ∈ lw_all := lw_g (lw_at lw_m3 0 rfl) rfl
theorem q1075 : (Jvm.Cond.selects "PictureBlock$Shore" ({ cls := "PictureBlock$Mark", name := "weighs", desc := "(ILPictureBlock$Trace;)I" } : Jvm.MethodName) ({ cls := "PictureBlock$Shore", name := "weighs", desc := "(ILPictureBlock$Trace;)I" } : Jvm.MethodName)) ∈ lw_all := lw_g (lw_at lw_m5 30 rfl) rfl
theorem q1076 : (Jvm.Cond.instanceMethod ({ cls := "PictureBlock$Shore", name := "weighs", desc := "(ILPictureBlock$Trace;)I" } : Jvm.MethodName)) ∈ lw_all := lw_g (lw_at lw_m5 31 rfl) rfl
theorem q1077 : (Jvm.Cond.code ({ cls := "PictureBlock$Shore", name := "weighs", desc := "(ILPictureBlock$Trace;)I" } : Jvm.MethodName) prog_12_method_5_code (3 : Nat) (Option.some Jvm.ClassFile.FieldType.int)) ∈ lw_all := lw_g (lw_at lw_m5 32 rfl) rfl
theorem q1078 : (Jvm.Cond.methodLink "PictureBlock$Shore" (32 : Nat) ({ cls := "PictureBlock$Trace", name := "ran", desc := "(I)V" } : Jvm.MethodName)) ∈ lw_all := lw_g (lw_at lw_m5 33 rfl) rfl
theorem q1117 : (Jvm.Cond.castable "PictureBlock$Shore" "PictureBlock$Weighs") ∈ lw_tbl := lw_at lw_m5 72 rfl
theorem q1118 : (Jvm.Cond.selects "PictureBlock$Shore" ({ cls := "PictureBlock$Weighs", name := "weighs", desc := "(ILPictureBlock$Trace;)I" } : Jvm.MethodName) ({ cls := "PictureBlock$Shore", name := "weighs", desc := "(ILPictureBlock$Trace;)I" } : Jvm.MethodName)) ∈ lw_all := lw_g (lw_at lw_m5 73 rfl) rfl
theorem q1119 : (Jvm.Cond.unhidden "PictureBlock$Shore" "weighs" "(ILPictureBlock$Trace;)I") ∈ lw_tbl := lw_at lw_m5 74 rfl
theorem q1120 : (Jvm.Cond.publicMethod ({ cls := "PictureBlock$Shore", name := "weighs", desc := "(ILPictureBlock$Trace;)I" } : Jvm.MethodName)) ∈ lw_tbl := lw_at lw_m5 75 rfl
theorem q1127 : (Jvm.Cond.selects "PictureBlock$Shore" ({ cls := "PictureBlock$Weighs", name := "says", desc := "(ILPictureBlock$Trace;)I" } : Jvm.MethodName) ({ cls := "PictureBlock$Shore", name := "says", desc := "(ILPictureBlock$Trace;)I" } : Jvm.MethodName)) ∈ lw_all := lw_g (lw_at lw_m5 82 rfl) rfl
theorem q1128 : (Jvm.Cond.instanceMethod ({ cls := "PictureBlock$Shore", name := "says", desc := "(ILPictureBlock$Trace;)I" } : Jvm.MethodName)) ∈ lw_all := lw_g (lw_at lw_m5 83 rfl) rfl
theorem q1129 : (Jvm.Cond.code ({ cls := "PictureBlock$Shore", name := "says", desc := "(ILPictureBlock$Trace;)I" } : Jvm.MethodName) prog_12_method_6_code (3 : Nat) (Option.some Jvm.ClassFile.FieldType.int)) ∈ lw_all := lw_g (lw_at lw_m5 84 rfl) rfl
theorem q1149 : (Jvm.Cond.selects "PictureBlock$Shore" ({ cls := "PictureBlock$Mark", name := "ties", desc := "(ILPictureBlock$Trace;)I" } : Jvm.MethodName) ({ cls := "PictureBlock$Mark", name := "ties", desc := "(ILPictureBlock$Trace;)I" } : Jvm.MethodName)) ∈ lw_all := lw_g (lw_at lw_m5 104 rfl) rfl
theorem q1163 : (Jvm.Cond.selects "PictureBlock$Shore" ({ cls := "PictureBlock$Mark", name := "parts", desc := "(ILPictureBlock$Trace;)I" } : Jvm.MethodName) ({ cls := "PictureBlock$Mark", name := "parts", desc := "(ILPictureBlock$Trace;)I" } : Jvm.MethodName)) ∈ lw_all := lw_g (lw_at lw_m5 118 rfl) rfl
theorem q1763 : (Jvm.Cond.castable "PictureBlock$Shore" "PictureBlock$Mark") ∈ lw_tbl := lw_at lw_m7 238 rfl
theorem in_X11 : ∀ w ∈ wsX110, w ∈ lw_all := lw_in wsX110 [367, 368] (by decide +kernel) (by decide +kernel)

/-! PictureBlock$Reader -/
set_option maxRecDepth 100000
def RX12 : String := "PictureBlock$Reader"
def TX12 : u_T := fun k => match k with
  | 0 => ("PictureBlock$Reader", "tape", "[B", true)
  | 1 => ("PictureBlock$Reader", "size", "I", true)
  | 2 => ("PictureBlock$Reader", "names", "Ljava/lang/String;", true)
  | 3 => ("PictureBlock$Reader", "text", "LPictureBlock$Text;", true)
  | 4 => ("PictureBlock$Reader", "at", "I", false)
  | _ => ("PictureBlock$Reader", "open", "I", false)
def tyX12 : Nat → FieldType := fun k => match k with
  | 0 => .array .byte
  | 1 => .int
  | 2 => .object "java/lang/String"
  | 3 => .object "PictureBlock$Text"
  | 4 => .int
  | _ => .int
abbrev wsX120 : List Cond := u_ws RX12 TX12 6
theorem nmX12 : ∀ a, a < 6 → ∀ b, b < 6 → a ≠ b → (TX12 a).2.1 ≠ (TX12 b).2.1 := by decide +kernel
theorem tyX12_ok : ∀ k, k < 6 → parseFieldDescriptor (TX12 k).2.2.1 = some (tyX12 k) := by decide +kernel
abbrev cX12_init : ByteArray := prog_10_method_1_code
def yX12_init : MethodName := ⟨RX12, "<init>", "([BILjava/lang/String;)V"⟩
def dkwX12_init_1 : List UInt8 := [181, 0, 22, 42, 45, 181, 0, 26, 177]
abbrev dktX12_init_1 : List UInt8 := dkwX12_init_1 ++ []
def dkwX12_init_0 : List UInt8 := [42, 183, 0, 3, 42, 187, 0, 9, 89, 183, 0, 11, 181, 0, 12, 42, 43, 181, 0, 18, 42, 28]
abbrev dktX12_init_0 : List UInt8 := dkwX12_init_0 ++ dktX12_init_1
theorem dksX12_init_0 : cX12_init.data.toList.drop 0 = dktX12_init_0 := by decide +kernel
theorem dksX12_init_1 : cX12_init.data.toList.drop 22 = dktX12_init_1 := dk_seg dksX12_init_0 22 rfl rfl
theorem dX12_init_0 : decode cX12_init 0 = .ok (.aload_n 0, 1) := dk_42 (dk_at dksX12_init_0 0 rfl rfl)
theorem dX12_init_1 : decode cX12_init 1 = .ok (.invokespecial 3, 3) := dk_183 0 3 (dk_at dksX12_init_0 1 rfl rfl)
theorem dX12_init_4 : decode cX12_init 4 = .ok (.aload_n 0, 1) := dk_42 (dk_at dksX12_init_0 4 rfl rfl)
theorem dX12_init_5 : decode cX12_init 5 = .ok (.new 9, 3) := dk_187 0 9 (dk_at dksX12_init_0 5 rfl rfl)
theorem dX12_init_8 : decode cX12_init 8 = .ok (.dup, 1) := dk_89 (dk_at dksX12_init_0 8 rfl rfl)
theorem dX12_init_9 : decode cX12_init 9 = .ok (.invokespecial 11, 3) := dk_183 0 11 (dk_at dksX12_init_0 9 rfl rfl)
theorem dX12_init_12 : decode cX12_init 12 = .ok (.putfield 12, 3) := dk_181 0 12 (dk_at dksX12_init_0 12 rfl rfl)
theorem dX12_init_15 : decode cX12_init 15 = .ok (.aload_n 0, 1) := dk_42 (dk_at dksX12_init_0 15 rfl rfl)
theorem dX12_init_16 : decode cX12_init 16 = .ok (.aload_n 1, 1) := dk_43 (dk_at dksX12_init_0 16 rfl rfl)
theorem dX12_init_17 : decode cX12_init 17 = .ok (.putfield 18, 3) := dk_181 0 18 (dk_at dksX12_init_0 17 rfl rfl)
theorem dX12_init_20 : decode cX12_init 20 = .ok (.aload_n 0, 1) := dk_42 (dk_at dksX12_init_0 20 rfl rfl)
theorem dX12_init_21 : decode cX12_init 21 = .ok (.iload_n 2, 1) := dk_28 (dk_at dksX12_init_0 21 rfl rfl)
theorem dX12_init_22 : decode cX12_init 22 = .ok (.putfield 22, 3) := dk_181 0 22 (dk_at dksX12_init_1 0 rfl rfl)
theorem dX12_init_25 : decode cX12_init 25 = .ok (.aload_n 0, 1) := dk_42 (dk_at dksX12_init_1 3 rfl rfl)
theorem dX12_init_26 : decode cX12_init 26 = .ok (.aload_n 3, 1) := dk_45 (dk_at dksX12_init_1 4 rfl rfl)
theorem dX12_init_27 : decode cX12_init 27 = .ok (.putfield 26, 3) := dk_181 0 26 (dk_at dksX12_init_1 5 rfl rfl)
theorem dX12_init_30 : decode cX12_init 30 = .ok (.return_, 1) := dk_177 (dk_at dksX12_init_1 8 rfl rfl)
abbrev cX12_read : ByteArray := prog_10_method_6_code
def yX12_read : MethodName := ⟨RX12, "read", "()LPictureBlock$Text;"⟩
def dkwX12_read_1 : List UInt8 := [176]
abbrev dktX12_read_1 : List UInt8 := dkwX12_read_1 ++ []
def dkwX12_read_0 : List UInt8 := [42, 182, 0, 48, 42, 180, 0, 30, 42, 180, 0, 22, 162, 0, 8, 42, 182, 0, 51, 191, 42, 180, 0, 12]
abbrev dktX12_read_0 : List UInt8 := dkwX12_read_0 ++ dktX12_read_1
theorem dksX12_read_0 : cX12_read.data.toList.drop 0 = dktX12_read_0 := by decide +kernel
theorem dksX12_read_1 : cX12_read.data.toList.drop 24 = dktX12_read_1 := dk_seg dksX12_read_0 24 rfl rfl
theorem dX12_read_0 : decode cX12_read 0 = .ok (.aload_n 0, 1) := dk_42 (dk_at dksX12_read_0 0 rfl rfl)
theorem dX12_read_1 : decode cX12_read 1 = .ok (.invokevirtual 48, 3) := dk_182 0 48 (dk_at dksX12_read_0 1 rfl rfl)
theorem dX12_read_4 : decode cX12_read 4 = .ok (.aload_n 0, 1) := dk_42 (dk_at dksX12_read_0 4 rfl rfl)
theorem dX12_read_5 : decode cX12_read 5 = .ok (.getfield 30, 3) := dk_180 0 30 (dk_at dksX12_read_0 5 rfl rfl)
theorem dX12_read_8 : decode cX12_read 8 = .ok (.aload_n 0, 1) := dk_42 (dk_at dksX12_read_0 8 rfl rfl)
theorem dX12_read_9 : decode cX12_read 9 = .ok (.getfield 22, 3) := dk_180 0 22 (dk_at dksX12_read_0 9 rfl rfl)
theorem dX12_read_12 : decode cX12_read 12 = .ok (.if_icmp .ge 8, 3) := dk_162 0 8 (dk_at dksX12_read_0 12 rfl rfl)
theorem dX12_read_15 : decode cX12_read 15 = .ok (.aload_n 0, 1) := dk_42 (dk_at dksX12_read_0 15 rfl rfl)
theorem dX12_read_16 : decode cX12_read 16 = .ok (.invokevirtual 51, 3) := dk_182 0 51 (dk_at dksX12_read_0 16 rfl rfl)
theorem dX12_read_19 : decode cX12_read 19 = .ok (.athrow, 1) := dk_191 (dk_at dksX12_read_0 19 rfl rfl)
theorem dX12_read_20 : decode cX12_read 20 = .ok (.aload_n 0, 1) := dk_42 (dk_at dksX12_read_0 20 rfl rfl)
theorem dX12_read_21 : decode cX12_read 21 = .ok (.getfield 12, 3) := dk_180 0 12 (dk_at dksX12_read_0 21 rfl rfl)
theorem dX12_read_24 : decode cX12_read 24 = .ok (.areturn, 1) := dk_176 (dk_at dksX12_read_1 0 rfl rfl)
abbrev cX12_either : ByteArray := prog_10_method_7_code
def yX12_either : MethodName := ⟨RX12, "either", "()V"⟩
def dkwX12_either_1 : List UInt8 := [182, 0, 62, 167, 255, 233, 177]
abbrev dktX12_either_1 : List UInt8 := dkwX12_either_1 ++ []
def dkwX12_either_0 : List UInt8 := [42, 182, 0, 55, 42, 16, 124, 182, 0, 58, 153, 0, 20, 42, 182, 0, 55, 42, 180, 0, 12, 16, 124, 3]
abbrev dktX12_either_0 : List UInt8 := dkwX12_either_0 ++ dktX12_either_1
theorem dksX12_either_0 : cX12_either.data.toList.drop 0 = dktX12_either_0 := by decide +kernel
theorem dksX12_either_1 : cX12_either.data.toList.drop 24 = dktX12_either_1 := dk_seg dksX12_either_0 24 rfl rfl
theorem dX12_either_0 : decode cX12_either 0 = .ok (.aload_n 0, 1) := dk_42 (dk_at dksX12_either_0 0 rfl rfl)
theorem dX12_either_1 : decode cX12_either 1 = .ok (.invokevirtual 55, 3) := dk_182 0 55 (dk_at dksX12_either_0 1 rfl rfl)
theorem dX12_either_4 : decode cX12_either 4 = .ok (.aload_n 0, 1) := dk_42 (dk_at dksX12_either_0 4 rfl rfl)
theorem dX12_either_5 : decode cX12_either 5 = .ok (.bipush 124, 2) := dk_16 124 (dk_at dksX12_either_0 5 rfl rfl)
theorem dX12_either_7 : decode cX12_either 7 = .ok (.invokevirtual 58, 3) := dk_182 0 58 (dk_at dksX12_either_0 7 rfl rfl)
theorem dX12_either_10 : decode cX12_either 10 = .ok (.ifCond .eq 20, 3) := dk_153 0 20 (dk_at dksX12_either_0 10 rfl rfl)
theorem dX12_either_13 : decode cX12_either 13 = .ok (.aload_n 0, 1) := dk_42 (dk_at dksX12_either_0 13 rfl rfl)
theorem dX12_either_14 : decode cX12_either 14 = .ok (.invokevirtual 55, 3) := dk_182 0 55 (dk_at dksX12_either_0 14 rfl rfl)
theorem dX12_either_17 : decode cX12_either 17 = .ok (.aload_n 0, 1) := dk_42 (dk_at dksX12_either_0 17 rfl rfl)
theorem dX12_either_18 : decode cX12_either 18 = .ok (.getfield 12, 3) := dk_180 0 12 (dk_at dksX12_either_0 18 rfl rfl)
theorem dX12_either_21 : decode cX12_either 21 = .ok (.bipush 124, 2) := dk_16 124 (dk_at dksX12_either_0 21 rfl rfl)
theorem dX12_either_23 : decode cX12_either 23 = .ok (.iconst 0, 1) := dk_3 (dk_at dksX12_either_0 23 rfl rfl)
theorem dX12_either_24 : decode cX12_either 24 = .ok (.invokevirtual 62, 3) := dk_182 0 62 (dk_at dksX12_either_1 0 rfl rfl)
theorem dX12_either_27 : decode cX12_either 27 = .ok (.goto (-23), 3) := dk_167 255 233 (dk_at dksX12_either_1 3 rfl rfl)
theorem dX12_either_30 : decode cX12_either 30 = .ok (.return_, 1) := dk_177 (dk_at dksX12_either_1 6 rfl rfl)
abbrev cX12_both : ByteArray := prog_10_method_8_code
def yX12_both : MethodName := ⟨RX12, "both", "()V"⟩
def dkwX12_both_1 : List UInt8 := [182, 0, 62, 167, 255, 233, 177]
abbrev dktX12_both_1 : List UInt8 := dkwX12_both_1 ++ []
def dkwX12_both_0 : List UInt8 := [42, 182, 0, 66, 42, 16, 38, 182, 0, 58, 153, 0, 20, 42, 182, 0, 66, 42, 180, 0, 12, 16, 38, 3]
abbrev dktX12_both_0 : List UInt8 := dkwX12_both_0 ++ dktX12_both_1
theorem dksX12_both_0 : cX12_both.data.toList.drop 0 = dktX12_both_0 := by decide +kernel
theorem dksX12_both_1 : cX12_both.data.toList.drop 24 = dktX12_both_1 := dk_seg dksX12_both_0 24 rfl rfl
theorem dX12_both_0 : decode cX12_both 0 = .ok (.aload_n 0, 1) := dk_42 (dk_at dksX12_both_0 0 rfl rfl)
theorem dX12_both_1 : decode cX12_both 1 = .ok (.invokevirtual 66, 3) := dk_182 0 66 (dk_at dksX12_both_0 1 rfl rfl)
theorem dX12_both_4 : decode cX12_both 4 = .ok (.aload_n 0, 1) := dk_42 (dk_at dksX12_both_0 4 rfl rfl)
theorem dX12_both_5 : decode cX12_both 5 = .ok (.bipush 38, 2) := dk_16 38 (dk_at dksX12_both_0 5 rfl rfl)
theorem dX12_both_7 : decode cX12_both 7 = .ok (.invokevirtual 58, 3) := dk_182 0 58 (dk_at dksX12_both_0 7 rfl rfl)
theorem dX12_both_10 : decode cX12_both 10 = .ok (.ifCond .eq 20, 3) := dk_153 0 20 (dk_at dksX12_both_0 10 rfl rfl)
theorem dX12_both_13 : decode cX12_both 13 = .ok (.aload_n 0, 1) := dk_42 (dk_at dksX12_both_0 13 rfl rfl)
theorem dX12_both_14 : decode cX12_both 14 = .ok (.invokevirtual 66, 3) := dk_182 0 66 (dk_at dksX12_both_0 14 rfl rfl)
theorem dX12_both_17 : decode cX12_both 17 = .ok (.aload_n 0, 1) := dk_42 (dk_at dksX12_both_0 17 rfl rfl)
theorem dX12_both_18 : decode cX12_both 18 = .ok (.getfield 12, 3) := dk_180 0 12 (dk_at dksX12_both_0 18 rfl rfl)
theorem dX12_both_21 : decode cX12_both 21 = .ok (.bipush 38, 2) := dk_16 38 (dk_at dksX12_both_0 21 rfl rfl)
theorem dX12_both_23 : decode cX12_both 23 = .ok (.iconst 0, 1) := dk_3 (dk_at dksX12_both_0 23 rfl rfl)
theorem dX12_both_24 : decode cX12_both 24 = .ok (.invokevirtual 62, 3) := dk_182 0 62 (dk_at dksX12_both_1 0 rfl rfl)
theorem dX12_both_27 : decode cX12_both 27 = .ok (.goto (-23), 3) := dk_167 255 233 (dk_at dksX12_both_1 3 rfl rfl)
theorem dX12_both_30 : decode cX12_both 30 = .ok (.return_, 1) := dk_177 (dk_at dksX12_both_1 6 rfl rfl)
abbrev cX12_compared : ByteArray := prog_10_method_9_code
def yX12_compared : MethodName := ⟨RX12, "compared", "()V"⟩
def dkwX12_compared_1 : List UInt8 := [4, 96, 181, 0, 30, 42, 182, 0, 69, 42, 180, 0, 12, 27, 3, 182, 0, 62, 177]
abbrev dktX12_compared_1 : List UInt8 := dkwX12_compared_1 ++ []
def dkwX12_compared_0 : List UInt8 := [42, 182, 0, 69, 42, 18, 72, 182, 0, 74, 154, 0, 4, 177, 42, 182, 0, 33, 60, 42, 89, 180, 0, 30]
abbrev dktX12_compared_0 : List UInt8 := dkwX12_compared_0 ++ dktX12_compared_1
theorem dksX12_compared_0 : cX12_compared.data.toList.drop 0 = dktX12_compared_0 := by decide +kernel
theorem dksX12_compared_1 : cX12_compared.data.toList.drop 24 = dktX12_compared_1 := dk_seg dksX12_compared_0 24 rfl rfl
theorem dX12_compared_0 : decode cX12_compared 0 = .ok (.aload_n 0, 1) := dk_42 (dk_at dksX12_compared_0 0 rfl rfl)
theorem dX12_compared_1 : decode cX12_compared 1 = .ok (.invokevirtual 69, 3) := dk_182 0 69 (dk_at dksX12_compared_0 1 rfl rfl)
theorem dX12_compared_4 : decode cX12_compared 4 = .ok (.aload_n 0, 1) := dk_42 (dk_at dksX12_compared_0 4 rfl rfl)
theorem dX12_compared_5 : decode cX12_compared 5 = .ok (.ldc 72, 2) := dk_18 72 (dk_at dksX12_compared_0 5 rfl rfl)
theorem dX12_compared_7 : decode cX12_compared 7 = .ok (.invokevirtual 74, 3) := dk_182 0 74 (dk_at dksX12_compared_0 7 rfl rfl)
theorem dX12_compared_10 : decode cX12_compared 10 = .ok (.ifCond .ne 4, 3) := dk_154 0 4 (dk_at dksX12_compared_0 10 rfl rfl)
theorem dX12_compared_13 : decode cX12_compared 13 = .ok (.return_, 1) := dk_177 (dk_at dksX12_compared_0 13 rfl rfl)
theorem dX12_compared_14 : decode cX12_compared 14 = .ok (.aload_n 0, 1) := dk_42 (dk_at dksX12_compared_0 14 rfl rfl)
theorem dX12_compared_15 : decode cX12_compared 15 = .ok (.invokevirtual 33, 3) := dk_182 0 33 (dk_at dksX12_compared_0 15 rfl rfl)
theorem dX12_compared_18 : decode cX12_compared 18 = .ok (.istore_n 1, 1) := dk_60 (dk_at dksX12_compared_0 18 rfl rfl)
theorem dX12_compared_19 : decode cX12_compared 19 = .ok (.aload_n 0, 1) := dk_42 (dk_at dksX12_compared_0 19 rfl rfl)
theorem dX12_compared_20 : decode cX12_compared 20 = .ok (.dup, 1) := dk_89 (dk_at dksX12_compared_0 20 rfl rfl)
theorem dX12_compared_21 : decode cX12_compared 21 = .ok (.getfield 30, 3) := dk_180 0 30 (dk_at dksX12_compared_0 21 rfl rfl)
theorem dX12_compared_24 : decode cX12_compared 24 = .ok (.iconst 1, 1) := dk_4 (dk_at dksX12_compared_1 0 rfl rfl)
theorem dX12_compared_25 : decode cX12_compared 25 = .ok (.iadd, 1) := dk_96 (dk_at dksX12_compared_1 1 rfl rfl)
theorem dX12_compared_26 : decode cX12_compared 26 = .ok (.putfield 30, 3) := dk_181 0 30 (dk_at dksX12_compared_1 2 rfl rfl)
theorem dX12_compared_29 : decode cX12_compared 29 = .ok (.aload_n 0, 1) := dk_42 (dk_at dksX12_compared_1 5 rfl rfl)
theorem dX12_compared_30 : decode cX12_compared 30 = .ok (.invokevirtual 69, 3) := dk_182 0 69 (dk_at dksX12_compared_1 6 rfl rfl)
theorem dX12_compared_33 : decode cX12_compared 33 = .ok (.aload_n 0, 1) := dk_42 (dk_at dksX12_compared_1 9 rfl rfl)
theorem dX12_compared_34 : decode cX12_compared 34 = .ok (.getfield 12, 3) := dk_180 0 12 (dk_at dksX12_compared_1 10 rfl rfl)
theorem dX12_compared_37 : decode cX12_compared 37 = .ok (.iload_n 1, 1) := dk_27 (dk_at dksX12_compared_1 13 rfl rfl)
theorem dX12_compared_38 : decode cX12_compared 38 = .ok (.iconst 0, 1) := dk_3 (dk_at dksX12_compared_1 14 rfl rfl)
theorem dX12_compared_39 : decode cX12_compared 39 = .ok (.invokevirtual 62, 3) := dk_182 0 62 (dk_at dksX12_compared_1 15 rfl rfl)
theorem dX12_compared_42 : decode cX12_compared 42 = .ok (.return_, 1) := dk_177 (dk_at dksX12_compared_1 18 rfl rfl)
abbrev cX12_sum : ByteArray := prog_10_method_10_code
def yX12_sum : MethodName := ⟨RX12, "sum", "()V"⟩
def dkwX12_sum_1 : List UInt8 := [96, 181, 0, 30, 42, 182, 0, 78, 42, 180, 0, 12, 27, 3, 182, 0, 62, 167, 255, 219, 177]
abbrev dktX12_sum_1 : List UInt8 := dkwX12_sum_1 ++ []
def dkwX12_sum_0 : List UInt8 := [42, 182, 0, 78, 42, 18, 81, 182, 0, 74, 153, 0, 34, 42, 182, 0, 33, 60, 42, 89, 180, 0, 30, 4]
abbrev dktX12_sum_0 : List UInt8 := dkwX12_sum_0 ++ dktX12_sum_1
theorem dksX12_sum_0 : cX12_sum.data.toList.drop 0 = dktX12_sum_0 := by decide +kernel
theorem dksX12_sum_1 : cX12_sum.data.toList.drop 24 = dktX12_sum_1 := dk_seg dksX12_sum_0 24 rfl rfl
theorem dX12_sum_0 : decode cX12_sum 0 = .ok (.aload_n 0, 1) := dk_42 (dk_at dksX12_sum_0 0 rfl rfl)
theorem dX12_sum_1 : decode cX12_sum 1 = .ok (.invokevirtual 78, 3) := dk_182 0 78 (dk_at dksX12_sum_0 1 rfl rfl)
theorem dX12_sum_4 : decode cX12_sum 4 = .ok (.aload_n 0, 1) := dk_42 (dk_at dksX12_sum_0 4 rfl rfl)
theorem dX12_sum_5 : decode cX12_sum 5 = .ok (.ldc 81, 2) := dk_18 81 (dk_at dksX12_sum_0 5 rfl rfl)
theorem dX12_sum_7 : decode cX12_sum 7 = .ok (.invokevirtual 74, 3) := dk_182 0 74 (dk_at dksX12_sum_0 7 rfl rfl)
theorem dX12_sum_10 : decode cX12_sum 10 = .ok (.ifCond .eq 34, 3) := dk_153 0 34 (dk_at dksX12_sum_0 10 rfl rfl)
theorem dX12_sum_13 : decode cX12_sum 13 = .ok (.aload_n 0, 1) := dk_42 (dk_at dksX12_sum_0 13 rfl rfl)
theorem dX12_sum_14 : decode cX12_sum 14 = .ok (.invokevirtual 33, 3) := dk_182 0 33 (dk_at dksX12_sum_0 14 rfl rfl)
theorem dX12_sum_17 : decode cX12_sum 17 = .ok (.istore_n 1, 1) := dk_60 (dk_at dksX12_sum_0 17 rfl rfl)
theorem dX12_sum_18 : decode cX12_sum 18 = .ok (.aload_n 0, 1) := dk_42 (dk_at dksX12_sum_0 18 rfl rfl)
theorem dX12_sum_19 : decode cX12_sum 19 = .ok (.dup, 1) := dk_89 (dk_at dksX12_sum_0 19 rfl rfl)
theorem dX12_sum_20 : decode cX12_sum 20 = .ok (.getfield 30, 3) := dk_180 0 30 (dk_at dksX12_sum_0 20 rfl rfl)
theorem dX12_sum_23 : decode cX12_sum 23 = .ok (.iconst 1, 1) := dk_4 (dk_at dksX12_sum_0 23 rfl rfl)
theorem dX12_sum_24 : decode cX12_sum 24 = .ok (.iadd, 1) := dk_96 (dk_at dksX12_sum_1 0 rfl rfl)
theorem dX12_sum_25 : decode cX12_sum 25 = .ok (.putfield 30, 3) := dk_181 0 30 (dk_at dksX12_sum_1 1 rfl rfl)
theorem dX12_sum_28 : decode cX12_sum 28 = .ok (.aload_n 0, 1) := dk_42 (dk_at dksX12_sum_1 4 rfl rfl)
theorem dX12_sum_29 : decode cX12_sum 29 = .ok (.invokevirtual 78, 3) := dk_182 0 78 (dk_at dksX12_sum_1 5 rfl rfl)
theorem dX12_sum_32 : decode cX12_sum 32 = .ok (.aload_n 0, 1) := dk_42 (dk_at dksX12_sum_1 8 rfl rfl)
theorem dX12_sum_33 : decode cX12_sum 33 = .ok (.getfield 12, 3) := dk_180 0 12 (dk_at dksX12_sum_1 9 rfl rfl)
theorem dX12_sum_36 : decode cX12_sum 36 = .ok (.iload_n 1, 1) := dk_27 (dk_at dksX12_sum_1 12 rfl rfl)
theorem dX12_sum_37 : decode cX12_sum 37 = .ok (.iconst 0, 1) := dk_3 (dk_at dksX12_sum_1 13 rfl rfl)
theorem dX12_sum_38 : decode cX12_sum 38 = .ok (.invokevirtual 62, 3) := dk_182 0 62 (dk_at dksX12_sum_1 14 rfl rfl)
theorem dX12_sum_41 : decode cX12_sum 41 = .ok (.goto (-37), 3) := dk_167 255 219 (dk_at dksX12_sum_1 17 rfl rfl)
theorem dX12_sum_44 : decode cX12_sum 44 = .ok (.return_, 1) := dk_177 (dk_at dksX12_sum_1 20 rfl rfl)
abbrev cX12_product : ByteArray := prog_10_method_11_code
def yX12_product : MethodName := ⟨RX12, "product", "()V"⟩
def dkwX12_product_1 : List UInt8 := [96, 181, 0, 30, 42, 182, 0, 83, 42, 180, 0, 12, 27, 3, 182, 0, 62, 167, 255, 219, 177]
abbrev dktX12_product_1 : List UInt8 := dkwX12_product_1 ++ []
def dkwX12_product_0 : List UInt8 := [42, 182, 0, 83, 42, 18, 86, 182, 0, 74, 153, 0, 34, 42, 182, 0, 33, 60, 42, 89, 180, 0, 30, 4]
abbrev dktX12_product_0 : List UInt8 := dkwX12_product_0 ++ dktX12_product_1
theorem dksX12_product_0 : cX12_product.data.toList.drop 0 = dktX12_product_0 := by decide +kernel
theorem dksX12_product_1 : cX12_product.data.toList.drop 24 = dktX12_product_1 := dk_seg dksX12_product_0 24 rfl rfl
theorem dX12_product_0 : decode cX12_product 0 = .ok (.aload_n 0, 1) := dk_42 (dk_at dksX12_product_0 0 rfl rfl)
theorem dX12_product_1 : decode cX12_product 1 = .ok (.invokevirtual 83, 3) := dk_182 0 83 (dk_at dksX12_product_0 1 rfl rfl)
theorem dX12_product_4 : decode cX12_product 4 = .ok (.aload_n 0, 1) := dk_42 (dk_at dksX12_product_0 4 rfl rfl)
theorem dX12_product_5 : decode cX12_product 5 = .ok (.ldc 86, 2) := dk_18 86 (dk_at dksX12_product_0 5 rfl rfl)
theorem dX12_product_7 : decode cX12_product 7 = .ok (.invokevirtual 74, 3) := dk_182 0 74 (dk_at dksX12_product_0 7 rfl rfl)
theorem dX12_product_10 : decode cX12_product 10 = .ok (.ifCond .eq 34, 3) := dk_153 0 34 (dk_at dksX12_product_0 10 rfl rfl)
theorem dX12_product_13 : decode cX12_product 13 = .ok (.aload_n 0, 1) := dk_42 (dk_at dksX12_product_0 13 rfl rfl)
theorem dX12_product_14 : decode cX12_product 14 = .ok (.invokevirtual 33, 3) := dk_182 0 33 (dk_at dksX12_product_0 14 rfl rfl)
theorem dX12_product_17 : decode cX12_product 17 = .ok (.istore_n 1, 1) := dk_60 (dk_at dksX12_product_0 17 rfl rfl)
theorem dX12_product_18 : decode cX12_product 18 = .ok (.aload_n 0, 1) := dk_42 (dk_at dksX12_product_0 18 rfl rfl)
theorem dX12_product_19 : decode cX12_product 19 = .ok (.dup, 1) := dk_89 (dk_at dksX12_product_0 19 rfl rfl)
theorem dX12_product_20 : decode cX12_product 20 = .ok (.getfield 30, 3) := dk_180 0 30 (dk_at dksX12_product_0 20 rfl rfl)
theorem dX12_product_23 : decode cX12_product 23 = .ok (.iconst 1, 1) := dk_4 (dk_at dksX12_product_0 23 rfl rfl)
theorem dX12_product_24 : decode cX12_product 24 = .ok (.iadd, 1) := dk_96 (dk_at dksX12_product_1 0 rfl rfl)
theorem dX12_product_25 : decode cX12_product 25 = .ok (.putfield 30, 3) := dk_181 0 30 (dk_at dksX12_product_1 1 rfl rfl)
theorem dX12_product_28 : decode cX12_product 28 = .ok (.aload_n 0, 1) := dk_42 (dk_at dksX12_product_1 4 rfl rfl)
theorem dX12_product_29 : decode cX12_product 29 = .ok (.invokevirtual 83, 3) := dk_182 0 83 (dk_at dksX12_product_1 5 rfl rfl)
theorem dX12_product_32 : decode cX12_product 32 = .ok (.aload_n 0, 1) := dk_42 (dk_at dksX12_product_1 8 rfl rfl)
theorem dX12_product_33 : decode cX12_product 33 = .ok (.getfield 12, 3) := dk_180 0 12 (dk_at dksX12_product_1 9 rfl rfl)
theorem dX12_product_36 : decode cX12_product 36 = .ok (.iload_n 1, 1) := dk_27 (dk_at dksX12_product_1 12 rfl rfl)
theorem dX12_product_37 : decode cX12_product 37 = .ok (.iconst 0, 1) := dk_3 (dk_at dksX12_product_1 13 rfl rfl)
theorem dX12_product_38 : decode cX12_product 38 = .ok (.invokevirtual 62, 3) := dk_182 0 62 (dk_at dksX12_product_1 14 rfl rfl)
theorem dX12_product_41 : decode cX12_product 41 = .ok (.goto (-37), 3) := dk_167 255 219 (dk_at dksX12_product_1 17 rfl rfl)
theorem dX12_product_44 : decode cX12_product 44 = .ok (.return_, 1) := dk_177 (dk_at dksX12_product_1 20 rfl rfl)
abbrev cX12_unit : ByteArray := prog_10_method_13_code
def yX12_unit : MethodName := ⟨RX12, "unit", "()V"⟩
def dkwX12_unit_5 : List UInt8 := [180, 0, 30, 4, 96, 181, 0, 30, 167, 0, 15, 42, 180, 0, 12, 4, 42, 182, 0, 94, 182, 0, 62, 177]
abbrev dktX12_unit_5 : List UInt8 := dkwX12_unit_5 ++ []
def dkwX12_unit_4 : List UInt8 := [153, 0, 35, 42, 180, 0, 12, 5, 42, 180, 0, 26, 42, 182, 0, 33, 182, 0, 37, 182, 0, 62, 42, 89]
abbrev dktX12_unit_4 : List UInt8 := dkwX12_unit_4 ++ dktX12_unit_5
def dkwX12_unit_3 : List UInt8 := [191, 42, 89, 180, 0, 88, 4, 100, 181, 0, 88, 167, 0, 58, 42, 42, 180, 0, 26, 182, 0, 74]
abbrev dktX12_unit_3 : List UInt8 := dkwX12_unit_3 ++ dktX12_unit_4
def dkwX12_unit_2 : List UInt8 := [160, 0, 38, 42, 182, 0, 91, 42, 182, 0, 48, 42, 16, 41, 182, 0, 58, 154, 0, 8, 42, 182, 0, 51]
abbrev dktX12_unit_2 : List UInt8 := dkwX12_unit_2 ++ dktX12_unit_3
def dkwX12_unit_1 : List UInt8 := [182, 0, 62, 42, 89, 180, 0, 88, 4, 100, 181, 0, 88, 167, 0, 102, 42, 182, 0, 33, 16, 40]
abbrev dktX12_unit_1 : List UInt8 := dkwX12_unit_1 ++ dktX12_unit_2
def dkwX12_unit_0 : List UInt8 := [42, 182, 0, 33, 16, 33, 160, 0, 33, 42, 182, 0, 91, 42, 182, 0, 83, 42, 180, 0, 12, 6, 3]
abbrev dktX12_unit_0 : List UInt8 := dkwX12_unit_0 ++ dktX12_unit_1
theorem dksX12_unit_0 : cX12_unit.data.toList.drop 0 = dktX12_unit_0 := by decide +kernel
theorem dksX12_unit_1 : cX12_unit.data.toList.drop 23 = dktX12_unit_1 := dk_seg dksX12_unit_0 23 rfl rfl
theorem dksX12_unit_2 : cX12_unit.data.toList.drop 45 = dktX12_unit_2 := dk_seg dksX12_unit_1 22 rfl rfl
theorem dksX12_unit_3 : cX12_unit.data.toList.drop 69 = dktX12_unit_3 := dk_seg dksX12_unit_2 24 rfl rfl
theorem dksX12_unit_4 : cX12_unit.data.toList.drop 91 = dktX12_unit_4 := dk_seg dksX12_unit_3 22 rfl rfl
theorem dksX12_unit_5 : cX12_unit.data.toList.drop 115 = dktX12_unit_5 := dk_seg dksX12_unit_4 24 rfl rfl
theorem dX12_unit_0 : decode cX12_unit 0 = .ok (.aload_n 0, 1) := dk_42 (dk_at dksX12_unit_0 0 rfl rfl)
theorem dX12_unit_1 : decode cX12_unit 1 = .ok (.invokevirtual 33, 3) := dk_182 0 33 (dk_at dksX12_unit_0 1 rfl rfl)
theorem dX12_unit_4 : decode cX12_unit 4 = .ok (.bipush 33, 2) := dk_16 33 (dk_at dksX12_unit_0 4 rfl rfl)
theorem dX12_unit_6 : decode cX12_unit 6 = .ok (.if_icmp .ne 33, 3) := dk_160 0 33 (dk_at dksX12_unit_0 6 rfl rfl)
theorem dX12_unit_9 : decode cX12_unit 9 = .ok (.aload_n 0, 1) := dk_42 (dk_at dksX12_unit_0 9 rfl rfl)
theorem dX12_unit_10 : decode cX12_unit 10 = .ok (.invokevirtual 91, 3) := dk_182 0 91 (dk_at dksX12_unit_0 10 rfl rfl)
theorem dX12_unit_13 : decode cX12_unit 13 = .ok (.aload_n 0, 1) := dk_42 (dk_at dksX12_unit_0 13 rfl rfl)
theorem dX12_unit_14 : decode cX12_unit 14 = .ok (.invokevirtual 83, 3) := dk_182 0 83 (dk_at dksX12_unit_0 14 rfl rfl)
theorem dX12_unit_17 : decode cX12_unit 17 = .ok (.aload_n 0, 1) := dk_42 (dk_at dksX12_unit_0 17 rfl rfl)
theorem dX12_unit_18 : decode cX12_unit 18 = .ok (.getfield 12, 3) := dk_180 0 12 (dk_at dksX12_unit_0 18 rfl rfl)
theorem dX12_unit_21 : decode cX12_unit 21 = .ok (.iconst 3, 1) := dk_6 (dk_at dksX12_unit_0 21 rfl rfl)
theorem dX12_unit_22 : decode cX12_unit 22 = .ok (.iconst 0, 1) := dk_3 (dk_at dksX12_unit_0 22 rfl rfl)
theorem dX12_unit_23 : decode cX12_unit 23 = .ok (.invokevirtual 62, 3) := dk_182 0 62 (dk_at dksX12_unit_1 0 rfl rfl)
theorem dX12_unit_26 : decode cX12_unit 26 = .ok (.aload_n 0, 1) := dk_42 (dk_at dksX12_unit_1 3 rfl rfl)
theorem dX12_unit_27 : decode cX12_unit 27 = .ok (.dup, 1) := dk_89 (dk_at dksX12_unit_1 4 rfl rfl)
theorem dX12_unit_28 : decode cX12_unit 28 = .ok (.getfield 88, 3) := dk_180 0 88 (dk_at dksX12_unit_1 5 rfl rfl)
theorem dX12_unit_31 : decode cX12_unit 31 = .ok (.iconst 1, 1) := dk_4 (dk_at dksX12_unit_1 8 rfl rfl)
theorem dX12_unit_32 : decode cX12_unit 32 = .ok (.isub, 1) := dk_100 (dk_at dksX12_unit_1 9 rfl rfl)
theorem dX12_unit_33 : decode cX12_unit 33 = .ok (.putfield 88, 3) := dk_181 0 88 (dk_at dksX12_unit_1 10 rfl rfl)
theorem dX12_unit_36 : decode cX12_unit 36 = .ok (.goto 102, 3) := dk_167 0 102 (dk_at dksX12_unit_1 13 rfl rfl)
theorem dX12_unit_39 : decode cX12_unit 39 = .ok (.aload_n 0, 1) := dk_42 (dk_at dksX12_unit_1 16 rfl rfl)
theorem dX12_unit_40 : decode cX12_unit 40 = .ok (.invokevirtual 33, 3) := dk_182 0 33 (dk_at dksX12_unit_1 17 rfl rfl)
theorem dX12_unit_43 : decode cX12_unit 43 = .ok (.bipush 40, 2) := dk_16 40 (dk_at dksX12_unit_1 20 rfl rfl)
theorem dX12_unit_45 : decode cX12_unit 45 = .ok (.if_icmp .ne 38, 3) := dk_160 0 38 (dk_at dksX12_unit_2 0 rfl rfl)
theorem dX12_unit_48 : decode cX12_unit 48 = .ok (.aload_n 0, 1) := dk_42 (dk_at dksX12_unit_2 3 rfl rfl)
theorem dX12_unit_49 : decode cX12_unit 49 = .ok (.invokevirtual 91, 3) := dk_182 0 91 (dk_at dksX12_unit_2 4 rfl rfl)
theorem dX12_unit_52 : decode cX12_unit 52 = .ok (.aload_n 0, 1) := dk_42 (dk_at dksX12_unit_2 7 rfl rfl)
theorem dX12_unit_53 : decode cX12_unit 53 = .ok (.invokevirtual 48, 3) := dk_182 0 48 (dk_at dksX12_unit_2 8 rfl rfl)
theorem dX12_unit_56 : decode cX12_unit 56 = .ok (.aload_n 0, 1) := dk_42 (dk_at dksX12_unit_2 11 rfl rfl)
theorem dX12_unit_57 : decode cX12_unit 57 = .ok (.bipush 41, 2) := dk_16 41 (dk_at dksX12_unit_2 12 rfl rfl)
theorem dX12_unit_59 : decode cX12_unit 59 = .ok (.invokevirtual 58, 3) := dk_182 0 58 (dk_at dksX12_unit_2 14 rfl rfl)
theorem dX12_unit_62 : decode cX12_unit 62 = .ok (.ifCond .ne 8, 3) := dk_154 0 8 (dk_at dksX12_unit_2 17 rfl rfl)
theorem dX12_unit_65 : decode cX12_unit 65 = .ok (.aload_n 0, 1) := dk_42 (dk_at dksX12_unit_2 20 rfl rfl)
theorem dX12_unit_66 : decode cX12_unit 66 = .ok (.invokevirtual 51, 3) := dk_182 0 51 (dk_at dksX12_unit_2 21 rfl rfl)
theorem dX12_unit_69 : decode cX12_unit 69 = .ok (.athrow, 1) := dk_191 (dk_at dksX12_unit_3 0 rfl rfl)
theorem dX12_unit_70 : decode cX12_unit 70 = .ok (.aload_n 0, 1) := dk_42 (dk_at dksX12_unit_3 1 rfl rfl)
theorem dX12_unit_71 : decode cX12_unit 71 = .ok (.dup, 1) := dk_89 (dk_at dksX12_unit_3 2 rfl rfl)
theorem dX12_unit_72 : decode cX12_unit 72 = .ok (.getfield 88, 3) := dk_180 0 88 (dk_at dksX12_unit_3 3 rfl rfl)
theorem dX12_unit_75 : decode cX12_unit 75 = .ok (.iconst 1, 1) := dk_4 (dk_at dksX12_unit_3 6 rfl rfl)
theorem dX12_unit_76 : decode cX12_unit 76 = .ok (.isub, 1) := dk_100 (dk_at dksX12_unit_3 7 rfl rfl)
theorem dX12_unit_77 : decode cX12_unit 77 = .ok (.putfield 88, 3) := dk_181 0 88 (dk_at dksX12_unit_3 8 rfl rfl)
theorem dX12_unit_80 : decode cX12_unit 80 = .ok (.goto 58, 3) := dk_167 0 58 (dk_at dksX12_unit_3 11 rfl rfl)
theorem dX12_unit_83 : decode cX12_unit 83 = .ok (.aload_n 0, 1) := dk_42 (dk_at dksX12_unit_3 14 rfl rfl)
theorem dX12_unit_84 : decode cX12_unit 84 = .ok (.aload_n 0, 1) := dk_42 (dk_at dksX12_unit_3 15 rfl rfl)
theorem dX12_unit_85 : decode cX12_unit 85 = .ok (.getfield 26, 3) := dk_180 0 26 (dk_at dksX12_unit_3 16 rfl rfl)
theorem dX12_unit_88 : decode cX12_unit 88 = .ok (.invokevirtual 74, 3) := dk_182 0 74 (dk_at dksX12_unit_3 19 rfl rfl)
theorem dX12_unit_91 : decode cX12_unit 91 = .ok (.ifCond .eq 35, 3) := dk_153 0 35 (dk_at dksX12_unit_4 0 rfl rfl)
theorem dX12_unit_94 : decode cX12_unit 94 = .ok (.aload_n 0, 1) := dk_42 (dk_at dksX12_unit_4 3 rfl rfl)
theorem dX12_unit_95 : decode cX12_unit 95 = .ok (.getfield 12, 3) := dk_180 0 12 (dk_at dksX12_unit_4 4 rfl rfl)
theorem dX12_unit_98 : decode cX12_unit 98 = .ok (.iconst 2, 1) := dk_5 (dk_at dksX12_unit_4 7 rfl rfl)
theorem dX12_unit_99 : decode cX12_unit 99 = .ok (.aload_n 0, 1) := dk_42 (dk_at dksX12_unit_4 8 rfl rfl)
theorem dX12_unit_100 : decode cX12_unit 100 = .ok (.getfield 26, 3) := dk_180 0 26 (dk_at dksX12_unit_4 9 rfl rfl)
theorem dX12_unit_103 : decode cX12_unit 103 = .ok (.aload_n 0, 1) := dk_42 (dk_at dksX12_unit_4 12 rfl rfl)
theorem dX12_unit_104 : decode cX12_unit 104 = .ok (.invokevirtual 33, 3) := dk_182 0 33 (dk_at dksX12_unit_4 13 rfl rfl)
theorem dX12_unit_107 : decode cX12_unit 107 = .ok (.invokevirtual 37, 3) := dk_182 0 37 (dk_at dksX12_unit_4 16 rfl rfl)
theorem dX12_unit_110 : decode cX12_unit 110 = .ok (.invokevirtual 62, 3) := dk_182 0 62 (dk_at dksX12_unit_4 19 rfl rfl)
theorem dX12_unit_113 : decode cX12_unit 113 = .ok (.aload_n 0, 1) := dk_42 (dk_at dksX12_unit_4 22 rfl rfl)
theorem dX12_unit_114 : decode cX12_unit 114 = .ok (.dup, 1) := dk_89 (dk_at dksX12_unit_4 23 rfl rfl)
theorem dX12_unit_115 : decode cX12_unit 115 = .ok (.getfield 30, 3) := dk_180 0 30 (dk_at dksX12_unit_5 0 rfl rfl)
theorem dX12_unit_118 : decode cX12_unit 118 = .ok (.iconst 1, 1) := dk_4 (dk_at dksX12_unit_5 3 rfl rfl)
theorem dX12_unit_119 : decode cX12_unit 119 = .ok (.iadd, 1) := dk_96 (dk_at dksX12_unit_5 4 rfl rfl)
theorem dX12_unit_120 : decode cX12_unit 120 = .ok (.putfield 30, 3) := dk_181 0 30 (dk_at dksX12_unit_5 5 rfl rfl)
theorem dX12_unit_123 : decode cX12_unit 123 = .ok (.goto 15, 3) := dk_167 0 15 (dk_at dksX12_unit_5 8 rfl rfl)
theorem dX12_unit_126 : decode cX12_unit 126 = .ok (.aload_n 0, 1) := dk_42 (dk_at dksX12_unit_5 11 rfl rfl)
theorem dX12_unit_127 : decode cX12_unit 127 = .ok (.getfield 12, 3) := dk_180 0 12 (dk_at dksX12_unit_5 12 rfl rfl)
theorem dX12_unit_130 : decode cX12_unit 130 = .ok (.iconst 1, 1) := dk_4 (dk_at dksX12_unit_5 15 rfl rfl)
theorem dX12_unit_131 : decode cX12_unit 131 = .ok (.aload_n 0, 1) := dk_42 (dk_at dksX12_unit_5 16 rfl rfl)
theorem dX12_unit_132 : decode cX12_unit 132 = .ok (.invokevirtual 94, 3) := dk_182 0 94 (dk_at dksX12_unit_5 17 rfl rfl)
theorem dX12_unit_135 : decode cX12_unit 135 = .ok (.invokevirtual 62, 3) := dk_182 0 62 (dk_at dksX12_unit_5 20 rfl rfl)
theorem dX12_unit_138 : decode cX12_unit 138 = .ok (.return_, 1) := dk_177 (dk_at dksX12_unit_5 23 rfl rfl)
abbrev cX12_here : ByteArray := prog_10_method_2_code
def yX12_here : MethodName := ⟨RX12, "here", "()I"⟩
def dkwX12_here_1 : List UInt8 := [172]
abbrev dktX12_here_1 : List UInt8 := dkwX12_here_1 ++ []
def dkwX12_here_0 : List UInt8 := [42, 180, 0, 30, 42, 180, 0, 22, 162, 0, 15, 42, 180, 0, 18, 42, 180, 0, 30, 51, 167, 0, 4, 2]
abbrev dktX12_here_0 : List UInt8 := dkwX12_here_0 ++ dktX12_here_1
theorem dksX12_here_0 : cX12_here.data.toList.drop 0 = dktX12_here_0 := by decide +kernel
theorem dksX12_here_1 : cX12_here.data.toList.drop 24 = dktX12_here_1 := dk_seg dksX12_here_0 24 rfl rfl
theorem dX12_here_0 : decode cX12_here 0 = .ok (.aload_n 0, 1) := dk_42 (dk_at dksX12_here_0 0 rfl rfl)
theorem dX12_here_1 : decode cX12_here 1 = .ok (.getfield 30, 3) := dk_180 0 30 (dk_at dksX12_here_0 1 rfl rfl)
theorem dX12_here_4 : decode cX12_here 4 = .ok (.aload_n 0, 1) := dk_42 (dk_at dksX12_here_0 4 rfl rfl)
theorem dX12_here_5 : decode cX12_here 5 = .ok (.getfield 22, 3) := dk_180 0 22 (dk_at dksX12_here_0 5 rfl rfl)
theorem dX12_here_8 : decode cX12_here 8 = .ok (.if_icmp .ge 15, 3) := dk_162 0 15 (dk_at dksX12_here_0 8 rfl rfl)
theorem dX12_here_11 : decode cX12_here 11 = .ok (.aload_n 0, 1) := dk_42 (dk_at dksX12_here_0 11 rfl rfl)
theorem dX12_here_12 : decode cX12_here 12 = .ok (.getfield 18, 3) := dk_180 0 18 (dk_at dksX12_here_0 12 rfl rfl)
theorem dX12_here_15 : decode cX12_here 15 = .ok (.aload_n 0, 1) := dk_42 (dk_at dksX12_here_0 15 rfl rfl)
theorem dX12_here_16 : decode cX12_here 16 = .ok (.getfield 30, 3) := dk_180 0 30 (dk_at dksX12_here_0 16 rfl rfl)
theorem dX12_here_19 : decode cX12_here 19 = .ok (.baload, 1) := dk_51 (dk_at dksX12_here_0 19 rfl rfl)
theorem dX12_here_20 : decode cX12_here 20 = .ok (.goto 4, 3) := dk_167 0 4 (dk_at dksX12_here_0 20 rfl rfl)
theorem dX12_here_23 : decode cX12_here 23 = .ok (.iconst (-1), 1) := dk_2 (dk_at dksX12_here_0 23 rfl rfl)
theorem dX12_here_24 : decode cX12_here 24 = .ok (.ireturn, 1) := dk_172 (dk_at dksX12_here_1 0 rfl rfl)
abbrev cX12_opens : ByteArray := prog_10_method_12_code
def yX12_opens : MethodName := ⟨RX12, "opens", "()V"⟩
def dkwX12_opens_1 : List UInt8 := [89, 180, 0, 30, 4, 96, 181, 0, 30, 177]
abbrev dktX12_opens_1 : List UInt8 := dkwX12_opens_1 ++ []
def dkwX12_opens_0 : List UInt8 := [42, 180, 0, 88, 8, 160, 0, 8, 42, 182, 0, 51, 191, 42, 89, 180, 0, 88, 4, 96, 181, 0, 88, 42]
abbrev dktX12_opens_0 : List UInt8 := dkwX12_opens_0 ++ dktX12_opens_1
theorem dksX12_opens_0 : cX12_opens.data.toList.drop 0 = dktX12_opens_0 := by decide +kernel
theorem dksX12_opens_1 : cX12_opens.data.toList.drop 24 = dktX12_opens_1 := dk_seg dksX12_opens_0 24 rfl rfl
theorem dX12_opens_0 : decode cX12_opens 0 = .ok (.aload_n 0, 1) := dk_42 (dk_at dksX12_opens_0 0 rfl rfl)
theorem dX12_opens_1 : decode cX12_opens 1 = .ok (.getfield 88, 3) := dk_180 0 88 (dk_at dksX12_opens_0 1 rfl rfl)
theorem dX12_opens_4 : decode cX12_opens 4 = .ok (.iconst 5, 1) := dk_8 (dk_at dksX12_opens_0 4 rfl rfl)
theorem dX12_opens_5 : decode cX12_opens 5 = .ok (.if_icmp .ne 8, 3) := dk_160 0 8 (dk_at dksX12_opens_0 5 rfl rfl)
theorem dX12_opens_8 : decode cX12_opens 8 = .ok (.aload_n 0, 1) := dk_42 (dk_at dksX12_opens_0 8 rfl rfl)
theorem dX12_opens_9 : decode cX12_opens 9 = .ok (.invokevirtual 51, 3) := dk_182 0 51 (dk_at dksX12_opens_0 9 rfl rfl)
theorem dX12_opens_12 : decode cX12_opens 12 = .ok (.athrow, 1) := dk_191 (dk_at dksX12_opens_0 12 rfl rfl)
theorem dX12_opens_13 : decode cX12_opens 13 = .ok (.aload_n 0, 1) := dk_42 (dk_at dksX12_opens_0 13 rfl rfl)
theorem dX12_opens_14 : decode cX12_opens 14 = .ok (.dup, 1) := dk_89 (dk_at dksX12_opens_0 14 rfl rfl)
theorem dX12_opens_15 : decode cX12_opens 15 = .ok (.getfield 88, 3) := dk_180 0 88 (dk_at dksX12_opens_0 15 rfl rfl)
theorem dX12_opens_18 : decode cX12_opens 18 = .ok (.iconst 1, 1) := dk_4 (dk_at dksX12_opens_0 18 rfl rfl)
theorem dX12_opens_19 : decode cX12_opens 19 = .ok (.iadd, 1) := dk_96 (dk_at dksX12_opens_0 19 rfl rfl)
theorem dX12_opens_20 : decode cX12_opens 20 = .ok (.putfield 88, 3) := dk_181 0 88 (dk_at dksX12_opens_0 20 rfl rfl)
theorem dX12_opens_23 : decode cX12_opens 23 = .ok (.aload_n 0, 1) := dk_42 (dk_at dksX12_opens_0 23 rfl rfl)
theorem dX12_opens_24 : decode cX12_opens 24 = .ok (.dup, 1) := dk_89 (dk_at dksX12_opens_1 0 rfl rfl)
theorem dX12_opens_25 : decode cX12_opens 25 = .ok (.getfield 30, 3) := dk_180 0 30 (dk_at dksX12_opens_1 1 rfl rfl)
theorem dX12_opens_28 : decode cX12_opens 28 = .ok (.iconst 1, 1) := dk_4 (dk_at dksX12_opens_1 4 rfl rfl)
theorem dX12_opens_29 : decode cX12_opens 29 = .ok (.iadd, 1) := dk_96 (dk_at dksX12_opens_1 5 rfl rfl)
theorem dX12_opens_30 : decode cX12_opens 30 = .ok (.putfield 30, 3) := dk_181 0 30 (dk_at dksX12_opens_1 6 rfl rfl)
theorem dX12_opens_33 : decode cX12_opens 33 = .ok (.return_, 1) := dk_177 (dk_at dksX12_opens_1 9 rfl rfl)
abbrev cX12_wrong : ByteArray := prog_10_method_5_code
def yX12_wrong : MethodName := ⟨RX12, "wrong", "()LPictureBlock$Fault;"⟩
def dkwX12_wrong_0 : List UInt8 := [187, 0, 43, 89, 42, 180, 0, 30, 183, 0, 45, 176]
abbrev dktX12_wrong_0 : List UInt8 := dkwX12_wrong_0 ++ []
theorem dksX12_wrong_0 : cX12_wrong.data.toList.drop 0 = dktX12_wrong_0 := by decide +kernel
theorem dX12_wrong_0 : decode cX12_wrong 0 = .ok (.new 43, 3) := dk_187 0 43 (dk_at dksX12_wrong_0 0 rfl rfl)
theorem dX12_wrong_3 : decode cX12_wrong 3 = .ok (.dup, 1) := dk_89 (dk_at dksX12_wrong_0 3 rfl rfl)
theorem dX12_wrong_4 : decode cX12_wrong 4 = .ok (.aload_n 0, 1) := dk_42 (dk_at dksX12_wrong_0 4 rfl rfl)
theorem dX12_wrong_5 : decode cX12_wrong 5 = .ok (.getfield 30, 3) := dk_180 0 30 (dk_at dksX12_wrong_0 5 rfl rfl)
theorem dX12_wrong_8 : decode cX12_wrong 8 = .ok (.invokespecial 45, 3) := dk_183 0 45 (dk_at dksX12_wrong_0 8 rfl rfl)
theorem dX12_wrong_11 : decode cX12_wrong 11 = .ok (.areturn, 1) := dk_176 (dk_at dksX12_wrong_0 11 rfl rfl)
abbrev cX12_takes : ByteArray := prog_10_method_3_code
def yX12_takes : MethodName := ⟨RX12, "takes", "(I)Z"⟩
def dkwX12_takes_1 : List UInt8 := [167, 0, 4, 3, 96, 181, 0, 30, 28, 172]
abbrev dktX12_takes_1 : List UInt8 := dkwX12_takes_1 ++ []
def dkwX12_takes_0 : List UInt8 := [42, 182, 0, 33, 27, 160, 0, 7, 4, 167, 0, 4, 3, 61, 42, 89, 180, 0, 30, 28, 153, 0, 7, 4]
abbrev dktX12_takes_0 : List UInt8 := dkwX12_takes_0 ++ dktX12_takes_1
theorem dksX12_takes_0 : cX12_takes.data.toList.drop 0 = dktX12_takes_0 := by decide +kernel
theorem dksX12_takes_1 : cX12_takes.data.toList.drop 24 = dktX12_takes_1 := dk_seg dksX12_takes_0 24 rfl rfl
theorem dX12_takes_0 : decode cX12_takes 0 = .ok (.aload_n 0, 1) := dk_42 (dk_at dksX12_takes_0 0 rfl rfl)
theorem dX12_takes_1 : decode cX12_takes 1 = .ok (.invokevirtual 33, 3) := dk_182 0 33 (dk_at dksX12_takes_0 1 rfl rfl)
theorem dX12_takes_4 : decode cX12_takes 4 = .ok (.iload_n 1, 1) := dk_27 (dk_at dksX12_takes_0 4 rfl rfl)
theorem dX12_takes_5 : decode cX12_takes 5 = .ok (.if_icmp .ne 7, 3) := dk_160 0 7 (dk_at dksX12_takes_0 5 rfl rfl)
theorem dX12_takes_8 : decode cX12_takes 8 = .ok (.iconst 1, 1) := dk_4 (dk_at dksX12_takes_0 8 rfl rfl)
theorem dX12_takes_9 : decode cX12_takes 9 = .ok (.goto 4, 3) := dk_167 0 4 (dk_at dksX12_takes_0 9 rfl rfl)
theorem dX12_takes_12 : decode cX12_takes 12 = .ok (.iconst 0, 1) := dk_3 (dk_at dksX12_takes_0 12 rfl rfl)
theorem dX12_takes_13 : decode cX12_takes 13 = .ok (.istore_n 2, 1) := dk_61 (dk_at dksX12_takes_0 13 rfl rfl)
theorem dX12_takes_14 : decode cX12_takes 14 = .ok (.aload_n 0, 1) := dk_42 (dk_at dksX12_takes_0 14 rfl rfl)
theorem dX12_takes_15 : decode cX12_takes 15 = .ok (.dup, 1) := dk_89 (dk_at dksX12_takes_0 15 rfl rfl)
theorem dX12_takes_16 : decode cX12_takes 16 = .ok (.getfield 30, 3) := dk_180 0 30 (dk_at dksX12_takes_0 16 rfl rfl)
theorem dX12_takes_19 : decode cX12_takes 19 = .ok (.iload_n 2, 1) := dk_28 (dk_at dksX12_takes_0 19 rfl rfl)
theorem dX12_takes_20 : decode cX12_takes 20 = .ok (.ifCond .eq 7, 3) := dk_153 0 7 (dk_at dksX12_takes_0 20 rfl rfl)
theorem dX12_takes_23 : decode cX12_takes 23 = .ok (.iconst 1, 1) := dk_4 (dk_at dksX12_takes_0 23 rfl rfl)
theorem dX12_takes_24 : decode cX12_takes 24 = .ok (.goto 4, 3) := dk_167 0 4 (dk_at dksX12_takes_1 0 rfl rfl)
theorem dX12_takes_27 : decode cX12_takes 27 = .ok (.iconst 0, 1) := dk_3 (dk_at dksX12_takes_1 3 rfl rfl)
theorem dX12_takes_28 : decode cX12_takes 28 = .ok (.iadd, 1) := dk_96 (dk_at dksX12_takes_1 4 rfl rfl)
theorem dX12_takes_29 : decode cX12_takes 29 = .ok (.putfield 30, 3) := dk_181 0 30 (dk_at dksX12_takes_1 5 rfl rfl)
theorem dX12_takes_32 : decode cX12_takes 32 = .ok (.iload_n 2, 1) := dk_28 (dk_at dksX12_takes_1 8 rfl rfl)
theorem dX12_takes_33 : decode cX12_takes 33 = .ok (.ireturn, 1) := dk_172 (dk_at dksX12_takes_1 9 rfl rfl)
abbrev cX12_isOneOf : ByteArray := prog_10_method_4_code
def yX12_isOneOf : MethodName := ⟨RX12, "isOneOf", "(Ljava/lang/String;)Z"⟩
def dkwX12_isOneOf_0 : List UInt8 := [42, 182, 0, 33, 155, 0, 18, 43, 42, 182, 0, 33, 182, 0, 37, 155, 0, 7, 4, 167, 0, 4, 3, 172]
abbrev dktX12_isOneOf_0 : List UInt8 := dkwX12_isOneOf_0 ++ []
theorem dksX12_isOneOf_0 : cX12_isOneOf.data.toList.drop 0 = dktX12_isOneOf_0 := by decide +kernel
theorem dX12_isOneOf_0 : decode cX12_isOneOf 0 = .ok (.aload_n 0, 1) := dk_42 (dk_at dksX12_isOneOf_0 0 rfl rfl)
theorem dX12_isOneOf_1 : decode cX12_isOneOf 1 = .ok (.invokevirtual 33, 3) := dk_182 0 33 (dk_at dksX12_isOneOf_0 1 rfl rfl)
theorem dX12_isOneOf_4 : decode cX12_isOneOf 4 = .ok (.ifCond .lt 18, 3) := dk_155 0 18 (dk_at dksX12_isOneOf_0 4 rfl rfl)
theorem dX12_isOneOf_7 : decode cX12_isOneOf 7 = .ok (.aload_n 1, 1) := dk_43 (dk_at dksX12_isOneOf_0 7 rfl rfl)
theorem dX12_isOneOf_8 : decode cX12_isOneOf 8 = .ok (.aload_n 0, 1) := dk_42 (dk_at dksX12_isOneOf_0 8 rfl rfl)
theorem dX12_isOneOf_9 : decode cX12_isOneOf 9 = .ok (.invokevirtual 33, 3) := dk_182 0 33 (dk_at dksX12_isOneOf_0 9 rfl rfl)
theorem dX12_isOneOf_12 : decode cX12_isOneOf 12 = .ok (.invokevirtual 37, 3) := dk_182 0 37 (dk_at dksX12_isOneOf_0 12 rfl rfl)
theorem dX12_isOneOf_15 : decode cX12_isOneOf 15 = .ok (.ifCond .lt 7, 3) := dk_155 0 7 (dk_at dksX12_isOneOf_0 15 rfl rfl)
theorem dX12_isOneOf_18 : decode cX12_isOneOf 18 = .ok (.iconst 1, 1) := dk_4 (dk_at dksX12_isOneOf_0 18 rfl rfl)
theorem dX12_isOneOf_19 : decode cX12_isOneOf 19 = .ok (.goto 4, 3) := dk_167 0 4 (dk_at dksX12_isOneOf_0 19 rfl rfl)
theorem dX12_isOneOf_22 : decode cX12_isOneOf 22 = .ok (.iconst 0, 1) := dk_3 (dk_at dksX12_isOneOf_0 22 rfl rfl)
theorem dX12_isOneOf_23 : decode cX12_isOneOf 23 = .ok (.ireturn, 1) := dk_172 (dk_at dksX12_isOneOf_0 23 rfl rfl)
abbrev cX12_number : ByteArray := prog_10_method_14_code
def yX12_number : MethodName := ⟨RX12, "number", "()I"⟩
def dkwX12_number_2 : List UInt8 := [132, 2, 1, 167, 255, 211, 28, 154, 0, 8, 42, 182, 0, 51, 191, 27, 172]
abbrev dktX12_number_2 : List UInt8 := dkwX12_number_2 ++ []
def dkwX12_number_1 : List UInt8 := [16, 10, 27, 104, 42, 182, 0, 33, 96, 16, 48, 100, 60, 42, 89, 180, 0, 30, 4, 96, 181, 0, 30]
abbrev dktX12_number_1 : List UInt8 := dkwX12_number_1 ++ dktX12_number_2
def dkwX12_number_0 : List UInt8 := [3, 60, 3, 61, 28, 7, 162, 0, 46, 42, 182, 0, 33, 16, 48, 16, 57, 184, 0, 97, 153, 0, 32]
abbrev dktX12_number_0 : List UInt8 := dkwX12_number_0 ++ dktX12_number_1
theorem dksX12_number_0 : cX12_number.data.toList.drop 0 = dktX12_number_0 := by decide +kernel
theorem dksX12_number_1 : cX12_number.data.toList.drop 23 = dktX12_number_1 := dk_seg dksX12_number_0 23 rfl rfl
theorem dksX12_number_2 : cX12_number.data.toList.drop 46 = dktX12_number_2 := dk_seg dksX12_number_1 23 rfl rfl
theorem dX12_number_0 : decode cX12_number 0 = .ok (.iconst 0, 1) := dk_3 (dk_at dksX12_number_0 0 rfl rfl)
theorem dX12_number_1 : decode cX12_number 1 = .ok (.istore_n 1, 1) := dk_60 (dk_at dksX12_number_0 1 rfl rfl)
theorem dX12_number_2 : decode cX12_number 2 = .ok (.iconst 0, 1) := dk_3 (dk_at dksX12_number_0 2 rfl rfl)
theorem dX12_number_3 : decode cX12_number 3 = .ok (.istore_n 2, 1) := dk_61 (dk_at dksX12_number_0 3 rfl rfl)
theorem dX12_number_4 : decode cX12_number 4 = .ok (.iload_n 2, 1) := dk_28 (dk_at dksX12_number_0 4 rfl rfl)
theorem dX12_number_5 : decode cX12_number 5 = .ok (.iconst 4, 1) := dk_7 (dk_at dksX12_number_0 5 rfl rfl)
theorem dX12_number_6 : decode cX12_number 6 = .ok (.if_icmp .ge 46, 3) := dk_162 0 46 (dk_at dksX12_number_0 6 rfl rfl)
theorem dX12_number_9 : decode cX12_number 9 = .ok (.aload_n 0, 1) := dk_42 (dk_at dksX12_number_0 9 rfl rfl)
theorem dX12_number_10 : decode cX12_number 10 = .ok (.invokevirtual 33, 3) := dk_182 0 33 (dk_at dksX12_number_0 10 rfl rfl)
theorem dX12_number_13 : decode cX12_number 13 = .ok (.bipush 48, 2) := dk_16 48 (dk_at dksX12_number_0 13 rfl rfl)
theorem dX12_number_15 : decode cX12_number 15 = .ok (.bipush 57, 2) := dk_16 57 (dk_at dksX12_number_0 15 rfl rfl)
theorem dX12_number_17 : decode cX12_number 17 = .ok (.invokestatic 97, 3) := dk_184 0 97 (dk_at dksX12_number_0 17 rfl rfl)
theorem dX12_number_20 : decode cX12_number 20 = .ok (.ifCond .eq 32, 3) := dk_153 0 32 (dk_at dksX12_number_0 20 rfl rfl)
theorem dX12_number_23 : decode cX12_number 23 = .ok (.bipush 10, 2) := dk_16 10 (dk_at dksX12_number_1 0 rfl rfl)
theorem dX12_number_25 : decode cX12_number 25 = .ok (.iload_n 1, 1) := dk_27 (dk_at dksX12_number_1 2 rfl rfl)
theorem dX12_number_26 : decode cX12_number 26 = .ok (.imul, 1) := dk_104 (dk_at dksX12_number_1 3 rfl rfl)
theorem dX12_number_27 : decode cX12_number 27 = .ok (.aload_n 0, 1) := dk_42 (dk_at dksX12_number_1 4 rfl rfl)
theorem dX12_number_28 : decode cX12_number 28 = .ok (.invokevirtual 33, 3) := dk_182 0 33 (dk_at dksX12_number_1 5 rfl rfl)
theorem dX12_number_31 : decode cX12_number 31 = .ok (.iadd, 1) := dk_96 (dk_at dksX12_number_1 8 rfl rfl)
theorem dX12_number_32 : decode cX12_number 32 = .ok (.bipush 48, 2) := dk_16 48 (dk_at dksX12_number_1 9 rfl rfl)
theorem dX12_number_34 : decode cX12_number 34 = .ok (.isub, 1) := dk_100 (dk_at dksX12_number_1 11 rfl rfl)
theorem dX12_number_35 : decode cX12_number 35 = .ok (.istore_n 1, 1) := dk_60 (dk_at dksX12_number_1 12 rfl rfl)
theorem dX12_number_36 : decode cX12_number 36 = .ok (.aload_n 0, 1) := dk_42 (dk_at dksX12_number_1 13 rfl rfl)
theorem dX12_number_37 : decode cX12_number 37 = .ok (.dup, 1) := dk_89 (dk_at dksX12_number_1 14 rfl rfl)
theorem dX12_number_38 : decode cX12_number 38 = .ok (.getfield 30, 3) := dk_180 0 30 (dk_at dksX12_number_1 15 rfl rfl)
theorem dX12_number_41 : decode cX12_number 41 = .ok (.iconst 1, 1) := dk_4 (dk_at dksX12_number_1 18 rfl rfl)
theorem dX12_number_42 : decode cX12_number 42 = .ok (.iadd, 1) := dk_96 (dk_at dksX12_number_1 19 rfl rfl)
theorem dX12_number_43 : decode cX12_number 43 = .ok (.putfield 30, 3) := dk_181 0 30 (dk_at dksX12_number_1 20 rfl rfl)
theorem dX12_number_46 : decode cX12_number 46 = .ok (.iinc 2 1, 3) := dk_132 2 1 (dk_at dksX12_number_2 0 rfl rfl)
theorem dX12_number_49 : decode cX12_number 49 = .ok (.goto (-45), 3) := dk_167 255 211 (dk_at dksX12_number_2 3 rfl rfl)
theorem dX12_number_52 : decode cX12_number 52 = .ok (.iload_n 2, 1) := dk_28 (dk_at dksX12_number_2 6 rfl rfl)
theorem dX12_number_53 : decode cX12_number 53 = .ok (.ifCond .ne 8, 3) := dk_154 0 8 (dk_at dksX12_number_2 7 rfl rfl)
theorem dX12_number_56 : decode cX12_number 56 = .ok (.aload_n 0, 1) := dk_42 (dk_at dksX12_number_2 10 rfl rfl)
theorem dX12_number_57 : decode cX12_number 57 = .ok (.invokevirtual 51, 3) := dk_182 0 51 (dk_at dksX12_number_2 11 rfl rfl)
theorem dX12_number_60 : decode cX12_number 60 = .ok (.athrow, 1) := dk_191 (dk_at dksX12_number_2 14 rfl rfl)
theorem dX12_number_61 : decode cX12_number 61 = .ok (.iload_n 1, 1) := dk_27 (dk_at dksX12_number_2 15 rfl rfl)
theorem dX12_number_62 : decode cX12_number 62 = .ok (.ireturn, 1) := dk_172 (dk_at dksX12_number_2 16 rfl rfl)
theorem q99 : (Jvm.Cond.initialized "PictureBlock$Reader") ∈ lw_all := lw_g (lw_at lw_m1 14 rfl) rfl
theorem q608 : (Jvm.Cond.instantiable "PictureBlock$Reader" (6 : Nat)) ∈ lw_all := lw_g (lw_at lw_m3 43 rfl) rfl
theorem q615 : (Jvm.Cond.instanceMethod ({ cls := "PictureBlock$Reader", name := "<init>", desc := "([BILjava/lang/String;)V" } : Jvm.MethodName)) ∈ lw_all := lw_g (lw_at lw_m3 50 rfl) rfl
theorem q616 : (Jvm.Cond.code ({ cls := "PictureBlock$Reader", name := "<init>", desc := "([BILjava/lang/String;)V" } : Jvm.MethodName) prog_10_method_1_code (4 : Nat) (Option.none : Option Jvm.ClassFile.FieldType)) ∈ lw_all := lw_g (lw_at lw_m3 51 rfl) rfl
theorem q617 : (Jvm.Cond.methodLink "PictureBlock$Reader" (3 : Nat) ({ cls := "java/lang/Object", name := "<init>", desc := "()V" } : Jvm.MethodName)) ∈ lw_all := lw_g (lw_at lw_m3 52 rfl) rfl
theorem q618 : (Jvm.Cond.classLink "PictureBlock$Reader" (9 : Nat) "PictureBlock$Text") ∈ lw_all := lw_g (lw_at lw_m3 53 rfl) rfl
theorem q620 : (Jvm.Cond.methodLinkNest "PictureBlock$Reader" (11 : Nat) ({ cls := "PictureBlock$Text", name := "<init>", desc := "()V" } : Jvm.MethodName) "PictureBlock") ∈ lw_tbl := lw_at lw_m3 55 rfl
theorem q638 : (Jvm.Cond.fieldLink "PictureBlock$Reader" (18 : Nat) "PictureBlock$Reader" "tape" "[B") ∈ lw_all := lw_g (lw_at lw_m3 73 rfl) rfl
theorem q639 : (Jvm.Cond.fieldLink "PictureBlock$Reader" (22 : Nat) "PictureBlock$Reader" "size" "I") ∈ lw_all := lw_g (lw_at lw_m3 74 rfl) rfl
theorem q640 : (Jvm.Cond.fieldLink "PictureBlock$Reader" (26 : Nat) "PictureBlock$Reader" "names" "Ljava/lang/String;") ∈ lw_all := lw_g (lw_at lw_m3 75 rfl) rfl
theorem q641 : (Jvm.Cond.fieldLink "PictureBlock$Reader" (12 : Nat) "PictureBlock$Reader" "text" "LPictureBlock$Text;") ∈ lw_all := lw_g (lw_at lw_m3 76 rfl) rfl
theorem q642 : (Jvm.Cond.fieldLink "PictureBlock$Reader" (30 : Nat) "PictureBlock$Reader" "at" "I") ∈ lw_all := lw_g (lw_at lw_m3 77 rfl) rfl
theorem q643 : (Jvm.Cond.fieldLink "PictureBlock$Reader" (88 : Nat) "PictureBlock$Reader" "open" "I") ∈ lw_all := lw_g (lw_at lw_m3 78 rfl) rfl
theorem q644 : (Jvm.Cond.laysFinal "PictureBlock$Reader" "PictureBlock$Reader" "tape" "[B") ∈ lw_all := lw_g (lw_at lw_m3 79 rfl) rfl
theorem q645 : (Jvm.Cond.soleField "PictureBlock$Reader" "tape") ∈ lw_all := lw_g (lw_at lw_m3 80 rfl) rfl
theorem q646 : (Jvm.Cond.laysFinal "PictureBlock$Reader" "PictureBlock$Reader" "size" "I") ∈ lw_all := lw_g (lw_at lw_m3 81 rfl) rfl
theorem q647 : (Jvm.Cond.soleField "PictureBlock$Reader" "size") ∈ lw_all := lw_g (lw_at lw_m3 82 rfl) rfl
theorem q648 : (Jvm.Cond.laysFinal "PictureBlock$Reader" "PictureBlock$Reader" "names" "Ljava/lang/String;") ∈ lw_all := lw_g (lw_at lw_m3 83 rfl) rfl
theorem q649 : (Jvm.Cond.soleField "PictureBlock$Reader" "names") ∈ lw_all := lw_g (lw_at lw_m3 84 rfl) rfl
theorem q650 : (Jvm.Cond.laysFinal "PictureBlock$Reader" "PictureBlock$Reader" "text" "LPictureBlock$Text;") ∈ lw_all := lw_g (lw_at lw_m3 85 rfl) rfl
theorem q651 : (Jvm.Cond.soleField "PictureBlock$Reader" "text") ∈ lw_all := lw_g (lw_at lw_m3 86 rfl) rfl
theorem q652 : (Jvm.Cond.lays "PictureBlock$Reader" "PictureBlock$Reader" "at" "I") ∈ lw_all := lw_g (lw_at lw_m3 87 rfl) rfl
theorem q653 : (Jvm.Cond.soleField "PictureBlock$Reader" "at") ∈ lw_all := lw_g (lw_at lw_m3 88 rfl) rfl
theorem q654 : (Jvm.Cond.lays "PictureBlock$Reader" "PictureBlock$Reader" "open" "I") ∈ lw_all := lw_g (lw_at lw_m3 89 rfl) rfl
theorem q655 : (Jvm.Cond.soleField "PictureBlock$Reader" "open") ∈ lw_all := lw_g (lw_at lw_m3 90 rfl) rfl
theorem q656 : (Jvm.Cond.superclass "PictureBlock$Reader" "java/lang/Object") ∈ lw_all := lw_g (lw_at lw_m3 91 rfl) rfl
theorem q658 : (Jvm.Cond.instanceMethod ({ cls := "PictureBlock$Reader", name := "read", desc := "()LPictureBlock$Text;" } : Jvm.MethodName)) ∈ lw_all := lw_g (lw_at lw_m3 93 rfl) rfl
theorem q659 : (Jvm.Cond.selects "PictureBlock$Reader" ({ cls := "PictureBlock$Reader", name := "read", desc := "()LPictureBlock$Text;" } : Jvm.MethodName) ({ cls := "PictureBlock$Reader", name := "read", desc := "()LPictureBlock$Text;" } : Jvm.MethodName)) ∈ lw_all := lw_g (lw_at lw_m3 94 rfl) rfl
theorem q660 : (Jvm.Cond.code ({ cls := "PictureBlock$Reader", name := "read", desc := "()LPictureBlock$Text;" } : Jvm.MethodName) prog_10_method_6_code (1 : Nat) (Option.some (Jvm.ClassFile.FieldType.object "PictureBlock$Text"))) ∈ lw_all := lw_g (lw_at lw_m3 95 rfl) rfl
theorem q661 : (Jvm.Cond.methodLink "PictureBlock$Reader" (48 : Nat) ({ cls := "PictureBlock$Reader", name := "either", desc := "()V" } : Jvm.MethodName)) ∈ lw_all := lw_g (lw_at lw_m3 96 rfl) rfl
theorem q662 : (Jvm.Cond.privateMethod ({ cls := "PictureBlock$Reader", name := "either", desc := "()V" } : Jvm.MethodName)) ∈ lw_tbl := lw_at lw_m3 97 rfl
theorem q663 : (Jvm.Cond.instanceMethod ({ cls := "PictureBlock$Reader", name := "either", desc := "()V" } : Jvm.MethodName)) ∈ lw_all := lw_g (lw_at lw_m3 98 rfl) rfl
theorem q664 : (Jvm.Cond.code ({ cls := "PictureBlock$Reader", name := "either", desc := "()V" } : Jvm.MethodName) prog_10_method_7_code (1 : Nat) (Option.none : Option Jvm.ClassFile.FieldType)) ∈ lw_all := lw_g (lw_at lw_m3 99 rfl) rfl
theorem q665 : (Jvm.Cond.methodLink "PictureBlock$Reader" (55 : Nat) ({ cls := "PictureBlock$Reader", name := "both", desc := "()V" } : Jvm.MethodName)) ∈ lw_all := lw_g (lw_at lw_m3 100 rfl) rfl
theorem q666 : (Jvm.Cond.privateMethod ({ cls := "PictureBlock$Reader", name := "both", desc := "()V" } : Jvm.MethodName)) ∈ lw_tbl := lw_at lw_m3 101 rfl
theorem q667 : (Jvm.Cond.instanceMethod ({ cls := "PictureBlock$Reader", name := "both", desc := "()V" } : Jvm.MethodName)) ∈ lw_all := lw_g (lw_at lw_m3 102 rfl) rfl
theorem q668 : (Jvm.Cond.code ({ cls := "PictureBlock$Reader", name := "both", desc := "()V" } : Jvm.MethodName) prog_10_method_8_code (1 : Nat) (Option.none : Option Jvm.ClassFile.FieldType)) ∈ lw_all := lw_g (lw_at lw_m3 103 rfl) rfl
theorem q669 : (Jvm.Cond.methodLink "PictureBlock$Reader" (66 : Nat) ({ cls := "PictureBlock$Reader", name := "compared", desc := "()V" } : Jvm.MethodName)) ∈ lw_all := lw_g (lw_at lw_m3 104 rfl) rfl
theorem q670 : (Jvm.Cond.privateMethod ({ cls := "PictureBlock$Reader", name := "compared", desc := "()V" } : Jvm.MethodName)) ∈ lw_tbl := lw_at lw_m3 105 rfl
theorem q671 : (Jvm.Cond.instanceMethod ({ cls := "PictureBlock$Reader", name := "compared", desc := "()V" } : Jvm.MethodName)) ∈ lw_all := lw_g (lw_at lw_m3 106 rfl) rfl
theorem q672 : (Jvm.Cond.code ({ cls := "PictureBlock$Reader", name := "compared", desc := "()V" } : Jvm.MethodName) prog_10_method_9_code (2 : Nat) (Option.none : Option Jvm.ClassFile.FieldType)) ∈ lw_all := lw_g (lw_at lw_m3 107 rfl) rfl
theorem q673 : (Jvm.Cond.methodLink "PictureBlock$Reader" (69 : Nat) ({ cls := "PictureBlock$Reader", name := "sum", desc := "()V" } : Jvm.MethodName)) ∈ lw_all := lw_g (lw_at lw_m3 108 rfl) rfl
theorem q674 : (Jvm.Cond.privateMethod ({ cls := "PictureBlock$Reader", name := "sum", desc := "()V" } : Jvm.MethodName)) ∈ lw_tbl := lw_at lw_m3 109 rfl
theorem q675 : (Jvm.Cond.instanceMethod ({ cls := "PictureBlock$Reader", name := "sum", desc := "()V" } : Jvm.MethodName)) ∈ lw_all := lw_g (lw_at lw_m3 110 rfl) rfl
theorem q676 : (Jvm.Cond.code ({ cls := "PictureBlock$Reader", name := "sum", desc := "()V" } : Jvm.MethodName) prog_10_method_10_code (2 : Nat) (Option.none : Option Jvm.ClassFile.FieldType)) ∈ lw_all := lw_g (lw_at lw_m3 111 rfl) rfl
theorem q677 : (Jvm.Cond.methodLink "PictureBlock$Reader" (78 : Nat) ({ cls := "PictureBlock$Reader", name := "product", desc := "()V" } : Jvm.MethodName)) ∈ lw_all := lw_g (lw_at lw_m3 112 rfl) rfl
theorem q678 : (Jvm.Cond.privateMethod ({ cls := "PictureBlock$Reader", name := "product", desc := "()V" } : Jvm.MethodName)) ∈ lw_tbl := lw_at lw_m3 113 rfl
theorem q679 : (Jvm.Cond.instanceMethod ({ cls := "PictureBlock$Reader", name := "product", desc := "()V" } : Jvm.MethodName)) ∈ lw_all := lw_g (lw_at lw_m3 114 rfl) rfl
theorem q680 : (Jvm.Cond.code ({ cls := "PictureBlock$Reader", name := "product", desc := "()V" } : Jvm.MethodName) prog_10_method_11_code (2 : Nat) (Option.none : Option Jvm.ClassFile.FieldType)) ∈ lw_all := lw_g (lw_at lw_m3 115 rfl) rfl
theorem q681 : (Jvm.Cond.methodLink "PictureBlock$Reader" (83 : Nat) ({ cls := "PictureBlock$Reader", name := "unit", desc := "()V" } : Jvm.MethodName)) ∈ lw_all := lw_g (lw_at lw_m3 116 rfl) rfl
theorem q682 : (Jvm.Cond.privateMethod ({ cls := "PictureBlock$Reader", name := "unit", desc := "()V" } : Jvm.MethodName)) ∈ lw_tbl := lw_at lw_m3 117 rfl
theorem q683 : (Jvm.Cond.instanceMethod ({ cls := "PictureBlock$Reader", name := "unit", desc := "()V" } : Jvm.MethodName)) ∈ lw_all := lw_g (lw_at lw_m3 118 rfl) rfl
theorem q684 : (Jvm.Cond.code ({ cls := "PictureBlock$Reader", name := "unit", desc := "()V" } : Jvm.MethodName) prog_10_method_13_code (1 : Nat) (Option.none : Option Jvm.ClassFile.FieldType)) ∈ lw_all := lw_g (lw_at lw_m3 119 rfl) rfl
theorem q685 : (Jvm.Cond.methodLink "PictureBlock$Reader" (33 : Nat) ({ cls := "PictureBlock$Reader", name := "here", desc := "()I" } : Jvm.MethodName)) ∈ lw_all := lw_g (lw_at lw_m3 120 rfl) rfl
theorem q686 : (Jvm.Cond.privateMethod ({ cls := "PictureBlock$Reader", name := "here", desc := "()I" } : Jvm.MethodName)) ∈ lw_tbl := lw_at lw_m3 121 rfl
theorem q687 : (Jvm.Cond.instanceMethod ({ cls := "PictureBlock$Reader", name := "here", desc := "()I" } : Jvm.MethodName)) ∈ lw_all := lw_g (lw_at lw_m3 122 rfl) rfl
theorem q688 : (Jvm.Cond.code ({ cls := "PictureBlock$Reader", name := "here", desc := "()I" } : Jvm.MethodName) prog_10_method_2_code (1 : Nat) (Option.some Jvm.ClassFile.FieldType.int)) ∈ lw_all := lw_g (lw_at lw_m3 123 rfl) rfl
theorem q689 : (Jvm.Cond.methodLink "PictureBlock$Reader" (91 : Nat) ({ cls := "PictureBlock$Reader", name := "opens", desc := "()V" } : Jvm.MethodName)) ∈ lw_all := lw_g (lw_at lw_m3 124 rfl) rfl
theorem q690 : (Jvm.Cond.privateMethod ({ cls := "PictureBlock$Reader", name := "opens", desc := "()V" } : Jvm.MethodName)) ∈ lw_tbl := lw_at lw_m3 125 rfl
theorem q691 : (Jvm.Cond.instanceMethod ({ cls := "PictureBlock$Reader", name := "opens", desc := "()V" } : Jvm.MethodName)) ∈ lw_all := lw_g (lw_at lw_m3 126 rfl) rfl
theorem q692 : (Jvm.Cond.code ({ cls := "PictureBlock$Reader", name := "opens", desc := "()V" } : Jvm.MethodName) prog_10_method_12_code (1 : Nat) (Option.none : Option Jvm.ClassFile.FieldType)) ∈ lw_all := lw_g (lw_at lw_m3 127 rfl) rfl
theorem q693 : (Jvm.Cond.methodLink "PictureBlock$Reader" (51 : Nat) ({ cls := "PictureBlock$Reader", name := "wrong", desc := "()LPictureBlock$Fault;" } : Jvm.MethodName)) ∈ lw_all := lw_g (lw_at lw_m3 128 rfl) rfl
theorem q694 : (Jvm.Cond.privateMethod ({ cls := "PictureBlock$Reader", name := "wrong", desc := "()LPictureBlock$Fault;" } : Jvm.MethodName)) ∈ lw_tbl := lw_at lw_m3 129 rfl
theorem q695 : (Jvm.Cond.instanceMethod ({ cls := "PictureBlock$Reader", name := "wrong", desc := "()LPictureBlock$Fault;" } : Jvm.MethodName)) ∈ lw_all := lw_g (lw_at lw_m3 130 rfl) rfl
theorem q696 : (Jvm.Cond.code ({ cls := "PictureBlock$Reader", name := "wrong", desc := "()LPictureBlock$Fault;" } : Jvm.MethodName) prog_10_method_5_code (1 : Nat) (Option.some (Jvm.ClassFile.FieldType.object "PictureBlock$Fault"))) ∈ lw_all := lw_g (lw_at lw_m3 131 rfl) rfl
theorem q697 : (Jvm.Cond.classLink "PictureBlock$Reader" (43 : Nat) "PictureBlock$Fault") ∈ lw_all := lw_g (lw_at lw_m3 132 rfl) rfl
theorem q737 : (Jvm.Cond.methodLink "PictureBlock$Reader" (45 : Nat) ({ cls := "PictureBlock$Fault", name := "<init>", desc := "(I)V" } : Jvm.MethodName)) ∈ lw_all := lw_g (lw_at lw_m3 172 rfl) rfl
theorem q763 : (Jvm.Cond.methodLink "PictureBlock$Reader" (62 : Nat) ({ cls := "PictureBlock$Text", name := "add", desc := "(II)V" } : Jvm.MethodName)) ∈ lw_all := lw_g (lw_at lw_m3 198 rfl) rfl
theorem q767 : (Jvm.Cond.methodLink "PictureBlock$Reader" (58 : Nat) ({ cls := "PictureBlock$Reader", name := "takes", desc := "(I)Z" } : Jvm.MethodName)) ∈ lw_all := lw_g (lw_at lw_m3 202 rfl) rfl
theorem q768 : (Jvm.Cond.privateMethod ({ cls := "PictureBlock$Reader", name := "takes", desc := "(I)Z" } : Jvm.MethodName)) ∈ lw_tbl := lw_at lw_m3 203 rfl
theorem q769 : (Jvm.Cond.instanceMethod ({ cls := "PictureBlock$Reader", name := "takes", desc := "(I)Z" } : Jvm.MethodName)) ∈ lw_all := lw_g (lw_at lw_m3 204 rfl) rfl
theorem q770 : (Jvm.Cond.code ({ cls := "PictureBlock$Reader", name := "takes", desc := "(I)Z" } : Jvm.MethodName) prog_10_method_3_code (3 : Nat) (Option.some Jvm.ClassFile.FieldType.boolean)) ∈ lw_all := lw_g (lw_at lw_m3 205 rfl) rfl
theorem q771 : (Jvm.Cond.methodLink "PictureBlock$Reader" (74 : Nat) ({ cls := "PictureBlock$Reader", name := "isOneOf", desc := "(Ljava/lang/String;)Z" } : Jvm.MethodName)) ∈ lw_all := lw_g (lw_at lw_m3 206 rfl) rfl
theorem q772 : (Jvm.Cond.privateMethod ({ cls := "PictureBlock$Reader", name := "isOneOf", desc := "(Ljava/lang/String;)Z" } : Jvm.MethodName)) ∈ lw_tbl := lw_at lw_m3 207 rfl
theorem q773 : (Jvm.Cond.instanceMethod ({ cls := "PictureBlock$Reader", name := "isOneOf", desc := "(Ljava/lang/String;)Z" } : Jvm.MethodName)) ∈ lw_all := lw_g (lw_at lw_m3 208 rfl) rfl
theorem q774 : (Jvm.Cond.code ({ cls := "PictureBlock$Reader", name := "isOneOf", desc := "(Ljava/lang/String;)Z" } : Jvm.MethodName) prog_10_method_4_code (2 : Nat) (Option.some Jvm.ClassFile.FieldType.boolean)) ∈ lw_all := lw_g (lw_at lw_m3 209 rfl) rfl
theorem q775 : (Jvm.Cond.methodLink "PictureBlock$Reader" (37 : Nat) ({ cls := "java/lang/String", name := "indexOf", desc := "(I)I" } : Jvm.MethodName)) ∈ lw_all := lw_g (lw_at lw_m3 210 rfl) rfl
theorem q857 : (Jvm.Cond.methodLink "PictureBlock$Reader" (94 : Nat) ({ cls := "PictureBlock$Reader", name := "number", desc := "()I" } : Jvm.MethodName)) ∈ lw_all := lw_g (lw_at lw_m4 52 rfl) rfl
theorem q858 : (Jvm.Cond.privateMethod ({ cls := "PictureBlock$Reader", name := "number", desc := "()I" } : Jvm.MethodName)) ∈ lw_tbl := lw_at lw_m4 53 rfl
theorem q859 : (Jvm.Cond.instanceMethod ({ cls := "PictureBlock$Reader", name := "number", desc := "()I" } : Jvm.MethodName)) ∈ lw_all := lw_g (lw_at lw_m4 54 rfl) rfl
theorem q860 : (Jvm.Cond.code ({ cls := "PictureBlock$Reader", name := "number", desc := "()I" } : Jvm.MethodName) prog_10_method_14_code (3 : Nat) (Option.some Jvm.ClassFile.FieldType.int)) ∈ lw_all := lw_g (lw_at lw_m4 55 rfl) rfl
theorem q861 : (Jvm.Cond.methodLinkNest "PictureBlock$Reader" (97 : Nat) ({ cls := "PictureBlock", name := "isIn", desc := "(III)Z" } : Jvm.MethodName) "PictureBlock") ∈ lw_tbl := lw_at lw_m4 56 rfl
theorem q862 : (Jvm.Cond.stringRef "PictureBlock$Reader" (86 : Nat) "*/%") ∈ lw_tbl := lw_at lw_m4 57 rfl
theorem q863 : (Jvm.Cond.stringRef "PictureBlock$Reader" (81 : Nat) "+-") ∈ lw_tbl := lw_at lw_m4 58 rfl
theorem q864 : (Jvm.Cond.stringRef "PictureBlock$Reader" (72 : Nat) "<=>") ∈ lw_tbl := lw_at lw_m4 59 rfl
theorem in_X12 : ∀ w ∈ wsX120, w ∈ lw_all := lw_in wsX120 [644, 646, 648, 650, 652, 654] (by decide +kernel) (by decide +kernel)

/-! PictureBlock$Text -/
set_option maxRecDepth 100000
def RX13 : String := "PictureBlock$Text"
def TX13 : u_T := fun k => match k with
  | 0 => ("PictureBlock$Text", "step", "[B", true)
  | 1 => ("PictureBlock$Text", "value", "[S", true)
  | _ => ("PictureBlock$Text", "many", "I", false)
def tyX13 : Nat → FieldType := fun k => match k with
  | 0 => .array .byte
  | 1 => .array .short
  | _ => .int
abbrev wsX130 : List Cond := u_ws RX13 TX13 3
theorem nmX13 : ∀ a, a < 3 → ∀ b, b < 3 → a ≠ b → (TX13 a).2.1 ≠ (TX13 b).2.1 := by decide +kernel
theorem tyX13_ok : ∀ k, k < 3 → parseFieldDescriptor (TX13 k).2.2.1 = some (tyX13 k) := by decide +kernel
abbrev cX13_init : ByteArray := prog_15_method_1_code
def yX13_init : MethodName := ⟨RX13, "<init>", "()V"⟩
def dkwX13_init_0 : List UInt8 := [42, 183, 0, 3, 42, 16, 60, 188, 8, 181, 0, 9, 42, 16, 60, 188, 9, 181, 0, 15, 177]
abbrev dktX13_init_0 : List UInt8 := dkwX13_init_0 ++ []
theorem dksX13_init_0 : cX13_init.data.toList.drop 0 = dktX13_init_0 := by decide +kernel
theorem dX13_init_0 : decode cX13_init 0 = .ok (.aload_n 0, 1) := dk_42 (dk_at dksX13_init_0 0 rfl rfl)
theorem dX13_init_1 : decode cX13_init 1 = .ok (.invokespecial 3, 3) := dk_183 0 3 (dk_at dksX13_init_0 1 rfl rfl)
theorem dX13_init_4 : decode cX13_init 4 = .ok (.aload_n 0, 1) := dk_42 (dk_at dksX13_init_0 4 rfl rfl)
theorem dX13_init_5 : decode cX13_init 5 = .ok (.bipush 60, 2) := dk_16 60 (dk_at dksX13_init_0 5 rfl rfl)
theorem dX13_init_7 : decode cX13_init 7 = .ok (.newarray .byte, 2) := dk_188_8 (dk_at dksX13_init_0 7 rfl rfl)
theorem dX13_init_9 : decode cX13_init 9 = .ok (.putfield 9, 3) := dk_181 0 9 (dk_at dksX13_init_0 9 rfl rfl)
theorem dX13_init_12 : decode cX13_init 12 = .ok (.aload_n 0, 1) := dk_42 (dk_at dksX13_init_0 12 rfl rfl)
theorem dX13_init_13 : decode cX13_init 13 = .ok (.bipush 60, 2) := dk_16 60 (dk_at dksX13_init_0 13 rfl rfl)
theorem dX13_init_15 : decode cX13_init 15 = .ok (.newarray .short, 2) := dk_188_9 (dk_at dksX13_init_0 15 rfl rfl)
theorem dX13_init_17 : decode cX13_init 17 = .ok (.putfield 15, 3) := dk_181 0 15 (dk_at dksX13_init_0 17 rfl rfl)
theorem dX13_init_20 : decode cX13_init 20 = .ok (.return_, 1) := dk_177 (dk_at dksX13_init_0 20 rfl rfl)
abbrev cX13_add : ByteArray := prog_15_method_2_code
def yX13_add : MethodName := ⟨RX13, "add", "(II)V"⟩
def dkwX13_add_1 : List UInt8 := [180, 0, 19, 4, 96, 181, 0, 19, 177]
abbrev dktX13_add_1 : List UInt8 := dkwX13_add_1 ++ []
def dkwX13_add_0 : List UInt8 := [42, 180, 0, 9, 42, 180, 0, 19, 27, 145, 84, 42, 180, 0, 15, 42, 180, 0, 19, 28, 147, 86, 42, 89]
abbrev dktX13_add_0 : List UInt8 := dkwX13_add_0 ++ dktX13_add_1
theorem dksX13_add_0 : cX13_add.data.toList.drop 0 = dktX13_add_0 := by decide +kernel
theorem dksX13_add_1 : cX13_add.data.toList.drop 24 = dktX13_add_1 := dk_seg dksX13_add_0 24 rfl rfl
theorem dX13_add_0 : decode cX13_add 0 = .ok (.aload_n 0, 1) := dk_42 (dk_at dksX13_add_0 0 rfl rfl)
theorem dX13_add_1 : decode cX13_add 1 = .ok (.getfield 9, 3) := dk_180 0 9 (dk_at dksX13_add_0 1 rfl rfl)
theorem dX13_add_4 : decode cX13_add 4 = .ok (.aload_n 0, 1) := dk_42 (dk_at dksX13_add_0 4 rfl rfl)
theorem dX13_add_5 : decode cX13_add 5 = .ok (.getfield 19, 3) := dk_180 0 19 (dk_at dksX13_add_0 5 rfl rfl)
theorem dX13_add_8 : decode cX13_add 8 = .ok (.iload_n 1, 1) := dk_27 (dk_at dksX13_add_0 8 rfl rfl)
theorem dX13_add_9 : decode cX13_add 9 = .ok (.i2b, 1) := dk_145 (dk_at dksX13_add_0 9 rfl rfl)
theorem dX13_add_10 : decode cX13_add 10 = .ok (.bastore, 1) := dk_84 (dk_at dksX13_add_0 10 rfl rfl)
theorem dX13_add_11 : decode cX13_add 11 = .ok (.aload_n 0, 1) := dk_42 (dk_at dksX13_add_0 11 rfl rfl)
theorem dX13_add_12 : decode cX13_add 12 = .ok (.getfield 15, 3) := dk_180 0 15 (dk_at dksX13_add_0 12 rfl rfl)
theorem dX13_add_15 : decode cX13_add 15 = .ok (.aload_n 0, 1) := dk_42 (dk_at dksX13_add_0 15 rfl rfl)
theorem dX13_add_16 : decode cX13_add 16 = .ok (.getfield 19, 3) := dk_180 0 19 (dk_at dksX13_add_0 16 rfl rfl)
theorem dX13_add_19 : decode cX13_add 19 = .ok (.iload_n 2, 1) := dk_28 (dk_at dksX13_add_0 19 rfl rfl)
theorem dX13_add_20 : decode cX13_add 20 = .ok (.i2s, 1) := dk_147 (dk_at dksX13_add_0 20 rfl rfl)
theorem dX13_add_21 : decode cX13_add 21 = .ok (.sastore, 1) := dk_86 (dk_at dksX13_add_0 21 rfl rfl)
theorem dX13_add_22 : decode cX13_add 22 = .ok (.aload_n 0, 1) := dk_42 (dk_at dksX13_add_0 22 rfl rfl)
theorem dX13_add_23 : decode cX13_add 23 = .ok (.dup, 1) := dk_89 (dk_at dksX13_add_0 23 rfl rfl)
theorem dX13_add_24 : decode cX13_add 24 = .ok (.getfield 19, 3) := dk_180 0 19 (dk_at dksX13_add_1 0 rfl rfl)
theorem dX13_add_27 : decode cX13_add 27 = .ok (.iconst 1, 1) := dk_4 (dk_at dksX13_add_1 3 rfl rfl)
theorem dX13_add_28 : decode cX13_add 28 = .ok (.iadd, 1) := dk_96 (dk_at dksX13_add_1 4 rfl rfl)
theorem dX13_add_29 : decode cX13_add 29 = .ok (.putfield 19, 3) := dk_181 0 19 (dk_at dksX13_add_1 5 rfl rfl)
theorem dX13_add_32 : decode cX13_add 32 = .ok (.return_, 1) := dk_177 (dk_at dksX13_add_1 8 rfl rfl)
theorem q100 : (Jvm.Cond.initialized "PictureBlock$Text") ∈ lw_all := lw_g (lw_at lw_m1 15 rfl) rfl
theorem q619 : (Jvm.Cond.instantiable "PictureBlock$Text" (3 : Nat)) ∈ lw_all := lw_g (lw_at lw_m3 54 rfl) rfl
theorem q621 : (Jvm.Cond.instanceMethod ({ cls := "PictureBlock$Text", name := "<init>", desc := "()V" } : Jvm.MethodName)) ∈ lw_all := lw_g (lw_at lw_m3 56 rfl) rfl
theorem q622 : (Jvm.Cond.code ({ cls := "PictureBlock$Text", name := "<init>", desc := "()V" } : Jvm.MethodName) prog_15_method_1_code (1 : Nat) (Option.none : Option Jvm.ClassFile.FieldType)) ∈ lw_all := lw_g (lw_at lw_m3 57 rfl) rfl
theorem q623 : (Jvm.Cond.methodLink "PictureBlock$Text" (3 : Nat) ({ cls := "java/lang/Object", name := "<init>", desc := "()V" } : Jvm.MethodName)) ∈ lw_all := lw_g (lw_at lw_m3 58 rfl) rfl
theorem q624 : (Jvm.Cond.fieldLink "PictureBlock$Text" (9 : Nat) "PictureBlock$Text" "step" "[B") ∈ lw_all := lw_g (lw_at lw_m3 59 rfl) rfl
theorem q626 : (Jvm.Cond.fieldLink "PictureBlock$Text" (15 : Nat) "PictureBlock$Text" "value" "[S") ∈ lw_all := lw_g (lw_at lw_m3 61 rfl) rfl
theorem q628 : (Jvm.Cond.fieldLink "PictureBlock$Text" (19 : Nat) "PictureBlock$Text" "many" "I") ∈ lw_all := lw_g (lw_at lw_m3 63 rfl) rfl
theorem q630 : (Jvm.Cond.laysFinal "PictureBlock$Text" "PictureBlock$Text" "step" "[B") ∈ lw_all := lw_g (lw_at lw_m3 65 rfl) rfl
theorem q631 : (Jvm.Cond.soleField "PictureBlock$Text" "step") ∈ lw_all := lw_g (lw_at lw_m3 66 rfl) rfl
theorem q632 : (Jvm.Cond.laysFinal "PictureBlock$Text" "PictureBlock$Text" "value" "[S") ∈ lw_all := lw_g (lw_at lw_m3 67 rfl) rfl
theorem q633 : (Jvm.Cond.soleField "PictureBlock$Text" "value") ∈ lw_all := lw_g (lw_at lw_m3 68 rfl) rfl
theorem q634 : (Jvm.Cond.lays "PictureBlock$Text" "PictureBlock$Text" "many" "I") ∈ lw_all := lw_g (lw_at lw_m3 69 rfl) rfl
theorem q635 : (Jvm.Cond.soleField "PictureBlock$Text" "many") ∈ lw_all := lw_g (lw_at lw_m3 70 rfl) rfl
theorem q636 : (Jvm.Cond.superclass "PictureBlock$Text" "java/lang/Object") ∈ lw_all := lw_g (lw_at lw_m3 71 rfl) rfl
theorem q764 : (Jvm.Cond.instanceMethod ({ cls := "PictureBlock$Text", name := "add", desc := "(II)V" } : Jvm.MethodName)) ∈ lw_all := lw_g (lw_at lw_m3 199 rfl) rfl
theorem q765 : (Jvm.Cond.selects "PictureBlock$Text" ({ cls := "PictureBlock$Text", name := "add", desc := "(II)V" } : Jvm.MethodName) ({ cls := "PictureBlock$Text", name := "add", desc := "(II)V" } : Jvm.MethodName)) ∈ lw_all := lw_g (lw_at lw_m3 200 rfl) rfl
theorem q766 : (Jvm.Cond.code ({ cls := "PictureBlock$Text", name := "add", desc := "(II)V" } : Jvm.MethodName) prog_15_method_2_code (3 : Nat) (Option.none : Option Jvm.ClassFile.FieldType)) ∈ lw_all := lw_g (lw_at lw_m3 201 rfl) rfl
theorem in_X13 : ∀ w ∈ wsX130, w ∈ lw_all := lw_in wsX130 [630, 632, 634] (by decide +kernel) (by decide +kernel)

/-! PictureBlock$Fault -/
set_option maxRecDepth 100000
def RX14 : String := "PictureBlock$Fault"
def TX14 : u_T := fun k => match k with
  | 0 => ("java/lang/Throwable", "cause", "Ljava/lang/Throwable;", false)
  | 1 => ("java/lang/Throwable", "stackTrace", "[Ljava/lang/StackTraceElement;", false)
  | 2 => ("java/lang/Throwable", "suppressedExceptions", "Ljava/util/List;", false)
  | 3 => ("java/lang/Throwable", "detailMessage", "Ljava/lang/String;", false)
  | 4 => ("java/lang/Throwable", "backtrace", "Ljava/lang/Object;", false)
  | 5 => ("java/lang/Throwable", "depth", "I", false)
  | _ => ("PictureBlock$Fault", "place", "I", true)
def tyX14 : Nat → FieldType := fun k => match k with
  | 0 => .object "java/lang/Throwable"
  | 1 => .array (.object "java/lang/StackTraceElement")
  | 2 => .object "java/util/List"
  | 3 => .object "java/lang/String"
  | 4 => .object "java/lang/Object"
  | 5 => .int
  | _ => .int
abbrev wsX140 : List Cond := u_ws RX14 TX14 7
theorem nmX14 : ∀ a, a < 7 → ∀ b, b < 7 → a ≠ b → (TX14 a).2.1 ≠ (TX14 b).2.1 := by decide +kernel
theorem tyX14_ok : ∀ k, k < 7 → parseFieldDescriptor (TX14 k).2.2.1 = some (tyX14 k) := by decide +kernel
abbrev cX14_init : ByteArray := prog_5_method_1_code
def yX14_init : MethodName := ⟨RX14, "<init>", "(I)V"⟩
def dkwX14_init_0 : List UInt8 := [42, 1, 1, 3, 3, 183, 0, 1, 42, 27, 181, 0, 7, 177]
abbrev dktX14_init_0 : List UInt8 := dkwX14_init_0 ++ []
theorem dksX14_init_0 : cX14_init.data.toList.drop 0 = dktX14_init_0 := by decide +kernel
theorem dX14_init_0 : decode cX14_init 0 = .ok (.aload_n 0, 1) := dk_42 (dk_at dksX14_init_0 0 rfl rfl)
theorem dX14_init_1 : decode cX14_init 1 = .ok (.aconst_null, 1) := dk_1 (dk_at dksX14_init_0 1 rfl rfl)
theorem dX14_init_2 : decode cX14_init 2 = .ok (.aconst_null, 1) := dk_1 (dk_at dksX14_init_0 2 rfl rfl)
theorem dX14_init_3 : decode cX14_init 3 = .ok (.iconst 0, 1) := dk_3 (dk_at dksX14_init_0 3 rfl rfl)
theorem dX14_init_4 : decode cX14_init 4 = .ok (.iconst 0, 1) := dk_3 (dk_at dksX14_init_0 4 rfl rfl)
theorem dX14_init_5 : decode cX14_init 5 = .ok (.invokespecial 1, 3) := dk_183 0 1 (dk_at dksX14_init_0 5 rfl rfl)
theorem dX14_init_8 : decode cX14_init 8 = .ok (.aload_n 0, 1) := dk_42 (dk_at dksX14_init_0 8 rfl rfl)
theorem dX14_init_9 : decode cX14_init 9 = .ok (.iload_n 1, 1) := dk_27 (dk_at dksX14_init_0 9 rfl rfl)
theorem dX14_init_10 : decode cX14_init 10 = .ok (.putfield 7, 3) := dk_181 0 7 (dk_at dksX14_init_0 10 rfl rfl)
theorem dX14_init_13 : decode cX14_init 13 = .ok (.return_, 1) := dk_177 (dk_at dksX14_init_0 13 rfl rfl)
theorem q103 : (Jvm.Cond.initialized "PictureBlock$Fault") ∈ lw_all := lw_g (lw_at lw_m1 18 rfl) rfl
theorem q698 : (Jvm.Cond.instantiable "PictureBlock$Fault" (7 : Nat)) ∈ lw_all := lw_g (lw_at lw_m3 133 rfl) rfl
theorem q699 : (Jvm.Cond.castable "PictureBlock$Fault" "PictureBlock$Fault") ∈ lw_tbl := lw_at lw_m3 134 rfl
theorem q704 : (Jvm.Cond.selects "PictureBlock$Fault" ({ cls := "java/lang/Throwable", name := "fillInStackTrace", desc := "(I)Ljava/lang/Throwable;" } : Jvm.MethodName) ({ cls := "java/lang/Throwable", name := "fillInStackTrace", desc := "(I)Ljava/lang/Throwable;" } : Jvm.MethodName)) ∈ lw_all := lw_g (lw_at lw_m3 139 rfl) rfl
theorem q705 : (Jvm.Cond.selects "PictureBlock$Fault" ({ cls := "java/lang/Throwable", name := "fillInStackTrace", desc := "()Ljava/lang/Throwable;" } : Jvm.MethodName) ({ cls := "java/lang/Throwable", name := "fillInStackTrace", desc := "()Ljava/lang/Throwable;" } : Jvm.MethodName)) ∈ lw_all := lw_g (lw_at lw_m3 140 rfl) rfl
theorem q706 : (Jvm.Cond.lays "PictureBlock$Fault" "java/lang/Throwable" "cause" "Ljava/lang/Throwable;") ∈ lw_all := lw_g (lw_at lw_m3 141 rfl) rfl
theorem q708 : (Jvm.Cond.lays "PictureBlock$Fault" "java/lang/Throwable" "stackTrace" "[Ljava/lang/StackTraceElement;") ∈ lw_all := lw_g (lw_at lw_m3 143 rfl) rfl
theorem q710 : (Jvm.Cond.lays "PictureBlock$Fault" "java/lang/Throwable" "suppressedExceptions" "Ljava/util/List;") ∈ lw_all := lw_g (lw_at lw_m3 145 rfl) rfl
theorem q712 : (Jvm.Cond.lays "PictureBlock$Fault" "java/lang/Throwable" "detailMessage" "Ljava/lang/String;") ∈ lw_all := lw_g (lw_at lw_m3 147 rfl) rfl
theorem q714 : (Jvm.Cond.lays "PictureBlock$Fault" "java/lang/Throwable" "backtrace" "Ljava/lang/Object;") ∈ lw_all := lw_g (lw_at lw_m3 149 rfl) rfl
theorem q738 : (Jvm.Cond.instanceMethod ({ cls := "PictureBlock$Fault", name := "<init>", desc := "(I)V" } : Jvm.MethodName)) ∈ lw_all := lw_g (lw_at lw_m3 173 rfl) rfl
theorem q739 : (Jvm.Cond.code ({ cls := "PictureBlock$Fault", name := "<init>", desc := "(I)V" } : Jvm.MethodName) prog_5_method_1_code (2 : Nat) (Option.none : Option Jvm.ClassFile.FieldType)) ∈ lw_all := lw_g (lw_at lw_m3 174 rfl) rfl
theorem q740 : (Jvm.Cond.methodLink "PictureBlock$Fault" (1 : Nat) ({ cls := "java/lang/Exception", name := "<init>", desc := "(Ljava/lang/String;Ljava/lang/Throwable;ZZ)V" } : Jvm.MethodName)) ∈ lw_all := lw_g (lw_at lw_m3 175 rfl) rfl
theorem q746 : (Jvm.Cond.fieldLink "PictureBlock$Fault" (7 : Nat) "PictureBlock$Fault" "place" "I") ∈ lw_all := lw_g (lw_at lw_m3 181 rfl) rfl
theorem q753 : (Jvm.Cond.laysFinal "PictureBlock$Fault" "PictureBlock$Fault" "place" "I") ∈ lw_all := lw_g (lw_at lw_m3 188 rfl) rfl
theorem q754 : (Jvm.Cond.soleField "PictureBlock$Fault" "place") ∈ lw_all := lw_g (lw_at lw_m3 189 rfl) rfl
theorem q759 : (Jvm.Cond.lays "PictureBlock$Fault" "java/lang/Throwable" "depth" "I") ∈ lw_all := lw_g (lw_at lw_m3 194 rfl) rfl
theorem q762 : (Jvm.Cond.superclass "PictureBlock$Fault" "java/lang/Exception") ∈ lw_all := lw_g (lw_at lw_m3 197 rfl) rfl
theorem in_X14 : ∀ w ∈ wsX140, w ∈ lw_all := lw_in wsX140 [706, 708, 710, 712, 714, 759, 753] (by decide +kernel) (by decide +kernel)

/-! PictureBlock$Weighs -/
set_option maxRecDepth 100000
def RX15 : String := "PictureBlock$Weighs"
abbrev cX15_says : ByteArray := prog_17_method_2_code
def yX15_says : MethodName := ⟨RX15, "says", "(ILPictureBlock$Trace;)I"⟩
def dkwX15_says_0 : List UInt8 := [44, 16, 11, 182, 0, 1, 42, 27, 44, 185, 0, 7, 3, 0, 5, 104, 172]
abbrev dktX15_says_0 : List UInt8 := dkwX15_says_0 ++ []
theorem dksX15_says_0 : cX15_says.data.toList.drop 0 = dktX15_says_0 := by decide +kernel
theorem dX15_says_0 : decode cX15_says 0 = .ok (.aload_n 2, 1) := dk_44 (dk_at dksX15_says_0 0 rfl rfl)
theorem dX15_says_1 : decode cX15_says 1 = .ok (.bipush 11, 2) := dk_16 11 (dk_at dksX15_says_0 1 rfl rfl)
theorem dX15_says_3 : decode cX15_says 3 = .ok (.invokevirtual 1, 3) := dk_182 0 1 (dk_at dksX15_says_0 3 rfl rfl)
theorem dX15_says_6 : decode cX15_says 6 = .ok (.aload_n 0, 1) := dk_42 (dk_at dksX15_says_0 6 rfl rfl)
theorem dX15_says_7 : decode cX15_says 7 = .ok (.iload_n 1, 1) := dk_27 (dk_at dksX15_says_0 7 rfl rfl)
theorem dX15_says_8 : decode cX15_says 8 = .ok (.aload_n 2, 1) := dk_44 (dk_at dksX15_says_0 8 rfl rfl)
theorem dX15_says_9 : decode cX15_says 9 = .ok (.invokeinterface 7 3, 5) := by decide +kernel
theorem dX15_says_14 : decode cX15_says 14 = .ok (.iconst 2, 1) := dk_5 (dk_at dksX15_says_0 14 rfl rfl)
theorem dX15_says_15 : decode cX15_says 15 = .ok (.imul, 1) := dk_104 (dk_at dksX15_says_0 15 rfl rfl)
theorem dX15_says_16 : decode cX15_says 16 = .ok (.ireturn, 1) := dk_172 (dk_at dksX15_says_0 16 rfl rfl)
theorem q1082 : (Jvm.Cond.declares ({ cls := "PictureBlock$Weighs", name := "says", desc := "(ILPictureBlock$Trace;)I" } : Jvm.MethodName)) ∈ lw_tbl := lw_at lw_m5 37 rfl
theorem q1092 : (Jvm.Cond.instanceMethod ({ cls := "PictureBlock$Weighs", name := "says", desc := "(ILPictureBlock$Trace;)I" } : Jvm.MethodName)) ∈ lw_all := lw_g (lw_at lw_m5 47 rfl) rfl
theorem q1093 : (Jvm.Cond.code ({ cls := "PictureBlock$Weighs", name := "says", desc := "(ILPictureBlock$Trace;)I" } : Jvm.MethodName) prog_17_method_2_code (3 : Nat) (Option.some Jvm.ClassFile.FieldType.int)) ∈ lw_all := lw_g (lw_at lw_m5 48 rfl) rfl
theorem q1094 : (Jvm.Cond.methodLink "PictureBlock$Weighs" (1 : Nat) ({ cls := "PictureBlock$Trace", name := "ran", desc := "(I)V" } : Jvm.MethodName)) ∈ lw_all := lw_g (lw_at lw_m5 49 rfl) rfl
theorem q1095 : (Jvm.Cond.interfaceEntry "PictureBlock$Weighs" (7 : Nat)) ∈ lw_tbl := lw_at lw_m5 50 rfl
theorem q1096 : (Jvm.Cond.methodLink "PictureBlock$Weighs" (7 : Nat) ({ cls := "PictureBlock$Weighs", name := "weighs", desc := "(ILPictureBlock$Trace;)I" } : Jvm.MethodName)) ∈ lw_all := lw_g (lw_at lw_m5 51 rfl) rfl
theorem q1097 : (Jvm.Cond.interfaceMethod "PictureBlock$Weighs" "PictureBlock$Weighs" "weighs" "(ILPictureBlock$Trace;)I") ∈ lw_tbl := lw_at lw_m5 52 rfl
theorem q1098 : (Jvm.Cond.declares ({ cls := "PictureBlock$Weighs", name := "weighs", desc := "(ILPictureBlock$Trace;)I" } : Jvm.MethodName)) ∈ lw_tbl := lw_at lw_m5 53 rfl
theorem q1131 : (Jvm.Cond.publicMethod ({ cls := "PictureBlock$Weighs", name := "says", desc := "(ILPictureBlock$Trace;)I" } : Jvm.MethodName)) ∈ lw_tbl := lw_at lw_m5 86 rfl

/-! PictureBlock$Slot -/
set_option maxRecDepth 100000
def RX2 : String := "PictureBlock$Slot"
def TX2 : u_T := fun k => match k with
  | _ => ("PictureBlock$Slot", "held", "Ljava/lang/Object;", false)
def tyX2 : Nat → FieldType := fun k => match k with
  | _ => .object "java/lang/Object"
abbrev wsX20 : List Cond := u_ws RX2 TX2 1
theorem nmX2 : ∀ a, a < 1 → ∀ b, b < 1 → a ≠ b → (TX2 a).2.1 ≠ (TX2 b).2.1 := by decide +kernel
theorem tyX2_ok : ∀ k, k < 1 → parseFieldDescriptor (TX2 k).2.2.1 = some (tyX2 k) := by decide +kernel
abbrev cX2_init : ByteArray := prog_13_method_1_code
def yX2_init : MethodName := ⟨RX2, "<init>", "()V"⟩
theorem dX2_init_0 : decode cX2_init 0 = .ok (.aload_n 0, 1) := by decide +kernel
theorem dX2_init_1 : decode cX2_init 1 = .ok (.invokespecial 1, 3) := by decide +kernel
theorem dX2_init_4 : decode cX2_init 4 = .ok (.return_, 1) := by decide +kernel
theorem q88 : (Jvm.Cond.initialized "PictureBlock$Slot") ∈ lw_all := lw_g (lw_at lw_m1 3 rfl) rfl
theorem q133 : (Jvm.Cond.instantiable "PictureBlock$Slot" (1 : Nat)) ∈ lw_all := lw_g (lw_at lw_m1 48 rfl) rfl
theorem q135 : (Jvm.Cond.instanceMethod ({ cls := "PictureBlock$Slot", name := "<init>", desc := "()V" } : Jvm.MethodName)) ∈ lw_all := lw_g (lw_at lw_m1 50 rfl) rfl
theorem q136 : (Jvm.Cond.code ({ cls := "PictureBlock$Slot", name := "<init>", desc := "()V" } : Jvm.MethodName) prog_13_method_1_code (1 : Nat) (Option.none : Option Jvm.ClassFile.FieldType)) ∈ lw_all := lw_g (lw_at lw_m1 51 rfl) rfl
theorem q137 : (Jvm.Cond.methodLink "PictureBlock$Slot" (1 : Nat) ({ cls := "java/lang/Object", name := "<init>", desc := "()V" } : Jvm.MethodName)) ∈ lw_all := lw_g (lw_at lw_m1 52 rfl) rfl
theorem q140 : (Jvm.Cond.lays "PictureBlock$Slot" "PictureBlock$Slot" "held" "Ljava/lang/Object;") ∈ lw_all := lw_g (lw_at lw_m1 55 rfl) rfl
theorem q141 : (Jvm.Cond.soleField "PictureBlock$Slot" "held") ∈ lw_all := lw_g (lw_at lw_m1 56 rfl) rfl
theorem q142 : (Jvm.Cond.superclass "PictureBlock$Slot" "java/lang/Object") ∈ lw_all := lw_g (lw_at lw_m1 57 rfl) rfl
theorem in_X2 : ∀ w ∈ wsX20, w ∈ lw_all := lw_in wsX20 [140] (by decide +kernel) (by decide +kernel)

/-! PictureBlock$Trace -/
set_option maxRecDepth 100000
def RX3 : String := "PictureBlock$Trace"
def TX3 : u_T := fun k => match k with
  | 0 => ("PictureBlock$Trace", "bodies", "[B", true)
  | _ => ("PictureBlock$Trace", "many", "I", false)
def tyX3 : Nat → FieldType := fun k => match k with
  | 0 => .array .byte
  | _ => .int
abbrev wsX30 : List Cond := u_ws RX3 TX3 2
theorem nmX3 : ∀ a, a < 2 → ∀ b, b < 2 → a ≠ b → (TX3 a).2.1 ≠ (TX3 b).2.1 := by decide +kernel
theorem tyX3_ok : ∀ k, k < 2 → parseFieldDescriptor (TX3 k).2.2.1 = some (tyX3 k) := by decide +kernel
abbrev cX3_init : ByteArray := prog_16_method_1_code
def yX3_init : MethodName := ⟨RX3, "<init>", "()V"⟩
def dkwX3_init_0 : List UInt8 := [42, 183, 0, 3, 42, 16, 30, 188, 8, 181, 0, 9, 177]
abbrev dktX3_init_0 : List UInt8 := dkwX3_init_0 ++ []
theorem dksX3_init_0 : cX3_init.data.toList.drop 0 = dktX3_init_0 := by decide +kernel
theorem dX3_init_0 : decode cX3_init 0 = .ok (.aload_n 0, 1) := dk_42 (dk_at dksX3_init_0 0 rfl rfl)
theorem dX3_init_1 : decode cX3_init 1 = .ok (.invokespecial 3, 3) := dk_183 0 3 (dk_at dksX3_init_0 1 rfl rfl)
theorem dX3_init_4 : decode cX3_init 4 = .ok (.aload_n 0, 1) := dk_42 (dk_at dksX3_init_0 4 rfl rfl)
theorem dX3_init_5 : decode cX3_init 5 = .ok (.bipush 30, 2) := dk_16 30 (dk_at dksX3_init_0 5 rfl rfl)
theorem dX3_init_7 : decode cX3_init 7 = .ok (.newarray .byte, 2) := dk_188_8 (dk_at dksX3_init_0 7 rfl rfl)
theorem dX3_init_9 : decode cX3_init 9 = .ok (.putfield 9, 3) := dk_181 0 9 (dk_at dksX3_init_0 9 rfl rfl)
theorem dX3_init_12 : decode cX3_init 12 = .ok (.return_, 1) := dk_177 (dk_at dksX3_init_0 12 rfl rfl)
abbrev cX3_ran : ByteArray := prog_16_method_2_code
def yX3_ran : MethodName := ⟨RX3, "ran", "(I)V"⟩
def dkwX3_ran_1 : List UInt8 := [27, 145, 84, 177]
abbrev dktX3_ran_1 : List UInt8 := dkwX3_ran_1 ++ []
def dkwX3_ran_0 : List UInt8 := [42, 180, 0, 15, 16, 30, 162, 0, 21, 42, 180, 0, 9, 42, 89, 180, 0, 15, 90, 4, 96, 181, 0, 15]
abbrev dktX3_ran_0 : List UInt8 := dkwX3_ran_0 ++ dktX3_ran_1
theorem dksX3_ran_0 : cX3_ran.data.toList.drop 0 = dktX3_ran_0 := by decide +kernel
theorem dksX3_ran_1 : cX3_ran.data.toList.drop 24 = dktX3_ran_1 := dk_seg dksX3_ran_0 24 rfl rfl
theorem dX3_ran_0 : decode cX3_ran 0 = .ok (.aload_n 0, 1) := dk_42 (dk_at dksX3_ran_0 0 rfl rfl)
theorem dX3_ran_1 : decode cX3_ran 1 = .ok (.getfield 15, 3) := dk_180 0 15 (dk_at dksX3_ran_0 1 rfl rfl)
theorem dX3_ran_4 : decode cX3_ran 4 = .ok (.bipush 30, 2) := dk_16 30 (dk_at dksX3_ran_0 4 rfl rfl)
theorem dX3_ran_6 : decode cX3_ran 6 = .ok (.if_icmp .ge 21, 3) := dk_162 0 21 (dk_at dksX3_ran_0 6 rfl rfl)
theorem dX3_ran_9 : decode cX3_ran 9 = .ok (.aload_n 0, 1) := dk_42 (dk_at dksX3_ran_0 9 rfl rfl)
theorem dX3_ran_10 : decode cX3_ran 10 = .ok (.getfield 9, 3) := dk_180 0 9 (dk_at dksX3_ran_0 10 rfl rfl)
theorem dX3_ran_13 : decode cX3_ran 13 = .ok (.aload_n 0, 1) := dk_42 (dk_at dksX3_ran_0 13 rfl rfl)
theorem dX3_ran_14 : decode cX3_ran 14 = .ok (.dup, 1) := dk_89 (dk_at dksX3_ran_0 14 rfl rfl)
theorem dX3_ran_15 : decode cX3_ran 15 = .ok (.getfield 15, 3) := dk_180 0 15 (dk_at dksX3_ran_0 15 rfl rfl)
theorem dX3_ran_18 : decode cX3_ran 18 = .ok (.dup_x1, 1) := dk_90 (dk_at dksX3_ran_0 18 rfl rfl)
theorem dX3_ran_19 : decode cX3_ran 19 = .ok (.iconst 1, 1) := dk_4 (dk_at dksX3_ran_0 19 rfl rfl)
theorem dX3_ran_20 : decode cX3_ran 20 = .ok (.iadd, 1) := dk_96 (dk_at dksX3_ran_0 20 rfl rfl)
theorem dX3_ran_21 : decode cX3_ran 21 = .ok (.putfield 15, 3) := dk_181 0 15 (dk_at dksX3_ran_0 21 rfl rfl)
theorem dX3_ran_24 : decode cX3_ran 24 = .ok (.iload_n 1, 1) := dk_27 (dk_at dksX3_ran_1 0 rfl rfl)
theorem dX3_ran_25 : decode cX3_ran 25 = .ok (.i2b, 1) := dk_145 (dk_at dksX3_ran_1 1 rfl rfl)
theorem dX3_ran_26 : decode cX3_ran 26 = .ok (.bastore, 1) := dk_84 (dk_at dksX3_ran_1 2 rfl rfl)
theorem dX3_ran_27 : decode cX3_ran 27 = .ok (.return_, 1) := dk_177 (dk_at dksX3_ran_1 3 rfl rfl)
theorem q89 : (Jvm.Cond.initialized "PictureBlock$Trace") ∈ lw_all := lw_g (lw_at lw_m1 4 rfl) rfl
theorem q211 : (Jvm.Cond.instantiable "PictureBlock$Trace" (2 : Nat)) ∈ lw_all := lw_g (lw_at lw_m1 126 rfl) rfl
theorem q213 : (Jvm.Cond.instanceMethod ({ cls := "PictureBlock$Trace", name := "<init>", desc := "()V" } : Jvm.MethodName)) ∈ lw_all := lw_g (lw_at lw_m1 128 rfl) rfl
theorem q214 : (Jvm.Cond.code ({ cls := "PictureBlock$Trace", name := "<init>", desc := "()V" } : Jvm.MethodName) prog_16_method_1_code (1 : Nat) (Option.none : Option Jvm.ClassFile.FieldType)) ∈ lw_all := lw_g (lw_at lw_m1 129 rfl) rfl
theorem q215 : (Jvm.Cond.methodLink "PictureBlock$Trace" (3 : Nat) ({ cls := "java/lang/Object", name := "<init>", desc := "()V" } : Jvm.MethodName)) ∈ lw_all := lw_g (lw_at lw_m1 130 rfl) rfl
theorem q216 : (Jvm.Cond.fieldLink "PictureBlock$Trace" (9 : Nat) "PictureBlock$Trace" "bodies" "[B") ∈ lw_all := lw_g (lw_at lw_m1 131 rfl) rfl
theorem q218 : (Jvm.Cond.fieldLink "PictureBlock$Trace" (15 : Nat) "PictureBlock$Trace" "many" "I") ∈ lw_all := lw_g (lw_at lw_m1 133 rfl) rfl
theorem q220 : (Jvm.Cond.laysFinal "PictureBlock$Trace" "PictureBlock$Trace" "bodies" "[B") ∈ lw_all := lw_g (lw_at lw_m1 135 rfl) rfl
theorem q221 : (Jvm.Cond.soleField "PictureBlock$Trace" "bodies") ∈ lw_all := lw_g (lw_at lw_m1 136 rfl) rfl
theorem q222 : (Jvm.Cond.lays "PictureBlock$Trace" "PictureBlock$Trace" "many" "I") ∈ lw_all := lw_g (lw_at lw_m1 137 rfl) rfl
theorem q223 : (Jvm.Cond.soleField "PictureBlock$Trace" "many") ∈ lw_all := lw_g (lw_at lw_m1 138 rfl) rfl
theorem q224 : (Jvm.Cond.superclass "PictureBlock$Trace" "java/lang/Object") ∈ lw_all := lw_g (lw_at lw_m1 139 rfl) rfl
theorem q1064 : (Jvm.Cond.instanceMethod ({ cls := "PictureBlock$Trace", name := "ran", desc := "(I)V" } : Jvm.MethodName)) ∈ lw_all := lw_g (lw_at lw_m5 19 rfl) rfl
theorem q1065 : (Jvm.Cond.selects "PictureBlock$Trace" ({ cls := "PictureBlock$Trace", name := "ran", desc := "(I)V" } : Jvm.MethodName) ({ cls := "PictureBlock$Trace", name := "ran", desc := "(I)V" } : Jvm.MethodName)) ∈ lw_all := lw_g (lw_at lw_m5 20 rfl) rfl
theorem q1066 : (Jvm.Cond.code ({ cls := "PictureBlock$Trace", name := "ran", desc := "(I)V" } : Jvm.MethodName) prog_16_method_2_code (2 : Nat) (Option.none : Option Jvm.ClassFile.FieldType)) ∈ lw_all := lw_g (lw_at lw_m5 21 rfl) rfl
theorem in_X3 : ∀ w ∈ wsX30, w ∈ lw_all := lw_in wsX30 [220, 222] (by decide +kernel) (by decide +kernel)

/-! PictureBlock$Mark -/
set_option maxRecDepth 100000
def RX5 : String := "PictureBlock$Mark"
def TX5 : u_T := fun k => match k with
  | 0 => ("PictureBlock$Mark", "number", "I", true)
  | _ => ("PictureBlock$Mark", "m", "I", true)
def tyX5 : Nat → FieldType := fun k => match k with
  | 0 => .int
  | _ => .int
abbrev wsX50 : List Cond := u_ws RX5 TX5 2
theorem nmX5 : ∀ a, a < 2 → ∀ b, b < 2 → a ≠ b → (TX5 a).2.1 ≠ (TX5 b).2.1 := by decide +kernel
theorem tyX5_ok : ∀ k, k < 2 → parseFieldDescriptor (TX5 k).2.2.1 = some (tyX5 k) := by decide +kernel
abbrev cX5_init : ByteArray := prog_8_method_1_code
def yX5_init : MethodName := ⟨RX5, "<init>", "(II)V"⟩
def dkwX5_init_0 : List UInt8 := [42, 183, 0, 1, 42, 27, 181, 0, 7, 42, 28, 181, 0, 13, 177]
abbrev dktX5_init_0 : List UInt8 := dkwX5_init_0 ++ []
theorem dksX5_init_0 : cX5_init.data.toList.drop 0 = dktX5_init_0 := by decide +kernel
theorem dX5_init_0 : decode cX5_init 0 = .ok (.aload_n 0, 1) := dk_42 (dk_at dksX5_init_0 0 rfl rfl)
theorem dX5_init_1 : decode cX5_init 1 = .ok (.invokespecial 1, 3) := dk_183 0 1 (dk_at dksX5_init_0 1 rfl rfl)
theorem dX5_init_4 : decode cX5_init 4 = .ok (.aload_n 0, 1) := dk_42 (dk_at dksX5_init_0 4 rfl rfl)
theorem dX5_init_5 : decode cX5_init 5 = .ok (.iload_n 1, 1) := dk_27 (dk_at dksX5_init_0 5 rfl rfl)
theorem dX5_init_6 : decode cX5_init 6 = .ok (.putfield 7, 3) := dk_181 0 7 (dk_at dksX5_init_0 6 rfl rfl)
theorem dX5_init_9 : decode cX5_init 9 = .ok (.aload_n 0, 1) := dk_42 (dk_at dksX5_init_0 9 rfl rfl)
theorem dX5_init_10 : decode cX5_init 10 = .ok (.iload_n 2, 1) := dk_28 (dk_at dksX5_init_0 10 rfl rfl)
theorem dX5_init_11 : decode cX5_init 11 = .ok (.putfield 13, 3) := dk_181 0 13 (dk_at dksX5_init_0 11 rfl rfl)
theorem dX5_init_14 : decode cX5_init 14 = .ok (.return_, 1) := dk_177 (dk_at dksX5_init_0 14 rfl rfl)
abbrev cX5_kind : ByteArray := prog_8_method_2_code
def yX5_kind : MethodName := ⟨RX5, "kind", "()I"⟩
theorem dX5_kind_0 : decode cX5_kind 0 = .ok (.iconst 0, 1) := by decide +kernel
theorem dX5_kind_1 : decode cX5_kind 1 = .ok (.ireturn, 1) := by decide +kernel
abbrev cX5_weight : ByteArray := prog_8_method_3_code
def yX5_weight : MethodName := ⟨RX5, "weight", "(LPictureBlock$Block;)I"⟩
theorem dX5_weight_0 : decode cX5_weight 0 = .ok (.iconst 2, 1) := by decide +kernel
theorem dX5_weight_1 : decode cX5_weight 1 = .ok (.ireturn, 1) := by decide +kernel
abbrev cX5_value : ByteArray := prog_8_method_4_code
def yX5_value : MethodName := ⟨RX5, "value", "(LPictureBlock$Block;)I"⟩
def dkwX5_value_0 : List UInt8 := [43, 42, 180, 0, 7, 185, 0, 16, 2, 0, 172]
abbrev dktX5_value_0 : List UInt8 := dkwX5_value_0 ++ []
theorem dksX5_value_0 : cX5_value.data.toList.drop 0 = dktX5_value_0 := by decide +kernel
theorem dX5_value_0 : decode cX5_value 0 = .ok (.aload_n 1, 1) := dk_43 (dk_at dksX5_value_0 0 rfl rfl)
theorem dX5_value_1 : decode cX5_value 1 = .ok (.aload_n 0, 1) := dk_42 (dk_at dksX5_value_0 1 rfl rfl)
theorem dX5_value_2 : decode cX5_value 2 = .ok (.getfield 7, 3) := dk_180 0 7 (dk_at dksX5_value_0 2 rfl rfl)
theorem dX5_value_5 : decode cX5_value 5 = .ok (.invokeinterface 16 2, 5) := by decide +kernel
theorem dX5_value_10 : decode cX5_value 10 = .ok (.ireturn, 1) := dk_172 (dk_at dksX5_value_0 10 rfl rfl)
abbrev cX5_weighs : ByteArray := prog_8_method_5_code
def yX5_weighs : MethodName := ⟨RX5, "weighs", "(ILPictureBlock$Trace;)I"⟩
def dkwX5_weighs_0 : List UInt8 := [44, 16, 10, 182, 0, 22, 27, 42, 180, 0, 7, 96, 172]
abbrev dktX5_weighs_0 : List UInt8 := dkwX5_weighs_0 ++ []
theorem dksX5_weighs_0 : cX5_weighs.data.toList.drop 0 = dktX5_weighs_0 := by decide +kernel
theorem dX5_weighs_0 : decode cX5_weighs 0 = .ok (.aload_n 2, 1) := dk_44 (dk_at dksX5_weighs_0 0 rfl rfl)
theorem dX5_weighs_1 : decode cX5_weighs 1 = .ok (.bipush 10, 2) := dk_16 10 (dk_at dksX5_weighs_0 1 rfl rfl)
theorem dX5_weighs_3 : decode cX5_weighs 3 = .ok (.invokevirtual 22, 3) := dk_182 0 22 (dk_at dksX5_weighs_0 3 rfl rfl)
theorem dX5_weighs_6 : decode cX5_weighs 6 = .ok (.iload_n 1, 1) := dk_27 (dk_at dksX5_weighs_0 6 rfl rfl)
theorem dX5_weighs_7 : decode cX5_weighs 7 = .ok (.aload_n 0, 1) := dk_42 (dk_at dksX5_weighs_0 7 rfl rfl)
theorem dX5_weighs_8 : decode cX5_weighs 8 = .ok (.getfield 7, 3) := dk_180 0 7 (dk_at dksX5_weighs_0 8 rfl rfl)
theorem dX5_weighs_11 : decode cX5_weighs 11 = .ok (.iadd, 1) := dk_96 (dk_at dksX5_weighs_0 11 rfl rfl)
theorem dX5_weighs_12 : decode cX5_weighs 12 = .ok (.ireturn, 1) := dk_172 (dk_at dksX5_weighs_0 12 rfl rfl)
abbrev cX5_ties : ByteArray := prog_8_method_6_code
def yX5_ties : MethodName := ⟨RX5, "ties", "(ILPictureBlock$Trace;)I"⟩
def dkwX5_ties_0 : List UInt8 := [44, 16, 12, 182, 0, 22, 42, 27, 44, 182, 0, 28, 42, 180, 0, 13, 100, 172]
abbrev dktX5_ties_0 : List UInt8 := dkwX5_ties_0 ++ []
theorem dksX5_ties_0 : cX5_ties.data.toList.drop 0 = dktX5_ties_0 := by decide +kernel
theorem dX5_ties_0 : decode cX5_ties 0 = .ok (.aload_n 2, 1) := dk_44 (dk_at dksX5_ties_0 0 rfl rfl)
theorem dX5_ties_1 : decode cX5_ties 1 = .ok (.bipush 12, 2) := dk_16 12 (dk_at dksX5_ties_0 1 rfl rfl)
theorem dX5_ties_3 : decode cX5_ties 3 = .ok (.invokevirtual 22, 3) := dk_182 0 22 (dk_at dksX5_ties_0 3 rfl rfl)
theorem dX5_ties_6 : decode cX5_ties 6 = .ok (.aload_n 0, 1) := dk_42 (dk_at dksX5_ties_0 6 rfl rfl)
theorem dX5_ties_7 : decode cX5_ties 7 = .ok (.iload_n 1, 1) := dk_27 (dk_at dksX5_ties_0 7 rfl rfl)
theorem dX5_ties_8 : decode cX5_ties 8 = .ok (.aload_n 2, 1) := dk_44 (dk_at dksX5_ties_0 8 rfl rfl)
theorem dX5_ties_9 : decode cX5_ties 9 = .ok (.invokevirtual 28, 3) := dk_182 0 28 (dk_at dksX5_ties_0 9 rfl rfl)
theorem dX5_ties_12 : decode cX5_ties 12 = .ok (.aload_n 0, 1) := dk_42 (dk_at dksX5_ties_0 12 rfl rfl)
theorem dX5_ties_13 : decode cX5_ties 13 = .ok (.getfield 13, 3) := dk_180 0 13 (dk_at dksX5_ties_0 13 rfl rfl)
theorem dX5_ties_16 : decode cX5_ties 16 = .ok (.isub, 1) := dk_100 (dk_at dksX5_ties_0 16 rfl rfl)
theorem dX5_ties_17 : decode cX5_ties 17 = .ok (.ireturn, 1) := dk_172 (dk_at dksX5_ties_0 17 rfl rfl)
abbrev cX5_parts : ByteArray := prog_8_method_7_code
def yX5_parts : MethodName := ⟨RX5, "parts", "(ILPictureBlock$Trace;)I"⟩
def dkwX5_parts_0 : List UInt8 := [44, 16, 13, 182, 0, 22, 27, 42, 180, 0, 13, 42, 180, 0, 7, 100, 108, 172]
abbrev dktX5_parts_0 : List UInt8 := dkwX5_parts_0 ++ []
theorem dksX5_parts_0 : cX5_parts.data.toList.drop 0 = dktX5_parts_0 := by decide +kernel
theorem dX5_parts_0 : decode cX5_parts 0 = .ok (.aload_n 2, 1) := dk_44 (dk_at dksX5_parts_0 0 rfl rfl)
theorem dX5_parts_1 : decode cX5_parts 1 = .ok (.bipush 13, 2) := dk_16 13 (dk_at dksX5_parts_0 1 rfl rfl)
theorem dX5_parts_3 : decode cX5_parts 3 = .ok (.invokevirtual 22, 3) := dk_182 0 22 (dk_at dksX5_parts_0 3 rfl rfl)
theorem dX5_parts_6 : decode cX5_parts 6 = .ok (.iload_n 1, 1) := dk_27 (dk_at dksX5_parts_0 6 rfl rfl)
theorem dX5_parts_7 : decode cX5_parts 7 = .ok (.aload_n 0, 1) := dk_42 (dk_at dksX5_parts_0 7 rfl rfl)
theorem dX5_parts_8 : decode cX5_parts 8 = .ok (.getfield 13, 3) := dk_180 0 13 (dk_at dksX5_parts_0 8 rfl rfl)
theorem dX5_parts_11 : decode cX5_parts 11 = .ok (.aload_n 0, 1) := dk_42 (dk_at dksX5_parts_0 11 rfl rfl)
theorem dX5_parts_12 : decode cX5_parts 12 = .ok (.getfield 7, 3) := dk_180 0 7 (dk_at dksX5_parts_0 12 rfl rfl)
theorem dX5_parts_15 : decode cX5_parts 15 = .ok (.isub, 1) := dk_100 (dk_at dksX5_parts_0 15 rfl rfl)
theorem dX5_parts_16 : decode cX5_parts 16 = .ok (.idiv, 1) := dk_108 (dk_at dksX5_parts_0 16 rfl rfl)
theorem dX5_parts_17 : decode cX5_parts 17 = .ok (.ireturn, 1) := dk_172 (dk_at dksX5_parts_0 17 rfl rfl)
theorem q91 : (Jvm.Cond.initialized "PictureBlock$Mark") ∈ lw_all := lw_g (lw_at lw_m1 6 rfl) rfl
theorem q304 : (Jvm.Cond.instanceMethod ({ cls := "PictureBlock$Mark", name := "<init>", desc := "(II)V" } : Jvm.MethodName)) ∈ lw_all := lw_g (lw_at lw_m1 219 rfl) rfl
theorem q305 : (Jvm.Cond.code ({ cls := "PictureBlock$Mark", name := "<init>", desc := "(II)V" } : Jvm.MethodName) prog_8_method_1_code (3 : Nat) (Option.none : Option Jvm.ClassFile.FieldType)) ∈ lw_all := lw_g (lw_at lw_m1 220 rfl) rfl
theorem q306 : (Jvm.Cond.methodLink "PictureBlock$Mark" (1 : Nat) ({ cls := "java/lang/Object", name := "<init>", desc := "()V" } : Jvm.MethodName)) ∈ lw_all := lw_g (lw_at lw_m1 221 rfl) rfl
theorem q307 : (Jvm.Cond.fieldLink "PictureBlock$Mark" (7 : Nat) "PictureBlock$Mark" "number" "I") ∈ lw_all := lw_g (lw_at lw_m1 222 rfl) rfl
theorem q312 : (Jvm.Cond.fieldLink "PictureBlock$Mark" (13 : Nat) "PictureBlock$Mark" "m" "I") ∈ lw_all := lw_g (lw_at lw_m1 227 rfl) rfl
theorem q321 : (Jvm.Cond.soleField "PictureBlock$Mark" "number") ∈ lw_all := lw_g (lw_at lw_m1 236 rfl) rfl
theorem q323 : (Jvm.Cond.soleField "PictureBlock$Mark" "m") ∈ lw_all := lw_g (lw_at lw_m1 238 rfl) rfl
theorem q371 : (Jvm.Cond.instantiable "PictureBlock$Mark" (2 : Nat)) ∈ lw_all := lw_g (lw_at lw_m2 46 rfl) rfl
theorem q373 : (Jvm.Cond.laysFinal "PictureBlock$Mark" "PictureBlock$Mark" "number" "I") ∈ lw_all := lw_g (lw_at lw_m2 48 rfl) rfl
theorem q374 : (Jvm.Cond.laysFinal "PictureBlock$Mark" "PictureBlock$Mark" "m" "I") ∈ lw_all := lw_g (lw_at lw_m2 49 rfl) rfl
theorem q375 : (Jvm.Cond.superclass "PictureBlock$Mark" "java/lang/Object") ∈ lw_all := lw_g (lw_at lw_m2 50 rfl) rfl
theorem q390 : (Jvm.Cond.instanceMethod ({ cls := "PictureBlock$Mark", name := "kind", desc := "()I" } : Jvm.MethodName)) ∈ lw_all := lw_g (lw_at lw_m2 65 rfl) rfl
theorem q391 : (Jvm.Cond.selects "PictureBlock$Mark" ({ cls := "PictureBlock$Mark", name := "kind", desc := "()I" } : Jvm.MethodName) ({ cls := "PictureBlock$Mark", name := "kind", desc := "()I" } : Jvm.MethodName)) ∈ lw_all := lw_g (lw_at lw_m2 66 rfl) rfl
theorem q392 : (Jvm.Cond.sameMethod "PictureBlock$Mark" "PictureBlock$Mark" "kind" "()I") ∈ lw_all := lw_g (lw_at lw_m2 67 rfl) rfl
theorem q417 : (Jvm.Cond.code ({ cls := "PictureBlock$Mark", name := "kind", desc := "()I" } : Jvm.MethodName) prog_8_method_2_code (1 : Nat) (Option.some Jvm.ClassFile.FieldType.int)) ∈ lw_all := lw_g (lw_at lw_m2 92 rfl) rfl
theorem q446 : (Jvm.Cond.instanceMethod ({ cls := "PictureBlock$Mark", name := "weight", desc := "(LPictureBlock$Block;)I" } : Jvm.MethodName)) ∈ lw_all := lw_g (lw_at lw_m2 121 rfl) rfl
theorem q447 : (Jvm.Cond.code ({ cls := "PictureBlock$Mark", name := "weight", desc := "(LPictureBlock$Block;)I" } : Jvm.MethodName) prog_8_method_3_code (2 : Nat) (Option.some Jvm.ClassFile.FieldType.int)) ∈ lw_all := lw_g (lw_at lw_m2 122 rfl) rfl
theorem q471 : (Jvm.Cond.castable "PictureBlock$Mark" "PictureBlock$Seen") ∈ lw_tbl := lw_at lw_m2 146 rfl
theorem q472 : (Jvm.Cond.selects "PictureBlock$Mark" ({ cls := "PictureBlock$Seen", name := "weight", desc := "(LPictureBlock$Block;)I" } : Jvm.MethodName) ({ cls := "PictureBlock$Mark", name := "weight", desc := "(LPictureBlock$Block;)I" } : Jvm.MethodName)) ∈ lw_all := lw_g (lw_at lw_m2 147 rfl) rfl
theorem q473 : (Jvm.Cond.unhidden "PictureBlock$Mark" "weight" "(LPictureBlock$Block;)I") ∈ lw_tbl := lw_at lw_m2 148 rfl
theorem q474 : (Jvm.Cond.publicMethod ({ cls := "PictureBlock$Mark", name := "weight", desc := "(LPictureBlock$Block;)I" } : Jvm.MethodName)) ∈ lw_tbl := lw_at lw_m2 149 rfl
theorem q529 : (Jvm.Cond.declares ({ cls := "PictureBlock$Mark", name := "value", desc := "(LPictureBlock$Block;)I" } : Jvm.MethodName)) ∈ lw_tbl := lw_at lw_m2 204 rfl
theorem q530 : (Jvm.Cond.instanceMethod ({ cls := "PictureBlock$Mark", name := "value", desc := "(LPictureBlock$Block;)I" } : Jvm.MethodName)) ∈ lw_all := lw_g (lw_at lw_m2 205 rfl) rfl
theorem q531 : (Jvm.Cond.code ({ cls := "PictureBlock$Mark", name := "value", desc := "(LPictureBlock$Block;)I" } : Jvm.MethodName) prog_8_method_4_code (2 : Nat) (Option.some Jvm.ClassFile.FieldType.int)) ∈ lw_all := lw_g (lw_at lw_m2 206 rfl) rfl
theorem q532 : (Jvm.Cond.interfaceEntry "PictureBlock$Mark" (16 : Nat)) ∈ lw_tbl := lw_at lw_m2 207 rfl
theorem q533 : (Jvm.Cond.methodLink "PictureBlock$Mark" (16 : Nat) ({ cls := "PictureBlock$Block", name := "told", desc := "(I)I" } : Jvm.MethodName)) ∈ lw_all := lw_g (lw_at lw_m2 208 rfl) rfl
theorem q550 : (Jvm.Cond.publicMethod ({ cls := "PictureBlock$Mark", name := "value", desc := "(LPictureBlock$Block;)I" } : Jvm.MethodName)) ∈ lw_tbl := lw_at lw_m2 225 rfl
theorem q551 : (Jvm.Cond.selects "PictureBlock$Mark" ({ cls := "PictureBlock$Seen", name := "value", desc := "(LPictureBlock$Block;)I" } : Jvm.MethodName) ({ cls := "PictureBlock$Mark", name := "value", desc := "(LPictureBlock$Block;)I" } : Jvm.MethodName)) ∈ lw_all := lw_g (lw_at lw_m2 226 rfl) rfl
theorem q552 : (Jvm.Cond.unhidden "PictureBlock$Mark" "value" "(LPictureBlock$Block;)I") ∈ lw_tbl := lw_at lw_m2 227 rfl
theorem q1057 : (Jvm.Cond.instanceMethod ({ cls := "PictureBlock$Mark", name := "weighs", desc := "(ILPictureBlock$Trace;)I" } : Jvm.MethodName)) ∈ lw_all := lw_g (lw_at lw_m5 12 rfl) rfl
theorem q1058 : (Jvm.Cond.selects "PictureBlock$Mark" ({ cls := "PictureBlock$Mark", name := "weighs", desc := "(ILPictureBlock$Trace;)I" } : Jvm.MethodName) ({ cls := "PictureBlock$Mark", name := "weighs", desc := "(ILPictureBlock$Trace;)I" } : Jvm.MethodName)) ∈ lw_all := lw_g (lw_at lw_m5 13 rfl) rfl
theorem q1059 : (Jvm.Cond.sameMethod "PictureBlock$Mark" "PictureBlock$Mark" "weighs" "(ILPictureBlock$Trace;)I") ∈ lw_all := lw_g (lw_at lw_m5 14 rfl) rfl
theorem q1080 : (Jvm.Cond.code ({ cls := "PictureBlock$Mark", name := "weighs", desc := "(ILPictureBlock$Trace;)I" } : Jvm.MethodName) prog_8_method_5_code (3 : Nat) (Option.some Jvm.ClassFile.FieldType.int)) ∈ lw_all := lw_g (lw_at lw_m5 35 rfl) rfl
theorem q1081 : (Jvm.Cond.methodLink "PictureBlock$Mark" (22 : Nat) ({ cls := "PictureBlock$Trace", name := "ran", desc := "(I)V" } : Jvm.MethodName)) ∈ lw_all := lw_g (lw_at lw_m5 36 rfl) rfl
theorem q1106 : (Jvm.Cond.publicMethod ({ cls := "PictureBlock$Mark", name := "weighs", desc := "(ILPictureBlock$Trace;)I" } : Jvm.MethodName)) ∈ lw_tbl := lw_at lw_m5 61 rfl
theorem q1111 : (Jvm.Cond.castable "PictureBlock$Mark" "PictureBlock$Weighs") ∈ lw_tbl := lw_at lw_m5 66 rfl
theorem q1112 : (Jvm.Cond.selects "PictureBlock$Mark" ({ cls := "PictureBlock$Weighs", name := "weighs", desc := "(ILPictureBlock$Trace;)I" } : Jvm.MethodName) ({ cls := "PictureBlock$Mark", name := "weighs", desc := "(ILPictureBlock$Trace;)I" } : Jvm.MethodName)) ∈ lw_all := lw_g (lw_at lw_m5 67 rfl) rfl
theorem q1113 : (Jvm.Cond.unhidden "PictureBlock$Mark" "weighs" "(ILPictureBlock$Trace;)I") ∈ lw_tbl := lw_at lw_m5 68 rfl
theorem q1125 : (Jvm.Cond.unhidden "PictureBlock$Mark" "says" "(ILPictureBlock$Trace;)I") ∈ lw_tbl := lw_at lw_m5 80 rfl
theorem q1133 : (Jvm.Cond.instanceMethod ({ cls := "PictureBlock$Mark", name := "ties", desc := "(ILPictureBlock$Trace;)I" } : Jvm.MethodName)) ∈ lw_all := lw_g (lw_at lw_m5 88 rfl) rfl
theorem q1134 : (Jvm.Cond.selects "PictureBlock$Mark" ({ cls := "PictureBlock$Mark", name := "ties", desc := "(ILPictureBlock$Trace;)I" } : Jvm.MethodName) ({ cls := "PictureBlock$Mark", name := "ties", desc := "(ILPictureBlock$Trace;)I" } : Jvm.MethodName)) ∈ lw_all := lw_g (lw_at lw_m5 89 rfl) rfl
theorem q1135 : (Jvm.Cond.sameMethod "PictureBlock$Mark" "PictureBlock$Mark" "ties" "(ILPictureBlock$Trace;)I") ∈ lw_all := lw_g (lw_at lw_m5 90 rfl) rfl
theorem q1141 : (Jvm.Cond.declares ({ cls := "PictureBlock$Mark", name := "ties", desc := "(ILPictureBlock$Trace;)I" } : Jvm.MethodName)) ∈ lw_tbl := lw_at lw_m5 96 rfl
theorem q1151 : (Jvm.Cond.code ({ cls := "PictureBlock$Mark", name := "ties", desc := "(ILPictureBlock$Trace;)I" } : Jvm.MethodName) prog_8_method_6_code (3 : Nat) (Option.some Jvm.ClassFile.FieldType.int)) ∈ lw_all := lw_g (lw_at lw_m5 106 rfl) rfl
theorem q1153 : (Jvm.Cond.instanceMethod ({ cls := "PictureBlock$Mark", name := "parts", desc := "(ILPictureBlock$Trace;)I" } : Jvm.MethodName)) ∈ lw_all := lw_g (lw_at lw_m5 108 rfl) rfl
theorem q1154 : (Jvm.Cond.selects "PictureBlock$Mark" ({ cls := "PictureBlock$Mark", name := "parts", desc := "(ILPictureBlock$Trace;)I" } : Jvm.MethodName) ({ cls := "PictureBlock$Mark", name := "parts", desc := "(ILPictureBlock$Trace;)I" } : Jvm.MethodName)) ∈ lw_all := lw_g (lw_at lw_m5 109 rfl) rfl
theorem q1155 : (Jvm.Cond.sameMethod "PictureBlock$Mark" "PictureBlock$Mark" "parts" "(ILPictureBlock$Trace;)I") ∈ lw_all := lw_g (lw_at lw_m5 110 rfl) rfl
theorem q1165 : (Jvm.Cond.code ({ cls := "PictureBlock$Mark", name := "parts", desc := "(ILPictureBlock$Trace;)I" } : Jvm.MethodName) prog_8_method_7_code (3 : Nat) (Option.some Jvm.ClassFile.FieldType.int)) ∈ lw_all := lw_g (lw_at lw_m5 120 rfl) rfl
theorem q1752 : (Jvm.Cond.sameMethod "PictureBlock$Mark" "PictureBlock$Mark" "weight" "(LPictureBlock$Block;)I") ∈ lw_all := lw_g (lw_at lw_m7 227 rfl) rfl
theorem q1755 : (Jvm.Cond.sameMethod "PictureBlock$Mark" "PictureBlock$Mark" "value" "(LPictureBlock$Block;)I") ∈ lw_all := lw_g (lw_at lw_m7 230 rfl) rfl
theorem in_X5 : ∀ w ∈ wsX50, w ∈ lw_all := lw_in wsX50 [373, 374] (by decide +kernel) (by decide +kernel)

/-! PictureBlock$Flat -/
set_option maxRecDepth 100000
def RX6 : String := "PictureBlock$Flat"
def TX6 : u_T := fun k => match k with
  | 0 => ("PictureBlock$Mark", "number", "I", true)
  | _ => ("PictureBlock$Mark", "m", "I", true)
def tyX6 : Nat → FieldType := fun k => match k with
  | 0 => .int
  | _ => .int
abbrev wsX60 : List Cond := u_ws RX6 TX6 2
theorem nmX6 : ∀ a, a < 2 → ∀ b, b < 2 → a ≠ b → (TX6 a).2.1 ≠ (TX6 b).2.1 := by decide +kernel
theorem tyX6_ok : ∀ k, k < 2 → parseFieldDescriptor (TX6 k).2.2.1 = some (tyX6 k) := by decide +kernel
abbrev cX6_init : ByteArray := prog_6_method_1_code
def yX6_init : MethodName := ⟨RX6, "<init>", "(II)V"⟩
def dkwX6_init_0 : List UInt8 := [42, 27, 28, 183, 0, 3, 177]
abbrev dktX6_init_0 : List UInt8 := dkwX6_init_0 ++ []
theorem dksX6_init_0 : cX6_init.data.toList.drop 0 = dktX6_init_0 := by decide +kernel
theorem dX6_init_0 : decode cX6_init 0 = .ok (.aload_n 0, 1) := dk_42 (dk_at dksX6_init_0 0 rfl rfl)
theorem dX6_init_1 : decode cX6_init 1 = .ok (.iload_n 1, 1) := dk_27 (dk_at dksX6_init_0 1 rfl rfl)
theorem dX6_init_2 : decode cX6_init 2 = .ok (.iload_n 2, 1) := dk_28 (dk_at dksX6_init_0 2 rfl rfl)
theorem dX6_init_3 : decode cX6_init 3 = .ok (.invokespecial 3, 3) := dk_183 0 3 (dk_at dksX6_init_0 3 rfl rfl)
theorem dX6_init_6 : decode cX6_init 6 = .ok (.return_, 1) := dk_177 (dk_at dksX6_init_0 6 rfl rfl)
abbrev cX6_kind : ByteArray := prog_6_method_2_code
def yX6_kind : MethodName := ⟨RX6, "kind", "()I"⟩
def dkwX6_kind_0 : List UInt8 := [42, 183, 0, 9, 4, 96, 172]
abbrev dktX6_kind_0 : List UInt8 := dkwX6_kind_0 ++ []
theorem dksX6_kind_0 : cX6_kind.data.toList.drop 0 = dktX6_kind_0 := by decide +kernel
theorem dX6_kind_0 : decode cX6_kind 0 = .ok (.aload_n 0, 1) := dk_42 (dk_at dksX6_kind_0 0 rfl rfl)
theorem dX6_kind_1 : decode cX6_kind 1 = .ok (.invokespecial 9, 3) := dk_183 0 9 (dk_at dksX6_kind_0 1 rfl rfl)
theorem dX6_kind_4 : decode cX6_kind 4 = .ok (.iconst 1, 1) := dk_4 (dk_at dksX6_kind_0 4 rfl rfl)
theorem dX6_kind_5 : decode cX6_kind 5 = .ok (.iadd, 1) := dk_96 (dk_at dksX6_kind_0 5 rfl rfl)
theorem dX6_kind_6 : decode cX6_kind 6 = .ok (.ireturn, 1) := dk_172 (dk_at dksX6_kind_0 6 rfl rfl)
abbrev cX6_weight : ByteArray := prog_6_method_3_code
def yX6_weight : MethodName := ⟨RX6, "weight", "(LPictureBlock$Block;)I"⟩
def dkwX6_weight_0 : List UInt8 := [42, 43, 183, 0, 13, 4, 96, 172]
abbrev dktX6_weight_0 : List UInt8 := dkwX6_weight_0 ++ []
theorem dksX6_weight_0 : cX6_weight.data.toList.drop 0 = dktX6_weight_0 := by decide +kernel
theorem dX6_weight_0 : decode cX6_weight 0 = .ok (.aload_n 0, 1) := dk_42 (dk_at dksX6_weight_0 0 rfl rfl)
theorem dX6_weight_1 : decode cX6_weight 1 = .ok (.aload_n 1, 1) := dk_43 (dk_at dksX6_weight_0 1 rfl rfl)
theorem dX6_weight_2 : decode cX6_weight 2 = .ok (.invokespecial 13, 3) := dk_183 0 13 (dk_at dksX6_weight_0 2 rfl rfl)
theorem dX6_weight_5 : decode cX6_weight 5 = .ok (.iconst 1, 1) := dk_4 (dk_at dksX6_weight_0 5 rfl rfl)
theorem dX6_weight_6 : decode cX6_weight 6 = .ok (.iadd, 1) := dk_96 (dk_at dksX6_weight_0 6 rfl rfl)
theorem dX6_weight_7 : decode cX6_weight 7 = .ok (.ireturn, 1) := dk_172 (dk_at dksX6_weight_0 7 rfl rfl)
abbrev cX6_weighs : ByteArray := prog_6_method_4_code
def yX6_weighs : MethodName := ⟨RX6, "weighs", "(ILPictureBlock$Trace;)I"⟩
def dkwX6_weighs_0 : List UInt8 := [44, 16, 20, 182, 0, 17, 42, 27, 44, 183, 0, 23, 7, 100, 172]
abbrev dktX6_weighs_0 : List UInt8 := dkwX6_weighs_0 ++ []
theorem dksX6_weighs_0 : cX6_weighs.data.toList.drop 0 = dktX6_weighs_0 := by decide +kernel
theorem dX6_weighs_0 : decode cX6_weighs 0 = .ok (.aload_n 2, 1) := dk_44 (dk_at dksX6_weighs_0 0 rfl rfl)
theorem dX6_weighs_1 : decode cX6_weighs 1 = .ok (.bipush 20, 2) := dk_16 20 (dk_at dksX6_weighs_0 1 rfl rfl)
theorem dX6_weighs_3 : decode cX6_weighs 3 = .ok (.invokevirtual 17, 3) := dk_182 0 17 (dk_at dksX6_weighs_0 3 rfl rfl)
theorem dX6_weighs_6 : decode cX6_weighs 6 = .ok (.aload_n 0, 1) := dk_42 (dk_at dksX6_weighs_0 6 rfl rfl)
theorem dX6_weighs_7 : decode cX6_weighs 7 = .ok (.iload_n 1, 1) := dk_27 (dk_at dksX6_weighs_0 7 rfl rfl)
theorem dX6_weighs_8 : decode cX6_weighs 8 = .ok (.aload_n 2, 1) := dk_44 (dk_at dksX6_weighs_0 8 rfl rfl)
theorem dX6_weighs_9 : decode cX6_weighs 9 = .ok (.invokespecial 23, 3) := dk_183 0 23 (dk_at dksX6_weighs_0 9 rfl rfl)
theorem dX6_weighs_12 : decode cX6_weighs 12 = .ok (.iconst 4, 1) := dk_7 (dk_at dksX6_weighs_0 12 rfl rfl)
theorem dX6_weighs_13 : decode cX6_weighs 13 = .ok (.isub, 1) := dk_100 (dk_at dksX6_weighs_0 13 rfl rfl)
theorem dX6_weighs_14 : decode cX6_weighs 14 = .ok (.ireturn, 1) := dk_172 (dk_at dksX6_weighs_0 14 rfl rfl)
abbrev cX6_parts : ByteArray := prog_6_method_5_code
def yX6_parts : MethodName := ⟨RX6, "parts", "(ILPictureBlock$Trace;)I"⟩
def dkwX6_parts_0 : List UInt8 := [44, 16, 21, 182, 0, 17, 42, 27, 44, 183, 0, 27, 62, 29, 42, 4, 44, 182, 0, 30, 96, 172]
abbrev dktX6_parts_0 : List UInt8 := dkwX6_parts_0 ++ []
theorem dksX6_parts_0 : cX6_parts.data.toList.drop 0 = dktX6_parts_0 := by decide +kernel
theorem dX6_parts_0 : decode cX6_parts 0 = .ok (.aload_n 2, 1) := dk_44 (dk_at dksX6_parts_0 0 rfl rfl)
theorem dX6_parts_1 : decode cX6_parts 1 = .ok (.bipush 21, 2) := dk_16 21 (dk_at dksX6_parts_0 1 rfl rfl)
theorem dX6_parts_3 : decode cX6_parts 3 = .ok (.invokevirtual 17, 3) := dk_182 0 17 (dk_at dksX6_parts_0 3 rfl rfl)
theorem dX6_parts_6 : decode cX6_parts 6 = .ok (.aload_n 0, 1) := dk_42 (dk_at dksX6_parts_0 6 rfl rfl)
theorem dX6_parts_7 : decode cX6_parts 7 = .ok (.iload_n 1, 1) := dk_27 (dk_at dksX6_parts_0 7 rfl rfl)
theorem dX6_parts_8 : decode cX6_parts 8 = .ok (.aload_n 2, 1) := dk_44 (dk_at dksX6_parts_0 8 rfl rfl)
theorem dX6_parts_9 : decode cX6_parts 9 = .ok (.invokespecial 27, 3) := dk_183 0 27 (dk_at dksX6_parts_0 9 rfl rfl)
theorem dX6_parts_12 : decode cX6_parts 12 = .ok (.istore_n 3, 1) := dk_62 (dk_at dksX6_parts_0 12 rfl rfl)
theorem dX6_parts_13 : decode cX6_parts 13 = .ok (.iload_n 3, 1) := dk_29 (dk_at dksX6_parts_0 13 rfl rfl)
theorem dX6_parts_14 : decode cX6_parts 14 = .ok (.aload_n 0, 1) := dk_42 (dk_at dksX6_parts_0 14 rfl rfl)
theorem dX6_parts_15 : decode cX6_parts 15 = .ok (.iconst 1, 1) := dk_4 (dk_at dksX6_parts_0 15 rfl rfl)
theorem dX6_parts_16 : decode cX6_parts 16 = .ok (.aload_n 2, 1) := dk_44 (dk_at dksX6_parts_0 16 rfl rfl)
theorem dX6_parts_17 : decode cX6_parts 17 = .ok (.invokevirtual 30, 3) := dk_182 0 30 (dk_at dksX6_parts_0 17 rfl rfl)
theorem dX6_parts_20 : decode cX6_parts 20 = .ok (.iadd, 1) := dk_96 (dk_at dksX6_parts_0 20 rfl rfl)
theorem dX6_parts_21 : decode cX6_parts 21 = .ok (.ireturn, 1) := dk_172 (dk_at dksX6_parts_0 21 rfl rfl)
theorem q92 : (Jvm.Cond.initialized "PictureBlock$Flat") ∈ lw_all := lw_g (lw_at lw_m1 7 rfl) rfl
theorem q299 : (Jvm.Cond.instantiable "PictureBlock$Flat" (2 : Nat)) ∈ lw_all := lw_g (lw_at lw_m1 214 rfl) rfl
theorem q301 : (Jvm.Cond.instanceMethod ({ cls := "PictureBlock$Flat", name := "<init>", desc := "(II)V" } : Jvm.MethodName)) ∈ lw_all := lw_g (lw_at lw_m1 216 rfl) rfl
theorem q302 : (Jvm.Cond.code ({ cls := "PictureBlock$Flat", name := "<init>", desc := "(II)V" } : Jvm.MethodName) prog_6_method_1_code (3 : Nat) (Option.none : Option Jvm.ClassFile.FieldType)) ∈ lw_all := lw_g (lw_at lw_m1 217 rfl) rfl
theorem q303 : (Jvm.Cond.methodLink "PictureBlock$Flat" (3 : Nat) ({ cls := "PictureBlock$Mark", name := "<init>", desc := "(II)V" } : Jvm.MethodName)) ∈ lw_all := lw_g (lw_at lw_m1 218 rfl) rfl
theorem q320 : (Jvm.Cond.laysFinal "PictureBlock$Flat" "PictureBlock$Mark" "number" "I") ∈ lw_all := lw_g (lw_at lw_m1 235 rfl) rfl
theorem q322 : (Jvm.Cond.laysFinal "PictureBlock$Flat" "PictureBlock$Mark" "m" "I") ∈ lw_all := lw_g (lw_at lw_m1 237 rfl) rfl
theorem q324 : (Jvm.Cond.superclass "PictureBlock$Flat" "PictureBlock$Mark") ∈ lw_all := lw_g (lw_at lw_m1 239 rfl) rfl
theorem q397 : (Jvm.Cond.instanceMethod ({ cls := "PictureBlock$Flat", name := "kind", desc := "()I" } : Jvm.MethodName)) ∈ lw_all := lw_g (lw_at lw_m2 72 rfl) rfl
theorem q398 : (Jvm.Cond.code ({ cls := "PictureBlock$Flat", name := "kind", desc := "()I" } : Jvm.MethodName) prog_6_method_2_code (1 : Nat) (Option.some Jvm.ClassFile.FieldType.int)) ∈ lw_all := lw_g (lw_at lw_m2 73 rfl) rfl
theorem q399 : (Jvm.Cond.methodLink "PictureBlock$Flat" (9 : Nat) ({ cls := "PictureBlock$Mark", name := "kind", desc := "()I" } : Jvm.MethodName)) ∈ lw_all := lw_g (lw_at lw_m2 74 rfl) rfl
theorem q407 : (Jvm.Cond.selects "PictureBlock$Flat" ({ cls := "PictureBlock$Mark", name := "kind", desc := "()I" } : Jvm.MethodName) ({ cls := "PictureBlock$Flat", name := "kind", desc := "()I" } : Jvm.MethodName)) ∈ lw_all := lw_g (lw_at lw_m2 82 rfl) rfl
theorem q443 : (Jvm.Cond.instanceMethod ({ cls := "PictureBlock$Flat", name := "weight", desc := "(LPictureBlock$Block;)I" } : Jvm.MethodName)) ∈ lw_all := lw_g (lw_at lw_m2 118 rfl) rfl
theorem q444 : (Jvm.Cond.code ({ cls := "PictureBlock$Flat", name := "weight", desc := "(LPictureBlock$Block;)I" } : Jvm.MethodName) prog_6_method_3_code (2 : Nat) (Option.some Jvm.ClassFile.FieldType.int)) ∈ lw_all := lw_g (lw_at lw_m2 119 rfl) rfl
theorem q445 : (Jvm.Cond.methodLink "PictureBlock$Flat" (13 : Nat) ({ cls := "PictureBlock$Mark", name := "weight", desc := "(LPictureBlock$Block;)I" } : Jvm.MethodName)) ∈ lw_all := lw_g (lw_at lw_m2 120 rfl) rfl
theorem q467 : (Jvm.Cond.castable "PictureBlock$Flat" "PictureBlock$Seen") ∈ lw_tbl := lw_at lw_m2 142 rfl
theorem q468 : (Jvm.Cond.selects "PictureBlock$Flat" ({ cls := "PictureBlock$Seen", name := "weight", desc := "(LPictureBlock$Block;)I" } : Jvm.MethodName) ({ cls := "PictureBlock$Flat", name := "weight", desc := "(LPictureBlock$Block;)I" } : Jvm.MethodName)) ∈ lw_all := lw_g (lw_at lw_m2 143 rfl) rfl
theorem q469 : (Jvm.Cond.unhidden "PictureBlock$Flat" "weight" "(LPictureBlock$Block;)I") ∈ lw_tbl := lw_at lw_m2 144 rfl
theorem q470 : (Jvm.Cond.publicMethod ({ cls := "PictureBlock$Flat", name := "weight", desc := "(LPictureBlock$Block;)I" } : Jvm.MethodName)) ∈ lw_tbl := lw_at lw_m2 145 rfl
theorem q528 : (Jvm.Cond.sameMethod "PictureBlock$Flat" "PictureBlock$Mark" "value" "(LPictureBlock$Block;)I") ∈ lw_all := lw_g (lw_at lw_m2 203 rfl) rfl
theorem q548 : (Jvm.Cond.selects "PictureBlock$Flat" ({ cls := "PictureBlock$Seen", name := "value", desc := "(LPictureBlock$Block;)I" } : Jvm.MethodName) ({ cls := "PictureBlock$Mark", name := "value", desc := "(LPictureBlock$Block;)I" } : Jvm.MethodName)) ∈ lw_all := lw_g (lw_at lw_m2 223 rfl) rfl
theorem q549 : (Jvm.Cond.unhidden "PictureBlock$Flat" "value" "(LPictureBlock$Block;)I") ∈ lw_tbl := lw_at lw_m2 224 rfl
theorem q1068 : (Jvm.Cond.instanceMethod ({ cls := "PictureBlock$Flat", name := "weighs", desc := "(ILPictureBlock$Trace;)I" } : Jvm.MethodName)) ∈ lw_all := lw_g (lw_at lw_m5 23 rfl) rfl
theorem q1069 : (Jvm.Cond.code ({ cls := "PictureBlock$Flat", name := "weighs", desc := "(ILPictureBlock$Trace;)I" } : Jvm.MethodName) prog_6_method_4_code (3 : Nat) (Option.some Jvm.ClassFile.FieldType.int)) ∈ lw_all := lw_g (lw_at lw_m5 24 rfl) rfl
theorem q1070 : (Jvm.Cond.methodLink "PictureBlock$Flat" (17 : Nat) ({ cls := "PictureBlock$Trace", name := "ran", desc := "(I)V" } : Jvm.MethodName)) ∈ lw_all := lw_g (lw_at lw_m5 25 rfl) rfl
theorem q1071 : (Jvm.Cond.methodLink "PictureBlock$Flat" (23 : Nat) ({ cls := "PictureBlock$Mark", name := "weighs", desc := "(ILPictureBlock$Trace;)I" } : Jvm.MethodName)) ∈ lw_all := lw_g (lw_at lw_m5 26 rfl) rfl
theorem q1073 : (Jvm.Cond.selects "PictureBlock$Flat" ({ cls := "PictureBlock$Mark", name := "weighs", desc := "(ILPictureBlock$Trace;)I" } : Jvm.MethodName) ({ cls := "PictureBlock$Flat", name := "weighs", desc := "(ILPictureBlock$Trace;)I" } : Jvm.MethodName)) ∈ lw_all := lw_g (lw_at lw_m5 28 rfl) rfl
theorem q1107 : (Jvm.Cond.castable "PictureBlock$Flat" "PictureBlock$Weighs") ∈ lw_tbl := lw_at lw_m5 62 rfl
theorem q1108 : (Jvm.Cond.selects "PictureBlock$Flat" ({ cls := "PictureBlock$Weighs", name := "weighs", desc := "(ILPictureBlock$Trace;)I" } : Jvm.MethodName) ({ cls := "PictureBlock$Flat", name := "weighs", desc := "(ILPictureBlock$Trace;)I" } : Jvm.MethodName)) ∈ lw_all := lw_g (lw_at lw_m5 63 rfl) rfl
theorem q1109 : (Jvm.Cond.unhidden "PictureBlock$Flat" "weighs" "(ILPictureBlock$Trace;)I") ∈ lw_tbl := lw_at lw_m5 64 rfl
theorem q1110 : (Jvm.Cond.publicMethod ({ cls := "PictureBlock$Flat", name := "weighs", desc := "(ILPictureBlock$Trace;)I" } : Jvm.MethodName)) ∈ lw_tbl := lw_at lw_m5 65 rfl
theorem q1124 : (Jvm.Cond.unhidden "PictureBlock$Flat" "says" "(ILPictureBlock$Trace;)I") ∈ lw_tbl := lw_at lw_m5 79 rfl
theorem q1140 : (Jvm.Cond.sameMethod "PictureBlock$Flat" "PictureBlock$Mark" "ties" "(ILPictureBlock$Trace;)I") ∈ lw_all := lw_g (lw_at lw_m5 95 rfl) rfl
theorem q1143 : (Jvm.Cond.selects "PictureBlock$Flat" ({ cls := "PictureBlock$Mark", name := "ties", desc := "(ILPictureBlock$Trace;)I" } : Jvm.MethodName) ({ cls := "PictureBlock$Mark", name := "ties", desc := "(ILPictureBlock$Trace;)I" } : Jvm.MethodName)) ∈ lw_all := lw_g (lw_at lw_m5 98 rfl) rfl
theorem q1157 : (Jvm.Cond.instanceMethod ({ cls := "PictureBlock$Flat", name := "parts", desc := "(ILPictureBlock$Trace;)I" } : Jvm.MethodName)) ∈ lw_all := lw_g (lw_at lw_m5 112 rfl) rfl
theorem q1158 : (Jvm.Cond.code ({ cls := "PictureBlock$Flat", name := "parts", desc := "(ILPictureBlock$Trace;)I" } : Jvm.MethodName) prog_6_method_5_code (4 : Nat) (Option.some Jvm.ClassFile.FieldType.int)) ∈ lw_all := lw_g (lw_at lw_m5 113 rfl) rfl
theorem q1159 : (Jvm.Cond.methodLink "PictureBlock$Flat" (27 : Nat) ({ cls := "PictureBlock$Mark", name := "parts", desc := "(ILPictureBlock$Trace;)I" } : Jvm.MethodName)) ∈ lw_all := lw_g (lw_at lw_m5 114 rfl) rfl
theorem q1161 : (Jvm.Cond.selects "PictureBlock$Flat" ({ cls := "PictureBlock$Mark", name := "parts", desc := "(ILPictureBlock$Trace;)I" } : Jvm.MethodName) ({ cls := "PictureBlock$Flat", name := "parts", desc := "(ILPictureBlock$Trace;)I" } : Jvm.MethodName)) ∈ lw_all := lw_g (lw_at lw_m5 116 rfl) rfl
theorem q1749 : (Jvm.Cond.sameMethod "PictureBlock$Flat" "PictureBlock$Flat" "kind" "()I") ∈ lw_all := lw_g (lw_at lw_m7 224 rfl) rfl
theorem q1751 : (Jvm.Cond.sameMethod "PictureBlock$Flat" "PictureBlock$Flat" "weight" "(LPictureBlock$Block;)I") ∈ lw_all := lw_g (lw_at lw_m7 226 rfl) rfl
theorem q1757 : (Jvm.Cond.sameMethod "PictureBlock$Flat" "PictureBlock$Flat" "weighs" "(ILPictureBlock$Trace;)I") ∈ lw_all := lw_g (lw_at lw_m7 232 rfl) rfl
theorem q1761 : (Jvm.Cond.castable "PictureBlock$Flat" "PictureBlock$Mark") ∈ lw_tbl := lw_at lw_m7 236 rfl
theorem in_X6 : ∀ w ∈ wsX60, w ∈ lw_all := lw_in wsX60 [320, 322] (by decide +kernel) (by decide +kernel)

/-! PictureBlock$Star -/
set_option maxRecDepth 100000
def RX7 : String := "PictureBlock$Star"
def TX7 : u_T := fun k => match k with
  | 0 => ("PictureBlock$Mark", "number", "I", true)
  | _ => ("PictureBlock$Mark", "m", "I", true)
def tyX7 : Nat → FieldType := fun k => match k with
  | 0 => .int
  | _ => .int
abbrev wsX70 : List Cond := u_ws RX7 TX7 2
theorem nmX7 : ∀ a, a < 2 → ∀ b, b < 2 → a ≠ b → (TX7 a).2.1 ≠ (TX7 b).2.1 := by decide +kernel
theorem tyX7_ok : ∀ k, k < 2 → parseFieldDescriptor (TX7 k).2.2.1 = some (tyX7 k) := by decide +kernel
abbrev cX7_init : ByteArray := prog_14_method_1_code
def yX7_init : MethodName := ⟨RX7, "<init>", "(II)V"⟩
def dkwX7_init_0 : List UInt8 := [42, 27, 28, 183, 0, 3, 177]
abbrev dktX7_init_0 : List UInt8 := dkwX7_init_0 ++ []
theorem dksX7_init_0 : cX7_init.data.toList.drop 0 = dktX7_init_0 := by decide +kernel
theorem dX7_init_0 : decode cX7_init 0 = .ok (.aload_n 0, 1) := dk_42 (dk_at dksX7_init_0 0 rfl rfl)
theorem dX7_init_1 : decode cX7_init 1 = .ok (.iload_n 1, 1) := dk_27 (dk_at dksX7_init_0 1 rfl rfl)
theorem dX7_init_2 : decode cX7_init 2 = .ok (.iload_n 2, 1) := dk_28 (dk_at dksX7_init_0 2 rfl rfl)
theorem dX7_init_3 : decode cX7_init 3 = .ok (.invokespecial 3, 3) := dk_183 0 3 (dk_at dksX7_init_0 3 rfl rfl)
theorem dX7_init_6 : decode cX7_init 6 = .ok (.return_, 1) := dk_177 (dk_at dksX7_init_0 6 rfl rfl)
abbrev cX7_kind : ByteArray := prog_14_method_2_code
def yX7_kind : MethodName := ⟨RX7, "kind", "()I"⟩
def dkwX7_kind_0 : List UInt8 := [42, 183, 0, 9, 5, 96, 172]
abbrev dktX7_kind_0 : List UInt8 := dkwX7_kind_0 ++ []
theorem dksX7_kind_0 : cX7_kind.data.toList.drop 0 = dktX7_kind_0 := by decide +kernel
theorem dX7_kind_0 : decode cX7_kind 0 = .ok (.aload_n 0, 1) := dk_42 (dk_at dksX7_kind_0 0 rfl rfl)
theorem dX7_kind_1 : decode cX7_kind 1 = .ok (.invokespecial 9, 3) := dk_183 0 9 (dk_at dksX7_kind_0 1 rfl rfl)
theorem dX7_kind_4 : decode cX7_kind 4 = .ok (.iconst 2, 1) := dk_5 (dk_at dksX7_kind_0 4 rfl rfl)
theorem dX7_kind_5 : decode cX7_kind 5 = .ok (.iadd, 1) := dk_96 (dk_at dksX7_kind_0 5 rfl rfl)
theorem dX7_kind_6 : decode cX7_kind 6 = .ok (.ireturn, 1) := dk_172 (dk_at dksX7_kind_0 6 rfl rfl)
abbrev cX7_weight : ByteArray := prog_14_method_3_code
def yX7_weight : MethodName := ⟨RX7, "weight", "(LPictureBlock$Block;)I"⟩
def dkwX7_weight_1 : List UInt8 := [96, 172]
abbrev dktX7_weight_1 : List UInt8 := dkwX7_weight_1 ++ []
def dkwX7_weight_0 : List UInt8 := [43, 42, 180, 0, 13, 185, 0, 19, 2, 0, 6, 164, 0, 7, 4, 167, 0, 10, 42, 43, 183, 0, 25, 4]
abbrev dktX7_weight_0 : List UInt8 := dkwX7_weight_0 ++ dktX7_weight_1
theorem dksX7_weight_0 : cX7_weight.data.toList.drop 0 = dktX7_weight_0 := by decide +kernel
theorem dksX7_weight_1 : cX7_weight.data.toList.drop 24 = dktX7_weight_1 := dk_seg dksX7_weight_0 24 rfl rfl
theorem dX7_weight_0 : decode cX7_weight 0 = .ok (.aload_n 1, 1) := dk_43 (dk_at dksX7_weight_0 0 rfl rfl)
theorem dX7_weight_1 : decode cX7_weight 1 = .ok (.aload_n 0, 1) := dk_42 (dk_at dksX7_weight_0 1 rfl rfl)
theorem dX7_weight_2 : decode cX7_weight 2 = .ok (.getfield 13, 3) := dk_180 0 13 (dk_at dksX7_weight_0 2 rfl rfl)
theorem dX7_weight_5 : decode cX7_weight 5 = .ok (.invokeinterface 19 2, 5) := by decide +kernel
theorem dX7_weight_10 : decode cX7_weight 10 = .ok (.iconst 3, 1) := dk_6 (dk_at dksX7_weight_0 10 rfl rfl)
theorem dX7_weight_11 : decode cX7_weight 11 = .ok (.if_icmp .le 7, 3) := dk_164 0 7 (dk_at dksX7_weight_0 11 rfl rfl)
theorem dX7_weight_14 : decode cX7_weight 14 = .ok (.iconst 1, 1) := dk_4 (dk_at dksX7_weight_0 14 rfl rfl)
theorem dX7_weight_15 : decode cX7_weight 15 = .ok (.goto 10, 3) := dk_167 0 10 (dk_at dksX7_weight_0 15 rfl rfl)
theorem dX7_weight_18 : decode cX7_weight 18 = .ok (.aload_n 0, 1) := dk_42 (dk_at dksX7_weight_0 18 rfl rfl)
theorem dX7_weight_19 : decode cX7_weight 19 = .ok (.aload_n 1, 1) := dk_43 (dk_at dksX7_weight_0 19 rfl rfl)
theorem dX7_weight_20 : decode cX7_weight 20 = .ok (.invokespecial 25, 3) := dk_183 0 25 (dk_at dksX7_weight_0 20 rfl rfl)
theorem dX7_weight_23 : decode cX7_weight 23 = .ok (.iconst 1, 1) := dk_4 (dk_at dksX7_weight_0 23 rfl rfl)
theorem dX7_weight_24 : decode cX7_weight 24 = .ok (.iadd, 1) := dk_96 (dk_at dksX7_weight_1 0 rfl rfl)
theorem dX7_weight_25 : decode cX7_weight 25 = .ok (.ireturn, 1) := dk_172 (dk_at dksX7_weight_1 1 rfl rfl)
abbrev cX7_says : ByteArray := prog_14_method_4_code
def yX7_says : MethodName := ⟨RX7, "says", "(ILPictureBlock$Trace;)I"⟩
def dkwX7_says_0 : List UInt8 := [44, 16, 30, 182, 0, 29, 3, 42, 27, 44, 183, 0, 35, 100, 172]
abbrev dktX7_says_0 : List UInt8 := dkwX7_says_0 ++ []
theorem dksX7_says_0 : cX7_says.data.toList.drop 0 = dktX7_says_0 := by decide +kernel
theorem dX7_says_0 : decode cX7_says 0 = .ok (.aload_n 2, 1) := dk_44 (dk_at dksX7_says_0 0 rfl rfl)
theorem dX7_says_1 : decode cX7_says 1 = .ok (.bipush 30, 2) := dk_16 30 (dk_at dksX7_says_0 1 rfl rfl)
theorem dX7_says_3 : decode cX7_says 3 = .ok (.invokevirtual 29, 3) := dk_182 0 29 (dk_at dksX7_says_0 3 rfl rfl)
theorem dX7_says_6 : decode cX7_says 6 = .ok (.iconst 0, 1) := dk_3 (dk_at dksX7_says_0 6 rfl rfl)
theorem dX7_says_7 : decode cX7_says 7 = .ok (.aload_n 0, 1) := dk_42 (dk_at dksX7_says_0 7 rfl rfl)
theorem dX7_says_8 : decode cX7_says 8 = .ok (.iload_n 1, 1) := dk_27 (dk_at dksX7_says_0 8 rfl rfl)
theorem dX7_says_9 : decode cX7_says 9 = .ok (.aload_n 2, 1) := dk_44 (dk_at dksX7_says_0 9 rfl rfl)
theorem dX7_says_10 : decode cX7_says 10 = .ok (.invokespecial 35, 3) := dk_183 0 35 (dk_at dksX7_says_0 10 rfl rfl)
theorem dX7_says_13 : decode cX7_says 13 = .ok (.isub, 1) := dk_100 (dk_at dksX7_says_0 13 rfl rfl)
theorem dX7_says_14 : decode cX7_says 14 = .ok (.ireturn, 1) := dk_172 (dk_at dksX7_says_0 14 rfl rfl)
theorem q93 : (Jvm.Cond.initialized "PictureBlock$Star") ∈ lw_all := lw_g (lw_at lw_m1 8 rfl) rfl
theorem q308 : (Jvm.Cond.fieldLink "PictureBlock$Star" (13 : Nat) "PictureBlock$Star" "number" "I") ∈ lw_all := lw_g (lw_at lw_m1 223 rfl) rfl
theorem q309 : (Jvm.Cond.sameField "PictureBlock$Star" "PictureBlock$Mark" "number" "I") ∈ lw_all := lw_g (lw_at lw_m1 224 rfl) rfl
theorem q326 : (Jvm.Cond.instantiable "PictureBlock$Star" (2 : Nat)) ∈ lw_all := lw_g (lw_at lw_m2 1 rfl) rfl
theorem q328 : (Jvm.Cond.instanceMethod ({ cls := "PictureBlock$Star", name := "<init>", desc := "(II)V" } : Jvm.MethodName)) ∈ lw_all := lw_g (lw_at lw_m2 3 rfl) rfl
theorem q329 : (Jvm.Cond.code ({ cls := "PictureBlock$Star", name := "<init>", desc := "(II)V" } : Jvm.MethodName) prog_14_method_1_code (3 : Nat) (Option.none : Option Jvm.ClassFile.FieldType)) ∈ lw_all := lw_g (lw_at lw_m2 4 rfl) rfl
theorem q330 : (Jvm.Cond.methodLink "PictureBlock$Star" (3 : Nat) ({ cls := "PictureBlock$Mark", name := "<init>", desc := "(II)V" } : Jvm.MethodName)) ∈ lw_all := lw_g (lw_at lw_m2 5 rfl) rfl
theorem q331 : (Jvm.Cond.laysFinal "PictureBlock$Star" "PictureBlock$Mark" "number" "I") ∈ lw_all := lw_g (lw_at lw_m2 6 rfl) rfl
theorem q332 : (Jvm.Cond.laysFinal "PictureBlock$Star" "PictureBlock$Mark" "m" "I") ∈ lw_all := lw_g (lw_at lw_m2 7 rfl) rfl
theorem q333 : (Jvm.Cond.superclass "PictureBlock$Star" "PictureBlock$Mark") ∈ lw_all := lw_g (lw_at lw_m2 8 rfl) rfl
theorem q404 : (Jvm.Cond.instanceMethod ({ cls := "PictureBlock$Star", name := "kind", desc := "()I" } : Jvm.MethodName)) ∈ lw_all := lw_g (lw_at lw_m2 79 rfl) rfl
theorem q405 : (Jvm.Cond.code ({ cls := "PictureBlock$Star", name := "kind", desc := "()I" } : Jvm.MethodName) prog_14_method_2_code (1 : Nat) (Option.some Jvm.ClassFile.FieldType.int)) ∈ lw_all := lw_g (lw_at lw_m2 80 rfl) rfl
theorem q406 : (Jvm.Cond.methodLink "PictureBlock$Star" (9 : Nat) ({ cls := "PictureBlock$Mark", name := "kind", desc := "()I" } : Jvm.MethodName)) ∈ lw_all := lw_g (lw_at lw_m2 81 rfl) rfl
theorem q416 : (Jvm.Cond.selects "PictureBlock$Star" ({ cls := "PictureBlock$Mark", name := "kind", desc := "()I" } : Jvm.MethodName) ({ cls := "PictureBlock$Star", name := "kind", desc := "()I" } : Jvm.MethodName)) ∈ lw_all := lw_g (lw_at lw_m2 91 rfl) rfl
theorem q455 : (Jvm.Cond.instanceMethod ({ cls := "PictureBlock$Star", name := "weight", desc := "(LPictureBlock$Block;)I" } : Jvm.MethodName)) ∈ lw_all := lw_g (lw_at lw_m2 130 rfl) rfl
theorem q456 : (Jvm.Cond.code ({ cls := "PictureBlock$Star", name := "weight", desc := "(LPictureBlock$Block;)I" } : Jvm.MethodName) prog_14_method_3_code (2 : Nat) (Option.some Jvm.ClassFile.FieldType.int)) ∈ lw_all := lw_g (lw_at lw_m2 131 rfl) rfl
theorem q457 : (Jvm.Cond.interfaceEntry "PictureBlock$Star" (19 : Nat)) ∈ lw_tbl := lw_at lw_m2 132 rfl
theorem q458 : (Jvm.Cond.methodLink "PictureBlock$Star" (19 : Nat) ({ cls := "PictureBlock$Block", name := "marks", desc := "(I)I" } : Jvm.MethodName)) ∈ lw_all := lw_g (lw_at lw_m2 133 rfl) rfl
theorem q466 : (Jvm.Cond.methodLink "PictureBlock$Star" (25 : Nat) ({ cls := "PictureBlock$Mark", name := "weight", desc := "(LPictureBlock$Block;)I" } : Jvm.MethodName)) ∈ lw_all := lw_g (lw_at lw_m2 141 rfl) rfl
theorem q489 : (Jvm.Cond.castable "PictureBlock$Star" "PictureBlock$Seen") ∈ lw_tbl := lw_at lw_m2 164 rfl
theorem q490 : (Jvm.Cond.selects "PictureBlock$Star" ({ cls := "PictureBlock$Seen", name := "weight", desc := "(LPictureBlock$Block;)I" } : Jvm.MethodName) ({ cls := "PictureBlock$Star", name := "weight", desc := "(LPictureBlock$Block;)I" } : Jvm.MethodName)) ∈ lw_all := lw_g (lw_at lw_m2 165 rfl) rfl
theorem q491 : (Jvm.Cond.unhidden "PictureBlock$Star" "weight" "(LPictureBlock$Block;)I") ∈ lw_tbl := lw_at lw_m2 166 rfl
theorem q492 : (Jvm.Cond.publicMethod ({ cls := "PictureBlock$Star", name := "weight", desc := "(LPictureBlock$Block;)I" } : Jvm.MethodName)) ∈ lw_tbl := lw_at lw_m2 167 rfl
theorem q547 : (Jvm.Cond.sameMethod "PictureBlock$Star" "PictureBlock$Mark" "value" "(LPictureBlock$Block;)I") ∈ lw_all := lw_g (lw_at lw_m2 222 rfl) rfl
theorem q566 : (Jvm.Cond.selects "PictureBlock$Star" ({ cls := "PictureBlock$Seen", name := "value", desc := "(LPictureBlock$Block;)I" } : Jvm.MethodName) ({ cls := "PictureBlock$Mark", name := "value", desc := "(LPictureBlock$Block;)I" } : Jvm.MethodName)) ∈ lw_all := lw_g (lw_at lw_m3 1 rfl) rfl
theorem q567 : (Jvm.Cond.unhidden "PictureBlock$Star" "value" "(LPictureBlock$Block;)I") ∈ lw_tbl := lw_at lw_m3 2 rfl
theorem q1079 : (Jvm.Cond.selects "PictureBlock$Star" ({ cls := "PictureBlock$Mark", name := "weighs", desc := "(ILPictureBlock$Trace;)I" } : Jvm.MethodName) ({ cls := "PictureBlock$Mark", name := "weighs", desc := "(ILPictureBlock$Trace;)I" } : Jvm.MethodName)) ∈ lw_all := lw_g (lw_at lw_m5 34 rfl) rfl
theorem q1089 : (Jvm.Cond.instanceMethod ({ cls := "PictureBlock$Star", name := "says", desc := "(ILPictureBlock$Trace;)I" } : Jvm.MethodName)) ∈ lw_all := lw_g (lw_at lw_m5 44 rfl) rfl
theorem q1090 : (Jvm.Cond.code ({ cls := "PictureBlock$Star", name := "says", desc := "(ILPictureBlock$Trace;)I" } : Jvm.MethodName) prog_14_method_4_code (3 : Nat) (Option.some Jvm.ClassFile.FieldType.int)) ∈ lw_all := lw_g (lw_at lw_m5 45 rfl) rfl
theorem q1091 : (Jvm.Cond.methodLink "PictureBlock$Star" (29 : Nat) ({ cls := "PictureBlock$Trace", name := "ran", desc := "(I)V" } : Jvm.MethodName)) ∈ lw_all := lw_g (lw_at lw_m5 46 rfl) rfl
theorem q1121 : (Jvm.Cond.castable "PictureBlock$Star" "PictureBlock$Weighs") ∈ lw_tbl := lw_at lw_m5 76 rfl
theorem q1122 : (Jvm.Cond.selects "PictureBlock$Star" ({ cls := "PictureBlock$Weighs", name := "weighs", desc := "(ILPictureBlock$Trace;)I" } : Jvm.MethodName) ({ cls := "PictureBlock$Mark", name := "weighs", desc := "(ILPictureBlock$Trace;)I" } : Jvm.MethodName)) ∈ lw_all := lw_g (lw_at lw_m5 77 rfl) rfl
theorem q1123 : (Jvm.Cond.unhidden "PictureBlock$Star" "weighs" "(ILPictureBlock$Trace;)I") ∈ lw_tbl := lw_at lw_m5 78 rfl
theorem q1130 : (Jvm.Cond.selects "PictureBlock$Star" ({ cls := "PictureBlock$Weighs", name := "says", desc := "(ILPictureBlock$Trace;)I" } : Jvm.MethodName) ({ cls := "PictureBlock$Star", name := "says", desc := "(ILPictureBlock$Trace;)I" } : Jvm.MethodName)) ∈ lw_all := lw_g (lw_at lw_m5 85 rfl) rfl
theorem q1150 : (Jvm.Cond.selects "PictureBlock$Star" ({ cls := "PictureBlock$Mark", name := "ties", desc := "(ILPictureBlock$Trace;)I" } : Jvm.MethodName) ({ cls := "PictureBlock$Mark", name := "ties", desc := "(ILPictureBlock$Trace;)I" } : Jvm.MethodName)) ∈ lw_all := lw_g (lw_at lw_m5 105 rfl) rfl
theorem q1164 : (Jvm.Cond.selects "PictureBlock$Star" ({ cls := "PictureBlock$Mark", name := "parts", desc := "(ILPictureBlock$Trace;)I" } : Jvm.MethodName) ({ cls := "PictureBlock$Mark", name := "parts", desc := "(ILPictureBlock$Trace;)I" } : Jvm.MethodName)) ∈ lw_all := lw_g (lw_at lw_m5 119 rfl) rfl
theorem q1750 : (Jvm.Cond.sameMethod "PictureBlock$Star" "PictureBlock$Star" "kind" "()I") ∈ lw_all := lw_g (lw_at lw_m7 225 rfl) rfl
theorem q1753 : (Jvm.Cond.sameMethod "PictureBlock$Star" "PictureBlock$Star" "weight" "(LPictureBlock$Block;)I") ∈ lw_all := lw_g (lw_at lw_m7 228 rfl) rfl
theorem q1758 : (Jvm.Cond.sameMethod "PictureBlock$Star" "PictureBlock$Star" "says" "(ILPictureBlock$Trace;)I") ∈ lw_all := lw_g (lw_at lw_m7 233 rfl) rfl
theorem q1764 : (Jvm.Cond.castable "PictureBlock$Star" "PictureBlock$Mark") ∈ lw_tbl := lw_at lw_m7 239 rfl
theorem in_X7 : ∀ w ∈ wsX70, w ∈ lw_all := lw_in wsX70 [331, 332] (by decide +kernel) (by decide +kernel)

/-! PictureBlock$Peak -/
set_option maxRecDepth 100000
def RX8 : String := "PictureBlock$Peak"
def TX8 : u_T := fun k => match k with
  | 0 => ("PictureBlock$Mark", "number", "I", true)
  | _ => ("PictureBlock$Mark", "m", "I", true)
def tyX8 : Nat → FieldType := fun k => match k with
  | 0 => .int
  | _ => .int
abbrev wsX80 : List Cond := u_ws RX8 TX8 2
theorem nmX8 : ∀ a, a < 2 → ∀ b, b < 2 → a ≠ b → (TX8 a).2.1 ≠ (TX8 b).2.1 := by decide +kernel
theorem tyX8_ok : ∀ k, k < 2 → parseFieldDescriptor (TX8 k).2.2.1 = some (tyX8 k) := by decide +kernel
abbrev cX8_init : ByteArray := prog_9_method_1_code
def yX8_init : MethodName := ⟨RX8, "<init>", "(II)V"⟩
def dkwX8_init_0 : List UInt8 := [42, 27, 28, 183, 0, 3, 177]
abbrev dktX8_init_0 : List UInt8 := dkwX8_init_0 ++ []
theorem dksX8_init_0 : cX8_init.data.toList.drop 0 = dktX8_init_0 := by decide +kernel
theorem dX8_init_0 : decode cX8_init 0 = .ok (.aload_n 0, 1) := dk_42 (dk_at dksX8_init_0 0 rfl rfl)
theorem dX8_init_1 : decode cX8_init 1 = .ok (.iload_n 1, 1) := dk_27 (dk_at dksX8_init_0 1 rfl rfl)
theorem dX8_init_2 : decode cX8_init 2 = .ok (.iload_n 2, 1) := dk_28 (dk_at dksX8_init_0 2 rfl rfl)
theorem dX8_init_3 : decode cX8_init 3 = .ok (.invokespecial 3, 3) := dk_183 0 3 (dk_at dksX8_init_0 3 rfl rfl)
theorem dX8_init_6 : decode cX8_init 6 = .ok (.return_, 1) := dk_177 (dk_at dksX8_init_0 6 rfl rfl)
abbrev cX8_kind : ByteArray := prog_9_method_2_code
def yX8_kind : MethodName := ⟨RX8, "kind", "()I"⟩
def dkwX8_kind_0 : List UInt8 := [42, 183, 0, 9, 6, 96, 172]
abbrev dktX8_kind_0 : List UInt8 := dkwX8_kind_0 ++ []
theorem dksX8_kind_0 : cX8_kind.data.toList.drop 0 = dktX8_kind_0 := by decide +kernel
theorem dX8_kind_0 : decode cX8_kind 0 = .ok (.aload_n 0, 1) := dk_42 (dk_at dksX8_kind_0 0 rfl rfl)
theorem dX8_kind_1 : decode cX8_kind 1 = .ok (.invokespecial 9, 3) := dk_183 0 9 (dk_at dksX8_kind_0 1 rfl rfl)
theorem dX8_kind_4 : decode cX8_kind 4 = .ok (.iconst 3, 1) := dk_6 (dk_at dksX8_kind_0 4 rfl rfl)
theorem dX8_kind_5 : decode cX8_kind 5 = .ok (.iadd, 1) := dk_96 (dk_at dksX8_kind_0 5 rfl rfl)
theorem dX8_kind_6 : decode cX8_kind 6 = .ok (.ireturn, 1) := dk_172 (dk_at dksX8_kind_0 6 rfl rfl)
abbrev cX8_weight : ByteArray := prog_9_method_3_code
def yX8_weight : MethodName := ⟨RX8, "weight", "(LPictureBlock$Block;)I"⟩
def dkwX8_weight_0 : List UInt8 := [42, 180, 0, 13, 7, 164, 0, 7, 7, 167, 0, 8, 42, 43, 183, 0, 19, 172]
abbrev dktX8_weight_0 : List UInt8 := dkwX8_weight_0 ++ []
theorem dksX8_weight_0 : cX8_weight.data.toList.drop 0 = dktX8_weight_0 := by decide +kernel
theorem dX8_weight_0 : decode cX8_weight 0 = .ok (.aload_n 0, 1) := dk_42 (dk_at dksX8_weight_0 0 rfl rfl)
theorem dX8_weight_1 : decode cX8_weight 1 = .ok (.getfield 13, 3) := dk_180 0 13 (dk_at dksX8_weight_0 1 rfl rfl)
theorem dX8_weight_4 : decode cX8_weight 4 = .ok (.iconst 4, 1) := dk_7 (dk_at dksX8_weight_0 4 rfl rfl)
theorem dX8_weight_5 : decode cX8_weight 5 = .ok (.if_icmp .le 7, 3) := dk_164 0 7 (dk_at dksX8_weight_0 5 rfl rfl)
theorem dX8_weight_8 : decode cX8_weight 8 = .ok (.iconst 4, 1) := dk_7 (dk_at dksX8_weight_0 8 rfl rfl)
theorem dX8_weight_9 : decode cX8_weight 9 = .ok (.goto 8, 3) := dk_167 0 8 (dk_at dksX8_weight_0 9 rfl rfl)
theorem dX8_weight_12 : decode cX8_weight 12 = .ok (.aload_n 0, 1) := dk_42 (dk_at dksX8_weight_0 12 rfl rfl)
theorem dX8_weight_13 : decode cX8_weight 13 = .ok (.aload_n 1, 1) := dk_43 (dk_at dksX8_weight_0 13 rfl rfl)
theorem dX8_weight_14 : decode cX8_weight 14 = .ok (.invokespecial 19, 3) := dk_183 0 19 (dk_at dksX8_weight_0 14 rfl rfl)
theorem dX8_weight_17 : decode cX8_weight 17 = .ok (.ireturn, 1) := dk_172 (dk_at dksX8_weight_0 17 rfl rfl)
abbrev cX8_value : ByteArray := prog_9_method_4_code
def yX8_value : MethodName := ⟨RX8, "value", "(LPictureBlock$Block;)I"⟩
def dkwX8_value_0 : List UInt8 := [42, 43, 183, 0, 23, 42, 180, 0, 13, 6, 112, 96, 4, 100, 172]
abbrev dktX8_value_0 : List UInt8 := dkwX8_value_0 ++ []
theorem dksX8_value_0 : cX8_value.data.toList.drop 0 = dktX8_value_0 := by decide +kernel
theorem dX8_value_0 : decode cX8_value 0 = .ok (.aload_n 0, 1) := dk_42 (dk_at dksX8_value_0 0 rfl rfl)
theorem dX8_value_1 : decode cX8_value 1 = .ok (.aload_n 1, 1) := dk_43 (dk_at dksX8_value_0 1 rfl rfl)
theorem dX8_value_2 : decode cX8_value 2 = .ok (.invokespecial 23, 3) := dk_183 0 23 (dk_at dksX8_value_0 2 rfl rfl)
theorem dX8_value_5 : decode cX8_value 5 = .ok (.aload_n 0, 1) := dk_42 (dk_at dksX8_value_0 5 rfl rfl)
theorem dX8_value_6 : decode cX8_value 6 = .ok (.getfield 13, 3) := dk_180 0 13 (dk_at dksX8_value_0 6 rfl rfl)
theorem dX8_value_9 : decode cX8_value 9 = .ok (.iconst 3, 1) := dk_6 (dk_at dksX8_value_0 9 rfl rfl)
theorem dX8_value_10 : decode cX8_value 10 = .ok (.irem, 1) := dk_112 (dk_at dksX8_value_0 10 rfl rfl)
theorem dX8_value_11 : decode cX8_value 11 = .ok (.iadd, 1) := dk_96 (dk_at dksX8_value_0 11 rfl rfl)
theorem dX8_value_12 : decode cX8_value 12 = .ok (.iconst 1, 1) := dk_4 (dk_at dksX8_value_0 12 rfl rfl)
theorem dX8_value_13 : decode cX8_value 13 = .ok (.isub, 1) := dk_100 (dk_at dksX8_value_0 13 rfl rfl)
theorem dX8_value_14 : decode cX8_value 14 = .ok (.ireturn, 1) := dk_172 (dk_at dksX8_value_0 14 rfl rfl)
abbrev cX8_ties : ByteArray := prog_9_method_5_code
def yX8_ties : MethodName := ⟨RX8, "ties", "(ILPictureBlock$Trace;)I"⟩
def dkwX8_ties_0 : List UInt8 := [44, 16, 40, 182, 0, 26, 42, 27, 5, 108, 44, 183, 0, 32, 172]
abbrev dktX8_ties_0 : List UInt8 := dkwX8_ties_0 ++ []
theorem dksX8_ties_0 : cX8_ties.data.toList.drop 0 = dktX8_ties_0 := by decide +kernel
theorem dX8_ties_0 : decode cX8_ties 0 = .ok (.aload_n 2, 1) := dk_44 (dk_at dksX8_ties_0 0 rfl rfl)
theorem dX8_ties_1 : decode cX8_ties 1 = .ok (.bipush 40, 2) := dk_16 40 (dk_at dksX8_ties_0 1 rfl rfl)
theorem dX8_ties_3 : decode cX8_ties 3 = .ok (.invokevirtual 26, 3) := dk_182 0 26 (dk_at dksX8_ties_0 3 rfl rfl)
theorem dX8_ties_6 : decode cX8_ties 6 = .ok (.aload_n 0, 1) := dk_42 (dk_at dksX8_ties_0 6 rfl rfl)
theorem dX8_ties_7 : decode cX8_ties 7 = .ok (.iload_n 1, 1) := dk_27 (dk_at dksX8_ties_0 7 rfl rfl)
theorem dX8_ties_8 : decode cX8_ties 8 = .ok (.iconst 2, 1) := dk_5 (dk_at dksX8_ties_0 8 rfl rfl)
theorem dX8_ties_9 : decode cX8_ties 9 = .ok (.idiv, 1) := dk_108 (dk_at dksX8_ties_0 9 rfl rfl)
theorem dX8_ties_10 : decode cX8_ties 10 = .ok (.aload_n 2, 1) := dk_44 (dk_at dksX8_ties_0 10 rfl rfl)
theorem dX8_ties_11 : decode cX8_ties 11 = .ok (.invokespecial 32, 3) := dk_183 0 32 (dk_at dksX8_ties_0 11 rfl rfl)
theorem dX8_ties_14 : decode cX8_ties 14 = .ok (.ireturn, 1) := dk_172 (dk_at dksX8_ties_0 14 rfl rfl)
theorem q94 : (Jvm.Cond.initialized "PictureBlock$Peak") ∈ lw_all := lw_g (lw_at lw_m1 9 rfl) rfl
theorem q313 : (Jvm.Cond.fieldLink "PictureBlock$Peak" (13 : Nat) "PictureBlock$Peak" "m" "I") ∈ lw_all := lw_g (lw_at lw_m1 228 rfl) rfl
theorem q314 : (Jvm.Cond.sameField "PictureBlock$Peak" "PictureBlock$Mark" "m" "I") ∈ lw_all := lw_g (lw_at lw_m1 229 rfl) rfl
theorem q335 : (Jvm.Cond.instantiable "PictureBlock$Peak" (2 : Nat)) ∈ lw_all := lw_g (lw_at lw_m2 10 rfl) rfl
theorem q337 : (Jvm.Cond.instanceMethod ({ cls := "PictureBlock$Peak", name := "<init>", desc := "(II)V" } : Jvm.MethodName)) ∈ lw_all := lw_g (lw_at lw_m2 12 rfl) rfl
theorem q338 : (Jvm.Cond.code ({ cls := "PictureBlock$Peak", name := "<init>", desc := "(II)V" } : Jvm.MethodName) prog_9_method_1_code (3 : Nat) (Option.none : Option Jvm.ClassFile.FieldType)) ∈ lw_all := lw_g (lw_at lw_m2 13 rfl) rfl
theorem q339 : (Jvm.Cond.methodLink "PictureBlock$Peak" (3 : Nat) ({ cls := "PictureBlock$Mark", name := "<init>", desc := "(II)V" } : Jvm.MethodName)) ∈ lw_all := lw_g (lw_at lw_m2 14 rfl) rfl
theorem q340 : (Jvm.Cond.laysFinal "PictureBlock$Peak" "PictureBlock$Mark" "number" "I") ∈ lw_all := lw_g (lw_at lw_m2 15 rfl) rfl
theorem q341 : (Jvm.Cond.laysFinal "PictureBlock$Peak" "PictureBlock$Mark" "m" "I") ∈ lw_all := lw_g (lw_at lw_m2 16 rfl) rfl
theorem q342 : (Jvm.Cond.superclass "PictureBlock$Peak" "PictureBlock$Mark") ∈ lw_all := lw_g (lw_at lw_m2 17 rfl) rfl
theorem q408 : (Jvm.Cond.selects "PictureBlock$Peak" ({ cls := "PictureBlock$Mark", name := "kind", desc := "()I" } : Jvm.MethodName) ({ cls := "PictureBlock$Peak", name := "kind", desc := "()I" } : Jvm.MethodName)) ∈ lw_all := lw_g (lw_at lw_m2 83 rfl) rfl
theorem q409 : (Jvm.Cond.instanceMethod ({ cls := "PictureBlock$Peak", name := "kind", desc := "()I" } : Jvm.MethodName)) ∈ lw_all := lw_g (lw_at lw_m2 84 rfl) rfl
theorem q410 : (Jvm.Cond.code ({ cls := "PictureBlock$Peak", name := "kind", desc := "()I" } : Jvm.MethodName) prog_9_method_2_code (1 : Nat) (Option.some Jvm.ClassFile.FieldType.int)) ∈ lw_all := lw_g (lw_at lw_m2 85 rfl) rfl
theorem q411 : (Jvm.Cond.methodLink "PictureBlock$Peak" (9 : Nat) ({ cls := "PictureBlock$Mark", name := "kind", desc := "()I" } : Jvm.MethodName)) ∈ lw_all := lw_g (lw_at lw_m2 86 rfl) rfl
theorem q475 : (Jvm.Cond.castable "PictureBlock$Peak" "PictureBlock$Seen") ∈ lw_tbl := lw_at lw_m2 150 rfl
theorem q476 : (Jvm.Cond.selects "PictureBlock$Peak" ({ cls := "PictureBlock$Seen", name := "weight", desc := "(LPictureBlock$Block;)I" } : Jvm.MethodName) ({ cls := "PictureBlock$Peak", name := "weight", desc := "(LPictureBlock$Block;)I" } : Jvm.MethodName)) ∈ lw_all := lw_g (lw_at lw_m2 151 rfl) rfl
theorem q477 : (Jvm.Cond.unhidden "PictureBlock$Peak" "weight" "(LPictureBlock$Block;)I") ∈ lw_tbl := lw_at lw_m2 152 rfl
theorem q478 : (Jvm.Cond.instanceMethod ({ cls := "PictureBlock$Peak", name := "weight", desc := "(LPictureBlock$Block;)I" } : Jvm.MethodName)) ∈ lw_all := lw_g (lw_at lw_m2 153 rfl) rfl
theorem q479 : (Jvm.Cond.publicMethod ({ cls := "PictureBlock$Peak", name := "weight", desc := "(LPictureBlock$Block;)I" } : Jvm.MethodName)) ∈ lw_tbl := lw_at lw_m2 154 rfl
theorem q480 : (Jvm.Cond.code ({ cls := "PictureBlock$Peak", name := "weight", desc := "(LPictureBlock$Block;)I" } : Jvm.MethodName) prog_9_method_3_code (2 : Nat) (Option.some Jvm.ClassFile.FieldType.int)) ∈ lw_all := lw_g (lw_at lw_m2 155 rfl) rfl
theorem q481 : (Jvm.Cond.methodLink "PictureBlock$Peak" (19 : Nat) ({ cls := "PictureBlock$Mark", name := "weight", desc := "(LPictureBlock$Block;)I" } : Jvm.MethodName)) ∈ lw_all := lw_g (lw_at lw_m2 156 rfl) rfl
theorem q553 : (Jvm.Cond.selects "PictureBlock$Peak" ({ cls := "PictureBlock$Seen", name := "value", desc := "(LPictureBlock$Block;)I" } : Jvm.MethodName) ({ cls := "PictureBlock$Peak", name := "value", desc := "(LPictureBlock$Block;)I" } : Jvm.MethodName)) ∈ lw_all := lw_g (lw_at lw_m2 228 rfl) rfl
theorem q554 : (Jvm.Cond.unhidden "PictureBlock$Peak" "value" "(LPictureBlock$Block;)I") ∈ lw_tbl := lw_at lw_m2 229 rfl
theorem q555 : (Jvm.Cond.instanceMethod ({ cls := "PictureBlock$Peak", name := "value", desc := "(LPictureBlock$Block;)I" } : Jvm.MethodName)) ∈ lw_all := lw_g (lw_at lw_m2 230 rfl) rfl
theorem q556 : (Jvm.Cond.publicMethod ({ cls := "PictureBlock$Peak", name := "value", desc := "(LPictureBlock$Block;)I" } : Jvm.MethodName)) ∈ lw_tbl := lw_at lw_m2 231 rfl
theorem q557 : (Jvm.Cond.code ({ cls := "PictureBlock$Peak", name := "value", desc := "(LPictureBlock$Block;)I" } : Jvm.MethodName) prog_9_method_4_code (2 : Nat) (Option.some Jvm.ClassFile.FieldType.int)) ∈ lw_all := lw_g (lw_at lw_m2 232 rfl) rfl
theorem q558 : (Jvm.Cond.methodLink "PictureBlock$Peak" (23 : Nat) ({ cls := "PictureBlock$Mark", name := "value", desc := "(LPictureBlock$Block;)I" } : Jvm.MethodName)) ∈ lw_all := lw_g (lw_at lw_m2 233 rfl) rfl
theorem q1074 : (Jvm.Cond.selects "PictureBlock$Peak" ({ cls := "PictureBlock$Mark", name := "weighs", desc := "(ILPictureBlock$Trace;)I" } : Jvm.MethodName) ({ cls := "PictureBlock$Mark", name := "weighs", desc := "(ILPictureBlock$Trace;)I" } : Jvm.MethodName)) ∈ lw_all := lw_g (lw_at lw_m5 29 rfl) rfl
theorem q1114 : (Jvm.Cond.castable "PictureBlock$Peak" "PictureBlock$Weighs") ∈ lw_tbl := lw_at lw_m5 69 rfl
theorem q1115 : (Jvm.Cond.selects "PictureBlock$Peak" ({ cls := "PictureBlock$Weighs", name := "weighs", desc := "(ILPictureBlock$Trace;)I" } : Jvm.MethodName) ({ cls := "PictureBlock$Mark", name := "weighs", desc := "(ILPictureBlock$Trace;)I" } : Jvm.MethodName)) ∈ lw_all := lw_g (lw_at lw_m5 70 rfl) rfl
theorem q1116 : (Jvm.Cond.unhidden "PictureBlock$Peak" "weighs" "(ILPictureBlock$Trace;)I") ∈ lw_tbl := lw_at lw_m5 71 rfl
theorem q1126 : (Jvm.Cond.unhidden "PictureBlock$Peak" "says" "(ILPictureBlock$Trace;)I") ∈ lw_tbl := lw_at lw_m5 81 rfl
theorem q1144 : (Jvm.Cond.selects "PictureBlock$Peak" ({ cls := "PictureBlock$Mark", name := "ties", desc := "(ILPictureBlock$Trace;)I" } : Jvm.MethodName) ({ cls := "PictureBlock$Peak", name := "ties", desc := "(ILPictureBlock$Trace;)I" } : Jvm.MethodName)) ∈ lw_all := lw_g (lw_at lw_m5 99 rfl) rfl
theorem q1145 : (Jvm.Cond.instanceMethod ({ cls := "PictureBlock$Peak", name := "ties", desc := "(ILPictureBlock$Trace;)I" } : Jvm.MethodName)) ∈ lw_all := lw_g (lw_at lw_m5 100 rfl) rfl
theorem q1146 : (Jvm.Cond.code ({ cls := "PictureBlock$Peak", name := "ties", desc := "(ILPictureBlock$Trace;)I" } : Jvm.MethodName) prog_9_method_5_code (3 : Nat) (Option.some Jvm.ClassFile.FieldType.int)) ∈ lw_all := lw_g (lw_at lw_m5 101 rfl) rfl
theorem q1147 : (Jvm.Cond.methodLink "PictureBlock$Peak" (26 : Nat) ({ cls := "PictureBlock$Trace", name := "ran", desc := "(I)V" } : Jvm.MethodName)) ∈ lw_all := lw_g (lw_at lw_m5 102 rfl) rfl
theorem q1148 : (Jvm.Cond.methodLink "PictureBlock$Peak" (32 : Nat) ({ cls := "PictureBlock$Mark", name := "ties", desc := "(ILPictureBlock$Trace;)I" } : Jvm.MethodName)) ∈ lw_all := lw_g (lw_at lw_m5 103 rfl) rfl
theorem q1162 : (Jvm.Cond.selects "PictureBlock$Peak" ({ cls := "PictureBlock$Mark", name := "parts", desc := "(ILPictureBlock$Trace;)I" } : Jvm.MethodName) ({ cls := "PictureBlock$Mark", name := "parts", desc := "(ILPictureBlock$Trace;)I" } : Jvm.MethodName)) ∈ lw_all := lw_g (lw_at lw_m5 117 rfl) rfl
theorem q1762 : (Jvm.Cond.castable "PictureBlock$Peak" "PictureBlock$Mark") ∈ lw_tbl := lw_at lw_m7 237 rfl
theorem in_X8 : ∀ w ∈ wsX80, w ∈ lw_all := lw_in wsX80 [340, 341] (by decide +kernel) (by decide +kernel)

/-! PictureBlock$Air -/
set_option maxRecDepth 100000
def RX9 : String := "PictureBlock$Air"
def TX9 : u_T := fun k => match k with
  | 0 => ("PictureBlock$Mark", "number", "I", true)
  | _ => ("PictureBlock$Mark", "m", "I", true)
def tyX9 : Nat → FieldType := fun k => match k with
  | 0 => .int
  | _ => .int
abbrev wsX90 : List Cond := u_ws RX9 TX9 2
theorem nmX9 : ∀ a, a < 2 → ∀ b, b < 2 → a ≠ b → (TX9 a).2.1 ≠ (TX9 b).2.1 := by decide +kernel
theorem tyX9_ok : ∀ k, k < 2 → parseFieldDescriptor (TX9 k).2.2.1 = some (tyX9 k) := by decide +kernel
abbrev cX9_init : ByteArray := prog_2_method_1_code
def yX9_init : MethodName := ⟨RX9, "<init>", "(II)V"⟩
def dkwX9_init_0 : List UInt8 := [42, 27, 28, 183, 0, 1, 177]
abbrev dktX9_init_0 : List UInt8 := dkwX9_init_0 ++ []
theorem dksX9_init_0 : cX9_init.data.toList.drop 0 = dktX9_init_0 := by decide +kernel
theorem dX9_init_0 : decode cX9_init 0 = .ok (.aload_n 0, 1) := dk_42 (dk_at dksX9_init_0 0 rfl rfl)
theorem dX9_init_1 : decode cX9_init 1 = .ok (.iload_n 1, 1) := dk_27 (dk_at dksX9_init_0 1 rfl rfl)
theorem dX9_init_2 : decode cX9_init 2 = .ok (.iload_n 2, 1) := dk_28 (dk_at dksX9_init_0 2 rfl rfl)
theorem dX9_init_3 : decode cX9_init 3 = .ok (.invokespecial 1, 3) := dk_183 0 1 (dk_at dksX9_init_0 3 rfl rfl)
theorem dX9_init_6 : decode cX9_init 6 = .ok (.return_, 1) := dk_177 (dk_at dksX9_init_0 6 rfl rfl)
abbrev cX9_kind : ByteArray := prog_2_method_2_code
def yX9_kind : MethodName := ⟨RX9, "kind", "()I"⟩
def dkwX9_kind_0 : List UInt8 := [42, 183, 0, 7, 6, 96, 172]
abbrev dktX9_kind_0 : List UInt8 := dkwX9_kind_0 ++ []
theorem dksX9_kind_0 : cX9_kind.data.toList.drop 0 = dktX9_kind_0 := by decide +kernel
theorem dX9_kind_0 : decode cX9_kind 0 = .ok (.aload_n 0, 1) := dk_42 (dk_at dksX9_kind_0 0 rfl rfl)
theorem dX9_kind_1 : decode cX9_kind 1 = .ok (.invokespecial 7, 3) := dk_183 0 7 (dk_at dksX9_kind_0 1 rfl rfl)
theorem dX9_kind_4 : decode cX9_kind 4 = .ok (.iconst 3, 1) := dk_6 (dk_at dksX9_kind_0 4 rfl rfl)
theorem dX9_kind_5 : decode cX9_kind 5 = .ok (.iadd, 1) := dk_96 (dk_at dksX9_kind_0 5 rfl rfl)
theorem dX9_kind_6 : decode cX9_kind 6 = .ok (.ireturn, 1) := dk_172 (dk_at dksX9_kind_0 6 rfl rfl)
abbrev cX9_weight : ByteArray := prog_2_method_3_code
def yX9_weight : MethodName := ⟨RX9, "weight", "(LPictureBlock$Block;)I"⟩
def dkwX9_weight_0 : List UInt8 := [43, 185, 0, 11, 1, 0, 5, 112, 154, 0, 11, 42, 43, 183, 0, 16, 167, 0, 4, 4, 172]
abbrev dktX9_weight_0 : List UInt8 := dkwX9_weight_0 ++ []
theorem dksX9_weight_0 : cX9_weight.data.toList.drop 0 = dktX9_weight_0 := by decide +kernel
theorem dX9_weight_0 : decode cX9_weight 0 = .ok (.aload_n 1, 1) := dk_43 (dk_at dksX9_weight_0 0 rfl rfl)
theorem dX9_weight_1 : decode cX9_weight 1 = .ok (.invokeinterface 11 1, 5) := by decide +kernel
theorem dX9_weight_6 : decode cX9_weight 6 = .ok (.iconst 2, 1) := dk_5 (dk_at dksX9_weight_0 6 rfl rfl)
theorem dX9_weight_7 : decode cX9_weight 7 = .ok (.irem, 1) := dk_112 (dk_at dksX9_weight_0 7 rfl rfl)
theorem dX9_weight_8 : decode cX9_weight 8 = .ok (.ifCond .ne 11, 3) := dk_154 0 11 (dk_at dksX9_weight_0 8 rfl rfl)
theorem dX9_weight_11 : decode cX9_weight 11 = .ok (.aload_n 0, 1) := dk_42 (dk_at dksX9_weight_0 11 rfl rfl)
theorem dX9_weight_12 : decode cX9_weight 12 = .ok (.aload_n 1, 1) := dk_43 (dk_at dksX9_weight_0 12 rfl rfl)
theorem dX9_weight_13 : decode cX9_weight 13 = .ok (.invokespecial 16, 3) := dk_183 0 16 (dk_at dksX9_weight_0 13 rfl rfl)
theorem dX9_weight_16 : decode cX9_weight 16 = .ok (.goto 4, 3) := dk_167 0 4 (dk_at dksX9_weight_0 16 rfl rfl)
theorem dX9_weight_19 : decode cX9_weight 19 = .ok (.iconst 1, 1) := dk_4 (dk_at dksX9_weight_0 19 rfl rfl)
theorem dX9_weight_20 : decode cX9_weight 20 = .ok (.ireturn, 1) := dk_172 (dk_at dksX9_weight_0 20 rfl rfl)
abbrev cX9_value : ByteArray := prog_2_method_4_code
def yX9_value : MethodName := ⟨RX9, "value", "(LPictureBlock$Block;)I"⟩
def dkwX9_value_0 : List UInt8 := [42, 43, 183, 0, 20, 43, 185, 0, 11, 1, 0, 42, 180, 0, 23, 4, 96, 112, 96, 172]
abbrev dktX9_value_0 : List UInt8 := dkwX9_value_0 ++ []
theorem dksX9_value_0 : cX9_value.data.toList.drop 0 = dktX9_value_0 := by decide +kernel
theorem dX9_value_0 : decode cX9_value 0 = .ok (.aload_n 0, 1) := dk_42 (dk_at dksX9_value_0 0 rfl rfl)
theorem dX9_value_1 : decode cX9_value 1 = .ok (.aload_n 1, 1) := dk_43 (dk_at dksX9_value_0 1 rfl rfl)
theorem dX9_value_2 : decode cX9_value 2 = .ok (.invokespecial 20, 3) := dk_183 0 20 (dk_at dksX9_value_0 2 rfl rfl)
theorem dX9_value_5 : decode cX9_value 5 = .ok (.aload_n 1, 1) := dk_43 (dk_at dksX9_value_0 5 rfl rfl)
theorem dX9_value_6 : decode cX9_value 6 = .ok (.invokeinterface 11 1, 5) := by decide +kernel
theorem dX9_value_11 : decode cX9_value 11 = .ok (.aload_n 0, 1) := dk_42 (dk_at dksX9_value_0 11 rfl rfl)
theorem dX9_value_12 : decode cX9_value 12 = .ok (.getfield 23, 3) := dk_180 0 23 (dk_at dksX9_value_0 12 rfl rfl)
theorem dX9_value_15 : decode cX9_value 15 = .ok (.iconst 1, 1) := dk_4 (dk_at dksX9_value_0 15 rfl rfl)
theorem dX9_value_16 : decode cX9_value 16 = .ok (.iadd, 1) := dk_96 (dk_at dksX9_value_0 16 rfl rfl)
theorem dX9_value_17 : decode cX9_value 17 = .ok (.irem, 1) := dk_112 (dk_at dksX9_value_0 17 rfl rfl)
theorem dX9_value_18 : decode cX9_value 18 = .ok (.iadd, 1) := dk_96 (dk_at dksX9_value_0 18 rfl rfl)
theorem dX9_value_19 : decode cX9_value 19 = .ok (.ireturn, 1) := dk_172 (dk_at dksX9_value_0 19 rfl rfl)
abbrev cX9_weighs : ByteArray := prog_2_method_5_code
def yX9_weighs : MethodName := ⟨RX9, "weighs", "(ILPictureBlock$Trace;)I"⟩
def dkwX9_weighs_0 : List UInt8 := [44, 16, 50, 182, 0, 29, 42, 27, 44, 183, 0, 35, 6, 104, 172]
abbrev dktX9_weighs_0 : List UInt8 := dkwX9_weighs_0 ++ []
theorem dksX9_weighs_0 : cX9_weighs.data.toList.drop 0 = dktX9_weighs_0 := by decide +kernel
theorem dX9_weighs_0 : decode cX9_weighs 0 = .ok (.aload_n 2, 1) := dk_44 (dk_at dksX9_weighs_0 0 rfl rfl)
theorem dX9_weighs_1 : decode cX9_weighs 1 = .ok (.bipush 50, 2) := dk_16 50 (dk_at dksX9_weighs_0 1 rfl rfl)
theorem dX9_weighs_3 : decode cX9_weighs 3 = .ok (.invokevirtual 29, 3) := dk_182 0 29 (dk_at dksX9_weighs_0 3 rfl rfl)
theorem dX9_weighs_6 : decode cX9_weighs 6 = .ok (.aload_n 0, 1) := dk_42 (dk_at dksX9_weighs_0 6 rfl rfl)
theorem dX9_weighs_7 : decode cX9_weighs 7 = .ok (.iload_n 1, 1) := dk_27 (dk_at dksX9_weighs_0 7 rfl rfl)
theorem dX9_weighs_8 : decode cX9_weighs 8 = .ok (.aload_n 2, 1) := dk_44 (dk_at dksX9_weighs_0 8 rfl rfl)
theorem dX9_weighs_9 : decode cX9_weighs 9 = .ok (.invokespecial 35, 3) := dk_183 0 35 (dk_at dksX9_weighs_0 9 rfl rfl)
theorem dX9_weighs_12 : decode cX9_weighs 12 = .ok (.iconst 3, 1) := dk_6 (dk_at dksX9_weighs_0 12 rfl rfl)
theorem dX9_weighs_13 : decode cX9_weighs 13 = .ok (.imul, 1) := dk_104 (dk_at dksX9_weighs_0 13 rfl rfl)
theorem dX9_weighs_14 : decode cX9_weighs 14 = .ok (.ireturn, 1) := dk_172 (dk_at dksX9_weighs_0 14 rfl rfl)
abbrev cX9_ties : ByteArray := prog_2_method_6_code
def yX9_ties : MethodName := ⟨RX9, "ties", "(ILPictureBlock$Trace;)I"⟩
def dkwX9_ties_0 : List UInt8 := [44, 16, 51, 182, 0, 29, 42, 27, 44, 183, 0, 39, 42, 180, 0, 42, 130, 172]
abbrev dktX9_ties_0 : List UInt8 := dkwX9_ties_0 ++ []
theorem dksX9_ties_0 : cX9_ties.data.toList.drop 0 = dktX9_ties_0 := by decide +kernel
theorem dX9_ties_0 : decode cX9_ties 0 = .ok (.aload_n 2, 1) := dk_44 (dk_at dksX9_ties_0 0 rfl rfl)
theorem dX9_ties_1 : decode cX9_ties 1 = .ok (.bipush 51, 2) := dk_16 51 (dk_at dksX9_ties_0 1 rfl rfl)
theorem dX9_ties_3 : decode cX9_ties 3 = .ok (.invokevirtual 29, 3) := dk_182 0 29 (dk_at dksX9_ties_0 3 rfl rfl)
theorem dX9_ties_6 : decode cX9_ties 6 = .ok (.aload_n 0, 1) := dk_42 (dk_at dksX9_ties_0 6 rfl rfl)
theorem dX9_ties_7 : decode cX9_ties 7 = .ok (.iload_n 1, 1) := dk_27 (dk_at dksX9_ties_0 7 rfl rfl)
theorem dX9_ties_8 : decode cX9_ties 8 = .ok (.aload_n 2, 1) := dk_44 (dk_at dksX9_ties_0 8 rfl rfl)
theorem dX9_ties_9 : decode cX9_ties 9 = .ok (.invokespecial 39, 3) := dk_183 0 39 (dk_at dksX9_ties_0 9 rfl rfl)
theorem dX9_ties_12 : decode cX9_ties 12 = .ok (.aload_n 0, 1) := dk_42 (dk_at dksX9_ties_0 12 rfl rfl)
theorem dX9_ties_13 : decode cX9_ties 13 = .ok (.getfield 42, 3) := dk_180 0 42 (dk_at dksX9_ties_0 13 rfl rfl)
theorem dX9_ties_16 : decode cX9_ties 16 = .ok (.ixor, 1) := dk_130 (dk_at dksX9_ties_0 16 rfl rfl)
theorem dX9_ties_17 : decode cX9_ties 17 = .ok (.ireturn, 1) := dk_172 (dk_at dksX9_ties_0 17 rfl rfl)
theorem q95 : (Jvm.Cond.initialized "PictureBlock$Air") ∈ lw_all := lw_g (lw_at lw_m1 10 rfl) rfl
theorem q310 : (Jvm.Cond.fieldLink "PictureBlock$Air" (42 : Nat) "PictureBlock$Air" "number" "I") ∈ lw_all := lw_g (lw_at lw_m1 225 rfl) rfl
theorem q311 : (Jvm.Cond.sameField "PictureBlock$Air" "PictureBlock$Mark" "number" "I") ∈ lw_all := lw_g (lw_at lw_m1 226 rfl) rfl
theorem q317 : (Jvm.Cond.fieldLink "PictureBlock$Air" (23 : Nat) "PictureBlock$Air" "m" "I") ∈ lw_all := lw_g (lw_at lw_m1 232 rfl) rfl
theorem q318 : (Jvm.Cond.sameField "PictureBlock$Air" "PictureBlock$Mark" "m" "I") ∈ lw_all := lw_g (lw_at lw_m1 233 rfl) rfl
theorem q344 : (Jvm.Cond.instantiable "PictureBlock$Air" (2 : Nat)) ∈ lw_all := lw_g (lw_at lw_m2 19 rfl) rfl
theorem q346 : (Jvm.Cond.instanceMethod ({ cls := "PictureBlock$Air", name := "<init>", desc := "(II)V" } : Jvm.MethodName)) ∈ lw_all := lw_g (lw_at lw_m2 21 rfl) rfl
theorem q347 : (Jvm.Cond.code ({ cls := "PictureBlock$Air", name := "<init>", desc := "(II)V" } : Jvm.MethodName) prog_2_method_1_code (3 : Nat) (Option.none : Option Jvm.ClassFile.FieldType)) ∈ lw_all := lw_g (lw_at lw_m2 22 rfl) rfl
theorem q348 : (Jvm.Cond.methodLink "PictureBlock$Air" (1 : Nat) ({ cls := "PictureBlock$Flat", name := "<init>", desc := "(II)V" } : Jvm.MethodName)) ∈ lw_all := lw_g (lw_at lw_m2 23 rfl) rfl
theorem q349 : (Jvm.Cond.laysFinal "PictureBlock$Air" "PictureBlock$Mark" "number" "I") ∈ lw_all := lw_g (lw_at lw_m2 24 rfl) rfl
theorem q350 : (Jvm.Cond.laysFinal "PictureBlock$Air" "PictureBlock$Mark" "m" "I") ∈ lw_all := lw_g (lw_at lw_m2 25 rfl) rfl
theorem q351 : (Jvm.Cond.superclass "PictureBlock$Air" "PictureBlock$Flat") ∈ lw_all := lw_g (lw_at lw_m2 26 rfl) rfl
theorem q393 : (Jvm.Cond.selects "PictureBlock$Air" ({ cls := "PictureBlock$Mark", name := "kind", desc := "()I" } : Jvm.MethodName) ({ cls := "PictureBlock$Air", name := "kind", desc := "()I" } : Jvm.MethodName)) ∈ lw_all := lw_g (lw_at lw_m2 68 rfl) rfl
theorem q394 : (Jvm.Cond.instanceMethod ({ cls := "PictureBlock$Air", name := "kind", desc := "()I" } : Jvm.MethodName)) ∈ lw_all := lw_g (lw_at lw_m2 69 rfl) rfl
theorem q395 : (Jvm.Cond.code ({ cls := "PictureBlock$Air", name := "kind", desc := "()I" } : Jvm.MethodName) prog_2_method_2_code (1 : Nat) (Option.some Jvm.ClassFile.FieldType.int)) ∈ lw_all := lw_g (lw_at lw_m2 70 rfl) rfl
theorem q396 : (Jvm.Cond.methodLink "PictureBlock$Air" (7 : Nat) ({ cls := "PictureBlock$Flat", name := "kind", desc := "()I" } : Jvm.MethodName)) ∈ lw_all := lw_g (lw_at lw_m2 71 rfl) rfl
theorem q426 : (Jvm.Cond.castable "PictureBlock$Air" "PictureBlock$Seen") ∈ lw_tbl := lw_at lw_m2 101 rfl
theorem q427 : (Jvm.Cond.selects "PictureBlock$Air" ({ cls := "PictureBlock$Seen", name := "weight", desc := "(LPictureBlock$Block;)I" } : Jvm.MethodName) ({ cls := "PictureBlock$Air", name := "weight", desc := "(LPictureBlock$Block;)I" } : Jvm.MethodName)) ∈ lw_all := lw_g (lw_at lw_m2 102 rfl) rfl
theorem q428 : (Jvm.Cond.unhidden "PictureBlock$Air" "weight" "(LPictureBlock$Block;)I") ∈ lw_tbl := lw_at lw_m2 103 rfl
theorem q429 : (Jvm.Cond.instanceMethod ({ cls := "PictureBlock$Air", name := "weight", desc := "(LPictureBlock$Block;)I" } : Jvm.MethodName)) ∈ lw_all := lw_g (lw_at lw_m2 104 rfl) rfl
theorem q430 : (Jvm.Cond.publicMethod ({ cls := "PictureBlock$Air", name := "weight", desc := "(LPictureBlock$Block;)I" } : Jvm.MethodName)) ∈ lw_tbl := lw_at lw_m2 105 rfl
theorem q431 : (Jvm.Cond.code ({ cls := "PictureBlock$Air", name := "weight", desc := "(LPictureBlock$Block;)I" } : Jvm.MethodName) prog_2_method_3_code (2 : Nat) (Option.some Jvm.ClassFile.FieldType.int)) ∈ lw_all := lw_g (lw_at lw_m2 106 rfl) rfl
theorem q432 : (Jvm.Cond.interfaceEntry "PictureBlock$Air" (11 : Nat)) ∈ lw_tbl := lw_at lw_m2 107 rfl
theorem q433 : (Jvm.Cond.methodLink "PictureBlock$Air" (11 : Nat) ({ cls := "PictureBlock$Block", name := "round", desc := "()I" } : Jvm.MethodName)) ∈ lw_all := lw_g (lw_at lw_m2 108 rfl) rfl
theorem q442 : (Jvm.Cond.methodLink "PictureBlock$Air" (16 : Nat) ({ cls := "PictureBlock$Flat", name := "weight", desc := "(LPictureBlock$Block;)I" } : Jvm.MethodName)) ∈ lw_all := lw_g (lw_at lw_m2 117 rfl) rfl
theorem q522 : (Jvm.Cond.selects "PictureBlock$Air" ({ cls := "PictureBlock$Seen", name := "value", desc := "(LPictureBlock$Block;)I" } : Jvm.MethodName) ({ cls := "PictureBlock$Air", name := "value", desc := "(LPictureBlock$Block;)I" } : Jvm.MethodName)) ∈ lw_all := lw_g (lw_at lw_m2 197 rfl) rfl
theorem q523 : (Jvm.Cond.unhidden "PictureBlock$Air" "value" "(LPictureBlock$Block;)I") ∈ lw_tbl := lw_at lw_m2 198 rfl
theorem q524 : (Jvm.Cond.instanceMethod ({ cls := "PictureBlock$Air", name := "value", desc := "(LPictureBlock$Block;)I" } : Jvm.MethodName)) ∈ lw_all := lw_g (lw_at lw_m2 199 rfl) rfl
theorem q525 : (Jvm.Cond.publicMethod ({ cls := "PictureBlock$Air", name := "value", desc := "(LPictureBlock$Block;)I" } : Jvm.MethodName)) ∈ lw_tbl := lw_at lw_m2 200 rfl
theorem q526 : (Jvm.Cond.code ({ cls := "PictureBlock$Air", name := "value", desc := "(LPictureBlock$Block;)I" } : Jvm.MethodName) prog_2_method_4_code (2 : Nat) (Option.some Jvm.ClassFile.FieldType.int)) ∈ lw_all := lw_g (lw_at lw_m2 201 rfl) rfl
theorem q527 : (Jvm.Cond.methodLink "PictureBlock$Air" (20 : Nat) ({ cls := "PictureBlock$Flat", name := "value", desc := "(LPictureBlock$Block;)I" } : Jvm.MethodName)) ∈ lw_all := lw_g (lw_at lw_m2 202 rfl) rfl
theorem q1060 : (Jvm.Cond.selects "PictureBlock$Air" ({ cls := "PictureBlock$Mark", name := "weighs", desc := "(ILPictureBlock$Trace;)I" } : Jvm.MethodName) ({ cls := "PictureBlock$Air", name := "weighs", desc := "(ILPictureBlock$Trace;)I" } : Jvm.MethodName)) ∈ lw_all := lw_g (lw_at lw_m5 15 rfl) rfl
theorem q1061 : (Jvm.Cond.instanceMethod ({ cls := "PictureBlock$Air", name := "weighs", desc := "(ILPictureBlock$Trace;)I" } : Jvm.MethodName)) ∈ lw_all := lw_g (lw_at lw_m5 16 rfl) rfl
theorem q1062 : (Jvm.Cond.code ({ cls := "PictureBlock$Air", name := "weighs", desc := "(ILPictureBlock$Trace;)I" } : Jvm.MethodName) prog_2_method_5_code (3 : Nat) (Option.some Jvm.ClassFile.FieldType.int)) ∈ lw_all := lw_g (lw_at lw_m5 17 rfl) rfl
theorem q1063 : (Jvm.Cond.methodLink "PictureBlock$Air" (29 : Nat) ({ cls := "PictureBlock$Trace", name := "ran", desc := "(I)V" } : Jvm.MethodName)) ∈ lw_all := lw_g (lw_at lw_m5 18 rfl) rfl
theorem q1067 : (Jvm.Cond.methodLink "PictureBlock$Air" (35 : Nat) ({ cls := "PictureBlock$Flat", name := "weighs", desc := "(ILPictureBlock$Trace;)I" } : Jvm.MethodName)) ∈ lw_all := lw_g (lw_at lw_m5 22 rfl) rfl
theorem q1083 : (Jvm.Cond.unhidden "PictureBlock$Air" "says" "(ILPictureBlock$Trace;)I") ∈ lw_tbl := lw_at lw_m5 38 rfl
theorem q1099 : (Jvm.Cond.castable "PictureBlock$Air" "PictureBlock$Weighs") ∈ lw_tbl := lw_at lw_m5 54 rfl
theorem q1100 : (Jvm.Cond.selects "PictureBlock$Air" ({ cls := "PictureBlock$Weighs", name := "weighs", desc := "(ILPictureBlock$Trace;)I" } : Jvm.MethodName) ({ cls := "PictureBlock$Air", name := "weighs", desc := "(ILPictureBlock$Trace;)I" } : Jvm.MethodName)) ∈ lw_all := lw_g (lw_at lw_m5 55 rfl) rfl
theorem q1101 : (Jvm.Cond.unhidden "PictureBlock$Air" "weighs" "(ILPictureBlock$Trace;)I") ∈ lw_tbl := lw_at lw_m5 56 rfl
theorem q1102 : (Jvm.Cond.publicMethod ({ cls := "PictureBlock$Air", name := "weighs", desc := "(ILPictureBlock$Trace;)I" } : Jvm.MethodName)) ∈ lw_tbl := lw_at lw_m5 57 rfl
theorem q1136 : (Jvm.Cond.selects "PictureBlock$Air" ({ cls := "PictureBlock$Mark", name := "ties", desc := "(ILPictureBlock$Trace;)I" } : Jvm.MethodName) ({ cls := "PictureBlock$Air", name := "ties", desc := "(ILPictureBlock$Trace;)I" } : Jvm.MethodName)) ∈ lw_all := lw_g (lw_at lw_m5 91 rfl) rfl
theorem q1137 : (Jvm.Cond.instanceMethod ({ cls := "PictureBlock$Air", name := "ties", desc := "(ILPictureBlock$Trace;)I" } : Jvm.MethodName)) ∈ lw_all := lw_g (lw_at lw_m5 92 rfl) rfl
theorem q1138 : (Jvm.Cond.code ({ cls := "PictureBlock$Air", name := "ties", desc := "(ILPictureBlock$Trace;)I" } : Jvm.MethodName) prog_2_method_6_code (3 : Nat) (Option.some Jvm.ClassFile.FieldType.int)) ∈ lw_all := lw_g (lw_at lw_m5 93 rfl) rfl
theorem q1139 : (Jvm.Cond.methodLink "PictureBlock$Air" (39 : Nat) ({ cls := "PictureBlock$Flat", name := "ties", desc := "(ILPictureBlock$Trace;)I" } : Jvm.MethodName)) ∈ lw_all := lw_g (lw_at lw_m5 94 rfl) rfl
theorem q1156 : (Jvm.Cond.selects "PictureBlock$Air" ({ cls := "PictureBlock$Mark", name := "parts", desc := "(ILPictureBlock$Trace;)I" } : Jvm.MethodName) ({ cls := "PictureBlock$Flat", name := "parts", desc := "(ILPictureBlock$Trace;)I" } : Jvm.MethodName)) ∈ lw_all := lw_g (lw_at lw_m5 111 rfl) rfl
theorem q1759 : (Jvm.Cond.castable "PictureBlock$Air" "PictureBlock$Mark") ∈ lw_tbl := lw_at lw_m7 234 rfl
theorem q1765 : (Jvm.Cond.castable "PictureBlock$Air" "PictureBlock$Flat") ∈ lw_tbl := lw_at lw_m8 0 rfl
theorem in_X9 : ∀ w ∈ wsX90, w ∈ lw_all := lw_in wsX90 [349, 350] (by decide +kernel) (by decide +kernel)

theorem q85 : (Jvm.Cond.initialized "PictureBlockLaw") ∈ lw_all := lw_g (lw_at lw_m1 0 rfl) rfl
set_option maxRecDepth 100000
theorem q115 : (Jvm.Cond.classLink "PictureBlockLaw" (7 : Nat) "PictureBlock") ∈ lw_all := lw_g (lw_at lw_m1 30 rfl) rfl
theorem q117 : (Jvm.Cond.methodLink "PictureBlockLaw" (9 : Nat) ({ cls := "PictureBlock", name := "<init>", desc := "()V" } : Jvm.MethodName)) ∈ lw_all := lw_g (lw_at lw_m1 32 rfl) rfl
theorem q279 : (Jvm.Cond.methodLink "PictureBlockLaw" (13 : Nat) ({ cls := "PictureBlock", name := "mark", desc := "(IIII)I" } : Jvm.MethodName)) ∈ lw_all := lw_g (lw_at lw_m1 194 rfl) rfl
theorem q376 : (Jvm.Cond.methodLink "PictureBlockLaw" (18 : Nat) ({ cls := "PictureBlock", name := "markIs", desc := "(II)I" } : Jvm.MethodName)) ∈ lw_all := lw_g (lw_at lw_m2 51 rfl) rfl
theorem q568 : (Jvm.Cond.methodLink "PictureBlockLaw" (23 : Nat) ({ cls := "PictureBlock", name := "become", desc := "(II)I" } : Jvm.MethodName)) ∈ lw_all := lw_g (lw_at lw_m3 3 rfl) rfl
theorem q572 : (Jvm.Cond.methodLink "PictureBlockLaw" (27 : Nat) ({ cls := "PictureBlock", name := "as", desc := "(II)I" } : Jvm.MethodName)) ∈ lw_all := lw_g (lw_at lw_m3 7 rfl) rfl
theorem q579 : (Jvm.Cond.methodLink "PictureBlockLaw" (31 : Nat) ({ cls := "PictureBlock", name := "measure", desc := "(II)I" } : Jvm.MethodName)) ∈ lw_all := lw_g (lw_at lw_m3 14 rfl) rfl
theorem q583 : (Jvm.Cond.methodLink "PictureBlockLaw" (35 : Nat) ({ cls := "PictureBlock", name := "on", desc := "(II)I" } : Jvm.MethodName)) ∈ lw_all := lw_g (lw_at lw_m3 18 rfl) rfl
theorem q587 : (Jvm.Cond.methodLink "PictureBlockLaw" (39 : Nat) ({ cls := "PictureBlock", name := "pictures", desc := "(I)I" } : Jvm.MethodName)) ∈ lw_all := lw_g (lw_at lw_m3 22 rfl) rfl
theorem q591 : (Jvm.Cond.methodLink "PictureBlockLaw" (44 : Nat) ({ cls := "PictureBlock", name := "limit", desc := "(I)I" } : Jvm.MethodName)) ∈ lw_all := lw_g (lw_at lw_m3 26 rfl) rfl
theorem q595 : (Jvm.Cond.methodLink "PictureBlockLaw" (50 : Nat) ({ cls := "PictureBlock", name := "feed", desc := "(JI)I" } : Jvm.MethodName)) ∈ lw_all := lw_g (lw_at lw_m3 30 rfl) rfl
theorem q599 : (Jvm.Cond.methodLink "PictureBlockLaw" (55 : Nat) ({ cls := "PictureBlock", name := "text", desc := "(I)I" } : Jvm.MethodName)) ∈ lw_all := lw_g (lw_at lw_m3 34 rfl) rfl
theorem q865 : (Jvm.Cond.methodLink "PictureBlockLaw" (59 : Nat) ({ cls := "PictureBlock", name := "untell", desc := "(I)I" } : Jvm.MethodName)) ∈ lw_all := lw_g (lw_at lw_m4 60 rfl) rfl
theorem q869 : (Jvm.Cond.methodLink "PictureBlockLaw" (63 : Nat) ({ cls := "PictureBlock", name := "law", desc := "(IIII)I" } : Jvm.MethodName)) ∈ lw_all := lw_g (lw_at lw_m4 64 rfl) rfl
theorem q873 : (Jvm.Cond.methodLink "PictureBlockLaw" (67 : Nat) ({ cls := "PictureBlock", name := "rounds", desc := "(I)I" } : Jvm.MethodName)) ∈ lw_all := lw_g (lw_at lw_m4 68 rfl) rfl
theorem q929 : (Jvm.Cond.methodLink "PictureBlockLaw" (71 : Nat) ({ cls := "PictureBlock", name := "loose", desc := "(I)I" } : Jvm.MethodName)) ∈ lw_all := lw_g (lw_at lw_m4 124 rfl) rfl
theorem q938 : (Jvm.Cond.methodLink "PictureBlockLaw" (75 : Nat) ({ cls := "PictureBlock", name := "round", desc := "(I)I" } : Jvm.MethodName)) ∈ lw_all := lw_g (lw_at lw_m4 133 rfl) rfl
theorem q942 : (Jvm.Cond.methodLink "PictureBlockLaw" (79 : Nat) ({ cls := "PictureBlock", name := "seed", desc := "(I)I" } : Jvm.MethodName)) ∈ lw_all := lw_g (lw_at lw_m4 137 rfl) rfl
theorem q946 : (Jvm.Cond.methodLink "PictureBlockLaw" (83 : Nat) ({ cls := "PictureBlock", name := "place", desc := "(II)J" } : Jvm.MethodName)) ∈ lw_all := lw_g (lw_at lw_m4 141 rfl) rfl
theorem q956 : (Jvm.Cond.methodLink "PictureBlockLaw" (88 : Nat) ({ cls := "PictureBlock", name := "miss", desc := "(II)J" } : Jvm.MethodName)) ∈ lw_all := lw_g (lw_at lw_m4 151 rfl) rfl
theorem q960 : (Jvm.Cond.methodLink "PictureBlockLaw" (92 : Nat) ({ cls := "PictureBlock", name := "sum", desc := "(I)J" } : Jvm.MethodName)) ∈ lw_all := lw_g (lw_at lw_m4 155 rfl) rfl
theorem q968 : (Jvm.Cond.methodLink "PictureBlockLaw" (97 : Nat) ({ cls := "PictureBlock", name := "doubted", desc := "()I" } : Jvm.MethodName)) ∈ lw_all := lw_g (lw_at lw_m4 163 rfl) rfl
theorem q972 : (Jvm.Cond.methodLink "PictureBlockLaw" (102 : Nat) ({ cls := "PictureBlock", name := "needed", desc := "()I" } : Jvm.MethodName)) ∈ lw_all := lw_g (lw_at lw_m4 167 rfl) rfl
theorem q976 : (Jvm.Cond.methodLink "PictureBlockLaw" (106 : Nat) ({ cls := "PictureBlock", name := "spine", desc := "()I" } : Jvm.MethodName)) ∈ lw_all := lw_g (lw_at lw_m4 171 rfl) rfl
theorem q980 : (Jvm.Cond.methodLink "PictureBlockLaw" (110 : Nat) ({ cls := "PictureBlock", name := "then", desc := "(II)I" } : Jvm.MethodName)) ∈ lw_all := lw_g (lw_at lw_m4 175 rfl) rfl
theorem q991 : (Jvm.Cond.methodLink "PictureBlockLaw" (114 : Nat) ({ cls := "PictureBlock", name := "soonest", desc := "(I)I" } : Jvm.MethodName)) ∈ lw_all := lw_g (lw_at lw_m4 186 rfl) rfl
theorem q995 : (Jvm.Cond.methodLink "PictureBlockLaw" (118 : Nat) ({ cls := "PictureBlock", name := "limitFor", desc := "(I)I" } : Jvm.MethodName)) ∈ lw_all := lw_g (lw_at lw_m4 190 rfl) rfl
theorem q999 : (Jvm.Cond.methodLink "PictureBlockLaw" (122 : Nat) ({ cls := "PictureBlock", name := "toldFor", desc := "(I)I" } : Jvm.MethodName)) ∈ lw_all := lw_g (lw_at lw_m4 194 rfl) rfl
theorem q1003 : (Jvm.Cond.methodLink "PictureBlockLaw" (126 : Nat) ({ cls := "PictureBlock", name := "odds", desc := "(III)I" } : Jvm.MethodName)) ∈ lw_all := lw_g (lw_at lw_m4 198 rfl) rfl
theorem q1007 : (Jvm.Cond.methodLink "PictureBlockLaw" (131 : Nat) ({ cls := "PictureBlock", name := "fits", desc := "(III)I" } : Jvm.MethodName)) ∈ lw_all := lw_g (lw_at lw_m4 202 rfl) rfl
theorem q1023 : (Jvm.Cond.methodLink "PictureBlockLaw" (135 : Nat) ({ cls := "PictureBlock", name := "voice", desc := "(III)I" } : Jvm.MethodName)) ∈ lw_all := lw_g (lw_at lw_m4 218 rfl) rfl
theorem q1166 : (Jvm.Cond.methodLink "PictureBlockLaw" (139 : Nat) ({ cls := "PictureBlock", name := "body", desc := "(I)I" } : Jvm.MethodName)) ∈ lw_all := lw_g (lw_at lw_m5 121 rfl) rfl
theorem q1170 : (Jvm.Cond.methodLink "PictureBlockLaw" (143 : Nat) ({ cls := "PictureBlock", name := "sheet", desc := "(III)I" } : Jvm.MethodName)) ∈ lw_all := lw_g (lw_at lw_m5 125 rfl) rfl
theorem q1188 : (Jvm.Cond.methodLink "PictureBlockLaw" (147 : Nat) ({ cls := "PictureBlock", name := "put", desc := "(III)I" } : Jvm.MethodName)) ∈ lw_all := lw_g (lw_at lw_m5 143 rfl) rfl
theorem q1192 : (Jvm.Cond.methodLink "PictureBlockLaw" (151 : Nat) ({ cls := "PictureBlock", name := "move", desc := "(IIIII)I" } : Jvm.MethodName)) ∈ lw_all := lw_g (lw_at lw_m5 147 rfl) rfl
theorem q1211 : (Jvm.Cond.methodLink "PictureBlockLaw" (156 : Nat) ({ cls := "PictureBlock", name := "tells", desc := "(I)I" } : Jvm.MethodName)) ∈ lw_all := lw_g (lw_at lw_m5 166 rfl) rfl
theorem q1215 : (Jvm.Cond.methodLink "PictureBlockLaw" (160 : Nat) ({ cls := "PictureBlock", name := "judge", desc := "(I)I" } : Jvm.MethodName)) ∈ lw_all := lw_g (lw_at lw_m5 170 rfl) rfl
theorem q1219 : (Jvm.Cond.methodLink "PictureBlockLaw" (164 : Nat) ({ cls := "PictureBlock", name := "image", desc := "()I" } : Jvm.MethodName)) ∈ lw_all := lw_g (lw_at lw_m5 174 rfl) rfl
theorem q1223 : (Jvm.Cond.methodLink "PictureBlockLaw" (168 : Nat) ({ cls := "PictureBlock", name := "restore", desc := "()I" } : Jvm.MethodName)) ∈ lw_all := lw_g (lw_at lw_m5 178 rfl) rfl
theorem q1227 : (Jvm.Cond.methodLink "PictureBlockLaw" (172 : Nat) ({ cls := "PictureBlock", name := "tell", desc := "(I)I" } : Jvm.MethodName)) ∈ lw_all := lw_g (lw_at lw_m5 182 rfl) rfl
theorem q1231 : (Jvm.Cond.methodLink "PictureBlockLaw" (176 : Nat) ({ cls := "PictureBlock", name := "check", desc := "()I" } : Jvm.MethodName)) ∈ lw_all := lw_g (lw_at lw_m5 186 rfl) rfl
theorem q1235 : (Jvm.Cond.methodLink "PictureBlockLaw" (180 : Nat) ({ cls := "PictureBlock", name := "count", desc := "(I)I" } : Jvm.MethodName)) ∈ lw_all := lw_g (lw_at lw_m5 190 rfl) rfl
theorem q1239 : (Jvm.Cond.methodLink "PictureBlockLaw" (184 : Nat) ({ cls := "PictureBlock", name := "told", desc := "(I)I" } : Jvm.MethodName)) ∈ lw_all := lw_g (lw_at lw_m5 194 rfl) rfl
theorem q1243 : (Jvm.Cond.classLink "PictureBlockLaw" (10 : Nat) "PictureBlockModel") ∈ lw_all := lw_g (lw_at lw_m5 198 rfl) rfl
theorem q1245 : (Jvm.Cond.methodLink "PictureBlockLaw" (12 : Nat) ({ cls := "PictureBlockModel", name := "<init>", desc := "()V" } : Jvm.MethodName)) ∈ lw_all := lw_g (lw_at lw_m5 200 rfl) rfl
theorem q1322 : (Jvm.Cond.methodLink "PictureBlockLaw" (17 : Nat) ({ cls := "PictureBlockModel", name := "mark", desc := "(IIII)I" } : Jvm.MethodName)) ∈ lw_all := lw_g (lw_at lw_m6 37 rfl) rfl
theorem q1347 : (Jvm.Cond.methodLink "PictureBlockLaw" (22 : Nat) ({ cls := "PictureBlockModel", name := "markIs", desc := "(II)I" } : Jvm.MethodName)) ∈ lw_all := lw_g (lw_at lw_m6 62 rfl) rfl
theorem q1393 : (Jvm.Cond.methodLink "PictureBlockLaw" (26 : Nat) ({ cls := "PictureBlockModel", name := "become", desc := "(II)I" } : Jvm.MethodName)) ∈ lw_all := lw_g (lw_at lw_m6 108 rfl) rfl
theorem q1401 : (Jvm.Cond.methodLink "PictureBlockLaw" (30 : Nat) ({ cls := "PictureBlockModel", name := "as", desc := "(II)I" } : Jvm.MethodName)) ∈ lw_all := lw_g (lw_at lw_m6 116 rfl) rfl
theorem q1406 : (Jvm.Cond.methodLink "PictureBlockLaw" (34 : Nat) ({ cls := "PictureBlockModel", name := "measure", desc := "(II)I" } : Jvm.MethodName)) ∈ lw_all := lw_g (lw_at lw_m6 121 rfl) rfl
theorem q1410 : (Jvm.Cond.methodLink "PictureBlockLaw" (38 : Nat) ({ cls := "PictureBlockModel", name := "on", desc := "(II)I" } : Jvm.MethodName)) ∈ lw_all := lw_g (lw_at lw_m6 125 rfl) rfl
theorem q1414 : (Jvm.Cond.methodLink "PictureBlockLaw" (43 : Nat) ({ cls := "PictureBlockModel", name := "pictures", desc := "(I)I" } : Jvm.MethodName)) ∈ lw_all := lw_g (lw_at lw_m6 129 rfl) rfl
theorem q1419 : (Jvm.Cond.methodLink "PictureBlockLaw" (47 : Nat) ({ cls := "PictureBlockModel", name := "limit", desc := "(I)I" } : Jvm.MethodName)) ∈ lw_all := lw_g (lw_at lw_m6 134 rfl) rfl
theorem q1423 : (Jvm.Cond.methodLink "PictureBlockLaw" (54 : Nat) ({ cls := "PictureBlockModel", name := "feed", desc := "(JI)I" } : Jvm.MethodName)) ∈ lw_all := lw_g (lw_at lw_m6 138 rfl) rfl
theorem q1428 : (Jvm.Cond.methodLink "PictureBlockLaw" (58 : Nat) ({ cls := "PictureBlockModel", name := "text", desc := "(I)I" } : Jvm.MethodName)) ∈ lw_all := lw_g (lw_at lw_m6 143 rfl) rfl
theorem q1476 : (Jvm.Cond.methodLink "PictureBlockLaw" (62 : Nat) ({ cls := "PictureBlockModel", name := "untell", desc := "(I)I" } : Jvm.MethodName)) ∈ lw_all := lw_g (lw_at lw_m6 191 rfl) rfl
theorem q1480 : (Jvm.Cond.methodLink "PictureBlockLaw" (66 : Nat) ({ cls := "PictureBlockModel", name := "law", desc := "(IIII)I" } : Jvm.MethodName)) ∈ lw_all := lw_g (lw_at lw_m6 195 rfl) rfl
theorem q1484 : (Jvm.Cond.methodLink "PictureBlockLaw" (70 : Nat) ({ cls := "PictureBlockModel", name := "rounds", desc := "(I)I" } : Jvm.MethodName)) ∈ lw_all := lw_g (lw_at lw_m6 199 rfl) rfl
theorem q1535 : (Jvm.Cond.methodLink "PictureBlockLaw" (74 : Nat) ({ cls := "PictureBlockModel", name := "loose", desc := "(I)I" } : Jvm.MethodName)) ∈ lw_all := lw_g (lw_at lw_m7 10 rfl) rfl
theorem q1548 : (Jvm.Cond.methodLink "PictureBlockLaw" (78 : Nat) ({ cls := "PictureBlockModel", name := "round", desc := "(I)I" } : Jvm.MethodName)) ∈ lw_all := lw_g (lw_at lw_m7 23 rfl) rfl
theorem q1552 : (Jvm.Cond.methodLink "PictureBlockLaw" (82 : Nat) ({ cls := "PictureBlockModel", name := "seed", desc := "(I)I" } : Jvm.MethodName)) ∈ lw_all := lw_g (lw_at lw_m7 27 rfl) rfl
theorem q1556 : (Jvm.Cond.methodLink "PictureBlockLaw" (87 : Nat) ({ cls := "PictureBlockModel", name := "place", desc := "(II)J" } : Jvm.MethodName)) ∈ lw_all := lw_g (lw_at lw_m7 31 rfl) rfl
theorem q1566 : (Jvm.Cond.methodLink "PictureBlockLaw" (91 : Nat) ({ cls := "PictureBlockModel", name := "miss", desc := "(II)J" } : Jvm.MethodName)) ∈ lw_all := lw_g (lw_at lw_m7 41 rfl) rfl
theorem q1570 : (Jvm.Cond.methodLink "PictureBlockLaw" (96 : Nat) ({ cls := "PictureBlockModel", name := "sum", desc := "(I)J" } : Jvm.MethodName)) ∈ lw_all := lw_g (lw_at lw_m7 45 rfl) rfl
theorem q1578 : (Jvm.Cond.methodLink "PictureBlockLaw" (101 : Nat) ({ cls := "PictureBlockModel", name := "doubted", desc := "()I" } : Jvm.MethodName)) ∈ lw_all := lw_g (lw_at lw_m7 53 rfl) rfl
theorem q1582 : (Jvm.Cond.methodLink "PictureBlockLaw" (105 : Nat) ({ cls := "PictureBlockModel", name := "needed", desc := "()I" } : Jvm.MethodName)) ∈ lw_all := lw_g (lw_at lw_m7 57 rfl) rfl
theorem q1586 : (Jvm.Cond.methodLink "PictureBlockLaw" (109 : Nat) ({ cls := "PictureBlockModel", name := "spine", desc := "()I" } : Jvm.MethodName)) ∈ lw_all := lw_g (lw_at lw_m7 61 rfl) rfl
theorem q1594 : (Jvm.Cond.methodLink "PictureBlockLaw" (113 : Nat) ({ cls := "PictureBlockModel", name := "then", desc := "(II)I" } : Jvm.MethodName)) ∈ lw_all := lw_g (lw_at lw_m7 69 rfl) rfl
theorem q1609 : (Jvm.Cond.methodLink "PictureBlockLaw" (117 : Nat) ({ cls := "PictureBlockModel", name := "soonest", desc := "(I)I" } : Jvm.MethodName)) ∈ lw_all := lw_g (lw_at lw_m7 84 rfl) rfl
theorem q1614 : (Jvm.Cond.methodLink "PictureBlockLaw" (121 : Nat) ({ cls := "PictureBlockModel", name := "limitFor", desc := "(I)I" } : Jvm.MethodName)) ∈ lw_all := lw_g (lw_at lw_m7 89 rfl) rfl
theorem q1622 : (Jvm.Cond.methodLink "PictureBlockLaw" (125 : Nat) ({ cls := "PictureBlockModel", name := "toldFor", desc := "(I)I" } : Jvm.MethodName)) ∈ lw_all := lw_g (lw_at lw_m7 97 rfl) rfl
theorem q1627 : (Jvm.Cond.methodLink "PictureBlockLaw" (130 : Nat) ({ cls := "PictureBlockModel", name := "odds", desc := "(III)I" } : Jvm.MethodName)) ∈ lw_all := lw_g (lw_at lw_m7 102 rfl) rfl
theorem q1632 : (Jvm.Cond.methodLink "PictureBlockLaw" (134 : Nat) ({ cls := "PictureBlockModel", name := "fits", desc := "(III)I" } : Jvm.MethodName)) ∈ lw_all := lw_g (lw_at lw_m7 107 rfl) rfl
theorem q1643 : (Jvm.Cond.methodLink "PictureBlockLaw" (138 : Nat) ({ cls := "PictureBlockModel", name := "voice", desc := "(III)I" } : Jvm.MethodName)) ∈ lw_all := lw_g (lw_at lw_m7 118 rfl) rfl
theorem q1692 : (Jvm.Cond.methodLink "PictureBlockLaw" (142 : Nat) ({ cls := "PictureBlockModel", name := "body", desc := "(I)I" } : Jvm.MethodName)) ∈ lw_all := lw_g (lw_at lw_m7 167 rfl) rfl
theorem q1696 : (Jvm.Cond.methodLink "PictureBlockLaw" (146 : Nat) ({ cls := "PictureBlockModel", name := "sheet", desc := "(III)I" } : Jvm.MethodName)) ∈ lw_all := lw_g (lw_at lw_m7 171 rfl) rfl
theorem q1700 : (Jvm.Cond.methodLink "PictureBlockLaw" (150 : Nat) ({ cls := "PictureBlockModel", name := "put", desc := "(III)I" } : Jvm.MethodName)) ∈ lw_all := lw_g (lw_at lw_m7 175 rfl) rfl
theorem q1708 : (Jvm.Cond.methodLink "PictureBlockLaw" (155 : Nat) ({ cls := "PictureBlockModel", name := "move", desc := "(IIIII)I" } : Jvm.MethodName)) ∈ lw_all := lw_g (lw_at lw_m7 183 rfl) rfl
theorem q1716 : (Jvm.Cond.methodLink "PictureBlockLaw" (159 : Nat) ({ cls := "PictureBlockModel", name := "tells", desc := "(I)I" } : Jvm.MethodName)) ∈ lw_all := lw_g (lw_at lw_m7 191 rfl) rfl
theorem q1720 : (Jvm.Cond.methodLink "PictureBlockLaw" (163 : Nat) ({ cls := "PictureBlockModel", name := "judge", desc := "(I)I" } : Jvm.MethodName)) ∈ lw_all := lw_g (lw_at lw_m7 195 rfl) rfl
theorem q1724 : (Jvm.Cond.methodLink "PictureBlockLaw" (167 : Nat) ({ cls := "PictureBlockModel", name := "image", desc := "()I" } : Jvm.MethodName)) ∈ lw_all := lw_g (lw_at lw_m7 199 rfl) rfl
theorem q1728 : (Jvm.Cond.methodLink "PictureBlockLaw" (171 : Nat) ({ cls := "PictureBlockModel", name := "restore", desc := "()I" } : Jvm.MethodName)) ∈ lw_all := lw_g (lw_at lw_m7 203 rfl) rfl
theorem q1732 : (Jvm.Cond.methodLink "PictureBlockLaw" (175 : Nat) ({ cls := "PictureBlockModel", name := "tell", desc := "(I)I" } : Jvm.MethodName)) ∈ lw_all := lw_g (lw_at lw_m7 207 rfl) rfl
theorem q1736 : (Jvm.Cond.methodLink "PictureBlockLaw" (179 : Nat) ({ cls := "PictureBlockModel", name := "check", desc := "()I" } : Jvm.MethodName)) ∈ lw_all := lw_g (lw_at lw_m7 211 rfl) rfl
theorem q1740 : (Jvm.Cond.methodLink "PictureBlockLaw" (183 : Nat) ({ cls := "PictureBlockModel", name := "count", desc := "(I)I" } : Jvm.MethodName)) ∈ lw_all := lw_g (lw_at lw_m7 215 rfl) rfl
theorem q1744 : (Jvm.Cond.methodLink "PictureBlockLaw" (187 : Nat) ({ cls := "PictureBlockModel", name := "told", desc := "(I)I" } : Jvm.MethodName)) ∈ lw_all := lw_g (lw_at lw_m7 219 rfl) rfl
theorem q1748 : (Jvm.Cond.constantLong "PictureBlockLaw" (48 : Nat) (4294967295 : Int64)) ∈ lw_all := lw_g (lw_at lw_m7 223 rfl) rfl

theorem q434 : (Jvm.Cond.interfaceMethod "PictureBlock$Block" "PictureBlock$Block" "round" "()I") ∈ lw_tbl := lw_at lw_m2 109 rfl
set_option maxRecDepth 100000
theorem q435 : (Jvm.Cond.declares ({ cls := "PictureBlock$Block", name := "round", desc := "()I" } : Jvm.MethodName)) ∈ lw_tbl := lw_at lw_m2 110 rfl
theorem q459 : (Jvm.Cond.interfaceMethod "PictureBlock$Block" "PictureBlock$Block" "marks" "(I)I") ∈ lw_tbl := lw_at lw_m2 134 rfl
theorem q460 : (Jvm.Cond.declares ({ cls := "PictureBlock$Block", name := "marks", desc := "(I)I" } : Jvm.MethodName)) ∈ lw_tbl := lw_at lw_m2 135 rfl
theorem q534 : (Jvm.Cond.interfaceMethod "PictureBlock$Block" "PictureBlock$Block" "told" "(I)I") ∈ lw_tbl := lw_at lw_m2 209 rfl
theorem q535 : (Jvm.Cond.declares ({ cls := "PictureBlock$Block", name := "told", desc := "(I)I" } : Jvm.MethodName)) ∈ lw_tbl := lw_at lw_m2 210 rfl

theorem q424 : (Jvm.Cond.interfaceMethod "PictureBlock$Seen" "PictureBlock$Seen" "weight" "(LPictureBlock$Block;)I") ∈ lw_tbl := lw_at lw_m2 99 rfl
set_option maxRecDepth 100000
theorem q425 : (Jvm.Cond.declares ({ cls := "PictureBlock$Seen", name := "weight", desc := "(LPictureBlock$Block;)I" } : Jvm.MethodName)) ∈ lw_tbl := lw_at lw_m2 100 rfl
theorem q520 : (Jvm.Cond.interfaceMethod "PictureBlock$Seen" "PictureBlock$Seen" "value" "(LPictureBlock$Block;)I") ∈ lw_tbl := lw_at lw_m2 195 rfl
theorem q521 : (Jvm.Cond.declares ({ cls := "PictureBlock$Seen", name := "value", desc := "(LPictureBlock$Block;)I" } : Jvm.MethodName)) ∈ lw_tbl := lw_at lw_m2 196 rfl

theorem q110 : (Jvm.Cond.initialized "java/lang/System") ∈ lw_all := lw_g (lw_at lw_m1 25 rfl) rfl
set_option maxRecDepth 100000
theorem q989 : (Jvm.Cond.static ({ cls := "java/lang/System", name := "arraycopy", desc := "(Ljava/lang/Object;ILjava/lang/Object;II)V" } : Jvm.MethodName)) ∈ lw_all := lw_g (lw_at lw_m4 184 rfl) rfl
theorem q990 : (Jvm.Cond.native ({ cls := "java/lang/System", name := "arraycopy", desc := "(Ljava/lang/Object;ILjava/lang/Object;II)V" } : Jvm.MethodName)) ∈ lw_all := lw_g (lw_at lw_m4 185 rfl) rfl

theorem q130 : (Jvm.Cond.arrayOver (Jvm.ClassFile.FieldType.object "PictureBlock$Slot")) ∈ lw_tbl := lw_at lw_m1 45 rfl
set_option maxRecDepth 100000
theorem q132 : (Jvm.Cond.arrayOver (Jvm.ClassFile.FieldType.object "PictureBlock$Text")) ∈ lw_tbl := lw_at lw_m1 47 rfl
theorem q143 : (Jvm.Cond.arrayClass Jvm.ClassFile.FieldType.int) ∈ lw_all := lw_g (lw_at lw_m1 58 rfl) rfl
theorem q144 : (Jvm.Cond.arrayClass Jvm.ClassFile.FieldType.byte) ∈ lw_all := lw_g (lw_at lw_m1 59 rfl) rfl
theorem q228 : (Jvm.Cond.arrayOver (Jvm.ClassFile.FieldType.array Jvm.ClassFile.FieldType.long)) ∈ lw_tbl := lw_at lw_m1 143 rfl
theorem q278 : (Jvm.Cond.arrayClass Jvm.ClassFile.FieldType.long) ∈ lw_all := lw_g (lw_at lw_m1 193 rfl) rfl
theorem q637 : (Jvm.Cond.arrayClass Jvm.ClassFile.FieldType.short) ∈ lw_all := lw_g (lw_at lw_m3 72 rfl) rfl
