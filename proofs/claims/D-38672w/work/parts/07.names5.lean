/-! java/lang/Throwable -/
set_option maxRecDepth 100000
def RJ11 : String := "java/lang/Throwable"
def TJ11 : u_T := fun k => match k with
  | 0 => ("java/lang/Throwable", "cause", "Ljava/lang/Throwable;", false)
  | 1 => ("java/lang/Throwable", "stackTrace", "[Ljava/lang/StackTraceElement;", false)
  | 2 => ("java/lang/Throwable", "suppressedExceptions", "Ljava/util/List;", false)
  | 3 => ("java/lang/Throwable", "detailMessage", "Ljava/lang/String;", false)
  | _ => ("java/lang/Throwable", "backtrace", "Ljava/lang/Object;", false)
def tyJ11 : Nat → FieldType := fun k => match k with
  | 0 => .object "java/lang/Throwable"
  | 1 => .array (.object "java/lang/StackTraceElement")
  | 2 => .object "java/util/List"
  | 3 => .object "java/lang/String"
  | _ => .object "java/lang/Object"
abbrev wsJ110 : List Cond := u_ws RJ11 TJ11 5
theorem nmJ11 : ∀ a, a < 5 → ∀ b, b < 5 → a ≠ b → (TJ11 a).2.1 ≠ (TJ11 b).2.1 := by decide +kernel
theorem tyJ11_ok : ∀ k, k < 5 → parseFieldDescriptor (TJ11 k).2.2.1 = some (tyJ11 k) := by decide +kernel
abbrev cJ11_init : ByteArray := prog_33_method_1_code
def yJ11_init : MethodName := ⟨RJ11, "<init>", "()V"⟩
def dkwJ11_init_1 : List UInt8 := [182, 0, 27, 87, 177]
abbrev dktJ11_init_1 : List UInt8 := dkwJ11_init_1 ++ []
def dkwJ11_init_0 : List UInt8 := [42, 183, 0, 1, 42, 42, 181, 0, 7, 42, 178, 0, 13, 181, 0, 17, 42, 178, 0, 20, 181, 0, 24, 42]
abbrev dktJ11_init_0 : List UInt8 := dkwJ11_init_0 ++ dktJ11_init_1
theorem dksJ11_init_0 : cJ11_init.data.toList.drop 0 = dktJ11_init_0 := by decide +kernel
theorem dksJ11_init_1 : cJ11_init.data.toList.drop 24 = dktJ11_init_1 := dk_seg dksJ11_init_0 24 rfl rfl
theorem dJ11_init_0 : decode cJ11_init 0 = .ok (.aload_n 0, 1) := dk_42 (dk_at dksJ11_init_0 0 rfl rfl)
theorem dJ11_init_1 : decode cJ11_init 1 = .ok (.invokespecial 1, 3) := dk_183 0 1 (dk_at dksJ11_init_0 1 rfl rfl)
theorem dJ11_init_4 : decode cJ11_init 4 = .ok (.aload_n 0, 1) := dk_42 (dk_at dksJ11_init_0 4 rfl rfl)
theorem dJ11_init_5 : decode cJ11_init 5 = .ok (.aload_n 0, 1) := dk_42 (dk_at dksJ11_init_0 5 rfl rfl)
theorem dJ11_init_6 : decode cJ11_init 6 = .ok (.putfield 7, 3) := dk_181 0 7 (dk_at dksJ11_init_0 6 rfl rfl)
theorem dJ11_init_9 : decode cJ11_init 9 = .ok (.aload_n 0, 1) := dk_42 (dk_at dksJ11_init_0 9 rfl rfl)
theorem dJ11_init_10 : decode cJ11_init 10 = .ok (.getstatic 13, 3) := dk_178 0 13 (dk_at dksJ11_init_0 10 rfl rfl)
theorem dJ11_init_13 : decode cJ11_init 13 = .ok (.putfield 17, 3) := dk_181 0 17 (dk_at dksJ11_init_0 13 rfl rfl)
theorem dJ11_init_16 : decode cJ11_init 16 = .ok (.aload_n 0, 1) := dk_42 (dk_at dksJ11_init_0 16 rfl rfl)
theorem dJ11_init_17 : decode cJ11_init 17 = .ok (.getstatic 20, 3) := dk_178 0 20 (dk_at dksJ11_init_0 17 rfl rfl)
theorem dJ11_init_20 : decode cJ11_init 20 = .ok (.putfield 24, 3) := dk_181 0 24 (dk_at dksJ11_init_0 20 rfl rfl)
theorem dJ11_init_23 : decode cJ11_init 23 = .ok (.aload_n 0, 1) := dk_42 (dk_at dksJ11_init_0 23 rfl rfl)
theorem dJ11_init_24 : decode cJ11_init 24 = .ok (.invokevirtual 27, 3) := dk_182 0 27 (dk_at dksJ11_init_1 0 rfl rfl)
theorem dJ11_init_27 : decode cJ11_init 27 = .ok (.pop, 1) := dk_87 (dk_at dksJ11_init_1 3 rfl rfl)
theorem dJ11_init_28 : decode cJ11_init 28 = .ok (.return_, 1) := dk_177 (dk_at dksJ11_init_1 4 rfl rfl)
abbrev cJ11_init_2 : ByteArray := prog_33_method_2_code
def yJ11_init_2 : MethodName := ⟨RJ11, "<init>", "(Ljava/lang/String;)V"⟩
def dkwJ11_init_2_1 : List UInt8 := [182, 0, 27, 87, 42, 43, 181, 0, 31, 177]
abbrev dktJ11_init_2_1 : List UInt8 := dkwJ11_init_2_1 ++ []
def dkwJ11_init_2_0 : List UInt8 := [42, 183, 0, 1, 42, 42, 181, 0, 7, 42, 178, 0, 13, 181, 0, 17, 42, 178, 0, 20, 181, 0, 24, 42]
abbrev dktJ11_init_2_0 : List UInt8 := dkwJ11_init_2_0 ++ dktJ11_init_2_1
theorem dksJ11_init_2_0 : cJ11_init_2.data.toList.drop 0 = dktJ11_init_2_0 := by decide +kernel
theorem dksJ11_init_2_1 : cJ11_init_2.data.toList.drop 24 = dktJ11_init_2_1 := dk_seg dksJ11_init_2_0 24 rfl rfl
theorem dJ11_init_2_0 : decode cJ11_init_2 0 = .ok (.aload_n 0, 1) := dk_42 (dk_at dksJ11_init_2_0 0 rfl rfl)
theorem dJ11_init_2_1 : decode cJ11_init_2 1 = .ok (.invokespecial 1, 3) := dk_183 0 1 (dk_at dksJ11_init_2_0 1 rfl rfl)
theorem dJ11_init_2_4 : decode cJ11_init_2 4 = .ok (.aload_n 0, 1) := dk_42 (dk_at dksJ11_init_2_0 4 rfl rfl)
theorem dJ11_init_2_5 : decode cJ11_init_2 5 = .ok (.aload_n 0, 1) := dk_42 (dk_at dksJ11_init_2_0 5 rfl rfl)
theorem dJ11_init_2_6 : decode cJ11_init_2 6 = .ok (.putfield 7, 3) := dk_181 0 7 (dk_at dksJ11_init_2_0 6 rfl rfl)
theorem dJ11_init_2_9 : decode cJ11_init_2 9 = .ok (.aload_n 0, 1) := dk_42 (dk_at dksJ11_init_2_0 9 rfl rfl)
theorem dJ11_init_2_10 : decode cJ11_init_2 10 = .ok (.getstatic 13, 3) := dk_178 0 13 (dk_at dksJ11_init_2_0 10 rfl rfl)
theorem dJ11_init_2_13 : decode cJ11_init_2 13 = .ok (.putfield 17, 3) := dk_181 0 17 (dk_at dksJ11_init_2_0 13 rfl rfl)
theorem dJ11_init_2_16 : decode cJ11_init_2 16 = .ok (.aload_n 0, 1) := dk_42 (dk_at dksJ11_init_2_0 16 rfl rfl)
theorem dJ11_init_2_17 : decode cJ11_init_2 17 = .ok (.getstatic 20, 3) := dk_178 0 20 (dk_at dksJ11_init_2_0 17 rfl rfl)
theorem dJ11_init_2_20 : decode cJ11_init_2 20 = .ok (.putfield 24, 3) := dk_181 0 24 (dk_at dksJ11_init_2_0 20 rfl rfl)
theorem dJ11_init_2_23 : decode cJ11_init_2 23 = .ok (.aload_n 0, 1) := dk_42 (dk_at dksJ11_init_2_0 23 rfl rfl)
theorem dJ11_init_2_24 : decode cJ11_init_2 24 = .ok (.invokevirtual 27, 3) := dk_182 0 27 (dk_at dksJ11_init_2_1 0 rfl rfl)
theorem dJ11_init_2_27 : decode cJ11_init_2 27 = .ok (.pop, 1) := dk_87 (dk_at dksJ11_init_2_1 3 rfl rfl)
theorem dJ11_init_2_28 : decode cJ11_init_2 28 = .ok (.aload_n 0, 1) := dk_42 (dk_at dksJ11_init_2_1 4 rfl rfl)
theorem dJ11_init_2_29 : decode cJ11_init_2 29 = .ok (.aload_n 1, 1) := dk_43 (dk_at dksJ11_init_2_1 5 rfl rfl)
theorem dJ11_init_2_30 : decode cJ11_init_2 30 = .ok (.putfield 31, 3) := dk_181 0 31 (dk_at dksJ11_init_2_1 6 rfl rfl)
theorem dJ11_init_2_33 : decode cJ11_init_2 33 = .ok (.return_, 1) := dk_177 (dk_at dksJ11_init_2_1 9 rfl rfl)
abbrev cJ11_init_3 : ByteArray := prog_33_method_4_code
def yJ11_init_3 : MethodName := ⟨RJ11, "<init>", "(Ljava/lang/Throwable;)V"⟩
def dkwJ11_init_3_2 : List UInt8 := [181, 0, 7, 177]
abbrev dktJ11_init_3_2 : List UInt8 := dkwJ11_init_3_2 ++ []
def dkwJ11_init_3_1 : List UInt8 := [182, 0, 27, 87, 42, 43, 199, 0, 7, 1, 167, 0, 7, 43, 182, 0, 35, 181, 0, 31, 42, 43]
abbrev dktJ11_init_3_1 : List UInt8 := dkwJ11_init_3_1 ++ dktJ11_init_3_2
def dkwJ11_init_3_0 : List UInt8 := [42, 183, 0, 1, 42, 42, 181, 0, 7, 42, 178, 0, 13, 181, 0, 17, 42, 178, 0, 20, 181, 0, 24, 42]
abbrev dktJ11_init_3_0 : List UInt8 := dkwJ11_init_3_0 ++ dktJ11_init_3_1
theorem dksJ11_init_3_0 : cJ11_init_3.data.toList.drop 0 = dktJ11_init_3_0 := by decide +kernel
theorem dksJ11_init_3_1 : cJ11_init_3.data.toList.drop 24 = dktJ11_init_3_1 := dk_seg dksJ11_init_3_0 24 rfl rfl
theorem dksJ11_init_3_2 : cJ11_init_3.data.toList.drop 46 = dktJ11_init_3_2 := dk_seg dksJ11_init_3_1 22 rfl rfl
theorem dJ11_init_3_0 : decode cJ11_init_3 0 = .ok (.aload_n 0, 1) := dk_42 (dk_at dksJ11_init_3_0 0 rfl rfl)
theorem dJ11_init_3_1 : decode cJ11_init_3 1 = .ok (.invokespecial 1, 3) := dk_183 0 1 (dk_at dksJ11_init_3_0 1 rfl rfl)
theorem dJ11_init_3_4 : decode cJ11_init_3 4 = .ok (.aload_n 0, 1) := dk_42 (dk_at dksJ11_init_3_0 4 rfl rfl)
theorem dJ11_init_3_5 : decode cJ11_init_3 5 = .ok (.aload_n 0, 1) := dk_42 (dk_at dksJ11_init_3_0 5 rfl rfl)
theorem dJ11_init_3_6 : decode cJ11_init_3 6 = .ok (.putfield 7, 3) := dk_181 0 7 (dk_at dksJ11_init_3_0 6 rfl rfl)
theorem dJ11_init_3_9 : decode cJ11_init_3 9 = .ok (.aload_n 0, 1) := dk_42 (dk_at dksJ11_init_3_0 9 rfl rfl)
theorem dJ11_init_3_10 : decode cJ11_init_3 10 = .ok (.getstatic 13, 3) := dk_178 0 13 (dk_at dksJ11_init_3_0 10 rfl rfl)
theorem dJ11_init_3_13 : decode cJ11_init_3 13 = .ok (.putfield 17, 3) := dk_181 0 17 (dk_at dksJ11_init_3_0 13 rfl rfl)
theorem dJ11_init_3_16 : decode cJ11_init_3 16 = .ok (.aload_n 0, 1) := dk_42 (dk_at dksJ11_init_3_0 16 rfl rfl)
theorem dJ11_init_3_17 : decode cJ11_init_3 17 = .ok (.getstatic 20, 3) := dk_178 0 20 (dk_at dksJ11_init_3_0 17 rfl rfl)
theorem dJ11_init_3_20 : decode cJ11_init_3 20 = .ok (.putfield 24, 3) := dk_181 0 24 (dk_at dksJ11_init_3_0 20 rfl rfl)
theorem dJ11_init_3_23 : decode cJ11_init_3 23 = .ok (.aload_n 0, 1) := dk_42 (dk_at dksJ11_init_3_0 23 rfl rfl)
theorem dJ11_init_3_24 : decode cJ11_init_3 24 = .ok (.invokevirtual 27, 3) := dk_182 0 27 (dk_at dksJ11_init_3_1 0 rfl rfl)
theorem dJ11_init_3_27 : decode cJ11_init_3 27 = .ok (.pop, 1) := dk_87 (dk_at dksJ11_init_3_1 3 rfl rfl)
theorem dJ11_init_3_28 : decode cJ11_init_3 28 = .ok (.aload_n 0, 1) := dk_42 (dk_at dksJ11_init_3_1 4 rfl rfl)
theorem dJ11_init_3_29 : decode cJ11_init_3 29 = .ok (.aload_n 1, 1) := dk_43 (dk_at dksJ11_init_3_1 5 rfl rfl)
theorem dJ11_init_3_30 : decode cJ11_init_3 30 = .ok (.ifnonnull 7, 3) := dk_199 0 7 (dk_at dksJ11_init_3_1 6 rfl rfl)
theorem dJ11_init_3_33 : decode cJ11_init_3 33 = .ok (.aconst_null, 1) := dk_1 (dk_at dksJ11_init_3_1 9 rfl rfl)
theorem dJ11_init_3_34 : decode cJ11_init_3 34 = .ok (.goto 7, 3) := dk_167 0 7 (dk_at dksJ11_init_3_1 10 rfl rfl)
theorem dJ11_init_3_37 : decode cJ11_init_3 37 = .ok (.aload_n 1, 1) := dk_43 (dk_at dksJ11_init_3_1 13 rfl rfl)
theorem dJ11_init_3_38 : decode cJ11_init_3 38 = .ok (.invokevirtual 35, 3) := dk_182 0 35 (dk_at dksJ11_init_3_1 14 rfl rfl)
theorem dJ11_init_3_41 : decode cJ11_init_3 41 = .ok (.putfield 31, 3) := dk_181 0 31 (dk_at dksJ11_init_3_1 17 rfl rfl)
theorem dJ11_init_3_44 : decode cJ11_init_3 44 = .ok (.aload_n 0, 1) := dk_42 (dk_at dksJ11_init_3_1 20 rfl rfl)
theorem dJ11_init_3_45 : decode cJ11_init_3 45 = .ok (.aload_n 1, 1) := dk_43 (dk_at dksJ11_init_3_1 21 rfl rfl)
theorem dJ11_init_3_46 : decode cJ11_init_3 46 = .ok (.putfield 7, 3) := dk_181 0 7 (dk_at dksJ11_init_3_2 0 rfl rfl)
theorem dJ11_init_3_49 : decode cJ11_init_3 49 = .ok (.return_, 1) := dk_177 (dk_at dksJ11_init_3_2 3 rfl rfl)
abbrev cJ11_toString : ByteArray := prog_33_method_11_code
def yJ11_toString : MethodName := ⟨RJ11, "toString", "()Ljava/lang/String;"⟩
def dkwJ11_toString_1 : List UInt8 := [43, 182, 0, 49, 18, 81, 182, 0, 49, 44, 182, 0, 49, 182, 0, 60, 167, 0, 4, 43, 176]
abbrev dktJ11_toString_1 : List UInt8 := dkwJ11_toString_1 ++ []
def dkwJ11_toString_0 : List UInt8 := [42, 182, 0, 69, 182, 0, 73, 76, 42, 182, 0, 78, 77, 44, 198, 0, 29, 187, 0, 44, 89, 183, 0, 46]
abbrev dktJ11_toString_0 : List UInt8 := dkwJ11_toString_0 ++ dktJ11_toString_1
theorem dksJ11_toString_0 : cJ11_toString.data.toList.drop 0 = dktJ11_toString_0 := by decide +kernel
theorem dksJ11_toString_1 : cJ11_toString.data.toList.drop 24 = dktJ11_toString_1 := dk_seg dksJ11_toString_0 24 rfl rfl
theorem dJ11_toString_0 : decode cJ11_toString 0 = .ok (.aload_n 0, 1) := dk_42 (dk_at dksJ11_toString_0 0 rfl rfl)
theorem dJ11_toString_1 : decode cJ11_toString 1 = .ok (.invokevirtual 69, 3) := dk_182 0 69 (dk_at dksJ11_toString_0 1 rfl rfl)
theorem dJ11_toString_4 : decode cJ11_toString 4 = .ok (.invokevirtual 73, 3) := dk_182 0 73 (dk_at dksJ11_toString_0 4 rfl rfl)
theorem dJ11_toString_7 : decode cJ11_toString 7 = .ok (.astore_n 1, 1) := dk_76 (dk_at dksJ11_toString_0 7 rfl rfl)
theorem dJ11_toString_8 : decode cJ11_toString 8 = .ok (.aload_n 0, 1) := dk_42 (dk_at dksJ11_toString_0 8 rfl rfl)
theorem dJ11_toString_9 : decode cJ11_toString 9 = .ok (.invokevirtual 78, 3) := dk_182 0 78 (dk_at dksJ11_toString_0 9 rfl rfl)
theorem dJ11_toString_12 : decode cJ11_toString 12 = .ok (.astore_n 2, 1) := dk_77 (dk_at dksJ11_toString_0 12 rfl rfl)
theorem dJ11_toString_13 : decode cJ11_toString 13 = .ok (.aload_n 2, 1) := dk_44 (dk_at dksJ11_toString_0 13 rfl rfl)
theorem dJ11_toString_14 : decode cJ11_toString 14 = .ok (.ifnull 29, 3) := dk_198 0 29 (dk_at dksJ11_toString_0 14 rfl rfl)
theorem dJ11_toString_17 : decode cJ11_toString 17 = .ok (.new 44, 3) := dk_187 0 44 (dk_at dksJ11_toString_0 17 rfl rfl)
theorem dJ11_toString_20 : decode cJ11_toString 20 = .ok (.dup, 1) := dk_89 (dk_at dksJ11_toString_0 20 rfl rfl)
theorem dJ11_toString_21 : decode cJ11_toString 21 = .ok (.invokespecial 46, 3) := dk_183 0 46 (dk_at dksJ11_toString_0 21 rfl rfl)
theorem dJ11_toString_24 : decode cJ11_toString 24 = .ok (.aload_n 1, 1) := dk_43 (dk_at dksJ11_toString_1 0 rfl rfl)
theorem dJ11_toString_25 : decode cJ11_toString 25 = .ok (.invokevirtual 49, 3) := dk_182 0 49 (dk_at dksJ11_toString_1 1 rfl rfl)
theorem dJ11_toString_28 : decode cJ11_toString 28 = .ok (.ldc 81, 2) := dk_18 81 (dk_at dksJ11_toString_1 4 rfl rfl)
theorem dJ11_toString_30 : decode cJ11_toString 30 = .ok (.invokevirtual 49, 3) := dk_182 0 49 (dk_at dksJ11_toString_1 6 rfl rfl)
theorem dJ11_toString_33 : decode cJ11_toString 33 = .ok (.aload_n 2, 1) := dk_44 (dk_at dksJ11_toString_1 9 rfl rfl)
theorem dJ11_toString_34 : decode cJ11_toString 34 = .ok (.invokevirtual 49, 3) := dk_182 0 49 (dk_at dksJ11_toString_1 10 rfl rfl)
theorem dJ11_toString_37 : decode cJ11_toString 37 = .ok (.invokevirtual 60, 3) := dk_182 0 60 (dk_at dksJ11_toString_1 13 rfl rfl)
theorem dJ11_toString_40 : decode cJ11_toString 40 = .ok (.goto 4, 3) := dk_167 0 4 (dk_at dksJ11_toString_1 16 rfl rfl)
theorem dJ11_toString_43 : decode cJ11_toString 43 = .ok (.aload_n 1, 1) := dk_43 (dk_at dksJ11_toString_1 19 rfl rfl)
theorem dJ11_toString_44 : decode cJ11_toString 44 = .ok (.areturn, 1) := dk_176 (dk_at dksJ11_toString_1 20 rfl rfl)
abbrev cJ11_getLocalizedMessage : ByteArray := prog_33_method_7_code
def yJ11_getLocalizedMessage : MethodName := ⟨RJ11, "getLocalizedMessage", "()Ljava/lang/String;"⟩
theorem dJ11_getLocalizedMessage_0 : decode cJ11_getLocalizedMessage 0 = .ok (.aload_n 0, 1) := by decide +kernel
theorem dJ11_getLocalizedMessage_1 : decode cJ11_getLocalizedMessage 1 = .ok (.invokevirtual 39, 3) := by decide +kernel
theorem dJ11_getLocalizedMessage_4 : decode cJ11_getLocalizedMessage 4 = .ok (.areturn, 1) := by decide +kernel
abbrev cJ11_getMessage : ByteArray := prog_33_method_6_code
def yJ11_getMessage : MethodName := ⟨RJ11, "getMessage", "()Ljava/lang/String;"⟩
theorem dJ11_getMessage_0 : decode cJ11_getMessage 0 = .ok (.aload_n 0, 1) := by decide +kernel
theorem dJ11_getMessage_1 : decode cJ11_getMessage 1 = .ok (.getfield 31, 3) := by decide +kernel
theorem dJ11_getMessage_4 : decode cJ11_getMessage 4 = .ok (.areturn, 1) := by decide +kernel
theorem q72 : (Jvm.Cond.initialized "java/lang/Throwable") ∈ lw_all := lw_g (lw_at lw_m1 17 rfl) rfl
theorem q456 : (Jvm.Cond.declares ({ cls := "java/lang/Throwable", name := "<init>", desc := "()V" } : Jvm.MethodName)) ∈ lw_tbl := lw_at lw_m2 161 rfl
theorem q457 : (Jvm.Cond.declares ({ cls := "java/lang/Throwable", name := "<init>", desc := "(Ljava/lang/String;)V" } : Jvm.MethodName)) ∈ lw_tbl := lw_at lw_m2 162 rfl
theorem q461 : (Jvm.Cond.lays "java/lang/Throwable" "java/lang/Throwable" "cause" "Ljava/lang/Throwable;") ∈ lw_all := lw_g (lw_at lw_m2 166 rfl) rfl
theorem q463 : (Jvm.Cond.lays "java/lang/Throwable" "java/lang/Throwable" "stackTrace" "[Ljava/lang/StackTraceElement;") ∈ lw_all := lw_g (lw_at lw_m2 168 rfl) rfl
theorem q465 : (Jvm.Cond.lays "java/lang/Throwable" "java/lang/Throwable" "suppressedExceptions" "Ljava/util/List;") ∈ lw_all := lw_g (lw_at lw_m2 170 rfl) rfl
theorem q467 : (Jvm.Cond.lays "java/lang/Throwable" "java/lang/Throwable" "detailMessage" "Ljava/lang/String;") ∈ lw_all := lw_g (lw_at lw_m2 172 rfl) rfl
theorem q469 : (Jvm.Cond.lays "java/lang/Throwable" "java/lang/Throwable" "backtrace" "Ljava/lang/Object;") ∈ lw_all := lw_g (lw_at lw_m2 174 rfl) rfl
theorem q470 : (Jvm.Cond.fieldLink "java/lang/Throwable" (198 : Nat) "java/lang/Throwable" "backtrace" "Ljava/lang/Object;") ∈ lw_all := lw_g (lw_at lw_m2 175 rfl) rfl
theorem q471 : (Jvm.Cond.superclass "java/lang/Throwable" "java/lang/Object") ∈ lw_all := lw_g (lw_at lw_m2 176 rfl) rfl
theorem q472 : (Jvm.Cond.instanceMethod ({ cls := "java/lang/Throwable", name := "<init>", desc := "()V" } : Jvm.MethodName)) ∈ lw_all := lw_g (lw_at lw_m2 177 rfl) rfl
theorem q473 : (Jvm.Cond.code ({ cls := "java/lang/Throwable", name := "<init>", desc := "()V" } : Jvm.MethodName) prog_33_method_1_code (1 : Nat) (Option.none : Option Jvm.ClassFile.FieldType)) ∈ lw_all := lw_g (lw_at lw_m2 178 rfl) rfl
theorem q474 : (Jvm.Cond.methodLink "java/lang/Throwable" (1 : Nat) ({ cls := "java/lang/Object", name := "<init>", desc := "()V" } : Jvm.MethodName)) ∈ lw_all := lw_g (lw_at lw_m2 179 rfl) rfl
theorem q475 : (Jvm.Cond.fieldLink "java/lang/Throwable" (13 : Nat) "java/lang/Throwable" "UNASSIGNED_STACK" "[Ljava/lang/StackTraceElement;") ∈ lw_all := lw_g (lw_at lw_m2 180 rfl) rfl
theorem q476 : (Jvm.Cond.laysStatic "java/lang/Throwable" "UNASSIGNED_STACK" "[Ljava/lang/StackTraceElement;") ∈ lw_tbl := lw_at lw_m2 181 rfl
theorem q477 : (Jvm.Cond.fieldLink "java/lang/Throwable" (20 : Nat) "java/lang/Throwable" "SUPPRESSED_SENTINEL" "Ljava/util/List;") ∈ lw_all := lw_g (lw_at lw_m2 182 rfl) rfl
theorem q478 : (Jvm.Cond.laysStatic "java/lang/Throwable" "SUPPRESSED_SENTINEL" "Ljava/util/List;") ∈ lw_tbl := lw_at lw_m2 183 rfl
theorem q479 : (Jvm.Cond.methodLink "java/lang/Throwable" (27 : Nat) ({ cls := "java/lang/Throwable", name := "fillInStackTrace", desc := "()Ljava/lang/Throwable;" } : Jvm.MethodName)) ∈ lw_all := lw_g (lw_at lw_m2 184 rfl) rfl
theorem q480 : (Jvm.Cond.instanceMethod ({ cls := "java/lang/Throwable", name := "fillInStackTrace", desc := "()Ljava/lang/Throwable;" } : Jvm.MethodName)) ∈ lw_all := lw_g (lw_at lw_m2 185 rfl) rfl
theorem q481 : (Jvm.Cond.sameMethod "java/lang/Throwable" "java/lang/Throwable" "fillInStackTrace" "()Ljava/lang/Throwable;") ∈ lw_all := lw_g (lw_at lw_m2 186 rfl) rfl
theorem q488 : (Jvm.Cond.codeSync ({ cls := "java/lang/Throwable", name := "fillInStackTrace", desc := "()Ljava/lang/Throwable;" } : Jvm.MethodName) prog_33_method_18_code (1 : Nat) (Option.some (Jvm.ClassFile.FieldType.object "java/lang/Throwable"))) ∈ lw_all := lw_g (lw_at lw_m2 193 rfl) rfl
theorem q489 : (Jvm.Cond.methodLink "java/lang/Throwable" (202 : Nat) ({ cls := "java/lang/Throwable", name := "fillInStackTrace", desc := "(I)Ljava/lang/Throwable;" } : Jvm.MethodName)) ∈ lw_all := lw_g (lw_at lw_m2 194 rfl) rfl
theorem q490 : (Jvm.Cond.privateMethod ({ cls := "java/lang/Throwable", name := "fillInStackTrace", desc := "(I)Ljava/lang/Throwable;" } : Jvm.MethodName)) ∈ lw_tbl := lw_at lw_m2 195 rfl
theorem q491 : (Jvm.Cond.instanceMethod ({ cls := "java/lang/Throwable", name := "fillInStackTrace", desc := "(I)Ljava/lang/Throwable;" } : Jvm.MethodName)) ∈ lw_all := lw_g (lw_at lw_m2 196 rfl) rfl
theorem q492 : (Jvm.Cond.instantiable "java/lang/Throwable" (6 : Nat)) ∈ lw_all := lw_g (lw_at lw_m2 197 rfl) rfl
theorem q493 : (Jvm.Cond.native ({ cls := "java/lang/Throwable", name := "fillInStackTrace", desc := "(I)Ljava/lang/Throwable;" } : Jvm.MethodName)) ∈ lw_all := lw_g (lw_at lw_m2 198 rfl) rfl
theorem q723 : (Jvm.Cond.instanceMethod ({ cls := "java/lang/Throwable", name := "<init>", desc := "(Ljava/lang/String;)V" } : Jvm.MethodName)) ∈ lw_all := lw_g (lw_at lw_m3 188 rfl) rfl
theorem q724 : (Jvm.Cond.code ({ cls := "java/lang/Throwable", name := "<init>", desc := "(Ljava/lang/String;)V" } : Jvm.MethodName) prog_33_method_2_code (2 : Nat) (Option.none : Option Jvm.ClassFile.FieldType)) ∈ lw_all := lw_g (lw_at lw_m3 189 rfl) rfl
theorem q725 : (Jvm.Cond.fieldLink "java/lang/Throwable" (198 : Nat) "java/lang/Throwable" "backtrace" "Ljava/lang/Object;") ∈ lw_all := lw_g (lw_at lw_m3 190 rfl) rfl
theorem q726 : (Jvm.Cond.fieldLink "java/lang/Throwable" (31 : Nat) "java/lang/Throwable" "detailMessage" "Ljava/lang/String;") ∈ lw_all := lw_g (lw_at lw_m3 191 rfl) rfl
theorem q727 : (Jvm.Cond.fieldLink "java/lang/Throwable" (7 : Nat) "java/lang/Throwable" "cause" "Ljava/lang/Throwable;") ∈ lw_all := lw_g (lw_at lw_m3 192 rfl) rfl
theorem q728 : (Jvm.Cond.fieldLink "java/lang/Throwable" (17 : Nat) "java/lang/Throwable" "stackTrace" "[Ljava/lang/StackTraceElement;") ∈ lw_all := lw_g (lw_at lw_m3 193 rfl) rfl
theorem q729 : (Jvm.Cond.fieldLink "java/lang/Throwable" (24 : Nat) "java/lang/Throwable" "suppressedExceptions" "Ljava/util/List;") ∈ lw_all := lw_g (lw_at lw_m3 194 rfl) rfl
theorem q730 : (Jvm.Cond.soleField "java/lang/Throwable" "backtrace") ∈ lw_all := lw_g (lw_at lw_m3 195 rfl) rfl
theorem q731 : (Jvm.Cond.soleField "java/lang/Throwable" "detailMessage") ∈ lw_all := lw_g (lw_at lw_m3 196 rfl) rfl
theorem q732 : (Jvm.Cond.soleField "java/lang/Throwable" "cause") ∈ lw_all := lw_g (lw_at lw_m3 197 rfl) rfl
theorem q733 : (Jvm.Cond.soleField "java/lang/Throwable" "stackTrace") ∈ lw_all := lw_g (lw_at lw_m3 198 rfl) rfl
theorem q735 : (Jvm.Cond.soleField "java/lang/Throwable" "depth") ∈ lw_all := lw_g (lw_at lw_m3 200 rfl) rfl
theorem q736 : (Jvm.Cond.soleField "java/lang/Throwable" "suppressedExceptions") ∈ lw_all := lw_g (lw_at lw_m3 201 rfl) rfl
theorem q1031 : (Jvm.Cond.instanceMethod ({ cls := "java/lang/Throwable", name := "<init>", desc := "(Ljava/lang/Throwable;)V" } : Jvm.MethodName)) ∈ lw_all := lw_g (lw_at lw_m5 16 rfl) rfl
theorem q1032 : (Jvm.Cond.code ({ cls := "java/lang/Throwable", name := "<init>", desc := "(Ljava/lang/Throwable;)V" } : Jvm.MethodName) prog_33_method_4_code (2 : Nat) (Option.none : Option Jvm.ClassFile.FieldType)) ∈ lw_all := lw_g (lw_at lw_m5 17 rfl) rfl
theorem q1033 : (Jvm.Cond.methodLink "java/lang/Throwable" (35 : Nat) ({ cls := "java/lang/Throwable", name := "toString", desc := "()Ljava/lang/String;" } : Jvm.MethodName)) ∈ lw_all := lw_g (lw_at lw_m5 18 rfl) rfl
theorem q1034 : (Jvm.Cond.instanceMethod ({ cls := "java/lang/Throwable", name := "toString", desc := "()Ljava/lang/String;" } : Jvm.MethodName)) ∈ lw_all := lw_g (lw_at lw_m5 19 rfl) rfl
theorem q1035 : (Jvm.Cond.sameMethod "java/lang/Throwable" "java/lang/Throwable" "toString" "()Ljava/lang/String;") ∈ lw_all := lw_g (lw_at lw_m5 20 rfl) rfl
theorem q1043 : (Jvm.Cond.code ({ cls := "java/lang/Throwable", name := "toString", desc := "()Ljava/lang/String;" } : Jvm.MethodName) prog_33_method_11_code (3 : Nat) (Option.some (Jvm.ClassFile.FieldType.object "java/lang/String"))) ∈ lw_all := lw_g (lw_at lw_m5 28 rfl) rfl
theorem q1044 : (Jvm.Cond.methodLink "java/lang/Throwable" (69 : Nat) ({ cls := "java/lang/Object", name := "getClass", desc := "()Ljava/lang/Class;" } : Jvm.MethodName)) ∈ lw_all := lw_g (lw_at lw_m5 29 rfl) rfl
theorem q1045 : (Jvm.Cond.methodLink "java/lang/Throwable" (78 : Nat) ({ cls := "java/lang/Throwable", name := "getLocalizedMessage", desc := "()Ljava/lang/String;" } : Jvm.MethodName)) ∈ lw_all := lw_g (lw_at lw_m5 30 rfl) rfl
theorem q1046 : (Jvm.Cond.instanceMethod ({ cls := "java/lang/Throwable", name := "getLocalizedMessage", desc := "()Ljava/lang/String;" } : Jvm.MethodName)) ∈ lw_all := lw_g (lw_at lw_m5 31 rfl) rfl
theorem q1047 : (Jvm.Cond.sameMethod "java/lang/Throwable" "java/lang/Throwable" "getLocalizedMessage" "()Ljava/lang/String;") ∈ lw_all := lw_g (lw_at lw_m5 32 rfl) rfl
theorem q1055 : (Jvm.Cond.code ({ cls := "java/lang/Throwable", name := "getLocalizedMessage", desc := "()Ljava/lang/String;" } : Jvm.MethodName) prog_33_method_7_code (1 : Nat) (Option.some (Jvm.ClassFile.FieldType.object "java/lang/String"))) ∈ lw_all := lw_g (lw_at lw_m5 40 rfl) rfl
theorem q1056 : (Jvm.Cond.methodLink "java/lang/Throwable" (39 : Nat) ({ cls := "java/lang/Throwable", name := "getMessage", desc := "()Ljava/lang/String;" } : Jvm.MethodName)) ∈ lw_all := lw_g (lw_at lw_m5 41 rfl) rfl
theorem q1057 : (Jvm.Cond.instanceMethod ({ cls := "java/lang/Throwable", name := "getMessage", desc := "()Ljava/lang/String;" } : Jvm.MethodName)) ∈ lw_all := lw_g (lw_at lw_m5 42 rfl) rfl
theorem q1058 : (Jvm.Cond.sameMethod "java/lang/Throwable" "java/lang/Throwable" "getMessage" "()Ljava/lang/String;") ∈ lw_all := lw_g (lw_at lw_m5 43 rfl) rfl
theorem q1066 : (Jvm.Cond.code ({ cls := "java/lang/Throwable", name := "getMessage", desc := "()Ljava/lang/String;" } : Jvm.MethodName) prog_33_method_6_code (1 : Nat) (Option.some (Jvm.ClassFile.FieldType.object "java/lang/String"))) ∈ lw_all := lw_g (lw_at lw_m5 51 rfl) rfl
theorem q1067 : (Jvm.Cond.classLink "java/lang/Throwable" (44 : Nat) "java/lang/StringBuilder") ∈ lw_all := lw_g (lw_at lw_m5 52 rfl) rfl
theorem q1068 : (Jvm.Cond.methodLink "java/lang/Throwable" (46 : Nat) ({ cls := "java/lang/StringBuilder", name := "<init>", desc := "()V" } : Jvm.MethodName)) ∈ lw_all := lw_g (lw_at lw_m5 53 rfl) rfl
theorem q1069 : (Jvm.Cond.methodLink "java/lang/Throwable" (49 : Nat) ({ cls := "java/lang/StringBuilder", name := "append", desc := "(Ljava/lang/String;)Ljava/lang/StringBuilder;" } : Jvm.MethodName)) ∈ lw_all := lw_g (lw_at lw_m5 54 rfl) rfl
theorem q1070 : (Jvm.Cond.stringRef "java/lang/Throwable" (81 : Nat) ": ") ∈ lw_tbl := lw_at lw_m5 55 rfl
theorem q1071 : (Jvm.Cond.methodLink "java/lang/Throwable" (60 : Nat) ({ cls := "java/lang/StringBuilder", name := "toString", desc := "()Ljava/lang/String;" } : Jvm.MethodName)) ∈ lw_all := lw_g (lw_at lw_m5 56 rfl) rfl
theorem q3849 : (Jvm.Cond.sameMethod "java/lang/Throwable" "java/lang/Throwable" "fillInStackTrace" "(I)Ljava/lang/Throwable;") ∈ lw_all := lw_g (lw_at lw_m16 194 rfl) rfl
theorem q3931 : (Jvm.Cond.castable "java/lang/Throwable" "java/lang/Object") ∈ lw_tbl := lw_at lw_m17 36 rfl
theorem in_J11 : ∀ w ∈ wsJ110, w ∈ lw_all := lw_in wsJ110 [461, 463, 465, 467, 469] (by decide +kernel) (by decide +kernel)

/-! java/lang/Exception -/
set_option maxRecDepth 100000
def RJ12 : String := "java/lang/Exception"
abbrev cJ12_init : ByteArray := prog_16_method_2_code
def yJ12_init : MethodName := ⟨RJ12, "<init>", "(Ljava/lang/String;)V"⟩
def dkwJ12_init_0 : List UInt8 := [42, 43, 183, 0, 7, 177]
abbrev dktJ12_init_0 : List UInt8 := dkwJ12_init_0 ++ []
theorem dksJ12_init_0 : cJ12_init.data.toList.drop 0 = dktJ12_init_0 := by decide +kernel
theorem dJ12_init_0 : decode cJ12_init 0 = .ok (.aload_n 0, 1) := dk_42 (dk_at dksJ12_init_0 0 rfl rfl)
theorem dJ12_init_1 : decode cJ12_init 1 = .ok (.aload_n 1, 1) := dk_43 (dk_at dksJ12_init_0 1 rfl rfl)
theorem dJ12_init_2 : decode cJ12_init 2 = .ok (.invokespecial 7, 3) := dk_183 0 7 (dk_at dksJ12_init_0 2 rfl rfl)
theorem dJ12_init_5 : decode cJ12_init 5 = .ok (.return_, 1) := dk_177 (dk_at dksJ12_init_0 5 rfl rfl)
abbrev cJ12_init_2 : ByteArray := prog_16_method_4_code
def yJ12_init_2 : MethodName := ⟨RJ12, "<init>", "(Ljava/lang/Throwable;)V"⟩
def dkwJ12_init_2_0 : List UInt8 := [42, 43, 183, 0, 13, 177]
abbrev dktJ12_init_2_0 : List UInt8 := dkwJ12_init_2_0 ++ []
theorem dksJ12_init_2_0 : cJ12_init_2.data.toList.drop 0 = dktJ12_init_2_0 := by decide +kernel
theorem dJ12_init_2_0 : decode cJ12_init_2 0 = .ok (.aload_n 0, 1) := dk_42 (dk_at dksJ12_init_2_0 0 rfl rfl)
theorem dJ12_init_2_1 : decode cJ12_init_2 1 = .ok (.aload_n 1, 1) := dk_43 (dk_at dksJ12_init_2_0 1 rfl rfl)
theorem dJ12_init_2_2 : decode cJ12_init_2 2 = .ok (.invokespecial 13, 3) := dk_183 0 13 (dk_at dksJ12_init_2_0 2 rfl rfl)
theorem dJ12_init_2_5 : decode cJ12_init_2 5 = .ok (.return_, 1) := dk_177 (dk_at dksJ12_init_2_0 5 rfl rfl)
abbrev cJ12_init_3 : ByteArray := prog_16_method_1_code
def yJ12_init_3 : MethodName := ⟨RJ12, "<init>", "()V"⟩
theorem dJ12_init_3_0 : decode cJ12_init_3 0 = .ok (.aload_n 0, 1) := by decide +kernel
theorem dJ12_init_3_1 : decode cJ12_init_3 1 = .ok (.invokespecial 1, 3) := by decide +kernel
theorem dJ12_init_3_4 : decode cJ12_init_3 4 = .ok (.return_, 1) := by decide +kernel
theorem q73 : (Jvm.Cond.initialized "java/lang/Exception") ∈ lw_all := lw_g (lw_at lw_m1 18 rfl) rfl
theorem q454 : (Jvm.Cond.declares ({ cls := "java/lang/Exception", name := "<init>", desc := "()V" } : Jvm.MethodName)) ∈ lw_tbl := lw_at lw_m2 159 rfl
theorem q455 : (Jvm.Cond.declares ({ cls := "java/lang/Exception", name := "<init>", desc := "(Ljava/lang/String;)V" } : Jvm.MethodName)) ∈ lw_tbl := lw_at lw_m2 160 rfl
theorem q720 : (Jvm.Cond.instanceMethod ({ cls := "java/lang/Exception", name := "<init>", desc := "(Ljava/lang/String;)V" } : Jvm.MethodName)) ∈ lw_all := lw_g (lw_at lw_m3 185 rfl) rfl
theorem q721 : (Jvm.Cond.code ({ cls := "java/lang/Exception", name := "<init>", desc := "(Ljava/lang/String;)V" } : Jvm.MethodName) prog_16_method_2_code (2 : Nat) (Option.none : Option Jvm.ClassFile.FieldType)) ∈ lw_all := lw_g (lw_at lw_m3 186 rfl) rfl
theorem q722 : (Jvm.Cond.methodLink "java/lang/Exception" (7 : Nat) ({ cls := "java/lang/Throwable", name := "<init>", desc := "(Ljava/lang/String;)V" } : Jvm.MethodName)) ∈ lw_all := lw_g (lw_at lw_m3 187 rfl) rfl
theorem q1028 : (Jvm.Cond.instanceMethod ({ cls := "java/lang/Exception", name := "<init>", desc := "(Ljava/lang/Throwable;)V" } : Jvm.MethodName)) ∈ lw_all := lw_g (lw_at lw_m5 13 rfl) rfl
theorem q1029 : (Jvm.Cond.code ({ cls := "java/lang/Exception", name := "<init>", desc := "(Ljava/lang/Throwable;)V" } : Jvm.MethodName) prog_16_method_4_code (2 : Nat) (Option.none : Option Jvm.ClassFile.FieldType)) ∈ lw_all := lw_g (lw_at lw_m5 14 rfl) rfl
theorem q1030 : (Jvm.Cond.methodLink "java/lang/Exception" (13 : Nat) ({ cls := "java/lang/Throwable", name := "<init>", desc := "(Ljava/lang/Throwable;)V" } : Jvm.MethodName)) ∈ lw_all := lw_g (lw_at lw_m5 15 rfl) rfl
theorem q1700 : (Jvm.Cond.instanceMethod ({ cls := "java/lang/Exception", name := "<init>", desc := "()V" } : Jvm.MethodName)) ∈ lw_all := lw_g (lw_at lw_m7 205 rfl) rfl
theorem q1701 : (Jvm.Cond.code ({ cls := "java/lang/Exception", name := "<init>", desc := "()V" } : Jvm.MethodName) prog_16_method_1_code (1 : Nat) (Option.none : Option Jvm.ClassFile.FieldType)) ∈ lw_all := lw_g (lw_at lw_m7 206 rfl) rfl
theorem q1702 : (Jvm.Cond.methodLink "java/lang/Exception" (1 : Nat) ({ cls := "java/lang/Throwable", name := "<init>", desc := "()V" } : Jvm.MethodName)) ∈ lw_all := lw_g (lw_at lw_m7 207 rfl) rfl

/-! java/lang/RuntimeException -/
set_option maxRecDepth 100000
def RJ13 : String := "java/lang/RuntimeException"
abbrev cJ13_init : ByteArray := prog_26_method_2_code
def yJ13_init : MethodName := ⟨RJ13, "<init>", "(Ljava/lang/String;)V"⟩
def dkwJ13_init_0 : List UInt8 := [42, 43, 183, 0, 7, 177]
abbrev dktJ13_init_0 : List UInt8 := dkwJ13_init_0 ++ []
theorem dksJ13_init_0 : cJ13_init.data.toList.drop 0 = dktJ13_init_0 := by decide +kernel
theorem dJ13_init_0 : decode cJ13_init 0 = .ok (.aload_n 0, 1) := dk_42 (dk_at dksJ13_init_0 0 rfl rfl)
theorem dJ13_init_1 : decode cJ13_init 1 = .ok (.aload_n 1, 1) := dk_43 (dk_at dksJ13_init_0 1 rfl rfl)
theorem dJ13_init_2 : decode cJ13_init 2 = .ok (.invokespecial 7, 3) := dk_183 0 7 (dk_at dksJ13_init_0 2 rfl rfl)
theorem dJ13_init_5 : decode cJ13_init 5 = .ok (.return_, 1) := dk_177 (dk_at dksJ13_init_0 5 rfl rfl)
abbrev cJ13_init_2 : ByteArray := prog_26_method_4_code
def yJ13_init_2 : MethodName := ⟨RJ13, "<init>", "(Ljava/lang/Throwable;)V"⟩
def dkwJ13_init_2_0 : List UInt8 := [42, 43, 183, 0, 13, 177]
abbrev dktJ13_init_2_0 : List UInt8 := dkwJ13_init_2_0 ++ []
theorem dksJ13_init_2_0 : cJ13_init_2.data.toList.drop 0 = dktJ13_init_2_0 := by decide +kernel
theorem dJ13_init_2_0 : decode cJ13_init_2 0 = .ok (.aload_n 0, 1) := dk_42 (dk_at dksJ13_init_2_0 0 rfl rfl)
theorem dJ13_init_2_1 : decode cJ13_init_2 1 = .ok (.aload_n 1, 1) := dk_43 (dk_at dksJ13_init_2_0 1 rfl rfl)
theorem dJ13_init_2_2 : decode cJ13_init_2 2 = .ok (.invokespecial 13, 3) := dk_183 0 13 (dk_at dksJ13_init_2_0 2 rfl rfl)
theorem dJ13_init_2_5 : decode cJ13_init_2 5 = .ok (.return_, 1) := dk_177 (dk_at dksJ13_init_2_0 5 rfl rfl)
abbrev cJ13_init_3 : ByteArray := prog_26_method_1_code
def yJ13_init_3 : MethodName := ⟨RJ13, "<init>", "()V"⟩
theorem dJ13_init_3_0 : decode cJ13_init_3 0 = .ok (.aload_n 0, 1) := by decide +kernel
theorem dJ13_init_3_1 : decode cJ13_init_3 1 = .ok (.invokespecial 1, 3) := by decide +kernel
theorem dJ13_init_3_4 : decode cJ13_init_3 4 = .ok (.return_, 1) := by decide +kernel
theorem q74 : (Jvm.Cond.initialized "java/lang/RuntimeException") ∈ lw_all := lw_g (lw_at lw_m1 19 rfl) rfl
theorem q452 : (Jvm.Cond.declares ({ cls := "java/lang/RuntimeException", name := "<init>", desc := "()V" } : Jvm.MethodName)) ∈ lw_tbl := lw_at lw_m2 157 rfl
theorem q453 : (Jvm.Cond.declares ({ cls := "java/lang/RuntimeException", name := "<init>", desc := "(Ljava/lang/String;)V" } : Jvm.MethodName)) ∈ lw_tbl := lw_at lw_m2 158 rfl
theorem q717 : (Jvm.Cond.instanceMethod ({ cls := "java/lang/RuntimeException", name := "<init>", desc := "(Ljava/lang/String;)V" } : Jvm.MethodName)) ∈ lw_all := lw_g (lw_at lw_m3 182 rfl) rfl
theorem q718 : (Jvm.Cond.code ({ cls := "java/lang/RuntimeException", name := "<init>", desc := "(Ljava/lang/String;)V" } : Jvm.MethodName) prog_26_method_2_code (2 : Nat) (Option.none : Option Jvm.ClassFile.FieldType)) ∈ lw_all := lw_g (lw_at lw_m3 183 rfl) rfl
theorem q719 : (Jvm.Cond.methodLink "java/lang/RuntimeException" (7 : Nat) ({ cls := "java/lang/Exception", name := "<init>", desc := "(Ljava/lang/String;)V" } : Jvm.MethodName)) ∈ lw_all := lw_g (lw_at lw_m3 184 rfl) rfl
theorem q1025 : (Jvm.Cond.instanceMethod ({ cls := "java/lang/RuntimeException", name := "<init>", desc := "(Ljava/lang/Throwable;)V" } : Jvm.MethodName)) ∈ lw_all := lw_g (lw_at lw_m5 10 rfl) rfl
theorem q1026 : (Jvm.Cond.code ({ cls := "java/lang/RuntimeException", name := "<init>", desc := "(Ljava/lang/Throwable;)V" } : Jvm.MethodName) prog_26_method_4_code (2 : Nat) (Option.none : Option Jvm.ClassFile.FieldType)) ∈ lw_all := lw_g (lw_at lw_m5 11 rfl) rfl
theorem q1027 : (Jvm.Cond.methodLink "java/lang/RuntimeException" (13 : Nat) ({ cls := "java/lang/Exception", name := "<init>", desc := "(Ljava/lang/Throwable;)V" } : Jvm.MethodName)) ∈ lw_all := lw_g (lw_at lw_m5 12 rfl) rfl
theorem q1697 : (Jvm.Cond.instanceMethod ({ cls := "java/lang/RuntimeException", name := "<init>", desc := "()V" } : Jvm.MethodName)) ∈ lw_all := lw_g (lw_at lw_m7 202 rfl) rfl
theorem q1698 : (Jvm.Cond.code ({ cls := "java/lang/RuntimeException", name := "<init>", desc := "()V" } : Jvm.MethodName) prog_26_method_1_code (1 : Nat) (Option.none : Option Jvm.ClassFile.FieldType)) ∈ lw_all := lw_g (lw_at lw_m7 203 rfl) rfl
theorem q1699 : (Jvm.Cond.methodLink "java/lang/RuntimeException" (1 : Nat) ({ cls := "java/lang/Exception", name := "<init>", desc := "()V" } : Jvm.MethodName)) ∈ lw_all := lw_g (lw_at lw_m7 204 rfl) rfl

/-! java/lang/IndexOutOfBoundsException -/
set_option maxRecDepth 100000
def RJ14 : String := "java/lang/IndexOutOfBoundsException"
def TJ14 : u_T := fun k => match k with
  | 0 => ("java/lang/Throwable", "cause", "Ljava/lang/Throwable;", false)
  | 1 => ("java/lang/Throwable", "stackTrace", "[Ljava/lang/StackTraceElement;", false)
  | 2 => ("java/lang/Throwable", "suppressedExceptions", "Ljava/util/List;", false)
  | 3 => ("java/lang/Throwable", "detailMessage", "Ljava/lang/String;", false)
  | 4 => ("java/lang/Throwable", "backtrace", "Ljava/lang/Object;", false)
  | _ => ("java/lang/Throwable", "depth", "I", false)
def tyJ14 : Nat → FieldType := fun k => match k with
  | 0 => .object "java/lang/Throwable"
  | 1 => .array (.object "java/lang/StackTraceElement")
  | 2 => .object "java/util/List"
  | 3 => .object "java/lang/String"
  | 4 => .object "java/lang/Object"
  | _ => .int
abbrev wsJ140 : List Cond := u_ws RJ14 TJ14 6
theorem nmJ14 : ∀ a, a < 6 → ∀ b, b < 6 → a ≠ b → (TJ14 a).2.1 ≠ (TJ14 b).2.1 := by decide +kernel
theorem tyJ14_ok : ∀ k, k < 6 → parseFieldDescriptor (TJ14 k).2.2.1 = some (tyJ14 k) := by decide +kernel
abbrev cJ14_init : ByteArray := prog_19_method_2_code
def yJ14_init : MethodName := ⟨RJ14, "<init>", "(Ljava/lang/String;)V"⟩
def dkwJ14_init_0 : List UInt8 := [42, 43, 183, 0, 7, 177]
abbrev dktJ14_init_0 : List UInt8 := dkwJ14_init_0 ++ []
theorem dksJ14_init_0 : cJ14_init.data.toList.drop 0 = dktJ14_init_0 := by decide +kernel
theorem dJ14_init_0 : decode cJ14_init 0 = .ok (.aload_n 0, 1) := dk_42 (dk_at dksJ14_init_0 0 rfl rfl)
theorem dJ14_init_1 : decode cJ14_init 1 = .ok (.aload_n 1, 1) := dk_43 (dk_at dksJ14_init_0 1 rfl rfl)
theorem dJ14_init_2 : decode cJ14_init 2 = .ok (.invokespecial 7, 3) := dk_183 0 7 (dk_at dksJ14_init_0 2 rfl rfl)
theorem dJ14_init_5 : decode cJ14_init 5 = .ok (.return_, 1) := dk_177 (dk_at dksJ14_init_0 5 rfl rfl)
abbrev cJ14_init_2 : ByteArray := prog_19_method_1_code
def yJ14_init_2 : MethodName := ⟨RJ14, "<init>", "()V"⟩
theorem dJ14_init_2_0 : decode cJ14_init_2 0 = .ok (.aload_n 0, 1) := by decide +kernel
theorem dJ14_init_2_1 : decode cJ14_init_2 1 = .ok (.invokespecial 1, 3) := by decide +kernel
theorem dJ14_init_2_4 : decode cJ14_init_2 4 = .ok (.return_, 1) := by decide +kernel
theorem q75 : (Jvm.Cond.initialized "java/lang/IndexOutOfBoundsException") ∈ lw_all := lw_g (lw_at lw_m1 20 rfl) rfl
theorem q228 : (Jvm.Cond.selects "java/lang/IndexOutOfBoundsException" ({ cls := "java/lang/Object", name := "getClass", desc := "()Ljava/lang/Class;" } : Jvm.MethodName) ({ cls := "java/lang/Object", name := "getClass", desc := "()Ljava/lang/Class;" } : Jvm.MethodName)) ∈ lw_all := lw_g (lw_at lw_m1 173 rfl) rfl
theorem q450 : (Jvm.Cond.instantiable "java/lang/IndexOutOfBoundsException" (6 : Nat)) ∈ lw_all := lw_g (lw_at lw_m2 155 rfl) rfl
theorem q451 : (Jvm.Cond.castable "java/lang/IndexOutOfBoundsException" "java/lang/IndexOutOfBoundsException") ∈ lw_tbl := lw_at lw_m2 156 rfl
theorem q458 : (Jvm.Cond.selects "java/lang/IndexOutOfBoundsException" ({ cls := "java/lang/Throwable", name := "fillInStackTrace", desc := "(I)Ljava/lang/Throwable;" } : Jvm.MethodName) ({ cls := "java/lang/Throwable", name := "fillInStackTrace", desc := "(I)Ljava/lang/Throwable;" } : Jvm.MethodName)) ∈ lw_all := lw_g (lw_at lw_m2 163 rfl) rfl
theorem q459 : (Jvm.Cond.selects "java/lang/IndexOutOfBoundsException" ({ cls := "java/lang/Throwable", name := "fillInStackTrace", desc := "()Ljava/lang/Throwable;" } : Jvm.MethodName) ({ cls := "java/lang/Throwable", name := "fillInStackTrace", desc := "()Ljava/lang/Throwable;" } : Jvm.MethodName)) ∈ lw_all := lw_g (lw_at lw_m2 164 rfl) rfl
theorem q460 : (Jvm.Cond.lays "java/lang/IndexOutOfBoundsException" "java/lang/Throwable" "cause" "Ljava/lang/Throwable;") ∈ lw_all := lw_g (lw_at lw_m2 165 rfl) rfl
theorem q462 : (Jvm.Cond.lays "java/lang/IndexOutOfBoundsException" "java/lang/Throwable" "stackTrace" "[Ljava/lang/StackTraceElement;") ∈ lw_all := lw_g (lw_at lw_m2 167 rfl) rfl
theorem q464 : (Jvm.Cond.lays "java/lang/IndexOutOfBoundsException" "java/lang/Throwable" "suppressedExceptions" "Ljava/util/List;") ∈ lw_all := lw_g (lw_at lw_m2 169 rfl) rfl
theorem q466 : (Jvm.Cond.lays "java/lang/IndexOutOfBoundsException" "java/lang/Throwable" "detailMessage" "Ljava/lang/String;") ∈ lw_all := lw_g (lw_at lw_m2 171 rfl) rfl
theorem q468 : (Jvm.Cond.lays "java/lang/IndexOutOfBoundsException" "java/lang/Throwable" "backtrace" "Ljava/lang/Object;") ∈ lw_all := lw_g (lw_at lw_m2 173 rfl) rfl
theorem q765 : (Jvm.Cond.instanceMethod ({ cls := "java/lang/IndexOutOfBoundsException", name := "<init>", desc := "(Ljava/lang/String;)V" } : Jvm.MethodName)) ∈ lw_all := lw_g (lw_at lw_m3 230 rfl) rfl
theorem q766 : (Jvm.Cond.code ({ cls := "java/lang/IndexOutOfBoundsException", name := "<init>", desc := "(Ljava/lang/String;)V" } : Jvm.MethodName) prog_19_method_2_code (2 : Nat) (Option.none : Option Jvm.ClassFile.FieldType)) ∈ lw_all := lw_g (lw_at lw_m3 231 rfl) rfl
theorem q767 : (Jvm.Cond.methodLink "java/lang/IndexOutOfBoundsException" (7 : Nat) ({ cls := "java/lang/RuntimeException", name := "<init>", desc := "(Ljava/lang/String;)V" } : Jvm.MethodName)) ∈ lw_all := lw_g (lw_at lw_m3 232 rfl) rfl
theorem q768 : (Jvm.Cond.lays "java/lang/IndexOutOfBoundsException" "java/lang/Throwable" "depth" "I") ∈ lw_all := lw_g (lw_at lw_m3 233 rfl) rfl
theorem q769 : (Jvm.Cond.superclass "java/lang/IndexOutOfBoundsException" "java/lang/RuntimeException") ∈ lw_all := lw_g (lw_at lw_m3 234 rfl) rfl
theorem q1039 : (Jvm.Cond.selects "java/lang/IndexOutOfBoundsException" ({ cls := "java/lang/Throwable", name := "toString", desc := "()Ljava/lang/String;" } : Jvm.MethodName) ({ cls := "java/lang/Throwable", name := "toString", desc := "()Ljava/lang/String;" } : Jvm.MethodName)) ∈ lw_all := lw_g (lw_at lw_m5 24 rfl) rfl
theorem q1051 : (Jvm.Cond.selects "java/lang/IndexOutOfBoundsException" ({ cls := "java/lang/Throwable", name := "getLocalizedMessage", desc := "()Ljava/lang/String;" } : Jvm.MethodName) ({ cls := "java/lang/Throwable", name := "getLocalizedMessage", desc := "()Ljava/lang/String;" } : Jvm.MethodName)) ∈ lw_all := lw_g (lw_at lw_m5 36 rfl) rfl
theorem q1062 : (Jvm.Cond.selects "java/lang/IndexOutOfBoundsException" ({ cls := "java/lang/Throwable", name := "getMessage", desc := "()Ljava/lang/String;" } : Jvm.MethodName) ({ cls := "java/lang/Throwable", name := "getMessage", desc := "()Ljava/lang/String;" } : Jvm.MethodName)) ∈ lw_all := lw_g (lw_at lw_m5 47 rfl) rfl
theorem q1116 : (Jvm.Cond.selects "java/lang/IndexOutOfBoundsException" ({ cls := "java/lang/Object", name := "equals", desc := "(Ljava/lang/Object;)Z" } : Jvm.MethodName) ({ cls := "java/lang/Object", name := "equals", desc := "(Ljava/lang/Object;)Z" } : Jvm.MethodName)) ∈ lw_all := lw_g (lw_at lw_m5 101 rfl) rfl
theorem q1304 : (Jvm.Cond.selects "java/lang/IndexOutOfBoundsException" ({ cls := "java/lang/Object", name := "hashCode", desc := "()I" } : Jvm.MethodName) ({ cls := "java/lang/Object", name := "hashCode", desc := "()I" } : Jvm.MethodName)) ∈ lw_all := lw_g (lw_at lw_m6 49 rfl) rfl
theorem q1991 : (Jvm.Cond.declares ({ cls := "java/lang/IndexOutOfBoundsException", name := "<init>", desc := "()V" } : Jvm.MethodName)) ∈ lw_tbl := lw_at lw_m9 16 rfl
theorem q1992 : (Jvm.Cond.declares ({ cls := "java/lang/IndexOutOfBoundsException", name := "<init>", desc := "(Ljava/lang/String;)V" } : Jvm.MethodName)) ∈ lw_tbl := lw_at lw_m9 17 rfl
theorem q2004 : (Jvm.Cond.instanceMethod ({ cls := "java/lang/IndexOutOfBoundsException", name := "<init>", desc := "()V" } : Jvm.MethodName)) ∈ lw_all := lw_g (lw_at lw_m9 29 rfl) rfl
theorem q2005 : (Jvm.Cond.code ({ cls := "java/lang/IndexOutOfBoundsException", name := "<init>", desc := "()V" } : Jvm.MethodName) prog_19_method_1_code (1 : Nat) (Option.none : Option Jvm.ClassFile.FieldType)) ∈ lw_all := lw_g (lw_at lw_m9 30 rfl) rfl
theorem q2006 : (Jvm.Cond.methodLink "java/lang/IndexOutOfBoundsException" (1 : Nat) ({ cls := "java/lang/RuntimeException", name := "<init>", desc := "()V" } : Jvm.MethodName)) ∈ lw_all := lw_g (lw_at lw_m9 31 rfl) rfl
theorem q3906 : (Jvm.Cond.castable "java/lang/IndexOutOfBoundsException" "java/lang/Object") ∈ lw_tbl := lw_at lw_m17 11 rfl
theorem in_J14 : ∀ w ∈ wsJ140, w ∈ lw_all := lw_in wsJ140 [460, 462, 464, 466, 468, 768] (by decide +kernel) (by decide +kernel)

/-! java/lang/ArrayIndexOutOfBoundsException -/
set_option maxRecDepth 100000
def RJ15 : String := "java/lang/ArrayIndexOutOfBoundsException"
def TJ15 : u_T := fun k => match k with
  | 0 => ("java/lang/Throwable", "backtrace", "Ljava/lang/Object;", false)
  | 1 => ("java/lang/Throwable", "detailMessage", "Ljava/lang/String;", false)
  | 2 => ("java/lang/Throwable", "cause", "Ljava/lang/Throwable;", false)
  | 3 => ("java/lang/Throwable", "stackTrace", "[Ljava/lang/StackTraceElement;", false)
  | 4 => ("java/lang/Throwable", "depth", "I", false)
  | _ => ("java/lang/Throwable", "suppressedExceptions", "Ljava/util/List;", false)
def tyJ15 : Nat → FieldType := fun k => match k with
  | 0 => .object "java/lang/Object"
  | 1 => .object "java/lang/String"
  | 2 => .object "java/lang/Throwable"
  | 3 => .array (.object "java/lang/StackTraceElement")
  | 4 => .int
  | _ => .object "java/util/List"
abbrev wsJ150 : List Cond := u_ws RJ15 TJ15 6
theorem nmJ15 : ∀ a, a < 6 → ∀ b, b < 6 → a ≠ b → (TJ15 a).2.1 ≠ (TJ15 b).2.1 := by decide +kernel
theorem tyJ15_ok : ∀ k, k < 6 → parseFieldDescriptor (TJ15 k).2.2.1 = some (tyJ15 k) := by decide +kernel
abbrev cJ15_init : ByteArray := prog_12_method_2_code
def yJ15_init : MethodName := ⟨RJ15, "<init>", "(Ljava/lang/String;)V"⟩
def dkwJ15_init_0 : List UInt8 := [42, 43, 183, 0, 7, 177]
abbrev dktJ15_init_0 : List UInt8 := dkwJ15_init_0 ++ []
theorem dksJ15_init_0 : cJ15_init.data.toList.drop 0 = dktJ15_init_0 := by decide +kernel
theorem dJ15_init_0 : decode cJ15_init 0 = .ok (.aload_n 0, 1) := dk_42 (dk_at dksJ15_init_0 0 rfl rfl)
theorem dJ15_init_1 : decode cJ15_init 1 = .ok (.aload_n 1, 1) := dk_43 (dk_at dksJ15_init_0 1 rfl rfl)
theorem dJ15_init_2 : decode cJ15_init 2 = .ok (.invokespecial 7, 3) := dk_183 0 7 (dk_at dksJ15_init_0 2 rfl rfl)
theorem dJ15_init_5 : decode cJ15_init 5 = .ok (.return_, 1) := dk_177 (dk_at dksJ15_init_0 5 rfl rfl)
abbrev cJ15_init_2 : ByteArray := prog_12_method_3_code
def yJ15_init_2 : MethodName := ⟨RJ15, "<init>", "(I)V"⟩
def dkwJ15_init_2_0 : List UInt8 := [42, 187, 0, 10, 89, 183, 0, 12, 18, 13, 182, 0, 15, 27, 182, 0, 19, 182, 0, 22, 183, 0, 7, 177]
abbrev dktJ15_init_2_0 : List UInt8 := dkwJ15_init_2_0 ++ []
theorem dksJ15_init_2_0 : cJ15_init_2.data.toList.drop 0 = dktJ15_init_2_0 := by decide +kernel
theorem dJ15_init_2_0 : decode cJ15_init_2 0 = .ok (.aload_n 0, 1) := dk_42 (dk_at dksJ15_init_2_0 0 rfl rfl)
theorem dJ15_init_2_1 : decode cJ15_init_2 1 = .ok (.new 10, 3) := dk_187 0 10 (dk_at dksJ15_init_2_0 1 rfl rfl)
theorem dJ15_init_2_4 : decode cJ15_init_2 4 = .ok (.dup, 1) := dk_89 (dk_at dksJ15_init_2_0 4 rfl rfl)
theorem dJ15_init_2_5 : decode cJ15_init_2 5 = .ok (.invokespecial 12, 3) := dk_183 0 12 (dk_at dksJ15_init_2_0 5 rfl rfl)
theorem dJ15_init_2_8 : decode cJ15_init_2 8 = .ok (.ldc 13, 2) := dk_18 13 (dk_at dksJ15_init_2_0 8 rfl rfl)
theorem dJ15_init_2_10 : decode cJ15_init_2 10 = .ok (.invokevirtual 15, 3) := dk_182 0 15 (dk_at dksJ15_init_2_0 10 rfl rfl)
theorem dJ15_init_2_13 : decode cJ15_init_2 13 = .ok (.iload_n 1, 1) := dk_27 (dk_at dksJ15_init_2_0 13 rfl rfl)
theorem dJ15_init_2_14 : decode cJ15_init_2 14 = .ok (.invokevirtual 19, 3) := dk_182 0 19 (dk_at dksJ15_init_2_0 14 rfl rfl)
theorem dJ15_init_2_17 : decode cJ15_init_2 17 = .ok (.invokevirtual 22, 3) := dk_182 0 22 (dk_at dksJ15_init_2_0 17 rfl rfl)
theorem dJ15_init_2_20 : decode cJ15_init_2 20 = .ok (.invokespecial 7, 3) := dk_183 0 7 (dk_at dksJ15_init_2_0 20 rfl rfl)
theorem dJ15_init_2_23 : decode cJ15_init_2 23 = .ok (.return_, 1) := dk_177 (dk_at dksJ15_init_2_0 23 rfl rfl)
theorem q76 : (Jvm.Cond.initialized "java/lang/ArrayIndexOutOfBoundsException") ∈ lw_all := lw_g (lw_at lw_m1 21 rfl) rfl
theorem q225 : (Jvm.Cond.selects "java/lang/ArrayIndexOutOfBoundsException" ({ cls := "java/lang/Object", name := "getClass", desc := "()Ljava/lang/Class;" } : Jvm.MethodName) ({ cls := "java/lang/Object", name := "getClass", desc := "()Ljava/lang/Class;" } : Jvm.MethodName)) ∈ lw_all := lw_g (lw_at lw_m1 170 rfl) rfl
theorem q482 : (Jvm.Cond.selects "java/lang/ArrayIndexOutOfBoundsException" ({ cls := "java/lang/Throwable", name := "fillInStackTrace", desc := "()Ljava/lang/Throwable;" } : Jvm.MethodName) ({ cls := "java/lang/Throwable", name := "fillInStackTrace", desc := "()Ljava/lang/Throwable;" } : Jvm.MethodName)) ∈ lw_all := lw_g (lw_at lw_m2 187 rfl) rfl
theorem q1036 : (Jvm.Cond.selects "java/lang/ArrayIndexOutOfBoundsException" ({ cls := "java/lang/Throwable", name := "toString", desc := "()Ljava/lang/String;" } : Jvm.MethodName) ({ cls := "java/lang/Throwable", name := "toString", desc := "()Ljava/lang/String;" } : Jvm.MethodName)) ∈ lw_all := lw_g (lw_at lw_m5 21 rfl) rfl
theorem q1048 : (Jvm.Cond.selects "java/lang/ArrayIndexOutOfBoundsException" ({ cls := "java/lang/Throwable", name := "getLocalizedMessage", desc := "()Ljava/lang/String;" } : Jvm.MethodName) ({ cls := "java/lang/Throwable", name := "getLocalizedMessage", desc := "()Ljava/lang/String;" } : Jvm.MethodName)) ∈ lw_all := lw_g (lw_at lw_m5 33 rfl) rfl
theorem q1059 : (Jvm.Cond.selects "java/lang/ArrayIndexOutOfBoundsException" ({ cls := "java/lang/Throwable", name := "getMessage", desc := "()Ljava/lang/String;" } : Jvm.MethodName) ({ cls := "java/lang/Throwable", name := "getMessage", desc := "()Ljava/lang/String;" } : Jvm.MethodName)) ∈ lw_all := lw_g (lw_at lw_m5 44 rfl) rfl
theorem q1113 : (Jvm.Cond.selects "java/lang/ArrayIndexOutOfBoundsException" ({ cls := "java/lang/Object", name := "equals", desc := "(Ljava/lang/Object;)Z" } : Jvm.MethodName) ({ cls := "java/lang/Object", name := "equals", desc := "(Ljava/lang/Object;)Z" } : Jvm.MethodName)) ∈ lw_all := lw_g (lw_at lw_m5 98 rfl) rfl
theorem q1301 : (Jvm.Cond.selects "java/lang/ArrayIndexOutOfBoundsException" ({ cls := "java/lang/Object", name := "hashCode", desc := "()I" } : Jvm.MethodName) ({ cls := "java/lang/Object", name := "hashCode", desc := "()I" } : Jvm.MethodName)) ∈ lw_all := lw_g (lw_at lw_m6 46 rfl) rfl
theorem q1979 : (Jvm.Cond.instantiable "java/lang/ArrayIndexOutOfBoundsException" (6 : Nat)) ∈ lw_all := lw_g (lw_at lw_m9 4 rfl) rfl
theorem q1980 : (Jvm.Cond.instanceMethod ({ cls := "java/lang/ArrayIndexOutOfBoundsException", name := "<init>", desc := "(Ljava/lang/String;)V" } : Jvm.MethodName)) ∈ lw_all := lw_g (lw_at lw_m9 5 rfl) rfl
theorem q1981 : (Jvm.Cond.code ({ cls := "java/lang/ArrayIndexOutOfBoundsException", name := "<init>", desc := "(Ljava/lang/String;)V" } : Jvm.MethodName) prog_12_method_2_code (2 : Nat) (Option.none : Option Jvm.ClassFile.FieldType)) ∈ lw_all := lw_g (lw_at lw_m9 6 rfl) rfl
theorem q1982 : (Jvm.Cond.methodLink "java/lang/ArrayIndexOutOfBoundsException" (7 : Nat) ({ cls := "java/lang/IndexOutOfBoundsException", name := "<init>", desc := "(Ljava/lang/String;)V" } : Jvm.MethodName)) ∈ lw_all := lw_g (lw_at lw_m9 7 rfl) rfl
theorem q1983 : (Jvm.Cond.lays "java/lang/ArrayIndexOutOfBoundsException" "java/lang/Throwable" "backtrace" "Ljava/lang/Object;") ∈ lw_all := lw_g (lw_at lw_m9 8 rfl) rfl
theorem q1984 : (Jvm.Cond.lays "java/lang/ArrayIndexOutOfBoundsException" "java/lang/Throwable" "detailMessage" "Ljava/lang/String;") ∈ lw_all := lw_g (lw_at lw_m9 9 rfl) rfl
theorem q1985 : (Jvm.Cond.lays "java/lang/ArrayIndexOutOfBoundsException" "java/lang/Throwable" "cause" "Ljava/lang/Throwable;") ∈ lw_all := lw_g (lw_at lw_m9 10 rfl) rfl
theorem q1986 : (Jvm.Cond.lays "java/lang/ArrayIndexOutOfBoundsException" "java/lang/Throwable" "stackTrace" "[Ljava/lang/StackTraceElement;") ∈ lw_all := lw_g (lw_at lw_m9 11 rfl) rfl
theorem q1987 : (Jvm.Cond.lays "java/lang/ArrayIndexOutOfBoundsException" "java/lang/Throwable" "depth" "I") ∈ lw_all := lw_g (lw_at lw_m9 12 rfl) rfl
theorem q1988 : (Jvm.Cond.lays "java/lang/ArrayIndexOutOfBoundsException" "java/lang/Throwable" "suppressedExceptions" "Ljava/util/List;") ∈ lw_all := lw_g (lw_at lw_m9 13 rfl) rfl
theorem q1989 : (Jvm.Cond.superclass "java/lang/ArrayIndexOutOfBoundsException" "java/lang/IndexOutOfBoundsException") ∈ lw_all := lw_g (lw_at lw_m9 14 rfl) rfl
theorem q1990 : (Jvm.Cond.castable "java/lang/ArrayIndexOutOfBoundsException" "java/lang/ArrayIndexOutOfBoundsException") ∈ lw_tbl := lw_at lw_m9 15 rfl
theorem q1993 : (Jvm.Cond.selects "java/lang/ArrayIndexOutOfBoundsException" ({ cls := "java/lang/Throwable", name := "fillInStackTrace", desc := "(I)Ljava/lang/Throwable;" } : Jvm.MethodName) ({ cls := "java/lang/Throwable", name := "fillInStackTrace", desc := "(I)Ljava/lang/Throwable;" } : Jvm.MethodName)) ∈ lw_all := lw_g (lw_at lw_m9 18 rfl) rfl
theorem q3026 : (Jvm.Cond.instanceMethod ({ cls := "java/lang/ArrayIndexOutOfBoundsException", name := "<init>", desc := "(I)V" } : Jvm.MethodName)) ∈ lw_all := lw_g (lw_at lw_m13 91 rfl) rfl
theorem q3027 : (Jvm.Cond.code ({ cls := "java/lang/ArrayIndexOutOfBoundsException", name := "<init>", desc := "(I)V" } : Jvm.MethodName) prog_12_method_3_code (2 : Nat) (Option.none : Option Jvm.ClassFile.FieldType)) ∈ lw_all := lw_g (lw_at lw_m13 92 rfl) rfl
theorem q3028 : (Jvm.Cond.classLink "java/lang/ArrayIndexOutOfBoundsException" (10 : Nat) "java/lang/StringBuilder") ∈ lw_all := lw_g (lw_at lw_m13 93 rfl) rfl
theorem q3029 : (Jvm.Cond.methodLink "java/lang/ArrayIndexOutOfBoundsException" (12 : Nat) ({ cls := "java/lang/StringBuilder", name := "<init>", desc := "()V" } : Jvm.MethodName)) ∈ lw_all := lw_g (lw_at lw_m13 94 rfl) rfl
theorem q3030 : (Jvm.Cond.stringRef "java/lang/ArrayIndexOutOfBoundsException" (13 : Nat) "Array index out of range: ") ∈ lw_tbl := lw_at lw_m13 95 rfl
theorem q3031 : (Jvm.Cond.methodLink "java/lang/ArrayIndexOutOfBoundsException" (15 : Nat) ({ cls := "java/lang/StringBuilder", name := "append", desc := "(Ljava/lang/String;)Ljava/lang/StringBuilder;" } : Jvm.MethodName)) ∈ lw_all := lw_g (lw_at lw_m13 96 rfl) rfl
theorem q3032 : (Jvm.Cond.methodLink "java/lang/ArrayIndexOutOfBoundsException" (19 : Nat) ({ cls := "java/lang/StringBuilder", name := "append", desc := "(I)Ljava/lang/StringBuilder;" } : Jvm.MethodName)) ∈ lw_all := lw_g (lw_at lw_m13 97 rfl) rfl
theorem q3033 : (Jvm.Cond.methodLink "java/lang/ArrayIndexOutOfBoundsException" (22 : Nat) ({ cls := "java/lang/StringBuilder", name := "toString", desc := "()Ljava/lang/String;" } : Jvm.MethodName)) ∈ lw_all := lw_g (lw_at lw_m13 98 rfl) rfl
theorem q3894 : (Jvm.Cond.castable "java/lang/ArrayIndexOutOfBoundsException" "java/lang/IndexOutOfBoundsException") ∈ lw_tbl := lw_at lw_m16 239 rfl
theorem q3905 : (Jvm.Cond.castable "java/lang/ArrayIndexOutOfBoundsException" "java/lang/Object") ∈ lw_tbl := lw_at lw_m17 10 rfl
theorem in_J15 : ∀ w ∈ wsJ150, w ∈ lw_all := lw_in wsJ150 [1983, 1984, 1985, 1986, 1987, 1988] (by decide +kernel) (by decide +kernel)

/-! java/lang/IllegalArgumentException -/
set_option maxRecDepth 100000
def RJ17 : String := "java/lang/IllegalArgumentException"
def TJ17 : u_T := fun k => match k with
  | 0 => ("java/lang/Throwable", "cause", "Ljava/lang/Throwable;", false)
  | 1 => ("java/lang/Throwable", "stackTrace", "[Ljava/lang/StackTraceElement;", false)
  | 2 => ("java/lang/Throwable", "suppressedExceptions", "Ljava/util/List;", false)
  | 3 => ("java/lang/Throwable", "detailMessage", "Ljava/lang/String;", false)
  | 4 => ("java/lang/Throwable", "backtrace", "Ljava/lang/Object;", false)
  | _ => ("java/lang/Throwable", "depth", "I", false)
def tyJ17 : Nat → FieldType := fun k => match k with
  | 0 => .object "java/lang/Throwable"
  | 1 => .array (.object "java/lang/StackTraceElement")
  | 2 => .object "java/util/List"
  | 3 => .object "java/lang/String"
  | 4 => .object "java/lang/Object"
  | _ => .int
abbrev wsJ170 : List Cond := u_ws RJ17 TJ17 6
theorem nmJ17 : ∀ a, a < 6 → ∀ b, b < 6 → a ≠ b → (TJ17 a).2.1 ≠ (TJ17 b).2.1 := by decide +kernel
theorem tyJ17_ok : ∀ k, k < 6 → parseFieldDescriptor (TJ17 k).2.2.1 = some (tyJ17 k) := by decide +kernel
abbrev cJ17_init : ByteArray := prog_17_method_2_code
def yJ17_init : MethodName := ⟨RJ17, "<init>", "(Ljava/lang/String;)V"⟩
def dkwJ17_init_0 : List UInt8 := [42, 43, 183, 0, 7, 177]
abbrev dktJ17_init_0 : List UInt8 := dkwJ17_init_0 ++ []
theorem dksJ17_init_0 : cJ17_init.data.toList.drop 0 = dktJ17_init_0 := by decide +kernel
theorem dJ17_init_0 : decode cJ17_init 0 = .ok (.aload_n 0, 1) := dk_42 (dk_at dksJ17_init_0 0 rfl rfl)
theorem dJ17_init_1 : decode cJ17_init 1 = .ok (.aload_n 1, 1) := dk_43 (dk_at dksJ17_init_0 1 rfl rfl)
theorem dJ17_init_2 : decode cJ17_init 2 = .ok (.invokespecial 7, 3) := dk_183 0 7 (dk_at dksJ17_init_0 2 rfl rfl)
theorem dJ17_init_5 : decode cJ17_init 5 = .ok (.return_, 1) := dk_177 (dk_at dksJ17_init_0 5 rfl rfl)
abbrev cJ17_init_2 : ByteArray := prog_17_method_1_code
def yJ17_init_2 : MethodName := ⟨RJ17, "<init>", "()V"⟩
theorem dJ17_init_2_0 : decode cJ17_init_2 0 = .ok (.aload_n 0, 1) := by decide +kernel
theorem dJ17_init_2_1 : decode cJ17_init_2 1 = .ok (.invokespecial 1, 3) := by decide +kernel
theorem dJ17_init_2_4 : decode cJ17_init_2 4 = .ok (.return_, 1) := by decide +kernel
theorem q78 : (Jvm.Cond.initialized "java/lang/IllegalArgumentException") ∈ lw_all := lw_g (lw_at lw_m1 23 rfl) rfl
theorem q226 : (Jvm.Cond.selects "java/lang/IllegalArgumentException" ({ cls := "java/lang/Object", name := "getClass", desc := "()Ljava/lang/Class;" } : Jvm.MethodName) ({ cls := "java/lang/Object", name := "getClass", desc := "()Ljava/lang/Class;" } : Jvm.MethodName)) ∈ lw_all := lw_g (lw_at lw_m1 171 rfl) rfl
theorem q483 : (Jvm.Cond.selects "java/lang/IllegalArgumentException" ({ cls := "java/lang/Throwable", name := "fillInStackTrace", desc := "()Ljava/lang/Throwable;" } : Jvm.MethodName) ({ cls := "java/lang/Throwable", name := "fillInStackTrace", desc := "()Ljava/lang/Throwable;" } : Jvm.MethodName)) ∈ lw_all := lw_g (lw_at lw_m2 188 rfl) rfl
theorem q699 : (Jvm.Cond.instantiable "java/lang/IllegalArgumentException" (6 : Nat)) ∈ lw_all := lw_g (lw_at lw_m3 164 rfl) rfl
theorem q700 : (Jvm.Cond.castable "java/lang/IllegalArgumentException" "java/lang/IllegalArgumentException") ∈ lw_tbl := lw_at lw_m3 165 rfl
theorem q701 : (Jvm.Cond.selects "java/lang/IllegalArgumentException" ({ cls := "java/lang/Throwable", name := "fillInStackTrace", desc := "(I)Ljava/lang/Throwable;" } : Jvm.MethodName) ({ cls := "java/lang/Throwable", name := "fillInStackTrace", desc := "(I)Ljava/lang/Throwable;" } : Jvm.MethodName)) ∈ lw_all := lw_g (lw_at lw_m3 166 rfl) rfl
theorem q702 : (Jvm.Cond.lays "java/lang/IllegalArgumentException" "java/lang/Throwable" "cause" "Ljava/lang/Throwable;") ∈ lw_all := lw_g (lw_at lw_m3 167 rfl) rfl
theorem q703 : (Jvm.Cond.lays "java/lang/IllegalArgumentException" "java/lang/Throwable" "stackTrace" "[Ljava/lang/StackTraceElement;") ∈ lw_all := lw_g (lw_at lw_m3 168 rfl) rfl
theorem q704 : (Jvm.Cond.lays "java/lang/IllegalArgumentException" "java/lang/Throwable" "suppressedExceptions" "Ljava/util/List;") ∈ lw_all := lw_g (lw_at lw_m3 169 rfl) rfl
theorem q705 : (Jvm.Cond.lays "java/lang/IllegalArgumentException" "java/lang/Throwable" "detailMessage" "Ljava/lang/String;") ∈ lw_all := lw_g (lw_at lw_m3 170 rfl) rfl
theorem q706 : (Jvm.Cond.lays "java/lang/IllegalArgumentException" "java/lang/Throwable" "backtrace" "Ljava/lang/Object;") ∈ lw_all := lw_g (lw_at lw_m3 171 rfl) rfl
theorem q714 : (Jvm.Cond.instanceMethod ({ cls := "java/lang/IllegalArgumentException", name := "<init>", desc := "(Ljava/lang/String;)V" } : Jvm.MethodName)) ∈ lw_all := lw_g (lw_at lw_m3 179 rfl) rfl
theorem q715 : (Jvm.Cond.code ({ cls := "java/lang/IllegalArgumentException", name := "<init>", desc := "(Ljava/lang/String;)V" } : Jvm.MethodName) prog_17_method_2_code (2 : Nat) (Option.none : Option Jvm.ClassFile.FieldType)) ∈ lw_all := lw_g (lw_at lw_m3 180 rfl) rfl
theorem q716 : (Jvm.Cond.methodLink "java/lang/IllegalArgumentException" (7 : Nat) ({ cls := "java/lang/RuntimeException", name := "<init>", desc := "(Ljava/lang/String;)V" } : Jvm.MethodName)) ∈ lw_all := lw_g (lw_at lw_m3 181 rfl) rfl
theorem q734 : (Jvm.Cond.lays "java/lang/IllegalArgumentException" "java/lang/Throwable" "depth" "I") ∈ lw_all := lw_g (lw_at lw_m3 199 rfl) rfl
theorem q737 : (Jvm.Cond.superclass "java/lang/IllegalArgumentException" "java/lang/RuntimeException") ∈ lw_all := lw_g (lw_at lw_m3 202 rfl) rfl
theorem q1037 : (Jvm.Cond.selects "java/lang/IllegalArgumentException" ({ cls := "java/lang/Throwable", name := "toString", desc := "()Ljava/lang/String;" } : Jvm.MethodName) ({ cls := "java/lang/Throwable", name := "toString", desc := "()Ljava/lang/String;" } : Jvm.MethodName)) ∈ lw_all := lw_g (lw_at lw_m5 22 rfl) rfl
theorem q1049 : (Jvm.Cond.selects "java/lang/IllegalArgumentException" ({ cls := "java/lang/Throwable", name := "getLocalizedMessage", desc := "()Ljava/lang/String;" } : Jvm.MethodName) ({ cls := "java/lang/Throwable", name := "getLocalizedMessage", desc := "()Ljava/lang/String;" } : Jvm.MethodName)) ∈ lw_all := lw_g (lw_at lw_m5 34 rfl) rfl
theorem q1060 : (Jvm.Cond.selects "java/lang/IllegalArgumentException" ({ cls := "java/lang/Throwable", name := "getMessage", desc := "()Ljava/lang/String;" } : Jvm.MethodName) ({ cls := "java/lang/Throwable", name := "getMessage", desc := "()Ljava/lang/String;" } : Jvm.MethodName)) ∈ lw_all := lw_g (lw_at lw_m5 45 rfl) rfl
theorem q1114 : (Jvm.Cond.selects "java/lang/IllegalArgumentException" ({ cls := "java/lang/Object", name := "equals", desc := "(Ljava/lang/Object;)Z" } : Jvm.MethodName) ({ cls := "java/lang/Object", name := "equals", desc := "(Ljava/lang/Object;)Z" } : Jvm.MethodName)) ∈ lw_all := lw_g (lw_at lw_m5 99 rfl) rfl
theorem q1302 : (Jvm.Cond.selects "java/lang/IllegalArgumentException" ({ cls := "java/lang/Object", name := "hashCode", desc := "()I" } : Jvm.MethodName) ({ cls := "java/lang/Object", name := "hashCode", desc := "()I" } : Jvm.MethodName)) ∈ lw_all := lw_g (lw_at lw_m6 47 rfl) rfl
theorem q2012 : (Jvm.Cond.instanceMethod ({ cls := "java/lang/IllegalArgumentException", name := "<init>", desc := "()V" } : Jvm.MethodName)) ∈ lw_all := lw_g (lw_at lw_m9 37 rfl) rfl
theorem q2013 : (Jvm.Cond.code ({ cls := "java/lang/IllegalArgumentException", name := "<init>", desc := "()V" } : Jvm.MethodName) prog_17_method_1_code (1 : Nat) (Option.none : Option Jvm.ClassFile.FieldType)) ∈ lw_all := lw_g (lw_at lw_m9 38 rfl) rfl
theorem q2014 : (Jvm.Cond.methodLink "java/lang/IllegalArgumentException" (1 : Nat) ({ cls := "java/lang/RuntimeException", name := "<init>", desc := "()V" } : Jvm.MethodName)) ∈ lw_all := lw_g (lw_at lw_m9 39 rfl) rfl
theorem q3907 : (Jvm.Cond.castable "java/lang/IllegalArgumentException" "java/lang/Object") ∈ lw_tbl := lw_at lw_m17 12 rfl
theorem in_J17 : ∀ w ∈ wsJ170, w ∈ lw_all := lw_in wsJ170 [702, 703, 704, 705, 706, 734] (by decide +kernel) (by decide +kernel)

/-! java/lang/UnsupportedOperationException -/
set_option maxRecDepth 100000
def RJ25 : String := "java/lang/UnsupportedOperationException"
def TJ25 : u_T := fun k => match k with
  | 0 => ("java/lang/Throwable", "cause", "Ljava/lang/Throwable;", false)
  | 1 => ("java/lang/Throwable", "stackTrace", "[Ljava/lang/StackTraceElement;", false)
  | 2 => ("java/lang/Throwable", "suppressedExceptions", "Ljava/util/List;", false)
  | 3 => ("java/lang/Throwable", "detailMessage", "Ljava/lang/String;", false)
  | 4 => ("java/lang/Throwable", "backtrace", "Ljava/lang/Object;", false)
  | _ => ("java/lang/Throwable", "depth", "I", false)
def tyJ25 : Nat → FieldType := fun k => match k with
  | 0 => .object "java/lang/Throwable"
  | 1 => .array (.object "java/lang/StackTraceElement")
  | 2 => .object "java/util/List"
  | 3 => .object "java/lang/String"
  | 4 => .object "java/lang/Object"
  | _ => .int
abbrev wsJ250 : List Cond := u_ws RJ25 TJ25 6
theorem nmJ25 : ∀ a, a < 6 → ∀ b, b < 6 → a ≠ b → (TJ25 a).2.1 ≠ (TJ25 b).2.1 := by decide +kernel
theorem tyJ25_ok : ∀ k, k < 6 → parseFieldDescriptor (TJ25 k).2.2.1 = some (tyJ25 k) := by decide +kernel
abbrev cJ25_init : ByteArray := prog_34_method_1_code
def yJ25_init : MethodName := ⟨RJ25, "<init>", "()V"⟩
theorem dJ25_init_0 : decode cJ25_init 0 = .ok (.aload_n 0, 1) := by decide +kernel
theorem dJ25_init_1 : decode cJ25_init 1 = .ok (.invokespecial 1, 3) := by decide +kernel
theorem dJ25_init_4 : decode cJ25_init 4 = .ok (.return_, 1) := by decide +kernel
abbrev cJ25_init_2 : ByteArray := prog_34_method_2_code
def yJ25_init_2 : MethodName := ⟨RJ25, "<init>", "(Ljava/lang/String;)V"⟩
def dkwJ25_init_2_0 : List UInt8 := [42, 43, 183, 0, 7, 177]
abbrev dktJ25_init_2_0 : List UInt8 := dkwJ25_init_2_0 ++ []
theorem dksJ25_init_2_0 : cJ25_init_2.data.toList.drop 0 = dktJ25_init_2_0 := by decide +kernel
theorem dJ25_init_2_0 : decode cJ25_init_2 0 = .ok (.aload_n 0, 1) := dk_42 (dk_at dksJ25_init_2_0 0 rfl rfl)
theorem dJ25_init_2_1 : decode cJ25_init_2 1 = .ok (.aload_n 1, 1) := dk_43 (dk_at dksJ25_init_2_0 1 rfl rfl)
theorem dJ25_init_2_2 : decode cJ25_init_2 2 = .ok (.invokespecial 7, 3) := dk_183 0 7 (dk_at dksJ25_init_2_0 2 rfl rfl)
theorem dJ25_init_2_5 : decode cJ25_init_2 5 = .ok (.return_, 1) := dk_177 (dk_at dksJ25_init_2_0 5 rfl rfl)
theorem q86 : (Jvm.Cond.initialized "java/lang/UnsupportedOperationException") ∈ lw_all := lw_g (lw_at lw_m1 31 rfl) rfl
theorem q233 : (Jvm.Cond.selects "java/lang/UnsupportedOperationException" ({ cls := "java/lang/Object", name := "getClass", desc := "()Ljava/lang/Class;" } : Jvm.MethodName) ({ cls := "java/lang/Object", name := "getClass", desc := "()Ljava/lang/Class;" } : Jvm.MethodName)) ∈ lw_all := lw_g (lw_at lw_m1 178 rfl) rfl
theorem q485 : (Jvm.Cond.selects "java/lang/UnsupportedOperationException" ({ cls := "java/lang/Throwable", name := "fillInStackTrace", desc := "()Ljava/lang/Throwable;" } : Jvm.MethodName) ({ cls := "java/lang/Throwable", name := "fillInStackTrace", desc := "()Ljava/lang/Throwable;" } : Jvm.MethodName)) ∈ lw_all := lw_g (lw_at lw_m2 190 rfl) rfl
theorem q1040 : (Jvm.Cond.selects "java/lang/UnsupportedOperationException" ({ cls := "java/lang/Throwable", name := "toString", desc := "()Ljava/lang/String;" } : Jvm.MethodName) ({ cls := "java/lang/Throwable", name := "toString", desc := "()Ljava/lang/String;" } : Jvm.MethodName)) ∈ lw_all := lw_g (lw_at lw_m5 25 rfl) rfl
theorem q1052 : (Jvm.Cond.selects "java/lang/UnsupportedOperationException" ({ cls := "java/lang/Throwable", name := "getLocalizedMessage", desc := "()Ljava/lang/String;" } : Jvm.MethodName) ({ cls := "java/lang/Throwable", name := "getLocalizedMessage", desc := "()Ljava/lang/String;" } : Jvm.MethodName)) ∈ lw_all := lw_g (lw_at lw_m5 37 rfl) rfl
theorem q1063 : (Jvm.Cond.selects "java/lang/UnsupportedOperationException" ({ cls := "java/lang/Throwable", name := "getMessage", desc := "()Ljava/lang/String;" } : Jvm.MethodName) ({ cls := "java/lang/Throwable", name := "getMessage", desc := "()Ljava/lang/String;" } : Jvm.MethodName)) ∈ lw_all := lw_g (lw_at lw_m5 48 rfl) rfl
theorem q1133 : (Jvm.Cond.selects "java/lang/UnsupportedOperationException" ({ cls := "java/lang/Object", name := "equals", desc := "(Ljava/lang/Object;)Z" } : Jvm.MethodName) ({ cls := "java/lang/Object", name := "equals", desc := "(Ljava/lang/Object;)Z" } : Jvm.MethodName)) ∈ lw_all := lw_g (lw_at lw_m5 118 rfl) rfl
theorem q1373 : (Jvm.Cond.selects "java/lang/UnsupportedOperationException" ({ cls := "java/lang/Object", name := "hashCode", desc := "()I" } : Jvm.MethodName) ({ cls := "java/lang/Object", name := "hashCode", desc := "()I" } : Jvm.MethodName)) ∈ lw_all := lw_g (lw_at lw_m6 118 rfl) rfl
theorem q1685 : (Jvm.Cond.instantiable "java/lang/UnsupportedOperationException" (6 : Nat)) ∈ lw_all := lw_g (lw_at lw_m7 190 rfl) rfl
theorem q1686 : (Jvm.Cond.castable "java/lang/UnsupportedOperationException" "java/lang/UnsupportedOperationException") ∈ lw_tbl := lw_at lw_m7 191 rfl
theorem q1687 : (Jvm.Cond.selects "java/lang/UnsupportedOperationException" ({ cls := "java/lang/Throwable", name := "fillInStackTrace", desc := "(I)Ljava/lang/Throwable;" } : Jvm.MethodName) ({ cls := "java/lang/Throwable", name := "fillInStackTrace", desc := "(I)Ljava/lang/Throwable;" } : Jvm.MethodName)) ∈ lw_all := lw_g (lw_at lw_m7 192 rfl) rfl
theorem q1688 : (Jvm.Cond.lays "java/lang/UnsupportedOperationException" "java/lang/Throwable" "cause" "Ljava/lang/Throwable;") ∈ lw_all := lw_g (lw_at lw_m7 193 rfl) rfl
theorem q1689 : (Jvm.Cond.lays "java/lang/UnsupportedOperationException" "java/lang/Throwable" "stackTrace" "[Ljava/lang/StackTraceElement;") ∈ lw_all := lw_g (lw_at lw_m7 194 rfl) rfl
theorem q1690 : (Jvm.Cond.lays "java/lang/UnsupportedOperationException" "java/lang/Throwable" "suppressedExceptions" "Ljava/util/List;") ∈ lw_all := lw_g (lw_at lw_m7 195 rfl) rfl
theorem q1691 : (Jvm.Cond.lays "java/lang/UnsupportedOperationException" "java/lang/Throwable" "detailMessage" "Ljava/lang/String;") ∈ lw_all := lw_g (lw_at lw_m7 196 rfl) rfl
theorem q1692 : (Jvm.Cond.lays "java/lang/UnsupportedOperationException" "java/lang/Throwable" "backtrace" "Ljava/lang/Object;") ∈ lw_all := lw_g (lw_at lw_m7 197 rfl) rfl
theorem q1694 : (Jvm.Cond.instanceMethod ({ cls := "java/lang/UnsupportedOperationException", name := "<init>", desc := "()V" } : Jvm.MethodName)) ∈ lw_all := lw_g (lw_at lw_m7 199 rfl) rfl
theorem q1695 : (Jvm.Cond.code ({ cls := "java/lang/UnsupportedOperationException", name := "<init>", desc := "()V" } : Jvm.MethodName) prog_34_method_1_code (1 : Nat) (Option.none : Option Jvm.ClassFile.FieldType)) ∈ lw_all := lw_g (lw_at lw_m7 200 rfl) rfl
theorem q1696 : (Jvm.Cond.methodLink "java/lang/UnsupportedOperationException" (1 : Nat) ({ cls := "java/lang/RuntimeException", name := "<init>", desc := "()V" } : Jvm.MethodName)) ∈ lw_all := lw_g (lw_at lw_m7 201 rfl) rfl
theorem q1703 : (Jvm.Cond.lays "java/lang/UnsupportedOperationException" "java/lang/Throwable" "depth" "I") ∈ lw_all := lw_g (lw_at lw_m7 208 rfl) rfl
theorem q1704 : (Jvm.Cond.superclass "java/lang/UnsupportedOperationException" "java/lang/RuntimeException") ∈ lw_all := lw_g (lw_at lw_m7 209 rfl) rfl
theorem q3257 : (Jvm.Cond.instanceMethod ({ cls := "java/lang/UnsupportedOperationException", name := "<init>", desc := "(Ljava/lang/String;)V" } : Jvm.MethodName)) ∈ lw_all := lw_g (lw_at lw_m14 82 rfl) rfl
theorem q3258 : (Jvm.Cond.code ({ cls := "java/lang/UnsupportedOperationException", name := "<init>", desc := "(Ljava/lang/String;)V" } : Jvm.MethodName) prog_34_method_2_code (2 : Nat) (Option.none : Option Jvm.ClassFile.FieldType)) ∈ lw_all := lw_g (lw_at lw_m14 83 rfl) rfl
theorem q3259 : (Jvm.Cond.methodLink "java/lang/UnsupportedOperationException" (7 : Nat) ({ cls := "java/lang/RuntimeException", name := "<init>", desc := "(Ljava/lang/String;)V" } : Jvm.MethodName)) ∈ lw_all := lw_g (lw_at lw_m14 84 rfl) rfl
theorem q3913 : (Jvm.Cond.castable "java/lang/UnsupportedOperationException" "java/lang/Object") ∈ lw_tbl := lw_at lw_m17 18 rfl
theorem in_J25 : ∀ w ∈ wsJ250, w ∈ lw_all := lw_in wsJ250 [1688, 1689, 1690, 1691, 1692, 1703] (by decide +kernel) (by decide +kernel)

/-! java/util/NoSuchElementException -/
set_option maxRecDepth 100000
def RJ33 : String := "java/util/NoSuchElementException"
def TJ33 : u_T := fun k => match k with
  | 0 => ("java/lang/Throwable", "cause", "Ljava/lang/Throwable;", false)
  | 1 => ("java/lang/Throwable", "stackTrace", "[Ljava/lang/StackTraceElement;", false)
  | 2 => ("java/lang/Throwable", "suppressedExceptions", "Ljava/util/List;", false)
  | 3 => ("java/lang/Throwable", "detailMessage", "Ljava/lang/String;", false)
  | 4 => ("java/lang/Throwable", "backtrace", "Ljava/lang/Object;", false)
  | _ => ("java/lang/Throwable", "depth", "I", false)
def tyJ33 : Nat → FieldType := fun k => match k with
  | 0 => .object "java/lang/Throwable"
  | 1 => .array (.object "java/lang/StackTraceElement")
  | 2 => .object "java/util/List"
  | 3 => .object "java/lang/String"
  | 4 => .object "java/lang/Object"
  | _ => .int
abbrev wsJ330 : List Cond := u_ws RJ33 TJ33 6
theorem nmJ33 : ∀ a, a < 6 → ∀ b, b < 6 → a ≠ b → (TJ33 a).2.1 ≠ (TJ33 b).2.1 := by decide +kernel
theorem tyJ33_ok : ∀ k, k < 6 → parseFieldDescriptor (TJ33 k).2.2.1 = some (tyJ33 k) := by decide +kernel
abbrev cJ33_init : ByteArray := prog_61_method_3_code
def yJ33_init : MethodName := ⟨RJ33, "<init>", "(Ljava/lang/Throwable;)V"⟩
def dkwJ33_init_0 : List UInt8 := [42, 43, 183, 0, 10, 177]
abbrev dktJ33_init_0 : List UInt8 := dkwJ33_init_0 ++ []
theorem dksJ33_init_0 : cJ33_init.data.toList.drop 0 = dktJ33_init_0 := by decide +kernel
theorem dJ33_init_0 : decode cJ33_init 0 = .ok (.aload_n 0, 1) := dk_42 (dk_at dksJ33_init_0 0 rfl rfl)
theorem dJ33_init_1 : decode cJ33_init 1 = .ok (.aload_n 1, 1) := dk_43 (dk_at dksJ33_init_0 1 rfl rfl)
theorem dJ33_init_2 : decode cJ33_init 2 = .ok (.invokespecial 10, 3) := dk_183 0 10 (dk_at dksJ33_init_0 2 rfl rfl)
theorem dJ33_init_5 : decode cJ33_init 5 = .ok (.return_, 1) := dk_177 (dk_at dksJ33_init_0 5 rfl rfl)
theorem q94 : (Jvm.Cond.initialized "java/util/NoSuchElementException") ∈ lw_all := lw_g (lw_at lw_m1 39 rfl) rfl
theorem q248 : (Jvm.Cond.selects "java/util/NoSuchElementException" ({ cls := "java/lang/Object", name := "getClass", desc := "()Ljava/lang/Class;" } : Jvm.MethodName) ({ cls := "java/lang/Object", name := "getClass", desc := "()Ljava/lang/Class;" } : Jvm.MethodName)) ∈ lw_all := lw_g (lw_at lw_m1 193 rfl) rfl
theorem q487 : (Jvm.Cond.selects "java/util/NoSuchElementException" ({ cls := "java/lang/Throwable", name := "fillInStackTrace", desc := "()Ljava/lang/Throwable;" } : Jvm.MethodName) ({ cls := "java/lang/Throwable", name := "fillInStackTrace", desc := "()Ljava/lang/Throwable;" } : Jvm.MethodName)) ∈ lw_all := lw_g (lw_at lw_m2 192 rfl) rfl
theorem q1013 : (Jvm.Cond.instantiable "java/util/NoSuchElementException" (6 : Nat)) ∈ lw_all := lw_g (lw_at lw_m4 238 rfl) rfl
theorem q1014 : (Jvm.Cond.castable "java/util/NoSuchElementException" "java/util/NoSuchElementException") ∈ lw_tbl := lw_at lw_m4 239 rfl
theorem q1015 : (Jvm.Cond.selects "java/util/NoSuchElementException" ({ cls := "java/lang/Throwable", name := "fillInStackTrace", desc := "(I)Ljava/lang/Throwable;" } : Jvm.MethodName) ({ cls := "java/lang/Throwable", name := "fillInStackTrace", desc := "(I)Ljava/lang/Throwable;" } : Jvm.MethodName)) ∈ lw_all := lw_g (lw_at lw_m5 0 rfl) rfl
theorem q1016 : (Jvm.Cond.lays "java/util/NoSuchElementException" "java/lang/Throwable" "cause" "Ljava/lang/Throwable;") ∈ lw_all := lw_g (lw_at lw_m5 1 rfl) rfl
theorem q1017 : (Jvm.Cond.lays "java/util/NoSuchElementException" "java/lang/Throwable" "stackTrace" "[Ljava/lang/StackTraceElement;") ∈ lw_all := lw_g (lw_at lw_m5 2 rfl) rfl
theorem q1018 : (Jvm.Cond.lays "java/util/NoSuchElementException" "java/lang/Throwable" "suppressedExceptions" "Ljava/util/List;") ∈ lw_all := lw_g (lw_at lw_m5 3 rfl) rfl
theorem q1019 : (Jvm.Cond.lays "java/util/NoSuchElementException" "java/lang/Throwable" "detailMessage" "Ljava/lang/String;") ∈ lw_all := lw_g (lw_at lw_m5 4 rfl) rfl
theorem q1020 : (Jvm.Cond.lays "java/util/NoSuchElementException" "java/lang/Throwable" "backtrace" "Ljava/lang/Object;") ∈ lw_all := lw_g (lw_at lw_m5 5 rfl) rfl
theorem q1022 : (Jvm.Cond.instanceMethod ({ cls := "java/util/NoSuchElementException", name := "<init>", desc := "(Ljava/lang/Throwable;)V" } : Jvm.MethodName)) ∈ lw_all := lw_g (lw_at lw_m5 7 rfl) rfl
theorem q1023 : (Jvm.Cond.code ({ cls := "java/util/NoSuchElementException", name := "<init>", desc := "(Ljava/lang/Throwable;)V" } : Jvm.MethodName) prog_61_method_3_code (2 : Nat) (Option.none : Option Jvm.ClassFile.FieldType)) ∈ lw_all := lw_g (lw_at lw_m5 8 rfl) rfl
theorem q1024 : (Jvm.Cond.methodLink "java/util/NoSuchElementException" (10 : Nat) ({ cls := "java/lang/RuntimeException", name := "<init>", desc := "(Ljava/lang/Throwable;)V" } : Jvm.MethodName)) ∈ lw_all := lw_g (lw_at lw_m5 9 rfl) rfl
theorem q1042 : (Jvm.Cond.selects "java/util/NoSuchElementException" ({ cls := "java/lang/Throwable", name := "toString", desc := "()Ljava/lang/String;" } : Jvm.MethodName) ({ cls := "java/lang/Throwable", name := "toString", desc := "()Ljava/lang/String;" } : Jvm.MethodName)) ∈ lw_all := lw_g (lw_at lw_m5 27 rfl) rfl
theorem q1054 : (Jvm.Cond.selects "java/util/NoSuchElementException" ({ cls := "java/lang/Throwable", name := "getLocalizedMessage", desc := "()Ljava/lang/String;" } : Jvm.MethodName) ({ cls := "java/lang/Throwable", name := "getLocalizedMessage", desc := "()Ljava/lang/String;" } : Jvm.MethodName)) ∈ lw_all := lw_g (lw_at lw_m5 39 rfl) rfl
theorem q1065 : (Jvm.Cond.selects "java/util/NoSuchElementException" ({ cls := "java/lang/Throwable", name := "getMessage", desc := "()Ljava/lang/String;" } : Jvm.MethodName) ({ cls := "java/lang/Throwable", name := "getMessage", desc := "()Ljava/lang/String;" } : Jvm.MethodName)) ∈ lw_all := lw_g (lw_at lw_m5 50 rfl) rfl
theorem q1072 : (Jvm.Cond.lays "java/util/NoSuchElementException" "java/lang/Throwable" "depth" "I") ∈ lw_all := lw_g (lw_at lw_m5 57 rfl) rfl
theorem q1073 : (Jvm.Cond.superclass "java/util/NoSuchElementException" "java/lang/RuntimeException") ∈ lw_all := lw_g (lw_at lw_m5 58 rfl) rfl
theorem q3920 : (Jvm.Cond.castable "java/util/NoSuchElementException" "java/lang/Object") ∈ lw_tbl := lw_at lw_m17 25 rfl
theorem in_J33 : ∀ w ∈ wsJ330, w ∈ lw_all := lw_in wsJ330 [1016, 1017, 1018, 1019, 1020, 1072] (by decide +kernel) (by decide +kernel)

/-! java/lang/IllegalStateException -/
set_option maxRecDepth 100000
def RJ35 : String := "java/lang/IllegalStateException"
def TJ35 : u_T := fun k => match k with
  | 0 => ("java/lang/Throwable", "cause", "Ljava/lang/Throwable;", false)
  | 1 => ("java/lang/Throwable", "stackTrace", "[Ljava/lang/StackTraceElement;", false)
  | 2 => ("java/lang/Throwable", "suppressedExceptions", "Ljava/util/List;", false)
  | 3 => ("java/lang/Throwable", "detailMessage", "Ljava/lang/String;", false)
  | 4 => ("java/lang/Throwable", "backtrace", "Ljava/lang/Object;", false)
  | _ => ("java/lang/Throwable", "depth", "I", false)
def tyJ35 : Nat → FieldType := fun k => match k with
  | 0 => .object "java/lang/Throwable"
  | 1 => .array (.object "java/lang/StackTraceElement")
  | 2 => .object "java/util/List"
  | 3 => .object "java/lang/String"
  | 4 => .object "java/lang/Object"
  | _ => .int
abbrev wsJ350 : List Cond := u_ws RJ35 TJ35 6
theorem nmJ35 : ∀ a, a < 6 → ∀ b, b < 6 → a ≠ b → (TJ35 a).2.1 ≠ (TJ35 b).2.1 := by decide +kernel
theorem tyJ35_ok : ∀ k, k < 6 → parseFieldDescriptor (TJ35 k).2.2.1 = some (tyJ35 k) := by decide +kernel
abbrev cJ35_init : ByteArray := prog_18_method_1_code
def yJ35_init : MethodName := ⟨RJ35, "<init>", "()V"⟩
theorem dJ35_init_0 : decode cJ35_init 0 = .ok (.aload_n 0, 1) := by decide +kernel
theorem dJ35_init_1 : decode cJ35_init 1 = .ok (.invokespecial 1, 3) := by decide +kernel
theorem dJ35_init_4 : decode cJ35_init 4 = .ok (.return_, 1) := by decide +kernel
theorem q98 : (Jvm.Cond.initialized "java/lang/IllegalStateException") ∈ lw_all := lw_g (lw_at lw_m1 43 rfl) rfl
theorem q227 : (Jvm.Cond.selects "java/lang/IllegalStateException" ({ cls := "java/lang/Object", name := "getClass", desc := "()Ljava/lang/Class;" } : Jvm.MethodName) ({ cls := "java/lang/Object", name := "getClass", desc := "()Ljava/lang/Class;" } : Jvm.MethodName)) ∈ lw_all := lw_g (lw_at lw_m1 172 rfl) rfl
theorem q484 : (Jvm.Cond.selects "java/lang/IllegalStateException" ({ cls := "java/lang/Throwable", name := "fillInStackTrace", desc := "()Ljava/lang/Throwable;" } : Jvm.MethodName) ({ cls := "java/lang/Throwable", name := "fillInStackTrace", desc := "()Ljava/lang/Throwable;" } : Jvm.MethodName)) ∈ lw_all := lw_g (lw_at lw_m2 189 rfl) rfl
theorem q1038 : (Jvm.Cond.selects "java/lang/IllegalStateException" ({ cls := "java/lang/Throwable", name := "toString", desc := "()Ljava/lang/String;" } : Jvm.MethodName) ({ cls := "java/lang/Throwable", name := "toString", desc := "()Ljava/lang/String;" } : Jvm.MethodName)) ∈ lw_all := lw_g (lw_at lw_m5 23 rfl) rfl
theorem q1050 : (Jvm.Cond.selects "java/lang/IllegalStateException" ({ cls := "java/lang/Throwable", name := "getLocalizedMessage", desc := "()Ljava/lang/String;" } : Jvm.MethodName) ({ cls := "java/lang/Throwable", name := "getLocalizedMessage", desc := "()Ljava/lang/String;" } : Jvm.MethodName)) ∈ lw_all := lw_g (lw_at lw_m5 35 rfl) rfl
theorem q1061 : (Jvm.Cond.selects "java/lang/IllegalStateException" ({ cls := "java/lang/Throwable", name := "getMessage", desc := "()Ljava/lang/String;" } : Jvm.MethodName) ({ cls := "java/lang/Throwable", name := "getMessage", desc := "()Ljava/lang/String;" } : Jvm.MethodName)) ∈ lw_all := lw_g (lw_at lw_m5 46 rfl) rfl
theorem q1115 : (Jvm.Cond.selects "java/lang/IllegalStateException" ({ cls := "java/lang/Object", name := "equals", desc := "(Ljava/lang/Object;)Z" } : Jvm.MethodName) ({ cls := "java/lang/Object", name := "equals", desc := "(Ljava/lang/Object;)Z" } : Jvm.MethodName)) ∈ lw_all := lw_g (lw_at lw_m5 100 rfl) rfl
theorem q1303 : (Jvm.Cond.selects "java/lang/IllegalStateException" ({ cls := "java/lang/Object", name := "hashCode", desc := "()I" } : Jvm.MethodName) ({ cls := "java/lang/Object", name := "hashCode", desc := "()I" } : Jvm.MethodName)) ∈ lw_all := lw_g (lw_at lw_m6 48 rfl) rfl
theorem q1759 : (Jvm.Cond.instantiable "java/lang/IllegalStateException" (6 : Nat)) ∈ lw_all := lw_g (lw_at lw_m8 24 rfl) rfl
theorem q1760 : (Jvm.Cond.castable "java/lang/IllegalStateException" "java/lang/IllegalStateException") ∈ lw_tbl := lw_at lw_m8 25 rfl
theorem q1761 : (Jvm.Cond.selects "java/lang/IllegalStateException" ({ cls := "java/lang/Throwable", name := "fillInStackTrace", desc := "(I)Ljava/lang/Throwable;" } : Jvm.MethodName) ({ cls := "java/lang/Throwable", name := "fillInStackTrace", desc := "(I)Ljava/lang/Throwable;" } : Jvm.MethodName)) ∈ lw_all := lw_g (lw_at lw_m8 26 rfl) rfl
theorem q1762 : (Jvm.Cond.lays "java/lang/IllegalStateException" "java/lang/Throwable" "cause" "Ljava/lang/Throwable;") ∈ lw_all := lw_g (lw_at lw_m8 27 rfl) rfl
theorem q1763 : (Jvm.Cond.lays "java/lang/IllegalStateException" "java/lang/Throwable" "stackTrace" "[Ljava/lang/StackTraceElement;") ∈ lw_all := lw_g (lw_at lw_m8 28 rfl) rfl
theorem q1764 : (Jvm.Cond.lays "java/lang/IllegalStateException" "java/lang/Throwable" "suppressedExceptions" "Ljava/util/List;") ∈ lw_all := lw_g (lw_at lw_m8 29 rfl) rfl
theorem q1765 : (Jvm.Cond.lays "java/lang/IllegalStateException" "java/lang/Throwable" "detailMessage" "Ljava/lang/String;") ∈ lw_all := lw_g (lw_at lw_m8 30 rfl) rfl
theorem q1766 : (Jvm.Cond.lays "java/lang/IllegalStateException" "java/lang/Throwable" "backtrace" "Ljava/lang/Object;") ∈ lw_all := lw_g (lw_at lw_m8 31 rfl) rfl
theorem q1768 : (Jvm.Cond.instanceMethod ({ cls := "java/lang/IllegalStateException", name := "<init>", desc := "()V" } : Jvm.MethodName)) ∈ lw_all := lw_g (lw_at lw_m8 33 rfl) rfl
theorem q1769 : (Jvm.Cond.code ({ cls := "java/lang/IllegalStateException", name := "<init>", desc := "()V" } : Jvm.MethodName) prog_18_method_1_code (1 : Nat) (Option.none : Option Jvm.ClassFile.FieldType)) ∈ lw_all := lw_g (lw_at lw_m8 34 rfl) rfl
theorem q1770 : (Jvm.Cond.methodLink "java/lang/IllegalStateException" (1 : Nat) ({ cls := "java/lang/RuntimeException", name := "<init>", desc := "()V" } : Jvm.MethodName)) ∈ lw_all := lw_g (lw_at lw_m8 35 rfl) rfl
theorem q1771 : (Jvm.Cond.lays "java/lang/IllegalStateException" "java/lang/Throwable" "depth" "I") ∈ lw_all := lw_g (lw_at lw_m8 36 rfl) rfl
theorem q1772 : (Jvm.Cond.superclass "java/lang/IllegalStateException" "java/lang/RuntimeException") ∈ lw_all := lw_g (lw_at lw_m8 37 rfl) rfl
theorem q3925 : (Jvm.Cond.castable "java/lang/IllegalStateException" "java/lang/Object") ∈ lw_tbl := lw_at lw_m17 30 rfl
theorem in_J35 : ∀ w ∈ wsJ350, w ∈ lw_all := lw_in wsJ350 [1762, 1763, 1764, 1765, 1766, 1771] (by decide +kernel) (by decide +kernel)

/-! java/util/ConcurrentModificationException -/
set_option maxRecDepth 100000
def RJ36 : String := "java/util/ConcurrentModificationException"
def TJ36 : u_T := fun k => match k with
  | 0 => ("java/lang/Throwable", "cause", "Ljava/lang/Throwable;", false)
  | 1 => ("java/lang/Throwable", "stackTrace", "[Ljava/lang/StackTraceElement;", false)
  | 2 => ("java/lang/Throwable", "suppressedExceptions", "Ljava/util/List;", false)
  | 3 => ("java/lang/Throwable", "detailMessage", "Ljava/lang/String;", false)
  | 4 => ("java/lang/Throwable", "backtrace", "Ljava/lang/Object;", false)
  | _ => ("java/lang/Throwable", "depth", "I", false)
def tyJ36 : Nat → FieldType := fun k => match k with
  | 0 => .object "java/lang/Throwable"
  | 1 => .array (.object "java/lang/StackTraceElement")
  | 2 => .object "java/util/List"
  | 3 => .object "java/lang/String"
  | 4 => .object "java/lang/Object"
  | _ => .int
abbrev wsJ360 : List Cond := u_ws RJ36 TJ36 6
theorem nmJ36 : ∀ a, a < 6 → ∀ b, b < 6 → a ≠ b → (TJ36 a).2.1 ≠ (TJ36 b).2.1 := by decide +kernel
theorem tyJ36_ok : ∀ k, k < 6 → parseFieldDescriptor (TJ36 k).2.2.1 = some (tyJ36 k) := by decide +kernel
abbrev cJ36_init : ByteArray := prog_57_method_1_code
def yJ36_init : MethodName := ⟨RJ36, "<init>", "()V"⟩
theorem dJ36_init_0 : decode cJ36_init 0 = .ok (.aload_n 0, 1) := by decide +kernel
theorem dJ36_init_1 : decode cJ36_init 1 = .ok (.invokespecial 1, 3) := by decide +kernel
theorem dJ36_init_4 : decode cJ36_init 4 = .ok (.return_, 1) := by decide +kernel
theorem q99 : (Jvm.Cond.initialized "java/util/ConcurrentModificationException") ∈ lw_all := lw_g (lw_at lw_m1 44 rfl) rfl
theorem q247 : (Jvm.Cond.selects "java/util/ConcurrentModificationException" ({ cls := "java/lang/Object", name := "getClass", desc := "()Ljava/lang/Class;" } : Jvm.MethodName) ({ cls := "java/lang/Object", name := "getClass", desc := "()Ljava/lang/Class;" } : Jvm.MethodName)) ∈ lw_all := lw_g (lw_at lw_m1 192 rfl) rfl
theorem q486 : (Jvm.Cond.selects "java/util/ConcurrentModificationException" ({ cls := "java/lang/Throwable", name := "fillInStackTrace", desc := "()Ljava/lang/Throwable;" } : Jvm.MethodName) ({ cls := "java/lang/Throwable", name := "fillInStackTrace", desc := "()Ljava/lang/Throwable;" } : Jvm.MethodName)) ∈ lw_all := lw_g (lw_at lw_m2 191 rfl) rfl
theorem q1041 : (Jvm.Cond.selects "java/util/ConcurrentModificationException" ({ cls := "java/lang/Throwable", name := "toString", desc := "()Ljava/lang/String;" } : Jvm.MethodName) ({ cls := "java/lang/Throwable", name := "toString", desc := "()Ljava/lang/String;" } : Jvm.MethodName)) ∈ lw_all := lw_g (lw_at lw_m5 26 rfl) rfl
theorem q1053 : (Jvm.Cond.selects "java/util/ConcurrentModificationException" ({ cls := "java/lang/Throwable", name := "getLocalizedMessage", desc := "()Ljava/lang/String;" } : Jvm.MethodName) ({ cls := "java/lang/Throwable", name := "getLocalizedMessage", desc := "()Ljava/lang/String;" } : Jvm.MethodName)) ∈ lw_all := lw_g (lw_at lw_m5 38 rfl) rfl
theorem q1064 : (Jvm.Cond.selects "java/util/ConcurrentModificationException" ({ cls := "java/lang/Throwable", name := "getMessage", desc := "()Ljava/lang/String;" } : Jvm.MethodName) ({ cls := "java/lang/Throwable", name := "getMessage", desc := "()Ljava/lang/String;" } : Jvm.MethodName)) ∈ lw_all := lw_g (lw_at lw_m5 49 rfl) rfl
theorem q1795 : (Jvm.Cond.instantiable "java/util/ConcurrentModificationException" (6 : Nat)) ∈ lw_all := lw_g (lw_at lw_m8 60 rfl) rfl
theorem q1796 : (Jvm.Cond.castable "java/util/ConcurrentModificationException" "java/util/ConcurrentModificationException") ∈ lw_tbl := lw_at lw_m8 61 rfl
theorem q1797 : (Jvm.Cond.selects "java/util/ConcurrentModificationException" ({ cls := "java/lang/Throwable", name := "fillInStackTrace", desc := "(I)Ljava/lang/Throwable;" } : Jvm.MethodName) ({ cls := "java/lang/Throwable", name := "fillInStackTrace", desc := "(I)Ljava/lang/Throwable;" } : Jvm.MethodName)) ∈ lw_all := lw_g (lw_at lw_m8 62 rfl) rfl
theorem q1798 : (Jvm.Cond.lays "java/util/ConcurrentModificationException" "java/lang/Throwable" "cause" "Ljava/lang/Throwable;") ∈ lw_all := lw_g (lw_at lw_m8 63 rfl) rfl
theorem q1799 : (Jvm.Cond.lays "java/util/ConcurrentModificationException" "java/lang/Throwable" "stackTrace" "[Ljava/lang/StackTraceElement;") ∈ lw_all := lw_g (lw_at lw_m8 64 rfl) rfl
theorem q1800 : (Jvm.Cond.lays "java/util/ConcurrentModificationException" "java/lang/Throwable" "suppressedExceptions" "Ljava/util/List;") ∈ lw_all := lw_g (lw_at lw_m8 65 rfl) rfl
theorem q1801 : (Jvm.Cond.lays "java/util/ConcurrentModificationException" "java/lang/Throwable" "detailMessage" "Ljava/lang/String;") ∈ lw_all := lw_g (lw_at lw_m8 66 rfl) rfl
theorem q1802 : (Jvm.Cond.lays "java/util/ConcurrentModificationException" "java/lang/Throwable" "backtrace" "Ljava/lang/Object;") ∈ lw_all := lw_g (lw_at lw_m8 67 rfl) rfl
theorem q1804 : (Jvm.Cond.instanceMethod ({ cls := "java/util/ConcurrentModificationException", name := "<init>", desc := "()V" } : Jvm.MethodName)) ∈ lw_all := lw_g (lw_at lw_m8 69 rfl) rfl
theorem q1805 : (Jvm.Cond.code ({ cls := "java/util/ConcurrentModificationException", name := "<init>", desc := "()V" } : Jvm.MethodName) prog_57_method_1_code (1 : Nat) (Option.none : Option Jvm.ClassFile.FieldType)) ∈ lw_all := lw_g (lw_at lw_m8 70 rfl) rfl
theorem q1806 : (Jvm.Cond.methodLink "java/util/ConcurrentModificationException" (1 : Nat) ({ cls := "java/lang/RuntimeException", name := "<init>", desc := "()V" } : Jvm.MethodName)) ∈ lw_all := lw_g (lw_at lw_m8 71 rfl) rfl
theorem q1807 : (Jvm.Cond.lays "java/util/ConcurrentModificationException" "java/lang/Throwable" "depth" "I") ∈ lw_all := lw_g (lw_at lw_m8 72 rfl) rfl
theorem q1808 : (Jvm.Cond.superclass "java/util/ConcurrentModificationException" "java/lang/RuntimeException") ∈ lw_all := lw_g (lw_at lw_m8 73 rfl) rfl
theorem q3926 : (Jvm.Cond.castable "java/util/ConcurrentModificationException" "java/lang/Object") ∈ lw_tbl := lw_at lw_m17 31 rfl
theorem in_J36 : ∀ w ∈ wsJ360, w ∈ lw_all := lw_in wsJ360 [1798, 1799, 1800, 1801, 1802, 1807] (by decide +kernel) (by decide +kernel)

/-! java/lang/StringUTF16 -/
set_option maxRecDepth 100000
def RJ22 : String := "java/lang/StringUTF16"
def yJ22_newBytesFor : MethodName := ⟨RJ22, "newBytesFor", "(I)[B"⟩
def yJ22_newBytesLength : MethodName := ⟨RJ22, "newBytesLength", "(I)I"⟩
def yJ22_putCharsAt : MethodName := ⟨RJ22, "putCharsAt", "([BICCCC)I"⟩
def yJ22_checkBoundsBeginEnd : MethodName := ⟨RJ22, "checkBoundsBeginEnd", "(II[B)V"⟩
def yJ22_length : MethodName := ⟨RJ22, "length", "([B)I"⟩
def yJ22_putChar : MethodName := ⟨RJ22, "putChar", "([BII)V"⟩
def yJ22_inflate : MethodName := ⟨RJ22, "inflate", "([BI[BII)V"⟩
def yJ22_checkBoundsOffCount : MethodName := ⟨RJ22, "checkBoundsOffCount", "(II[B)V"⟩
def yJ22_getChars : MethodName := ⟨RJ22, "getChars", "(III[B)I"⟩
def yJ22_getChars_2 : MethodName := ⟨RJ22, "getChars", "(II[B)I"⟩
def yJ22_compress : MethodName := ⟨RJ22, "compress", "([BII)[B"⟩
def yJ22_compress_2 : MethodName := ⟨RJ22, "compress", "([BI[BII)I"⟩
def yJ22_getChar : MethodName := ⟨RJ22, "getChar", "([BI)C"⟩
def yJ22_coderFromArrayLen : MethodName := ⟨RJ22, "coderFromArrayLen", "([BI)B"⟩
def yJ22_hashCode : MethodName := ⟨RJ22, "hashCode", "([B)I"⟩
def yJ22_putCharSB : MethodName := ⟨RJ22, "putCharSB", "([BII)V"⟩
def yJ22_checkIndex : MethodName := ⟨RJ22, "checkIndex", "(I[B)V"⟩
def yJ22_compareTo : MethodName := ⟨RJ22, "compareTo", "([B[B)I"⟩
def yJ22_compareValues : MethodName := ⟨RJ22, "compareValues", "([B[BII)I"⟩
def yJ22_compareToLatin1 : MethodName := ⟨RJ22, "compareToLatin1", "([B[B)I"⟩
def yJ22_compareTo_2 : MethodName := ⟨RJ22, "compareTo", "([B[BII)I"⟩
def yJ22_checkOffset : MethodName := ⟨RJ22, "checkOffset", "(I[B)V"⟩
def yJ22_compareToLatin1_2 : MethodName := ⟨RJ22, "compareToLatin1", "([B[BII)I"⟩
theorem q83 : (Jvm.Cond.initialized "java/lang/StringUTF16") ∈ lw_all := lw_g (lw_at lw_m1 28 rfl) rfl
theorem q510 : (Jvm.Cond.static ({ cls := "java/lang/StringUTF16", name := "newBytesFor", desc := "(I)[B" } : Jvm.MethodName)) ∈ lw_all := lw_g (lw_at lw_m2 215 rfl) rfl
theorem q511 : (Jvm.Cond.code ({ cls := "java/lang/StringUTF16", name := "newBytesFor", desc := "(I)[B" } : Jvm.MethodName) prog_30_method_2_code (1 : Nat) (Option.some (Jvm.ClassFile.FieldType.array Jvm.ClassFile.FieldType.byte))) ∈ lw_all := lw_g (lw_at lw_m2 216 rfl) rfl
theorem q512 : (Jvm.Cond.methodLink "java/lang/StringUTF16" (11 : Nat) ({ cls := "java/lang/StringUTF16", name := "newBytesLength", desc := "(I)I" } : Jvm.MethodName)) ∈ lw_all := lw_g (lw_at lw_m2 217 rfl) rfl
theorem q513 : (Jvm.Cond.static ({ cls := "java/lang/StringUTF16", name := "newBytesLength", desc := "(I)I" } : Jvm.MethodName)) ∈ lw_all := lw_g (lw_at lw_m2 218 rfl) rfl
theorem q514 : (Jvm.Cond.code ({ cls := "java/lang/StringUTF16", name := "newBytesLength", desc := "(I)I" } : Jvm.MethodName) prog_30_method_3_code (1 : Nat) (Option.some Jvm.ClassFile.FieldType.int)) ∈ lw_all := lw_g (lw_at lw_m2 219 rfl) rfl
theorem q515 : (Jvm.Cond.constant "java/lang/StringUTF16" (20 : Nat) (1073741823 : Int32)) ∈ lw_all := lw_g (lw_at lw_m2 220 rfl) rfl
theorem q568 : (Jvm.Cond.static ({ cls := "java/lang/StringUTF16", name := "putCharsAt", desc := "([BICCCC)I" } : Jvm.MethodName)) ∈ lw_all := lw_g (lw_at lw_m3 33 rfl) rfl
theorem q569 : (Jvm.Cond.code ({ cls := "java/lang/StringUTF16", name := "putCharsAt", desc := "([BICCCC)I" } : Jvm.MethodName) prog_30_method_81_code (7 : Nat) (Option.some Jvm.ClassFile.FieldType.int)) ∈ lw_all := lw_g (lw_at lw_m3 34 rfl) rfl
theorem q570 : (Jvm.Cond.methodLink "java/lang/StringUTF16" (96 : Nat) ({ cls := "java/lang/StringUTF16", name := "checkBoundsBeginEnd", desc := "(II[B)V" } : Jvm.MethodName)) ∈ lw_all := lw_g (lw_at lw_m3 35 rfl) rfl
theorem q571 : (Jvm.Cond.static ({ cls := "java/lang/StringUTF16", name := "checkBoundsBeginEnd", desc := "(II[B)V" } : Jvm.MethodName)) ∈ lw_all := lw_g (lw_at lw_m3 36 rfl) rfl
theorem q572 : (Jvm.Cond.code ({ cls := "java/lang/StringUTF16", name := "checkBoundsBeginEnd", desc := "(II[B)V" } : Jvm.MethodName) prog_30_method_93_code (3 : Nat) (Option.none : Option Jvm.ClassFile.FieldType)) ∈ lw_all := lw_g (lw_at lw_m3 37 rfl) rfl
theorem q573 : (Jvm.Cond.methodLink "java/lang/StringUTF16" (48 : Nat) ({ cls := "java/lang/StringUTF16", name := "length", desc := "([B)I" } : Jvm.MethodName)) ∈ lw_all := lw_g (lw_at lw_m3 38 rfl) rfl
theorem q574 : (Jvm.Cond.static ({ cls := "java/lang/StringUTF16", name := "length", desc := "([B)I" } : Jvm.MethodName)) ∈ lw_all := lw_g (lw_at lw_m3 39 rfl) rfl
theorem q575 : (Jvm.Cond.code ({ cls := "java/lang/StringUTF16", name := "length", desc := "([B)I" } : Jvm.MethodName) prog_30_method_6_code (1 : Nat) (Option.some Jvm.ClassFile.FieldType.int)) ∈ lw_all := lw_g (lw_at lw_m3 40 rfl) rfl
theorem q576 : (Jvm.Cond.methodLink "java/lang/StringUTF16" (241 : Nat) ({ cls := "java/lang/String", name := "checkBoundsBeginEnd", desc := "(III)V" } : Jvm.MethodName)) ∈ lw_all := lw_g (lw_at lw_m3 41 rfl) rfl
theorem q584 : (Jvm.Cond.methodLink "java/lang/StringUTF16" (111 : Nat) ({ cls := "java/lang/StringUTF16", name := "putChar", desc := "([BII)V" } : Jvm.MethodName)) ∈ lw_all := lw_g (lw_at lw_m3 49 rfl) rfl
theorem q585 : (Jvm.Cond.static ({ cls := "java/lang/StringUTF16", name := "putChar", desc := "([BII)V" } : Jvm.MethodName)) ∈ lw_all := lw_g (lw_at lw_m3 50 rfl) rfl
theorem q586 : (Jvm.Cond.code ({ cls := "java/lang/StringUTF16", name := "putChar", desc := "([BII)V" } : Jvm.MethodName) prog_30_method_4_code (3 : Nat) (Option.none : Option Jvm.ClassFile.FieldType)) ∈ lw_all := lw_g (lw_at lw_m3 51 rfl) rfl
theorem q587 : (Jvm.Cond.fieldLink "java/lang/StringUTF16" (44 : Nat) "java/lang/StringUTF16" "$assertionsDisabled" "Z") ∈ lw_all := lw_g (lw_at lw_m3 52 rfl) rfl
theorem q588 : (Jvm.Cond.laysStatic "java/lang/StringUTF16" "$assertionsDisabled" "Z") ∈ lw_tbl := lw_at lw_m3 53 rfl
theorem q589 : (Jvm.Cond.fieldLink "java/lang/StringUTF16" (59 : Nat) "java/lang/StringUTF16" "HI_BYTE_SHIFT" "I") ∈ lw_all := lw_g (lw_at lw_m3 54 rfl) rfl
theorem q590 : (Jvm.Cond.laysStatic "java/lang/StringUTF16" "HI_BYTE_SHIFT" "I") ∈ lw_tbl := lw_at lw_m3 55 rfl
theorem q591 : (Jvm.Cond.fieldLink "java/lang/StringUTF16" (63 : Nat) "java/lang/StringUTF16" "LO_BYTE_SHIFT" "I") ∈ lw_all := lw_g (lw_at lw_m3 56 rfl) rfl
theorem q592 : (Jvm.Cond.laysStatic "java/lang/StringUTF16" "LO_BYTE_SHIFT" "I") ∈ lw_tbl := lw_at lw_m3 57 rfl
theorem q619 : (Jvm.Cond.static ({ cls := "java/lang/StringUTF16", name := "inflate", desc := "([BI[BII)V" } : Jvm.MethodName)) ∈ lw_all := lw_g (lw_at lw_m3 84 rfl) rfl
theorem q620 : (Jvm.Cond.code ({ cls := "java/lang/StringUTF16", name := "inflate", desc := "([BI[BII)V" } : Jvm.MethodName) prog_30_method_86_code (6 : Nat) (Option.none : Option Jvm.ClassFile.FieldType)) ∈ lw_all := lw_g (lw_at lw_m3 85 rfl) rfl
theorem q621 : (Jvm.Cond.methodLink "java/lang/StringUTF16" (173 : Nat) ({ cls := "java/lang/StringUTF16", name := "checkBoundsOffCount", desc := "(II[B)V" } : Jvm.MethodName)) ∈ lw_all := lw_g (lw_at lw_m3 86 rfl) rfl
theorem q622 : (Jvm.Cond.static ({ cls := "java/lang/StringUTF16", name := "checkBoundsOffCount", desc := "(II[B)V" } : Jvm.MethodName)) ∈ lw_all := lw_g (lw_at lw_m3 87 rfl) rfl
theorem q623 : (Jvm.Cond.code ({ cls := "java/lang/StringUTF16", name := "checkBoundsOffCount", desc := "(II[B)V" } : Jvm.MethodName) prog_30_method_94_code (3 : Nat) (Option.none : Option Jvm.ClassFile.FieldType)) ∈ lw_all := lw_g (lw_at lw_m3 88 rfl) rfl
theorem q624 : (Jvm.Cond.methodLink "java/lang/StringUTF16" (419 : Nat) ({ cls := "java/lang/String", name := "checkBoundsOffCount", desc := "(III)I" } : Jvm.MethodName)) ∈ lw_all := lw_g (lw_at lw_m3 89 rfl) rfl
theorem q654 : (Jvm.Cond.static ({ cls := "java/lang/StringUTF16", name := "getChars", desc := "(III[B)I" } : Jvm.MethodName)) ∈ lw_all := lw_g (lw_at lw_m3 119 rfl) rfl
theorem q655 : (Jvm.Cond.code ({ cls := "java/lang/StringUTF16", name := "getChars", desc := "(III[B)I" } : Jvm.MethodName) prog_30_method_77_code (5 : Nat) (Option.some Jvm.ClassFile.FieldType.int)) ∈ lw_all := lw_g (lw_at lw_m3 120 rfl) rfl
theorem q656 : (Jvm.Cond.methodLink "java/lang/StringUTF16" (393 : Nat) ({ cls := "java/lang/StringUTF16", name := "getChars", desc := "(II[B)I" } : Jvm.MethodName)) ∈ lw_all := lw_g (lw_at lw_m3 121 rfl) rfl
theorem q657 : (Jvm.Cond.static ({ cls := "java/lang/StringUTF16", name := "getChars", desc := "(II[B)I" } : Jvm.MethodName)) ∈ lw_all := lw_g (lw_at lw_m3 122 rfl) rfl
theorem q658 : (Jvm.Cond.code ({ cls := "java/lang/StringUTF16", name := "getChars", desc := "(II[B)I" } : Jvm.MethodName) prog_30_method_89_code (7 : Nat) (Option.some Jvm.ClassFile.FieldType.int)) ∈ lw_all := lw_g (lw_at lw_m3 123 rfl) rfl
theorem q659 : (Jvm.Cond.fieldLink "java/lang/StringUTF16" (403 : Nat) "java/lang/Integer" "DigitOnes" "[B") ∈ lw_all := lw_g (lw_at lw_m3 124 rfl) rfl
theorem q660 : (Jvm.Cond.fieldLink "java/lang/StringUTF16" (407 : Nat) "java/lang/Integer" "DigitTens" "[B") ∈ lw_all := lw_g (lw_at lw_m3 125 rfl) rfl
theorem q739 : (Jvm.Cond.static ({ cls := "java/lang/StringUTF16", name := "compress", desc := "([BII)[B" } : Jvm.MethodName)) ∈ lw_all := lw_g (lw_at lw_m3 204 rfl) rfl
theorem q740 : (Jvm.Cond.code ({ cls := "java/lang/StringUTF16", name := "compress", desc := "([BII)[B" } : Jvm.MethodName) prog_30_method_17_code (6 : Nat) (Option.some (Jvm.ClassFile.FieldType.array Jvm.ClassFile.FieldType.byte))) ∈ lw_all := lw_g (lw_at lw_m3 205 rfl) rfl
theorem q741 : (Jvm.Cond.methodLink "java/lang/StringUTF16" (123 : Nat) ({ cls := "java/lang/StringUTF16", name := "compress", desc := "([BI[BII)I" } : Jvm.MethodName)) ∈ lw_all := lw_g (lw_at lw_m3 206 rfl) rfl
theorem q742 : (Jvm.Cond.static ({ cls := "java/lang/StringUTF16", name := "compress", desc := "([BI[BII)I" } : Jvm.MethodName)) ∈ lw_all := lw_g (lw_at lw_m3 207 rfl) rfl
theorem q743 : (Jvm.Cond.code ({ cls := "java/lang/StringUTF16", name := "compress", desc := "([BI[BII)I" } : Jvm.MethodName) prog_30_method_22_code (7 : Nat) (Option.some Jvm.ClassFile.FieldType.int)) ∈ lw_all := lw_g (lw_at lw_m3 208 rfl) rfl
theorem q744 : (Jvm.Cond.methodLink "java/lang/StringUTF16" (71 : Nat) ({ cls := "java/lang/StringUTF16", name := "getChar", desc := "([BI)C" } : Jvm.MethodName)) ∈ lw_all := lw_g (lw_at lw_m3 209 rfl) rfl
theorem q745 : (Jvm.Cond.static ({ cls := "java/lang/StringUTF16", name := "getChar", desc := "([BI)C" } : Jvm.MethodName)) ∈ lw_all := lw_g (lw_at lw_m3 210 rfl) rfl
theorem q746 : (Jvm.Cond.code ({ cls := "java/lang/StringUTF16", name := "getChar", desc := "([BI)C" } : Jvm.MethodName) prog_30_method_5_code (2 : Nat) (Option.some Jvm.ClassFile.FieldType.char)) ∈ lw_all := lw_g (lw_at lw_m3 211 rfl) rfl
theorem q747 : (Jvm.Cond.methodLink "java/lang/StringUTF16" (126 : Nat) ({ cls := "java/util/Arrays", name := "copyOfRange", desc := "([BII)[B" } : Jvm.MethodName)) ∈ lw_all := lw_g (lw_at lw_m3 212 rfl) rfl
theorem q749 : (Jvm.Cond.static ({ cls := "java/lang/StringUTF16", name := "coderFromArrayLen", desc := "([BI)B" } : Jvm.MethodName)) ∈ lw_all := lw_g (lw_at lw_m3 214 rfl) rfl
theorem q750 : (Jvm.Cond.code ({ cls := "java/lang/StringUTF16", name := "coderFromArrayLen", desc := "([BI)B" } : Jvm.MethodName) prog_30_method_15_code (2 : Nat) (Option.some Jvm.ClassFile.FieldType.byte)) ∈ lw_all := lw_g (lw_at lw_m3 215 rfl) rfl
theorem q1368 : (Jvm.Cond.static ({ cls := "java/lang/StringUTF16", name := "hashCode", desc := "([B)I" } : Jvm.MethodName)) ∈ lw_all := lw_g (lw_at lw_m6 113 rfl) rfl
theorem q1369 : (Jvm.Cond.code ({ cls := "java/lang/StringUTF16", name := "hashCode", desc := "([B)I" } : Jvm.MethodName) prog_30_method_39_code (1 : Nat) (Option.some Jvm.ClassFile.FieldType.int)) ∈ lw_all := lw_g (lw_at lw_m6 114 rfl) rfl
theorem q1370 : (Jvm.Cond.methodLink "java/lang/StringUTF16" (220 : Nat) ({ cls := "jdk/internal/util/ArraysSupport", name := "vectorizedHashCode", desc := "(Ljava/lang/Object;IIII)I" } : Jvm.MethodName)) ∈ lw_all := lw_g (lw_at lw_m6 115 rfl) rfl
theorem q1608 : (Jvm.Cond.static ({ cls := "java/lang/StringUTF16", name := "putCharSB", desc := "([BII)V" } : Jvm.MethodName)) ∈ lw_all := lw_g (lw_at lw_m7 113 rfl) rfl
theorem q1609 : (Jvm.Cond.code ({ cls := "java/lang/StringUTF16", name := "putCharSB", desc := "([BII)V" } : Jvm.MethodName) prog_30_method_71_code (3 : Nat) (Option.none : Option Jvm.ClassFile.FieldType)) ∈ lw_all := lw_g (lw_at lw_m7 114 rfl) rfl
theorem q1610 : (Jvm.Cond.methodLink "java/lang/StringUTF16" (67 : Nat) ({ cls := "java/lang/StringUTF16", name := "checkIndex", desc := "(I[B)V" } : Jvm.MethodName)) ∈ lw_all := lw_g (lw_at lw_m7 115 rfl) rfl
theorem q1611 : (Jvm.Cond.static ({ cls := "java/lang/StringUTF16", name := "checkIndex", desc := "(I[B)V" } : Jvm.MethodName)) ∈ lw_all := lw_g (lw_at lw_m7 116 rfl) rfl
theorem q1612 : (Jvm.Cond.code ({ cls := "java/lang/StringUTF16", name := "checkIndex", desc := "(I[B)V" } : Jvm.MethodName) prog_30_method_91_code (2 : Nat) (Option.none : Option Jvm.ClassFile.FieldType)) ∈ lw_all := lw_g (lw_at lw_m7 117 rfl) rfl
theorem q1613 : (Jvm.Cond.methodLink "java/lang/StringUTF16" (414 : Nat) ({ cls := "java/lang/String", name := "checkIndex", desc := "(II)V" } : Jvm.MethodName)) ∈ lw_all := lw_g (lw_at lw_m7 118 rfl) rfl
theorem q2836 : (Jvm.Cond.static ({ cls := "java/lang/StringUTF16", name := "compareTo", desc := "([B[B)I" } : Jvm.MethodName)) ∈ lw_all := lw_g (lw_at lw_m12 141 rfl) rfl
theorem q2837 : (Jvm.Cond.code ({ cls := "java/lang/StringUTF16", name := "compareTo", desc := "([B[B)I" } : Jvm.MethodName) prog_30_method_29_code (4 : Nat) (Option.some Jvm.ClassFile.FieldType.int)) ∈ lw_all := lw_g (lw_at lw_m12 142 rfl) rfl
theorem q2838 : (Jvm.Cond.methodLink "java/lang/StringUTF16" (176 : Nat) ({ cls := "java/lang/StringUTF16", name := "compareValues", desc := "([B[BII)I" } : Jvm.MethodName)) ∈ lw_all := lw_g (lw_at lw_m12 143 rfl) rfl
theorem q2839 : (Jvm.Cond.static ({ cls := "java/lang/StringUTF16", name := "compareValues", desc := "([B[BII)I" } : Jvm.MethodName)) ∈ lw_all := lw_g (lw_at lw_m12 144 rfl) rfl
theorem q2840 : (Jvm.Cond.code ({ cls := "java/lang/StringUTF16", name := "compareValues", desc := "([B[BII)I" } : Jvm.MethodName) prog_30_method_31_code (8 : Nat) (Option.some Jvm.ClassFile.FieldType.int)) ∈ lw_all := lw_g (lw_at lw_m12 145 rfl) rfl
theorem q2841 : (Jvm.Cond.methodLink "java/lang/StringUTF16" (183 : Nat) ({ cls := "java/lang/Math", name := "min", desc := "(II)I" } : Jvm.MethodName)) ∈ lw_all := lw_g (lw_at lw_m12 146 rfl) rfl
theorem q2854 : (Jvm.Cond.static ({ cls := "java/lang/StringUTF16", name := "compareToLatin1", desc := "([B[B)I" } : Jvm.MethodName)) ∈ lw_all := lw_g (lw_at lw_m12 159 rfl) rfl
theorem q2855 : (Jvm.Cond.code ({ cls := "java/lang/StringUTF16", name := "compareToLatin1", desc := "([B[B)I" } : Jvm.MethodName) prog_30_method_32_code (2 : Nat) (Option.some Jvm.ClassFile.FieldType.int)) ∈ lw_all := lw_g (lw_at lw_m12 160 rfl) rfl
theorem q2856 : (Jvm.Cond.methodLink "java/lang/StringUTF16" (189 : Nat) ({ cls := "java/lang/StringLatin1", name := "compareToUTF16", desc := "([B[B)I" } : Jvm.MethodName)) ∈ lw_all := lw_g (lw_at lw_m12 161 rfl) rfl
theorem q2873 : (Jvm.Cond.static ({ cls := "java/lang/StringUTF16", name := "compareTo", desc := "([B[BII)I" } : Jvm.MethodName)) ∈ lw_all := lw_g (lw_at lw_m12 178 rfl) rfl
theorem q2874 : (Jvm.Cond.code ({ cls := "java/lang/StringUTF16", name := "compareTo", desc := "([B[BII)I" } : Jvm.MethodName) prog_30_method_30_code (4 : Nat) (Option.some Jvm.ClassFile.FieldType.int)) ∈ lw_all := lw_g (lw_at lw_m12 179 rfl) rfl
theorem q2875 : (Jvm.Cond.methodLink "java/lang/StringUTF16" (180 : Nat) ({ cls := "java/lang/StringUTF16", name := "checkOffset", desc := "(I[B)V" } : Jvm.MethodName)) ∈ lw_all := lw_g (lw_at lw_m12 180 rfl) rfl
theorem q2876 : (Jvm.Cond.static ({ cls := "java/lang/StringUTF16", name := "checkOffset", desc := "(I[B)V" } : Jvm.MethodName)) ∈ lw_all := lw_g (lw_at lw_m12 181 rfl) rfl
theorem q2877 : (Jvm.Cond.code ({ cls := "java/lang/StringUTF16", name := "checkOffset", desc := "(I[B)V" } : Jvm.MethodName) prog_30_method_92_code (2 : Nat) (Option.none : Option Jvm.ClassFile.FieldType)) ∈ lw_all := lw_g (lw_at lw_m12 182 rfl) rfl
theorem q2878 : (Jvm.Cond.methodLink "java/lang/StringUTF16" (417 : Nat) ({ cls := "java/lang/String", name := "checkOffset", desc := "(II)V" } : Jvm.MethodName)) ∈ lw_all := lw_g (lw_at lw_m12 183 rfl) rfl
theorem q2886 : (Jvm.Cond.static ({ cls := "java/lang/StringUTF16", name := "compareToLatin1", desc := "([B[BII)I" } : Jvm.MethodName)) ∈ lw_all := lw_g (lw_at lw_m12 191 rfl) rfl
theorem q2887 : (Jvm.Cond.code ({ cls := "java/lang/StringUTF16", name := "compareToLatin1", desc := "([B[BII)I" } : Jvm.MethodName) prog_30_method_33_code (4 : Nat) (Option.some Jvm.ClassFile.FieldType.int)) ∈ lw_all := lw_g (lw_at lw_m12 192 rfl) rfl
theorem q2888 : (Jvm.Cond.methodLink "java/lang/StringUTF16" (193 : Nat) ({ cls := "java/lang/StringLatin1", name := "compareToUTF16", desc := "([B[BII)I" } : Jvm.MethodName)) ∈ lw_all := lw_g (lw_at lw_m12 193 rfl) rfl

/-! java/util/ArrayList$SubList -/
set_option maxRecDepth 100000
def RJ24 : String := "java/util/ArrayList$SubList"
def TJ24 : u_T := fun k => match k with
  | 0 => ("java/util/AbstractList", "modCount", "I", false)
  | 1 => ("java/util/ArrayList$SubList", "root", "Ljava/util/ArrayList;", true)
  | 2 => ("java/util/ArrayList$SubList", "parent", "Ljava/util/ArrayList$SubList;", true)
  | 3 => ("java/util/ArrayList$SubList", "offset", "I", true)
  | _ => ("java/util/ArrayList$SubList", "size", "I", false)
def tyJ24 : Nat → FieldType := fun k => match k with
  | 0 => .int
  | 1 => .object "java/util/ArrayList"
  | 2 => .object "java/util/ArrayList$SubList"
  | 3 => .int
  | _ => .int
abbrev wsJ240 : List Cond := u_ws RJ24 TJ24 5
theorem nmJ24 : ∀ a, a < 5 → ∀ b, b < 5 → a ≠ b → (TJ24 a).2.1 ≠ (TJ24 b).2.1 := by decide +kernel
theorem tyJ24_ok : ∀ k, k < 5 → parseFieldDescriptor (TJ24 k).2.2.1 = some (tyJ24 k) := by decide +kernel
def yJ24_size : MethodName := ⟨RJ24, "size", "()I"⟩
def yJ24_checkForComodification : MethodName := ⟨RJ24, "checkForComodification", "()V"⟩
def yJ24_listIterator : MethodName := ⟨RJ24, "listIterator", "(I)Ljava/util/ListIterator;"⟩
def yJ24_rangeCheckForAdd : MethodName := ⟨RJ24, "rangeCheckForAdd", "(I)V"⟩
def yJ24_outOfBoundsMsg : MethodName := ⟨RJ24, "outOfBoundsMsg", "(I)Ljava/lang/String;"⟩
def yJ24_get : MethodName := ⟨RJ24, "get", "(I)Ljava/lang/Object;"⟩
def yJ24_iterator : MethodName := ⟨RJ24, "iterator", "()Ljava/util/Iterator;"⟩
def yJ24_equals : MethodName := ⟨RJ24, "equals", "(Ljava/lang/Object;)Z"⟩
def yJ24_hashCode : MethodName := ⟨RJ24, "hashCode", "()I"⟩
def yJ24_indexOf : MethodName := ⟨RJ24, "indexOf", "(Ljava/lang/Object;)I"⟩
def yJ24_lastIndexOf : MethodName := ⟨RJ24, "lastIndexOf", "(Ljava/lang/Object;)I"⟩
def yJ24_add : MethodName := ⟨RJ24, "add", "(ILjava/lang/Object;)V"⟩
def yJ24_updateSizeAndModCount : MethodName := ⟨RJ24, "updateSizeAndModCount", "(I)V"⟩
def yJ24_removeRange : MethodName := ⟨RJ24, "removeRange", "(II)V"⟩
def yJ24_remove : MethodName := ⟨RJ24, "remove", "(I)Ljava/lang/Object;"⟩
def yJ24_init : MethodName := ⟨RJ24, "<init>", "(Ljava/util/ArrayList;II)V"⟩
def yJ24_subList : MethodName := ⟨RJ24, "subList", "(II)Ljava/util/List;"⟩
def yJ24_init_2 : MethodName := ⟨RJ24, "<init>", "(Ljava/util/ArrayList$SubList;II)V"⟩
def yJ24_set : MethodName := ⟨RJ24, "set", "(ILjava/lang/Object;)Ljava/lang/Object;"⟩
def yJ24_contains : MethodName := ⟨RJ24, "contains", "(Ljava/lang/Object;)Z"⟩
def yJ24_replaceAll : MethodName := ⟨RJ24, "replaceAll", "(Ljava/util/function/UnaryOperator;)V"⟩
def yJ24_toArray : MethodName := ⟨RJ24, "toArray", "()[Ljava/lang/Object;"⟩
def yJ24_addAll : MethodName := ⟨RJ24, "addAll", "(ILjava/util/Collection;)Z"⟩
def yJ24_addAll_2 : MethodName := ⟨RJ24, "addAll", "(Ljava/util/Collection;)Z"⟩
def yJ24_removeAll : MethodName := ⟨RJ24, "removeAll", "(Ljava/util/Collection;)Z"⟩
def yJ24_batchRemove : MethodName := ⟨RJ24, "batchRemove", "(Ljava/util/Collection;Z)Z"⟩
def yJ24_retainAll : MethodName := ⟨RJ24, "retainAll", "(Ljava/util/Collection;)Z"⟩
def yJ24_removeIf : MethodName := ⟨RJ24, "removeIf", "(Ljava/util/function/Predicate;)Z"⟩
theorem q85 : (Jvm.Cond.initialized "java/util/ArrayList$SubList") ∈ lw_all := lw_g (lw_at lw_m1 30 rfl) rfl
theorem q131 : (Jvm.Cond.fieldLink "java/util/ArrayList$SubList" (43 : Nat) "java/util/ArrayList" "elementData" "[Ljava/lang/Object;") ∈ lw_all := lw_g (lw_at lw_m1 76 rfl) rfl
theorem q137 : (Jvm.Cond.fieldLinkNest "java/util/ArrayList$SubList" (82 : Nat) "java/util/ArrayList" "size" "I" "java/util/ArrayList") ∈ lw_tbl := lw_at lw_m1 82 rfl
theorem q142 : (Jvm.Cond.fieldLink "java/util/ArrayList$SubList" (24 : Nat) "java/util/ArrayList" "modCount" "I") ∈ lw_all := lw_g (lw_at lw_m1 87 rfl) rfl
theorem q144 : (Jvm.Cond.fieldLink "java/util/ArrayList$SubList" (29 : Nat) "java/util/ArrayList$SubList" "modCount" "I") ∈ lw_all := lw_g (lw_at lw_m1 89 rfl) rfl
theorem q145 : (Jvm.Cond.sameField "java/util/ArrayList$SubList" "java/util/AbstractList" "modCount" "I") ∈ lw_all := lw_g (lw_at lw_m1 90 rfl) rfl
theorem q242 : (Jvm.Cond.selects "java/util/ArrayList$SubList" ({ cls := "java/lang/Object", name := "getClass", desc := "()Ljava/lang/Class;" } : Jvm.MethodName) ({ cls := "java/lang/Object", name := "getClass", desc := "()Ljava/lang/Class;" } : Jvm.MethodName)) ∈ lw_all := lw_g (lw_at lw_m1 187 rfl) rfl
theorem q369 : (Jvm.Cond.castable "java/util/ArrayList$SubList" "java/util/List") ∈ lw_tbl := lw_at lw_m2 74 rfl
theorem q370 : (Jvm.Cond.selects "java/util/ArrayList$SubList" ({ cls := "java/util/List", name := "size", desc := "()I" } : Jvm.MethodName) ({ cls := "java/util/ArrayList$SubList", name := "size", desc := "()I" } : Jvm.MethodName)) ∈ lw_all := lw_g (lw_at lw_m2 75 rfl) rfl
theorem q371 : (Jvm.Cond.unhidden "java/util/ArrayList$SubList" "size" "()I") ∈ lw_tbl := lw_at lw_m2 76 rfl
theorem q372 : (Jvm.Cond.instanceMethod ({ cls := "java/util/ArrayList$SubList", name := "size", desc := "()I" } : Jvm.MethodName)) ∈ lw_all := lw_g (lw_at lw_m2 77 rfl) rfl
theorem q373 : (Jvm.Cond.publicMethod ({ cls := "java/util/ArrayList$SubList", name := "size", desc := "()I" } : Jvm.MethodName)) ∈ lw_tbl := lw_at lw_m2 78 rfl
theorem q374 : (Jvm.Cond.code ({ cls := "java/util/ArrayList$SubList", name := "size", desc := "()I" } : Jvm.MethodName) prog_47_method_5_code (1 : Nat) (Option.some Jvm.ClassFile.FieldType.int)) ∈ lw_all := lw_g (lw_at lw_m2 79 rfl) rfl
theorem q375 : (Jvm.Cond.methodLink "java/util/ArrayList$SubList" (36 : Nat) ({ cls := "java/util/ArrayList$SubList", name := "checkForComodification", desc := "()V" } : Jvm.MethodName)) ∈ lw_all := lw_g (lw_at lw_m2 80 rfl) rfl
theorem q376 : (Jvm.Cond.privateMethod ({ cls := "java/util/ArrayList$SubList", name := "checkForComodification", desc := "()V" } : Jvm.MethodName)) ∈ lw_tbl := lw_at lw_m2 81 rfl
theorem q377 : (Jvm.Cond.instanceMethod ({ cls := "java/util/ArrayList$SubList", name := "checkForComodification", desc := "()V" } : Jvm.MethodName)) ∈ lw_all := lw_g (lw_at lw_m2 82 rfl) rfl
theorem q378 : (Jvm.Cond.instantiable "java/util/ArrayList$SubList" (5 : Nat)) ∈ lw_all := lw_g (lw_at lw_m2 83 rfl) rfl
theorem q379 : (Jvm.Cond.code ({ cls := "java/util/ArrayList$SubList", name := "checkForComodification", desc := "()V" } : Jvm.MethodName) prog_47_method_28_code (1 : Nat) (Option.none : Option Jvm.ClassFile.FieldType)) ∈ lw_all := lw_g (lw_at lw_m2 84 rfl) rfl
theorem q436 : (Jvm.Cond.selects "java/util/ArrayList$SubList" ({ cls := "java/util/AbstractList", name := "listIterator", desc := "()Ljava/util/ListIterator;" } : Jvm.MethodName) ({ cls := "java/util/AbstractList", name := "listIterator", desc := "()Ljava/util/ListIterator;" } : Jvm.MethodName)) ∈ lw_all := lw_g (lw_at lw_m2 141 rfl) rfl
theorem q796 : (Jvm.Cond.instanceMethod ({ cls := "java/util/ArrayList$SubList", name := "listIterator", desc := "(I)Ljava/util/ListIterator;" } : Jvm.MethodName)) ∈ lw_all := lw_g (lw_at lw_m4 21 rfl) rfl
theorem q797 : (Jvm.Cond.code ({ cls := "java/util/ArrayList$SubList", name := "listIterator", desc := "(I)Ljava/util/ListIterator;" } : Jvm.MethodName) prog_47_method_24_code (2 : Nat) (Option.some (Jvm.ClassFile.FieldType.object "java/util/ListIterator"))) ∈ lw_all := lw_g (lw_at lw_m4 22 rfl) rfl
theorem q798 : (Jvm.Cond.methodLink "java/util/ArrayList$SubList" (46 : Nat) ({ cls := "java/util/ArrayList$SubList", name := "rangeCheckForAdd", desc := "(I)V" } : Jvm.MethodName)) ∈ lw_all := lw_g (lw_at lw_m4 23 rfl) rfl
theorem q799 : (Jvm.Cond.privateMethod ({ cls := "java/util/ArrayList$SubList", name := "rangeCheckForAdd", desc := "(I)V" } : Jvm.MethodName)) ∈ lw_tbl := lw_at lw_m4 24 rfl
theorem q800 : (Jvm.Cond.instanceMethod ({ cls := "java/util/ArrayList$SubList", name := "rangeCheckForAdd", desc := "(I)V" } : Jvm.MethodName)) ∈ lw_all := lw_g (lw_at lw_m4 25 rfl) rfl
theorem q801 : (Jvm.Cond.code ({ cls := "java/util/ArrayList$SubList", name := "rangeCheckForAdd", desc := "(I)V" } : Jvm.MethodName) prog_47_method_26_code (2 : Nat) (Option.none : Option Jvm.ClassFile.FieldType)) ∈ lw_all := lw_g (lw_at lw_m4 26 rfl) rfl
theorem q802 : (Jvm.Cond.classLink "java/util/ArrayList$SubList" (147 : Nat) "java/lang/IndexOutOfBoundsException") ∈ lw_all := lw_g (lw_at lw_m4 27 rfl) rfl
theorem q803 : (Jvm.Cond.methodLink "java/util/ArrayList$SubList" (149 : Nat) ({ cls := "java/util/ArrayList$SubList", name := "outOfBoundsMsg", desc := "(I)Ljava/lang/String;" } : Jvm.MethodName)) ∈ lw_all := lw_g (lw_at lw_m4 28 rfl) rfl
theorem q804 : (Jvm.Cond.privateMethod ({ cls := "java/util/ArrayList$SubList", name := "outOfBoundsMsg", desc := "(I)Ljava/lang/String;" } : Jvm.MethodName)) ∈ lw_tbl := lw_at lw_m4 29 rfl
theorem q805 : (Jvm.Cond.instanceMethod ({ cls := "java/util/ArrayList$SubList", name := "outOfBoundsMsg", desc := "(I)Ljava/lang/String;" } : Jvm.MethodName)) ∈ lw_all := lw_g (lw_at lw_m4 30 rfl) rfl
theorem q806 : (Jvm.Cond.code ({ cls := "java/util/ArrayList$SubList", name := "outOfBoundsMsg", desc := "(I)Ljava/lang/String;" } : Jvm.MethodName) prog_47_method_27_code (2 : Nat) (Option.some (Jvm.ClassFile.FieldType.object "java/lang/String"))) ∈ lw_all := lw_g (lw_at lw_m4 31 rfl) rfl
theorem q807 : (Jvm.Cond.classLink "java/util/ArrayList$SubList" (156 : Nat) "java/lang/StringBuilder") ∈ lw_all := lw_g (lw_at lw_m4 32 rfl) rfl
theorem q808 : (Jvm.Cond.methodLink "java/util/ArrayList$SubList" (158 : Nat) ({ cls := "java/lang/StringBuilder", name := "<init>", desc := "()V" } : Jvm.MethodName)) ∈ lw_all := lw_g (lw_at lw_m4 33 rfl) rfl
theorem q809 : (Jvm.Cond.stringRef "java/util/ArrayList$SubList" (159 : Nat) "Index: ") ∈ lw_tbl := lw_at lw_m4 34 rfl
theorem q810 : (Jvm.Cond.methodLink "java/util/ArrayList$SubList" (161 : Nat) ({ cls := "java/lang/StringBuilder", name := "append", desc := "(Ljava/lang/String;)Ljava/lang/StringBuilder;" } : Jvm.MethodName)) ∈ lw_all := lw_g (lw_at lw_m4 35 rfl) rfl
theorem q811 : (Jvm.Cond.methodLink "java/util/ArrayList$SubList" (165 : Nat) ({ cls := "java/lang/StringBuilder", name := "append", desc := "(I)Ljava/lang/StringBuilder;" } : Jvm.MethodName)) ∈ lw_all := lw_g (lw_at lw_m4 36 rfl) rfl
theorem q812 : (Jvm.Cond.stringRef "java/util/ArrayList$SubList" (168 : Nat) ", Size: ") ∈ lw_tbl := lw_at lw_m4 37 rfl
theorem q813 : (Jvm.Cond.methodLink "java/util/ArrayList$SubList" (170 : Nat) ({ cls := "java/lang/StringBuilder", name := "toString", desc := "()Ljava/lang/String;" } : Jvm.MethodName)) ∈ lw_all := lw_g (lw_at lw_m4 38 rfl) rfl
theorem q814 : (Jvm.Cond.methodLink "java/util/ArrayList$SubList" (153 : Nat) ({ cls := "java/lang/IndexOutOfBoundsException", name := "<init>", desc := "(Ljava/lang/String;)V" } : Jvm.MethodName)) ∈ lw_all := lw_g (lw_at lw_m4 39 rfl) rfl
theorem q815 : (Jvm.Cond.classLink "java/util/ArrayList$SubList" (135 : Nat) "java/util/ArrayList$SubList$1") ∈ lw_all := lw_g (lw_at lw_m4 40 rfl) rfl
theorem q817 : (Jvm.Cond.methodLink "java/util/ArrayList$SubList" (137 : Nat) ({ cls := "java/util/ArrayList$SubList$1", name := "<init>", desc := "(Ljava/util/ArrayList$SubList;I)V" } : Jvm.MethodName)) ∈ lw_all := lw_g (lw_at lw_m4 42 rfl) rfl
theorem q849 : (Jvm.Cond.selects "java/util/ArrayList$SubList" ({ cls := "java/util/AbstractList", name := "listIterator", desc := "(I)Ljava/util/ListIterator;" } : Jvm.MethodName) ({ cls := "java/util/ArrayList$SubList", name := "listIterator", desc := "(I)Ljava/util/ListIterator;" } : Jvm.MethodName)) ∈ lw_all := lw_g (lw_at lw_m4 74 rfl) rfl
theorem q862 : (Jvm.Cond.selects "java/util/ArrayList$SubList" ({ cls := "java/util/AbstractList", name := "size", desc := "()I" } : Jvm.MethodName) ({ cls := "java/util/ArrayList$SubList", name := "size", desc := "()I" } : Jvm.MethodName)) ∈ lw_all := lw_g (lw_at lw_m4 87 rfl) rfl
theorem q920 : (Jvm.Cond.selects "java/util/ArrayList$SubList" ({ cls := "java/util/List", name := "listIterator", desc := "()Ljava/util/ListIterator;" } : Jvm.MethodName) ({ cls := "java/util/AbstractList", name := "listIterator", desc := "()Ljava/util/ListIterator;" } : Jvm.MethodName)) ∈ lw_all := lw_g (lw_at lw_m4 145 rfl) rfl
theorem q921 : (Jvm.Cond.unhidden "java/util/ArrayList$SubList" "listIterator" "()Ljava/util/ListIterator;") ∈ lw_tbl := lw_at lw_m4 146 rfl
theorem q1002 : (Jvm.Cond.instanceMethod ({ cls := "java/util/ArrayList$SubList", name := "get", desc := "(I)Ljava/lang/Object;" } : Jvm.MethodName)) ∈ lw_all := lw_g (lw_at lw_m4 227 rfl) rfl
theorem q1003 : (Jvm.Cond.code ({ cls := "java/util/ArrayList$SubList", name := "get", desc := "(I)Ljava/lang/Object;" } : Jvm.MethodName) prog_47_method_4_code (2 : Nat) (Option.some (Jvm.ClassFile.FieldType.object "java/lang/Object"))) ∈ lw_all := lw_g (lw_at lw_m4 228 rfl) rfl
theorem q1004 : (Jvm.Cond.methodLink "java/util/ArrayList$SubList" (30 : Nat) ({ cls := "java/util/Objects", name := "checkIndex", desc := "(II)I" } : Jvm.MethodName)) ∈ lw_all := lw_g (lw_at lw_m4 229 rfl) rfl
theorem q1005 : (Jvm.Cond.methodLink "java/util/ArrayList$SubList" (39 : Nat) ({ cls := "java/util/ArrayList", name := "elementData", desc := "(I)Ljava/lang/Object;" } : Jvm.MethodName)) ∈ lw_all := lw_g (lw_at lw_m4 230 rfl) rfl
theorem q1010 : (Jvm.Cond.selects "java/util/ArrayList$SubList" ({ cls := "java/util/AbstractList", name := "get", desc := "(I)Ljava/lang/Object;" } : Jvm.MethodName) ({ cls := "java/util/ArrayList$SubList", name := "get", desc := "(I)Ljava/lang/Object;" } : Jvm.MethodName)) ∈ lw_all := lw_g (lw_at lw_m4 235 rfl) rfl
theorem q1191 : (Jvm.Cond.selects "java/util/ArrayList$SubList" ({ cls := "java/util/List", name := "iterator", desc := "()Ljava/util/Iterator;" } : Jvm.MethodName) ({ cls := "java/util/ArrayList$SubList", name := "iterator", desc := "()Ljava/util/Iterator;" } : Jvm.MethodName)) ∈ lw_all := lw_g (lw_at lw_m5 176 rfl) rfl
theorem q1192 : (Jvm.Cond.unhidden "java/util/ArrayList$SubList" "iterator" "()Ljava/util/Iterator;") ∈ lw_tbl := lw_at lw_m5 177 rfl
theorem q1193 : (Jvm.Cond.instanceMethod ({ cls := "java/util/ArrayList$SubList", name := "iterator", desc := "()Ljava/util/Iterator;" } : Jvm.MethodName)) ∈ lw_all := lw_g (lw_at lw_m5 178 rfl) rfl
theorem q1194 : (Jvm.Cond.publicMethod ({ cls := "java/util/ArrayList$SubList", name := "iterator", desc := "()Ljava/util/Iterator;" } : Jvm.MethodName)) ∈ lw_tbl := lw_at lw_m5 179 rfl
theorem q1195 : (Jvm.Cond.code ({ cls := "java/util/ArrayList$SubList", name := "iterator", desc := "()Ljava/util/Iterator;" } : Jvm.MethodName) prog_47_method_23_code (1 : Nat) (Option.some (Jvm.ClassFile.FieldType.object "java/util/Iterator"))) ∈ lw_all := lw_g (lw_at lw_m5 180 rfl) rfl
theorem q1196 : (Jvm.Cond.methodLink "java/util/ArrayList$SubList" (131 : Nat) ({ cls := "java/util/ArrayList$SubList", name := "listIterator", desc := "()Ljava/util/ListIterator;" } : Jvm.MethodName)) ∈ lw_all := lw_g (lw_at lw_m5 181 rfl) rfl
theorem q1197 : (Jvm.Cond.sameMethod "java/util/ArrayList$SubList" "java/util/AbstractList" "listIterator" "()Ljava/util/ListIterator;") ∈ lw_all := lw_g (lw_at lw_m5 182 rfl) rfl
theorem q1198 : (Jvm.Cond.selects "java/util/ArrayList$SubList" ({ cls := "java/util/ArrayList$SubList", name := "listIterator", desc := "()Ljava/util/ListIterator;" } : Jvm.MethodName) ({ cls := "java/util/AbstractList", name := "listIterator", desc := "()Ljava/util/ListIterator;" } : Jvm.MethodName)) ∈ lw_all := lw_g (lw_at lw_m5 183 rfl) rfl
theorem q1258 : (Jvm.Cond.selects "java/util/ArrayList$SubList" ({ cls := "java/util/List", name := "equals", desc := "(Ljava/lang/Object;)Z" } : Jvm.MethodName) ({ cls := "java/util/ArrayList$SubList", name := "equals", desc := "(Ljava/lang/Object;)Z" } : Jvm.MethodName)) ∈ lw_all := lw_g (lw_at lw_m6 3 rfl) rfl
theorem q1259 : (Jvm.Cond.unhidden "java/util/ArrayList$SubList" "equals" "(Ljava/lang/Object;)Z") ∈ lw_tbl := lw_at lw_m6 4 rfl
theorem q1260 : (Jvm.Cond.instanceMethod ({ cls := "java/util/ArrayList$SubList", name := "equals", desc := "(Ljava/lang/Object;)Z" } : Jvm.MethodName)) ∈ lw_all := lw_g (lw_at lw_m6 5 rfl) rfl
theorem q1261 : (Jvm.Cond.publicMethod ({ cls := "java/util/ArrayList$SubList", name := "equals", desc := "(Ljava/lang/Object;)Z" } : Jvm.MethodName)) ∈ lw_tbl := lw_at lw_m6 6 rfl
theorem q1262 : (Jvm.Cond.code ({ cls := "java/util/ArrayList$SubList", name := "equals", desc := "(Ljava/lang/Object;)Z" } : Jvm.MethodName) prog_47_method_18_code (3 : Nat) (Option.some Jvm.ClassFile.FieldType.boolean)) ∈ lw_all := lw_g (lw_at lw_m6 7 rfl) rfl
theorem q1263 : (Jvm.Cond.classLink "java/util/ArrayList$SubList" (111 : Nat) "java/util/List") ∈ lw_all := lw_g (lw_at lw_m6 8 rfl) rfl
theorem q1264 : (Jvm.Cond.methodLink "java/util/ArrayList$SubList" (113 : Nat) ({ cls := "java/util/ArrayList", name := "equalsRange", desc := "(Ljava/util/List;II)Z" } : Jvm.MethodName)) ∈ lw_all := lw_g (lw_at lw_m6 9 rfl) rfl
theorem q1283 : (Jvm.Cond.selects "java/util/ArrayList$SubList" ({ cls := "java/util/AbstractList", name := "iterator", desc := "()Ljava/util/Iterator;" } : Jvm.MethodName) ({ cls := "java/util/ArrayList$SubList", name := "iterator", desc := "()Ljava/util/Iterator;" } : Jvm.MethodName)) ∈ lw_all := lw_g (lw_at lw_m6 28 rfl) rfl
theorem q1388 : (Jvm.Cond.selects "java/util/ArrayList$SubList" ({ cls := "java/util/List", name := "hashCode", desc := "()I" } : Jvm.MethodName) ({ cls := "java/util/ArrayList$SubList", name := "hashCode", desc := "()I" } : Jvm.MethodName)) ∈ lw_all := lw_g (lw_at lw_m6 133 rfl) rfl
theorem q1389 : (Jvm.Cond.unhidden "java/util/ArrayList$SubList" "hashCode" "()I") ∈ lw_tbl := lw_at lw_m6 134 rfl
theorem q1390 : (Jvm.Cond.instanceMethod ({ cls := "java/util/ArrayList$SubList", name := "hashCode", desc := "()I" } : Jvm.MethodName)) ∈ lw_all := lw_g (lw_at lw_m6 135 rfl) rfl
theorem q1391 : (Jvm.Cond.publicMethod ({ cls := "java/util/ArrayList$SubList", name := "hashCode", desc := "()I" } : Jvm.MethodName)) ∈ lw_tbl := lw_at lw_m6 136 rfl
theorem q1392 : (Jvm.Cond.code ({ cls := "java/util/ArrayList$SubList", name := "hashCode", desc := "()I" } : Jvm.MethodName) prog_47_method_19_code (2 : Nat) (Option.some Jvm.ClassFile.FieldType.int)) ∈ lw_all := lw_g (lw_at lw_m6 137 rfl) rfl
theorem q1393 : (Jvm.Cond.methodLink "java/util/ArrayList$SubList" (117 : Nat) ({ cls := "java/util/ArrayList", name := "hashCodeRange", desc := "(II)I" } : Jvm.MethodName)) ∈ lw_all := lw_g (lw_at lw_m6 138 rfl) rfl
theorem q1460 : (Jvm.Cond.selects "java/util/ArrayList$SubList" ({ cls := "java/util/List", name := "indexOf", desc := "(Ljava/lang/Object;)I" } : Jvm.MethodName) ({ cls := "java/util/ArrayList$SubList", name := "indexOf", desc := "(Ljava/lang/Object;)I" } : Jvm.MethodName)) ∈ lw_all := lw_g (lw_at lw_m6 205 rfl) rfl
theorem q1461 : (Jvm.Cond.unhidden "java/util/ArrayList$SubList" "indexOf" "(Ljava/lang/Object;)I") ∈ lw_tbl := lw_at lw_m6 206 rfl
theorem q1462 : (Jvm.Cond.instanceMethod ({ cls := "java/util/ArrayList$SubList", name := "indexOf", desc := "(Ljava/lang/Object;)I" } : Jvm.MethodName)) ∈ lw_all := lw_g (lw_at lw_m6 207 rfl) rfl
theorem q1463 : (Jvm.Cond.publicMethod ({ cls := "java/util/ArrayList$SubList", name := "indexOf", desc := "(Ljava/lang/Object;)I" } : Jvm.MethodName)) ∈ lw_tbl := lw_at lw_m6 208 rfl
theorem q1464 : (Jvm.Cond.code ({ cls := "java/util/ArrayList$SubList", name := "indexOf", desc := "(Ljava/lang/Object;)I" } : Jvm.MethodName) prog_47_method_20_code (3 : Nat) (Option.some Jvm.ClassFile.FieldType.int)) ∈ lw_all := lw_g (lw_at lw_m6 209 rfl) rfl
theorem q1465 : (Jvm.Cond.methodLink "java/util/ArrayList$SubList" (120 : Nat) ({ cls := "java/util/ArrayList", name := "indexOfRange", desc := "(Ljava/lang/Object;II)I" } : Jvm.MethodName)) ∈ lw_all := lw_g (lw_at lw_m6 210 rfl) rfl
theorem q1557 : (Jvm.Cond.selects "java/util/ArrayList$SubList" ({ cls := "java/util/List", name := "lastIndexOf", desc := "(Ljava/lang/Object;)I" } : Jvm.MethodName) ({ cls := "java/util/ArrayList$SubList", name := "lastIndexOf", desc := "(Ljava/lang/Object;)I" } : Jvm.MethodName)) ∈ lw_all := lw_g (lw_at lw_m7 62 rfl) rfl
theorem q1558 : (Jvm.Cond.unhidden "java/util/ArrayList$SubList" "lastIndexOf" "(Ljava/lang/Object;)I") ∈ lw_tbl := lw_at lw_m7 63 rfl
theorem q1559 : (Jvm.Cond.instanceMethod ({ cls := "java/util/ArrayList$SubList", name := "lastIndexOf", desc := "(Ljava/lang/Object;)I" } : Jvm.MethodName)) ∈ lw_all := lw_g (lw_at lw_m7 64 rfl) rfl
theorem q1560 : (Jvm.Cond.publicMethod ({ cls := "java/util/ArrayList$SubList", name := "lastIndexOf", desc := "(Ljava/lang/Object;)I" } : Jvm.MethodName)) ∈ lw_tbl := lw_at lw_m7 65 rfl
theorem q1561 : (Jvm.Cond.code ({ cls := "java/util/ArrayList$SubList", name := "lastIndexOf", desc := "(Ljava/lang/Object;)I" } : Jvm.MethodName) prog_47_method_21_code (3 : Nat) (Option.some Jvm.ClassFile.FieldType.int)) ∈ lw_all := lw_g (lw_at lw_m7 66 rfl) rfl
theorem q1562 : (Jvm.Cond.methodLink "java/util/ArrayList$SubList" (124 : Nat) ({ cls := "java/util/ArrayList", name := "lastIndexOfRange", desc := "(Ljava/lang/Object;II)I" } : Jvm.MethodName)) ∈ lw_all := lw_g (lw_at lw_m7 67 rfl) rfl
theorem q1577 : (Jvm.Cond.selects "java/util/ArrayList$SubList" ({ cls := "java/util/List", name := "get", desc := "(I)Ljava/lang/Object;" } : Jvm.MethodName) ({ cls := "java/util/ArrayList$SubList", name := "get", desc := "(I)Ljava/lang/Object;" } : Jvm.MethodName)) ∈ lw_all := lw_g (lw_at lw_m7 82 rfl) rfl
theorem q1578 : (Jvm.Cond.unhidden "java/util/ArrayList$SubList" "get" "(I)Ljava/lang/Object;") ∈ lw_tbl := lw_at lw_m7 83 rfl
theorem q1579 : (Jvm.Cond.publicMethod ({ cls := "java/util/ArrayList$SubList", name := "get", desc := "(I)Ljava/lang/Object;" } : Jvm.MethodName)) ∈ lw_tbl := lw_at lw_m7 84 rfl
theorem q1635 : (Jvm.Cond.selects "java/util/ArrayList$SubList" ({ cls := "java/util/List", name := "listIterator", desc := "(I)Ljava/util/ListIterator;" } : Jvm.MethodName) ({ cls := "java/util/ArrayList$SubList", name := "listIterator", desc := "(I)Ljava/util/ListIterator;" } : Jvm.MethodName)) ∈ lw_all := lw_g (lw_at lw_m7 140 rfl) rfl
theorem q1636 : (Jvm.Cond.unhidden "java/util/ArrayList$SubList" "listIterator" "(I)Ljava/util/ListIterator;") ∈ lw_tbl := lw_at lw_m7 141 rfl
theorem q1637 : (Jvm.Cond.publicMethod ({ cls := "java/util/ArrayList$SubList", name := "listIterator", desc := "(I)Ljava/util/ListIterator;" } : Jvm.MethodName)) ∈ lw_tbl := lw_at lw_m7 142 rfl
theorem q1668 : (Jvm.Cond.instanceMethod ({ cls := "java/util/ArrayList$SubList", name := "add", desc := "(ILjava/lang/Object;)V" } : Jvm.MethodName)) ∈ lw_all := lw_g (lw_at lw_m7 173 rfl) rfl
theorem q1669 : (Jvm.Cond.code ({ cls := "java/util/ArrayList$SubList", name := "add", desc := "(ILjava/lang/Object;)V" } : Jvm.MethodName) prog_47_method_6_code (3 : Nat) (Option.none : Option Jvm.ClassFile.FieldType)) ∈ lw_all := lw_g (lw_at lw_m7 174 rfl) rfl
theorem q1670 : (Jvm.Cond.methodLink "java/util/ArrayList$SubList" (50 : Nat) ({ cls := "java/util/ArrayList", name := "add", desc := "(ILjava/lang/Object;)V" } : Jvm.MethodName)) ∈ lw_all := lw_g (lw_at lw_m7 175 rfl) rfl
theorem q1671 : (Jvm.Cond.methodLink "java/util/ArrayList$SubList" (54 : Nat) ({ cls := "java/util/ArrayList$SubList", name := "updateSizeAndModCount", desc := "(I)V" } : Jvm.MethodName)) ∈ lw_all := lw_g (lw_at lw_m7 176 rfl) rfl
theorem q1672 : (Jvm.Cond.privateMethod ({ cls := "java/util/ArrayList$SubList", name := "updateSizeAndModCount", desc := "(I)V" } : Jvm.MethodName)) ∈ lw_tbl := lw_at lw_m7 177 rfl
theorem q1673 : (Jvm.Cond.instanceMethod ({ cls := "java/util/ArrayList$SubList", name := "updateSizeAndModCount", desc := "(I)V" } : Jvm.MethodName)) ∈ lw_all := lw_g (lw_at lw_m7 178 rfl) rfl
theorem q1674 : (Jvm.Cond.code ({ cls := "java/util/ArrayList$SubList", name := "updateSizeAndModCount", desc := "(I)V" } : Jvm.MethodName) prog_47_method_29_code (3 : Nat) (Option.none : Option Jvm.ClassFile.FieldType)) ∈ lw_all := lw_g (lw_at lw_m7 179 rfl) rfl
theorem q1681 : (Jvm.Cond.selects "java/util/ArrayList$SubList" ({ cls := "java/util/AbstractList", name := "add", desc := "(ILjava/lang/Object;)V" } : Jvm.MethodName) ({ cls := "java/util/ArrayList$SubList", name := "add", desc := "(ILjava/lang/Object;)V" } : Jvm.MethodName)) ∈ lw_all := lw_g (lw_at lw_m7 186 rfl) rfl
theorem q1710 : (Jvm.Cond.selects "java/util/ArrayList$SubList" ({ cls := "java/util/List", name := "add", desc := "(Ljava/lang/Object;)Z" } : Jvm.MethodName) ({ cls := "java/util/AbstractList", name := "add", desc := "(Ljava/lang/Object;)Z" } : Jvm.MethodName)) ∈ lw_all := lw_g (lw_at lw_m7 215 rfl) rfl
theorem q1711 : (Jvm.Cond.unhidden "java/util/ArrayList$SubList" "add" "(Ljava/lang/Object;)Z") ∈ lw_tbl := lw_at lw_m7 216 rfl
theorem q1741 : (Jvm.Cond.instanceMethod ({ cls := "java/util/ArrayList$SubList", name := "removeRange", desc := "(II)V" } : Jvm.MethodName)) ∈ lw_all := lw_g (lw_at lw_m8 6 rfl) rfl
theorem q1742 : (Jvm.Cond.code ({ cls := "java/util/ArrayList$SubList", name := "removeRange", desc := "(II)V" } : Jvm.MethodName) prog_47_method_8_code (3 : Nat) (Option.none : Option Jvm.ClassFile.FieldType)) ∈ lw_all := lw_g (lw_at lw_m8 7 rfl) rfl
theorem q1743 : (Jvm.Cond.methodLink "java/util/ArrayList$SubList" (60 : Nat) ({ cls := "java/util/ArrayList", name := "removeRange", desc := "(II)V" } : Jvm.MethodName)) ∈ lw_all := lw_g (lw_at lw_m8 8 rfl) rfl
theorem q1746 : (Jvm.Cond.selects "java/util/ArrayList$SubList" ({ cls := "java/util/AbstractList", name := "removeRange", desc := "(II)V" } : Jvm.MethodName) ({ cls := "java/util/ArrayList$SubList", name := "removeRange", desc := "(II)V" } : Jvm.MethodName)) ∈ lw_all := lw_g (lw_at lw_m8 11 rfl) rfl
theorem q1786 : (Jvm.Cond.instanceMethod ({ cls := "java/util/ArrayList$SubList", name := "remove", desc := "(I)Ljava/lang/Object;" } : Jvm.MethodName)) ∈ lw_all := lw_g (lw_at lw_m8 51 rfl) rfl
theorem q1787 : (Jvm.Cond.code ({ cls := "java/util/ArrayList$SubList", name := "remove", desc := "(I)Ljava/lang/Object;" } : Jvm.MethodName) prog_47_method_7_code (3 : Nat) (Option.some (Jvm.ClassFile.FieldType.object "java/lang/Object"))) ∈ lw_all := lw_g (lw_at lw_m8 52 rfl) rfl
theorem q1788 : (Jvm.Cond.methodLink "java/util/ArrayList$SubList" (57 : Nat) ({ cls := "java/util/ArrayList", name := "remove", desc := "(I)Ljava/lang/Object;" } : Jvm.MethodName)) ∈ lw_all := lw_g (lw_at lw_m8 53 rfl) rfl
theorem q1791 : (Jvm.Cond.selects "java/util/ArrayList$SubList" ({ cls := "java/util/AbstractList", name := "remove", desc := "(I)Ljava/lang/Object;" } : Jvm.MethodName) ({ cls := "java/util/ArrayList$SubList", name := "remove", desc := "(I)Ljava/lang/Object;" } : Jvm.MethodName)) ∈ lw_all := lw_g (lw_at lw_m8 56 rfl) rfl
theorem q1844 : (Jvm.Cond.selects "java/util/ArrayList$SubList" ({ cls := "java/util/List", name := "clear", desc := "()V" } : Jvm.MethodName) ({ cls := "java/util/AbstractList", name := "clear", desc := "()V" } : Jvm.MethodName)) ∈ lw_all := lw_g (lw_at lw_m8 109 rfl) rfl
theorem q1845 : (Jvm.Cond.unhidden "java/util/ArrayList$SubList" "clear" "()V") ∈ lw_tbl := lw_at lw_m8 110 rfl
theorem q1865 : (Jvm.Cond.selects "java/util/ArrayList$SubList" ({ cls := "java/util/List", name := "isEmpty", desc := "()Z" } : Jvm.MethodName) ({ cls := "java/util/AbstractCollection", name := "isEmpty", desc := "()Z" } : Jvm.MethodName)) ∈ lw_all := lw_g (lw_at lw_m8 130 rfl) rfl
theorem q1866 : (Jvm.Cond.unhidden "java/util/ArrayList$SubList" "isEmpty" "()Z") ∈ lw_tbl := lw_at lw_m8 131 rfl
theorem q1918 : (Jvm.Cond.castable "java/util/ArrayList$SubList" "java/lang/Iterable") ∈ lw_tbl := lw_at lw_m8 183 rfl
theorem q1919 : (Jvm.Cond.selects "java/util/ArrayList$SubList" ({ cls := "java/lang/Iterable", name := "iterator", desc := "()Ljava/util/Iterator;" } : Jvm.MethodName) ({ cls := "java/util/ArrayList$SubList", name := "iterator", desc := "()Ljava/util/Iterator;" } : Jvm.MethodName)) ∈ lw_all := lw_g (lw_at lw_m8 184 rfl) rfl
theorem q1954 : (Jvm.Cond.unhidden "java/util/ArrayList$SubList" "forEach" "(Ljava/util/function/Consumer;)V") ∈ lw_tbl := lw_at lw_m8 219 rfl
theorem q2125 : (Jvm.Cond.instanceMethod ({ cls := "java/util/ArrayList$SubList", name := "<init>", desc := "(Ljava/util/ArrayList;II)V" } : Jvm.MethodName)) ∈ lw_all := lw_g (lw_at lw_m9 150 rfl) rfl
theorem q2126 : (Jvm.Cond.code ({ cls := "java/util/ArrayList$SubList", name := "<init>", desc := "(Ljava/util/ArrayList;II)V" } : Jvm.MethodName) prog_47_method_1_code (4 : Nat) (Option.none : Option Jvm.ClassFile.FieldType)) ∈ lw_all := lw_g (lw_at lw_m9 151 rfl) rfl
theorem q2127 : (Jvm.Cond.methodLink "java/util/ArrayList$SubList" (1 : Nat) ({ cls := "java/util/AbstractList", name := "<init>", desc := "()V" } : Jvm.MethodName)) ∈ lw_all := lw_g (lw_at lw_m9 152 rfl) rfl
theorem q2128 : (Jvm.Cond.fieldLink "java/util/ArrayList$SubList" (7 : Nat) "java/util/ArrayList$SubList" "root" "Ljava/util/ArrayList;") ∈ lw_all := lw_g (lw_at lw_m9 153 rfl) rfl
theorem q2130 : (Jvm.Cond.fieldLink "java/util/ArrayList$SubList" (13 : Nat) "java/util/ArrayList$SubList" "parent" "Ljava/util/ArrayList$SubList;") ∈ lw_all := lw_g (lw_at lw_m9 155 rfl) rfl
theorem q2131 : (Jvm.Cond.fieldLink "java/util/ArrayList$SubList" (17 : Nat) "java/util/ArrayList$SubList" "offset" "I") ∈ lw_all := lw_g (lw_at lw_m9 156 rfl) rfl
theorem q2133 : (Jvm.Cond.fieldLink "java/util/ArrayList$SubList" (21 : Nat) "java/util/ArrayList$SubList" "size" "I") ∈ lw_all := lw_g (lw_at lw_m9 158 rfl) rfl
theorem q2135 : (Jvm.Cond.laysFinal "java/util/ArrayList$SubList" "java/util/ArrayList$SubList" "root" "Ljava/util/ArrayList;") ∈ lw_all := lw_g (lw_at lw_m9 160 rfl) rfl
theorem q2136 : (Jvm.Cond.soleField "java/util/ArrayList$SubList" "root") ∈ lw_all := lw_g (lw_at lw_m9 161 rfl) rfl
theorem q2137 : (Jvm.Cond.laysFinal "java/util/ArrayList$SubList" "java/util/ArrayList$SubList" "parent" "Ljava/util/ArrayList$SubList;") ∈ lw_all := lw_g (lw_at lw_m9 162 rfl) rfl
theorem q2138 : (Jvm.Cond.soleField "java/util/ArrayList$SubList" "parent") ∈ lw_all := lw_g (lw_at lw_m9 163 rfl) rfl
theorem q2139 : (Jvm.Cond.laysFinal "java/util/ArrayList$SubList" "java/util/ArrayList$SubList" "offset" "I") ∈ lw_all := lw_g (lw_at lw_m9 164 rfl) rfl
theorem q2140 : (Jvm.Cond.soleField "java/util/ArrayList$SubList" "offset") ∈ lw_all := lw_g (lw_at lw_m9 165 rfl) rfl
theorem q2141 : (Jvm.Cond.lays "java/util/ArrayList$SubList" "java/util/ArrayList$SubList" "size" "I") ∈ lw_all := lw_g (lw_at lw_m9 166 rfl) rfl
theorem q2142 : (Jvm.Cond.soleField "java/util/ArrayList$SubList" "size") ∈ lw_all := lw_g (lw_at lw_m9 167 rfl) rfl
theorem q2143 : (Jvm.Cond.lays "java/util/ArrayList$SubList" "java/util/AbstractList" "modCount" "I") ∈ lw_all := lw_g (lw_at lw_m9 168 rfl) rfl
theorem q2144 : (Jvm.Cond.superclass "java/util/ArrayList$SubList" "java/util/AbstractList") ∈ lw_all := lw_g (lw_at lw_m9 169 rfl) rfl
theorem q2145 : (Jvm.Cond.selects "java/util/ArrayList$SubList" ({ cls := "java/util/List", name := "subList", desc := "(II)Ljava/util/List;" } : Jvm.MethodName) ({ cls := "java/util/ArrayList$SubList", name := "subList", desc := "(II)Ljava/util/List;" } : Jvm.MethodName)) ∈ lw_all := lw_g (lw_at lw_m9 170 rfl) rfl
theorem q2146 : (Jvm.Cond.unhidden "java/util/ArrayList$SubList" "subList" "(II)Ljava/util/List;") ∈ lw_tbl := lw_at lw_m9 171 rfl
theorem q2147 : (Jvm.Cond.instanceMethod ({ cls := "java/util/ArrayList$SubList", name := "subList", desc := "(II)Ljava/util/List;" } : Jvm.MethodName)) ∈ lw_all := lw_g (lw_at lw_m9 172 rfl) rfl
theorem q2148 : (Jvm.Cond.publicMethod ({ cls := "java/util/ArrayList$SubList", name := "subList", desc := "(II)Ljava/util/List;" } : Jvm.MethodName)) ∈ lw_tbl := lw_at lw_m9 173 rfl
theorem q2149 : (Jvm.Cond.code ({ cls := "java/util/ArrayList$SubList", name := "subList", desc := "(II)Ljava/util/List;" } : Jvm.MethodName) prog_47_method_25_code (3 : Nat) (Option.some (Jvm.ClassFile.FieldType.object "java/util/List"))) ∈ lw_all := lw_g (lw_at lw_m9 174 rfl) rfl
theorem q2150 : (Jvm.Cond.methodLink "java/util/ArrayList$SubList" (140 : Nat) ({ cls := "java/util/ArrayList$SubList", name := "subListRangeCheck", desc := "(III)V" } : Jvm.MethodName)) ∈ lw_all := lw_g (lw_at lw_m9 175 rfl) rfl
theorem q2151 : (Jvm.Cond.sameMethod "java/util/ArrayList$SubList" "java/util/AbstractList" "subListRangeCheck" "(III)V") ∈ lw_all := lw_g (lw_at lw_m9 176 rfl) rfl
theorem q2152 : (Jvm.Cond.classLink "java/util/ArrayList$SubList" (8 : Nat) "java/util/ArrayList$SubList") ∈ lw_all := lw_g (lw_at lw_m9 177 rfl) rfl
theorem q2153 : (Jvm.Cond.methodLink "java/util/ArrayList$SubList" (144 : Nat) ({ cls := "java/util/ArrayList$SubList", name := "<init>", desc := "(Ljava/util/ArrayList$SubList;II)V" } : Jvm.MethodName)) ∈ lw_all := lw_g (lw_at lw_m9 178 rfl) rfl
theorem q2154 : (Jvm.Cond.instanceMethod ({ cls := "java/util/ArrayList$SubList", name := "<init>", desc := "(Ljava/util/ArrayList$SubList;II)V" } : Jvm.MethodName)) ∈ lw_all := lw_g (lw_at lw_m9 179 rfl) rfl
theorem q2155 : (Jvm.Cond.code ({ cls := "java/util/ArrayList$SubList", name := "<init>", desc := "(Ljava/util/ArrayList$SubList;II)V" } : Jvm.MethodName) prog_47_method_2_code (4 : Nat) (Option.none : Option Jvm.ClassFile.FieldType)) ∈ lw_all := lw_g (lw_at lw_m9 180 rfl) rfl
theorem q2198 : (Jvm.Cond.selects "java/util/ArrayList$SubList" ({ cls := "java/util/AbstractList", name := "set", desc := "(ILjava/lang/Object;)Ljava/lang/Object;" } : Jvm.MethodName) ({ cls := "java/util/ArrayList$SubList", name := "set", desc := "(ILjava/lang/Object;)Ljava/lang/Object;" } : Jvm.MethodName)) ∈ lw_all := lw_g (lw_at lw_m9 223 rfl) rfl
theorem q2199 : (Jvm.Cond.instanceMethod ({ cls := "java/util/ArrayList$SubList", name := "set", desc := "(ILjava/lang/Object;)Ljava/lang/Object;" } : Jvm.MethodName)) ∈ lw_all := lw_g (lw_at lw_m9 224 rfl) rfl
theorem q2200 : (Jvm.Cond.code ({ cls := "java/util/ArrayList$SubList", name := "set", desc := "(ILjava/lang/Object;)Ljava/lang/Object;" } : Jvm.MethodName) prog_47_method_3_code (4 : Nat) (Option.some (Jvm.ClassFile.FieldType.object "java/lang/Object"))) ∈ lw_all := lw_g (lw_at lw_m9 225 rfl) rfl
theorem q2210 : (Jvm.Cond.selects "java/util/ArrayList$SubList" ({ cls := "java/util/List", name := "set", desc := "(ILjava/lang/Object;)Ljava/lang/Object;" } : Jvm.MethodName) ({ cls := "java/util/ArrayList$SubList", name := "set", desc := "(ILjava/lang/Object;)Ljava/lang/Object;" } : Jvm.MethodName)) ∈ lw_all := lw_g (lw_at lw_m9 235 rfl) rfl
theorem q2211 : (Jvm.Cond.unhidden "java/util/ArrayList$SubList" "set" "(ILjava/lang/Object;)Ljava/lang/Object;") ∈ lw_tbl := lw_at lw_m9 236 rfl
theorem q2212 : (Jvm.Cond.publicMethod ({ cls := "java/util/ArrayList$SubList", name := "set", desc := "(ILjava/lang/Object;)Ljava/lang/Object;" } : Jvm.MethodName)) ∈ lw_tbl := lw_at lw_m9 237 rfl
theorem q2287 : (Jvm.Cond.selects "java/util/ArrayList$SubList" ({ cls := "java/util/AbstractCollection", name := "iterator", desc := "()Ljava/util/Iterator;" } : Jvm.MethodName) ({ cls := "java/util/ArrayList$SubList", name := "iterator", desc := "()Ljava/util/Iterator;" } : Jvm.MethodName)) ∈ lw_all := lw_g (lw_at lw_m10 72 rfl) rfl
theorem q2302 : (Jvm.Cond.selects "java/util/ArrayList$SubList" ({ cls := "java/util/List", name := "contains", desc := "(Ljava/lang/Object;)Z" } : Jvm.MethodName) ({ cls := "java/util/ArrayList$SubList", name := "contains", desc := "(Ljava/lang/Object;)Z" } : Jvm.MethodName)) ∈ lw_all := lw_g (lw_at lw_m10 87 rfl) rfl
theorem q2303 : (Jvm.Cond.unhidden "java/util/ArrayList$SubList" "contains" "(Ljava/lang/Object;)Z") ∈ lw_tbl := lw_at lw_m10 88 rfl
theorem q2304 : (Jvm.Cond.instanceMethod ({ cls := "java/util/ArrayList$SubList", name := "contains", desc := "(Ljava/lang/Object;)Z" } : Jvm.MethodName)) ∈ lw_all := lw_g (lw_at lw_m10 89 rfl) rfl
theorem q2305 : (Jvm.Cond.publicMethod ({ cls := "java/util/ArrayList$SubList", name := "contains", desc := "(Ljava/lang/Object;)Z" } : Jvm.MethodName)) ∈ lw_tbl := lw_at lw_m10 90 rfl
theorem q2306 : (Jvm.Cond.code ({ cls := "java/util/ArrayList$SubList", name := "contains", desc := "(Ljava/lang/Object;)Z" } : Jvm.MethodName) prog_47_method_22_code (2 : Nat) (Option.some Jvm.ClassFile.FieldType.boolean)) ∈ lw_all := lw_g (lw_at lw_m10 91 rfl) rfl
theorem q2307 : (Jvm.Cond.methodLink "java/util/ArrayList$SubList" (127 : Nat) ({ cls := "java/util/ArrayList$SubList", name := "indexOf", desc := "(Ljava/lang/Object;)I" } : Jvm.MethodName)) ∈ lw_all := lw_g (lw_at lw_m10 92 rfl) rfl
theorem q2334 : (Jvm.Cond.castable "java/util/ArrayList$SubList" "java/util/Collection") ∈ lw_tbl := lw_at lw_m10 119 rfl
theorem q2335 : (Jvm.Cond.selects "java/util/ArrayList$SubList" ({ cls := "java/util/Collection", name := "iterator", desc := "()Ljava/util/Iterator;" } : Jvm.MethodName) ({ cls := "java/util/ArrayList$SubList", name := "iterator", desc := "()Ljava/util/Iterator;" } : Jvm.MethodName)) ∈ lw_all := lw_g (lw_at lw_m10 120 rfl) rfl
theorem q2366 : (Jvm.Cond.selects "java/util/ArrayList$SubList" ({ cls := "java/util/List", name := "containsAll", desc := "(Ljava/util/Collection;)Z" } : Jvm.MethodName) ({ cls := "java/util/AbstractCollection", name := "containsAll", desc := "(Ljava/util/Collection;)Z" } : Jvm.MethodName)) ∈ lw_all := lw_g (lw_at lw_m10 151 rfl) rfl
theorem q2367 : (Jvm.Cond.unhidden "java/util/ArrayList$SubList" "containsAll" "(Ljava/util/Collection;)Z") ∈ lw_tbl := lw_at lw_m10 152 rfl
theorem q2388 : (Jvm.Cond.selects "java/util/ArrayList$SubList" ({ cls := "java/util/Collection", name := "size", desc := "()I" } : Jvm.MethodName) ({ cls := "java/util/ArrayList$SubList", name := "size", desc := "()I" } : Jvm.MethodName)) ∈ lw_all := lw_g (lw_at lw_m10 173 rfl) rfl
theorem q2397 : (Jvm.Cond.selects "java/util/ArrayList$SubList" ({ cls := "java/util/Collection", name := "contains", desc := "(Ljava/lang/Object;)Z" } : Jvm.MethodName) ({ cls := "java/util/ArrayList$SubList", name := "contains", desc := "(Ljava/lang/Object;)Z" } : Jvm.MethodName)) ∈ lw_all := lw_g (lw_at lw_m10 182 rfl) rfl
theorem q2577 : (Jvm.Cond.selects "java/util/ArrayList$SubList" ({ cls := "java/util/List", name := "replaceAll", desc := "(Ljava/util/function/UnaryOperator;)V" } : Jvm.MethodName) ({ cls := "java/util/ArrayList$SubList", name := "replaceAll", desc := "(Ljava/util/function/UnaryOperator;)V" } : Jvm.MethodName)) ∈ lw_all := lw_g (lw_at lw_m11 122 rfl) rfl
theorem q2578 : (Jvm.Cond.unhidden "java/util/ArrayList$SubList" "replaceAll" "(Ljava/util/function/UnaryOperator;)V") ∈ lw_tbl := lw_at lw_m11 123 rfl
theorem q2579 : (Jvm.Cond.instanceMethod ({ cls := "java/util/ArrayList$SubList", name := "replaceAll", desc := "(Ljava/util/function/UnaryOperator;)V" } : Jvm.MethodName)) ∈ lw_all := lw_g (lw_at lw_m11 124 rfl) rfl
theorem q2580 : (Jvm.Cond.publicMethod ({ cls := "java/util/ArrayList$SubList", name := "replaceAll", desc := "(Ljava/util/function/UnaryOperator;)V" } : Jvm.MethodName)) ∈ lw_tbl := lw_at lw_m11 125 rfl
theorem q2581 : (Jvm.Cond.code ({ cls := "java/util/ArrayList$SubList", name := "replaceAll", desc := "(Ljava/util/function/UnaryOperator;)V" } : Jvm.MethodName) prog_47_method_11_code (2 : Nat) (Option.none : Option Jvm.ClassFile.FieldType)) ∈ lw_all := lw_g (lw_at lw_m11 126 rfl) rfl
theorem q2582 : (Jvm.Cond.methodLinkNest "java/util/ArrayList$SubList" (74 : Nat) ({ cls := "java/util/ArrayList", name := "replaceAllRange", desc := "(Ljava/util/function/UnaryOperator;II)V" } : Jvm.MethodName) "java/util/ArrayList") ∈ lw_tbl := lw_at lw_m11 127 rfl
theorem q2660 : (Jvm.Cond.selects "java/util/ArrayList$SubList" ({ cls := "java/util/List", name := "toArray", desc := "()[Ljava/lang/Object;" } : Jvm.MethodName) ({ cls := "java/util/ArrayList$SubList", name := "toArray", desc := "()[Ljava/lang/Object;" } : Jvm.MethodName)) ∈ lw_all := lw_g (lw_at lw_m11 205 rfl) rfl
theorem q2661 : (Jvm.Cond.unhidden "java/util/ArrayList$SubList" "toArray" "()[Ljava/lang/Object;") ∈ lw_tbl := lw_at lw_m11 206 rfl
theorem q2662 : (Jvm.Cond.instanceMethod ({ cls := "java/util/ArrayList$SubList", name := "toArray", desc := "()[Ljava/lang/Object;" } : Jvm.MethodName)) ∈ lw_all := lw_g (lw_at lw_m11 207 rfl) rfl
theorem q2663 : (Jvm.Cond.publicMethod ({ cls := "java/util/ArrayList$SubList", name := "toArray", desc := "()[Ljava/lang/Object;" } : Jvm.MethodName)) ∈ lw_tbl := lw_at lw_m11 208 rfl
theorem q2664 : (Jvm.Cond.code ({ cls := "java/util/ArrayList$SubList", name := "toArray", desc := "()[Ljava/lang/Object;" } : Jvm.MethodName) prog_47_method_16_code (1 : Nat) (Option.some (Jvm.ClassFile.FieldType.array (Jvm.ClassFile.FieldType.object "java/lang/Object")))) ∈ lw_all := lw_g (lw_at lw_m11 209 rfl) rfl
theorem q2665 : (Jvm.Cond.methodLink "java/util/ArrayList$SubList" (90 : Nat) ({ cls := "java/util/Arrays", name := "copyOfRange", desc := "([Ljava/lang/Object;II)[Ljava/lang/Object;" } : Jvm.MethodName)) ∈ lw_all := lw_g (lw_at lw_m11 210 rfl) rfl
theorem q3034 : (Jvm.Cond.unhidden "java/util/ArrayList$SubList" "sort" "(Ljava/util/Comparator;)V") ∈ lw_tbl := lw_at lw_m13 99 rfl
theorem q3113 : (Jvm.Cond.selects "java/util/ArrayList$SubList" ({ cls := "java/util/List", name := "add", desc := "(ILjava/lang/Object;)V" } : Jvm.MethodName) ({ cls := "java/util/ArrayList$SubList", name := "add", desc := "(ILjava/lang/Object;)V" } : Jvm.MethodName)) ∈ lw_all := lw_g (lw_at lw_m13 178 rfl) rfl
theorem q3114 : (Jvm.Cond.unhidden "java/util/ArrayList$SubList" "add" "(ILjava/lang/Object;)V") ∈ lw_tbl := lw_at lw_m13 179 rfl
theorem q3115 : (Jvm.Cond.publicMethod ({ cls := "java/util/ArrayList$SubList", name := "add", desc := "(ILjava/lang/Object;)V" } : Jvm.MethodName)) ∈ lw_tbl := lw_at lw_m13 180 rfl
theorem q3158 : (Jvm.Cond.selects "java/util/ArrayList$SubList" ({ cls := "java/util/Collection", name := "toArray", desc := "()[Ljava/lang/Object;" } : Jvm.MethodName) ({ cls := "java/util/ArrayList$SubList", name := "toArray", desc := "()[Ljava/lang/Object;" } : Jvm.MethodName)) ∈ lw_all := lw_g (lw_at lw_m13 223 rfl) rfl
theorem q3160 : (Jvm.Cond.selects "java/util/ArrayList$SubList" ({ cls := "java/util/AbstractList", name := "addAll", desc := "(ILjava/util/Collection;)Z" } : Jvm.MethodName) ({ cls := "java/util/ArrayList$SubList", name := "addAll", desc := "(ILjava/util/Collection;)Z" } : Jvm.MethodName)) ∈ lw_all := lw_g (lw_at lw_m13 225 rfl) rfl
theorem q3161 : (Jvm.Cond.instanceMethod ({ cls := "java/util/ArrayList$SubList", name := "addAll", desc := "(ILjava/util/Collection;)Z" } : Jvm.MethodName)) ∈ lw_all := lw_g (lw_at lw_m13 226 rfl) rfl
theorem q3162 : (Jvm.Cond.code ({ cls := "java/util/ArrayList$SubList", name := "addAll", desc := "(ILjava/util/Collection;)Z" } : Jvm.MethodName) prog_47_method_10_code (4 : Nat) (Option.some Jvm.ClassFile.FieldType.boolean)) ∈ lw_all := lw_g (lw_at lw_m13 227 rfl) rfl
theorem q3163 : (Jvm.Cond.interfaceEntry "java/util/ArrayList$SubList" (68 : Nat)) ∈ lw_tbl := lw_at lw_m13 228 rfl
theorem q3164 : (Jvm.Cond.methodLink "java/util/ArrayList$SubList" (68 : Nat) ({ cls := "java/util/Collection", name := "size", desc := "()I" } : Jvm.MethodName)) ∈ lw_all := lw_g (lw_at lw_m13 229 rfl) rfl
theorem q3165 : (Jvm.Cond.methodLink "java/util/ArrayList$SubList" (73 : Nat) ({ cls := "java/util/ArrayList", name := "addAll", desc := "(ILjava/util/Collection;)Z" } : Jvm.MethodName)) ∈ lw_all := lw_g (lw_at lw_m13 230 rfl) rfl
theorem q3177 : (Jvm.Cond.selects "java/util/ArrayList$SubList" ({ cls := "java/util/List", name := "addAll", desc := "(Ljava/util/Collection;)Z" } : Jvm.MethodName) ({ cls := "java/util/ArrayList$SubList", name := "addAll", desc := "(Ljava/util/Collection;)Z" } : Jvm.MethodName)) ∈ lw_all := lw_g (lw_at lw_m14 2 rfl) rfl
theorem q3178 : (Jvm.Cond.unhidden "java/util/ArrayList$SubList" "addAll" "(Ljava/util/Collection;)Z") ∈ lw_tbl := lw_at lw_m14 3 rfl
theorem q3179 : (Jvm.Cond.instanceMethod ({ cls := "java/util/ArrayList$SubList", name := "addAll", desc := "(Ljava/util/Collection;)Z" } : Jvm.MethodName)) ∈ lw_all := lw_g (lw_at lw_m14 4 rfl) rfl
theorem q3180 : (Jvm.Cond.publicMethod ({ cls := "java/util/ArrayList$SubList", name := "addAll", desc := "(Ljava/util/Collection;)Z" } : Jvm.MethodName)) ∈ lw_tbl := lw_at lw_m14 5 rfl
theorem q3181 : (Jvm.Cond.code ({ cls := "java/util/ArrayList$SubList", name := "addAll", desc := "(Ljava/util/Collection;)Z" } : Jvm.MethodName) prog_47_method_9_code (2 : Nat) (Option.some Jvm.ClassFile.FieldType.boolean)) ∈ lw_all := lw_g (lw_at lw_m14 6 rfl) rfl
theorem q3182 : (Jvm.Cond.methodLink "java/util/ArrayList$SubList" (64 : Nat) ({ cls := "java/util/ArrayList$SubList", name := "addAll", desc := "(ILjava/util/Collection;)Z" } : Jvm.MethodName)) ∈ lw_all := lw_g (lw_at lw_m14 7 rfl) rfl
theorem q3194 : (Jvm.Cond.selects "java/util/ArrayList$SubList" ({ cls := "java/util/AbstractCollection", name := "add", desc := "(Ljava/lang/Object;)Z" } : Jvm.MethodName) ({ cls := "java/util/AbstractList", name := "add", desc := "(Ljava/lang/Object;)Z" } : Jvm.MethodName)) ∈ lw_all := lw_g (lw_at lw_m14 19 rfl) rfl
theorem q3216 : (Jvm.Cond.selects "java/util/ArrayList$SubList" ({ cls := "java/util/List", name := "remove", desc := "(I)Ljava/lang/Object;" } : Jvm.MethodName) ({ cls := "java/util/ArrayList$SubList", name := "remove", desc := "(I)Ljava/lang/Object;" } : Jvm.MethodName)) ∈ lw_all := lw_g (lw_at lw_m14 41 rfl) rfl
theorem q3217 : (Jvm.Cond.unhidden "java/util/ArrayList$SubList" "remove" "(I)Ljava/lang/Object;") ∈ lw_tbl := lw_at lw_m14 42 rfl
theorem q3218 : (Jvm.Cond.publicMethod ({ cls := "java/util/ArrayList$SubList", name := "remove", desc := "(I)Ljava/lang/Object;" } : Jvm.MethodName)) ∈ lw_tbl := lw_at lw_m14 43 rfl
theorem q3267 : (Jvm.Cond.selects "java/util/ArrayList$SubList" ({ cls := "java/util/List", name := "remove", desc := "(Ljava/lang/Object;)Z" } : Jvm.MethodName) ({ cls := "java/util/AbstractCollection", name := "remove", desc := "(Ljava/lang/Object;)Z" } : Jvm.MethodName)) ∈ lw_all := lw_g (lw_at lw_m14 92 rfl) rfl
theorem q3268 : (Jvm.Cond.unhidden "java/util/ArrayList$SubList" "remove" "(Ljava/lang/Object;)Z") ∈ lw_tbl := lw_at lw_m14 93 rfl
theorem q3303 : (Jvm.Cond.selects "java/util/ArrayList$SubList" ({ cls := "java/util/List", name := "removeAll", desc := "(Ljava/util/Collection;)Z" } : Jvm.MethodName) ({ cls := "java/util/ArrayList$SubList", name := "removeAll", desc := "(Ljava/util/Collection;)Z" } : Jvm.MethodName)) ∈ lw_all := lw_g (lw_at lw_m14 128 rfl) rfl
theorem q3304 : (Jvm.Cond.unhidden "java/util/ArrayList$SubList" "removeAll" "(Ljava/util/Collection;)Z") ∈ lw_tbl := lw_at lw_m14 129 rfl
theorem q3305 : (Jvm.Cond.instanceMethod ({ cls := "java/util/ArrayList$SubList", name := "removeAll", desc := "(Ljava/util/Collection;)Z" } : Jvm.MethodName)) ∈ lw_all := lw_g (lw_at lw_m14 130 rfl) rfl
theorem q3306 : (Jvm.Cond.publicMethod ({ cls := "java/util/ArrayList$SubList", name := "removeAll", desc := "(Ljava/util/Collection;)Z" } : Jvm.MethodName)) ∈ lw_tbl := lw_at lw_m14 131 rfl
theorem q3307 : (Jvm.Cond.code ({ cls := "java/util/ArrayList$SubList", name := "removeAll", desc := "(Ljava/util/Collection;)Z" } : Jvm.MethodName) prog_47_method_12_code (2 : Nat) (Option.some Jvm.ClassFile.FieldType.boolean)) ∈ lw_all := lw_g (lw_at lw_m14 132 rfl) rfl
theorem q3308 : (Jvm.Cond.methodLink "java/util/ArrayList$SubList" (78 : Nat) ({ cls := "java/util/ArrayList$SubList", name := "batchRemove", desc := "(Ljava/util/Collection;Z)Z" } : Jvm.MethodName)) ∈ lw_all := lw_g (lw_at lw_m14 133 rfl) rfl
theorem q3309 : (Jvm.Cond.privateMethod ({ cls := "java/util/ArrayList$SubList", name := "batchRemove", desc := "(Ljava/util/Collection;Z)Z" } : Jvm.MethodName)) ∈ lw_tbl := lw_at lw_m14 134 rfl
theorem q3310 : (Jvm.Cond.instanceMethod ({ cls := "java/util/ArrayList$SubList", name := "batchRemove", desc := "(Ljava/util/Collection;Z)Z" } : Jvm.MethodName)) ∈ lw_all := lw_g (lw_at lw_m14 135 rfl) rfl
theorem q3311 : (Jvm.Cond.code ({ cls := "java/util/ArrayList$SubList", name := "batchRemove", desc := "(Ljava/util/Collection;Z)Z" } : Jvm.MethodName) prog_47_method_14_code (5 : Nat) (Option.some Jvm.ClassFile.FieldType.boolean)) ∈ lw_all := lw_g (lw_at lw_m14 136 rfl) rfl
theorem q3312 : (Jvm.Cond.methodLink "java/util/ArrayList$SubList" (83 : Nat) ({ cls := "java/util/ArrayList", name := "batchRemove", desc := "(Ljava/util/Collection;ZII)Z" } : Jvm.MethodName)) ∈ lw_all := lw_g (lw_at lw_m14 137 rfl) rfl
theorem q3338 : (Jvm.Cond.selects "java/util/ArrayList$SubList" ({ cls := "java/util/List", name := "retainAll", desc := "(Ljava/util/Collection;)Z" } : Jvm.MethodName) ({ cls := "java/util/ArrayList$SubList", name := "retainAll", desc := "(Ljava/util/Collection;)Z" } : Jvm.MethodName)) ∈ lw_all := lw_g (lw_at lw_m14 163 rfl) rfl
theorem q3339 : (Jvm.Cond.unhidden "java/util/ArrayList$SubList" "retainAll" "(Ljava/util/Collection;)Z") ∈ lw_tbl := lw_at lw_m14 164 rfl
theorem q3340 : (Jvm.Cond.instanceMethod ({ cls := "java/util/ArrayList$SubList", name := "retainAll", desc := "(Ljava/util/Collection;)Z" } : Jvm.MethodName)) ∈ lw_all := lw_g (lw_at lw_m14 165 rfl) rfl
theorem q3341 : (Jvm.Cond.publicMethod ({ cls := "java/util/ArrayList$SubList", name := "retainAll", desc := "(Ljava/util/Collection;)Z" } : Jvm.MethodName)) ∈ lw_tbl := lw_at lw_m14 166 rfl
theorem q3342 : (Jvm.Cond.code ({ cls := "java/util/ArrayList$SubList", name := "retainAll", desc := "(Ljava/util/Collection;)Z" } : Jvm.MethodName) prog_47_method_13_code (2 : Nat) (Option.some Jvm.ClassFile.FieldType.boolean)) ∈ lw_all := lw_g (lw_at lw_m14 167 rfl) rfl
theorem q3419 : (Jvm.Cond.selects "java/util/ArrayList$SubList" ({ cls := "java/util/Collection", name := "removeIf", desc := "(Ljava/util/function/Predicate;)Z" } : Jvm.MethodName) ({ cls := "java/util/ArrayList$SubList", name := "removeIf", desc := "(Ljava/util/function/Predicate;)Z" } : Jvm.MethodName)) ∈ lw_all := lw_g (lw_at lw_m15 4 rfl) rfl
theorem q3420 : (Jvm.Cond.unhidden "java/util/ArrayList$SubList" "removeIf" "(Ljava/util/function/Predicate;)Z") ∈ lw_tbl := lw_at lw_m15 5 rfl
theorem q3421 : (Jvm.Cond.instanceMethod ({ cls := "java/util/ArrayList$SubList", name := "removeIf", desc := "(Ljava/util/function/Predicate;)Z" } : Jvm.MethodName)) ∈ lw_all := lw_g (lw_at lw_m15 6 rfl) rfl
theorem q3422 : (Jvm.Cond.publicMethod ({ cls := "java/util/ArrayList$SubList", name := "removeIf", desc := "(Ljava/util/function/Predicate;)Z" } : Jvm.MethodName)) ∈ lw_tbl := lw_at lw_m15 7 rfl
theorem q3423 : (Jvm.Cond.code ({ cls := "java/util/ArrayList$SubList", name := "removeIf", desc := "(Ljava/util/function/Predicate;)Z" } : Jvm.MethodName) prog_47_method_15_code (4 : Nat) (Option.some Jvm.ClassFile.FieldType.boolean)) ∈ lw_all := lw_g (lw_at lw_m15 8 rfl) rfl
theorem q3424 : (Jvm.Cond.methodLink "java/util/ArrayList$SubList" (86 : Nat) ({ cls := "java/util/ArrayList", name := "removeIf", desc := "(Ljava/util/function/Predicate;II)Z" } : Jvm.MethodName)) ∈ lw_all := lw_g (lw_at lw_m15 9 rfl) rfl
theorem q3873 : (Jvm.Cond.selects "java/util/ArrayList$SubList" ({ cls := "java/util/ArrayList$SubList", name := "remove", desc := "(I)Ljava/lang/Object;" } : Jvm.MethodName) ({ cls := "java/util/ArrayList$SubList", name := "remove", desc := "(I)Ljava/lang/Object;" } : Jvm.MethodName)) ∈ lw_all := lw_g (lw_at lw_m16 218 rfl) rfl
theorem q3878 : (Jvm.Cond.selects "java/util/ArrayList$SubList" ({ cls := "java/util/AbstractCollection", name := "size", desc := "()I" } : Jvm.MethodName) ({ cls := "java/util/ArrayList$SubList", name := "size", desc := "()I" } : Jvm.MethodName)) ∈ lw_all := lw_g (lw_at lw_m16 223 rfl) rfl
theorem q3881 : (Jvm.Cond.selects "java/util/ArrayList$SubList" ({ cls := "java/util/ArrayList$SubList", name := "indexOf", desc := "(Ljava/lang/Object;)I" } : Jvm.MethodName) ({ cls := "java/util/ArrayList$SubList", name := "indexOf", desc := "(Ljava/lang/Object;)I" } : Jvm.MethodName)) ∈ lw_all := lw_g (lw_at lw_m16 226 rfl) rfl
theorem q3887 : (Jvm.Cond.selects "java/util/ArrayList$SubList" ({ cls := "java/util/AbstractCollection", name := "contains", desc := "(Ljava/lang/Object;)Z" } : Jvm.MethodName) ({ cls := "java/util/ArrayList$SubList", name := "contains", desc := "(Ljava/lang/Object;)Z" } : Jvm.MethodName)) ∈ lw_all := lw_g (lw_at lw_m16 232 rfl) rfl
theorem q3891 : (Jvm.Cond.selects "java/util/ArrayList$SubList" ({ cls := "java/util/ArrayList$SubList", name := "addAll", desc := "(ILjava/util/Collection;)Z" } : Jvm.MethodName) ({ cls := "java/util/ArrayList$SubList", name := "addAll", desc := "(ILjava/util/Collection;)Z" } : Jvm.MethodName)) ∈ lw_all := lw_g (lw_at lw_m16 236 rfl) rfl
theorem q3892 : (Jvm.Cond.selects "java/util/ArrayList$SubList" ({ cls := "java/util/ArrayList$SubList", name := "add", desc := "(ILjava/lang/Object;)V" } : Jvm.MethodName) ({ cls := "java/util/ArrayList$SubList", name := "add", desc := "(ILjava/lang/Object;)V" } : Jvm.MethodName)) ∈ lw_all := lw_g (lw_at lw_m16 237 rfl) rfl
theorem q3897 : (Jvm.Cond.castable "java/util/ArrayList$SubList" "java/util/RandomAccess") ∈ lw_tbl := lw_at lw_m17 2 rfl
theorem q3910 : (Jvm.Cond.castable "java/util/ArrayList$SubList" "java/lang/Object") ∈ lw_tbl := lw_at lw_m17 15 rfl
theorem in_J24 : ∀ w ∈ wsJ240, w ∈ lw_all := lw_in wsJ240 [2143, 2135, 2137, 2139, 2141] (by decide +kernel) (by decide +kernel)

/-! java/util/ArrayList$SubList$1 -/
set_option maxRecDepth 100000
def RJ31 : String := "java/util/ArrayList$SubList$1"
def TJ31 : u_T := fun k => match k with
  | 0 => ("java/util/ArrayList$SubList$1", "cursor", "I", false)
  | 1 => ("java/util/ArrayList$SubList$1", "lastRet", "I", false)
  | 2 => ("java/util/ArrayList$SubList$1", "expectedModCount", "I", false)
  | 3 => ("java/util/ArrayList$SubList$1", "val$index", "I", true)
  | _ => ("java/util/ArrayList$SubList$1", "this$0", "Ljava/util/ArrayList$SubList;", true)
def tyJ31 : Nat → FieldType := fun k => match k with
  | 0 => .int
  | 1 => .int
  | 2 => .int
  | 3 => .int
  | _ => .object "java/util/ArrayList$SubList"
abbrev wsJ310 : List Cond := u_ws RJ31 TJ31 5
theorem nmJ31 : ∀ a, a < 5 → ∀ b, b < 5 → a ≠ b → (TJ31 a).2.1 ≠ (TJ31 b).2.1 := by decide +kernel
theorem tyJ31_ok : ∀ k, k < 5 → parseFieldDescriptor (TJ31 k).2.2.1 = some (tyJ31 k) := by decide +kernel
def yJ31_init : MethodName := ⟨RJ31, "<init>", "(Ljava/util/ArrayList$SubList;I)V"⟩
def yJ31_nextIndex : MethodName := ⟨RJ31, "nextIndex", "()I"⟩
def yJ31_hasNext : MethodName := ⟨RJ31, "hasNext", "()Z"⟩
def yJ31_next : MethodName := ⟨RJ31, "next", "()Ljava/lang/Object;"⟩
def yJ31_checkForComodification : MethodName := ⟨RJ31, "checkForComodification", "()V"⟩
def yJ31_previousIndex : MethodName := ⟨RJ31, "previousIndex", "()I"⟩
def yJ31_hasPrevious : MethodName := ⟨RJ31, "hasPrevious", "()Z"⟩
def yJ31_previous : MethodName := ⟨RJ31, "previous", "()Ljava/lang/Object;"⟩
def yJ31_remove : MethodName := ⟨RJ31, "remove", "()V"⟩
def yJ31_set : MethodName := ⟨RJ31, "set", "(Ljava/lang/Object;)V"⟩
def yJ31_add : MethodName := ⟨RJ31, "add", "(Ljava/lang/Object;)V"⟩
theorem q92 : (Jvm.Cond.initialized "java/util/ArrayList$SubList$1") ∈ lw_all := lw_g (lw_at lw_m1 37 rfl) rfl
theorem q133 : (Jvm.Cond.fieldLink "java/util/ArrayList$SubList$1" (44 : Nat) "java/util/ArrayList" "elementData" "[Ljava/lang/Object;") ∈ lw_all := lw_g (lw_at lw_m1 78 rfl) rfl
theorem q148 : (Jvm.Cond.fieldLink "java/util/ArrayList$SubList$1" (23 : Nat) "java/util/ArrayList$SubList" "modCount" "I") ∈ lw_all := lw_g (lw_at lw_m1 93 rfl) rfl
theorem q151 : (Jvm.Cond.fieldLink "java/util/ArrayList$SubList$1" (62 : Nat) "java/util/ArrayList" "modCount" "I") ∈ lw_all := lw_g (lw_at lw_m1 96 rfl) rfl
theorem q243 : (Jvm.Cond.selects "java/util/ArrayList$SubList$1" ({ cls := "java/lang/Object", name := "getClass", desc := "()Ljava/lang/Class;" } : Jvm.MethodName) ({ cls := "java/lang/Object", name := "getClass", desc := "()Ljava/lang/Class;" } : Jvm.MethodName)) ∈ lw_all := lw_g (lw_at lw_m1 188 rfl) rfl
theorem q816 : (Jvm.Cond.instantiable "java/util/ArrayList$SubList$1" (5 : Nat)) ∈ lw_all := lw_g (lw_at lw_m4 41 rfl) rfl
theorem q818 : (Jvm.Cond.instanceMethod ({ cls := "java/util/ArrayList$SubList$1", name := "<init>", desc := "(Ljava/util/ArrayList$SubList;I)V" } : Jvm.MethodName)) ∈ lw_all := lw_g (lw_at lw_m4 43 rfl) rfl
theorem q819 : (Jvm.Cond.code ({ cls := "java/util/ArrayList$SubList$1", name := "<init>", desc := "(Ljava/util/ArrayList$SubList;I)V" } : Jvm.MethodName) prog_48_method_1_code (3 : Nat) (Option.none : Option Jvm.ClassFile.FieldType)) ∈ lw_all := lw_g (lw_at lw_m4 44 rfl) rfl
theorem q820 : (Jvm.Cond.methodLink "java/util/ArrayList$SubList$1" (11 : Nat) ({ cls := "java/lang/Object", name := "<init>", desc := "()V" } : Jvm.MethodName)) ∈ lw_all := lw_g (lw_at lw_m4 45 rfl) rfl
theorem q821 : (Jvm.Cond.fieldLink "java/util/ArrayList$SubList$1" (17 : Nat) "java/util/ArrayList$SubList$1" "cursor" "I") ∈ lw_all := lw_g (lw_at lw_m4 46 rfl) rfl
theorem q822 : (Jvm.Cond.fieldLink "java/util/ArrayList$SubList$1" (20 : Nat) "java/util/ArrayList$SubList$1" "lastRet" "I") ∈ lw_all := lw_g (lw_at lw_m4 47 rfl) rfl
theorem q823 : (Jvm.Cond.fieldLink "java/util/ArrayList$SubList$1" (28 : Nat) "java/util/ArrayList$SubList$1" "expectedModCount" "I") ∈ lw_all := lw_g (lw_at lw_m4 48 rfl) rfl
theorem q824 : (Jvm.Cond.fieldLink "java/util/ArrayList$SubList$1" (7 : Nat) "java/util/ArrayList$SubList$1" "val$index" "I") ∈ lw_all := lw_g (lw_at lw_m4 49 rfl) rfl
theorem q825 : (Jvm.Cond.fieldLink "java/util/ArrayList$SubList$1" (1 : Nat) "java/util/ArrayList$SubList$1" "this$0" "Ljava/util/ArrayList$SubList;") ∈ lw_all := lw_g (lw_at lw_m4 50 rfl) rfl
theorem q826 : (Jvm.Cond.lays "java/util/ArrayList$SubList$1" "java/util/ArrayList$SubList$1" "cursor" "I") ∈ lw_all := lw_g (lw_at lw_m4 51 rfl) rfl
theorem q827 : (Jvm.Cond.soleField "java/util/ArrayList$SubList$1" "cursor") ∈ lw_all := lw_g (lw_at lw_m4 52 rfl) rfl
theorem q828 : (Jvm.Cond.lays "java/util/ArrayList$SubList$1" "java/util/ArrayList$SubList$1" "lastRet" "I") ∈ lw_all := lw_g (lw_at lw_m4 53 rfl) rfl
theorem q829 : (Jvm.Cond.soleField "java/util/ArrayList$SubList$1" "lastRet") ∈ lw_all := lw_g (lw_at lw_m4 54 rfl) rfl
theorem q830 : (Jvm.Cond.lays "java/util/ArrayList$SubList$1" "java/util/ArrayList$SubList$1" "expectedModCount" "I") ∈ lw_all := lw_g (lw_at lw_m4 55 rfl) rfl
theorem q831 : (Jvm.Cond.soleField "java/util/ArrayList$SubList$1" "expectedModCount") ∈ lw_all := lw_g (lw_at lw_m4 56 rfl) rfl
theorem q832 : (Jvm.Cond.laysFinal "java/util/ArrayList$SubList$1" "java/util/ArrayList$SubList$1" "val$index" "I") ∈ lw_all := lw_g (lw_at lw_m4 57 rfl) rfl
theorem q833 : (Jvm.Cond.soleField "java/util/ArrayList$SubList$1" "val$index") ∈ lw_all := lw_g (lw_at lw_m4 58 rfl) rfl
theorem q834 : (Jvm.Cond.laysFinal "java/util/ArrayList$SubList$1" "java/util/ArrayList$SubList$1" "this$0" "Ljava/util/ArrayList$SubList;") ∈ lw_all := lw_g (lw_at lw_m4 59 rfl) rfl
theorem q835 : (Jvm.Cond.soleField "java/util/ArrayList$SubList$1" "this$0") ∈ lw_all := lw_g (lw_at lw_m4 60 rfl) rfl
theorem q836 : (Jvm.Cond.superclass "java/util/ArrayList$SubList$1" "java/lang/Object") ∈ lw_all := lw_g (lw_at lw_m4 61 rfl) rfl
theorem q963 : (Jvm.Cond.castable "java/util/ArrayList$SubList$1" "java/util/ListIterator") ∈ lw_tbl := lw_at lw_m4 188 rfl
theorem q964 : (Jvm.Cond.selects "java/util/ArrayList$SubList$1" ({ cls := "java/util/ListIterator", name := "nextIndex", desc := "()I" } : Jvm.MethodName) ({ cls := "java/util/ArrayList$SubList$1", name := "nextIndex", desc := "()I" } : Jvm.MethodName)) ∈ lw_all := lw_g (lw_at lw_m4 189 rfl) rfl
theorem q965 : (Jvm.Cond.unhidden "java/util/ArrayList$SubList$1" "nextIndex" "()I") ∈ lw_tbl := lw_at lw_m4 190 rfl
theorem q966 : (Jvm.Cond.instanceMethod ({ cls := "java/util/ArrayList$SubList$1", name := "nextIndex", desc := "()I" } : Jvm.MethodName)) ∈ lw_all := lw_g (lw_at lw_m4 191 rfl) rfl
theorem q967 : (Jvm.Cond.publicMethod ({ cls := "java/util/ArrayList$SubList$1", name := "nextIndex", desc := "()I" } : Jvm.MethodName)) ∈ lw_tbl := lw_at lw_m4 192 rfl
theorem q968 : (Jvm.Cond.code ({ cls := "java/util/ArrayList$SubList$1", name := "nextIndex", desc := "()I" } : Jvm.MethodName) prog_48_method_7_code (1 : Nat) (Option.some Jvm.ClassFile.FieldType.int)) ∈ lw_all := lw_g (lw_at lw_m4 193 rfl) rfl
theorem q974 : (Jvm.Cond.selects "java/util/ArrayList$SubList$1" ({ cls := "java/util/ListIterator", name := "hasNext", desc := "()Z" } : Jvm.MethodName) ({ cls := "java/util/ArrayList$SubList$1", name := "hasNext", desc := "()Z" } : Jvm.MethodName)) ∈ lw_all := lw_g (lw_at lw_m4 199 rfl) rfl
theorem q975 : (Jvm.Cond.unhidden "java/util/ArrayList$SubList$1" "hasNext" "()Z") ∈ lw_tbl := lw_at lw_m4 200 rfl
theorem q976 : (Jvm.Cond.instanceMethod ({ cls := "java/util/ArrayList$SubList$1", name := "hasNext", desc := "()Z" } : Jvm.MethodName)) ∈ lw_all := lw_g (lw_at lw_m4 201 rfl) rfl
theorem q977 : (Jvm.Cond.publicMethod ({ cls := "java/util/ArrayList$SubList$1", name := "hasNext", desc := "()Z" } : Jvm.MethodName)) ∈ lw_tbl := lw_at lw_m4 202 rfl
theorem q978 : (Jvm.Cond.code ({ cls := "java/util/ArrayList$SubList$1", name := "hasNext", desc := "()Z" } : Jvm.MethodName) prog_48_method_2_code (1 : Nat) (Option.some Jvm.ClassFile.FieldType.boolean)) ∈ lw_all := lw_g (lw_at lw_m4 203 rfl) rfl
theorem q1093 : (Jvm.Cond.selects "java/util/ArrayList$SubList$1" ({ cls := "java/util/ListIterator", name := "next", desc := "()Ljava/lang/Object;" } : Jvm.MethodName) ({ cls := "java/util/ArrayList$SubList$1", name := "next", desc := "()Ljava/lang/Object;" } : Jvm.MethodName)) ∈ lw_all := lw_g (lw_at lw_m5 78 rfl) rfl
theorem q1094 : (Jvm.Cond.unhidden "java/util/ArrayList$SubList$1" "next" "()Ljava/lang/Object;") ∈ lw_tbl := lw_at lw_m5 79 rfl
theorem q1095 : (Jvm.Cond.instanceMethod ({ cls := "java/util/ArrayList$SubList$1", name := "next", desc := "()Ljava/lang/Object;" } : Jvm.MethodName)) ∈ lw_all := lw_g (lw_at lw_m5 80 rfl) rfl
theorem q1096 : (Jvm.Cond.publicMethod ({ cls := "java/util/ArrayList$SubList$1", name := "next", desc := "()Ljava/lang/Object;" } : Jvm.MethodName)) ∈ lw_tbl := lw_at lw_m5 81 rfl
theorem q1097 : (Jvm.Cond.code ({ cls := "java/util/ArrayList$SubList$1", name := "next", desc := "()Ljava/lang/Object;" } : Jvm.MethodName) prog_48_method_3_code (3 : Nat) (Option.some (Jvm.ClassFile.FieldType.object "java/lang/Object"))) ∈ lw_all := lw_g (lw_at lw_m5 82 rfl) rfl
theorem q1098 : (Jvm.Cond.methodLink "java/util/ArrayList$SubList$1" (34 : Nat) ({ cls := "java/util/ArrayList$SubList$1", name := "checkForComodification", desc := "()V" } : Jvm.MethodName)) ∈ lw_all := lw_g (lw_at lw_m5 83 rfl) rfl
theorem q1099 : (Jvm.Cond.instanceMethod ({ cls := "java/util/ArrayList$SubList$1", name := "checkForComodification", desc := "()V" } : Jvm.MethodName)) ∈ lw_all := lw_g (lw_at lw_m5 84 rfl) rfl
theorem q1100 : (Jvm.Cond.selects "java/util/ArrayList$SubList$1" ({ cls := "java/util/ArrayList$SubList$1", name := "checkForComodification", desc := "()V" } : Jvm.MethodName) ({ cls := "java/util/ArrayList$SubList$1", name := "checkForComodification", desc := "()V" } : Jvm.MethodName)) ∈ lw_all := lw_g (lw_at lw_m5 85 rfl) rfl
theorem q1101 : (Jvm.Cond.code ({ cls := "java/util/ArrayList$SubList$1", name := "checkForComodification", desc := "()V" } : Jvm.MethodName) prog_48_method_12_code (1 : Nat) (Option.none : Option Jvm.ClassFile.FieldType)) ∈ lw_all := lw_g (lw_at lw_m5 86 rfl) rfl
theorem q1233 : (Jvm.Cond.castable "java/util/ArrayList$SubList$1" "java/util/Iterator") ∈ lw_tbl := lw_at lw_m5 218 rfl
theorem q1234 : (Jvm.Cond.selects "java/util/ArrayList$SubList$1" ({ cls := "java/util/Iterator", name := "hasNext", desc := "()Z" } : Jvm.MethodName) ({ cls := "java/util/ArrayList$SubList$1", name := "hasNext", desc := "()Z" } : Jvm.MethodName)) ∈ lw_all := lw_g (lw_at lw_m5 219 rfl) rfl
theorem q1252 : (Jvm.Cond.selects "java/util/ArrayList$SubList$1" ({ cls := "java/util/Iterator", name := "next", desc := "()Ljava/lang/Object;" } : Jvm.MethodName) ({ cls := "java/util/ArrayList$SubList$1", name := "next", desc := "()Ljava/lang/Object;" } : Jvm.MethodName)) ∈ lw_all := lw_g (lw_at lw_m5 237 rfl) rfl
theorem q1443 : (Jvm.Cond.selects "java/util/ArrayList$SubList$1" ({ cls := "java/util/ListIterator", name := "previousIndex", desc := "()I" } : Jvm.MethodName) ({ cls := "java/util/ArrayList$SubList$1", name := "previousIndex", desc := "()I" } : Jvm.MethodName)) ∈ lw_all := lw_g (lw_at lw_m6 188 rfl) rfl
theorem q1444 : (Jvm.Cond.unhidden "java/util/ArrayList$SubList$1" "previousIndex" "()I") ∈ lw_tbl := lw_at lw_m6 189 rfl
theorem q1445 : (Jvm.Cond.instanceMethod ({ cls := "java/util/ArrayList$SubList$1", name := "previousIndex", desc := "()I" } : Jvm.MethodName)) ∈ lw_all := lw_g (lw_at lw_m6 190 rfl) rfl
theorem q1446 : (Jvm.Cond.publicMethod ({ cls := "java/util/ArrayList$SubList$1", name := "previousIndex", desc := "()I" } : Jvm.MethodName)) ∈ lw_tbl := lw_at lw_m6 191 rfl
theorem q1447 : (Jvm.Cond.code ({ cls := "java/util/ArrayList$SubList$1", name := "previousIndex", desc := "()I" } : Jvm.MethodName) prog_48_method_8_code (1 : Nat) (Option.some Jvm.ClassFile.FieldType.int)) ∈ lw_all := lw_g (lw_at lw_m6 192 rfl) rfl
theorem q1501 : (Jvm.Cond.selects "java/util/ArrayList$SubList$1" ({ cls := "java/util/ListIterator", name := "hasPrevious", desc := "()Z" } : Jvm.MethodName) ({ cls := "java/util/ArrayList$SubList$1", name := "hasPrevious", desc := "()Z" } : Jvm.MethodName)) ∈ lw_all := lw_g (lw_at lw_m7 6 rfl) rfl
theorem q1502 : (Jvm.Cond.unhidden "java/util/ArrayList$SubList$1" "hasPrevious" "()Z") ∈ lw_tbl := lw_at lw_m7 7 rfl
theorem q1503 : (Jvm.Cond.instanceMethod ({ cls := "java/util/ArrayList$SubList$1", name := "hasPrevious", desc := "()Z" } : Jvm.MethodName)) ∈ lw_all := lw_g (lw_at lw_m7 8 rfl) rfl
theorem q1504 : (Jvm.Cond.publicMethod ({ cls := "java/util/ArrayList$SubList$1", name := "hasPrevious", desc := "()Z" } : Jvm.MethodName)) ∈ lw_tbl := lw_at lw_m7 9 rfl
theorem q1505 : (Jvm.Cond.code ({ cls := "java/util/ArrayList$SubList$1", name := "hasPrevious", desc := "()Z" } : Jvm.MethodName) prog_48_method_4_code (1 : Nat) (Option.some Jvm.ClassFile.FieldType.boolean)) ∈ lw_all := lw_g (lw_at lw_m7 10 rfl) rfl
theorem q1539 : (Jvm.Cond.selects "java/util/ArrayList$SubList$1" ({ cls := "java/util/ListIterator", name := "previous", desc := "()Ljava/lang/Object;" } : Jvm.MethodName) ({ cls := "java/util/ArrayList$SubList$1", name := "previous", desc := "()Ljava/lang/Object;" } : Jvm.MethodName)) ∈ lw_all := lw_g (lw_at lw_m7 44 rfl) rfl
theorem q1540 : (Jvm.Cond.unhidden "java/util/ArrayList$SubList$1" "previous" "()Ljava/lang/Object;") ∈ lw_tbl := lw_at lw_m7 45 rfl
theorem q1541 : (Jvm.Cond.instanceMethod ({ cls := "java/util/ArrayList$SubList$1", name := "previous", desc := "()Ljava/lang/Object;" } : Jvm.MethodName)) ∈ lw_all := lw_g (lw_at lw_m7 46 rfl) rfl
theorem q1542 : (Jvm.Cond.publicMethod ({ cls := "java/util/ArrayList$SubList$1", name := "previous", desc := "()Ljava/lang/Object;" } : Jvm.MethodName)) ∈ lw_tbl := lw_at lw_m7 47 rfl
theorem q1543 : (Jvm.Cond.code ({ cls := "java/util/ArrayList$SubList$1", name := "previous", desc := "()Ljava/lang/Object;" } : Jvm.MethodName) prog_48_method_5_code (3 : Nat) (Option.some (Jvm.ClassFile.FieldType.object "java/lang/Object"))) ∈ lw_all := lw_g (lw_at lw_m7 48 rfl) rfl
theorem q1826 : (Jvm.Cond.selects "java/util/ArrayList$SubList$1" ({ cls := "java/util/ListIterator", name := "remove", desc := "()V" } : Jvm.MethodName) ({ cls := "java/util/ArrayList$SubList$1", name := "remove", desc := "()V" } : Jvm.MethodName)) ∈ lw_all := lw_g (lw_at lw_m8 91 rfl) rfl
theorem q1827 : (Jvm.Cond.unhidden "java/util/ArrayList$SubList$1" "remove" "()V") ∈ lw_tbl := lw_at lw_m8 92 rfl
theorem q1828 : (Jvm.Cond.instanceMethod ({ cls := "java/util/ArrayList$SubList$1", name := "remove", desc := "()V" } : Jvm.MethodName)) ∈ lw_all := lw_g (lw_at lw_m8 93 rfl) rfl
theorem q1829 : (Jvm.Cond.publicMethod ({ cls := "java/util/ArrayList$SubList$1", name := "remove", desc := "()V" } : Jvm.MethodName)) ∈ lw_tbl := lw_at lw_m8 94 rfl
theorem q1830 : (Jvm.Cond.codeWith ({ cls := "java/util/ArrayList$SubList$1", name := "remove", desc := "()V" } : Jvm.MethodName) prog_48_method_9_code (2 : Nat) (Option.none : Option Jvm.ClassFile.FieldType) [((19 : Nat), (55 : Nat), (58 : Nat), (80 : Nat))]) ∈ lw_all := lw_g (lw_at lw_m8 95 rfl) rfl
theorem q1831 : (Jvm.Cond.classLink "java/util/ArrayList$SubList$1" (73 : Nat) "java/lang/IllegalStateException") ∈ lw_all := lw_g (lw_at lw_m8 96 rfl) rfl
theorem q1832 : (Jvm.Cond.methodLink "java/util/ArrayList$SubList$1" (75 : Nat) ({ cls := "java/lang/IllegalStateException", name := "<init>", desc := "()V" } : Jvm.MethodName)) ∈ lw_all := lw_g (lw_at lw_m8 97 rfl) rfl
theorem q1833 : (Jvm.Cond.methodLink "java/util/ArrayList$SubList$1" (76 : Nat) ({ cls := "java/util/ArrayList$SubList", name := "remove", desc := "(I)Ljava/lang/Object;" } : Jvm.MethodName)) ∈ lw_all := lw_g (lw_at lw_m8 98 rfl) rfl
theorem q1834 : (Jvm.Cond.classLink "java/util/ArrayList$SubList$1" (53 : Nat) "java/util/ConcurrentModificationException") ∈ lw_all := lw_g (lw_at lw_m8 99 rfl) rfl
theorem q1835 : (Jvm.Cond.methodLink "java/util/ArrayList$SubList$1" (55 : Nat) ({ cls := "java/util/ConcurrentModificationException", name := "<init>", desc := "()V" } : Jvm.MethodName)) ∈ lw_all := lw_g (lw_at lw_m8 100 rfl) rfl
theorem q2129 : (Jvm.Cond.fieldLinkNest "java/util/ArrayList$SubList$1" (40 : Nat) "java/util/ArrayList$SubList" "root" "Ljava/util/ArrayList;" "java/util/ArrayList") ∈ lw_tbl := lw_at lw_m9 154 rfl
theorem q2132 : (Jvm.Cond.fieldLinkNest "java/util/ArrayList$SubList$1" (50 : Nat) "java/util/ArrayList$SubList" "offset" "I" "java/util/ArrayList") ∈ lw_tbl := lw_at lw_m9 157 rfl
theorem q2134 : (Jvm.Cond.fieldLinkNest "java/util/ArrayList$SubList$1" (31 : Nat) "java/util/ArrayList$SubList" "size" "I" "java/util/ArrayList") ∈ lw_tbl := lw_at lw_m9 159 rfl
theorem q2525 : (Jvm.Cond.selects "java/util/ArrayList$SubList$1" ({ cls := "java/util/ListIterator", name := "set", desc := "(Ljava/lang/Object;)V" } : Jvm.MethodName) ({ cls := "java/util/ArrayList$SubList$1", name := "set", desc := "(Ljava/lang/Object;)V" } : Jvm.MethodName)) ∈ lw_all := lw_g (lw_at lw_m11 70 rfl) rfl
theorem q2526 : (Jvm.Cond.unhidden "java/util/ArrayList$SubList$1" "set" "(Ljava/lang/Object;)V") ∈ lw_tbl := lw_at lw_m11 71 rfl
theorem q2527 : (Jvm.Cond.instanceMethod ({ cls := "java/util/ArrayList$SubList$1", name := "set", desc := "(Ljava/lang/Object;)V" } : Jvm.MethodName)) ∈ lw_all := lw_g (lw_at lw_m11 72 rfl) rfl
theorem q2528 : (Jvm.Cond.publicMethod ({ cls := "java/util/ArrayList$SubList$1", name := "set", desc := "(Ljava/lang/Object;)V" } : Jvm.MethodName)) ∈ lw_tbl := lw_at lw_m11 73 rfl
theorem q2529 : (Jvm.Cond.codeWith ({ cls := "java/util/ArrayList$SubList$1", name := "set", desc := "(Ljava/lang/Object;)V" } : Jvm.MethodName) prog_48_method_10_code (3 : Nat) (Option.none : Option Jvm.ClassFile.FieldType) [((19 : Nat), (43 : Nat), (46 : Nat), (80 : Nat))]) ∈ lw_all := lw_g (lw_at lw_m11 74 rfl) rfl
theorem q2530 : (Jvm.Cond.methodLink "java/util/ArrayList$SubList$1" (82 : Nat) ({ cls := "java/util/ArrayList", name := "set", desc := "(ILjava/lang/Object;)Ljava/lang/Object;" } : Jvm.MethodName)) ∈ lw_all := lw_g (lw_at lw_m11 75 rfl) rfl
theorem q3249 : (Jvm.Cond.selects "java/util/ArrayList$SubList$1" ({ cls := "java/util/Iterator", name := "remove", desc := "()V" } : Jvm.MethodName) ({ cls := "java/util/ArrayList$SubList$1", name := "remove", desc := "()V" } : Jvm.MethodName)) ∈ lw_all := lw_g (lw_at lw_m14 74 rfl) rfl
theorem q3471 : (Jvm.Cond.selects "java/util/ArrayList$SubList$1" ({ cls := "java/util/ListIterator", name := "add", desc := "(Ljava/lang/Object;)V" } : Jvm.MethodName) ({ cls := "java/util/ArrayList$SubList$1", name := "add", desc := "(Ljava/lang/Object;)V" } : Jvm.MethodName)) ∈ lw_all := lw_g (lw_at lw_m15 56 rfl) rfl
theorem q3472 : (Jvm.Cond.unhidden "java/util/ArrayList$SubList$1" "add" "(Ljava/lang/Object;)V") ∈ lw_tbl := lw_at lw_m15 57 rfl
theorem q3473 : (Jvm.Cond.instanceMethod ({ cls := "java/util/ArrayList$SubList$1", name := "add", desc := "(Ljava/lang/Object;)V" } : Jvm.MethodName)) ∈ lw_all := lw_g (lw_at lw_m15 58 rfl) rfl
theorem q3474 : (Jvm.Cond.publicMethod ({ cls := "java/util/ArrayList$SubList$1", name := "add", desc := "(Ljava/lang/Object;)V" } : Jvm.MethodName)) ∈ lw_tbl := lw_at lw_m15 59 rfl
theorem q3475 : (Jvm.Cond.codeWith ({ cls := "java/util/ArrayList$SubList$1", name := "add", desc := "(Ljava/lang/Object;)V" } : Jvm.MethodName) prog_48_method_11_code (3 : Nat) (Option.none : Option Jvm.ClassFile.FieldType) [((4 : Nat), (41 : Nat), (44 : Nat), (80 : Nat))]) ∈ lw_all := lw_g (lw_at lw_m15 60 rfl) rfl
theorem q3476 : (Jvm.Cond.methodLink "java/util/ArrayList$SubList$1" (86 : Nat) ({ cls := "java/util/ArrayList$SubList", name := "add", desc := "(ILjava/lang/Object;)V" } : Jvm.MethodName)) ∈ lw_all := lw_g (lw_at lw_m15 61 rfl) rfl
theorem q3917 : (Jvm.Cond.castable "java/util/ArrayList$SubList$1" "java/lang/Object") ∈ lw_tbl := lw_at lw_m17 22 rfl
theorem in_J31 : ∀ w ∈ wsJ310, w ∈ lw_all := lw_in wsJ310 [826, 828, 830, 832, 834] (by decide +kernel) (by decide +kernel)

/-! java/util/ComparableTimSort -/
set_option maxRecDepth 100000
def RJ37 : String := "java/util/ComparableTimSort"
def TJ37 : u_T := fun k => match k with
  | 0 => ("java/util/ComparableTimSort", "a", "[Ljava/lang/Object;", true)
  | 1 => ("java/util/ComparableTimSort", "minGallop", "I", false)
  | 2 => ("java/util/ComparableTimSort", "tmp", "[Ljava/lang/Object;", false)
  | 3 => ("java/util/ComparableTimSort", "tmpBase", "I", false)
  | 4 => ("java/util/ComparableTimSort", "tmpLen", "I", false)
  | 5 => ("java/util/ComparableTimSort", "stackSize", "I", false)
  | 6 => ("java/util/ComparableTimSort", "runBase", "[I", true)
  | _ => ("java/util/ComparableTimSort", "runLen", "[I", true)
def tyJ37 : Nat → FieldType := fun k => match k with
  | 0 => .array (.object "java/lang/Object")
  | 1 => .int
  | 2 => .array (.object "java/lang/Object")
  | 3 => .int
  | 4 => .int
  | 5 => .int
  | 6 => .array .int
  | _ => .array .int
abbrev wsJ370 : List Cond := u_ws RJ37 TJ37 8
theorem nmJ37 : ∀ a, a < 8 → ∀ b, b < 8 → a ≠ b → (TJ37 a).2.1 ≠ (TJ37 b).2.1 := by decide +kernel
theorem tyJ37_ok : ∀ k, k < 8 → parseFieldDescriptor (TJ37 k).2.2.1 = some (tyJ37 k) := by decide +kernel
def yJ37_sort : MethodName := ⟨RJ37, "sort", "([Ljava/lang/Object;II[Ljava/lang/Object;II)V"⟩
def yJ37_countRunAndMakeAscending : MethodName := ⟨RJ37, "countRunAndMakeAscending", "([Ljava/lang/Object;II)I"⟩
def yJ37_reverseRange : MethodName := ⟨RJ37, "reverseRange", "([Ljava/lang/Object;II)V"⟩
def yJ37_binarySort : MethodName := ⟨RJ37, "binarySort", "([Ljava/lang/Object;III)V"⟩
def yJ37_init : MethodName := ⟨RJ37, "<init>", "([Ljava/lang/Object;[Ljava/lang/Object;II)V"⟩
def yJ37_minRunLength : MethodName := ⟨RJ37, "minRunLength", "(I)I"⟩
def yJ37_pushRun : MethodName := ⟨RJ37, "pushRun", "(II)V"⟩
def yJ37_mergeCollapse : MethodName := ⟨RJ37, "mergeCollapse", "()V"⟩
def yJ37_mergeAt : MethodName := ⟨RJ37, "mergeAt", "(I)V"⟩
def yJ37_gallopRight : MethodName := ⟨RJ37, "gallopRight", "(Ljava/lang/Comparable;[Ljava/lang/Object;III)I"⟩
def yJ37_gallopLeft : MethodName := ⟨RJ37, "gallopLeft", "(Ljava/lang/Comparable;[Ljava/lang/Object;III)I"⟩
def yJ37_mergeLo : MethodName := ⟨RJ37, "mergeLo", "(IIII)V"⟩
def yJ37_ensureCapacity : MethodName := ⟨RJ37, "ensureCapacity", "(I)[Ljava/lang/Object;"⟩
def yJ37_mergeHi : MethodName := ⟨RJ37, "mergeHi", "(IIII)V"⟩
def yJ37_mergeForceCollapse : MethodName := ⟨RJ37, "mergeForceCollapse", "()V"⟩
theorem q102 : (Jvm.Cond.initialized "java/util/ComparableTimSort") ∈ lw_all := lw_g (lw_at lw_m1 47 rfl) rfl
theorem q246 : (Jvm.Cond.selects "java/util/ComparableTimSort" ({ cls := "java/lang/Object", name := "getClass", desc := "()Ljava/lang/Class;" } : Jvm.MethodName) ({ cls := "java/lang/Object", name := "getClass", desc := "()Ljava/lang/Class;" } : Jvm.MethodName)) ∈ lw_all := lw_g (lw_at lw_m1 191 rfl) rfl
theorem q2686 : (Jvm.Cond.static ({ cls := "java/util/ComparableTimSort", name := "sort", desc := "([Ljava/lang/Object;II[Ljava/lang/Object;II)V" } : Jvm.MethodName)) ∈ lw_all := lw_g (lw_at lw_m11 231 rfl) rfl
theorem q2687 : (Jvm.Cond.code ({ cls := "java/util/ComparableTimSort", name := "sort", desc := "([Ljava/lang/Object;II[Ljava/lang/Object;II)V" } : Jvm.MethodName) prog_55_method_2_code (11 : Nat) (Option.none : Option Jvm.ClassFile.FieldType)) ∈ lw_all := lw_g (lw_at lw_m11 232 rfl) rfl
theorem q2688 : (Jvm.Cond.fieldLink "java/util/ComparableTimSort" (37 : Nat) "java/util/ComparableTimSort" "$assertionsDisabled" "Z") ∈ lw_all := lw_g (lw_at lw_m11 233 rfl) rfl
theorem q2689 : (Jvm.Cond.laysStatic "java/util/ComparableTimSort" "$assertionsDisabled" "Z") ∈ lw_tbl := lw_at lw_m11 234 rfl
theorem q2690 : (Jvm.Cond.methodLink "java/util/ComparableTimSort" (44 : Nat) ({ cls := "java/util/ComparableTimSort", name := "countRunAndMakeAscending", desc := "([Ljava/lang/Object;II)I" } : Jvm.MethodName)) ∈ lw_all := lw_g (lw_at lw_m11 235 rfl) rfl
theorem q2691 : (Jvm.Cond.static ({ cls := "java/util/ComparableTimSort", name := "countRunAndMakeAscending", desc := "([Ljava/lang/Object;II)I" } : Jvm.MethodName)) ∈ lw_all := lw_g (lw_at lw_m11 236 rfl) rfl
theorem q2692 : (Jvm.Cond.code ({ cls := "java/util/ComparableTimSort", name := "countRunAndMakeAscending", desc := "([Ljava/lang/Object;II)I" } : Jvm.MethodName) prog_55_method_4_code (4 : Nat) (Option.some Jvm.ClassFile.FieldType.int)) ∈ lw_all := lw_g (lw_at lw_m11 237 rfl) rfl
theorem q2693 : (Jvm.Cond.classLink "java/util/ComparableTimSort" (69 : Nat) "java/lang/Comparable") ∈ lw_all := lw_g (lw_at lw_m11 238 rfl) rfl
theorem q2694 : (Jvm.Cond.interfaceEntry "java/util/ComparableTimSort" (71 : Nat)) ∈ lw_tbl := lw_at lw_m11 239 rfl
theorem q2695 : (Jvm.Cond.methodLink "java/util/ComparableTimSort" (71 : Nat) ({ cls := "java/lang/Comparable", name := "compareTo", desc := "(Ljava/lang/Object;)I" } : Jvm.MethodName)) ∈ lw_all := lw_g (lw_at lw_m12 0 rfl) rfl
theorem q2889 : (Jvm.Cond.methodLink "java/util/ComparableTimSort" (81 : Nat) ({ cls := "java/util/ComparableTimSort", name := "reverseRange", desc := "([Ljava/lang/Object;II)V" } : Jvm.MethodName)) ∈ lw_all := lw_g (lw_at lw_m12 194 rfl) rfl
theorem q2890 : (Jvm.Cond.static ({ cls := "java/util/ComparableTimSort", name := "reverseRange", desc := "([Ljava/lang/Object;II)V" } : Jvm.MethodName)) ∈ lw_all := lw_g (lw_at lw_m12 195 rfl) rfl
theorem q2891 : (Jvm.Cond.code ({ cls := "java/util/ComparableTimSort", name := "reverseRange", desc := "([Ljava/lang/Object;II)V" } : Jvm.MethodName) prog_55_method_5_code (4 : Nat) (Option.none : Option Jvm.ClassFile.FieldType)) ∈ lw_all := lw_g (lw_at lw_m12 196 rfl) rfl
theorem q2892 : (Jvm.Cond.methodLink "java/util/ComparableTimSort" (48 : Nat) ({ cls := "java/util/ComparableTimSort", name := "binarySort", desc := "([Ljava/lang/Object;III)V" } : Jvm.MethodName)) ∈ lw_all := lw_g (lw_at lw_m12 197 rfl) rfl
theorem q2893 : (Jvm.Cond.static ({ cls := "java/util/ComparableTimSort", name := "binarySort", desc := "([Ljava/lang/Object;III)V" } : Jvm.MethodName)) ∈ lw_all := lw_g (lw_at lw_m12 198 rfl) rfl
theorem q2894 : (Jvm.Cond.code ({ cls := "java/util/ComparableTimSort", name := "binarySort", desc := "([Ljava/lang/Object;III)V" } : Jvm.MethodName) prog_55_method_3_code (8 : Nat) (Option.none : Option Jvm.ClassFile.FieldType)) ∈ lw_all := lw_g (lw_at lw_m12 199 rfl) rfl
theorem q2895 : (Jvm.Cond.methodLink "java/util/ComparableTimSort" (75 : Nat) ({ cls := "java/lang/System", name := "arraycopy", desc := "(Ljava/lang/Object;ILjava/lang/Object;II)V" } : Jvm.MethodName)) ∈ lw_all := lw_g (lw_at lw_m12 200 rfl) rfl
theorem q2896 : (Jvm.Cond.classLink "java/util/ComparableTimSort" (7 : Nat) "java/util/ComparableTimSort") ∈ lw_all := lw_g (lw_at lw_m12 201 rfl) rfl
theorem q2897 : (Jvm.Cond.instantiable "java/util/ComparableTimSort" (8 : Nat)) ∈ lw_all := lw_g (lw_at lw_m12 202 rfl) rfl
theorem q2898 : (Jvm.Cond.methodLink "java/util/ComparableTimSort" (52 : Nat) ({ cls := "java/util/ComparableTimSort", name := "<init>", desc := "([Ljava/lang/Object;[Ljava/lang/Object;II)V" } : Jvm.MethodName)) ∈ lw_all := lw_g (lw_at lw_m12 203 rfl) rfl
theorem q2899 : (Jvm.Cond.instanceMethod ({ cls := "java/util/ComparableTimSort", name := "<init>", desc := "([Ljava/lang/Object;[Ljava/lang/Object;II)V" } : Jvm.MethodName)) ∈ lw_all := lw_g (lw_at lw_m12 204 rfl) rfl
theorem q2900 : (Jvm.Cond.code ({ cls := "java/util/ComparableTimSort", name := "<init>", desc := "([Ljava/lang/Object;[Ljava/lang/Object;II)V" } : Jvm.MethodName) prog_55_method_1_code (8 : Nat) (Option.none : Option Jvm.ClassFile.FieldType)) ∈ lw_all := lw_g (lw_at lw_m12 205 rfl) rfl
theorem q2901 : (Jvm.Cond.methodLink "java/util/ComparableTimSort" (1 : Nat) ({ cls := "java/lang/Object", name := "<init>", desc := "()V" } : Jvm.MethodName)) ∈ lw_all := lw_g (lw_at lw_m12 206 rfl) rfl
theorem q2902 : (Jvm.Cond.classLink "java/util/ComparableTimSort" (2 : Nat) "java/lang/Object") ∈ lw_all := lw_g (lw_at lw_m12 207 rfl) rfl
theorem q2903 : (Jvm.Cond.constant "java/util/ComparableTimSort" (29 : Nat) (119151 : Int32)) ∈ lw_all := lw_g (lw_at lw_m12 208 rfl) rfl
theorem q2904 : (Jvm.Cond.fieldLink "java/util/ComparableTimSort" (16 : Nat) "java/util/ComparableTimSort" "a" "[Ljava/lang/Object;") ∈ lw_all := lw_g (lw_at lw_m12 209 rfl) rfl
theorem q2905 : (Jvm.Cond.fieldLink "java/util/ComparableTimSort" (9 : Nat) "java/util/ComparableTimSort" "minGallop" "I") ∈ lw_all := lw_g (lw_at lw_m12 210 rfl) rfl
theorem q2906 : (Jvm.Cond.fieldLink "java/util/ComparableTimSort" (20 : Nat) "java/util/ComparableTimSort" "tmp" "[Ljava/lang/Object;") ∈ lw_all := lw_g (lw_at lw_m12 211 rfl) rfl
theorem q2907 : (Jvm.Cond.fieldLink "java/util/ComparableTimSort" (23 : Nat) "java/util/ComparableTimSort" "tmpBase" "I") ∈ lw_all := lw_g (lw_at lw_m12 212 rfl) rfl
theorem q2908 : (Jvm.Cond.fieldLink "java/util/ComparableTimSort" (26 : Nat) "java/util/ComparableTimSort" "tmpLen" "I") ∈ lw_all := lw_g (lw_at lw_m12 213 rfl) rfl
theorem q2909 : (Jvm.Cond.fieldLink "java/util/ComparableTimSort" (13 : Nat) "java/util/ComparableTimSort" "stackSize" "I") ∈ lw_all := lw_g (lw_at lw_m12 214 rfl) rfl
theorem q2910 : (Jvm.Cond.fieldLink "java/util/ComparableTimSort" (30 : Nat) "java/util/ComparableTimSort" "runBase" "[I") ∈ lw_all := lw_g (lw_at lw_m12 215 rfl) rfl
theorem q2911 : (Jvm.Cond.fieldLink "java/util/ComparableTimSort" (34 : Nat) "java/util/ComparableTimSort" "runLen" "[I") ∈ lw_all := lw_g (lw_at lw_m12 216 rfl) rfl
theorem q2912 : (Jvm.Cond.laysFinal "java/util/ComparableTimSort" "java/util/ComparableTimSort" "a" "[Ljava/lang/Object;") ∈ lw_all := lw_g (lw_at lw_m12 217 rfl) rfl
theorem q2913 : (Jvm.Cond.soleField "java/util/ComparableTimSort" "a") ∈ lw_all := lw_g (lw_at lw_m12 218 rfl) rfl
theorem q2914 : (Jvm.Cond.lays "java/util/ComparableTimSort" "java/util/ComparableTimSort" "minGallop" "I") ∈ lw_all := lw_g (lw_at lw_m12 219 rfl) rfl
theorem q2915 : (Jvm.Cond.soleField "java/util/ComparableTimSort" "minGallop") ∈ lw_all := lw_g (lw_at lw_m12 220 rfl) rfl
theorem q2916 : (Jvm.Cond.lays "java/util/ComparableTimSort" "java/util/ComparableTimSort" "tmp" "[Ljava/lang/Object;") ∈ lw_all := lw_g (lw_at lw_m12 221 rfl) rfl
theorem q2917 : (Jvm.Cond.soleField "java/util/ComparableTimSort" "tmp") ∈ lw_all := lw_g (lw_at lw_m12 222 rfl) rfl
theorem q2918 : (Jvm.Cond.lays "java/util/ComparableTimSort" "java/util/ComparableTimSort" "tmpBase" "I") ∈ lw_all := lw_g (lw_at lw_m12 223 rfl) rfl
theorem q2919 : (Jvm.Cond.soleField "java/util/ComparableTimSort" "tmpBase") ∈ lw_all := lw_g (lw_at lw_m12 224 rfl) rfl
theorem q2920 : (Jvm.Cond.lays "java/util/ComparableTimSort" "java/util/ComparableTimSort" "tmpLen" "I") ∈ lw_all := lw_g (lw_at lw_m12 225 rfl) rfl
theorem q2921 : (Jvm.Cond.soleField "java/util/ComparableTimSort" "tmpLen") ∈ lw_all := lw_g (lw_at lw_m12 226 rfl) rfl
theorem q2922 : (Jvm.Cond.lays "java/util/ComparableTimSort" "java/util/ComparableTimSort" "stackSize" "I") ∈ lw_all := lw_g (lw_at lw_m12 227 rfl) rfl
theorem q2923 : (Jvm.Cond.soleField "java/util/ComparableTimSort" "stackSize") ∈ lw_all := lw_g (lw_at lw_m12 228 rfl) rfl
theorem q2924 : (Jvm.Cond.laysFinal "java/util/ComparableTimSort" "java/util/ComparableTimSort" "runBase" "[I") ∈ lw_all := lw_g (lw_at lw_m12 229 rfl) rfl
theorem q2925 : (Jvm.Cond.soleField "java/util/ComparableTimSort" "runBase") ∈ lw_all := lw_g (lw_at lw_m12 230 rfl) rfl
theorem q2926 : (Jvm.Cond.laysFinal "java/util/ComparableTimSort" "java/util/ComparableTimSort" "runLen" "[I") ∈ lw_all := lw_g (lw_at lw_m12 231 rfl) rfl
theorem q2927 : (Jvm.Cond.soleField "java/util/ComparableTimSort" "runLen") ∈ lw_all := lw_g (lw_at lw_m12 232 rfl) rfl
theorem q2928 : (Jvm.Cond.superclass "java/util/ComparableTimSort" "java/lang/Object") ∈ lw_all := lw_g (lw_at lw_m12 233 rfl) rfl
theorem q2929 : (Jvm.Cond.methodLink "java/util/ComparableTimSort" (55 : Nat) ({ cls := "java/util/ComparableTimSort", name := "minRunLength", desc := "(I)I" } : Jvm.MethodName)) ∈ lw_all := lw_g (lw_at lw_m12 234 rfl) rfl
theorem q2930 : (Jvm.Cond.static ({ cls := "java/util/ComparableTimSort", name := "minRunLength", desc := "(I)I" } : Jvm.MethodName)) ∈ lw_all := lw_g (lw_at lw_m12 235 rfl) rfl
theorem q2931 : (Jvm.Cond.code ({ cls := "java/util/ComparableTimSort", name := "minRunLength", desc := "(I)I" } : Jvm.MethodName) prog_55_method_6_code (2 : Nat) (Option.some Jvm.ClassFile.FieldType.int)) ∈ lw_all := lw_g (lw_at lw_m12 236 rfl) rfl
theorem q2932 : (Jvm.Cond.methodLink "java/util/ComparableTimSort" (59 : Nat) ({ cls := "java/util/ComparableTimSort", name := "pushRun", desc := "(II)V" } : Jvm.MethodName)) ∈ lw_all := lw_g (lw_at lw_m12 237 rfl) rfl
theorem q2933 : (Jvm.Cond.privateMethod ({ cls := "java/util/ComparableTimSort", name := "pushRun", desc := "(II)V" } : Jvm.MethodName)) ∈ lw_tbl := lw_at lw_m12 238 rfl
theorem q2934 : (Jvm.Cond.instanceMethod ({ cls := "java/util/ComparableTimSort", name := "pushRun", desc := "(II)V" } : Jvm.MethodName)) ∈ lw_all := lw_g (lw_at lw_m12 239 rfl) rfl
theorem q2935 : (Jvm.Cond.code ({ cls := "java/util/ComparableTimSort", name := "pushRun", desc := "(II)V" } : Jvm.MethodName) prog_55_method_7_code (3 : Nat) (Option.none : Option Jvm.ClassFile.FieldType)) ∈ lw_all := lw_g (lw_at lw_m13 0 rfl) rfl
theorem q2936 : (Jvm.Cond.methodLink "java/util/ComparableTimSort" (63 : Nat) ({ cls := "java/util/ComparableTimSort", name := "mergeCollapse", desc := "()V" } : Jvm.MethodName)) ∈ lw_all := lw_g (lw_at lw_m13 1 rfl) rfl
theorem q2937 : (Jvm.Cond.privateMethod ({ cls := "java/util/ComparableTimSort", name := "mergeCollapse", desc := "()V" } : Jvm.MethodName)) ∈ lw_tbl := lw_at lw_m13 2 rfl
theorem q2938 : (Jvm.Cond.instanceMethod ({ cls := "java/util/ComparableTimSort", name := "mergeCollapse", desc := "()V" } : Jvm.MethodName)) ∈ lw_all := lw_g (lw_at lw_m13 3 rfl) rfl
theorem q2939 : (Jvm.Cond.code ({ cls := "java/util/ComparableTimSort", name := "mergeCollapse", desc := "()V" } : Jvm.MethodName) prog_55_method_8_code (2 : Nat) (Option.none : Option Jvm.ClassFile.FieldType)) ∈ lw_all := lw_g (lw_at lw_m13 4 rfl) rfl
theorem q2940 : (Jvm.Cond.methodLink "java/util/ComparableTimSort" (85 : Nat) ({ cls := "java/util/ComparableTimSort", name := "mergeAt", desc := "(I)V" } : Jvm.MethodName)) ∈ lw_all := lw_g (lw_at lw_m13 5 rfl) rfl
theorem q2941 : (Jvm.Cond.privateMethod ({ cls := "java/util/ComparableTimSort", name := "mergeAt", desc := "(I)V" } : Jvm.MethodName)) ∈ lw_tbl := lw_at lw_m13 6 rfl
theorem q2942 : (Jvm.Cond.instanceMethod ({ cls := "java/util/ComparableTimSort", name := "mergeAt", desc := "(I)V" } : Jvm.MethodName)) ∈ lw_all := lw_g (lw_at lw_m13 7 rfl) rfl
theorem q2943 : (Jvm.Cond.code ({ cls := "java/util/ComparableTimSort", name := "mergeAt", desc := "(I)V" } : Jvm.MethodName) prog_55_method_10_code (7 : Nat) (Option.none : Option Jvm.ClassFile.FieldType)) ∈ lw_all := lw_g (lw_at lw_m13 8 rfl) rfl
theorem q2944 : (Jvm.Cond.methodLink "java/util/ComparableTimSort" (89 : Nat) ({ cls := "java/util/ComparableTimSort", name := "gallopRight", desc := "(Ljava/lang/Comparable;[Ljava/lang/Object;III)I" } : Jvm.MethodName)) ∈ lw_all := lw_g (lw_at lw_m13 9 rfl) rfl
theorem q2945 : (Jvm.Cond.static ({ cls := "java/util/ComparableTimSort", name := "gallopRight", desc := "(Ljava/lang/Comparable;[Ljava/lang/Object;III)I" } : Jvm.MethodName)) ∈ lw_all := lw_g (lw_at lw_m13 10 rfl) rfl
theorem q2946 : (Jvm.Cond.code ({ cls := "java/util/ComparableTimSort", name := "gallopRight", desc := "(Ljava/lang/Comparable;[Ljava/lang/Object;III)I" } : Jvm.MethodName) prog_55_method_12_code (9 : Nat) (Option.some Jvm.ClassFile.FieldType.int)) ∈ lw_all := lw_g (lw_at lw_m13 11 rfl) rfl
theorem q2947 : (Jvm.Cond.methodLink "java/util/ComparableTimSort" (93 : Nat) ({ cls := "java/util/ComparableTimSort", name := "gallopLeft", desc := "(Ljava/lang/Comparable;[Ljava/lang/Object;III)I" } : Jvm.MethodName)) ∈ lw_all := lw_g (lw_at lw_m13 12 rfl) rfl
theorem q2948 : (Jvm.Cond.static ({ cls := "java/util/ComparableTimSort", name := "gallopLeft", desc := "(Ljava/lang/Comparable;[Ljava/lang/Object;III)I" } : Jvm.MethodName)) ∈ lw_all := lw_g (lw_at lw_m13 13 rfl) rfl
theorem q2949 : (Jvm.Cond.code ({ cls := "java/util/ComparableTimSort", name := "gallopLeft", desc := "(Ljava/lang/Comparable;[Ljava/lang/Object;III)I" } : Jvm.MethodName) prog_55_method_11_code (9 : Nat) (Option.some Jvm.ClassFile.FieldType.int)) ∈ lw_all := lw_g (lw_at lw_m13 14 rfl) rfl
theorem q2950 : (Jvm.Cond.methodLink "java/util/ComparableTimSort" (96 : Nat) ({ cls := "java/util/ComparableTimSort", name := "mergeLo", desc := "(IIII)V" } : Jvm.MethodName)) ∈ lw_all := lw_g (lw_at lw_m13 15 rfl) rfl
theorem q2951 : (Jvm.Cond.privateMethod ({ cls := "java/util/ComparableTimSort", name := "mergeLo", desc := "(IIII)V" } : Jvm.MethodName)) ∈ lw_tbl := lw_at lw_m13 16 rfl
theorem q2952 : (Jvm.Cond.instanceMethod ({ cls := "java/util/ComparableTimSort", name := "mergeLo", desc := "(IIII)V" } : Jvm.MethodName)) ∈ lw_all := lw_g (lw_at lw_m13 17 rfl) rfl
theorem q2953 : (Jvm.Cond.code ({ cls := "java/util/ComparableTimSort", name := "mergeLo", desc := "(IIII)V" } : Jvm.MethodName) prog_55_method_13_code (13 : Nat) (Option.none : Option Jvm.ClassFile.FieldType)) ∈ lw_all := lw_g (lw_at lw_m13 18 rfl) rfl
theorem q2954 : (Jvm.Cond.methodLink "java/util/ComparableTimSort" (103 : Nat) ({ cls := "java/util/ComparableTimSort", name := "ensureCapacity", desc := "(I)[Ljava/lang/Object;" } : Jvm.MethodName)) ∈ lw_all := lw_g (lw_at lw_m13 19 rfl) rfl
theorem q2955 : (Jvm.Cond.privateMethod ({ cls := "java/util/ComparableTimSort", name := "ensureCapacity", desc := "(I)[Ljava/lang/Object;" } : Jvm.MethodName)) ∈ lw_tbl := lw_at lw_m13 20 rfl
theorem q2956 : (Jvm.Cond.instanceMethod ({ cls := "java/util/ComparableTimSort", name := "ensureCapacity", desc := "(I)[Ljava/lang/Object;" } : Jvm.MethodName)) ∈ lw_all := lw_g (lw_at lw_m13 21 rfl) rfl
theorem q2957 : (Jvm.Cond.code ({ cls := "java/util/ComparableTimSort", name := "ensureCapacity", desc := "(I)[Ljava/lang/Object;" } : Jvm.MethodName) prog_55_method_15_code (4 : Nat) (Option.some (Jvm.ClassFile.FieldType.array (Jvm.ClassFile.FieldType.object "java/lang/Object")))) ∈ lw_all := lw_g (lw_at lw_m13 22 rfl) rfl
theorem q2958 : (Jvm.Cond.methodLink "java/util/ComparableTimSort" (114 : Nat) ({ cls := "java/lang/Integer", name := "numberOfLeadingZeros", desc := "(I)I" } : Jvm.MethodName)) ∈ lw_all := lw_g (lw_at lw_m13 23 rfl) rfl
theorem q2959 : (Jvm.Cond.methodLink "java/util/ComparableTimSort" (119 : Nat) ({ cls := "java/lang/Math", name := "min", desc := "(II)I" } : Jvm.MethodName)) ∈ lw_all := lw_g (lw_at lw_m13 24 rfl) rfl
theorem q2960 : (Jvm.Cond.classLink "java/util/ComparableTimSort" (107 : Nat) "java/lang/IllegalArgumentException") ∈ lw_all := lw_g (lw_at lw_m13 25 rfl) rfl
theorem q2961 : (Jvm.Cond.stringRef "java/util/ComparableTimSort" (109 : Nat) "Comparison method violates its general contract!") ∈ lw_tbl := lw_at lw_m13 26 rfl
theorem q2962 : (Jvm.Cond.methodLink "java/util/ComparableTimSort" (111 : Nat) ({ cls := "java/lang/IllegalArgumentException", name := "<init>", desc := "(Ljava/lang/String;)V" } : Jvm.MethodName)) ∈ lw_all := lw_g (lw_at lw_m13 27 rfl) rfl
theorem q2963 : (Jvm.Cond.methodLink "java/util/ComparableTimSort" (100 : Nat) ({ cls := "java/util/ComparableTimSort", name := "mergeHi", desc := "(IIII)V" } : Jvm.MethodName)) ∈ lw_all := lw_g (lw_at lw_m13 28 rfl) rfl
theorem q2964 : (Jvm.Cond.privateMethod ({ cls := "java/util/ComparableTimSort", name := "mergeHi", desc := "(IIII)V" } : Jvm.MethodName)) ∈ lw_tbl := lw_at lw_m13 29 rfl
theorem q2965 : (Jvm.Cond.instanceMethod ({ cls := "java/util/ComparableTimSort", name := "mergeHi", desc := "(IIII)V" } : Jvm.MethodName)) ∈ lw_all := lw_g (lw_at lw_m13 30 rfl) rfl
theorem q2966 : (Jvm.Cond.code ({ cls := "java/util/ComparableTimSort", name := "mergeHi", desc := "(IIII)V" } : Jvm.MethodName) prog_55_method_14_code (14 : Nat) (Option.none : Option Jvm.ClassFile.FieldType)) ∈ lw_all := lw_g (lw_at lw_m13 31 rfl) rfl
theorem q2967 : (Jvm.Cond.methodLink "java/util/ComparableTimSort" (66 : Nat) ({ cls := "java/util/ComparableTimSort", name := "mergeForceCollapse", desc := "()V" } : Jvm.MethodName)) ∈ lw_all := lw_g (lw_at lw_m13 32 rfl) rfl
theorem q2968 : (Jvm.Cond.privateMethod ({ cls := "java/util/ComparableTimSort", name := "mergeForceCollapse", desc := "()V" } : Jvm.MethodName)) ∈ lw_tbl := lw_at lw_m13 33 rfl
theorem q2969 : (Jvm.Cond.instanceMethod ({ cls := "java/util/ComparableTimSort", name := "mergeForceCollapse", desc := "()V" } : Jvm.MethodName)) ∈ lw_all := lw_g (lw_at lw_m13 34 rfl) rfl
theorem q2970 : (Jvm.Cond.code ({ cls := "java/util/ComparableTimSort", name := "mergeForceCollapse", desc := "()V" } : Jvm.MethodName) prog_55_method_9_code (2 : Nat) (Option.none : Option Jvm.ClassFile.FieldType)) ∈ lw_all := lw_g (lw_at lw_m13 35 rfl) rfl
theorem q3929 : (Jvm.Cond.castable "java/util/ComparableTimSort" "java/lang/Object") ∈ lw_tbl := lw_at lw_m17 34 rfl
theorem in_J37 : ∀ w ∈ wsJ370, w ∈ lw_all := lw_in wsJ370 [2912, 2914, 2916, 2918, 2920, 2922, 2924, 2926] (by decide +kernel) (by decide +kernel)

/-! jdk/internal/misc/Unsafe -/
set_option maxRecDepth 100000
def RJ38 : String := "jdk/internal/misc/Unsafe"
def yJ38_getLongUnaligned : MethodName := ⟨RJ38, "getLongUnaligned", "(Ljava/lang/Object;J)J"⟩
def yJ38_makeLong : MethodName := ⟨RJ38, "makeLong", "(II)J"⟩
def yJ38_toUnsignedLong : MethodName := ⟨RJ38, "toUnsignedLong", "(I)J"⟩
def yJ38_pickPos : MethodName := ⟨RJ38, "pickPos", "(II)I"⟩
def yJ38_makeLong_2 : MethodName := ⟨RJ38, "makeLong", "(SSSS)J"⟩
def yJ38_toUnsignedLong_2 : MethodName := ⟨RJ38, "toUnsignedLong", "(S)J"⟩
def yJ38_makeLong_3 : MethodName := ⟨RJ38, "makeLong", "(BBBBBBBB)J"⟩
def yJ38_toUnsignedLong_3 : MethodName := ⟨RJ38, "toUnsignedLong", "(B)J"⟩
def yJ38_getIntUnaligned : MethodName := ⟨RJ38, "getIntUnaligned", "(Ljava/lang/Object;J)I"⟩
def yJ38_makeInt : MethodName := ⟨RJ38, "makeInt", "(SS)I"⟩
def yJ38_toUnsignedInt : MethodName := ⟨RJ38, "toUnsignedInt", "(S)I"⟩
def yJ38_makeInt_2 : MethodName := ⟨RJ38, "makeInt", "(BBBB)I"⟩
def yJ38_toUnsignedInt_2 : MethodName := ⟨RJ38, "toUnsignedInt", "(B)I"⟩
theorem q103 : (Jvm.Cond.initialized "jdk/internal/misc/Unsafe") ∈ lw_all := lw_g (lw_at lw_m1 48 rfl) rfl
theorem q249 : (Jvm.Cond.selects "jdk/internal/misc/Unsafe" ({ cls := "java/lang/Object", name := "getClass", desc := "()Ljava/lang/Class;" } : Jvm.MethodName) ({ cls := "java/lang/Object", name := "getClass", desc := "()Ljava/lang/Class;" } : Jvm.MethodName)) ∈ lw_all := lw_g (lw_at lw_m1 194 rfl) rfl
theorem q1134 : (Jvm.Cond.selects "jdk/internal/misc/Unsafe" ({ cls := "java/lang/Object", name := "equals", desc := "(Ljava/lang/Object;)Z" } : Jvm.MethodName) ({ cls := "java/lang/Object", name := "equals", desc := "(Ljava/lang/Object;)Z" } : Jvm.MethodName)) ∈ lw_all := lw_g (lw_at lw_m5 119 rfl) rfl
theorem q1374 : (Jvm.Cond.selects "jdk/internal/misc/Unsafe" ({ cls := "java/lang/Object", name := "hashCode", desc := "()I" } : Jvm.MethodName) ({ cls := "java/lang/Object", name := "hashCode", desc := "()I" } : Jvm.MethodName)) ∈ lw_all := lw_g (lw_at lw_m6 119 rfl) rfl
theorem q2732 : (Jvm.Cond.laysStatic "jdk/internal/misc/Unsafe" "ARRAY_BYTE_BASE_OFFSET" "I") ∈ lw_tbl := lw_at lw_m12 37 rfl
theorem q2743 : (Jvm.Cond.instanceMethod ({ cls := "jdk/internal/misc/Unsafe", name := "getLongUnaligned", desc := "(Ljava/lang/Object;J)J" } : Jvm.MethodName)) ∈ lw_all := lw_g (lw_at lw_m12 48 rfl) rfl
theorem q2744 : (Jvm.Cond.selects "jdk/internal/misc/Unsafe" ({ cls := "jdk/internal/misc/Unsafe", name := "getLongUnaligned", desc := "(Ljava/lang/Object;J)J" } : Jvm.MethodName) ({ cls := "jdk/internal/misc/Unsafe", name := "getLongUnaligned", desc := "(Ljava/lang/Object;J)J" } : Jvm.MethodName)) ∈ lw_all := lw_g (lw_at lw_m12 49 rfl) rfl
theorem q2745 : (Jvm.Cond.code ({ cls := "jdk/internal/misc/Unsafe", name := "getLongUnaligned", desc := "(Ljava/lang/Object;J)J" } : Jvm.MethodName) prog_72_method_334_code (4 : Nat) (Option.some Jvm.ClassFile.FieldType.long)) ∈ lw_all := lw_g (lw_at lw_m12 50 rfl) rfl
theorem q2746 : (Jvm.Cond.constantLong "jdk/internal/misc/Unsafe" (696 : Nat) (7 : Int64)) ∈ lw_all := lw_g (lw_at lw_m12 51 rfl) rfl
theorem q2747 : (Jvm.Cond.methodLink "jdk/internal/misc/Unsafe" (27 : Nat) ({ cls := "jdk/internal/misc/Unsafe", name := "getLong", desc := "(Ljava/lang/Object;J)J" } : Jvm.MethodName)) ∈ lw_all := lw_g (lw_at lw_m12 52 rfl) rfl
theorem q2748 : (Jvm.Cond.instanceMethod ({ cls := "jdk/internal/misc/Unsafe", name := "getLong", desc := "(Ljava/lang/Object;J)J" } : Jvm.MethodName)) ∈ lw_all := lw_g (lw_at lw_m12 53 rfl) rfl
theorem q2749 : (Jvm.Cond.selects "jdk/internal/misc/Unsafe" ({ cls := "jdk/internal/misc/Unsafe", name := "getLong", desc := "(Ljava/lang/Object;J)J" } : Jvm.MethodName) ({ cls := "jdk/internal/misc/Unsafe", name := "getLong", desc := "(Ljava/lang/Object;J)J" } : Jvm.MethodName)) ∈ lw_all := lw_g (lw_at lw_m12 54 rfl) rfl
theorem q2750 : (Jvm.Cond.native ({ cls := "jdk/internal/misc/Unsafe", name := "getLong", desc := "(Ljava/lang/Object;J)J" } : Jvm.MethodName)) ∈ lw_all := lw_g (lw_at lw_m12 55 rfl) rfl
theorem q2751 : (Jvm.Cond.constantLong "jdk/internal/misc/Unsafe" (349 : Nat) (3 : Int64)) ∈ lw_all := lw_g (lw_at lw_m12 56 rfl) rfl
theorem q2752 : (Jvm.Cond.methodLink "jdk/internal/misc/Unsafe" (17 : Nat) ({ cls := "jdk/internal/misc/Unsafe", name := "getInt", desc := "(Ljava/lang/Object;J)I" } : Jvm.MethodName)) ∈ lw_all := lw_g (lw_at lw_m12 57 rfl) rfl
theorem q2753 : (Jvm.Cond.instanceMethod ({ cls := "jdk/internal/misc/Unsafe", name := "getInt", desc := "(Ljava/lang/Object;J)I" } : Jvm.MethodName)) ∈ lw_all := lw_g (lw_at lw_m12 58 rfl) rfl
theorem q2754 : (Jvm.Cond.selects "jdk/internal/misc/Unsafe" ({ cls := "jdk/internal/misc/Unsafe", name := "getInt", desc := "(Ljava/lang/Object;J)I" } : Jvm.MethodName) ({ cls := "jdk/internal/misc/Unsafe", name := "getInt", desc := "(Ljava/lang/Object;J)I" } : Jvm.MethodName)) ∈ lw_all := lw_g (lw_at lw_m12 59 rfl) rfl
theorem q2755 : (Jvm.Cond.native ({ cls := "jdk/internal/misc/Unsafe", name := "getInt", desc := "(Ljava/lang/Object;J)I" } : Jvm.MethodName)) ∈ lw_all := lw_g (lw_at lw_m12 60 rfl) rfl
theorem q2756 : (Jvm.Cond.constantLong "jdk/internal/misc/Unsafe" (205 : Nat) (4 : Int64)) ∈ lw_all := lw_g (lw_at lw_m12 61 rfl) rfl
theorem q2757 : (Jvm.Cond.methodLink "jdk/internal/misc/Unsafe" (698 : Nat) ({ cls := "jdk/internal/misc/Unsafe", name := "makeLong", desc := "(II)J" } : Jvm.MethodName)) ∈ lw_all := lw_g (lw_at lw_m12 62 rfl) rfl
theorem q2758 : (Jvm.Cond.static ({ cls := "jdk/internal/misc/Unsafe", name := "makeLong", desc := "(II)J" } : Jvm.MethodName)) ∈ lw_all := lw_g (lw_at lw_m12 63 rfl) rfl
theorem q2759 : (Jvm.Cond.code ({ cls := "jdk/internal/misc/Unsafe", name := "makeLong", desc := "(II)J" } : Jvm.MethodName) prog_72_method_353_code (2 : Nat) (Option.some Jvm.ClassFile.FieldType.long)) ∈ lw_all := lw_g (lw_at lw_m12 64 rfl) rfl
theorem q2760 : (Jvm.Cond.methodLink "jdk/internal/misc/Unsafe" (791 : Nat) ({ cls := "jdk/internal/misc/Unsafe", name := "toUnsignedLong", desc := "(I)J" } : Jvm.MethodName)) ∈ lw_all := lw_g (lw_at lw_m12 65 rfl) rfl
theorem q2761 : (Jvm.Cond.static ({ cls := "jdk/internal/misc/Unsafe", name := "toUnsignedLong", desc := "(I)J" } : Jvm.MethodName)) ∈ lw_all := lw_g (lw_at lw_m12 66 rfl) rfl
theorem q2762 : (Jvm.Cond.code ({ cls := "jdk/internal/misc/Unsafe", name := "toUnsignedLong", desc := "(I)J" } : Jvm.MethodName) prog_72_method_370_code (1 : Nat) (Option.some Jvm.ClassFile.FieldType.long)) ∈ lw_all := lw_g (lw_at lw_m12 67 rfl) rfl
theorem q2763 : (Jvm.Cond.constantLong "jdk/internal/misc/Unsafe" (812 : Nat) (4294967295 : Int64)) ∈ lw_all := lw_g (lw_at lw_m12 68 rfl) rfl
theorem q2764 : (Jvm.Cond.methodLink "jdk/internal/misc/Unsafe" (784 : Nat) ({ cls := "jdk/internal/misc/Unsafe", name := "pickPos", desc := "(II)I" } : Jvm.MethodName)) ∈ lw_all := lw_g (lw_at lw_m12 69 rfl) rfl
theorem q2765 : (Jvm.Cond.static ({ cls := "jdk/internal/misc/Unsafe", name := "pickPos", desc := "(II)I" } : Jvm.MethodName)) ∈ lw_all := lw_g (lw_at lw_m12 70 rfl) rfl
theorem q2766 : (Jvm.Cond.code ({ cls := "jdk/internal/misc/Unsafe", name := "pickPos", desc := "(II)I" } : Jvm.MethodName) prog_72_method_350_code (2 : Nat) (Option.some Jvm.ClassFile.FieldType.int)) ∈ lw_all := lw_g (lw_at lw_m12 71 rfl) rfl
theorem q2767 : (Jvm.Cond.fieldLink "jdk/internal/misc/Unsafe" (351 : Nat) "jdk/internal/misc/UnsafeConstants" "BIG_ENDIAN" "Z") ∈ lw_all := lw_g (lw_at lw_m12 72 rfl) rfl
theorem q2769 : (Jvm.Cond.methodLink "jdk/internal/misc/Unsafe" (47 : Nat) ({ cls := "jdk/internal/misc/Unsafe", name := "getShort", desc := "(Ljava/lang/Object;J)S" } : Jvm.MethodName)) ∈ lw_all := lw_g (lw_at lw_m12 74 rfl) rfl
theorem q2770 : (Jvm.Cond.instanceMethod ({ cls := "jdk/internal/misc/Unsafe", name := "getShort", desc := "(Ljava/lang/Object;J)S" } : Jvm.MethodName)) ∈ lw_all := lw_g (lw_at lw_m12 75 rfl) rfl
theorem q2771 : (Jvm.Cond.selects "jdk/internal/misc/Unsafe" ({ cls := "jdk/internal/misc/Unsafe", name := "getShort", desc := "(Ljava/lang/Object;J)S" } : Jvm.MethodName) ({ cls := "jdk/internal/misc/Unsafe", name := "getShort", desc := "(Ljava/lang/Object;J)S" } : Jvm.MethodName)) ∈ lw_all := lw_g (lw_at lw_m12 76 rfl) rfl
theorem q2772 : (Jvm.Cond.native ({ cls := "jdk/internal/misc/Unsafe", name := "getShort", desc := "(Ljava/lang/Object;J)S" } : Jvm.MethodName)) ∈ lw_all := lw_g (lw_at lw_m12 77 rfl) rfl
theorem q2773 : (Jvm.Cond.constantLong "jdk/internal/misc/Unsafe" (203 : Nat) (2 : Int64)) ∈ lw_all := lw_g (lw_at lw_m12 78 rfl) rfl
theorem q2774 : (Jvm.Cond.constantLong "jdk/internal/misc/Unsafe" (702 : Nat) (6 : Int64)) ∈ lw_all := lw_g (lw_at lw_m12 79 rfl) rfl
theorem q2775 : (Jvm.Cond.methodLink "jdk/internal/misc/Unsafe" (704 : Nat) ({ cls := "jdk/internal/misc/Unsafe", name := "makeLong", desc := "(SSSS)J" } : Jvm.MethodName)) ∈ lw_all := lw_g (lw_at lw_m12 80 rfl) rfl
theorem q2776 : (Jvm.Cond.static ({ cls := "jdk/internal/misc/Unsafe", name := "makeLong", desc := "(SSSS)J" } : Jvm.MethodName)) ∈ lw_all := lw_g (lw_at lw_m12 81 rfl) rfl
theorem q2777 : (Jvm.Cond.code ({ cls := "jdk/internal/misc/Unsafe", name := "makeLong", desc := "(SSSS)J" } : Jvm.MethodName) prog_72_method_352_code (4 : Nat) (Option.some Jvm.ClassFile.FieldType.long)) ∈ lw_all := lw_g (lw_at lw_m12 82 rfl) rfl
theorem q2778 : (Jvm.Cond.methodLink "jdk/internal/misc/Unsafe" (788 : Nat) ({ cls := "jdk/internal/misc/Unsafe", name := "toUnsignedLong", desc := "(S)J" } : Jvm.MethodName)) ∈ lw_all := lw_g (lw_at lw_m12 83 rfl) rfl
theorem q2779 : (Jvm.Cond.static ({ cls := "jdk/internal/misc/Unsafe", name := "toUnsignedLong", desc := "(S)J" } : Jvm.MethodName)) ∈ lw_all := lw_g (lw_at lw_m12 84 rfl) rfl
theorem q2780 : (Jvm.Cond.code ({ cls := "jdk/internal/misc/Unsafe", name := "toUnsignedLong", desc := "(S)J" } : Jvm.MethodName) prog_72_method_369_code (1 : Nat) (Option.some Jvm.ClassFile.FieldType.long)) ∈ lw_all := lw_g (lw_at lw_m12 85 rfl) rfl
theorem q2781 : (Jvm.Cond.constantLong "jdk/internal/misc/Unsafe" (810 : Nat) (65535 : Int64)) ∈ lw_all := lw_g (lw_at lw_m12 86 rfl) rfl
theorem q2782 : (Jvm.Cond.methodLink "jdk/internal/misc/Unsafe" (39 : Nat) ({ cls := "jdk/internal/misc/Unsafe", name := "getByte", desc := "(Ljava/lang/Object;J)B" } : Jvm.MethodName)) ∈ lw_all := lw_g (lw_at lw_m12 87 rfl) rfl
theorem q2783 : (Jvm.Cond.instanceMethod ({ cls := "jdk/internal/misc/Unsafe", name := "getByte", desc := "(Ljava/lang/Object;J)B" } : Jvm.MethodName)) ∈ lw_all := lw_g (lw_at lw_m12 88 rfl) rfl
theorem q2784 : (Jvm.Cond.selects "jdk/internal/misc/Unsafe" ({ cls := "jdk/internal/misc/Unsafe", name := "getByte", desc := "(Ljava/lang/Object;J)B" } : Jvm.MethodName) ({ cls := "jdk/internal/misc/Unsafe", name := "getByte", desc := "(Ljava/lang/Object;J)B" } : Jvm.MethodName)) ∈ lw_all := lw_g (lw_at lw_m12 89 rfl) rfl
theorem q2785 : (Jvm.Cond.native ({ cls := "jdk/internal/misc/Unsafe", name := "getByte", desc := "(Ljava/lang/Object;J)B" } : Jvm.MethodName)) ∈ lw_all := lw_g (lw_at lw_m12 90 rfl) rfl
theorem q2786 : (Jvm.Cond.constantLong "jdk/internal/misc/Unsafe" (707 : Nat) (5 : Int64)) ∈ lw_all := lw_g (lw_at lw_m12 91 rfl) rfl
theorem q2787 : (Jvm.Cond.methodLink "jdk/internal/misc/Unsafe" (709 : Nat) ({ cls := "jdk/internal/misc/Unsafe", name := "makeLong", desc := "(BBBBBBBB)J" } : Jvm.MethodName)) ∈ lw_all := lw_g (lw_at lw_m12 92 rfl) rfl
theorem q2788 : (Jvm.Cond.static ({ cls := "jdk/internal/misc/Unsafe", name := "makeLong", desc := "(BBBBBBBB)J" } : Jvm.MethodName)) ∈ lw_all := lw_g (lw_at lw_m12 93 rfl) rfl
theorem q2789 : (Jvm.Cond.code ({ cls := "jdk/internal/misc/Unsafe", name := "makeLong", desc := "(BBBBBBBB)J" } : Jvm.MethodName) prog_72_method_351_code (8 : Nat) (Option.some Jvm.ClassFile.FieldType.long)) ∈ lw_all := lw_g (lw_at lw_m12 94 rfl) rfl
theorem q2790 : (Jvm.Cond.methodLink "jdk/internal/misc/Unsafe" (781 : Nat) ({ cls := "jdk/internal/misc/Unsafe", name := "toUnsignedLong", desc := "(B)J" } : Jvm.MethodName)) ∈ lw_all := lw_g (lw_at lw_m12 95 rfl) rfl
theorem q2791 : (Jvm.Cond.static ({ cls := "jdk/internal/misc/Unsafe", name := "toUnsignedLong", desc := "(B)J" } : Jvm.MethodName)) ∈ lw_all := lw_g (lw_at lw_m12 96 rfl) rfl
theorem q2792 : (Jvm.Cond.code ({ cls := "jdk/internal/misc/Unsafe", name := "toUnsignedLong", desc := "(B)J" } : Jvm.MethodName) prog_72_method_368_code (1 : Nat) (Option.some Jvm.ClassFile.FieldType.long)) ∈ lw_all := lw_g (lw_at lw_m12 97 rfl) rfl
theorem q2793 : (Jvm.Cond.constantLong "jdk/internal/misc/Unsafe" (808 : Nat) (255 : Int64)) ∈ lw_all := lw_g (lw_at lw_m12 98 rfl) rfl
theorem q2814 : (Jvm.Cond.instanceMethod ({ cls := "jdk/internal/misc/Unsafe", name := "getIntUnaligned", desc := "(Ljava/lang/Object;J)I" } : Jvm.MethodName)) ∈ lw_all := lw_g (lw_at lw_m12 119 rfl) rfl
theorem q2815 : (Jvm.Cond.selects "jdk/internal/misc/Unsafe" ({ cls := "jdk/internal/misc/Unsafe", name := "getIntUnaligned", desc := "(Ljava/lang/Object;J)I" } : Jvm.MethodName) ({ cls := "jdk/internal/misc/Unsafe", name := "getIntUnaligned", desc := "(Ljava/lang/Object;J)I" } : Jvm.MethodName)) ∈ lw_all := lw_g (lw_at lw_m12 120 rfl) rfl
theorem q2816 : (Jvm.Cond.code ({ cls := "jdk/internal/misc/Unsafe", name := "getIntUnaligned", desc := "(Ljava/lang/Object;J)I" } : Jvm.MethodName) prog_72_method_336_code (4 : Nat) (Option.some Jvm.ClassFile.FieldType.int)) ∈ lw_all := lw_g (lw_at lw_m12 121 rfl) rfl
theorem q2817 : (Jvm.Cond.methodLink "jdk/internal/misc/Unsafe" (719 : Nat) ({ cls := "jdk/internal/misc/Unsafe", name := "makeInt", desc := "(SS)I" } : Jvm.MethodName)) ∈ lw_all := lw_g (lw_at lw_m12 122 rfl) rfl
theorem q2818 : (Jvm.Cond.static ({ cls := "jdk/internal/misc/Unsafe", name := "makeInt", desc := "(SS)I" } : Jvm.MethodName)) ∈ lw_all := lw_g (lw_at lw_m12 123 rfl) rfl
theorem q2819 : (Jvm.Cond.code ({ cls := "jdk/internal/misc/Unsafe", name := "makeInt", desc := "(SS)I" } : Jvm.MethodName) prog_72_method_354_code (2 : Nat) (Option.some Jvm.ClassFile.FieldType.int)) ∈ lw_all := lw_g (lw_at lw_m12 124 rfl) rfl
theorem q2820 : (Jvm.Cond.methodLink "jdk/internal/misc/Unsafe" (792 : Nat) ({ cls := "jdk/internal/misc/Unsafe", name := "toUnsignedInt", desc := "(S)I" } : Jvm.MethodName)) ∈ lw_all := lw_g (lw_at lw_m12 125 rfl) rfl
theorem q2821 : (Jvm.Cond.static ({ cls := "jdk/internal/misc/Unsafe", name := "toUnsignedInt", desc := "(S)I" } : Jvm.MethodName)) ∈ lw_all := lw_g (lw_at lw_m12 126 rfl) rfl
theorem q2822 : (Jvm.Cond.code ({ cls := "jdk/internal/misc/Unsafe", name := "toUnsignedInt", desc := "(S)I" } : Jvm.MethodName) prog_72_method_367_code (1 : Nat) (Option.some Jvm.ClassFile.FieldType.int)) ∈ lw_all := lw_g (lw_at lw_m12 127 rfl) rfl
theorem q2823 : (Jvm.Cond.constant "jdk/internal/misc/Unsafe" (374 : Nat) (65535 : Int32)) ∈ lw_all := lw_g (lw_at lw_m12 128 rfl) rfl
theorem q2824 : (Jvm.Cond.methodLink "jdk/internal/misc/Unsafe" (723 : Nat) ({ cls := "jdk/internal/misc/Unsafe", name := "makeInt", desc := "(BBBB)I" } : Jvm.MethodName)) ∈ lw_all := lw_g (lw_at lw_m12 129 rfl) rfl
theorem q2825 : (Jvm.Cond.static ({ cls := "jdk/internal/misc/Unsafe", name := "makeInt", desc := "(BBBB)I" } : Jvm.MethodName)) ∈ lw_all := lw_g (lw_at lw_m12 130 rfl) rfl
theorem q2826 : (Jvm.Cond.code ({ cls := "jdk/internal/misc/Unsafe", name := "makeInt", desc := "(BBBB)I" } : Jvm.MethodName) prog_72_method_355_code (4 : Nat) (Option.some Jvm.ClassFile.FieldType.int)) ∈ lw_all := lw_g (lw_at lw_m12 131 rfl) rfl
theorem q2827 : (Jvm.Cond.methodLink "jdk/internal/misc/Unsafe" (796 : Nat) ({ cls := "jdk/internal/misc/Unsafe", name := "toUnsignedInt", desc := "(B)I" } : Jvm.MethodName)) ∈ lw_all := lw_g (lw_at lw_m12 132 rfl) rfl
theorem q2828 : (Jvm.Cond.static ({ cls := "jdk/internal/misc/Unsafe", name := "toUnsignedInt", desc := "(B)I" } : Jvm.MethodName)) ∈ lw_all := lw_g (lw_at lw_m12 133 rfl) rfl
theorem q2829 : (Jvm.Cond.code ({ cls := "jdk/internal/misc/Unsafe", name := "toUnsignedInt", desc := "(B)I" } : Jvm.MethodName) prog_72_method_366_code (1 : Nat) (Option.some Jvm.ClassFile.FieldType.int)) ∈ lw_all := lw_g (lw_at lw_m12 134 rfl) rfl
theorem q3928 : (Jvm.Cond.castable "jdk/internal/misc/Unsafe" "java/lang/Object") ∈ lw_tbl := lw_at lw_m17 33 rfl

/-! java/lang/Long -/
set_option maxRecDepth 100000
def RJ39 : String := "java/lang/Long"
def yJ39_numberOfLeadingZeros : MethodName := ⟨RJ39, "numberOfLeadingZeros", "(J)I"⟩
def yJ39_numberOfTrailingZeros : MethodName := ⟨RJ39, "numberOfTrailingZeros", "(J)I"⟩
theorem q105 : (Jvm.Cond.initialized "java/lang/Long") ∈ lw_all := lw_g (lw_at lw_m1 50 rfl) rfl
theorem q2797 : (Jvm.Cond.static ({ cls := "java/lang/Long", name := "numberOfLeadingZeros", desc := "(J)I" } : Jvm.MethodName)) ∈ lw_all := lw_g (lw_at lw_m12 102 rfl) rfl
theorem q2798 : (Jvm.Cond.code ({ cls := "java/lang/Long", name := "numberOfLeadingZeros", desc := "(J)I" } : Jvm.MethodName) prog_23_method_48_code (3 : Nat) (Option.some Jvm.ClassFile.FieldType.int)) ∈ lw_all := lw_g (lw_at lw_m12 103 rfl) rfl
theorem q2799 : (Jvm.Cond.methodLink "java/lang/Long" (308 : Nat) ({ cls := "java/lang/Integer", name := "numberOfLeadingZeros", desc := "(I)I" } : Jvm.MethodName)) ∈ lw_all := lw_g (lw_at lw_m12 104 rfl) rfl
theorem q2806 : (Jvm.Cond.static ({ cls := "java/lang/Long", name := "numberOfTrailingZeros", desc := "(J)I" } : Jvm.MethodName)) ∈ lw_all := lw_g (lw_at lw_m12 111 rfl) rfl
theorem q2807 : (Jvm.Cond.code ({ cls := "java/lang/Long", name := "numberOfTrailingZeros", desc := "(J)I" } : Jvm.MethodName) prog_23_method_49_code (3 : Nat) (Option.some Jvm.ClassFile.FieldType.int)) ∈ lw_all := lw_g (lw_at lw_m12 112 rfl) rfl
theorem q2808 : (Jvm.Cond.methodLink "java/lang/Long" (311 : Nat) ({ cls := "java/lang/Integer", name := "numberOfTrailingZeros", desc := "(I)I" } : Jvm.MethodName)) ∈ lw_all := lw_g (lw_at lw_m12 113 rfl) rfl

theorem q556 : (Jvm.Cond.sameMethod "[B" "java/lang/Object" "clone" "()Ljava/lang/Object;") ∈ lw_all := lw_g (lw_at lw_m3 21 rfl) rfl
set_option maxRecDepth 100000
theorem q559 : (Jvm.Cond.selects "[B" ({ cls := "[B", name := "clone", desc := "()Ljava/lang/Object;" } : Jvm.MethodName) ({ cls := "java/lang/Object", name := "clone", desc := "()Ljava/lang/Object;" } : Jvm.MethodName)) ∈ lw_all := lw_g (lw_at lw_m3 24 rfl) rfl
theorem q560 : (Jvm.Cond.castable "[B" "java/lang/Cloneable") ∈ lw_tbl := lw_at lw_m3 25 rfl
theorem q3938 : (Jvm.Cond.castable "[B" "java/lang/Object") ∈ lw_tbl := lw_at lw_m17 43 rfl

theorem q3936 : (Jvm.Cond.castable "[I" "java/lang/Object") ∈ lw_tbl := lw_at lw_m17 41 rfl
set_option maxRecDepth 100000

theorem q3939 : (Jvm.Cond.castable "[J" "java/lang/Object") ∈ lw_tbl := lw_at lw_m17 44 rfl
set_option maxRecDepth 100000

theorem q3935 : (Jvm.Cond.castable "[Ljava/lang/Integer;" "java/lang/Object") ∈ lw_tbl := lw_at lw_m17 40 rfl
set_option maxRecDepth 100000

theorem q3932 : (Jvm.Cond.sameMethod "[Ljava/lang/Object;" "java/lang/Object" "getClass" "()Ljava/lang/Class;") ∈ lw_all := lw_g (lw_at lw_m17 37 rfl) rfl
set_option maxRecDepth 100000
theorem q3933 : (Jvm.Cond.selects "[Ljava/lang/Object;" ({ cls := "java/lang/Object", name := "getClass", desc := "()Ljava/lang/Class;" } : Jvm.MethodName) ({ cls := "java/lang/Object", name := "getClass", desc := "()Ljava/lang/Class;" } : Jvm.MethodName)) ∈ lw_all := lw_g (lw_at lw_m17 38 rfl) rfl
theorem q3937 : (Jvm.Cond.castable "[Ljava/lang/Object;" "java/lang/Object") ∈ lw_tbl := lw_at lw_m17 42 rfl

theorem q3940 : (Jvm.Cond.castable "[[I" "java/lang/Object") ∈ lw_tbl := lw_at lw_m17 45 rfl
set_option maxRecDepth 100000

theorem q2696 : (Jvm.Cond.interfaceMethod "java/lang/Comparable" "java/lang/Comparable" "compareTo" "(Ljava/lang/Object;)I") ∈ lw_tbl := lw_at lw_m12 1 rfl
set_option maxRecDepth 100000
theorem q2697 : (Jvm.Cond.declares ({ cls := "java/lang/Comparable", name := "compareTo", desc := "(Ljava/lang/Object;)I" } : Jvm.MethodName)) ∈ lw_tbl := lw_at lw_m12 2 rfl

theorem q62 : (Jvm.Cond.initialized "java/lang/Integer$IntegerCache") ∈ lw_all := lw_g (lw_at lw_m1 7 rfl) rfl
set_option maxRecDepth 100000
theorem q169 : (Jvm.Cond.laysStatic "java/lang/Integer$IntegerCache" "high" "I") ∈ lw_tbl := lw_at lw_m1 114 rfl
theorem q171 : (Jvm.Cond.laysStatic "java/lang/Integer$IntegerCache" "cache" "[Ljava/lang/Integer;") ∈ lw_tbl := lw_at lw_m1 116 rfl

theorem q66 : (Jvm.Cond.initialized "java/lang/System") ∈ lw_all := lw_g (lw_at lw_m1 11 rfl) rfl
set_option maxRecDepth 100000
theorem q261 : (Jvm.Cond.static ({ cls := "java/lang/System", name := "arraycopy", desc := "(Ljava/lang/Object;ILjava/lang/Object;II)V" } : Jvm.MethodName)) ∈ lw_all := lw_g (lw_at lw_m1 206 rfl) rfl
theorem q262 : (Jvm.Cond.native ({ cls := "java/lang/System", name := "arraycopy", desc := "(Ljava/lang/Object;ILjava/lang/Object;II)V" } : Jvm.MethodName)) ∈ lw_all := lw_g (lw_at lw_m1 207 rfl) rfl

theorem q101 : (Jvm.Cond.initialized "java/util/Arrays$LegacyMergeSort") ∈ lw_all := lw_g (lw_at lw_m1 46 rfl) rfl
set_option maxRecDepth 100000
theorem q2684 : (Jvm.Cond.laysStatic "java/util/Arrays$LegacyMergeSort" "userRequested" "Z") ∈ lw_tbl := lw_at lw_m11 229 rfl

theorem q2981 : (Jvm.Cond.interfaceMethod "java/util/Comparator" "java/util/Comparator" "compare" "(Ljava/lang/Object;Ljava/lang/Object;)I") ∈ lw_tbl := lw_at lw_m13 46 rfl
set_option maxRecDepth 100000
theorem q2982 : (Jvm.Cond.declares ({ cls := "java/util/Comparator", name := "compare", desc := "(Ljava/lang/Object;Ljava/lang/Object;)I" } : Jvm.MethodName)) ∈ lw_tbl := lw_at lw_m13 47 rfl

theorem q926 : (Jvm.Cond.interfaceMethod "java/util/ListIterator" "java/util/ListIterator" "hasNext" "()Z") ∈ lw_tbl := lw_at lw_m4 151 rfl
set_option maxRecDepth 100000
theorem q927 : (Jvm.Cond.declares ({ cls := "java/util/ListIterator", name := "hasNext", desc := "()Z" } : Jvm.MethodName)) ∈ lw_tbl := lw_at lw_m4 152 rfl
theorem q947 : (Jvm.Cond.interfaceMethod "java/util/ListIterator" "java/util/ListIterator" "nextIndex" "()I") ∈ lw_tbl := lw_at lw_m4 172 rfl
theorem q948 : (Jvm.Cond.declares ({ cls := "java/util/ListIterator", name := "nextIndex", desc := "()I" } : Jvm.MethodName)) ∈ lw_tbl := lw_at lw_m4 173 rfl
theorem q981 : (Jvm.Cond.interfaceMethod "java/util/ListIterator" "java/util/ListIterator" "next" "()Ljava/lang/Object;") ∈ lw_tbl := lw_at lw_m4 206 rfl
theorem q982 : (Jvm.Cond.declares ({ cls := "java/util/ListIterator", name := "next", desc := "()Ljava/lang/Object;" } : Jvm.MethodName)) ∈ lw_tbl := lw_at lw_m4 207 rfl
theorem q1424 : (Jvm.Cond.interfaceMethod "java/util/ListIterator" "java/util/ListIterator" "previousIndex" "()I") ∈ lw_tbl := lw_at lw_m6 169 rfl
theorem q1425 : (Jvm.Cond.declares ({ cls := "java/util/ListIterator", name := "previousIndex", desc := "()I" } : Jvm.MethodName)) ∈ lw_tbl := lw_at lw_m6 170 rfl
theorem q1483 : (Jvm.Cond.interfaceMethod "java/util/ListIterator" "java/util/ListIterator" "hasPrevious" "()Z") ∈ lw_tbl := lw_at lw_m6 228 rfl
theorem q1484 : (Jvm.Cond.declares ({ cls := "java/util/ListIterator", name := "hasPrevious", desc := "()Z" } : Jvm.MethodName)) ∈ lw_tbl := lw_at lw_m6 229 rfl
theorem q1508 : (Jvm.Cond.interfaceMethod "java/util/ListIterator" "java/util/ListIterator" "previous" "()Ljava/lang/Object;") ∈ lw_tbl := lw_at lw_m7 13 rfl
theorem q1509 : (Jvm.Cond.declares ({ cls := "java/util/ListIterator", name := "previous", desc := "()Ljava/lang/Object;" } : Jvm.MethodName)) ∈ lw_tbl := lw_at lw_m7 14 rfl
theorem q1751 : (Jvm.Cond.interfaceMethod "java/util/ListIterator" "java/util/ListIterator" "remove" "()V") ∈ lw_tbl := lw_at lw_m8 16 rfl
theorem q1752 : (Jvm.Cond.declares ({ cls := "java/util/ListIterator", name := "remove", desc := "()V" } : Jvm.MethodName)) ∈ lw_tbl := lw_at lw_m8 17 rfl
theorem q2496 : (Jvm.Cond.interfaceMethod "java/util/ListIterator" "java/util/ListIterator" "set" "(Ljava/lang/Object;)V") ∈ lw_tbl := lw_at lw_m11 41 rfl
theorem q2497 : (Jvm.Cond.declares ({ cls := "java/util/ListIterator", name := "set", desc := "(Ljava/lang/Object;)V" } : Jvm.MethodName)) ∈ lw_tbl := lw_at lw_m11 42 rfl
theorem q3450 : (Jvm.Cond.interfaceMethod "java/util/ListIterator" "java/util/ListIterator" "add" "(Ljava/lang/Object;)V") ∈ lw_tbl := lw_at lw_m15 35 rfl
theorem q3451 : (Jvm.Cond.declares ({ cls := "java/util/ListIterator", name := "add", desc := "(Ljava/lang/Object;)V" } : Jvm.MethodName)) ∈ lw_tbl := lw_at lw_m15 36 rfl

theorem q1928 : (Jvm.Cond.interfaceMethod "java/util/function/Consumer" "java/util/function/Consumer" "accept" "(Ljava/lang/Object;)V") ∈ lw_tbl := lw_at lw_m8 193 rfl
set_option maxRecDepth 100000
theorem q1929 : (Jvm.Cond.declares ({ cls := "java/util/function/Consumer", name := "accept", desc := "(Ljava/lang/Object;)V" } : Jvm.MethodName)) ∈ lw_tbl := lw_at lw_m8 194 rfl

theorem q2554 : (Jvm.Cond.publicMethod ({ cls := "java/util/function/Function", name := "apply", desc := "(Ljava/lang/Object;)Ljava/lang/Object;" } : Jvm.MethodName)) ∈ lw_tbl := lw_at lw_m11 99 rfl
set_option maxRecDepth 100000
theorem q2555 : (Jvm.Cond.declares ({ cls := "java/util/function/Function", name := "apply", desc := "(Ljava/lang/Object;)Ljava/lang/Object;" } : Jvm.MethodName)) ∈ lw_tbl := lw_at lw_m11 100 rfl

theorem q3382 : (Jvm.Cond.interfaceMethod "java/util/function/Predicate" "java/util/function/Predicate" "test" "(Ljava/lang/Object;)Z") ∈ lw_tbl := lw_at lw_m14 207 rfl
set_option maxRecDepth 100000
theorem q3383 : (Jvm.Cond.declares ({ cls := "java/util/function/Predicate", name := "test", desc := "(Ljava/lang/Object;)Z" } : Jvm.MethodName)) ∈ lw_tbl := lw_at lw_m14 208 rfl

theorem q1335 : (Jvm.Cond.interfaceMethod "jdk/internal/access/JavaLangAccess" "jdk/internal/access/JavaLangAccess" "getUTF16Char" "([BI)C") ∈ lw_tbl := lw_at lw_m6 80 rfl
set_option maxRecDepth 100000
theorem q1336 : (Jvm.Cond.declares ({ cls := "jdk/internal/access/JavaLangAccess", name := "getUTF16Char", desc := "([BI)C" } : Jvm.MethodName)) ∈ lw_tbl := lw_at lw_m6 81 rfl

theorem q104 : (Jvm.Cond.initialized "jdk/internal/misc/UnsafeConstants") ∈ lw_all := lw_g (lw_at lw_m1 49 rfl) rfl
set_option maxRecDepth 100000
theorem q2768 : (Jvm.Cond.laysStatic "jdk/internal/misc/UnsafeConstants" "BIG_ENDIAN" "Z") ∈ lw_tbl := lw_at lw_m12 73 rfl

theorem q164 : (Jvm.Cond.arrayOver (Jvm.ClassFile.FieldType.object "java/lang/Integer")) ∈ lw_tbl := lw_at lw_m1 109 rfl
set_option maxRecDepth 100000
theorem q185 : (Jvm.Cond.arrayClass Jvm.ClassFile.FieldType.int) ∈ lw_all := lw_g (lw_at lw_m1 130 rfl) rfl
theorem q255 : (Jvm.Cond.arrayOver (Jvm.ClassFile.FieldType.object "java/lang/Object")) ∈ lw_tbl := lw_at lw_m1 200 rfl
theorem q529 : (Jvm.Cond.arrayClass Jvm.ClassFile.FieldType.byte) ∈ lw_all := lw_g (lw_at lw_m2 234 rfl) rfl
theorem q3426 : (Jvm.Cond.arrayClass Jvm.ClassFile.FieldType.long) ∈ lw_all := lw_g (lw_at lw_m15 11 rfl) rfl
theorem q3505 : (Jvm.Cond.arrayOver (Jvm.ClassFile.FieldType.array Jvm.ClassFile.FieldType.int)) ∈ lw_tbl := lw_at lw_m15 90 rfl
theorem q3941 : (Jvm.Cond.arrayClass Jvm.ClassFile.FieldType.char) ∈ lw_all := lw_g (lw_at lw_m17 46 rfl) rfl
theorem q3942 : (Jvm.Cond.arrayClass Jvm.ClassFile.FieldType.short) ∈ lw_all := lw_g (lw_at lw_m17 47 rfl) rfl
