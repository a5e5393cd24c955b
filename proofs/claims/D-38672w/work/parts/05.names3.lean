/-! java/util/AbstractCollection -/
set_option maxRecDepth 100000
def RJ0 : String := "java/util/AbstractCollection"
abbrev cJ0_init : ByteArray := prog_37_method_1_code
def yJ0_init : MethodName := ⟨RJ0, "<init>", "()V"⟩
theorem dJ0_init_0 : decode cJ0_init 0 = .ok (.aload_n 0, 1) := by decide +kernel
theorem dJ0_init_1 : decode cJ0_init 1 = .ok (.invokespecial 1, 3) := by decide +kernel
theorem dJ0_init_4 : decode cJ0_init 4 = .ok (.return_, 1) := by decide +kernel
abbrev cJ0_isEmpty : ByteArray := prog_37_method_4_code
def yJ0_isEmpty : MethodName := ⟨RJ0, "isEmpty", "()Z"⟩
def dkwJ0_isEmpty_0 : List UInt8 := [42, 182, 0, 7, 154, 0, 7, 4, 167, 0, 4, 3, 172]
abbrev dktJ0_isEmpty_0 : List UInt8 := dkwJ0_isEmpty_0 ++ []
theorem dksJ0_isEmpty_0 : cJ0_isEmpty.data.toList.drop 0 = dktJ0_isEmpty_0 := by decide +kernel
theorem dJ0_isEmpty_0 : decode cJ0_isEmpty 0 = .ok (.aload_n 0, 1) := dk_42 (dk_at dksJ0_isEmpty_0 0 rfl rfl)
theorem dJ0_isEmpty_1 : decode cJ0_isEmpty 1 = .ok (.invokevirtual 7, 3) := dk_182 0 7 (dk_at dksJ0_isEmpty_0 1 rfl rfl)
theorem dJ0_isEmpty_4 : decode cJ0_isEmpty 4 = .ok (.ifCond .ne 7, 3) := dk_154 0 7 (dk_at dksJ0_isEmpty_0 4 rfl rfl)
theorem dJ0_isEmpty_7 : decode cJ0_isEmpty 7 = .ok (.iconst 1, 1) := dk_4 (dk_at dksJ0_isEmpty_0 7 rfl rfl)
theorem dJ0_isEmpty_8 : decode cJ0_isEmpty 8 = .ok (.goto 4, 3) := dk_167 0 4 (dk_at dksJ0_isEmpty_0 8 rfl rfl)
theorem dJ0_isEmpty_11 : decode cJ0_isEmpty 11 = .ok (.iconst 0, 1) := dk_3 (dk_at dksJ0_isEmpty_0 11 rfl rfl)
theorem dJ0_isEmpty_12 : decode cJ0_isEmpty 12 = .ok (.ireturn, 1) := dk_172 (dk_at dksJ0_isEmpty_0 12 rfl rfl)
abbrev cJ0_contains : ByteArray := prog_37_method_5_code
def yJ0_contains : MethodName := ⟨RJ0, "contains", "(Ljava/lang/Object;)Z"⟩
def dkwJ0_contains_2 : List UInt8 := [153, 255, 237, 4, 172, 3, 172]
abbrev dktJ0_contains_2 : List UInt8 := dkwJ0_contains_2 ++ []
def dkwJ0_contains_1 : List UInt8 := [199, 255, 241, 4, 172, 44, 185, 0, 17, 1, 0, 153, 0, 18, 43, 44, 185, 0, 23, 1, 0, 182, 0, 27]
abbrev dktJ0_contains_1 : List UInt8 := dkwJ0_contains_1 ++ dktJ0_contains_2
def dkwJ0_contains_0 : List UInt8 := [42, 182, 0, 13, 77, 43, 199, 0, 23, 44, 185, 0, 17, 1, 0, 153, 0, 38, 44, 185, 0, 23, 1, 0]
abbrev dktJ0_contains_0 : List UInt8 := dkwJ0_contains_0 ++ dktJ0_contains_1
theorem dksJ0_contains_0 : cJ0_contains.data.toList.drop 0 = dktJ0_contains_0 := by decide +kernel
theorem dksJ0_contains_1 : cJ0_contains.data.toList.drop 24 = dktJ0_contains_1 := dk_seg dksJ0_contains_0 24 rfl rfl
theorem dksJ0_contains_2 : cJ0_contains.data.toList.drop 48 = dktJ0_contains_2 := dk_seg dksJ0_contains_1 24 rfl rfl
theorem dJ0_contains_0 : decode cJ0_contains 0 = .ok (.aload_n 0, 1) := dk_42 (dk_at dksJ0_contains_0 0 rfl rfl)
theorem dJ0_contains_1 : decode cJ0_contains 1 = .ok (.invokevirtual 13, 3) := dk_182 0 13 (dk_at dksJ0_contains_0 1 rfl rfl)
theorem dJ0_contains_4 : decode cJ0_contains 4 = .ok (.astore_n 2, 1) := dk_77 (dk_at dksJ0_contains_0 4 rfl rfl)
theorem dJ0_contains_5 : decode cJ0_contains 5 = .ok (.aload_n 1, 1) := dk_43 (dk_at dksJ0_contains_0 5 rfl rfl)
theorem dJ0_contains_6 : decode cJ0_contains 6 = .ok (.ifnonnull 23, 3) := dk_199 0 23 (dk_at dksJ0_contains_0 6 rfl rfl)
theorem dJ0_contains_9 : decode cJ0_contains 9 = .ok (.aload_n 2, 1) := dk_44 (dk_at dksJ0_contains_0 9 rfl rfl)
theorem dJ0_contains_10 : decode cJ0_contains 10 = .ok (.invokeinterface 17 1, 5) := by decide +kernel
theorem dJ0_contains_15 : decode cJ0_contains 15 = .ok (.ifCond .eq 38, 3) := dk_153 0 38 (dk_at dksJ0_contains_0 15 rfl rfl)
theorem dJ0_contains_18 : decode cJ0_contains 18 = .ok (.aload_n 2, 1) := dk_44 (dk_at dksJ0_contains_0 18 rfl rfl)
theorem dJ0_contains_19 : decode cJ0_contains 19 = .ok (.invokeinterface 23 1, 5) := by decide +kernel
theorem dJ0_contains_24 : decode cJ0_contains 24 = .ok (.ifnonnull (-15), 3) := dk_199 255 241 (dk_at dksJ0_contains_1 0 rfl rfl)
theorem dJ0_contains_27 : decode cJ0_contains 27 = .ok (.iconst 1, 1) := dk_4 (dk_at dksJ0_contains_1 3 rfl rfl)
theorem dJ0_contains_28 : decode cJ0_contains 28 = .ok (.ireturn, 1) := dk_172 (dk_at dksJ0_contains_1 4 rfl rfl)
theorem dJ0_contains_29 : decode cJ0_contains 29 = .ok (.aload_n 2, 1) := dk_44 (dk_at dksJ0_contains_1 5 rfl rfl)
theorem dJ0_contains_30 : decode cJ0_contains 30 = .ok (.invokeinterface 17 1, 5) := by decide +kernel
theorem dJ0_contains_35 : decode cJ0_contains 35 = .ok (.ifCond .eq 18, 3) := dk_153 0 18 (dk_at dksJ0_contains_1 11 rfl rfl)
theorem dJ0_contains_38 : decode cJ0_contains 38 = .ok (.aload_n 1, 1) := dk_43 (dk_at dksJ0_contains_1 14 rfl rfl)
theorem dJ0_contains_39 : decode cJ0_contains 39 = .ok (.aload_n 2, 1) := dk_44 (dk_at dksJ0_contains_1 15 rfl rfl)
theorem dJ0_contains_40 : decode cJ0_contains 40 = .ok (.invokeinterface 23 1, 5) := by decide +kernel
theorem dJ0_contains_45 : decode cJ0_contains 45 = .ok (.invokevirtual 27, 3) := dk_182 0 27 (dk_at dksJ0_contains_1 21 rfl rfl)
theorem dJ0_contains_48 : decode cJ0_contains 48 = .ok (.ifCond .eq (-19), 3) := dk_153 255 237 (dk_at dksJ0_contains_2 0 rfl rfl)
theorem dJ0_contains_51 : decode cJ0_contains 51 = .ok (.iconst 1, 1) := dk_4 (dk_at dksJ0_contains_2 3 rfl rfl)
theorem dJ0_contains_52 : decode cJ0_contains 52 = .ok (.ireturn, 1) := dk_172 (dk_at dksJ0_contains_2 4 rfl rfl)
theorem dJ0_contains_53 : decode cJ0_contains 53 = .ok (.iconst 0, 1) := dk_3 (dk_at dksJ0_contains_2 5 rfl rfl)
theorem dJ0_contains_54 : decode cJ0_contains 54 = .ok (.ireturn, 1) := dk_172 (dk_at dksJ0_contains_2 6 rfl rfl)
abbrev cJ0_containsAll : ByteArray := prog_37_method_11_code
def yJ0_containsAll : MethodName := ⟨RJ0, "containsAll", "(Ljava/util/Collection;)Z"⟩
def dkwJ0_containsAll_1 : List UInt8 := [45, 182, 0, 79, 154, 0, 5, 3, 172, 167, 255, 230, 4, 172]
abbrev dktJ0_containsAll_1 : List UInt8 := dkwJ0_containsAll_1 ++ []
def dkwJ0_containsAll_0 : List UInt8 := [43, 185, 0, 76, 1, 0, 77, 44, 185, 0, 17, 1, 0, 153, 0, 23, 44, 185, 0, 23, 1, 0, 78, 42]
abbrev dktJ0_containsAll_0 : List UInt8 := dkwJ0_containsAll_0 ++ dktJ0_containsAll_1
theorem dksJ0_containsAll_0 : cJ0_containsAll.data.toList.drop 0 = dktJ0_containsAll_0 := by decide +kernel
theorem dksJ0_containsAll_1 : cJ0_containsAll.data.toList.drop 24 = dktJ0_containsAll_1 := dk_seg dksJ0_containsAll_0 24 rfl rfl
theorem dJ0_containsAll_0 : decode cJ0_containsAll 0 = .ok (.aload_n 1, 1) := dk_43 (dk_at dksJ0_containsAll_0 0 rfl rfl)
theorem dJ0_containsAll_1 : decode cJ0_containsAll 1 = .ok (.invokeinterface 76 1, 5) := by decide +kernel
theorem dJ0_containsAll_6 : decode cJ0_containsAll 6 = .ok (.astore_n 2, 1) := dk_77 (dk_at dksJ0_containsAll_0 6 rfl rfl)
theorem dJ0_containsAll_7 : decode cJ0_containsAll 7 = .ok (.aload_n 2, 1) := dk_44 (dk_at dksJ0_containsAll_0 7 rfl rfl)
theorem dJ0_containsAll_8 : decode cJ0_containsAll 8 = .ok (.invokeinterface 17 1, 5) := by decide +kernel
theorem dJ0_containsAll_13 : decode cJ0_containsAll 13 = .ok (.ifCond .eq 23, 3) := dk_153 0 23 (dk_at dksJ0_containsAll_0 13 rfl rfl)
theorem dJ0_containsAll_16 : decode cJ0_containsAll 16 = .ok (.aload_n 2, 1) := dk_44 (dk_at dksJ0_containsAll_0 16 rfl rfl)
theorem dJ0_containsAll_17 : decode cJ0_containsAll 17 = .ok (.invokeinterface 23 1, 5) := by decide +kernel
theorem dJ0_containsAll_22 : decode cJ0_containsAll 22 = .ok (.astore_n 3, 1) := dk_78 (dk_at dksJ0_containsAll_0 22 rfl rfl)
theorem dJ0_containsAll_23 : decode cJ0_containsAll 23 = .ok (.aload_n 0, 1) := dk_42 (dk_at dksJ0_containsAll_0 23 rfl rfl)
theorem dJ0_containsAll_24 : decode cJ0_containsAll 24 = .ok (.aload_n 3, 1) := dk_45 (dk_at dksJ0_containsAll_1 0 rfl rfl)
theorem dJ0_containsAll_25 : decode cJ0_containsAll 25 = .ok (.invokevirtual 79, 3) := dk_182 0 79 (dk_at dksJ0_containsAll_1 1 rfl rfl)
theorem dJ0_containsAll_28 : decode cJ0_containsAll 28 = .ok (.ifCond .ne 5, 3) := dk_154 0 5 (dk_at dksJ0_containsAll_1 4 rfl rfl)
theorem dJ0_containsAll_31 : decode cJ0_containsAll 31 = .ok (.iconst 0, 1) := dk_3 (dk_at dksJ0_containsAll_1 7 rfl rfl)
theorem dJ0_containsAll_32 : decode cJ0_containsAll 32 = .ok (.ireturn, 1) := dk_172 (dk_at dksJ0_containsAll_1 8 rfl rfl)
theorem dJ0_containsAll_33 : decode cJ0_containsAll 33 = .ok (.goto (-26), 3) := dk_167 255 230 (dk_at dksJ0_containsAll_1 9 rfl rfl)
theorem dJ0_containsAll_36 : decode cJ0_containsAll 36 = .ok (.iconst 1, 1) := dk_4 (dk_at dksJ0_containsAll_1 12 rfl rfl)
theorem dJ0_containsAll_37 : decode cJ0_containsAll 37 = .ok (.ireturn, 1) := dk_172 (dk_at dksJ0_containsAll_1 13 rfl rfl)
abbrev cJ0_toArray : ByteArray := prog_37_method_6_code
def yJ0_toArray : MethodName := ⟨RJ0, "toArray", "()[Ljava/lang/Object;"⟩
def dkwJ0_toArray_3 : List UInt8 := [176]
abbrev dktJ0_toArray_3 : List UInt8 := dkwJ0_toArray_3 ++ []
def dkwJ0_toArray_2 : List UInt8 := [132, 3, 1, 167, 255, 223, 44, 185, 0, 17, 1, 0, 153, 0, 11, 43, 44, 184, 0, 37, 167, 0, 4, 43]
abbrev dktJ0_toArray_2 : List UInt8 := dkwJ0_toArray_2 ++ dktJ0_toArray_3
def dkwJ0_toArray_1 : List UInt8 := [185, 0, 17, 1, 0, 154, 0, 9, 43, 29, 184, 0, 31, 176, 43, 29, 44, 185, 0, 23, 1, 0, 83]
abbrev dktJ0_toArray_1 : List UInt8 := dkwJ0_toArray_1 ++ dktJ0_toArray_2
def dkwJ0_toArray_0 : List UInt8 := [42, 182, 0, 7, 189, 0, 2, 76, 42, 182, 0, 13, 77, 3, 62, 29, 43, 190, 162, 0, 33, 44]
abbrev dktJ0_toArray_0 : List UInt8 := dkwJ0_toArray_0 ++ dktJ0_toArray_1
theorem dksJ0_toArray_0 : cJ0_toArray.data.toList.drop 0 = dktJ0_toArray_0 := by decide +kernel
theorem dksJ0_toArray_1 : cJ0_toArray.data.toList.drop 22 = dktJ0_toArray_1 := dk_seg dksJ0_toArray_0 22 rfl rfl
theorem dksJ0_toArray_2 : cJ0_toArray.data.toList.drop 45 = dktJ0_toArray_2 := dk_seg dksJ0_toArray_1 23 rfl rfl
theorem dksJ0_toArray_3 : cJ0_toArray.data.toList.drop 69 = dktJ0_toArray_3 := dk_seg dksJ0_toArray_2 24 rfl rfl
theorem dJ0_toArray_0 : decode cJ0_toArray 0 = .ok (.aload_n 0, 1) := dk_42 (dk_at dksJ0_toArray_0 0 rfl rfl)
theorem dJ0_toArray_1 : decode cJ0_toArray 1 = .ok (.invokevirtual 7, 3) := dk_182 0 7 (dk_at dksJ0_toArray_0 1 rfl rfl)
theorem dJ0_toArray_4 : decode cJ0_toArray 4 = .ok (.anewarray 2, 3) := dk_189 0 2 (dk_at dksJ0_toArray_0 4 rfl rfl)
theorem dJ0_toArray_7 : decode cJ0_toArray 7 = .ok (.astore_n 1, 1) := dk_76 (dk_at dksJ0_toArray_0 7 rfl rfl)
theorem dJ0_toArray_8 : decode cJ0_toArray 8 = .ok (.aload_n 0, 1) := dk_42 (dk_at dksJ0_toArray_0 8 rfl rfl)
theorem dJ0_toArray_9 : decode cJ0_toArray 9 = .ok (.invokevirtual 13, 3) := dk_182 0 13 (dk_at dksJ0_toArray_0 9 rfl rfl)
theorem dJ0_toArray_12 : decode cJ0_toArray 12 = .ok (.astore_n 2, 1) := dk_77 (dk_at dksJ0_toArray_0 12 rfl rfl)
theorem dJ0_toArray_13 : decode cJ0_toArray 13 = .ok (.iconst 0, 1) := dk_3 (dk_at dksJ0_toArray_0 13 rfl rfl)
theorem dJ0_toArray_14 : decode cJ0_toArray 14 = .ok (.istore_n 3, 1) := dk_62 (dk_at dksJ0_toArray_0 14 rfl rfl)
theorem dJ0_toArray_15 : decode cJ0_toArray 15 = .ok (.iload_n 3, 1) := dk_29 (dk_at dksJ0_toArray_0 15 rfl rfl)
theorem dJ0_toArray_16 : decode cJ0_toArray 16 = .ok (.aload_n 1, 1) := dk_43 (dk_at dksJ0_toArray_0 16 rfl rfl)
theorem dJ0_toArray_17 : decode cJ0_toArray 17 = .ok (.arraylength, 1) := dk_190 (dk_at dksJ0_toArray_0 17 rfl rfl)
theorem dJ0_toArray_18 : decode cJ0_toArray 18 = .ok (.if_icmp .ge 33, 3) := dk_162 0 33 (dk_at dksJ0_toArray_0 18 rfl rfl)
theorem dJ0_toArray_21 : decode cJ0_toArray 21 = .ok (.aload_n 2, 1) := dk_44 (dk_at dksJ0_toArray_0 21 rfl rfl)
theorem dJ0_toArray_22 : decode cJ0_toArray 22 = .ok (.invokeinterface 17 1, 5) := by decide +kernel
theorem dJ0_toArray_27 : decode cJ0_toArray 27 = .ok (.ifCond .ne 9, 3) := dk_154 0 9 (dk_at dksJ0_toArray_1 5 rfl rfl)
theorem dJ0_toArray_30 : decode cJ0_toArray 30 = .ok (.aload_n 1, 1) := dk_43 (dk_at dksJ0_toArray_1 8 rfl rfl)
theorem dJ0_toArray_31 : decode cJ0_toArray 31 = .ok (.iload_n 3, 1) := dk_29 (dk_at dksJ0_toArray_1 9 rfl rfl)
theorem dJ0_toArray_32 : decode cJ0_toArray 32 = .ok (.invokestatic 31, 3) := dk_184 0 31 (dk_at dksJ0_toArray_1 10 rfl rfl)
theorem dJ0_toArray_35 : decode cJ0_toArray 35 = .ok (.areturn, 1) := dk_176 (dk_at dksJ0_toArray_1 13 rfl rfl)
theorem dJ0_toArray_36 : decode cJ0_toArray 36 = .ok (.aload_n 1, 1) := dk_43 (dk_at dksJ0_toArray_1 14 rfl rfl)
theorem dJ0_toArray_37 : decode cJ0_toArray 37 = .ok (.iload_n 3, 1) := dk_29 (dk_at dksJ0_toArray_1 15 rfl rfl)
theorem dJ0_toArray_38 : decode cJ0_toArray 38 = .ok (.aload_n 2, 1) := dk_44 (dk_at dksJ0_toArray_1 16 rfl rfl)
theorem dJ0_toArray_39 : decode cJ0_toArray 39 = .ok (.invokeinterface 23 1, 5) := by decide +kernel
theorem dJ0_toArray_44 : decode cJ0_toArray 44 = .ok (.aastore, 1) := dk_83 (dk_at dksJ0_toArray_1 22 rfl rfl)
theorem dJ0_toArray_45 : decode cJ0_toArray 45 = .ok (.iinc 3 1, 3) := dk_132 3 1 (dk_at dksJ0_toArray_2 0 rfl rfl)
theorem dJ0_toArray_48 : decode cJ0_toArray 48 = .ok (.goto (-33), 3) := dk_167 255 223 (dk_at dksJ0_toArray_2 3 rfl rfl)
theorem dJ0_toArray_51 : decode cJ0_toArray 51 = .ok (.aload_n 2, 1) := dk_44 (dk_at dksJ0_toArray_2 6 rfl rfl)
theorem dJ0_toArray_52 : decode cJ0_toArray 52 = .ok (.invokeinterface 17 1, 5) := by decide +kernel
theorem dJ0_toArray_57 : decode cJ0_toArray 57 = .ok (.ifCond .eq 11, 3) := dk_153 0 11 (dk_at dksJ0_toArray_2 12 rfl rfl)
theorem dJ0_toArray_60 : decode cJ0_toArray 60 = .ok (.aload_n 1, 1) := dk_43 (dk_at dksJ0_toArray_2 15 rfl rfl)
theorem dJ0_toArray_61 : decode cJ0_toArray 61 = .ok (.aload_n 2, 1) := dk_44 (dk_at dksJ0_toArray_2 16 rfl rfl)
theorem dJ0_toArray_62 : decode cJ0_toArray 62 = .ok (.invokestatic 37, 3) := dk_184 0 37 (dk_at dksJ0_toArray_2 17 rfl rfl)
theorem dJ0_toArray_65 : decode cJ0_toArray 65 = .ok (.goto 4, 3) := dk_167 0 4 (dk_at dksJ0_toArray_2 20 rfl rfl)
theorem dJ0_toArray_68 : decode cJ0_toArray 68 = .ok (.aload_n 1, 1) := dk_43 (dk_at dksJ0_toArray_2 23 rfl rfl)
theorem dJ0_toArray_69 : decode cJ0_toArray 69 = .ok (.areturn, 1) := dk_176 (dk_at dksJ0_toArray_3 0 rfl rfl)
abbrev cJ0_finishToArray : ByteArray := prog_37_method_8_code
def yJ0_finishToArray : MethodName := ⟨RJ0, "finishToArray", "([Ljava/lang/Object;Ljava/util/Iterator;)[Ljava/lang/Object;"⟩
def dkwJ0_finishToArray_2 : List UInt8 := [167, 255, 213, 29, 28, 160, 0, 7, 42, 167, 0, 8, 42, 29, 184, 0, 31, 176]
abbrev dktJ0_finishToArray_2 : List UInt8 := dkwJ0_finishToArray_2 ++ []
def dkwJ0_finishToArray_1 : List UInt8 := [4, 96, 184, 0, 64, 61, 42, 28, 184, 0, 31, 75, 42, 29, 132, 3, 1, 43, 185, 0, 23, 1, 0, 83]
abbrev dktJ0_finishToArray_1 : List UInt8 := dkwJ0_finishToArray_1 ++ dktJ0_finishToArray_2
def dkwJ0_finishToArray_0 : List UInt8 := [42, 190, 61, 28, 62, 43, 185, 0, 17, 1, 0, 153, 0, 40, 29, 28, 160, 0, 20, 28, 4, 28, 4, 122]
abbrev dktJ0_finishToArray_0 : List UInt8 := dkwJ0_finishToArray_0 ++ dktJ0_finishToArray_1
theorem dksJ0_finishToArray_0 : cJ0_finishToArray.data.toList.drop 0 = dktJ0_finishToArray_0 := by decide +kernel
theorem dksJ0_finishToArray_1 : cJ0_finishToArray.data.toList.drop 24 = dktJ0_finishToArray_1 := dk_seg dksJ0_finishToArray_0 24 rfl rfl
theorem dksJ0_finishToArray_2 : cJ0_finishToArray.data.toList.drop 48 = dktJ0_finishToArray_2 := dk_seg dksJ0_finishToArray_1 24 rfl rfl
theorem dJ0_finishToArray_0 : decode cJ0_finishToArray 0 = .ok (.aload_n 0, 1) := dk_42 (dk_at dksJ0_finishToArray_0 0 rfl rfl)
theorem dJ0_finishToArray_1 : decode cJ0_finishToArray 1 = .ok (.arraylength, 1) := dk_190 (dk_at dksJ0_finishToArray_0 1 rfl rfl)
theorem dJ0_finishToArray_2 : decode cJ0_finishToArray 2 = .ok (.istore_n 2, 1) := dk_61 (dk_at dksJ0_finishToArray_0 2 rfl rfl)
theorem dJ0_finishToArray_3 : decode cJ0_finishToArray 3 = .ok (.iload_n 2, 1) := dk_28 (dk_at dksJ0_finishToArray_0 3 rfl rfl)
theorem dJ0_finishToArray_4 : decode cJ0_finishToArray 4 = .ok (.istore_n 3, 1) := dk_62 (dk_at dksJ0_finishToArray_0 4 rfl rfl)
theorem dJ0_finishToArray_5 : decode cJ0_finishToArray 5 = .ok (.aload_n 1, 1) := dk_43 (dk_at dksJ0_finishToArray_0 5 rfl rfl)
theorem dJ0_finishToArray_6 : decode cJ0_finishToArray 6 = .ok (.invokeinterface 17 1, 5) := by decide +kernel
theorem dJ0_finishToArray_11 : decode cJ0_finishToArray 11 = .ok (.ifCond .eq 40, 3) := dk_153 0 40 (dk_at dksJ0_finishToArray_0 11 rfl rfl)
theorem dJ0_finishToArray_14 : decode cJ0_finishToArray 14 = .ok (.iload_n 3, 1) := dk_29 (dk_at dksJ0_finishToArray_0 14 rfl rfl)
theorem dJ0_finishToArray_15 : decode cJ0_finishToArray 15 = .ok (.iload_n 2, 1) := dk_28 (dk_at dksJ0_finishToArray_0 15 rfl rfl)
theorem dJ0_finishToArray_16 : decode cJ0_finishToArray 16 = .ok (.if_icmp .ne 20, 3) := dk_160 0 20 (dk_at dksJ0_finishToArray_0 16 rfl rfl)
theorem dJ0_finishToArray_19 : decode cJ0_finishToArray 19 = .ok (.iload_n 2, 1) := dk_28 (dk_at dksJ0_finishToArray_0 19 rfl rfl)
theorem dJ0_finishToArray_20 : decode cJ0_finishToArray 20 = .ok (.iconst 1, 1) := dk_4 (dk_at dksJ0_finishToArray_0 20 rfl rfl)
theorem dJ0_finishToArray_21 : decode cJ0_finishToArray 21 = .ok (.iload_n 2, 1) := dk_28 (dk_at dksJ0_finishToArray_0 21 rfl rfl)
theorem dJ0_finishToArray_22 : decode cJ0_finishToArray 22 = .ok (.iconst 1, 1) := dk_4 (dk_at dksJ0_finishToArray_0 22 rfl rfl)
theorem dJ0_finishToArray_23 : decode cJ0_finishToArray 23 = .ok (.ishr, 1) := dk_122 (dk_at dksJ0_finishToArray_0 23 rfl rfl)
theorem dJ0_finishToArray_24 : decode cJ0_finishToArray 24 = .ok (.iconst 1, 1) := dk_4 (dk_at dksJ0_finishToArray_1 0 rfl rfl)
theorem dJ0_finishToArray_25 : decode cJ0_finishToArray 25 = .ok (.iadd, 1) := dk_96 (dk_at dksJ0_finishToArray_1 1 rfl rfl)
theorem dJ0_finishToArray_26 : decode cJ0_finishToArray 26 = .ok (.invokestatic 64, 3) := dk_184 0 64 (dk_at dksJ0_finishToArray_1 2 rfl rfl)
theorem dJ0_finishToArray_29 : decode cJ0_finishToArray 29 = .ok (.istore_n 2, 1) := dk_61 (dk_at dksJ0_finishToArray_1 5 rfl rfl)
theorem dJ0_finishToArray_30 : decode cJ0_finishToArray 30 = .ok (.aload_n 0, 1) := dk_42 (dk_at dksJ0_finishToArray_1 6 rfl rfl)
theorem dJ0_finishToArray_31 : decode cJ0_finishToArray 31 = .ok (.iload_n 2, 1) := dk_28 (dk_at dksJ0_finishToArray_1 7 rfl rfl)
theorem dJ0_finishToArray_32 : decode cJ0_finishToArray 32 = .ok (.invokestatic 31, 3) := dk_184 0 31 (dk_at dksJ0_finishToArray_1 8 rfl rfl)
theorem dJ0_finishToArray_35 : decode cJ0_finishToArray 35 = .ok (.astore_n 0, 1) := dk_75 (dk_at dksJ0_finishToArray_1 11 rfl rfl)
theorem dJ0_finishToArray_36 : decode cJ0_finishToArray 36 = .ok (.aload_n 0, 1) := dk_42 (dk_at dksJ0_finishToArray_1 12 rfl rfl)
theorem dJ0_finishToArray_37 : decode cJ0_finishToArray 37 = .ok (.iload_n 3, 1) := dk_29 (dk_at dksJ0_finishToArray_1 13 rfl rfl)
theorem dJ0_finishToArray_38 : decode cJ0_finishToArray 38 = .ok (.iinc 3 1, 3) := dk_132 3 1 (dk_at dksJ0_finishToArray_1 14 rfl rfl)
theorem dJ0_finishToArray_41 : decode cJ0_finishToArray 41 = .ok (.aload_n 1, 1) := dk_43 (dk_at dksJ0_finishToArray_1 17 rfl rfl)
theorem dJ0_finishToArray_42 : decode cJ0_finishToArray 42 = .ok (.invokeinterface 23 1, 5) := by decide +kernel
theorem dJ0_finishToArray_47 : decode cJ0_finishToArray 47 = .ok (.aastore, 1) := dk_83 (dk_at dksJ0_finishToArray_1 23 rfl rfl)
theorem dJ0_finishToArray_48 : decode cJ0_finishToArray 48 = .ok (.goto (-43), 3) := dk_167 255 213 (dk_at dksJ0_finishToArray_2 0 rfl rfl)
theorem dJ0_finishToArray_51 : decode cJ0_finishToArray 51 = .ok (.iload_n 3, 1) := dk_29 (dk_at dksJ0_finishToArray_2 3 rfl rfl)
theorem dJ0_finishToArray_52 : decode cJ0_finishToArray 52 = .ok (.iload_n 2, 1) := dk_28 (dk_at dksJ0_finishToArray_2 4 rfl rfl)
theorem dJ0_finishToArray_53 : decode cJ0_finishToArray 53 = .ok (.if_icmp .ne 7, 3) := dk_160 0 7 (dk_at dksJ0_finishToArray_2 5 rfl rfl)
theorem dJ0_finishToArray_56 : decode cJ0_finishToArray 56 = .ok (.aload_n 0, 1) := dk_42 (dk_at dksJ0_finishToArray_2 8 rfl rfl)
theorem dJ0_finishToArray_57 : decode cJ0_finishToArray 57 = .ok (.goto 8, 3) := dk_167 0 8 (dk_at dksJ0_finishToArray_2 9 rfl rfl)
theorem dJ0_finishToArray_60 : decode cJ0_finishToArray 60 = .ok (.aload_n 0, 1) := dk_42 (dk_at dksJ0_finishToArray_2 12 rfl rfl)
theorem dJ0_finishToArray_61 : decode cJ0_finishToArray 61 = .ok (.iload_n 3, 1) := dk_29 (dk_at dksJ0_finishToArray_2 13 rfl rfl)
theorem dJ0_finishToArray_62 : decode cJ0_finishToArray 62 = .ok (.invokestatic 31, 3) := dk_184 0 31 (dk_at dksJ0_finishToArray_2 14 rfl rfl)
theorem dJ0_finishToArray_65 : decode cJ0_finishToArray 65 = .ok (.areturn, 1) := dk_176 (dk_at dksJ0_finishToArray_2 17 rfl rfl)
abbrev cJ0_addAll : ByteArray := prog_37_method_12_code
def yJ0_addAll : MethodName := ⟨RJ0, "addAll", "(Ljava/util/Collection;)Z"⟩
def dkwJ0_addAll_1 : List UInt8 := [58, 4, 42, 25, 4, 182, 0, 82, 153, 0, 5, 4, 61, 167, 255, 228, 28, 172]
abbrev dktJ0_addAll_1 : List UInt8 := dkwJ0_addAll_1 ++ []
def dkwJ0_addAll_0 : List UInt8 := [3, 61, 43, 185, 0, 76, 1, 0, 78, 45, 185, 0, 17, 1, 0, 153, 0, 25, 45, 185, 0, 23, 1, 0]
abbrev dktJ0_addAll_0 : List UInt8 := dkwJ0_addAll_0 ++ dktJ0_addAll_1
theorem dksJ0_addAll_0 : cJ0_addAll.data.toList.drop 0 = dktJ0_addAll_0 := by decide +kernel
theorem dksJ0_addAll_1 : cJ0_addAll.data.toList.drop 24 = dktJ0_addAll_1 := dk_seg dksJ0_addAll_0 24 rfl rfl
theorem dJ0_addAll_0 : decode cJ0_addAll 0 = .ok (.iconst 0, 1) := dk_3 (dk_at dksJ0_addAll_0 0 rfl rfl)
theorem dJ0_addAll_1 : decode cJ0_addAll 1 = .ok (.istore_n 2, 1) := dk_61 (dk_at dksJ0_addAll_0 1 rfl rfl)
theorem dJ0_addAll_2 : decode cJ0_addAll 2 = .ok (.aload_n 1, 1) := dk_43 (dk_at dksJ0_addAll_0 2 rfl rfl)
theorem dJ0_addAll_3 : decode cJ0_addAll 3 = .ok (.invokeinterface 76 1, 5) := by decide +kernel
theorem dJ0_addAll_8 : decode cJ0_addAll 8 = .ok (.astore_n 3, 1) := dk_78 (dk_at dksJ0_addAll_0 8 rfl rfl)
theorem dJ0_addAll_9 : decode cJ0_addAll 9 = .ok (.aload_n 3, 1) := dk_45 (dk_at dksJ0_addAll_0 9 rfl rfl)
theorem dJ0_addAll_10 : decode cJ0_addAll 10 = .ok (.invokeinterface 17 1, 5) := by decide +kernel
theorem dJ0_addAll_15 : decode cJ0_addAll 15 = .ok (.ifCond .eq 25, 3) := dk_153 0 25 (dk_at dksJ0_addAll_0 15 rfl rfl)
theorem dJ0_addAll_18 : decode cJ0_addAll 18 = .ok (.aload_n 3, 1) := dk_45 (dk_at dksJ0_addAll_0 18 rfl rfl)
theorem dJ0_addAll_19 : decode cJ0_addAll 19 = .ok (.invokeinterface 23 1, 5) := by decide +kernel
theorem dJ0_addAll_24 : decode cJ0_addAll 24 = .ok (.astore 4, 2) := dk_58 4 (dk_at dksJ0_addAll_1 0 rfl rfl)
theorem dJ0_addAll_26 : decode cJ0_addAll 26 = .ok (.aload_n 0, 1) := dk_42 (dk_at dksJ0_addAll_1 2 rfl rfl)
theorem dJ0_addAll_27 : decode cJ0_addAll 27 = .ok (.aload 4, 2) := dk_25 4 (dk_at dksJ0_addAll_1 3 rfl rfl)
theorem dJ0_addAll_29 : decode cJ0_addAll 29 = .ok (.invokevirtual 82, 3) := dk_182 0 82 (dk_at dksJ0_addAll_1 5 rfl rfl)
theorem dJ0_addAll_32 : decode cJ0_addAll 32 = .ok (.ifCond .eq 5, 3) := dk_153 0 5 (dk_at dksJ0_addAll_1 8 rfl rfl)
theorem dJ0_addAll_35 : decode cJ0_addAll 35 = .ok (.iconst 1, 1) := dk_4 (dk_at dksJ0_addAll_1 11 rfl rfl)
theorem dJ0_addAll_36 : decode cJ0_addAll 36 = .ok (.istore_n 2, 1) := dk_61 (dk_at dksJ0_addAll_1 12 rfl rfl)
theorem dJ0_addAll_37 : decode cJ0_addAll 37 = .ok (.goto (-28), 3) := dk_167 255 228 (dk_at dksJ0_addAll_1 13 rfl rfl)
theorem dJ0_addAll_40 : decode cJ0_addAll 40 = .ok (.iload_n 2, 1) := dk_28 (dk_at dksJ0_addAll_1 16 rfl rfl)
theorem dJ0_addAll_41 : decode cJ0_addAll 41 = .ok (.ireturn, 1) := dk_172 (dk_at dksJ0_addAll_1 17 rfl rfl)
abbrev cJ0_remove : ByteArray := prog_37_method_10_code
def yJ0_remove : MethodName := ⟨RJ0, "remove", "(Ljava/lang/Object;)Z"⟩
def dkwJ0_remove_2 : List UInt8 := [185, 0, 23, 1, 0, 182, 0, 27, 153, 255, 237, 44, 185, 0, 73, 1, 0, 4, 172, 3, 172]
abbrev dktJ0_remove_2 : List UInt8 := dkwJ0_remove_2 ++ []
def dkwJ0_remove_1 : List UInt8 := [199, 255, 241, 44, 185, 0, 73, 1, 0, 4, 172, 44, 185, 0, 17, 1, 0, 153, 0, 24, 43, 44]
abbrev dktJ0_remove_1 : List UInt8 := dkwJ0_remove_1 ++ dktJ0_remove_2
def dkwJ0_remove_0 : List UInt8 := [42, 182, 0, 13, 77, 43, 199, 0, 29, 44, 185, 0, 17, 1, 0, 153, 0, 50, 44, 185, 0, 23, 1, 0]
abbrev dktJ0_remove_0 : List UInt8 := dkwJ0_remove_0 ++ dktJ0_remove_1
theorem dksJ0_remove_0 : cJ0_remove.data.toList.drop 0 = dktJ0_remove_0 := by decide +kernel
theorem dksJ0_remove_1 : cJ0_remove.data.toList.drop 24 = dktJ0_remove_1 := dk_seg dksJ0_remove_0 24 rfl rfl
theorem dksJ0_remove_2 : cJ0_remove.data.toList.drop 46 = dktJ0_remove_2 := dk_seg dksJ0_remove_1 22 rfl rfl
theorem dJ0_remove_0 : decode cJ0_remove 0 = .ok (.aload_n 0, 1) := dk_42 (dk_at dksJ0_remove_0 0 rfl rfl)
theorem dJ0_remove_1 : decode cJ0_remove 1 = .ok (.invokevirtual 13, 3) := dk_182 0 13 (dk_at dksJ0_remove_0 1 rfl rfl)
theorem dJ0_remove_4 : decode cJ0_remove 4 = .ok (.astore_n 2, 1) := dk_77 (dk_at dksJ0_remove_0 4 rfl rfl)
theorem dJ0_remove_5 : decode cJ0_remove 5 = .ok (.aload_n 1, 1) := dk_43 (dk_at dksJ0_remove_0 5 rfl rfl)
theorem dJ0_remove_6 : decode cJ0_remove 6 = .ok (.ifnonnull 29, 3) := dk_199 0 29 (dk_at dksJ0_remove_0 6 rfl rfl)
theorem dJ0_remove_9 : decode cJ0_remove 9 = .ok (.aload_n 2, 1) := dk_44 (dk_at dksJ0_remove_0 9 rfl rfl)
theorem dJ0_remove_10 : decode cJ0_remove 10 = .ok (.invokeinterface 17 1, 5) := by decide +kernel
theorem dJ0_remove_15 : decode cJ0_remove 15 = .ok (.ifCond .eq 50, 3) := dk_153 0 50 (dk_at dksJ0_remove_0 15 rfl rfl)
theorem dJ0_remove_18 : decode cJ0_remove 18 = .ok (.aload_n 2, 1) := dk_44 (dk_at dksJ0_remove_0 18 rfl rfl)
theorem dJ0_remove_19 : decode cJ0_remove 19 = .ok (.invokeinterface 23 1, 5) := by decide +kernel
theorem dJ0_remove_24 : decode cJ0_remove 24 = .ok (.ifnonnull (-15), 3) := dk_199 255 241 (dk_at dksJ0_remove_1 0 rfl rfl)
theorem dJ0_remove_27 : decode cJ0_remove 27 = .ok (.aload_n 2, 1) := dk_44 (dk_at dksJ0_remove_1 3 rfl rfl)
theorem dJ0_remove_28 : decode cJ0_remove 28 = .ok (.invokeinterface 73 1, 5) := by decide +kernel
theorem dJ0_remove_33 : decode cJ0_remove 33 = .ok (.iconst 1, 1) := dk_4 (dk_at dksJ0_remove_1 9 rfl rfl)
theorem dJ0_remove_34 : decode cJ0_remove 34 = .ok (.ireturn, 1) := dk_172 (dk_at dksJ0_remove_1 10 rfl rfl)
theorem dJ0_remove_35 : decode cJ0_remove 35 = .ok (.aload_n 2, 1) := dk_44 (dk_at dksJ0_remove_1 11 rfl rfl)
theorem dJ0_remove_36 : decode cJ0_remove 36 = .ok (.invokeinterface 17 1, 5) := by decide +kernel
theorem dJ0_remove_41 : decode cJ0_remove 41 = .ok (.ifCond .eq 24, 3) := dk_153 0 24 (dk_at dksJ0_remove_1 17 rfl rfl)
theorem dJ0_remove_44 : decode cJ0_remove 44 = .ok (.aload_n 1, 1) := dk_43 (dk_at dksJ0_remove_1 20 rfl rfl)
theorem dJ0_remove_45 : decode cJ0_remove 45 = .ok (.aload_n 2, 1) := dk_44 (dk_at dksJ0_remove_1 21 rfl rfl)
theorem dJ0_remove_46 : decode cJ0_remove 46 = .ok (.invokeinterface 23 1, 5) := by decide +kernel
theorem dJ0_remove_51 : decode cJ0_remove 51 = .ok (.invokevirtual 27, 3) := dk_182 0 27 (dk_at dksJ0_remove_2 5 rfl rfl)
theorem dJ0_remove_54 : decode cJ0_remove 54 = .ok (.ifCond .eq (-19), 3) := dk_153 255 237 (dk_at dksJ0_remove_2 8 rfl rfl)
theorem dJ0_remove_57 : decode cJ0_remove 57 = .ok (.aload_n 2, 1) := dk_44 (dk_at dksJ0_remove_2 11 rfl rfl)
theorem dJ0_remove_58 : decode cJ0_remove 58 = .ok (.invokeinterface 73 1, 5) := by decide +kernel
theorem dJ0_remove_63 : decode cJ0_remove 63 = .ok (.iconst 1, 1) := dk_4 (dk_at dksJ0_remove_2 17 rfl rfl)
theorem dJ0_remove_64 : decode cJ0_remove 64 = .ok (.ireturn, 1) := dk_172 (dk_at dksJ0_remove_2 18 rfl rfl)
theorem dJ0_remove_65 : decode cJ0_remove 65 = .ok (.iconst 0, 1) := dk_3 (dk_at dksJ0_remove_2 19 rfl rfl)
theorem dJ0_remove_66 : decode cJ0_remove 66 = .ok (.ireturn, 1) := dk_172 (dk_at dksJ0_remove_2 20 rfl rfl)
abbrev cJ0_removeAll : ByteArray := prog_37_method_13_code
def yJ0_removeAll : MethodName := ⟨RJ0, "removeAll", "(Ljava/util/Collection;)Z"⟩
def dkwJ0_removeAll_2 : List UInt8 := [28, 172]
abbrev dktJ0_removeAll_2 : List UInt8 := dkwJ0_removeAll_2 ++ []
def dkwJ0_removeAll_1 : List UInt8 := [185, 0, 23, 1, 0, 185, 0, 91, 2, 0, 153, 255, 235, 45, 185, 0, 73, 1, 0, 4, 61, 167, 255, 224]
abbrev dktJ0_removeAll_1 : List UInt8 := dkwJ0_removeAll_1 ++ dktJ0_removeAll_2
def dkwJ0_removeAll_0 : List UInt8 := [43, 184, 0, 85, 87, 3, 61, 42, 182, 0, 13, 78, 45, 185, 0, 17, 1, 0, 153, 0, 29, 43, 45]
abbrev dktJ0_removeAll_0 : List UInt8 := dkwJ0_removeAll_0 ++ dktJ0_removeAll_1
theorem dksJ0_removeAll_0 : cJ0_removeAll.data.toList.drop 0 = dktJ0_removeAll_0 := by decide +kernel
theorem dksJ0_removeAll_1 : cJ0_removeAll.data.toList.drop 23 = dktJ0_removeAll_1 := dk_seg dksJ0_removeAll_0 23 rfl rfl
theorem dksJ0_removeAll_2 : cJ0_removeAll.data.toList.drop 47 = dktJ0_removeAll_2 := dk_seg dksJ0_removeAll_1 24 rfl rfl
theorem dJ0_removeAll_0 : decode cJ0_removeAll 0 = .ok (.aload_n 1, 1) := dk_43 (dk_at dksJ0_removeAll_0 0 rfl rfl)
theorem dJ0_removeAll_1 : decode cJ0_removeAll 1 = .ok (.invokestatic 85, 3) := dk_184 0 85 (dk_at dksJ0_removeAll_0 1 rfl rfl)
theorem dJ0_removeAll_4 : decode cJ0_removeAll 4 = .ok (.pop, 1) := dk_87 (dk_at dksJ0_removeAll_0 4 rfl rfl)
theorem dJ0_removeAll_5 : decode cJ0_removeAll 5 = .ok (.iconst 0, 1) := dk_3 (dk_at dksJ0_removeAll_0 5 rfl rfl)
theorem dJ0_removeAll_6 : decode cJ0_removeAll 6 = .ok (.istore_n 2, 1) := dk_61 (dk_at dksJ0_removeAll_0 6 rfl rfl)
theorem dJ0_removeAll_7 : decode cJ0_removeAll 7 = .ok (.aload_n 0, 1) := dk_42 (dk_at dksJ0_removeAll_0 7 rfl rfl)
theorem dJ0_removeAll_8 : decode cJ0_removeAll 8 = .ok (.invokevirtual 13, 3) := dk_182 0 13 (dk_at dksJ0_removeAll_0 8 rfl rfl)
theorem dJ0_removeAll_11 : decode cJ0_removeAll 11 = .ok (.astore_n 3, 1) := dk_78 (dk_at dksJ0_removeAll_0 11 rfl rfl)
theorem dJ0_removeAll_12 : decode cJ0_removeAll 12 = .ok (.aload_n 3, 1) := dk_45 (dk_at dksJ0_removeAll_0 12 rfl rfl)
theorem dJ0_removeAll_13 : decode cJ0_removeAll 13 = .ok (.invokeinterface 17 1, 5) := by decide +kernel
theorem dJ0_removeAll_18 : decode cJ0_removeAll 18 = .ok (.ifCond .eq 29, 3) := dk_153 0 29 (dk_at dksJ0_removeAll_0 18 rfl rfl)
theorem dJ0_removeAll_21 : decode cJ0_removeAll 21 = .ok (.aload_n 1, 1) := dk_43 (dk_at dksJ0_removeAll_0 21 rfl rfl)
theorem dJ0_removeAll_22 : decode cJ0_removeAll 22 = .ok (.aload_n 3, 1) := dk_45 (dk_at dksJ0_removeAll_0 22 rfl rfl)
theorem dJ0_removeAll_23 : decode cJ0_removeAll 23 = .ok (.invokeinterface 23 1, 5) := by decide +kernel
theorem dJ0_removeAll_28 : decode cJ0_removeAll 28 = .ok (.invokeinterface 91 2, 5) := by decide +kernel
theorem dJ0_removeAll_33 : decode cJ0_removeAll 33 = .ok (.ifCond .eq (-21), 3) := dk_153 255 235 (dk_at dksJ0_removeAll_1 10 rfl rfl)
theorem dJ0_removeAll_36 : decode cJ0_removeAll 36 = .ok (.aload_n 3, 1) := dk_45 (dk_at dksJ0_removeAll_1 13 rfl rfl)
theorem dJ0_removeAll_37 : decode cJ0_removeAll 37 = .ok (.invokeinterface 73 1, 5) := by decide +kernel
theorem dJ0_removeAll_42 : decode cJ0_removeAll 42 = .ok (.iconst 1, 1) := dk_4 (dk_at dksJ0_removeAll_1 19 rfl rfl)
theorem dJ0_removeAll_43 : decode cJ0_removeAll 43 = .ok (.istore_n 2, 1) := dk_61 (dk_at dksJ0_removeAll_1 20 rfl rfl)
theorem dJ0_removeAll_44 : decode cJ0_removeAll 44 = .ok (.goto (-32), 3) := dk_167 255 224 (dk_at dksJ0_removeAll_1 21 rfl rfl)
theorem dJ0_removeAll_47 : decode cJ0_removeAll 47 = .ok (.iload_n 2, 1) := dk_28 (dk_at dksJ0_removeAll_2 0 rfl rfl)
theorem dJ0_removeAll_48 : decode cJ0_removeAll 48 = .ok (.ireturn, 1) := dk_172 (dk_at dksJ0_removeAll_2 1 rfl rfl)
abbrev cJ0_retainAll : ByteArray := prog_37_method_14_code
def yJ0_retainAll : MethodName := ⟨RJ0, "retainAll", "(Ljava/util/Collection;)Z"⟩
def dkwJ0_retainAll_2 : List UInt8 := [28, 172]
abbrev dktJ0_retainAll_2 : List UInt8 := dkwJ0_retainAll_2 ++ []
def dkwJ0_retainAll_1 : List UInt8 := [185, 0, 23, 1, 0, 185, 0, 91, 2, 0, 154, 255, 235, 45, 185, 0, 73, 1, 0, 4, 61, 167, 255, 224]
abbrev dktJ0_retainAll_1 : List UInt8 := dkwJ0_retainAll_1 ++ dktJ0_retainAll_2
def dkwJ0_retainAll_0 : List UInt8 := [43, 184, 0, 85, 87, 3, 61, 42, 182, 0, 13, 78, 45, 185, 0, 17, 1, 0, 153, 0, 29, 43, 45]
abbrev dktJ0_retainAll_0 : List UInt8 := dkwJ0_retainAll_0 ++ dktJ0_retainAll_1
theorem dksJ0_retainAll_0 : cJ0_retainAll.data.toList.drop 0 = dktJ0_retainAll_0 := by decide +kernel
theorem dksJ0_retainAll_1 : cJ0_retainAll.data.toList.drop 23 = dktJ0_retainAll_1 := dk_seg dksJ0_retainAll_0 23 rfl rfl
theorem dksJ0_retainAll_2 : cJ0_retainAll.data.toList.drop 47 = dktJ0_retainAll_2 := dk_seg dksJ0_retainAll_1 24 rfl rfl
theorem dJ0_retainAll_0 : decode cJ0_retainAll 0 = .ok (.aload_n 1, 1) := dk_43 (dk_at dksJ0_retainAll_0 0 rfl rfl)
theorem dJ0_retainAll_1 : decode cJ0_retainAll 1 = .ok (.invokestatic 85, 3) := dk_184 0 85 (dk_at dksJ0_retainAll_0 1 rfl rfl)
theorem dJ0_retainAll_4 : decode cJ0_retainAll 4 = .ok (.pop, 1) := dk_87 (dk_at dksJ0_retainAll_0 4 rfl rfl)
theorem dJ0_retainAll_5 : decode cJ0_retainAll 5 = .ok (.iconst 0, 1) := dk_3 (dk_at dksJ0_retainAll_0 5 rfl rfl)
theorem dJ0_retainAll_6 : decode cJ0_retainAll 6 = .ok (.istore_n 2, 1) := dk_61 (dk_at dksJ0_retainAll_0 6 rfl rfl)
theorem dJ0_retainAll_7 : decode cJ0_retainAll 7 = .ok (.aload_n 0, 1) := dk_42 (dk_at dksJ0_retainAll_0 7 rfl rfl)
theorem dJ0_retainAll_8 : decode cJ0_retainAll 8 = .ok (.invokevirtual 13, 3) := dk_182 0 13 (dk_at dksJ0_retainAll_0 8 rfl rfl)
theorem dJ0_retainAll_11 : decode cJ0_retainAll 11 = .ok (.astore_n 3, 1) := dk_78 (dk_at dksJ0_retainAll_0 11 rfl rfl)
theorem dJ0_retainAll_12 : decode cJ0_retainAll 12 = .ok (.aload_n 3, 1) := dk_45 (dk_at dksJ0_retainAll_0 12 rfl rfl)
theorem dJ0_retainAll_13 : decode cJ0_retainAll 13 = .ok (.invokeinterface 17 1, 5) := by decide +kernel
theorem dJ0_retainAll_18 : decode cJ0_retainAll 18 = .ok (.ifCond .eq 29, 3) := dk_153 0 29 (dk_at dksJ0_retainAll_0 18 rfl rfl)
theorem dJ0_retainAll_21 : decode cJ0_retainAll 21 = .ok (.aload_n 1, 1) := dk_43 (dk_at dksJ0_retainAll_0 21 rfl rfl)
theorem dJ0_retainAll_22 : decode cJ0_retainAll 22 = .ok (.aload_n 3, 1) := dk_45 (dk_at dksJ0_retainAll_0 22 rfl rfl)
theorem dJ0_retainAll_23 : decode cJ0_retainAll 23 = .ok (.invokeinterface 23 1, 5) := by decide +kernel
theorem dJ0_retainAll_28 : decode cJ0_retainAll 28 = .ok (.invokeinterface 91 2, 5) := by decide +kernel
theorem dJ0_retainAll_33 : decode cJ0_retainAll 33 = .ok (.ifCond .ne (-21), 3) := dk_154 255 235 (dk_at dksJ0_retainAll_1 10 rfl rfl)
theorem dJ0_retainAll_36 : decode cJ0_retainAll 36 = .ok (.aload_n 3, 1) := dk_45 (dk_at dksJ0_retainAll_1 13 rfl rfl)
theorem dJ0_retainAll_37 : decode cJ0_retainAll 37 = .ok (.invokeinterface 73 1, 5) := by decide +kernel
theorem dJ0_retainAll_42 : decode cJ0_retainAll 42 = .ok (.iconst 1, 1) := dk_4 (dk_at dksJ0_retainAll_1 19 rfl rfl)
theorem dJ0_retainAll_43 : decode cJ0_retainAll 43 = .ok (.istore_n 2, 1) := dk_61 (dk_at dksJ0_retainAll_1 20 rfl rfl)
theorem dJ0_retainAll_44 : decode cJ0_retainAll 44 = .ok (.goto (-32), 3) := dk_167 255 224 (dk_at dksJ0_retainAll_1 21 rfl rfl)
theorem dJ0_retainAll_47 : decode cJ0_retainAll 47 = .ok (.iload_n 2, 1) := dk_28 (dk_at dksJ0_retainAll_2 0 rfl rfl)
theorem dJ0_retainAll_48 : decode cJ0_retainAll 48 = .ok (.ireturn, 1) := dk_172 (dk_at dksJ0_retainAll_2 1 rfl rfl)
theorem q57 : (Jvm.Cond.initialized "java/util/AbstractCollection") ∈ lw_all := lw_g (lw_at lw_m1 2 rfl) rfl
theorem q125 : (Jvm.Cond.instanceMethod ({ cls := "java/util/AbstractCollection", name := "<init>", desc := "()V" } : Jvm.MethodName)) ∈ lw_all := lw_g (lw_at lw_m1 70 rfl) rfl
theorem q126 : (Jvm.Cond.code ({ cls := "java/util/AbstractCollection", name := "<init>", desc := "()V" } : Jvm.MethodName) prog_37_method_1_code (1 : Nat) (Option.none : Option Jvm.ClassFile.FieldType)) ∈ lw_all := lw_g (lw_at lw_m1 71 rfl) rfl
theorem q127 : (Jvm.Cond.methodLink "java/util/AbstractCollection" (1 : Nat) ({ cls := "java/lang/Object", name := "<init>", desc := "()V" } : Jvm.MethodName)) ∈ lw_all := lw_g (lw_at lw_m1 72 rfl) rfl
theorem q858 : (Jvm.Cond.declares ({ cls := "java/util/AbstractCollection", name := "size", desc := "()I" } : Jvm.MethodName)) ∈ lw_tbl := lw_at lw_m4 83 rfl
theorem q1854 : (Jvm.Cond.instanceMethod ({ cls := "java/util/AbstractCollection", name := "isEmpty", desc := "()Z" } : Jvm.MethodName)) ∈ lw_all := lw_g (lw_at lw_m8 119 rfl) rfl
theorem q1855 : (Jvm.Cond.publicMethod ({ cls := "java/util/AbstractCollection", name := "isEmpty", desc := "()Z" } : Jvm.MethodName)) ∈ lw_tbl := lw_at lw_m8 120 rfl
theorem q1856 : (Jvm.Cond.code ({ cls := "java/util/AbstractCollection", name := "isEmpty", desc := "()Z" } : Jvm.MethodName) prog_37_method_4_code (1 : Nat) (Option.some Jvm.ClassFile.FieldType.boolean)) ∈ lw_all := lw_g (lw_at lw_m8 121 rfl) rfl
theorem q1857 : (Jvm.Cond.methodLink "java/util/AbstractCollection" (7 : Nat) ({ cls := "java/util/AbstractCollection", name := "size", desc := "()I" } : Jvm.MethodName)) ∈ lw_all := lw_g (lw_at lw_m8 122 rfl) rfl
theorem q2278 : (Jvm.Cond.instanceMethod ({ cls := "java/util/AbstractCollection", name := "contains", desc := "(Ljava/lang/Object;)Z" } : Jvm.MethodName)) ∈ lw_all := lw_g (lw_at lw_m10 63 rfl) rfl
theorem q2279 : (Jvm.Cond.publicMethod ({ cls := "java/util/AbstractCollection", name := "contains", desc := "(Ljava/lang/Object;)Z" } : Jvm.MethodName)) ∈ lw_tbl := lw_at lw_m10 64 rfl
theorem q2280 : (Jvm.Cond.code ({ cls := "java/util/AbstractCollection", name := "contains", desc := "(Ljava/lang/Object;)Z" } : Jvm.MethodName) prog_37_method_5_code (3 : Nat) (Option.some Jvm.ClassFile.FieldType.boolean)) ∈ lw_all := lw_g (lw_at lw_m10 65 rfl) rfl
theorem q2281 : (Jvm.Cond.methodLink "java/util/AbstractCollection" (13 : Nat) ({ cls := "java/util/AbstractCollection", name := "iterator", desc := "()Ljava/util/Iterator;" } : Jvm.MethodName)) ∈ lw_all := lw_g (lw_at lw_m10 66 rfl) rfl
theorem q2282 : (Jvm.Cond.declares ({ cls := "java/util/AbstractCollection", name := "iterator", desc := "()Ljava/util/Iterator;" } : Jvm.MethodName)) ∈ lw_tbl := lw_at lw_m10 67 rfl
theorem q2283 : (Jvm.Cond.sameMethod "java/util/AbstractCollection" "java/util/AbstractCollection" "iterator" "()Ljava/util/Iterator;") ∈ lw_all := lw_g (lw_at lw_m10 68 rfl) rfl
theorem q2289 : (Jvm.Cond.interfaceEntry "java/util/AbstractCollection" (17 : Nat)) ∈ lw_tbl := lw_at lw_m10 74 rfl
theorem q2290 : (Jvm.Cond.methodLink "java/util/AbstractCollection" (17 : Nat) ({ cls := "java/util/Iterator", name := "hasNext", desc := "()Z" } : Jvm.MethodName)) ∈ lw_all := lw_g (lw_at lw_m10 75 rfl) rfl
theorem q2291 : (Jvm.Cond.interfaceEntry "java/util/AbstractCollection" (23 : Nat)) ∈ lw_tbl := lw_at lw_m10 76 rfl
theorem q2292 : (Jvm.Cond.methodLink "java/util/AbstractCollection" (23 : Nat) ({ cls := "java/util/Iterator", name := "next", desc := "()Ljava/lang/Object;" } : Jvm.MethodName)) ∈ lw_all := lw_g (lw_at lw_m10 77 rfl) rfl
theorem q2293 : (Jvm.Cond.methodLink "java/util/AbstractCollection" (27 : Nat) ({ cls := "java/lang/Object", name := "equals", desc := "(Ljava/lang/Object;)Z" } : Jvm.MethodName)) ∈ lw_all := lw_g (lw_at lw_m10 78 rfl) rfl
theorem q2356 : (Jvm.Cond.instanceMethod ({ cls := "java/util/AbstractCollection", name := "containsAll", desc := "(Ljava/util/Collection;)Z" } : Jvm.MethodName)) ∈ lw_all := lw_g (lw_at lw_m10 141 rfl) rfl
theorem q2357 : (Jvm.Cond.publicMethod ({ cls := "java/util/AbstractCollection", name := "containsAll", desc := "(Ljava/util/Collection;)Z" } : Jvm.MethodName)) ∈ lw_tbl := lw_at lw_m10 142 rfl
theorem q2358 : (Jvm.Cond.code ({ cls := "java/util/AbstractCollection", name := "containsAll", desc := "(Ljava/util/Collection;)Z" } : Jvm.MethodName) prog_37_method_11_code (4 : Nat) (Option.some Jvm.ClassFile.FieldType.boolean)) ∈ lw_all := lw_g (lw_at lw_m10 143 rfl) rfl
theorem q2359 : (Jvm.Cond.interfaceEntry "java/util/AbstractCollection" (76 : Nat)) ∈ lw_tbl := lw_at lw_m10 144 rfl
theorem q2360 : (Jvm.Cond.methodLink "java/util/AbstractCollection" (76 : Nat) ({ cls := "java/util/Collection", name := "iterator", desc := "()Ljava/util/Iterator;" } : Jvm.MethodName)) ∈ lw_all := lw_g (lw_at lw_m10 145 rfl) rfl
theorem q2361 : (Jvm.Cond.methodLink "java/util/AbstractCollection" (79 : Nat) ({ cls := "java/util/AbstractCollection", name := "contains", desc := "(Ljava/lang/Object;)Z" } : Jvm.MethodName)) ∈ lw_all := lw_g (lw_at lw_m10 146 rfl) rfl
theorem q2644 : (Jvm.Cond.instanceMethod ({ cls := "java/util/AbstractCollection", name := "toArray", desc := "()[Ljava/lang/Object;" } : Jvm.MethodName)) ∈ lw_all := lw_g (lw_at lw_m11 189 rfl) rfl
theorem q2645 : (Jvm.Cond.publicMethod ({ cls := "java/util/AbstractCollection", name := "toArray", desc := "()[Ljava/lang/Object;" } : Jvm.MethodName)) ∈ lw_tbl := lw_at lw_m11 190 rfl
theorem q2646 : (Jvm.Cond.code ({ cls := "java/util/AbstractCollection", name := "toArray", desc := "()[Ljava/lang/Object;" } : Jvm.MethodName) prog_37_method_6_code (4 : Nat) (Option.some (Jvm.ClassFile.FieldType.array (Jvm.ClassFile.FieldType.object "java/lang/Object")))) ∈ lw_all := lw_g (lw_at lw_m11 191 rfl) rfl
theorem q2647 : (Jvm.Cond.classLink "java/util/AbstractCollection" (2 : Nat) "java/lang/Object") ∈ lw_all := lw_g (lw_at lw_m11 192 rfl) rfl
theorem q2648 : (Jvm.Cond.methodLink "java/util/AbstractCollection" (31 : Nat) ({ cls := "java/util/Arrays", name := "copyOf", desc := "([Ljava/lang/Object;I)[Ljava/lang/Object;" } : Jvm.MethodName)) ∈ lw_all := lw_g (lw_at lw_m11 193 rfl) rfl
theorem q2649 : (Jvm.Cond.methodLink "java/util/AbstractCollection" (37 : Nat) ({ cls := "java/util/AbstractCollection", name := "finishToArray", desc := "([Ljava/lang/Object;Ljava/util/Iterator;)[Ljava/lang/Object;" } : Jvm.MethodName)) ∈ lw_all := lw_g (lw_at lw_m11 194 rfl) rfl
theorem q2650 : (Jvm.Cond.static ({ cls := "java/util/AbstractCollection", name := "finishToArray", desc := "([Ljava/lang/Object;Ljava/util/Iterator;)[Ljava/lang/Object;" } : Jvm.MethodName)) ∈ lw_all := lw_g (lw_at lw_m11 195 rfl) rfl
theorem q2651 : (Jvm.Cond.code ({ cls := "java/util/AbstractCollection", name := "finishToArray", desc := "([Ljava/lang/Object;Ljava/util/Iterator;)[Ljava/lang/Object;" } : Jvm.MethodName) prog_37_method_8_code (4 : Nat) (Option.some (Jvm.ClassFile.FieldType.array (Jvm.ClassFile.FieldType.object "java/lang/Object")))) ∈ lw_all := lw_g (lw_at lw_m11 196 rfl) rfl
theorem q2652 : (Jvm.Cond.methodLink "java/util/AbstractCollection" (64 : Nat) ({ cls := "jdk/internal/util/ArraysSupport", name := "newLength", desc := "(III)I" } : Jvm.MethodName)) ∈ lw_all := lw_g (lw_at lw_m11 197 rfl) rfl
theorem q3185 : (Jvm.Cond.instanceMethod ({ cls := "java/util/AbstractCollection", name := "addAll", desc := "(Ljava/util/Collection;)Z" } : Jvm.MethodName)) ∈ lw_all := lw_g (lw_at lw_m14 10 rfl) rfl
theorem q3186 : (Jvm.Cond.publicMethod ({ cls := "java/util/AbstractCollection", name := "addAll", desc := "(Ljava/util/Collection;)Z" } : Jvm.MethodName)) ∈ lw_tbl := lw_at lw_m14 11 rfl
theorem q3187 : (Jvm.Cond.code ({ cls := "java/util/AbstractCollection", name := "addAll", desc := "(Ljava/util/Collection;)Z" } : Jvm.MethodName) prog_37_method_12_code (5 : Nat) (Option.some Jvm.ClassFile.FieldType.boolean)) ∈ lw_all := lw_g (lw_at lw_m14 12 rfl) rfl
theorem q3188 : (Jvm.Cond.methodLink "java/util/AbstractCollection" (82 : Nat) ({ cls := "java/util/AbstractCollection", name := "add", desc := "(Ljava/lang/Object;)Z" } : Jvm.MethodName)) ∈ lw_all := lw_g (lw_at lw_m14 13 rfl) rfl
theorem q3189 : (Jvm.Cond.instanceMethod ({ cls := "java/util/AbstractCollection", name := "add", desc := "(Ljava/lang/Object;)Z" } : Jvm.MethodName)) ∈ lw_all := lw_g (lw_at lw_m14 14 rfl) rfl
theorem q3190 : (Jvm.Cond.sameMethod "java/util/AbstractCollection" "java/util/AbstractCollection" "add" "(Ljava/lang/Object;)Z") ∈ lw_all := lw_g (lw_at lw_m14 15 rfl) rfl
theorem q3196 : (Jvm.Cond.declares ({ cls := "java/util/AbstractCollection", name := "add", desc := "(Ljava/lang/Object;)Z" } : Jvm.MethodName)) ∈ lw_tbl := lw_at lw_m14 21 rfl
theorem q3235 : (Jvm.Cond.instanceMethod ({ cls := "java/util/AbstractCollection", name := "remove", desc := "(Ljava/lang/Object;)Z" } : Jvm.MethodName)) ∈ lw_all := lw_g (lw_at lw_m14 60 rfl) rfl
theorem q3236 : (Jvm.Cond.publicMethod ({ cls := "java/util/AbstractCollection", name := "remove", desc := "(Ljava/lang/Object;)Z" } : Jvm.MethodName)) ∈ lw_tbl := lw_at lw_m14 61 rfl
theorem q3237 : (Jvm.Cond.code ({ cls := "java/util/AbstractCollection", name := "remove", desc := "(Ljava/lang/Object;)Z" } : Jvm.MethodName) prog_37_method_10_code (3 : Nat) (Option.some Jvm.ClassFile.FieldType.boolean)) ∈ lw_all := lw_g (lw_at lw_m14 62 rfl) rfl
theorem q3238 : (Jvm.Cond.interfaceEntry "java/util/AbstractCollection" (73 : Nat)) ∈ lw_tbl := lw_at lw_m14 63 rfl
theorem q3239 : (Jvm.Cond.methodLink "java/util/AbstractCollection" (73 : Nat) ({ cls := "java/util/Iterator", name := "remove", desc := "()V" } : Jvm.MethodName)) ∈ lw_all := lw_g (lw_at lw_m14 64 rfl) rfl
theorem q3284 : (Jvm.Cond.instanceMethod ({ cls := "java/util/AbstractCollection", name := "removeAll", desc := "(Ljava/util/Collection;)Z" } : Jvm.MethodName)) ∈ lw_all := lw_g (lw_at lw_m14 109 rfl) rfl
theorem q3285 : (Jvm.Cond.publicMethod ({ cls := "java/util/AbstractCollection", name := "removeAll", desc := "(Ljava/util/Collection;)Z" } : Jvm.MethodName)) ∈ lw_tbl := lw_at lw_m14 110 rfl
theorem q3286 : (Jvm.Cond.code ({ cls := "java/util/AbstractCollection", name := "removeAll", desc := "(Ljava/util/Collection;)Z" } : Jvm.MethodName) prog_37_method_13_code (4 : Nat) (Option.some Jvm.ClassFile.FieldType.boolean)) ∈ lw_all := lw_g (lw_at lw_m14 111 rfl) rfl
theorem q3287 : (Jvm.Cond.methodLink "java/util/AbstractCollection" (85 : Nat) ({ cls := "java/util/Objects", name := "requireNonNull", desc := "(Ljava/lang/Object;)Ljava/lang/Object;" } : Jvm.MethodName)) ∈ lw_all := lw_g (lw_at lw_m14 112 rfl) rfl
theorem q3288 : (Jvm.Cond.interfaceEntry "java/util/AbstractCollection" (91 : Nat)) ∈ lw_tbl := lw_at lw_m14 113 rfl
theorem q3289 : (Jvm.Cond.methodLink "java/util/AbstractCollection" (91 : Nat) ({ cls := "java/util/Collection", name := "contains", desc := "(Ljava/lang/Object;)Z" } : Jvm.MethodName)) ∈ lw_all := lw_g (lw_at lw_m14 114 rfl) rfl
theorem q3328 : (Jvm.Cond.instanceMethod ({ cls := "java/util/AbstractCollection", name := "retainAll", desc := "(Ljava/util/Collection;)Z" } : Jvm.MethodName)) ∈ lw_all := lw_g (lw_at lw_m14 153 rfl) rfl
theorem q3329 : (Jvm.Cond.publicMethod ({ cls := "java/util/AbstractCollection", name := "retainAll", desc := "(Ljava/util/Collection;)Z" } : Jvm.MethodName)) ∈ lw_tbl := lw_at lw_m14 154 rfl
theorem q3330 : (Jvm.Cond.code ({ cls := "java/util/AbstractCollection", name := "retainAll", desc := "(Ljava/util/Collection;)Z" } : Jvm.MethodName) prog_37_method_14_code (4 : Nat) (Option.some Jvm.ClassFile.FieldType.boolean)) ∈ lw_all := lw_g (lw_at lw_m14 155 rfl) rfl
theorem q3874 : (Jvm.Cond.sameMethod "java/util/AbstractCollection" "java/util/AbstractCollection" "size" "()I") ∈ lw_all := lw_g (lw_at lw_m16 219 rfl) rfl
theorem q3883 : (Jvm.Cond.sameMethod "java/util/AbstractCollection" "java/util/AbstractCollection" "contains" "(Ljava/lang/Object;)Z") ∈ lw_all := lw_g (lw_at lw_m16 228 rfl) rfl

/-! java/util/AbstractList -/
set_option maxRecDepth 100000
def RJ1 : String := "java/util/AbstractList"
abbrev cJ1_init : ByteArray := prog_38_method_1_code
def yJ1_init : MethodName := ⟨RJ1, "<init>", "()V"⟩
def dkwJ1_init_0 : List UInt8 := [42, 183, 0, 1, 42, 3, 181, 0, 7, 177]
abbrev dktJ1_init_0 : List UInt8 := dkwJ1_init_0 ++ []
theorem dksJ1_init_0 : cJ1_init.data.toList.drop 0 = dktJ1_init_0 := by decide +kernel
theorem dJ1_init_0 : decode cJ1_init 0 = .ok (.aload_n 0, 1) := dk_42 (dk_at dksJ1_init_0 0 rfl rfl)
theorem dJ1_init_1 : decode cJ1_init 1 = .ok (.invokespecial 1, 3) := dk_183 0 1 (dk_at dksJ1_init_0 1 rfl rfl)
theorem dJ1_init_4 : decode cJ1_init 4 = .ok (.aload_n 0, 1) := dk_42 (dk_at dksJ1_init_0 4 rfl rfl)
theorem dJ1_init_5 : decode cJ1_init 5 = .ok (.iconst 0, 1) := dk_3 (dk_at dksJ1_init_0 5 rfl rfl)
theorem dJ1_init_6 : decode cJ1_init 6 = .ok (.putfield 7, 3) := dk_181 0 7 (dk_at dksJ1_init_0 6 rfl rfl)
theorem dJ1_init_9 : decode cJ1_init 9 = .ok (.return_, 1) := dk_177 (dk_at dksJ1_init_0 9 rfl rfl)
abbrev cJ1_equals : ByteArray := prog_38_method_16_code
def yJ1_equals : MethodName := ⟨RJ1, "equals", "(Ljava/lang/Object;)Z"⟩
def dkwJ1_equals_4 : List UInt8 := [185, 0, 28, 1, 0, 154, 0, 16, 45, 185, 0, 28, 1, 0, 154, 0, 7, 4, 167, 0, 4, 3, 172]
abbrev dktJ1_equals_4 : List UInt8 := dkwJ1_equals_4 ++ []
def dkwJ1_equals_3 : List UInt8 := [25, 5, 199, 0, 16, 167, 0, 15, 25, 4, 25, 5, 182, 0, 41, 154, 0, 5, 3, 172, 167, 255, 197, 44]
abbrev dktJ1_equals_3 : List UInt8 := dkwJ1_equals_3 ++ dktJ1_equals_4
def dkwJ1_equals_2 : List UInt8 := [153, 0, 47, 44, 185, 0, 34, 1, 0, 58, 4, 45, 185, 0, 34, 1, 0, 58, 5, 25, 4, 199, 0, 11]
abbrev dktJ1_equals_2 : List UInt8 := dkwJ1_equals_2 ++ dktJ1_equals_3
def dkwJ1_equals_1 : List UInt8 := [192, 0, 133, 185, 0, 135, 1, 0, 78, 44, 185, 0, 28, 1, 0, 153, 0, 56, 45, 185, 0, 28, 1, 0]
abbrev dktJ1_equals_1 : List UInt8 := dkwJ1_equals_1 ++ dktJ1_equals_2
def dkwJ1_equals_0 : List UInt8 := [43, 42, 166, 0, 5, 4, 172, 43, 193, 0, 133, 154, 0, 5, 3, 172, 42, 182, 0, 24, 77, 43]
abbrev dktJ1_equals_0 : List UInt8 := dkwJ1_equals_0 ++ dktJ1_equals_1
theorem dksJ1_equals_0 : cJ1_equals.data.toList.drop 0 = dktJ1_equals_0 := by decide +kernel
theorem dksJ1_equals_1 : cJ1_equals.data.toList.drop 22 = dktJ1_equals_1 := dk_seg dksJ1_equals_0 22 rfl rfl
theorem dksJ1_equals_2 : cJ1_equals.data.toList.drop 46 = dktJ1_equals_2 := dk_seg dksJ1_equals_1 24 rfl rfl
theorem dksJ1_equals_3 : cJ1_equals.data.toList.drop 70 = dktJ1_equals_3 := dk_seg dksJ1_equals_2 24 rfl rfl
theorem dksJ1_equals_4 : cJ1_equals.data.toList.drop 94 = dktJ1_equals_4 := dk_seg dksJ1_equals_3 24 rfl rfl
theorem dJ1_equals_0 : decode cJ1_equals 0 = .ok (.aload_n 1, 1) := dk_43 (dk_at dksJ1_equals_0 0 rfl rfl)
theorem dJ1_equals_1 : decode cJ1_equals 1 = .ok (.aload_n 0, 1) := dk_42 (dk_at dksJ1_equals_0 1 rfl rfl)
theorem dJ1_equals_2 : decode cJ1_equals 2 = .ok (.if_acmp .ne 5, 3) := dk_166 0 5 (dk_at dksJ1_equals_0 2 rfl rfl)
theorem dJ1_equals_5 : decode cJ1_equals 5 = .ok (.iconst 1, 1) := dk_4 (dk_at dksJ1_equals_0 5 rfl rfl)
theorem dJ1_equals_6 : decode cJ1_equals 6 = .ok (.ireturn, 1) := dk_172 (dk_at dksJ1_equals_0 6 rfl rfl)
theorem dJ1_equals_7 : decode cJ1_equals 7 = .ok (.aload_n 1, 1) := dk_43 (dk_at dksJ1_equals_0 7 rfl rfl)
theorem dJ1_equals_8 : decode cJ1_equals 8 = .ok (.instanceof 133, 3) := dk_193 0 133 (dk_at dksJ1_equals_0 8 rfl rfl)
theorem dJ1_equals_11 : decode cJ1_equals 11 = .ok (.ifCond .ne 5, 3) := dk_154 0 5 (dk_at dksJ1_equals_0 11 rfl rfl)
theorem dJ1_equals_14 : decode cJ1_equals 14 = .ok (.iconst 0, 1) := dk_3 (dk_at dksJ1_equals_0 14 rfl rfl)
theorem dJ1_equals_15 : decode cJ1_equals 15 = .ok (.ireturn, 1) := dk_172 (dk_at dksJ1_equals_0 15 rfl rfl)
theorem dJ1_equals_16 : decode cJ1_equals 16 = .ok (.aload_n 0, 1) := dk_42 (dk_at dksJ1_equals_0 16 rfl rfl)
theorem dJ1_equals_17 : decode cJ1_equals 17 = .ok (.invokevirtual 24, 3) := dk_182 0 24 (dk_at dksJ1_equals_0 17 rfl rfl)
theorem dJ1_equals_20 : decode cJ1_equals 20 = .ok (.astore_n 2, 1) := dk_77 (dk_at dksJ1_equals_0 20 rfl rfl)
theorem dJ1_equals_21 : decode cJ1_equals 21 = .ok (.aload_n 1, 1) := dk_43 (dk_at dksJ1_equals_0 21 rfl rfl)
theorem dJ1_equals_22 : decode cJ1_equals 22 = .ok (.checkcast 133, 3) := dk_192 0 133 (dk_at dksJ1_equals_1 0 rfl rfl)
theorem dJ1_equals_25 : decode cJ1_equals 25 = .ok (.invokeinterface 135 1, 5) := by decide +kernel
theorem dJ1_equals_30 : decode cJ1_equals 30 = .ok (.astore_n 3, 1) := dk_78 (dk_at dksJ1_equals_1 8 rfl rfl)
theorem dJ1_equals_31 : decode cJ1_equals 31 = .ok (.aload_n 2, 1) := dk_44 (dk_at dksJ1_equals_1 9 rfl rfl)
theorem dJ1_equals_32 : decode cJ1_equals 32 = .ok (.invokeinterface 28 1, 5) := by decide +kernel
theorem dJ1_equals_37 : decode cJ1_equals 37 = .ok (.ifCond .eq 56, 3) := dk_153 0 56 (dk_at dksJ1_equals_1 15 rfl rfl)
theorem dJ1_equals_40 : decode cJ1_equals 40 = .ok (.aload_n 3, 1) := dk_45 (dk_at dksJ1_equals_1 18 rfl rfl)
theorem dJ1_equals_41 : decode cJ1_equals 41 = .ok (.invokeinterface 28 1, 5) := by decide +kernel
theorem dJ1_equals_46 : decode cJ1_equals 46 = .ok (.ifCond .eq 47, 3) := dk_153 0 47 (dk_at dksJ1_equals_2 0 rfl rfl)
theorem dJ1_equals_49 : decode cJ1_equals 49 = .ok (.aload_n 2, 1) := dk_44 (dk_at dksJ1_equals_2 3 rfl rfl)
theorem dJ1_equals_50 : decode cJ1_equals 50 = .ok (.invokeinterface 34 1, 5) := by decide +kernel
theorem dJ1_equals_55 : decode cJ1_equals 55 = .ok (.astore 4, 2) := dk_58 4 (dk_at dksJ1_equals_2 9 rfl rfl)
theorem dJ1_equals_57 : decode cJ1_equals 57 = .ok (.aload_n 3, 1) := dk_45 (dk_at dksJ1_equals_2 11 rfl rfl)
theorem dJ1_equals_58 : decode cJ1_equals 58 = .ok (.invokeinterface 34 1, 5) := by decide +kernel
theorem dJ1_equals_63 : decode cJ1_equals 63 = .ok (.astore 5, 2) := dk_58 5 (dk_at dksJ1_equals_2 17 rfl rfl)
theorem dJ1_equals_65 : decode cJ1_equals 65 = .ok (.aload 4, 2) := dk_25 4 (dk_at dksJ1_equals_2 19 rfl rfl)
theorem dJ1_equals_67 : decode cJ1_equals 67 = .ok (.ifnonnull 11, 3) := dk_199 0 11 (dk_at dksJ1_equals_2 21 rfl rfl)
theorem dJ1_equals_70 : decode cJ1_equals 70 = .ok (.aload 5, 2) := dk_25 5 (dk_at dksJ1_equals_3 0 rfl rfl)
theorem dJ1_equals_72 : decode cJ1_equals 72 = .ok (.ifnonnull 16, 3) := dk_199 0 16 (dk_at dksJ1_equals_3 2 rfl rfl)
theorem dJ1_equals_75 : decode cJ1_equals 75 = .ok (.goto 15, 3) := dk_167 0 15 (dk_at dksJ1_equals_3 5 rfl rfl)
theorem dJ1_equals_78 : decode cJ1_equals 78 = .ok (.aload 4, 2) := dk_25 4 (dk_at dksJ1_equals_3 8 rfl rfl)
theorem dJ1_equals_80 : decode cJ1_equals 80 = .ok (.aload 5, 2) := dk_25 5 (dk_at dksJ1_equals_3 10 rfl rfl)
theorem dJ1_equals_82 : decode cJ1_equals 82 = .ok (.invokevirtual 41, 3) := dk_182 0 41 (dk_at dksJ1_equals_3 12 rfl rfl)
theorem dJ1_equals_85 : decode cJ1_equals 85 = .ok (.ifCond .ne 5, 3) := dk_154 0 5 (dk_at dksJ1_equals_3 15 rfl rfl)
theorem dJ1_equals_88 : decode cJ1_equals 88 = .ok (.iconst 0, 1) := dk_3 (dk_at dksJ1_equals_3 18 rfl rfl)
theorem dJ1_equals_89 : decode cJ1_equals 89 = .ok (.ireturn, 1) := dk_172 (dk_at dksJ1_equals_3 19 rfl rfl)
theorem dJ1_equals_90 : decode cJ1_equals 90 = .ok (.goto (-59), 3) := dk_167 255 197 (dk_at dksJ1_equals_3 20 rfl rfl)
theorem dJ1_equals_93 : decode cJ1_equals 93 = .ok (.aload_n 2, 1) := dk_44 (dk_at dksJ1_equals_3 23 rfl rfl)
theorem dJ1_equals_94 : decode cJ1_equals 94 = .ok (.invokeinterface 28 1, 5) := by decide +kernel
theorem dJ1_equals_99 : decode cJ1_equals 99 = .ok (.ifCond .ne 16, 3) := dk_154 0 16 (dk_at dksJ1_equals_4 5 rfl rfl)
theorem dJ1_equals_102 : decode cJ1_equals 102 = .ok (.aload_n 3, 1) := dk_45 (dk_at dksJ1_equals_4 8 rfl rfl)
theorem dJ1_equals_103 : decode cJ1_equals 103 = .ok (.invokeinterface 28 1, 5) := by decide +kernel
theorem dJ1_equals_108 : decode cJ1_equals 108 = .ok (.ifCond .ne 7, 3) := dk_154 0 7 (dk_at dksJ1_equals_4 14 rfl rfl)
theorem dJ1_equals_111 : decode cJ1_equals 111 = .ok (.iconst 1, 1) := dk_4 (dk_at dksJ1_equals_4 17 rfl rfl)
theorem dJ1_equals_112 : decode cJ1_equals 112 = .ok (.goto 4, 3) := dk_167 0 4 (dk_at dksJ1_equals_4 18 rfl rfl)
theorem dJ1_equals_115 : decode cJ1_equals 115 = .ok (.iconst 0, 1) := dk_3 (dk_at dksJ1_equals_4 21 rfl rfl)
theorem dJ1_equals_116 : decode cJ1_equals 116 = .ok (.ireturn, 1) := dk_172 (dk_at dksJ1_equals_4 22 rfl rfl)
abbrev cJ1_listIterator : ByteArray := prog_38_method_12_code
def yJ1_listIterator : MethodName := ⟨RJ1, "listIterator", "()Ljava/util/ListIterator;"⟩
def dkwJ1_listIterator_0 : List UInt8 := [42, 3, 182, 0, 47, 176]
abbrev dktJ1_listIterator_0 : List UInt8 := dkwJ1_listIterator_0 ++ []
theorem dksJ1_listIterator_0 : cJ1_listIterator.data.toList.drop 0 = dktJ1_listIterator_0 := by decide +kernel
theorem dJ1_listIterator_0 : decode cJ1_listIterator 0 = .ok (.aload_n 0, 1) := dk_42 (dk_at dksJ1_listIterator_0 0 rfl rfl)
theorem dJ1_listIterator_1 : decode cJ1_listIterator 1 = .ok (.iconst 0, 1) := dk_3 (dk_at dksJ1_listIterator_0 1 rfl rfl)
theorem dJ1_listIterator_2 : decode cJ1_listIterator 2 = .ok (.invokevirtual 47, 3) := dk_182 0 47 (dk_at dksJ1_listIterator_0 2 rfl rfl)
theorem dJ1_listIterator_5 : decode cJ1_listIterator 5 = .ok (.areturn, 1) := dk_176 (dk_at dksJ1_listIterator_0 5 rfl rfl)
abbrev cJ1_listIterator_2 : ByteArray := prog_38_method_13_code
def yJ1_listIterator_2 : MethodName := ⟨RJ1, "listIterator", "(I)Ljava/util/ListIterator;"⟩
def dkwJ1_listIterator_2_0 : List UInt8 := [42, 27, 182, 0, 63, 187, 0, 82, 89, 42, 27, 183, 0, 84, 176]
abbrev dktJ1_listIterator_2_0 : List UInt8 := dkwJ1_listIterator_2_0 ++ []
theorem dksJ1_listIterator_2_0 : cJ1_listIterator_2.data.toList.drop 0 = dktJ1_listIterator_2_0 := by decide +kernel
theorem dJ1_listIterator_2_0 : decode cJ1_listIterator_2 0 = .ok (.aload_n 0, 1) := dk_42 (dk_at dksJ1_listIterator_2_0 0 rfl rfl)
theorem dJ1_listIterator_2_1 : decode cJ1_listIterator_2 1 = .ok (.iload_n 1, 1) := dk_27 (dk_at dksJ1_listIterator_2_0 1 rfl rfl)
theorem dJ1_listIterator_2_2 : decode cJ1_listIterator_2 2 = .ok (.invokevirtual 63, 3) := dk_182 0 63 (dk_at dksJ1_listIterator_2_0 2 rfl rfl)
theorem dJ1_listIterator_2_5 : decode cJ1_listIterator_2 5 = .ok (.new 82, 3) := dk_187 0 82 (dk_at dksJ1_listIterator_2_0 5 rfl rfl)
theorem dJ1_listIterator_2_8 : decode cJ1_listIterator_2 8 = .ok (.dup, 1) := dk_89 (dk_at dksJ1_listIterator_2_0 8 rfl rfl)
theorem dJ1_listIterator_2_9 : decode cJ1_listIterator_2 9 = .ok (.aload_n 0, 1) := dk_42 (dk_at dksJ1_listIterator_2_0 9 rfl rfl)
theorem dJ1_listIterator_2_10 : decode cJ1_listIterator_2 10 = .ok (.iload_n 1, 1) := dk_27 (dk_at dksJ1_listIterator_2_0 10 rfl rfl)
theorem dJ1_listIterator_2_11 : decode cJ1_listIterator_2 11 = .ok (.invokespecial 84, 3) := dk_183 0 84 (dk_at dksJ1_listIterator_2_0 11 rfl rfl)
theorem dJ1_listIterator_2_14 : decode cJ1_listIterator_2 14 = .ok (.areturn, 1) := dk_176 (dk_at dksJ1_listIterator_2_0 14 rfl rfl)
abbrev cJ1_rangeCheckForAdd : ByteArray := prog_38_method_19_code
def yJ1_rangeCheckForAdd : MethodName := ⟨RJ1, "rangeCheckForAdd", "(I)V"⟩
def dkwJ1_rangeCheckForAdd_1 : List UInt8 := [191, 177]
abbrev dktJ1_rangeCheckForAdd_1 : List UInt8 := dkwJ1_rangeCheckForAdd_1 ++ []
def dkwJ1_rangeCheckForAdd_0 : List UInt8 := [27, 155, 0, 11, 27, 42, 182, 0, 13, 164, 0, 16, 187, 0, 101, 89, 42, 27, 182, 0, 143, 183, 0, 119]
abbrev dktJ1_rangeCheckForAdd_0 : List UInt8 := dkwJ1_rangeCheckForAdd_0 ++ dktJ1_rangeCheckForAdd_1
theorem dksJ1_rangeCheckForAdd_0 : cJ1_rangeCheckForAdd.data.toList.drop 0 = dktJ1_rangeCheckForAdd_0 := by decide +kernel
theorem dksJ1_rangeCheckForAdd_1 : cJ1_rangeCheckForAdd.data.toList.drop 24 = dktJ1_rangeCheckForAdd_1 := dk_seg dksJ1_rangeCheckForAdd_0 24 rfl rfl
theorem dJ1_rangeCheckForAdd_0 : decode cJ1_rangeCheckForAdd 0 = .ok (.iload_n 1, 1) := dk_27 (dk_at dksJ1_rangeCheckForAdd_0 0 rfl rfl)
theorem dJ1_rangeCheckForAdd_1 : decode cJ1_rangeCheckForAdd 1 = .ok (.ifCond .lt 11, 3) := dk_155 0 11 (dk_at dksJ1_rangeCheckForAdd_0 1 rfl rfl)
theorem dJ1_rangeCheckForAdd_4 : decode cJ1_rangeCheckForAdd 4 = .ok (.iload_n 1, 1) := dk_27 (dk_at dksJ1_rangeCheckForAdd_0 4 rfl rfl)
theorem dJ1_rangeCheckForAdd_5 : decode cJ1_rangeCheckForAdd 5 = .ok (.aload_n 0, 1) := dk_42 (dk_at dksJ1_rangeCheckForAdd_0 5 rfl rfl)
theorem dJ1_rangeCheckForAdd_6 : decode cJ1_rangeCheckForAdd 6 = .ok (.invokevirtual 13, 3) := dk_182 0 13 (dk_at dksJ1_rangeCheckForAdd_0 6 rfl rfl)
theorem dJ1_rangeCheckForAdd_9 : decode cJ1_rangeCheckForAdd 9 = .ok (.if_icmp .le 16, 3) := dk_164 0 16 (dk_at dksJ1_rangeCheckForAdd_0 9 rfl rfl)
theorem dJ1_rangeCheckForAdd_12 : decode cJ1_rangeCheckForAdd 12 = .ok (.new 101, 3) := dk_187 0 101 (dk_at dksJ1_rangeCheckForAdd_0 12 rfl rfl)
theorem dJ1_rangeCheckForAdd_15 : decode cJ1_rangeCheckForAdd 15 = .ok (.dup, 1) := dk_89 (dk_at dksJ1_rangeCheckForAdd_0 15 rfl rfl)
theorem dJ1_rangeCheckForAdd_16 : decode cJ1_rangeCheckForAdd 16 = .ok (.aload_n 0, 1) := dk_42 (dk_at dksJ1_rangeCheckForAdd_0 16 rfl rfl)
theorem dJ1_rangeCheckForAdd_17 : decode cJ1_rangeCheckForAdd 17 = .ok (.iload_n 1, 1) := dk_27 (dk_at dksJ1_rangeCheckForAdd_0 17 rfl rfl)
theorem dJ1_rangeCheckForAdd_18 : decode cJ1_rangeCheckForAdd 18 = .ok (.invokevirtual 143, 3) := dk_182 0 143 (dk_at dksJ1_rangeCheckForAdd_0 18 rfl rfl)
theorem dJ1_rangeCheckForAdd_21 : decode cJ1_rangeCheckForAdd 21 = .ok (.invokespecial 119, 3) := dk_183 0 119 (dk_at dksJ1_rangeCheckForAdd_0 21 rfl rfl)
theorem dJ1_rangeCheckForAdd_24 : decode cJ1_rangeCheckForAdd 24 = .ok (.athrow, 1) := dk_191 (dk_at dksJ1_rangeCheckForAdd_1 0 rfl rfl)
theorem dJ1_rangeCheckForAdd_25 : decode cJ1_rangeCheckForAdd 25 = .ok (.return_, 1) := dk_177 (dk_at dksJ1_rangeCheckForAdd_1 1 rfl rfl)
abbrev cJ1_outOfBoundsMsg : ByteArray := prog_38_method_20_code
def yJ1_outOfBoundsMsg : MethodName := ⟨RJ1, "outOfBoundsMsg", "(I)Ljava/lang/String;"⟩
def dkwJ1_outOfBoundsMsg_1 : List UInt8 := [182, 0, 13, 182, 0, 112, 182, 0, 115, 176]
abbrev dktJ1_outOfBoundsMsg_1 : List UInt8 := dkwJ1_outOfBoundsMsg_1 ++ []
def dkwJ1_outOfBoundsMsg_0 : List UInt8 := [187, 0, 103, 89, 183, 0, 105, 18, 147, 182, 0, 108, 27, 182, 0, 112, 18, 149, 182, 0, 108, 42]
abbrev dktJ1_outOfBoundsMsg_0 : List UInt8 := dkwJ1_outOfBoundsMsg_0 ++ dktJ1_outOfBoundsMsg_1
theorem dksJ1_outOfBoundsMsg_0 : cJ1_outOfBoundsMsg.data.toList.drop 0 = dktJ1_outOfBoundsMsg_0 := by decide +kernel
theorem dksJ1_outOfBoundsMsg_1 : cJ1_outOfBoundsMsg.data.toList.drop 22 = dktJ1_outOfBoundsMsg_1 := dk_seg dksJ1_outOfBoundsMsg_0 22 rfl rfl
theorem dJ1_outOfBoundsMsg_0 : decode cJ1_outOfBoundsMsg 0 = .ok (.new 103, 3) := dk_187 0 103 (dk_at dksJ1_outOfBoundsMsg_0 0 rfl rfl)
theorem dJ1_outOfBoundsMsg_3 : decode cJ1_outOfBoundsMsg 3 = .ok (.dup, 1) := dk_89 (dk_at dksJ1_outOfBoundsMsg_0 3 rfl rfl)
theorem dJ1_outOfBoundsMsg_4 : decode cJ1_outOfBoundsMsg 4 = .ok (.invokespecial 105, 3) := dk_183 0 105 (dk_at dksJ1_outOfBoundsMsg_0 4 rfl rfl)
theorem dJ1_outOfBoundsMsg_7 : decode cJ1_outOfBoundsMsg 7 = .ok (.ldc 147, 2) := dk_18 147 (dk_at dksJ1_outOfBoundsMsg_0 7 rfl rfl)
theorem dJ1_outOfBoundsMsg_9 : decode cJ1_outOfBoundsMsg 9 = .ok (.invokevirtual 108, 3) := dk_182 0 108 (dk_at dksJ1_outOfBoundsMsg_0 9 rfl rfl)
theorem dJ1_outOfBoundsMsg_12 : decode cJ1_outOfBoundsMsg 12 = .ok (.iload_n 1, 1) := dk_27 (dk_at dksJ1_outOfBoundsMsg_0 12 rfl rfl)
theorem dJ1_outOfBoundsMsg_13 : decode cJ1_outOfBoundsMsg 13 = .ok (.invokevirtual 112, 3) := dk_182 0 112 (dk_at dksJ1_outOfBoundsMsg_0 13 rfl rfl)
theorem dJ1_outOfBoundsMsg_16 : decode cJ1_outOfBoundsMsg 16 = .ok (.ldc 149, 2) := dk_18 149 (dk_at dksJ1_outOfBoundsMsg_0 16 rfl rfl)
theorem dJ1_outOfBoundsMsg_18 : decode cJ1_outOfBoundsMsg 18 = .ok (.invokevirtual 108, 3) := dk_182 0 108 (dk_at dksJ1_outOfBoundsMsg_0 18 rfl rfl)
theorem dJ1_outOfBoundsMsg_21 : decode cJ1_outOfBoundsMsg 21 = .ok (.aload_n 0, 1) := dk_42 (dk_at dksJ1_outOfBoundsMsg_0 21 rfl rfl)
theorem dJ1_outOfBoundsMsg_22 : decode cJ1_outOfBoundsMsg 22 = .ok (.invokevirtual 13, 3) := dk_182 0 13 (dk_at dksJ1_outOfBoundsMsg_1 0 rfl rfl)
theorem dJ1_outOfBoundsMsg_25 : decode cJ1_outOfBoundsMsg 25 = .ok (.invokevirtual 112, 3) := dk_182 0 112 (dk_at dksJ1_outOfBoundsMsg_1 3 rfl rfl)
theorem dJ1_outOfBoundsMsg_28 : decode cJ1_outOfBoundsMsg 28 = .ok (.invokevirtual 115, 3) := dk_182 0 115 (dk_at dksJ1_outOfBoundsMsg_1 6 rfl rfl)
theorem dJ1_outOfBoundsMsg_31 : decode cJ1_outOfBoundsMsg 31 = .ok (.areturn, 1) := dk_176 (dk_at dksJ1_outOfBoundsMsg_1 9 rfl rfl)
abbrev cJ1_hashCode : ByteArray := prog_38_method_17_code
def yJ1_hashCode : MethodName := ⟨RJ1, "hashCode", "()I"⟩
def dkwJ1_hashCode_1 : List UInt8 := [16, 31, 27, 104, 45, 199, 0, 7, 3, 167, 0, 7, 45, 182, 0, 137, 96, 60, 167, 255, 222, 27, 172]
abbrev dktJ1_hashCode_1 : List UInt8 := dkwJ1_hashCode_1 ++ []
def dkwJ1_hashCode_0 : List UInt8 := [4, 60, 42, 182, 0, 136, 77, 44, 185, 0, 73, 1, 0, 153, 0, 31, 44, 185, 0, 76, 1, 0, 78]
abbrev dktJ1_hashCode_0 : List UInt8 := dkwJ1_hashCode_0 ++ dktJ1_hashCode_1
theorem dksJ1_hashCode_0 : cJ1_hashCode.data.toList.drop 0 = dktJ1_hashCode_0 := by decide +kernel
theorem dksJ1_hashCode_1 : cJ1_hashCode.data.toList.drop 23 = dktJ1_hashCode_1 := dk_seg dksJ1_hashCode_0 23 rfl rfl
theorem dJ1_hashCode_0 : decode cJ1_hashCode 0 = .ok (.iconst 1, 1) := dk_4 (dk_at dksJ1_hashCode_0 0 rfl rfl)
theorem dJ1_hashCode_1 : decode cJ1_hashCode 1 = .ok (.istore_n 1, 1) := dk_60 (dk_at dksJ1_hashCode_0 1 rfl rfl)
theorem dJ1_hashCode_2 : decode cJ1_hashCode 2 = .ok (.aload_n 0, 1) := dk_42 (dk_at dksJ1_hashCode_0 2 rfl rfl)
theorem dJ1_hashCode_3 : decode cJ1_hashCode 3 = .ok (.invokevirtual 136, 3) := dk_182 0 136 (dk_at dksJ1_hashCode_0 3 rfl rfl)
theorem dJ1_hashCode_6 : decode cJ1_hashCode 6 = .ok (.astore_n 2, 1) := dk_77 (dk_at dksJ1_hashCode_0 6 rfl rfl)
theorem dJ1_hashCode_7 : decode cJ1_hashCode 7 = .ok (.aload_n 2, 1) := dk_44 (dk_at dksJ1_hashCode_0 7 rfl rfl)
theorem dJ1_hashCode_8 : decode cJ1_hashCode 8 = .ok (.invokeinterface 73 1, 5) := by decide +kernel
theorem dJ1_hashCode_13 : decode cJ1_hashCode 13 = .ok (.ifCond .eq 31, 3) := dk_153 0 31 (dk_at dksJ1_hashCode_0 13 rfl rfl)
theorem dJ1_hashCode_16 : decode cJ1_hashCode 16 = .ok (.aload_n 2, 1) := dk_44 (dk_at dksJ1_hashCode_0 16 rfl rfl)
theorem dJ1_hashCode_17 : decode cJ1_hashCode 17 = .ok (.invokeinterface 76 1, 5) := by decide +kernel
theorem dJ1_hashCode_22 : decode cJ1_hashCode 22 = .ok (.astore_n 3, 1) := dk_78 (dk_at dksJ1_hashCode_0 22 rfl rfl)
theorem dJ1_hashCode_23 : decode cJ1_hashCode 23 = .ok (.bipush 31, 2) := dk_16 31 (dk_at dksJ1_hashCode_1 0 rfl rfl)
theorem dJ1_hashCode_25 : decode cJ1_hashCode 25 = .ok (.iload_n 1, 1) := dk_27 (dk_at dksJ1_hashCode_1 2 rfl rfl)
theorem dJ1_hashCode_26 : decode cJ1_hashCode 26 = .ok (.imul, 1) := dk_104 (dk_at dksJ1_hashCode_1 3 rfl rfl)
theorem dJ1_hashCode_27 : decode cJ1_hashCode 27 = .ok (.aload_n 3, 1) := dk_45 (dk_at dksJ1_hashCode_1 4 rfl rfl)
theorem dJ1_hashCode_28 : decode cJ1_hashCode 28 = .ok (.ifnonnull 7, 3) := dk_199 0 7 (dk_at dksJ1_hashCode_1 5 rfl rfl)
theorem dJ1_hashCode_31 : decode cJ1_hashCode 31 = .ok (.iconst 0, 1) := dk_3 (dk_at dksJ1_hashCode_1 8 rfl rfl)
theorem dJ1_hashCode_32 : decode cJ1_hashCode 32 = .ok (.goto 7, 3) := dk_167 0 7 (dk_at dksJ1_hashCode_1 9 rfl rfl)
theorem dJ1_hashCode_35 : decode cJ1_hashCode 35 = .ok (.aload_n 3, 1) := dk_45 (dk_at dksJ1_hashCode_1 12 rfl rfl)
theorem dJ1_hashCode_36 : decode cJ1_hashCode 36 = .ok (.invokevirtual 137, 3) := dk_182 0 137 (dk_at dksJ1_hashCode_1 13 rfl rfl)
theorem dJ1_hashCode_39 : decode cJ1_hashCode 39 = .ok (.iadd, 1) := dk_96 (dk_at dksJ1_hashCode_1 16 rfl rfl)
theorem dJ1_hashCode_40 : decode cJ1_hashCode 40 = .ok (.istore_n 1, 1) := dk_60 (dk_at dksJ1_hashCode_1 17 rfl rfl)
theorem dJ1_hashCode_41 : decode cJ1_hashCode 41 = .ok (.goto (-34), 3) := dk_167 255 222 (dk_at dksJ1_hashCode_1 18 rfl rfl)
theorem dJ1_hashCode_44 : decode cJ1_hashCode 44 = .ok (.iload_n 1, 1) := dk_27 (dk_at dksJ1_hashCode_1 21 rfl rfl)
theorem dJ1_hashCode_45 : decode cJ1_hashCode 45 = .ok (.ireturn, 1) := dk_172 (dk_at dksJ1_hashCode_1 22 rfl rfl)
abbrev cJ1_indexOf : ByteArray := prog_38_method_7_code
def yJ1_indexOf : MethodName := ⟨RJ1, "indexOf", "(Ljava/lang/Object;)I"⟩
def dkwJ1_indexOf_2 : List UInt8 := [185, 0, 34, 1, 0, 182, 0, 41, 153, 255, 237, 44, 185, 0, 38, 1, 0, 172, 2, 172]
abbrev dktJ1_indexOf_2 : List UInt8 := dkwJ1_indexOf_2 ++ []
def dkwJ1_indexOf_1 : List UInt8 := [199, 255, 241, 44, 185, 0, 38, 1, 0, 172, 44, 185, 0, 28, 1, 0, 153, 0, 23, 43, 44]
abbrev dktJ1_indexOf_1 : List UInt8 := dkwJ1_indexOf_1 ++ dktJ1_indexOf_2
def dkwJ1_indexOf_0 : List UInt8 := [42, 182, 0, 24, 77, 43, 199, 0, 28, 44, 185, 0, 28, 1, 0, 153, 0, 48, 44, 185, 0, 34, 1, 0]
abbrev dktJ1_indexOf_0 : List UInt8 := dkwJ1_indexOf_0 ++ dktJ1_indexOf_1
theorem dksJ1_indexOf_0 : cJ1_indexOf.data.toList.drop 0 = dktJ1_indexOf_0 := by decide +kernel
theorem dksJ1_indexOf_1 : cJ1_indexOf.data.toList.drop 24 = dktJ1_indexOf_1 := dk_seg dksJ1_indexOf_0 24 rfl rfl
theorem dksJ1_indexOf_2 : cJ1_indexOf.data.toList.drop 45 = dktJ1_indexOf_2 := dk_seg dksJ1_indexOf_1 21 rfl rfl
theorem dJ1_indexOf_0 : decode cJ1_indexOf 0 = .ok (.aload_n 0, 1) := dk_42 (dk_at dksJ1_indexOf_0 0 rfl rfl)
theorem dJ1_indexOf_1 : decode cJ1_indexOf 1 = .ok (.invokevirtual 24, 3) := dk_182 0 24 (dk_at dksJ1_indexOf_0 1 rfl rfl)
theorem dJ1_indexOf_4 : decode cJ1_indexOf 4 = .ok (.astore_n 2, 1) := dk_77 (dk_at dksJ1_indexOf_0 4 rfl rfl)
theorem dJ1_indexOf_5 : decode cJ1_indexOf 5 = .ok (.aload_n 1, 1) := dk_43 (dk_at dksJ1_indexOf_0 5 rfl rfl)
theorem dJ1_indexOf_6 : decode cJ1_indexOf 6 = .ok (.ifnonnull 28, 3) := dk_199 0 28 (dk_at dksJ1_indexOf_0 6 rfl rfl)
theorem dJ1_indexOf_9 : decode cJ1_indexOf 9 = .ok (.aload_n 2, 1) := dk_44 (dk_at dksJ1_indexOf_0 9 rfl rfl)
theorem dJ1_indexOf_10 : decode cJ1_indexOf 10 = .ok (.invokeinterface 28 1, 5) := by decide +kernel
theorem dJ1_indexOf_15 : decode cJ1_indexOf 15 = .ok (.ifCond .eq 48, 3) := dk_153 0 48 (dk_at dksJ1_indexOf_0 15 rfl rfl)
theorem dJ1_indexOf_18 : decode cJ1_indexOf 18 = .ok (.aload_n 2, 1) := dk_44 (dk_at dksJ1_indexOf_0 18 rfl rfl)
theorem dJ1_indexOf_19 : decode cJ1_indexOf 19 = .ok (.invokeinterface 34 1, 5) := by decide +kernel
theorem dJ1_indexOf_24 : decode cJ1_indexOf 24 = .ok (.ifnonnull (-15), 3) := dk_199 255 241 (dk_at dksJ1_indexOf_1 0 rfl rfl)
theorem dJ1_indexOf_27 : decode cJ1_indexOf 27 = .ok (.aload_n 2, 1) := dk_44 (dk_at dksJ1_indexOf_1 3 rfl rfl)
theorem dJ1_indexOf_28 : decode cJ1_indexOf 28 = .ok (.invokeinterface 38 1, 5) := by decide +kernel
theorem dJ1_indexOf_33 : decode cJ1_indexOf 33 = .ok (.ireturn, 1) := dk_172 (dk_at dksJ1_indexOf_1 9 rfl rfl)
theorem dJ1_indexOf_34 : decode cJ1_indexOf 34 = .ok (.aload_n 2, 1) := dk_44 (dk_at dksJ1_indexOf_1 10 rfl rfl)
theorem dJ1_indexOf_35 : decode cJ1_indexOf 35 = .ok (.invokeinterface 28 1, 5) := by decide +kernel
theorem dJ1_indexOf_40 : decode cJ1_indexOf 40 = .ok (.ifCond .eq 23, 3) := dk_153 0 23 (dk_at dksJ1_indexOf_1 16 rfl rfl)
theorem dJ1_indexOf_43 : decode cJ1_indexOf 43 = .ok (.aload_n 1, 1) := dk_43 (dk_at dksJ1_indexOf_1 19 rfl rfl)
theorem dJ1_indexOf_44 : decode cJ1_indexOf 44 = .ok (.aload_n 2, 1) := dk_44 (dk_at dksJ1_indexOf_1 20 rfl rfl)
theorem dJ1_indexOf_45 : decode cJ1_indexOf 45 = .ok (.invokeinterface 34 1, 5) := by decide +kernel
theorem dJ1_indexOf_50 : decode cJ1_indexOf 50 = .ok (.invokevirtual 41, 3) := dk_182 0 41 (dk_at dksJ1_indexOf_2 5 rfl rfl)
theorem dJ1_indexOf_53 : decode cJ1_indexOf 53 = .ok (.ifCond .eq (-19), 3) := dk_153 255 237 (dk_at dksJ1_indexOf_2 8 rfl rfl)
theorem dJ1_indexOf_56 : decode cJ1_indexOf 56 = .ok (.aload_n 2, 1) := dk_44 (dk_at dksJ1_indexOf_2 11 rfl rfl)
theorem dJ1_indexOf_57 : decode cJ1_indexOf 57 = .ok (.invokeinterface 38 1, 5) := by decide +kernel
theorem dJ1_indexOf_62 : decode cJ1_indexOf 62 = .ok (.ireturn, 1) := dk_172 (dk_at dksJ1_indexOf_2 17 rfl rfl)
theorem dJ1_indexOf_63 : decode cJ1_indexOf 63 = .ok (.iconst (-1), 1) := dk_2 (dk_at dksJ1_indexOf_2 18 rfl rfl)
theorem dJ1_indexOf_64 : decode cJ1_indexOf 64 = .ok (.ireturn, 1) := dk_172 (dk_at dksJ1_indexOf_2 19 rfl rfl)
abbrev cJ1_lastIndexOf : ByteArray := prog_38_method_8_code
def yJ1_lastIndexOf : MethodName := ⟨RJ1, "lastIndexOf", "(Ljava/lang/Object;)I"⟩
def dkwJ1_lastIndexOf_2 : List UInt8 := [43, 44, 185, 0, 53, 1, 0, 182, 0, 41, 153, 255, 237, 44, 185, 0, 56, 1, 0, 172, 2, 172]
abbrev dktJ1_lastIndexOf_2 : List UInt8 := dkwJ1_lastIndexOf_2 ++ []
def dkwJ1_lastIndexOf_1 : List UInt8 := [185, 0, 53, 1, 0, 199, 255, 241, 44, 185, 0, 56, 1, 0, 172, 44, 185, 0, 50, 1, 0, 153, 0, 23]
abbrev dktJ1_lastIndexOf_1 : List UInt8 := dkwJ1_lastIndexOf_1 ++ dktJ1_lastIndexOf_2
def dkwJ1_lastIndexOf_0 : List UInt8 := [42, 42, 182, 0, 13, 182, 0, 47, 77, 43, 199, 0, 28, 44, 185, 0, 50, 1, 0, 153, 0, 48, 44]
abbrev dktJ1_lastIndexOf_0 : List UInt8 := dkwJ1_lastIndexOf_0 ++ dktJ1_lastIndexOf_1
theorem dksJ1_lastIndexOf_0 : cJ1_lastIndexOf.data.toList.drop 0 = dktJ1_lastIndexOf_0 := by decide +kernel
theorem dksJ1_lastIndexOf_1 : cJ1_lastIndexOf.data.toList.drop 23 = dktJ1_lastIndexOf_1 := dk_seg dksJ1_lastIndexOf_0 23 rfl rfl
theorem dksJ1_lastIndexOf_2 : cJ1_lastIndexOf.data.toList.drop 47 = dktJ1_lastIndexOf_2 := dk_seg dksJ1_lastIndexOf_1 24 rfl rfl
theorem dJ1_lastIndexOf_0 : decode cJ1_lastIndexOf 0 = .ok (.aload_n 0, 1) := dk_42 (dk_at dksJ1_lastIndexOf_0 0 rfl rfl)
theorem dJ1_lastIndexOf_1 : decode cJ1_lastIndexOf 1 = .ok (.aload_n 0, 1) := dk_42 (dk_at dksJ1_lastIndexOf_0 1 rfl rfl)
theorem dJ1_lastIndexOf_2 : decode cJ1_lastIndexOf 2 = .ok (.invokevirtual 13, 3) := dk_182 0 13 (dk_at dksJ1_lastIndexOf_0 2 rfl rfl)
theorem dJ1_lastIndexOf_5 : decode cJ1_lastIndexOf 5 = .ok (.invokevirtual 47, 3) := dk_182 0 47 (dk_at dksJ1_lastIndexOf_0 5 rfl rfl)
theorem dJ1_lastIndexOf_8 : decode cJ1_lastIndexOf 8 = .ok (.astore_n 2, 1) := dk_77 (dk_at dksJ1_lastIndexOf_0 8 rfl rfl)
theorem dJ1_lastIndexOf_9 : decode cJ1_lastIndexOf 9 = .ok (.aload_n 1, 1) := dk_43 (dk_at dksJ1_lastIndexOf_0 9 rfl rfl)
theorem dJ1_lastIndexOf_10 : decode cJ1_lastIndexOf 10 = .ok (.ifnonnull 28, 3) := dk_199 0 28 (dk_at dksJ1_lastIndexOf_0 10 rfl rfl)
theorem dJ1_lastIndexOf_13 : decode cJ1_lastIndexOf 13 = .ok (.aload_n 2, 1) := dk_44 (dk_at dksJ1_lastIndexOf_0 13 rfl rfl)
theorem dJ1_lastIndexOf_14 : decode cJ1_lastIndexOf 14 = .ok (.invokeinterface 50 1, 5) := by decide +kernel
theorem dJ1_lastIndexOf_19 : decode cJ1_lastIndexOf 19 = .ok (.ifCond .eq 48, 3) := dk_153 0 48 (dk_at dksJ1_lastIndexOf_0 19 rfl rfl)
theorem dJ1_lastIndexOf_22 : decode cJ1_lastIndexOf 22 = .ok (.aload_n 2, 1) := dk_44 (dk_at dksJ1_lastIndexOf_0 22 rfl rfl)
theorem dJ1_lastIndexOf_23 : decode cJ1_lastIndexOf 23 = .ok (.invokeinterface 53 1, 5) := by decide +kernel
theorem dJ1_lastIndexOf_28 : decode cJ1_lastIndexOf 28 = .ok (.ifnonnull (-15), 3) := dk_199 255 241 (dk_at dksJ1_lastIndexOf_1 5 rfl rfl)
theorem dJ1_lastIndexOf_31 : decode cJ1_lastIndexOf 31 = .ok (.aload_n 2, 1) := dk_44 (dk_at dksJ1_lastIndexOf_1 8 rfl rfl)
theorem dJ1_lastIndexOf_32 : decode cJ1_lastIndexOf 32 = .ok (.invokeinterface 56 1, 5) := by decide +kernel
theorem dJ1_lastIndexOf_37 : decode cJ1_lastIndexOf 37 = .ok (.ireturn, 1) := dk_172 (dk_at dksJ1_lastIndexOf_1 14 rfl rfl)
theorem dJ1_lastIndexOf_38 : decode cJ1_lastIndexOf 38 = .ok (.aload_n 2, 1) := dk_44 (dk_at dksJ1_lastIndexOf_1 15 rfl rfl)
theorem dJ1_lastIndexOf_39 : decode cJ1_lastIndexOf 39 = .ok (.invokeinterface 50 1, 5) := by decide +kernel
theorem dJ1_lastIndexOf_44 : decode cJ1_lastIndexOf 44 = .ok (.ifCond .eq 23, 3) := dk_153 0 23 (dk_at dksJ1_lastIndexOf_1 21 rfl rfl)
theorem dJ1_lastIndexOf_47 : decode cJ1_lastIndexOf 47 = .ok (.aload_n 1, 1) := dk_43 (dk_at dksJ1_lastIndexOf_2 0 rfl rfl)
theorem dJ1_lastIndexOf_48 : decode cJ1_lastIndexOf 48 = .ok (.aload_n 2, 1) := dk_44 (dk_at dksJ1_lastIndexOf_2 1 rfl rfl)
theorem dJ1_lastIndexOf_49 : decode cJ1_lastIndexOf 49 = .ok (.invokeinterface 53 1, 5) := by decide +kernel
theorem dJ1_lastIndexOf_54 : decode cJ1_lastIndexOf 54 = .ok (.invokevirtual 41, 3) := dk_182 0 41 (dk_at dksJ1_lastIndexOf_2 7 rfl rfl)
theorem dJ1_lastIndexOf_57 : decode cJ1_lastIndexOf 57 = .ok (.ifCond .eq (-19), 3) := dk_153 255 237 (dk_at dksJ1_lastIndexOf_2 10 rfl rfl)
theorem dJ1_lastIndexOf_60 : decode cJ1_lastIndexOf 60 = .ok (.aload_n 2, 1) := dk_44 (dk_at dksJ1_lastIndexOf_2 13 rfl rfl)
theorem dJ1_lastIndexOf_61 : decode cJ1_lastIndexOf 61 = .ok (.invokeinterface 56 1, 5) := by decide +kernel
theorem dJ1_lastIndexOf_66 : decode cJ1_lastIndexOf 66 = .ok (.ireturn, 1) := dk_172 (dk_at dksJ1_lastIndexOf_2 19 rfl rfl)
theorem dJ1_lastIndexOf_67 : decode cJ1_lastIndexOf 67 = .ok (.iconst (-1), 1) := dk_2 (dk_at dksJ1_lastIndexOf_2 20 rfl rfl)
theorem dJ1_lastIndexOf_68 : decode cJ1_lastIndexOf 68 = .ok (.ireturn, 1) := dk_172 (dk_at dksJ1_lastIndexOf_2 21 rfl rfl)
abbrev cJ1_add : ByteArray := prog_38_method_2_code
def yJ1_add : MethodName := ⟨RJ1, "add", "(Ljava/lang/Object;)Z"⟩
def dkwJ1_add_0 : List UInt8 := [42, 42, 182, 0, 13, 43, 182, 0, 17, 4, 172]
abbrev dktJ1_add_0 : List UInt8 := dkwJ1_add_0 ++ []
theorem dksJ1_add_0 : cJ1_add.data.toList.drop 0 = dktJ1_add_0 := by decide +kernel
theorem dJ1_add_0 : decode cJ1_add 0 = .ok (.aload_n 0, 1) := dk_42 (dk_at dksJ1_add_0 0 rfl rfl)
theorem dJ1_add_1 : decode cJ1_add 1 = .ok (.aload_n 0, 1) := dk_42 (dk_at dksJ1_add_0 1 rfl rfl)
theorem dJ1_add_2 : decode cJ1_add 2 = .ok (.invokevirtual 13, 3) := dk_182 0 13 (dk_at dksJ1_add_0 2 rfl rfl)
theorem dJ1_add_5 : decode cJ1_add 5 = .ok (.aload_n 1, 1) := dk_43 (dk_at dksJ1_add_0 5 rfl rfl)
theorem dJ1_add_6 : decode cJ1_add 6 = .ok (.invokevirtual 17, 3) := dk_182 0 17 (dk_at dksJ1_add_0 6 rfl rfl)
theorem dJ1_add_9 : decode cJ1_add 9 = .ok (.iconst 1, 1) := dk_4 (dk_at dksJ1_add_0 9 rfl rfl)
theorem dJ1_add_10 : decode cJ1_add 10 = .ok (.ireturn, 1) := dk_172 (dk_at dksJ1_add_0 10 rfl rfl)
abbrev cJ1_add_2 : ByteArray := prog_38_method_5_code
def yJ1_add_2 : MethodName := ⟨RJ1, "add", "(ILjava/lang/Object;)V"⟩
def dkwJ1_add_2_0 : List UInt8 := [187, 0, 21, 89, 183, 0, 23, 191]
abbrev dktJ1_add_2_0 : List UInt8 := dkwJ1_add_2_0 ++ []
theorem dksJ1_add_2_0 : cJ1_add_2.data.toList.drop 0 = dktJ1_add_2_0 := by decide +kernel
theorem dJ1_add_2_0 : decode cJ1_add_2 0 = .ok (.new 21, 3) := dk_187 0 21 (dk_at dksJ1_add_2_0 0 rfl rfl)
theorem dJ1_add_2_3 : decode cJ1_add_2 3 = .ok (.dup, 1) := dk_89 (dk_at dksJ1_add_2_0 3 rfl rfl)
theorem dJ1_add_2_4 : decode cJ1_add_2 4 = .ok (.invokespecial 23, 3) := dk_183 0 23 (dk_at dksJ1_add_2_0 4 rfl rfl)
theorem dJ1_add_2_7 : decode cJ1_add_2 7 = .ok (.athrow, 1) := dk_191 (dk_at dksJ1_add_2_0 7 rfl rfl)
abbrev cJ1_clear : ByteArray := prog_38_method_9_code
def yJ1_clear : MethodName := ⟨RJ1, "clear", "()V"⟩
def dkwJ1_clear_0 : List UInt8 := [42, 3, 42, 182, 0, 13, 182, 0, 59, 177]
abbrev dktJ1_clear_0 : List UInt8 := dkwJ1_clear_0 ++ []
theorem dksJ1_clear_0 : cJ1_clear.data.toList.drop 0 = dktJ1_clear_0 := by decide +kernel
theorem dJ1_clear_0 : decode cJ1_clear 0 = .ok (.aload_n 0, 1) := dk_42 (dk_at dksJ1_clear_0 0 rfl rfl)
theorem dJ1_clear_1 : decode cJ1_clear 1 = .ok (.iconst 0, 1) := dk_3 (dk_at dksJ1_clear_0 1 rfl rfl)
theorem dJ1_clear_2 : decode cJ1_clear 2 = .ok (.aload_n 0, 1) := dk_42 (dk_at dksJ1_clear_0 2 rfl rfl)
theorem dJ1_clear_3 : decode cJ1_clear 3 = .ok (.invokevirtual 13, 3) := dk_182 0 13 (dk_at dksJ1_clear_0 3 rfl rfl)
theorem dJ1_clear_6 : decode cJ1_clear 6 = .ok (.invokevirtual 59, 3) := dk_182 0 59 (dk_at dksJ1_clear_0 6 rfl rfl)
theorem dJ1_clear_9 : decode cJ1_clear 9 = .ok (.return_, 1) := dk_177 (dk_at dksJ1_clear_0 9 rfl rfl)
abbrev cJ1_removeRange : ByteArray := prog_38_method_18_code
def yJ1_removeRange : MethodName := ⟨RJ1, "removeRange", "(II)V"⟩
def dkwJ1_removeRange_1 : List UInt8 := [185, 0, 34, 1, 0, 87, 45, 185, 0, 140, 1, 0, 132, 4, 1, 167, 255, 233, 177]
abbrev dktJ1_removeRange_1 : List UInt8 := dkwJ1_removeRange_1 ++ []
def dkwJ1_removeRange_0 : List UInt8 := [42, 27, 182, 0, 47, 78, 3, 54, 4, 28, 27, 100, 54, 5, 21, 4, 21, 5, 162, 0, 22, 45]
abbrev dktJ1_removeRange_0 : List UInt8 := dkwJ1_removeRange_0 ++ dktJ1_removeRange_1
theorem dksJ1_removeRange_0 : cJ1_removeRange.data.toList.drop 0 = dktJ1_removeRange_0 := by decide +kernel
theorem dksJ1_removeRange_1 : cJ1_removeRange.data.toList.drop 22 = dktJ1_removeRange_1 := dk_seg dksJ1_removeRange_0 22 rfl rfl
theorem dJ1_removeRange_0 : decode cJ1_removeRange 0 = .ok (.aload_n 0, 1) := dk_42 (dk_at dksJ1_removeRange_0 0 rfl rfl)
theorem dJ1_removeRange_1 : decode cJ1_removeRange 1 = .ok (.iload_n 1, 1) := dk_27 (dk_at dksJ1_removeRange_0 1 rfl rfl)
theorem dJ1_removeRange_2 : decode cJ1_removeRange 2 = .ok (.invokevirtual 47, 3) := dk_182 0 47 (dk_at dksJ1_removeRange_0 2 rfl rfl)
theorem dJ1_removeRange_5 : decode cJ1_removeRange 5 = .ok (.astore_n 3, 1) := dk_78 (dk_at dksJ1_removeRange_0 5 rfl rfl)
theorem dJ1_removeRange_6 : decode cJ1_removeRange 6 = .ok (.iconst 0, 1) := dk_3 (dk_at dksJ1_removeRange_0 6 rfl rfl)
theorem dJ1_removeRange_7 : decode cJ1_removeRange 7 = .ok (.istore 4, 2) := dk_54 4 (dk_at dksJ1_removeRange_0 7 rfl rfl)
theorem dJ1_removeRange_9 : decode cJ1_removeRange 9 = .ok (.iload_n 2, 1) := dk_28 (dk_at dksJ1_removeRange_0 9 rfl rfl)
theorem dJ1_removeRange_10 : decode cJ1_removeRange 10 = .ok (.iload_n 1, 1) := dk_27 (dk_at dksJ1_removeRange_0 10 rfl rfl)
theorem dJ1_removeRange_11 : decode cJ1_removeRange 11 = .ok (.isub, 1) := dk_100 (dk_at dksJ1_removeRange_0 11 rfl rfl)
theorem dJ1_removeRange_12 : decode cJ1_removeRange 12 = .ok (.istore 5, 2) := dk_54 5 (dk_at dksJ1_removeRange_0 12 rfl rfl)
theorem dJ1_removeRange_14 : decode cJ1_removeRange 14 = .ok (.iload 4, 2) := dk_21 4 (dk_at dksJ1_removeRange_0 14 rfl rfl)
theorem dJ1_removeRange_16 : decode cJ1_removeRange 16 = .ok (.iload 5, 2) := dk_21 5 (dk_at dksJ1_removeRange_0 16 rfl rfl)
theorem dJ1_removeRange_18 : decode cJ1_removeRange 18 = .ok (.if_icmp .ge 22, 3) := dk_162 0 22 (dk_at dksJ1_removeRange_0 18 rfl rfl)
theorem dJ1_removeRange_21 : decode cJ1_removeRange 21 = .ok (.aload_n 3, 1) := dk_45 (dk_at dksJ1_removeRange_0 21 rfl rfl)
theorem dJ1_removeRange_22 : decode cJ1_removeRange 22 = .ok (.invokeinterface 34 1, 5) := by decide +kernel
theorem dJ1_removeRange_27 : decode cJ1_removeRange 27 = .ok (.pop, 1) := dk_87 (dk_at dksJ1_removeRange_1 5 rfl rfl)
theorem dJ1_removeRange_28 : decode cJ1_removeRange 28 = .ok (.aload_n 3, 1) := dk_45 (dk_at dksJ1_removeRange_1 6 rfl rfl)
theorem dJ1_removeRange_29 : decode cJ1_removeRange 29 = .ok (.invokeinterface 140 1, 5) := by decide +kernel
theorem dJ1_removeRange_34 : decode cJ1_removeRange 34 = .ok (.iinc 4 1, 3) := dk_132 4 1 (dk_at dksJ1_removeRange_1 12 rfl rfl)
theorem dJ1_removeRange_37 : decode cJ1_removeRange 37 = .ok (.goto (-23), 3) := dk_167 255 233 (dk_at dksJ1_removeRange_1 15 rfl rfl)
theorem dJ1_removeRange_40 : decode cJ1_removeRange 40 = .ok (.return_, 1) := dk_177 (dk_at dksJ1_removeRange_1 18 rfl rfl)
abbrev cJ1_remove : ByteArray := prog_38_method_6_code
def yJ1_remove : MethodName := ⟨RJ1, "remove", "(I)Ljava/lang/Object;"⟩
def dkwJ1_remove_0 : List UInt8 := [187, 0, 21, 89, 183, 0, 23, 191]
abbrev dktJ1_remove_0 : List UInt8 := dkwJ1_remove_0 ++ []
theorem dksJ1_remove_0 : cJ1_remove.data.toList.drop 0 = dktJ1_remove_0 := by decide +kernel
theorem dJ1_remove_0 : decode cJ1_remove 0 = .ok (.new 21, 3) := dk_187 0 21 (dk_at dksJ1_remove_0 0 rfl rfl)
theorem dJ1_remove_3 : decode cJ1_remove 3 = .ok (.dup, 1) := dk_89 (dk_at dksJ1_remove_0 3 rfl rfl)
theorem dJ1_remove_4 : decode cJ1_remove 4 = .ok (.invokespecial 23, 3) := dk_183 0 23 (dk_at dksJ1_remove_0 4 rfl rfl)
theorem dJ1_remove_7 : decode cJ1_remove 7 = .ok (.athrow, 1) := dk_191 (dk_at dksJ1_remove_0 7 rfl rfl)
abbrev cJ1_subListRangeCheck : ByteArray := prog_38_method_15_code
def yJ1_subListRangeCheck : MethodName := ⟨RJ1, "subListRangeCheck", "(III)V"⟩
def dkwJ1_subListRangeCheck_4 : List UInt8 := [182, 0, 112, 18, 130, 182, 0, 108, 182, 0, 115, 183, 0, 132, 191, 177]
abbrev dktJ1_subListRangeCheck_4 : List UInt8 := dkwJ1_subListRangeCheck_4 ++ []
def dkwJ1_subListRangeCheck_3 : List UInt8 := [89, 187, 0, 103, 89, 183, 0, 105, 18, 126, 182, 0, 108, 26, 182, 0, 112, 18, 128, 182, 0, 108, 27]
abbrev dktJ1_subListRangeCheck_3 : List UInt8 := dkwJ1_subListRangeCheck_3 ++ dktJ1_subListRangeCheck_4
def dkwJ1_subListRangeCheck_2 : List UInt8 := [18, 122, 182, 0, 108, 27, 182, 0, 112, 182, 0, 115, 183, 0, 119, 191, 26, 27, 164, 0, 44, 187, 0, 124]
abbrev dktJ1_subListRangeCheck_2 : List UInt8 := dkwJ1_subListRangeCheck_2 ++ dktJ1_subListRangeCheck_3
def dkwJ1_subListRangeCheck_1 : List UInt8 := [182, 0, 115, 183, 0, 119, 191, 27, 28, 164, 0, 30, 187, 0, 101, 89, 187, 0, 103, 89, 183, 0, 105]
abbrev dktJ1_subListRangeCheck_1 : List UInt8 := dkwJ1_subListRangeCheck_1 ++ dktJ1_subListRangeCheck_2
def dkwJ1_subListRangeCheck_0 : List UInt8 := [26, 156, 0, 30, 187, 0, 101, 89, 187, 0, 103, 89, 183, 0, 105, 18, 106, 182, 0, 108, 26, 182, 0, 112]
abbrev dktJ1_subListRangeCheck_0 : List UInt8 := dkwJ1_subListRangeCheck_0 ++ dktJ1_subListRangeCheck_1
theorem dksJ1_subListRangeCheck_0 : cJ1_subListRangeCheck.data.toList.drop 0 = dktJ1_subListRangeCheck_0 := by decide +kernel
theorem dksJ1_subListRangeCheck_1 : cJ1_subListRangeCheck.data.toList.drop 24 = dktJ1_subListRangeCheck_1 := dk_seg dksJ1_subListRangeCheck_0 24 rfl rfl
theorem dksJ1_subListRangeCheck_2 : cJ1_subListRangeCheck.data.toList.drop 47 = dktJ1_subListRangeCheck_2 := dk_seg dksJ1_subListRangeCheck_1 23 rfl rfl
theorem dksJ1_subListRangeCheck_3 : cJ1_subListRangeCheck.data.toList.drop 71 = dktJ1_subListRangeCheck_3 := dk_seg dksJ1_subListRangeCheck_2 24 rfl rfl
theorem dksJ1_subListRangeCheck_4 : cJ1_subListRangeCheck.data.toList.drop 94 = dktJ1_subListRangeCheck_4 := dk_seg dksJ1_subListRangeCheck_3 23 rfl rfl
theorem dJ1_subListRangeCheck_0 : decode cJ1_subListRangeCheck 0 = .ok (.iload_n 0, 1) := dk_26 (dk_at dksJ1_subListRangeCheck_0 0 rfl rfl)
theorem dJ1_subListRangeCheck_1 : decode cJ1_subListRangeCheck 1 = .ok (.ifCond .ge 30, 3) := dk_156 0 30 (dk_at dksJ1_subListRangeCheck_0 1 rfl rfl)
theorem dJ1_subListRangeCheck_4 : decode cJ1_subListRangeCheck 4 = .ok (.new 101, 3) := dk_187 0 101 (dk_at dksJ1_subListRangeCheck_0 4 rfl rfl)
theorem dJ1_subListRangeCheck_7 : decode cJ1_subListRangeCheck 7 = .ok (.dup, 1) := dk_89 (dk_at dksJ1_subListRangeCheck_0 7 rfl rfl)
theorem dJ1_subListRangeCheck_8 : decode cJ1_subListRangeCheck 8 = .ok (.new 103, 3) := dk_187 0 103 (dk_at dksJ1_subListRangeCheck_0 8 rfl rfl)
theorem dJ1_subListRangeCheck_11 : decode cJ1_subListRangeCheck 11 = .ok (.dup, 1) := dk_89 (dk_at dksJ1_subListRangeCheck_0 11 rfl rfl)
theorem dJ1_subListRangeCheck_12 : decode cJ1_subListRangeCheck 12 = .ok (.invokespecial 105, 3) := dk_183 0 105 (dk_at dksJ1_subListRangeCheck_0 12 rfl rfl)
theorem dJ1_subListRangeCheck_15 : decode cJ1_subListRangeCheck 15 = .ok (.ldc 106, 2) := dk_18 106 (dk_at dksJ1_subListRangeCheck_0 15 rfl rfl)
theorem dJ1_subListRangeCheck_17 : decode cJ1_subListRangeCheck 17 = .ok (.invokevirtual 108, 3) := dk_182 0 108 (dk_at dksJ1_subListRangeCheck_0 17 rfl rfl)
theorem dJ1_subListRangeCheck_20 : decode cJ1_subListRangeCheck 20 = .ok (.iload_n 0, 1) := dk_26 (dk_at dksJ1_subListRangeCheck_0 20 rfl rfl)
theorem dJ1_subListRangeCheck_21 : decode cJ1_subListRangeCheck 21 = .ok (.invokevirtual 112, 3) := dk_182 0 112 (dk_at dksJ1_subListRangeCheck_0 21 rfl rfl)
theorem dJ1_subListRangeCheck_24 : decode cJ1_subListRangeCheck 24 = .ok (.invokevirtual 115, 3) := dk_182 0 115 (dk_at dksJ1_subListRangeCheck_1 0 rfl rfl)
theorem dJ1_subListRangeCheck_27 : decode cJ1_subListRangeCheck 27 = .ok (.invokespecial 119, 3) := dk_183 0 119 (dk_at dksJ1_subListRangeCheck_1 3 rfl rfl)
theorem dJ1_subListRangeCheck_30 : decode cJ1_subListRangeCheck 30 = .ok (.athrow, 1) := dk_191 (dk_at dksJ1_subListRangeCheck_1 6 rfl rfl)
theorem dJ1_subListRangeCheck_31 : decode cJ1_subListRangeCheck 31 = .ok (.iload_n 1, 1) := dk_27 (dk_at dksJ1_subListRangeCheck_1 7 rfl rfl)
theorem dJ1_subListRangeCheck_32 : decode cJ1_subListRangeCheck 32 = .ok (.iload_n 2, 1) := dk_28 (dk_at dksJ1_subListRangeCheck_1 8 rfl rfl)
theorem dJ1_subListRangeCheck_33 : decode cJ1_subListRangeCheck 33 = .ok (.if_icmp .le 30, 3) := dk_164 0 30 (dk_at dksJ1_subListRangeCheck_1 9 rfl rfl)
theorem dJ1_subListRangeCheck_36 : decode cJ1_subListRangeCheck 36 = .ok (.new 101, 3) := dk_187 0 101 (dk_at dksJ1_subListRangeCheck_1 12 rfl rfl)
theorem dJ1_subListRangeCheck_39 : decode cJ1_subListRangeCheck 39 = .ok (.dup, 1) := dk_89 (dk_at dksJ1_subListRangeCheck_1 15 rfl rfl)
theorem dJ1_subListRangeCheck_40 : decode cJ1_subListRangeCheck 40 = .ok (.new 103, 3) := dk_187 0 103 (dk_at dksJ1_subListRangeCheck_1 16 rfl rfl)
theorem dJ1_subListRangeCheck_43 : decode cJ1_subListRangeCheck 43 = .ok (.dup, 1) := dk_89 (dk_at dksJ1_subListRangeCheck_1 19 rfl rfl)
theorem dJ1_subListRangeCheck_44 : decode cJ1_subListRangeCheck 44 = .ok (.invokespecial 105, 3) := dk_183 0 105 (dk_at dksJ1_subListRangeCheck_1 20 rfl rfl)
theorem dJ1_subListRangeCheck_47 : decode cJ1_subListRangeCheck 47 = .ok (.ldc 122, 2) := dk_18 122 (dk_at dksJ1_subListRangeCheck_2 0 rfl rfl)
theorem dJ1_subListRangeCheck_49 : decode cJ1_subListRangeCheck 49 = .ok (.invokevirtual 108, 3) := dk_182 0 108 (dk_at dksJ1_subListRangeCheck_2 2 rfl rfl)
theorem dJ1_subListRangeCheck_52 : decode cJ1_subListRangeCheck 52 = .ok (.iload_n 1, 1) := dk_27 (dk_at dksJ1_subListRangeCheck_2 5 rfl rfl)
theorem dJ1_subListRangeCheck_53 : decode cJ1_subListRangeCheck 53 = .ok (.invokevirtual 112, 3) := dk_182 0 112 (dk_at dksJ1_subListRangeCheck_2 6 rfl rfl)
theorem dJ1_subListRangeCheck_56 : decode cJ1_subListRangeCheck 56 = .ok (.invokevirtual 115, 3) := dk_182 0 115 (dk_at dksJ1_subListRangeCheck_2 9 rfl rfl)
theorem dJ1_subListRangeCheck_59 : decode cJ1_subListRangeCheck 59 = .ok (.invokespecial 119, 3) := dk_183 0 119 (dk_at dksJ1_subListRangeCheck_2 12 rfl rfl)
theorem dJ1_subListRangeCheck_62 : decode cJ1_subListRangeCheck 62 = .ok (.athrow, 1) := dk_191 (dk_at dksJ1_subListRangeCheck_2 15 rfl rfl)
theorem dJ1_subListRangeCheck_63 : decode cJ1_subListRangeCheck 63 = .ok (.iload_n 0, 1) := dk_26 (dk_at dksJ1_subListRangeCheck_2 16 rfl rfl)
theorem dJ1_subListRangeCheck_64 : decode cJ1_subListRangeCheck 64 = .ok (.iload_n 1, 1) := dk_27 (dk_at dksJ1_subListRangeCheck_2 17 rfl rfl)
theorem dJ1_subListRangeCheck_65 : decode cJ1_subListRangeCheck 65 = .ok (.if_icmp .le 44, 3) := dk_164 0 44 (dk_at dksJ1_subListRangeCheck_2 18 rfl rfl)
theorem dJ1_subListRangeCheck_68 : decode cJ1_subListRangeCheck 68 = .ok (.new 124, 3) := dk_187 0 124 (dk_at dksJ1_subListRangeCheck_2 21 rfl rfl)
theorem dJ1_subListRangeCheck_71 : decode cJ1_subListRangeCheck 71 = .ok (.dup, 1) := dk_89 (dk_at dksJ1_subListRangeCheck_3 0 rfl rfl)
theorem dJ1_subListRangeCheck_72 : decode cJ1_subListRangeCheck 72 = .ok (.new 103, 3) := dk_187 0 103 (dk_at dksJ1_subListRangeCheck_3 1 rfl rfl)
theorem dJ1_subListRangeCheck_75 : decode cJ1_subListRangeCheck 75 = .ok (.dup, 1) := dk_89 (dk_at dksJ1_subListRangeCheck_3 4 rfl rfl)
theorem dJ1_subListRangeCheck_76 : decode cJ1_subListRangeCheck 76 = .ok (.invokespecial 105, 3) := dk_183 0 105 (dk_at dksJ1_subListRangeCheck_3 5 rfl rfl)
theorem dJ1_subListRangeCheck_79 : decode cJ1_subListRangeCheck 79 = .ok (.ldc 126, 2) := dk_18 126 (dk_at dksJ1_subListRangeCheck_3 8 rfl rfl)
theorem dJ1_subListRangeCheck_81 : decode cJ1_subListRangeCheck 81 = .ok (.invokevirtual 108, 3) := dk_182 0 108 (dk_at dksJ1_subListRangeCheck_3 10 rfl rfl)
theorem dJ1_subListRangeCheck_84 : decode cJ1_subListRangeCheck 84 = .ok (.iload_n 0, 1) := dk_26 (dk_at dksJ1_subListRangeCheck_3 13 rfl rfl)
theorem dJ1_subListRangeCheck_85 : decode cJ1_subListRangeCheck 85 = .ok (.invokevirtual 112, 3) := dk_182 0 112 (dk_at dksJ1_subListRangeCheck_3 14 rfl rfl)
theorem dJ1_subListRangeCheck_88 : decode cJ1_subListRangeCheck 88 = .ok (.ldc 128, 2) := dk_18 128 (dk_at dksJ1_subListRangeCheck_3 17 rfl rfl)
theorem dJ1_subListRangeCheck_90 : decode cJ1_subListRangeCheck 90 = .ok (.invokevirtual 108, 3) := dk_182 0 108 (dk_at dksJ1_subListRangeCheck_3 19 rfl rfl)
theorem dJ1_subListRangeCheck_93 : decode cJ1_subListRangeCheck 93 = .ok (.iload_n 1, 1) := dk_27 (dk_at dksJ1_subListRangeCheck_3 22 rfl rfl)
theorem dJ1_subListRangeCheck_94 : decode cJ1_subListRangeCheck 94 = .ok (.invokevirtual 112, 3) := dk_182 0 112 (dk_at dksJ1_subListRangeCheck_4 0 rfl rfl)
theorem dJ1_subListRangeCheck_97 : decode cJ1_subListRangeCheck 97 = .ok (.ldc 130, 2) := dk_18 130 (dk_at dksJ1_subListRangeCheck_4 3 rfl rfl)
theorem dJ1_subListRangeCheck_99 : decode cJ1_subListRangeCheck 99 = .ok (.invokevirtual 108, 3) := dk_182 0 108 (dk_at dksJ1_subListRangeCheck_4 5 rfl rfl)
theorem dJ1_subListRangeCheck_102 : decode cJ1_subListRangeCheck 102 = .ok (.invokevirtual 115, 3) := dk_182 0 115 (dk_at dksJ1_subListRangeCheck_4 8 rfl rfl)
theorem dJ1_subListRangeCheck_105 : decode cJ1_subListRangeCheck 105 = .ok (.invokespecial 132, 3) := dk_183 0 132 (dk_at dksJ1_subListRangeCheck_4 11 rfl rfl)
theorem dJ1_subListRangeCheck_108 : decode cJ1_subListRangeCheck 108 = .ok (.athrow, 1) := dk_191 (dk_at dksJ1_subListRangeCheck_4 14 rfl rfl)
theorem dJ1_subListRangeCheck_109 : decode cJ1_subListRangeCheck 109 = .ok (.return_, 1) := dk_177 (dk_at dksJ1_subListRangeCheck_4 15 rfl rfl)
abbrev cJ1_subList : ByteArray := prog_38_method_14_code
def yJ1_subList : MethodName := ⟨RJ1, "subList", "(II)Ljava/util/List;"⟩
def dkwJ1_subList_1 : List UInt8 := [183, 0, 95, 167, 0, 13, 187, 0, 98, 89, 42, 27, 28, 183, 0, 100, 176]
abbrev dktJ1_subList_1 : List UInt8 := dkwJ1_subList_1 ++ []
def dkwJ1_subList_0 : List UInt8 := [27, 28, 42, 182, 0, 13, 184, 0, 87, 42, 193, 0, 91, 153, 0, 16, 187, 0, 93, 89, 42, 27, 28]
abbrev dktJ1_subList_0 : List UInt8 := dkwJ1_subList_0 ++ dktJ1_subList_1
theorem dksJ1_subList_0 : cJ1_subList.data.toList.drop 0 = dktJ1_subList_0 := by decide +kernel
theorem dksJ1_subList_1 : cJ1_subList.data.toList.drop 23 = dktJ1_subList_1 := dk_seg dksJ1_subList_0 23 rfl rfl
theorem dJ1_subList_0 : decode cJ1_subList 0 = .ok (.iload_n 1, 1) := dk_27 (dk_at dksJ1_subList_0 0 rfl rfl)
theorem dJ1_subList_1 : decode cJ1_subList 1 = .ok (.iload_n 2, 1) := dk_28 (dk_at dksJ1_subList_0 1 rfl rfl)
theorem dJ1_subList_2 : decode cJ1_subList 2 = .ok (.aload_n 0, 1) := dk_42 (dk_at dksJ1_subList_0 2 rfl rfl)
theorem dJ1_subList_3 : decode cJ1_subList 3 = .ok (.invokevirtual 13, 3) := dk_182 0 13 (dk_at dksJ1_subList_0 3 rfl rfl)
theorem dJ1_subList_6 : decode cJ1_subList 6 = .ok (.invokestatic 87, 3) := dk_184 0 87 (dk_at dksJ1_subList_0 6 rfl rfl)
theorem dJ1_subList_9 : decode cJ1_subList 9 = .ok (.aload_n 0, 1) := dk_42 (dk_at dksJ1_subList_0 9 rfl rfl)
theorem dJ1_subList_10 : decode cJ1_subList 10 = .ok (.instanceof 91, 3) := dk_193 0 91 (dk_at dksJ1_subList_0 10 rfl rfl)
theorem dJ1_subList_13 : decode cJ1_subList 13 = .ok (.ifCond .eq 16, 3) := dk_153 0 16 (dk_at dksJ1_subList_0 13 rfl rfl)
theorem dJ1_subList_16 : decode cJ1_subList 16 = .ok (.new 93, 3) := dk_187 0 93 (dk_at dksJ1_subList_0 16 rfl rfl)
theorem dJ1_subList_19 : decode cJ1_subList 19 = .ok (.dup, 1) := dk_89 (dk_at dksJ1_subList_0 19 rfl rfl)
theorem dJ1_subList_20 : decode cJ1_subList 20 = .ok (.aload_n 0, 1) := dk_42 (dk_at dksJ1_subList_0 20 rfl rfl)
theorem dJ1_subList_21 : decode cJ1_subList 21 = .ok (.iload_n 1, 1) := dk_27 (dk_at dksJ1_subList_0 21 rfl rfl)
theorem dJ1_subList_22 : decode cJ1_subList 22 = .ok (.iload_n 2, 1) := dk_28 (dk_at dksJ1_subList_0 22 rfl rfl)
theorem dJ1_subList_23 : decode cJ1_subList 23 = .ok (.invokespecial 95, 3) := dk_183 0 95 (dk_at dksJ1_subList_1 0 rfl rfl)
theorem dJ1_subList_26 : decode cJ1_subList 26 = .ok (.goto 13, 3) := dk_167 0 13 (dk_at dksJ1_subList_1 3 rfl rfl)
theorem dJ1_subList_29 : decode cJ1_subList 29 = .ok (.new 98, 3) := dk_187 0 98 (dk_at dksJ1_subList_1 6 rfl rfl)
theorem dJ1_subList_32 : decode cJ1_subList 32 = .ok (.dup, 1) := dk_89 (dk_at dksJ1_subList_1 9 rfl rfl)
theorem dJ1_subList_33 : decode cJ1_subList 33 = .ok (.aload_n 0, 1) := dk_42 (dk_at dksJ1_subList_1 10 rfl rfl)
theorem dJ1_subList_34 : decode cJ1_subList 34 = .ok (.iload_n 1, 1) := dk_27 (dk_at dksJ1_subList_1 11 rfl rfl)
theorem dJ1_subList_35 : decode cJ1_subList 35 = .ok (.iload_n 2, 1) := dk_28 (dk_at dksJ1_subList_1 12 rfl rfl)
theorem dJ1_subList_36 : decode cJ1_subList 36 = .ok (.invokespecial 100, 3) := dk_183 0 100 (dk_at dksJ1_subList_1 13 rfl rfl)
theorem dJ1_subList_39 : decode cJ1_subList 39 = .ok (.areturn, 1) := dk_176 (dk_at dksJ1_subList_1 16 rfl rfl)
abbrev cJ1_addAll : ByteArray := prog_38_method_10_code
def yJ1_addAll : MethodName := ⟨RJ1, "addAll", "(ILjava/util/Collection;)Z"⟩
def dkwJ1_addAll_2 : List UInt8 := [167, 255, 225, 29, 172]
abbrev dktJ1_addAll_2 : List UInt8 := dkwJ1_addAll_2 ++ []
def dkwJ1_addAll_1 : List UInt8 := [153, 0, 27, 25, 4, 185, 0, 76, 1, 0, 58, 5, 42, 27, 132, 1, 1, 25, 5, 182, 0, 17, 4, 62]
abbrev dktJ1_addAll_1 : List UInt8 := dkwJ1_addAll_1 ++ dktJ1_addAll_2
def dkwJ1_addAll_0 : List UInt8 := [42, 27, 182, 0, 63, 3, 62, 44, 185, 0, 67, 1, 0, 58, 4, 25, 4, 185, 0, 73, 1, 0]
abbrev dktJ1_addAll_0 : List UInt8 := dkwJ1_addAll_0 ++ dktJ1_addAll_1
theorem dksJ1_addAll_0 : cJ1_addAll.data.toList.drop 0 = dktJ1_addAll_0 := by decide +kernel
theorem dksJ1_addAll_1 : cJ1_addAll.data.toList.drop 22 = dktJ1_addAll_1 := dk_seg dksJ1_addAll_0 22 rfl rfl
theorem dksJ1_addAll_2 : cJ1_addAll.data.toList.drop 46 = dktJ1_addAll_2 := dk_seg dksJ1_addAll_1 24 rfl rfl
theorem dJ1_addAll_0 : decode cJ1_addAll 0 = .ok (.aload_n 0, 1) := dk_42 (dk_at dksJ1_addAll_0 0 rfl rfl)
theorem dJ1_addAll_1 : decode cJ1_addAll 1 = .ok (.iload_n 1, 1) := dk_27 (dk_at dksJ1_addAll_0 1 rfl rfl)
theorem dJ1_addAll_2 : decode cJ1_addAll 2 = .ok (.invokevirtual 63, 3) := dk_182 0 63 (dk_at dksJ1_addAll_0 2 rfl rfl)
theorem dJ1_addAll_5 : decode cJ1_addAll 5 = .ok (.iconst 0, 1) := dk_3 (dk_at dksJ1_addAll_0 5 rfl rfl)
theorem dJ1_addAll_6 : decode cJ1_addAll 6 = .ok (.istore_n 3, 1) := dk_62 (dk_at dksJ1_addAll_0 6 rfl rfl)
theorem dJ1_addAll_7 : decode cJ1_addAll 7 = .ok (.aload_n 2, 1) := dk_44 (dk_at dksJ1_addAll_0 7 rfl rfl)
theorem dJ1_addAll_8 : decode cJ1_addAll 8 = .ok (.invokeinterface 67 1, 5) := by decide +kernel
theorem dJ1_addAll_13 : decode cJ1_addAll 13 = .ok (.astore 4, 2) := dk_58 4 (dk_at dksJ1_addAll_0 13 rfl rfl)
theorem dJ1_addAll_15 : decode cJ1_addAll 15 = .ok (.aload 4, 2) := dk_25 4 (dk_at dksJ1_addAll_0 15 rfl rfl)
theorem dJ1_addAll_17 : decode cJ1_addAll 17 = .ok (.invokeinterface 73 1, 5) := by decide +kernel
theorem dJ1_addAll_22 : decode cJ1_addAll 22 = .ok (.ifCond .eq 27, 3) := dk_153 0 27 (dk_at dksJ1_addAll_1 0 rfl rfl)
theorem dJ1_addAll_25 : decode cJ1_addAll 25 = .ok (.aload 4, 2) := dk_25 4 (dk_at dksJ1_addAll_1 3 rfl rfl)
theorem dJ1_addAll_27 : decode cJ1_addAll 27 = .ok (.invokeinterface 76 1, 5) := by decide +kernel
theorem dJ1_addAll_32 : decode cJ1_addAll 32 = .ok (.astore 5, 2) := dk_58 5 (dk_at dksJ1_addAll_1 10 rfl rfl)
theorem dJ1_addAll_34 : decode cJ1_addAll 34 = .ok (.aload_n 0, 1) := dk_42 (dk_at dksJ1_addAll_1 12 rfl rfl)
theorem dJ1_addAll_35 : decode cJ1_addAll 35 = .ok (.iload_n 1, 1) := dk_27 (dk_at dksJ1_addAll_1 13 rfl rfl)
theorem dJ1_addAll_36 : decode cJ1_addAll 36 = .ok (.iinc 1 1, 3) := dk_132 1 1 (dk_at dksJ1_addAll_1 14 rfl rfl)
theorem dJ1_addAll_39 : decode cJ1_addAll 39 = .ok (.aload 5, 2) := dk_25 5 (dk_at dksJ1_addAll_1 17 rfl rfl)
theorem dJ1_addAll_41 : decode cJ1_addAll 41 = .ok (.invokevirtual 17, 3) := dk_182 0 17 (dk_at dksJ1_addAll_1 19 rfl rfl)
theorem dJ1_addAll_44 : decode cJ1_addAll 44 = .ok (.iconst 1, 1) := dk_4 (dk_at dksJ1_addAll_1 22 rfl rfl)
theorem dJ1_addAll_45 : decode cJ1_addAll 45 = .ok (.istore_n 3, 1) := dk_62 (dk_at dksJ1_addAll_1 23 rfl rfl)
theorem dJ1_addAll_46 : decode cJ1_addAll 46 = .ok (.goto (-31), 3) := dk_167 255 225 (dk_at dksJ1_addAll_2 0 rfl rfl)
theorem dJ1_addAll_49 : decode cJ1_addAll 49 = .ok (.iload_n 3, 1) := dk_29 (dk_at dksJ1_addAll_2 3 rfl rfl)
theorem dJ1_addAll_50 : decode cJ1_addAll 50 = .ok (.ireturn, 1) := dk_172 (dk_at dksJ1_addAll_2 4 rfl rfl)
theorem q58 : (Jvm.Cond.initialized "java/util/AbstractList") ∈ lw_all := lw_g (lw_at lw_m1 3 rfl) rfl
theorem q122 : (Jvm.Cond.instanceMethod ({ cls := "java/util/AbstractList", name := "<init>", desc := "()V" } : Jvm.MethodName)) ∈ lw_all := lw_g (lw_at lw_m1 67 rfl) rfl
theorem q123 : (Jvm.Cond.code ({ cls := "java/util/AbstractList", name := "<init>", desc := "()V" } : Jvm.MethodName) prog_38_method_1_code (1 : Nat) (Option.none : Option Jvm.ClassFile.FieldType)) ∈ lw_all := lw_g (lw_at lw_m1 68 rfl) rfl
theorem q124 : (Jvm.Cond.methodLink "java/util/AbstractList" (1 : Nat) ({ cls := "java/util/AbstractCollection", name := "<init>", desc := "()V" } : Jvm.MethodName)) ∈ lw_all := lw_g (lw_at lw_m1 69 rfl) rfl
theorem q138 : (Jvm.Cond.fieldLink "java/util/AbstractList" (7 : Nat) "java/util/AbstractList" "modCount" "I") ∈ lw_all := lw_g (lw_at lw_m1 83 rfl) rfl
theorem q158 : (Jvm.Cond.soleField "java/util/AbstractList" "modCount") ∈ lw_all := lw_g (lw_at lw_m1 103 rfl) rfl
theorem q393 : (Jvm.Cond.instanceMethod ({ cls := "java/util/AbstractList", name := "equals", desc := "(Ljava/lang/Object;)Z" } : Jvm.MethodName)) ∈ lw_all := lw_g (lw_at lw_m2 98 rfl) rfl
theorem q394 : (Jvm.Cond.publicMethod ({ cls := "java/util/AbstractList", name := "equals", desc := "(Ljava/lang/Object;)Z" } : Jvm.MethodName)) ∈ lw_tbl := lw_at lw_m2 99 rfl
theorem q395 : (Jvm.Cond.code ({ cls := "java/util/AbstractList", name := "equals", desc := "(Ljava/lang/Object;)Z" } : Jvm.MethodName) prog_38_method_16_code (6 : Nat) (Option.some Jvm.ClassFile.FieldType.boolean)) ∈ lw_all := lw_g (lw_at lw_m2 100 rfl) rfl
theorem q396 : (Jvm.Cond.classLink "java/util/AbstractList" (133 : Nat) "java/util/List") ∈ lw_all := lw_g (lw_at lw_m2 101 rfl) rfl
theorem q397 : (Jvm.Cond.methodLink "java/util/AbstractList" (24 : Nat) ({ cls := "java/util/AbstractList", name := "listIterator", desc := "()Ljava/util/ListIterator;" } : Jvm.MethodName)) ∈ lw_all := lw_g (lw_at lw_m2 102 rfl) rfl
theorem q398 : (Jvm.Cond.instanceMethod ({ cls := "java/util/AbstractList", name := "listIterator", desc := "()Ljava/util/ListIterator;" } : Jvm.MethodName)) ∈ lw_all := lw_g (lw_at lw_m2 103 rfl) rfl
theorem q399 : (Jvm.Cond.sameMethod "java/util/AbstractList" "java/util/AbstractList" "listIterator" "()Ljava/util/ListIterator;") ∈ lw_all := lw_g (lw_at lw_m2 104 rfl) rfl
theorem q438 : (Jvm.Cond.code ({ cls := "java/util/AbstractList", name := "listIterator", desc := "()Ljava/util/ListIterator;" } : Jvm.MethodName) prog_38_method_12_code (1 : Nat) (Option.some (Jvm.ClassFile.FieldType.object "java/util/ListIterator"))) ∈ lw_all := lw_g (lw_at lw_m2 143 rfl) rfl
theorem q439 : (Jvm.Cond.methodLink "java/util/AbstractList" (47 : Nat) ({ cls := "java/util/AbstractList", name := "listIterator", desc := "(I)Ljava/util/ListIterator;" } : Jvm.MethodName)) ∈ lw_all := lw_g (lw_at lw_m2 144 rfl) rfl
theorem q440 : (Jvm.Cond.instanceMethod ({ cls := "java/util/AbstractList", name := "listIterator", desc := "(I)Ljava/util/ListIterator;" } : Jvm.MethodName)) ∈ lw_all := lw_g (lw_at lw_m2 145 rfl) rfl
theorem q441 : (Jvm.Cond.sameMethod "java/util/AbstractList" "java/util/AbstractList" "listIterator" "(I)Ljava/util/ListIterator;") ∈ lw_all := lw_g (lw_at lw_m2 146 rfl) rfl
theorem q851 : (Jvm.Cond.code ({ cls := "java/util/AbstractList", name := "listIterator", desc := "(I)Ljava/util/ListIterator;" } : Jvm.MethodName) prog_38_method_13_code (2 : Nat) (Option.some (Jvm.ClassFile.FieldType.object "java/util/ListIterator"))) ∈ lw_all := lw_g (lw_at lw_m4 76 rfl) rfl
theorem q852 : (Jvm.Cond.methodLink "java/util/AbstractList" (63 : Nat) ({ cls := "java/util/AbstractList", name := "rangeCheckForAdd", desc := "(I)V" } : Jvm.MethodName)) ∈ lw_all := lw_g (lw_at lw_m4 77 rfl) rfl
theorem q853 : (Jvm.Cond.privateMethod ({ cls := "java/util/AbstractList", name := "rangeCheckForAdd", desc := "(I)V" } : Jvm.MethodName)) ∈ lw_tbl := lw_at lw_m4 78 rfl
theorem q854 : (Jvm.Cond.instanceMethod ({ cls := "java/util/AbstractList", name := "rangeCheckForAdd", desc := "(I)V" } : Jvm.MethodName)) ∈ lw_all := lw_g (lw_at lw_m4 79 rfl) rfl
theorem q855 : (Jvm.Cond.code ({ cls := "java/util/AbstractList", name := "rangeCheckForAdd", desc := "(I)V" } : Jvm.MethodName) prog_38_method_19_code (2 : Nat) (Option.none : Option Jvm.ClassFile.FieldType)) ∈ lw_all := lw_g (lw_at lw_m4 80 rfl) rfl
theorem q856 : (Jvm.Cond.methodLink "java/util/AbstractList" (13 : Nat) ({ cls := "java/util/AbstractList", name := "size", desc := "()I" } : Jvm.MethodName)) ∈ lw_all := lw_g (lw_at lw_m4 81 rfl) rfl
theorem q857 : (Jvm.Cond.sameMethod "java/util/AbstractList" "java/util/AbstractCollection" "size" "()I") ∈ lw_all := lw_g (lw_at lw_m4 82 rfl) rfl
theorem q864 : (Jvm.Cond.classLink "java/util/AbstractList" (101 : Nat) "java/lang/IndexOutOfBoundsException") ∈ lw_all := lw_g (lw_at lw_m4 89 rfl) rfl
theorem q865 : (Jvm.Cond.methodLink "java/util/AbstractList" (143 : Nat) ({ cls := "java/util/AbstractList", name := "outOfBoundsMsg", desc := "(I)Ljava/lang/String;" } : Jvm.MethodName)) ∈ lw_all := lw_g (lw_at lw_m4 90 rfl) rfl
theorem q866 : (Jvm.Cond.privateMethod ({ cls := "java/util/AbstractList", name := "outOfBoundsMsg", desc := "(I)Ljava/lang/String;" } : Jvm.MethodName)) ∈ lw_tbl := lw_at lw_m4 91 rfl
theorem q867 : (Jvm.Cond.instanceMethod ({ cls := "java/util/AbstractList", name := "outOfBoundsMsg", desc := "(I)Ljava/lang/String;" } : Jvm.MethodName)) ∈ lw_all := lw_g (lw_at lw_m4 92 rfl) rfl
theorem q868 : (Jvm.Cond.code ({ cls := "java/util/AbstractList", name := "outOfBoundsMsg", desc := "(I)Ljava/lang/String;" } : Jvm.MethodName) prog_38_method_20_code (2 : Nat) (Option.some (Jvm.ClassFile.FieldType.object "java/lang/String"))) ∈ lw_all := lw_g (lw_at lw_m4 93 rfl) rfl
theorem q869 : (Jvm.Cond.classLink "java/util/AbstractList" (103 : Nat) "java/lang/StringBuilder") ∈ lw_all := lw_g (lw_at lw_m4 94 rfl) rfl
theorem q870 : (Jvm.Cond.methodLink "java/util/AbstractList" (105 : Nat) ({ cls := "java/lang/StringBuilder", name := "<init>", desc := "()V" } : Jvm.MethodName)) ∈ lw_all := lw_g (lw_at lw_m4 95 rfl) rfl
theorem q871 : (Jvm.Cond.stringRef "java/util/AbstractList" (147 : Nat) "Index: ") ∈ lw_tbl := lw_at lw_m4 96 rfl
theorem q872 : (Jvm.Cond.methodLink "java/util/AbstractList" (108 : Nat) ({ cls := "java/lang/StringBuilder", name := "append", desc := "(Ljava/lang/String;)Ljava/lang/StringBuilder;" } : Jvm.MethodName)) ∈ lw_all := lw_g (lw_at lw_m4 97 rfl) rfl
theorem q873 : (Jvm.Cond.methodLink "java/util/AbstractList" (112 : Nat) ({ cls := "java/lang/StringBuilder", name := "append", desc := "(I)Ljava/lang/StringBuilder;" } : Jvm.MethodName)) ∈ lw_all := lw_g (lw_at lw_m4 98 rfl) rfl
theorem q874 : (Jvm.Cond.stringRef "java/util/AbstractList" (149 : Nat) ", Size: ") ∈ lw_tbl := lw_at lw_m4 99 rfl
theorem q875 : (Jvm.Cond.methodLink "java/util/AbstractList" (115 : Nat) ({ cls := "java/lang/StringBuilder", name := "toString", desc := "()Ljava/lang/String;" } : Jvm.MethodName)) ∈ lw_all := lw_g (lw_at lw_m4 100 rfl) rfl
theorem q876 : (Jvm.Cond.methodLink "java/util/AbstractList" (119 : Nat) ({ cls := "java/lang/IndexOutOfBoundsException", name := "<init>", desc := "(Ljava/lang/String;)V" } : Jvm.MethodName)) ∈ lw_all := lw_g (lw_at lw_m4 101 rfl) rfl
theorem q877 : (Jvm.Cond.classLink "java/util/AbstractList" (82 : Nat) "java/util/AbstractList$ListItr") ∈ lw_all := lw_g (lw_at lw_m4 102 rfl) rfl
theorem q879 : (Jvm.Cond.methodLink "java/util/AbstractList" (84 : Nat) ({ cls := "java/util/AbstractList$ListItr", name := "<init>", desc := "(Ljava/util/AbstractList;I)V" } : Jvm.MethodName)) ∈ lw_all := lw_g (lw_at lw_m4 104 rfl) rfl
theorem q908 : (Jvm.Cond.interfaceEntry "java/util/AbstractList" (135 : Nat)) ∈ lw_tbl := lw_at lw_m4 133 rfl
theorem q909 : (Jvm.Cond.methodLink "java/util/AbstractList" (135 : Nat) ({ cls := "java/util/List", name := "listIterator", desc := "()Ljava/util/ListIterator;" } : Jvm.MethodName)) ∈ lw_all := lw_g (lw_at lw_m4 134 rfl) rfl
theorem q914 : (Jvm.Cond.publicMethod ({ cls := "java/util/AbstractList", name := "listIterator", desc := "()Ljava/util/ListIterator;" } : Jvm.MethodName)) ∈ lw_tbl := lw_at lw_m4 139 rfl
theorem q924 : (Jvm.Cond.interfaceEntry "java/util/AbstractList" (28 : Nat)) ∈ lw_tbl := lw_at lw_m4 149 rfl
theorem q925 : (Jvm.Cond.methodLink "java/util/AbstractList" (28 : Nat) ({ cls := "java/util/ListIterator", name := "hasNext", desc := "()Z" } : Jvm.MethodName)) ∈ lw_all := lw_g (lw_at lw_m4 150 rfl) rfl
theorem q979 : (Jvm.Cond.interfaceEntry "java/util/AbstractList" (34 : Nat)) ∈ lw_tbl := lw_at lw_m4 204 rfl
theorem q980 : (Jvm.Cond.methodLink "java/util/AbstractList" (34 : Nat) ({ cls := "java/util/ListIterator", name := "next", desc := "()Ljava/lang/Object;" } : Jvm.MethodName)) ∈ lw_all := lw_g (lw_at lw_m4 205 rfl) rfl
theorem q995 : (Jvm.Cond.declares ({ cls := "java/util/AbstractList", name := "get", desc := "(I)Ljava/lang/Object;" } : Jvm.MethodName)) ∈ lw_tbl := lw_at lw_m4 220 rfl
theorem q996 : (Jvm.Cond.sameMethod "java/util/AbstractList" "java/util/AbstractList" "get" "(I)Ljava/lang/Object;") ∈ lw_all := lw_g (lw_at lw_m4 221 rfl) rfl
theorem q1103 : (Jvm.Cond.methodLink "java/util/AbstractList" (41 : Nat) ({ cls := "java/lang/Object", name := "equals", desc := "(Ljava/lang/Object;)Z" } : Jvm.MethodName)) ∈ lw_all := lw_g (lw_at lw_m5 88 rfl) rfl
theorem q1173 : (Jvm.Cond.declares ({ cls := "java/util/AbstractList", name := "listIterator", desc := "()Ljava/util/ListIterator;" } : Jvm.MethodName)) ∈ lw_tbl := lw_at lw_m5 158 rfl
theorem q1274 : (Jvm.Cond.instanceMethod ({ cls := "java/util/AbstractList", name := "hashCode", desc := "()I" } : Jvm.MethodName)) ∈ lw_all := lw_g (lw_at lw_m6 19 rfl) rfl
theorem q1275 : (Jvm.Cond.publicMethod ({ cls := "java/util/AbstractList", name := "hashCode", desc := "()I" } : Jvm.MethodName)) ∈ lw_tbl := lw_at lw_m6 20 rfl
theorem q1276 : (Jvm.Cond.code ({ cls := "java/util/AbstractList", name := "hashCode", desc := "()I" } : Jvm.MethodName) prog_38_method_17_code (4 : Nat) (Option.some Jvm.ClassFile.FieldType.int)) ∈ lw_all := lw_g (lw_at lw_m6 21 rfl) rfl
theorem q1277 : (Jvm.Cond.methodLink "java/util/AbstractList" (136 : Nat) ({ cls := "java/util/AbstractList", name := "iterator", desc := "()Ljava/util/Iterator;" } : Jvm.MethodName)) ∈ lw_all := lw_g (lw_at lw_m6 22 rfl) rfl
theorem q1278 : (Jvm.Cond.instanceMethod ({ cls := "java/util/AbstractList", name := "iterator", desc := "()Ljava/util/Iterator;" } : Jvm.MethodName)) ∈ lw_all := lw_g (lw_at lw_m6 23 rfl) rfl
theorem q1279 : (Jvm.Cond.sameMethod "java/util/AbstractList" "java/util/AbstractList" "iterator" "()Ljava/util/Iterator;") ∈ lw_all := lw_g (lw_at lw_m6 24 rfl) rfl
theorem q1285 : (Jvm.Cond.declares ({ cls := "java/util/AbstractList", name := "iterator", desc := "()Ljava/util/Iterator;" } : Jvm.MethodName)) ∈ lw_tbl := lw_at lw_m6 30 rfl
theorem q1286 : (Jvm.Cond.interfaceEntry "java/util/AbstractList" (73 : Nat)) ∈ lw_tbl := lw_at lw_m6 31 rfl
theorem q1287 : (Jvm.Cond.methodLink "java/util/AbstractList" (73 : Nat) ({ cls := "java/util/Iterator", name := "hasNext", desc := "()Z" } : Jvm.MethodName)) ∈ lw_all := lw_g (lw_at lw_m6 32 rfl) rfl
theorem q1288 : (Jvm.Cond.interfaceEntry "java/util/AbstractList" (76 : Nat)) ∈ lw_tbl := lw_at lw_m6 33 rfl
theorem q1289 : (Jvm.Cond.methodLink "java/util/AbstractList" (76 : Nat) ({ cls := "java/util/Iterator", name := "next", desc := "()Ljava/lang/Object;" } : Jvm.MethodName)) ∈ lw_all := lw_g (lw_at lw_m6 34 rfl) rfl
theorem q1291 : (Jvm.Cond.methodLink "java/util/AbstractList" (137 : Nat) ({ cls := "java/lang/Object", name := "hashCode", desc := "()I" } : Jvm.MethodName)) ∈ lw_all := lw_g (lw_at lw_m6 36 rfl) rfl
theorem q1419 : (Jvm.Cond.instanceMethod ({ cls := "java/util/AbstractList", name := "indexOf", desc := "(Ljava/lang/Object;)I" } : Jvm.MethodName)) ∈ lw_all := lw_g (lw_at lw_m6 164 rfl) rfl
theorem q1420 : (Jvm.Cond.publicMethod ({ cls := "java/util/AbstractList", name := "indexOf", desc := "(Ljava/lang/Object;)I" } : Jvm.MethodName)) ∈ lw_tbl := lw_at lw_m6 165 rfl
theorem q1421 : (Jvm.Cond.code ({ cls := "java/util/AbstractList", name := "indexOf", desc := "(Ljava/lang/Object;)I" } : Jvm.MethodName) prog_38_method_7_code (3 : Nat) (Option.some Jvm.ClassFile.FieldType.int)) ∈ lw_all := lw_g (lw_at lw_m6 166 rfl) rfl
theorem q1422 : (Jvm.Cond.interfaceEntry "java/util/AbstractList" (38 : Nat)) ∈ lw_tbl := lw_at lw_m6 167 rfl
theorem q1423 : (Jvm.Cond.methodLink "java/util/AbstractList" (38 : Nat) ({ cls := "java/util/ListIterator", name := "previousIndex", desc := "()I" } : Jvm.MethodName)) ∈ lw_all := lw_g (lw_at lw_m6 168 rfl) rfl
theorem q1478 : (Jvm.Cond.instanceMethod ({ cls := "java/util/AbstractList", name := "lastIndexOf", desc := "(Ljava/lang/Object;)I" } : Jvm.MethodName)) ∈ lw_all := lw_g (lw_at lw_m6 223 rfl) rfl
theorem q1479 : (Jvm.Cond.publicMethod ({ cls := "java/util/AbstractList", name := "lastIndexOf", desc := "(Ljava/lang/Object;)I" } : Jvm.MethodName)) ∈ lw_tbl := lw_at lw_m6 224 rfl
theorem q1480 : (Jvm.Cond.code ({ cls := "java/util/AbstractList", name := "lastIndexOf", desc := "(Ljava/lang/Object;)I" } : Jvm.MethodName) prog_38_method_8_code (3 : Nat) (Option.some Jvm.ClassFile.FieldType.int)) ∈ lw_all := lw_g (lw_at lw_m6 225 rfl) rfl
theorem q1481 : (Jvm.Cond.interfaceEntry "java/util/AbstractList" (50 : Nat)) ∈ lw_tbl := lw_at lw_m6 226 rfl
theorem q1482 : (Jvm.Cond.methodLink "java/util/AbstractList" (50 : Nat) ({ cls := "java/util/ListIterator", name := "hasPrevious", desc := "()Z" } : Jvm.MethodName)) ∈ lw_all := lw_g (lw_at lw_m6 227 rfl) rfl
theorem q1506 : (Jvm.Cond.interfaceEntry "java/util/AbstractList" (53 : Nat)) ∈ lw_tbl := lw_at lw_m7 11 rfl
theorem q1507 : (Jvm.Cond.methodLink "java/util/AbstractList" (53 : Nat) ({ cls := "java/util/ListIterator", name := "previous", desc := "()Ljava/lang/Object;" } : Jvm.MethodName)) ∈ lw_all := lw_g (lw_at lw_m7 12 rfl) rfl
theorem q1544 : (Jvm.Cond.interfaceEntry "java/util/AbstractList" (56 : Nat)) ∈ lw_tbl := lw_at lw_m7 49 rfl
theorem q1545 : (Jvm.Cond.methodLink "java/util/AbstractList" (56 : Nat) ({ cls := "java/util/ListIterator", name := "nextIndex", desc := "()I" } : Jvm.MethodName)) ∈ lw_all := lw_g (lw_at lw_m7 50 rfl) rfl
theorem q1640 : (Jvm.Cond.publicMethod ({ cls := "java/util/AbstractList", name := "listIterator", desc := "(I)Ljava/util/ListIterator;" } : Jvm.MethodName)) ∈ lw_tbl := lw_at lw_m7 145 rfl
theorem q1655 : (Jvm.Cond.instanceMethod ({ cls := "java/util/AbstractList", name := "add", desc := "(Ljava/lang/Object;)Z" } : Jvm.MethodName)) ∈ lw_all := lw_g (lw_at lw_m7 160 rfl) rfl
theorem q1656 : (Jvm.Cond.publicMethod ({ cls := "java/util/AbstractList", name := "add", desc := "(Ljava/lang/Object;)Z" } : Jvm.MethodName)) ∈ lw_tbl := lw_at lw_m7 161 rfl
theorem q1657 : (Jvm.Cond.code ({ cls := "java/util/AbstractList", name := "add", desc := "(Ljava/lang/Object;)Z" } : Jvm.MethodName) prog_38_method_2_code (2 : Nat) (Option.some Jvm.ClassFile.FieldType.boolean)) ∈ lw_all := lw_g (lw_at lw_m7 162 rfl) rfl
theorem q1658 : (Jvm.Cond.methodLink "java/util/AbstractList" (17 : Nat) ({ cls := "java/util/AbstractList", name := "add", desc := "(ILjava/lang/Object;)V" } : Jvm.MethodName)) ∈ lw_all := lw_g (lw_at lw_m7 163 rfl) rfl
theorem q1659 : (Jvm.Cond.instanceMethod ({ cls := "java/util/AbstractList", name := "add", desc := "(ILjava/lang/Object;)V" } : Jvm.MethodName)) ∈ lw_all := lw_g (lw_at lw_m7 164 rfl) rfl
theorem q1660 : (Jvm.Cond.sameMethod "java/util/AbstractList" "java/util/AbstractList" "add" "(ILjava/lang/Object;)V") ∈ lw_all := lw_g (lw_at lw_m7 165 rfl) rfl
theorem q1683 : (Jvm.Cond.code ({ cls := "java/util/AbstractList", name := "add", desc := "(ILjava/lang/Object;)V" } : Jvm.MethodName) prog_38_method_5_code (3 : Nat) (Option.none : Option Jvm.ClassFile.FieldType)) ∈ lw_all := lw_g (lw_at lw_m7 188 rfl) rfl
theorem q1684 : (Jvm.Cond.classLink "java/util/AbstractList" (21 : Nat) "java/lang/UnsupportedOperationException") ∈ lw_all := lw_g (lw_at lw_m7 189 rfl) rfl
theorem q1693 : (Jvm.Cond.methodLink "java/util/AbstractList" (23 : Nat) ({ cls := "java/lang/UnsupportedOperationException", name := "<init>", desc := "()V" } : Jvm.MethodName)) ∈ lw_all := lw_g (lw_at lw_m7 198 rfl) rfl
theorem q1720 : (Jvm.Cond.instanceMethod ({ cls := "java/util/AbstractList", name := "clear", desc := "()V" } : Jvm.MethodName)) ∈ lw_all := lw_g (lw_at lw_m7 225 rfl) rfl
theorem q1721 : (Jvm.Cond.publicMethod ({ cls := "java/util/AbstractList", name := "clear", desc := "()V" } : Jvm.MethodName)) ∈ lw_tbl := lw_at lw_m7 226 rfl
theorem q1722 : (Jvm.Cond.code ({ cls := "java/util/AbstractList", name := "clear", desc := "()V" } : Jvm.MethodName) prog_38_method_9_code (1 : Nat) (Option.none : Option Jvm.ClassFile.FieldType)) ∈ lw_all := lw_g (lw_at lw_m7 227 rfl) rfl
theorem q1723 : (Jvm.Cond.methodLink "java/util/AbstractList" (59 : Nat) ({ cls := "java/util/AbstractList", name := "removeRange", desc := "(II)V" } : Jvm.MethodName)) ∈ lw_all := lw_g (lw_at lw_m7 228 rfl) rfl
theorem q1724 : (Jvm.Cond.instanceMethod ({ cls := "java/util/AbstractList", name := "removeRange", desc := "(II)V" } : Jvm.MethodName)) ∈ lw_all := lw_g (lw_at lw_m7 229 rfl) rfl
theorem q1725 : (Jvm.Cond.sameMethod "java/util/AbstractList" "java/util/AbstractList" "removeRange" "(II)V") ∈ lw_all := lw_g (lw_at lw_m7 230 rfl) rfl
theorem q1748 : (Jvm.Cond.code ({ cls := "java/util/AbstractList", name := "removeRange", desc := "(II)V" } : Jvm.MethodName) prog_38_method_18_code (6 : Nat) (Option.none : Option Jvm.ClassFile.FieldType)) ∈ lw_all := lw_g (lw_at lw_m8 13 rfl) rfl
theorem q1749 : (Jvm.Cond.interfaceEntry "java/util/AbstractList" (140 : Nat)) ∈ lw_tbl := lw_at lw_m8 14 rfl
theorem q1750 : (Jvm.Cond.methodLink "java/util/AbstractList" (140 : Nat) ({ cls := "java/util/ListIterator", name := "remove", desc := "()V" } : Jvm.MethodName)) ∈ lw_all := lw_g (lw_at lw_m8 15 rfl) rfl
theorem q1774 : (Jvm.Cond.instanceMethod ({ cls := "java/util/AbstractList", name := "remove", desc := "(I)Ljava/lang/Object;" } : Jvm.MethodName)) ∈ lw_all := lw_g (lw_at lw_m8 39 rfl) rfl
theorem q1775 : (Jvm.Cond.sameMethod "java/util/AbstractList" "java/util/AbstractList" "remove" "(I)Ljava/lang/Object;") ∈ lw_all := lw_g (lw_at lw_m8 40 rfl) rfl
theorem q1793 : (Jvm.Cond.code ({ cls := "java/util/AbstractList", name := "remove", desc := "(I)Ljava/lang/Object;" } : Jvm.MethodName) prog_38_method_6_code (2 : Nat) (Option.some (Jvm.ClassFile.FieldType.object "java/lang/Object"))) ∈ lw_all := lw_g (lw_at lw_m8 58 rfl) rfl
theorem q2064 : (Jvm.Cond.static ({ cls := "java/util/AbstractList", name := "subListRangeCheck", desc := "(III)V" } : Jvm.MethodName)) ∈ lw_all := lw_g (lw_at lw_m9 89 rfl) rfl
theorem q2065 : (Jvm.Cond.code ({ cls := "java/util/AbstractList", name := "subListRangeCheck", desc := "(III)V" } : Jvm.MethodName) prog_38_method_15_code (3 : Nat) (Option.none : Option Jvm.ClassFile.FieldType)) ∈ lw_all := lw_g (lw_at lw_m9 90 rfl) rfl
theorem q2066 : (Jvm.Cond.stringRef "java/util/AbstractList" (106 : Nat) "fromIndex = ") ∈ lw_tbl := lw_at lw_m9 91 rfl
theorem q2067 : (Jvm.Cond.stringRef "java/util/AbstractList" (122 : Nat) "toIndex = ") ∈ lw_tbl := lw_at lw_m9 92 rfl
theorem q2068 : (Jvm.Cond.classLink "java/util/AbstractList" (124 : Nat) "java/lang/IllegalArgumentException") ∈ lw_all := lw_g (lw_at lw_m9 93 rfl) rfl
theorem q2069 : (Jvm.Cond.stringRef "java/util/AbstractList" (126 : Nat) "fromIndex(") ∈ lw_tbl := lw_at lw_m9 94 rfl
theorem q2070 : (Jvm.Cond.stringRef "java/util/AbstractList" (128 : Nat) ") > toIndex(") ∈ lw_tbl := lw_at lw_m9 95 rfl
theorem q2071 : (Jvm.Cond.stringRef "java/util/AbstractList" (130 : Nat) ")") ∈ lw_tbl := lw_at lw_m9 96 rfl
theorem q2072 : (Jvm.Cond.methodLink "java/util/AbstractList" (132 : Nat) ({ cls := "java/lang/IllegalArgumentException", name := "<init>", desc := "(Ljava/lang/String;)V" } : Jvm.MethodName)) ∈ lw_all := lw_g (lw_at lw_m9 97 rfl) rfl
theorem q2158 : (Jvm.Cond.instanceMethod ({ cls := "java/util/AbstractList", name := "subList", desc := "(II)Ljava/util/List;" } : Jvm.MethodName)) ∈ lw_all := lw_g (lw_at lw_m9 183 rfl) rfl
theorem q2159 : (Jvm.Cond.publicMethod ({ cls := "java/util/AbstractList", name := "subList", desc := "(II)Ljava/util/List;" } : Jvm.MethodName)) ∈ lw_tbl := lw_at lw_m9 184 rfl
theorem q2160 : (Jvm.Cond.code ({ cls := "java/util/AbstractList", name := "subList", desc := "(II)Ljava/util/List;" } : Jvm.MethodName) prog_38_method_14_code (3 : Nat) (Option.some (Jvm.ClassFile.FieldType.object "java/util/List"))) ∈ lw_all := lw_g (lw_at lw_m9 185 rfl) rfl
theorem q2161 : (Jvm.Cond.methodLink "java/util/AbstractList" (87 : Nat) ({ cls := "java/util/AbstractList", name := "subListRangeCheck", desc := "(III)V" } : Jvm.MethodName)) ∈ lw_all := lw_g (lw_at lw_m9 186 rfl) rfl
theorem q2162 : (Jvm.Cond.classLink "java/util/AbstractList" (91 : Nat) "java/util/RandomAccess") ∈ lw_all := lw_g (lw_at lw_m9 187 rfl) rfl
theorem q2163 : (Jvm.Cond.classLink "java/util/AbstractList" (93 : Nat) "java/util/AbstractList$RandomAccessSubList") ∈ lw_all := lw_g (lw_at lw_m9 188 rfl) rfl
theorem q2164 : (Jvm.Cond.methodLink "java/util/AbstractList" (95 : Nat) ({ cls := "java/util/AbstractList$RandomAccessSubList", name := "<init>", desc := "(Ljava/util/AbstractList;II)V" } : Jvm.MethodName)) ∈ lw_all := lw_g (lw_at lw_m9 189 rfl) rfl
theorem q2170 : (Jvm.Cond.classLink "java/util/AbstractList" (98 : Nat) "java/util/AbstractList$SubList") ∈ lw_all := lw_g (lw_at lw_m9 195 rfl) rfl
theorem q2171 : (Jvm.Cond.methodLink "java/util/AbstractList" (100 : Nat) ({ cls := "java/util/AbstractList$SubList", name := "<init>", desc := "(Ljava/util/AbstractList;II)V" } : Jvm.MethodName)) ∈ lw_all := lw_g (lw_at lw_m9 196 rfl) rfl
theorem q2193 : (Jvm.Cond.instanceMethod ({ cls := "java/util/AbstractList", name := "set", desc := "(ILjava/lang/Object;)Ljava/lang/Object;" } : Jvm.MethodName)) ∈ lw_all := lw_g (lw_at lw_m9 218 rfl) rfl
theorem q2194 : (Jvm.Cond.sameMethod "java/util/AbstractList" "java/util/AbstractList" "set" "(ILjava/lang/Object;)Ljava/lang/Object;") ∈ lw_all := lw_g (lw_at lw_m9 219 rfl) rfl
theorem q2204 : (Jvm.Cond.declares ({ cls := "java/util/AbstractList", name := "set", desc := "(ILjava/lang/Object;)Ljava/lang/Object;" } : Jvm.MethodName)) ∈ lw_tbl := lw_at lw_m9 229 rfl
theorem q3118 : (Jvm.Cond.publicMethod ({ cls := "java/util/AbstractList", name := "add", desc := "(ILjava/lang/Object;)V" } : Jvm.MethodName)) ∈ lw_tbl := lw_at lw_m13 183 rfl
theorem q3144 : (Jvm.Cond.instanceMethod ({ cls := "java/util/AbstractList", name := "addAll", desc := "(ILjava/util/Collection;)Z" } : Jvm.MethodName)) ∈ lw_all := lw_g (lw_at lw_m13 209 rfl) rfl
theorem q3145 : (Jvm.Cond.sameMethod "java/util/AbstractList" "java/util/AbstractList" "addAll" "(ILjava/util/Collection;)Z") ∈ lw_all := lw_g (lw_at lw_m13 210 rfl) rfl
theorem q3167 : (Jvm.Cond.code ({ cls := "java/util/AbstractList", name := "addAll", desc := "(ILjava/util/Collection;)Z" } : Jvm.MethodName) prog_38_method_10_code (6 : Nat) (Option.some Jvm.ClassFile.FieldType.boolean)) ∈ lw_all := lw_g (lw_at lw_m13 232 rfl) rfl
theorem q3168 : (Jvm.Cond.interfaceEntry "java/util/AbstractList" (67 : Nat)) ∈ lw_tbl := lw_at lw_m13 233 rfl
theorem q3169 : (Jvm.Cond.methodLink "java/util/AbstractList" (67 : Nat) ({ cls := "java/util/Collection", name := "iterator", desc := "()Ljava/util/Iterator;" } : Jvm.MethodName)) ∈ lw_all := lw_g (lw_at lw_m13 234 rfl) rfl
theorem q3221 : (Jvm.Cond.publicMethod ({ cls := "java/util/AbstractList", name := "remove", desc := "(I)Ljava/lang/Object;" } : Jvm.MethodName)) ∈ lw_tbl := lw_at lw_m14 46 rfl
theorem q3859 : (Jvm.Cond.sameMethod "java/util/AbstractList" "java/util/AbstractList" "rangeCheckForAdd" "(I)V") ∈ lw_all := lw_g (lw_at lw_m16 204 rfl) rfl
theorem q3860 : (Jvm.Cond.sameMethod "java/util/AbstractList" "java/util/AbstractList" "outOfBoundsMsg" "(I)Ljava/lang/String;") ∈ lw_all := lw_g (lw_at lw_m16 205 rfl) rfl

/-! java/util/Arrays$ArrayList -/
set_option maxRecDepth 100000
def RJ10 : String := "java/util/Arrays$ArrayList"
def TJ10 : u_T := fun k => match k with
  | 0 => ("java/util/AbstractList", "modCount", "I", false)
  | _ => ("java/util/Arrays$ArrayList", "a", "[Ljava/lang/Object;", true)
def tyJ10 : Nat → FieldType := fun k => match k with
  | 0 => .int
  | _ => .array (.object "java/lang/Object")
abbrev wsJ100 : List Cond := u_ws RJ10 TJ10 2
theorem nmJ10 : ∀ a, a < 2 → ∀ b, b < 2 → a ≠ b → (TJ10 a).2.1 ≠ (TJ10 b).2.1 := by decide +kernel
theorem tyJ10_ok : ∀ k, k < 2 → parseFieldDescriptor (TJ10 k).2.2.1 = some (tyJ10 k) := by decide +kernel
abbrev cJ10_init : ByteArray := prog_51_method_1_code
def yJ10_init : MethodName := ⟨RJ10, "<init>", "([Ljava/lang/Object;)V"⟩
def dkwJ10_init_0 : List UInt8 := [42, 183, 0, 1, 42, 43, 184, 0, 7, 192, 0, 13, 181, 0, 15, 177]
abbrev dktJ10_init_0 : List UInt8 := dkwJ10_init_0 ++ []
theorem dksJ10_init_0 : cJ10_init.data.toList.drop 0 = dktJ10_init_0 := by decide +kernel
theorem dJ10_init_0 : decode cJ10_init 0 = .ok (.aload_n 0, 1) := dk_42 (dk_at dksJ10_init_0 0 rfl rfl)
theorem dJ10_init_1 : decode cJ10_init 1 = .ok (.invokespecial 1, 3) := dk_183 0 1 (dk_at dksJ10_init_0 1 rfl rfl)
theorem dJ10_init_4 : decode cJ10_init 4 = .ok (.aload_n 0, 1) := dk_42 (dk_at dksJ10_init_0 4 rfl rfl)
theorem dJ10_init_5 : decode cJ10_init 5 = .ok (.aload_n 1, 1) := dk_43 (dk_at dksJ10_init_0 5 rfl rfl)
theorem dJ10_init_6 : decode cJ10_init 6 = .ok (.invokestatic 7, 3) := dk_184 0 7 (dk_at dksJ10_init_0 6 rfl rfl)
theorem dJ10_init_9 : decode cJ10_init 9 = .ok (.checkcast 13, 3) := dk_192 0 13 (dk_at dksJ10_init_0 9 rfl rfl)
theorem dJ10_init_12 : decode cJ10_init 12 = .ok (.putfield 15, 3) := dk_181 0 15 (dk_at dksJ10_init_0 12 rfl rfl)
theorem dJ10_init_15 : decode cJ10_init 15 = .ok (.return_, 1) := dk_177 (dk_at dksJ10_init_0 15 rfl rfl)
abbrev cJ10_size : ByteArray := prog_51_method_2_code
def yJ10_size : MethodName := ⟨RJ10, "size", "()I"⟩
def dkwJ10_size_0 : List UInt8 := [42, 180, 0, 15, 190, 172]
abbrev dktJ10_size_0 : List UInt8 := dkwJ10_size_0 ++ []
theorem dksJ10_size_0 : cJ10_size.data.toList.drop 0 = dktJ10_size_0 := by decide +kernel
theorem dJ10_size_0 : decode cJ10_size 0 = .ok (.aload_n 0, 1) := dk_42 (dk_at dksJ10_size_0 0 rfl rfl)
theorem dJ10_size_1 : decode cJ10_size 1 = .ok (.getfield 15, 3) := dk_180 0 15 (dk_at dksJ10_size_0 1 rfl rfl)
theorem dJ10_size_4 : decode cJ10_size 4 = .ok (.arraylength, 1) := dk_190 (dk_at dksJ10_size_0 4 rfl rfl)
theorem dJ10_size_5 : decode cJ10_size 5 = .ok (.ireturn, 1) := dk_172 (dk_at dksJ10_size_0 5 rfl rfl)
abbrev cJ10_get : ByteArray := prog_51_method_5_code
def yJ10_get : MethodName := ⟨RJ10, "get", "(I)Ljava/lang/Object;"⟩
def dkwJ10_get_0 : List UInt8 := [42, 180, 0, 15, 27, 50, 176]
abbrev dktJ10_get_0 : List UInt8 := dkwJ10_get_0 ++ []
theorem dksJ10_get_0 : cJ10_get.data.toList.drop 0 = dktJ10_get_0 := by decide +kernel
theorem dJ10_get_0 : decode cJ10_get 0 = .ok (.aload_n 0, 1) := dk_42 (dk_at dksJ10_get_0 0 rfl rfl)
theorem dJ10_get_1 : decode cJ10_get 1 = .ok (.getfield 15, 3) := dk_180 0 15 (dk_at dksJ10_get_0 1 rfl rfl)
theorem dJ10_get_4 : decode cJ10_get 4 = .ok (.iload_n 1, 1) := dk_27 (dk_at dksJ10_get_0 4 rfl rfl)
theorem dJ10_get_5 : decode cJ10_get 5 = .ok (.aaload, 1) := dk_50 (dk_at dksJ10_get_0 5 rfl rfl)
theorem dJ10_get_6 : decode cJ10_get 6 = .ok (.areturn, 1) := dk_176 (dk_at dksJ10_get_0 6 rfl rfl)
abbrev cJ10_iterator : ByteArray := prog_51_method_13_code
def yJ10_iterator : MethodName := ⟨RJ10, "iterator", "()Ljava/util/Iterator;"⟩
def dkwJ10_iterator_0 : List UInt8 := [187, 0, 73, 89, 42, 180, 0, 15, 183, 0, 75, 176]
abbrev dktJ10_iterator_0 : List UInt8 := dkwJ10_iterator_0 ++ []
theorem dksJ10_iterator_0 : cJ10_iterator.data.toList.drop 0 = dktJ10_iterator_0 := by decide +kernel
theorem dJ10_iterator_0 : decode cJ10_iterator 0 = .ok (.new 73, 3) := dk_187 0 73 (dk_at dksJ10_iterator_0 0 rfl rfl)
theorem dJ10_iterator_3 : decode cJ10_iterator 3 = .ok (.dup, 1) := dk_89 (dk_at dksJ10_iterator_0 3 rfl rfl)
theorem dJ10_iterator_4 : decode cJ10_iterator 4 = .ok (.aload_n 0, 1) := dk_42 (dk_at dksJ10_iterator_0 4 rfl rfl)
theorem dJ10_iterator_5 : decode cJ10_iterator 5 = .ok (.getfield 15, 3) := dk_180 0 15 (dk_at dksJ10_iterator_0 5 rfl rfl)
theorem dJ10_iterator_8 : decode cJ10_iterator 8 = .ok (.invokespecial 75, 3) := dk_183 0 75 (dk_at dksJ10_iterator_0 8 rfl rfl)
theorem dJ10_iterator_11 : decode cJ10_iterator 11 = .ok (.areturn, 1) := dk_176 (dk_at dksJ10_iterator_0 11 rfl rfl)
abbrev cJ10_indexOf : ByteArray := prog_51_method_7_code
def yJ10_indexOf : MethodName := ⟨RJ10, "indexOf", "(Ljava/lang/Object;)I"⟩
def dkwJ10_indexOf_2 : List UInt8 := [182, 0, 42, 153, 0, 5, 29, 172, 132, 3, 1, 167, 255, 235, 2, 172]
abbrev dktJ10_indexOf_2 : List UInt8 := dkwJ10_indexOf_2 ++ []
def dkwJ10_indexOf_1 : List UInt8 := [172, 132, 3, 1, 167, 255, 239, 167, 0, 29, 3, 62, 29, 44, 190, 162, 0, 21, 43, 44, 29, 50]
abbrev dktJ10_indexOf_1 : List UInt8 := dkwJ10_indexOf_1 ++ dktJ10_indexOf_2
def dkwJ10_indexOf_0 : List UInt8 := [42, 180, 0, 15, 77, 43, 199, 0, 28, 3, 62, 29, 44, 190, 162, 0, 17, 44, 29, 50, 199, 0, 5, 29]
abbrev dktJ10_indexOf_0 : List UInt8 := dkwJ10_indexOf_0 ++ dktJ10_indexOf_1
theorem dksJ10_indexOf_0 : cJ10_indexOf.data.toList.drop 0 = dktJ10_indexOf_0 := by decide +kernel
theorem dksJ10_indexOf_1 : cJ10_indexOf.data.toList.drop 24 = dktJ10_indexOf_1 := dk_seg dksJ10_indexOf_0 24 rfl rfl
theorem dksJ10_indexOf_2 : cJ10_indexOf.data.toList.drop 46 = dktJ10_indexOf_2 := dk_seg dksJ10_indexOf_1 22 rfl rfl
theorem dJ10_indexOf_0 : decode cJ10_indexOf 0 = .ok (.aload_n 0, 1) := dk_42 (dk_at dksJ10_indexOf_0 0 rfl rfl)
theorem dJ10_indexOf_1 : decode cJ10_indexOf 1 = .ok (.getfield 15, 3) := dk_180 0 15 (dk_at dksJ10_indexOf_0 1 rfl rfl)
theorem dJ10_indexOf_4 : decode cJ10_indexOf 4 = .ok (.astore_n 2, 1) := dk_77 (dk_at dksJ10_indexOf_0 4 rfl rfl)
theorem dJ10_indexOf_5 : decode cJ10_indexOf 5 = .ok (.aload_n 1, 1) := dk_43 (dk_at dksJ10_indexOf_0 5 rfl rfl)
theorem dJ10_indexOf_6 : decode cJ10_indexOf 6 = .ok (.ifnonnull 28, 3) := dk_199 0 28 (dk_at dksJ10_indexOf_0 6 rfl rfl)
theorem dJ10_indexOf_9 : decode cJ10_indexOf 9 = .ok (.iconst 0, 1) := dk_3 (dk_at dksJ10_indexOf_0 9 rfl rfl)
theorem dJ10_indexOf_10 : decode cJ10_indexOf 10 = .ok (.istore_n 3, 1) := dk_62 (dk_at dksJ10_indexOf_0 10 rfl rfl)
theorem dJ10_indexOf_11 : decode cJ10_indexOf 11 = .ok (.iload_n 3, 1) := dk_29 (dk_at dksJ10_indexOf_0 11 rfl rfl)
theorem dJ10_indexOf_12 : decode cJ10_indexOf 12 = .ok (.aload_n 2, 1) := dk_44 (dk_at dksJ10_indexOf_0 12 rfl rfl)
theorem dJ10_indexOf_13 : decode cJ10_indexOf 13 = .ok (.arraylength, 1) := dk_190 (dk_at dksJ10_indexOf_0 13 rfl rfl)
theorem dJ10_indexOf_14 : decode cJ10_indexOf 14 = .ok (.if_icmp .ge 17, 3) := dk_162 0 17 (dk_at dksJ10_indexOf_0 14 rfl rfl)
theorem dJ10_indexOf_17 : decode cJ10_indexOf 17 = .ok (.aload_n 2, 1) := dk_44 (dk_at dksJ10_indexOf_0 17 rfl rfl)
theorem dJ10_indexOf_18 : decode cJ10_indexOf 18 = .ok (.iload_n 3, 1) := dk_29 (dk_at dksJ10_indexOf_0 18 rfl rfl)
theorem dJ10_indexOf_19 : decode cJ10_indexOf 19 = .ok (.aaload, 1) := dk_50 (dk_at dksJ10_indexOf_0 19 rfl rfl)
theorem dJ10_indexOf_20 : decode cJ10_indexOf 20 = .ok (.ifnonnull 5, 3) := dk_199 0 5 (dk_at dksJ10_indexOf_0 20 rfl rfl)
theorem dJ10_indexOf_23 : decode cJ10_indexOf 23 = .ok (.iload_n 3, 1) := dk_29 (dk_at dksJ10_indexOf_0 23 rfl rfl)
theorem dJ10_indexOf_24 : decode cJ10_indexOf 24 = .ok (.ireturn, 1) := dk_172 (dk_at dksJ10_indexOf_1 0 rfl rfl)
theorem dJ10_indexOf_25 : decode cJ10_indexOf 25 = .ok (.iinc 3 1, 3) := dk_132 3 1 (dk_at dksJ10_indexOf_1 1 rfl rfl)
theorem dJ10_indexOf_28 : decode cJ10_indexOf 28 = .ok (.goto (-17), 3) := dk_167 255 239 (dk_at dksJ10_indexOf_1 4 rfl rfl)
theorem dJ10_indexOf_31 : decode cJ10_indexOf 31 = .ok (.goto 29, 3) := dk_167 0 29 (dk_at dksJ10_indexOf_1 7 rfl rfl)
theorem dJ10_indexOf_34 : decode cJ10_indexOf 34 = .ok (.iconst 0, 1) := dk_3 (dk_at dksJ10_indexOf_1 10 rfl rfl)
theorem dJ10_indexOf_35 : decode cJ10_indexOf 35 = .ok (.istore_n 3, 1) := dk_62 (dk_at dksJ10_indexOf_1 11 rfl rfl)
theorem dJ10_indexOf_36 : decode cJ10_indexOf 36 = .ok (.iload_n 3, 1) := dk_29 (dk_at dksJ10_indexOf_1 12 rfl rfl)
theorem dJ10_indexOf_37 : decode cJ10_indexOf 37 = .ok (.aload_n 2, 1) := dk_44 (dk_at dksJ10_indexOf_1 13 rfl rfl)
theorem dJ10_indexOf_38 : decode cJ10_indexOf 38 = .ok (.arraylength, 1) := dk_190 (dk_at dksJ10_indexOf_1 14 rfl rfl)
theorem dJ10_indexOf_39 : decode cJ10_indexOf 39 = .ok (.if_icmp .ge 21, 3) := dk_162 0 21 (dk_at dksJ10_indexOf_1 15 rfl rfl)
theorem dJ10_indexOf_42 : decode cJ10_indexOf 42 = .ok (.aload_n 1, 1) := dk_43 (dk_at dksJ10_indexOf_1 18 rfl rfl)
theorem dJ10_indexOf_43 : decode cJ10_indexOf 43 = .ok (.aload_n 2, 1) := dk_44 (dk_at dksJ10_indexOf_1 19 rfl rfl)
theorem dJ10_indexOf_44 : decode cJ10_indexOf 44 = .ok (.iload_n 3, 1) := dk_29 (dk_at dksJ10_indexOf_1 20 rfl rfl)
theorem dJ10_indexOf_45 : decode cJ10_indexOf 45 = .ok (.aaload, 1) := dk_50 (dk_at dksJ10_indexOf_1 21 rfl rfl)
theorem dJ10_indexOf_46 : decode cJ10_indexOf 46 = .ok (.invokevirtual 42, 3) := dk_182 0 42 (dk_at dksJ10_indexOf_2 0 rfl rfl)
theorem dJ10_indexOf_49 : decode cJ10_indexOf 49 = .ok (.ifCond .eq 5, 3) := dk_153 0 5 (dk_at dksJ10_indexOf_2 3 rfl rfl)
theorem dJ10_indexOf_52 : decode cJ10_indexOf 52 = .ok (.iload_n 3, 1) := dk_29 (dk_at dksJ10_indexOf_2 6 rfl rfl)
theorem dJ10_indexOf_53 : decode cJ10_indexOf 53 = .ok (.ireturn, 1) := dk_172 (dk_at dksJ10_indexOf_2 7 rfl rfl)
theorem dJ10_indexOf_54 : decode cJ10_indexOf 54 = .ok (.iinc 3 1, 3) := dk_132 3 1 (dk_at dksJ10_indexOf_2 8 rfl rfl)
theorem dJ10_indexOf_57 : decode cJ10_indexOf 57 = .ok (.goto (-21), 3) := dk_167 255 235 (dk_at dksJ10_indexOf_2 11 rfl rfl)
theorem dJ10_indexOf_60 : decode cJ10_indexOf 60 = .ok (.iconst (-1), 1) := dk_2 (dk_at dksJ10_indexOf_2 14 rfl rfl)
theorem dJ10_indexOf_61 : decode cJ10_indexOf 61 = .ok (.ireturn, 1) := dk_172 (dk_at dksJ10_indexOf_2 15 rfl rfl)
abbrev cJ10_forEach : ByteArray := prog_51_method_10_code
def yJ10_forEach : MethodName := ⟨RJ10, "forEach", "(Ljava/util/function/Consumer;)V"⟩
def dkwJ10_forEach_1 : List UInt8 := [21, 4, 50, 58, 5, 43, 25, 5, 185, 0, 58, 2, 0, 132, 4, 1, 167, 255, 233, 177]
abbrev dktJ10_forEach_1 : List UInt8 := dkwJ10_forEach_1 ++ []
def dkwJ10_forEach_0 : List UInt8 := [43, 184, 0, 7, 87, 42, 180, 0, 15, 77, 44, 190, 62, 3, 54, 4, 21, 4, 29, 162, 0, 23, 44]
abbrev dktJ10_forEach_0 : List UInt8 := dkwJ10_forEach_0 ++ dktJ10_forEach_1
theorem dksJ10_forEach_0 : cJ10_forEach.data.toList.drop 0 = dktJ10_forEach_0 := by decide +kernel
theorem dksJ10_forEach_1 : cJ10_forEach.data.toList.drop 23 = dktJ10_forEach_1 := dk_seg dksJ10_forEach_0 23 rfl rfl
theorem dJ10_forEach_0 : decode cJ10_forEach 0 = .ok (.aload_n 1, 1) := dk_43 (dk_at dksJ10_forEach_0 0 rfl rfl)
theorem dJ10_forEach_1 : decode cJ10_forEach 1 = .ok (.invokestatic 7, 3) := dk_184 0 7 (dk_at dksJ10_forEach_0 1 rfl rfl)
theorem dJ10_forEach_4 : decode cJ10_forEach 4 = .ok (.pop, 1) := dk_87 (dk_at dksJ10_forEach_0 4 rfl rfl)
theorem dJ10_forEach_5 : decode cJ10_forEach 5 = .ok (.aload_n 0, 1) := dk_42 (dk_at dksJ10_forEach_0 5 rfl rfl)
theorem dJ10_forEach_6 : decode cJ10_forEach 6 = .ok (.getfield 15, 3) := dk_180 0 15 (dk_at dksJ10_forEach_0 6 rfl rfl)
theorem dJ10_forEach_9 : decode cJ10_forEach 9 = .ok (.astore_n 2, 1) := dk_77 (dk_at dksJ10_forEach_0 9 rfl rfl)
theorem dJ10_forEach_10 : decode cJ10_forEach 10 = .ok (.aload_n 2, 1) := dk_44 (dk_at dksJ10_forEach_0 10 rfl rfl)
theorem dJ10_forEach_11 : decode cJ10_forEach 11 = .ok (.arraylength, 1) := dk_190 (dk_at dksJ10_forEach_0 11 rfl rfl)
theorem dJ10_forEach_12 : decode cJ10_forEach 12 = .ok (.istore_n 3, 1) := dk_62 (dk_at dksJ10_forEach_0 12 rfl rfl)
theorem dJ10_forEach_13 : decode cJ10_forEach 13 = .ok (.iconst 0, 1) := dk_3 (dk_at dksJ10_forEach_0 13 rfl rfl)
theorem dJ10_forEach_14 : decode cJ10_forEach 14 = .ok (.istore 4, 2) := dk_54 4 (dk_at dksJ10_forEach_0 14 rfl rfl)
theorem dJ10_forEach_16 : decode cJ10_forEach 16 = .ok (.iload 4, 2) := dk_21 4 (dk_at dksJ10_forEach_0 16 rfl rfl)
theorem dJ10_forEach_18 : decode cJ10_forEach 18 = .ok (.iload_n 3, 1) := dk_29 (dk_at dksJ10_forEach_0 18 rfl rfl)
theorem dJ10_forEach_19 : decode cJ10_forEach 19 = .ok (.if_icmp .ge 23, 3) := dk_162 0 23 (dk_at dksJ10_forEach_0 19 rfl rfl)
theorem dJ10_forEach_22 : decode cJ10_forEach 22 = .ok (.aload_n 2, 1) := dk_44 (dk_at dksJ10_forEach_0 22 rfl rfl)
theorem dJ10_forEach_23 : decode cJ10_forEach 23 = .ok (.iload 4, 2) := dk_21 4 (dk_at dksJ10_forEach_1 0 rfl rfl)
theorem dJ10_forEach_25 : decode cJ10_forEach 25 = .ok (.aaload, 1) := dk_50 (dk_at dksJ10_forEach_1 2 rfl rfl)
theorem dJ10_forEach_26 : decode cJ10_forEach 26 = .ok (.astore 5, 2) := dk_58 5 (dk_at dksJ10_forEach_1 3 rfl rfl)
theorem dJ10_forEach_28 : decode cJ10_forEach 28 = .ok (.aload_n 1, 1) := dk_43 (dk_at dksJ10_forEach_1 5 rfl rfl)
theorem dJ10_forEach_29 : decode cJ10_forEach 29 = .ok (.aload 5, 2) := dk_25 5 (dk_at dksJ10_forEach_1 6 rfl rfl)
theorem dJ10_forEach_31 : decode cJ10_forEach 31 = .ok (.invokeinterface 58 2, 5) := by decide +kernel
theorem dJ10_forEach_36 : decode cJ10_forEach 36 = .ok (.iinc 4 1, 3) := dk_132 4 1 (dk_at dksJ10_forEach_1 13 rfl rfl)
theorem dJ10_forEach_39 : decode cJ10_forEach 39 = .ok (.goto (-23), 3) := dk_167 255 233 (dk_at dksJ10_forEach_1 16 rfl rfl)
theorem dJ10_forEach_42 : decode cJ10_forEach 42 = .ok (.return_, 1) := dk_177 (dk_at dksJ10_forEach_1 19 rfl rfl)
abbrev cJ10_set : ByteArray := prog_51_method_6_code
def yJ10_set : MethodName := ⟨RJ10, "set", "(ILjava/lang/Object;)Ljava/lang/Object;"⟩
def dkwJ10_set_0 : List UInt8 := [42, 180, 0, 15, 27, 50, 78, 42, 180, 0, 15, 27, 44, 83, 45, 176]
abbrev dktJ10_set_0 : List UInt8 := dkwJ10_set_0 ++ []
theorem dksJ10_set_0 : cJ10_set.data.toList.drop 0 = dktJ10_set_0 := by decide +kernel
theorem dJ10_set_0 : decode cJ10_set 0 = .ok (.aload_n 0, 1) := dk_42 (dk_at dksJ10_set_0 0 rfl rfl)
theorem dJ10_set_1 : decode cJ10_set 1 = .ok (.getfield 15, 3) := dk_180 0 15 (dk_at dksJ10_set_0 1 rfl rfl)
theorem dJ10_set_4 : decode cJ10_set 4 = .ok (.iload_n 1, 1) := dk_27 (dk_at dksJ10_set_0 4 rfl rfl)
theorem dJ10_set_5 : decode cJ10_set 5 = .ok (.aaload, 1) := dk_50 (dk_at dksJ10_set_0 5 rfl rfl)
theorem dJ10_set_6 : decode cJ10_set 6 = .ok (.astore_n 3, 1) := dk_78 (dk_at dksJ10_set_0 6 rfl rfl)
theorem dJ10_set_7 : decode cJ10_set 7 = .ok (.aload_n 0, 1) := dk_42 (dk_at dksJ10_set_0 7 rfl rfl)
theorem dJ10_set_8 : decode cJ10_set 8 = .ok (.getfield 15, 3) := dk_180 0 15 (dk_at dksJ10_set_0 8 rfl rfl)
theorem dJ10_set_11 : decode cJ10_set 11 = .ok (.iload_n 1, 1) := dk_27 (dk_at dksJ10_set_0 11 rfl rfl)
theorem dJ10_set_12 : decode cJ10_set 12 = .ok (.aload_n 2, 1) := dk_44 (dk_at dksJ10_set_0 12 rfl rfl)
theorem dJ10_set_13 : decode cJ10_set 13 = .ok (.aastore, 1) := dk_83 (dk_at dksJ10_set_0 13 rfl rfl)
theorem dJ10_set_14 : decode cJ10_set 14 = .ok (.aload_n 3, 1) := dk_45 (dk_at dksJ10_set_0 14 rfl rfl)
theorem dJ10_set_15 : decode cJ10_set 15 = .ok (.areturn, 1) := dk_176 (dk_at dksJ10_set_0 15 rfl rfl)
abbrev cJ10_contains : ByteArray := prog_51_method_8_code
def yJ10_contains : MethodName := ⟨RJ10, "contains", "(Ljava/lang/Object;)Z"⟩
def dkwJ10_contains_0 : List UInt8 := [42, 43, 182, 0, 46, 155, 0, 7, 4, 167, 0, 4, 3, 172]
abbrev dktJ10_contains_0 : List UInt8 := dkwJ10_contains_0 ++ []
theorem dksJ10_contains_0 : cJ10_contains.data.toList.drop 0 = dktJ10_contains_0 := by decide +kernel
theorem dJ10_contains_0 : decode cJ10_contains 0 = .ok (.aload_n 0, 1) := dk_42 (dk_at dksJ10_contains_0 0 rfl rfl)
theorem dJ10_contains_1 : decode cJ10_contains 1 = .ok (.aload_n 1, 1) := dk_43 (dk_at dksJ10_contains_0 1 rfl rfl)
theorem dJ10_contains_2 : decode cJ10_contains 2 = .ok (.invokevirtual 46, 3) := dk_182 0 46 (dk_at dksJ10_contains_0 2 rfl rfl)
theorem dJ10_contains_5 : decode cJ10_contains 5 = .ok (.ifCond .lt 7, 3) := dk_155 0 7 (dk_at dksJ10_contains_0 5 rfl rfl)
theorem dJ10_contains_8 : decode cJ10_contains 8 = .ok (.iconst 1, 1) := dk_4 (dk_at dksJ10_contains_0 8 rfl rfl)
theorem dJ10_contains_9 : decode cJ10_contains 9 = .ok (.goto 4, 3) := dk_167 0 4 (dk_at dksJ10_contains_0 9 rfl rfl)
theorem dJ10_contains_12 : decode cJ10_contains 12 = .ok (.iconst 0, 1) := dk_3 (dk_at dksJ10_contains_0 12 rfl rfl)
theorem dJ10_contains_13 : decode cJ10_contains 13 = .ok (.ireturn, 1) := dk_172 (dk_at dksJ10_contains_0 13 rfl rfl)
abbrev cJ10_replaceAll : ByteArray := prog_51_method_11_code
def yJ10_replaceAll : MethodName := ⟨RJ10, "replaceAll", "(Ljava/util/function/UnaryOperator;)V"⟩
def dkwJ10_replaceAll_1 : List UInt8 := [185, 0, 64, 2, 0, 83, 132, 3, 1, 167, 255, 235, 177]
abbrev dktJ10_replaceAll_1 : List UInt8 := dkwJ10_replaceAll_1 ++ []
def dkwJ10_replaceAll_0 : List UInt8 := [43, 184, 0, 7, 87, 42, 180, 0, 15, 77, 3, 62, 29, 44, 190, 162, 0, 21, 44, 29, 43, 44, 29, 50]
abbrev dktJ10_replaceAll_0 : List UInt8 := dkwJ10_replaceAll_0 ++ dktJ10_replaceAll_1
theorem dksJ10_replaceAll_0 : cJ10_replaceAll.data.toList.drop 0 = dktJ10_replaceAll_0 := by decide +kernel
theorem dksJ10_replaceAll_1 : cJ10_replaceAll.data.toList.drop 24 = dktJ10_replaceAll_1 := dk_seg dksJ10_replaceAll_0 24 rfl rfl
theorem dJ10_replaceAll_0 : decode cJ10_replaceAll 0 = .ok (.aload_n 1, 1) := dk_43 (dk_at dksJ10_replaceAll_0 0 rfl rfl)
theorem dJ10_replaceAll_1 : decode cJ10_replaceAll 1 = .ok (.invokestatic 7, 3) := dk_184 0 7 (dk_at dksJ10_replaceAll_0 1 rfl rfl)
theorem dJ10_replaceAll_4 : decode cJ10_replaceAll 4 = .ok (.pop, 1) := dk_87 (dk_at dksJ10_replaceAll_0 4 rfl rfl)
theorem dJ10_replaceAll_5 : decode cJ10_replaceAll 5 = .ok (.aload_n 0, 1) := dk_42 (dk_at dksJ10_replaceAll_0 5 rfl rfl)
theorem dJ10_replaceAll_6 : decode cJ10_replaceAll 6 = .ok (.getfield 15, 3) := dk_180 0 15 (dk_at dksJ10_replaceAll_0 6 rfl rfl)
theorem dJ10_replaceAll_9 : decode cJ10_replaceAll 9 = .ok (.astore_n 2, 1) := dk_77 (dk_at dksJ10_replaceAll_0 9 rfl rfl)
theorem dJ10_replaceAll_10 : decode cJ10_replaceAll 10 = .ok (.iconst 0, 1) := dk_3 (dk_at dksJ10_replaceAll_0 10 rfl rfl)
theorem dJ10_replaceAll_11 : decode cJ10_replaceAll 11 = .ok (.istore_n 3, 1) := dk_62 (dk_at dksJ10_replaceAll_0 11 rfl rfl)
theorem dJ10_replaceAll_12 : decode cJ10_replaceAll 12 = .ok (.iload_n 3, 1) := dk_29 (dk_at dksJ10_replaceAll_0 12 rfl rfl)
theorem dJ10_replaceAll_13 : decode cJ10_replaceAll 13 = .ok (.aload_n 2, 1) := dk_44 (dk_at dksJ10_replaceAll_0 13 rfl rfl)
theorem dJ10_replaceAll_14 : decode cJ10_replaceAll 14 = .ok (.arraylength, 1) := dk_190 (dk_at dksJ10_replaceAll_0 14 rfl rfl)
theorem dJ10_replaceAll_15 : decode cJ10_replaceAll 15 = .ok (.if_icmp .ge 21, 3) := dk_162 0 21 (dk_at dksJ10_replaceAll_0 15 rfl rfl)
theorem dJ10_replaceAll_18 : decode cJ10_replaceAll 18 = .ok (.aload_n 2, 1) := dk_44 (dk_at dksJ10_replaceAll_0 18 rfl rfl)
theorem dJ10_replaceAll_19 : decode cJ10_replaceAll 19 = .ok (.iload_n 3, 1) := dk_29 (dk_at dksJ10_replaceAll_0 19 rfl rfl)
theorem dJ10_replaceAll_20 : decode cJ10_replaceAll 20 = .ok (.aload_n 1, 1) := dk_43 (dk_at dksJ10_replaceAll_0 20 rfl rfl)
theorem dJ10_replaceAll_21 : decode cJ10_replaceAll 21 = .ok (.aload_n 2, 1) := dk_44 (dk_at dksJ10_replaceAll_0 21 rfl rfl)
theorem dJ10_replaceAll_22 : decode cJ10_replaceAll 22 = .ok (.iload_n 3, 1) := dk_29 (dk_at dksJ10_replaceAll_0 22 rfl rfl)
theorem dJ10_replaceAll_23 : decode cJ10_replaceAll 23 = .ok (.aaload, 1) := dk_50 (dk_at dksJ10_replaceAll_0 23 rfl rfl)
theorem dJ10_replaceAll_24 : decode cJ10_replaceAll 24 = .ok (.invokeinterface 64 2, 5) := by decide +kernel
theorem dJ10_replaceAll_29 : decode cJ10_replaceAll 29 = .ok (.aastore, 1) := dk_83 (dk_at dksJ10_replaceAll_1 5 rfl rfl)
theorem dJ10_replaceAll_30 : decode cJ10_replaceAll 30 = .ok (.iinc 3 1, 3) := dk_132 3 1 (dk_at dksJ10_replaceAll_1 6 rfl rfl)
theorem dJ10_replaceAll_33 : decode cJ10_replaceAll 33 = .ok (.goto (-21), 3) := dk_167 255 235 (dk_at dksJ10_replaceAll_1 9 rfl rfl)
theorem dJ10_replaceAll_36 : decode cJ10_replaceAll 36 = .ok (.return_, 1) := dk_177 (dk_at dksJ10_replaceAll_1 12 rfl rfl)
abbrev cJ10_toArray : ByteArray := prog_51_method_3_code
def yJ10_toArray : MethodName := ⟨RJ10, "toArray", "()[Ljava/lang/Object;"⟩
def dkwJ10_toArray_0 : List UInt8 := [42, 180, 0, 15, 42, 180, 0, 15, 190, 18, 13, 184, 0, 20, 176]
abbrev dktJ10_toArray_0 : List UInt8 := dkwJ10_toArray_0 ++ []
theorem dksJ10_toArray_0 : cJ10_toArray.data.toList.drop 0 = dktJ10_toArray_0 := by decide +kernel
theorem dJ10_toArray_0 : decode cJ10_toArray 0 = .ok (.aload_n 0, 1) := dk_42 (dk_at dksJ10_toArray_0 0 rfl rfl)
theorem dJ10_toArray_1 : decode cJ10_toArray 1 = .ok (.getfield 15, 3) := dk_180 0 15 (dk_at dksJ10_toArray_0 1 rfl rfl)
theorem dJ10_toArray_4 : decode cJ10_toArray 4 = .ok (.aload_n 0, 1) := dk_42 (dk_at dksJ10_toArray_0 4 rfl rfl)
theorem dJ10_toArray_5 : decode cJ10_toArray 5 = .ok (.getfield 15, 3) := dk_180 0 15 (dk_at dksJ10_toArray_0 5 rfl rfl)
theorem dJ10_toArray_8 : decode cJ10_toArray 8 = .ok (.arraylength, 1) := dk_190 (dk_at dksJ10_toArray_0 8 rfl rfl)
theorem dJ10_toArray_9 : decode cJ10_toArray 9 = .ok (.ldc 13, 2) := dk_18 13 (dk_at dksJ10_toArray_0 9 rfl rfl)
theorem dJ10_toArray_11 : decode cJ10_toArray 11 = .ok (.invokestatic 20, 3) := dk_184 0 20 (dk_at dksJ10_toArray_0 11 rfl rfl)
theorem dJ10_toArray_14 : decode cJ10_toArray 14 = .ok (.areturn, 1) := dk_176 (dk_at dksJ10_toArray_0 14 rfl rfl)
abbrev cJ10_sort : ByteArray := prog_51_method_12_code
def yJ10_sort : MethodName := ⟨RJ10, "sort", "(Ljava/util/Comparator;)V"⟩
def dkwJ10_sort_0 : List UInt8 := [42, 180, 0, 15, 43, 184, 0, 69, 177]
abbrev dktJ10_sort_0 : List UInt8 := dkwJ10_sort_0 ++ []
theorem dksJ10_sort_0 : cJ10_sort.data.toList.drop 0 = dktJ10_sort_0 := by decide +kernel
theorem dJ10_sort_0 : decode cJ10_sort 0 = .ok (.aload_n 0, 1) := dk_42 (dk_at dksJ10_sort_0 0 rfl rfl)
theorem dJ10_sort_1 : decode cJ10_sort 1 = .ok (.getfield 15, 3) := dk_180 0 15 (dk_at dksJ10_sort_0 1 rfl rfl)
theorem dJ10_sort_4 : decode cJ10_sort 4 = .ok (.aload_n 1, 1) := dk_43 (dk_at dksJ10_sort_0 4 rfl rfl)
theorem dJ10_sort_5 : decode cJ10_sort 5 = .ok (.invokestatic 69, 3) := dk_184 0 69 (dk_at dksJ10_sort_0 5 rfl rfl)
theorem dJ10_sort_8 : decode cJ10_sort 8 = .ok (.return_, 1) := dk_177 (dk_at dksJ10_sort_0 8 rfl rfl)
theorem q69 : (Jvm.Cond.initialized "java/util/Arrays$ArrayList") ∈ lw_all := lw_g (lw_at lw_m1 14 rfl) rfl
theorem q245 : (Jvm.Cond.selects "java/util/Arrays$ArrayList" ({ cls := "java/lang/Object", name := "getClass", desc := "()Ljava/lang/Class;" } : Jvm.MethodName) ({ cls := "java/lang/Object", name := "getClass", desc := "()Ljava/lang/Class;" } : Jvm.MethodName)) ∈ lw_all := lw_g (lw_at lw_m1 190 rfl) rfl
theorem q284 : (Jvm.Cond.instantiable "java/util/Arrays$ArrayList" (2 : Nat)) ∈ lw_all := lw_g (lw_at lw_m1 229 rfl) rfl
theorem q286 : (Jvm.Cond.instanceMethod ({ cls := "java/util/Arrays$ArrayList", name := "<init>", desc := "([Ljava/lang/Object;)V" } : Jvm.MethodName)) ∈ lw_all := lw_g (lw_at lw_m1 231 rfl) rfl
theorem q287 : (Jvm.Cond.code ({ cls := "java/util/Arrays$ArrayList", name := "<init>", desc := "([Ljava/lang/Object;)V" } : Jvm.MethodName) prog_51_method_1_code (2 : Nat) (Option.none : Option Jvm.ClassFile.FieldType)) ∈ lw_all := lw_g (lw_at lw_m1 232 rfl) rfl
theorem q288 : (Jvm.Cond.methodLink "java/util/Arrays$ArrayList" (1 : Nat) ({ cls := "java/util/AbstractList", name := "<init>", desc := "()V" } : Jvm.MethodName)) ∈ lw_all := lw_g (lw_at lw_m1 233 rfl) rfl
theorem q289 : (Jvm.Cond.methodLink "java/util/Arrays$ArrayList" (7 : Nat) ({ cls := "java/util/Objects", name := "requireNonNull", desc := "(Ljava/lang/Object;)Ljava/lang/Object;" } : Jvm.MethodName)) ∈ lw_all := lw_g (lw_at lw_m1 234 rfl) rfl
theorem q292 : (Jvm.Cond.classLink "java/util/Arrays$ArrayList" (13 : Nat) "[Ljava/lang/Object;") ∈ lw_all := lw_g (lw_at lw_m1 237 rfl) rfl
theorem q293 : (Jvm.Cond.fieldLink "java/util/Arrays$ArrayList" (15 : Nat) "java/util/Arrays$ArrayList" "a" "[Ljava/lang/Object;") ∈ lw_all := lw_g (lw_at lw_m1 238 rfl) rfl
theorem q294 : (Jvm.Cond.laysFinal "java/util/Arrays$ArrayList" "java/util/Arrays$ArrayList" "a" "[Ljava/lang/Object;") ∈ lw_all := lw_g (lw_at lw_m1 239 rfl) rfl
theorem q295 : (Jvm.Cond.soleField "java/util/Arrays$ArrayList" "a") ∈ lw_all := lw_g (lw_at lw_m2 0 rfl) rfl
theorem q296 : (Jvm.Cond.lays "java/util/Arrays$ArrayList" "java/util/AbstractList" "modCount" "I") ∈ lw_all := lw_g (lw_at lw_m2 1 rfl) rfl
theorem q297 : (Jvm.Cond.superclass "java/util/Arrays$ArrayList" "java/util/AbstractList") ∈ lw_all := lw_g (lw_at lw_m2 2 rfl) rfl
theorem q380 : (Jvm.Cond.castable "java/util/Arrays$ArrayList" "java/util/List") ∈ lw_tbl := lw_at lw_m2 85 rfl
theorem q381 : (Jvm.Cond.selects "java/util/Arrays$ArrayList" ({ cls := "java/util/List", name := "size", desc := "()I" } : Jvm.MethodName) ({ cls := "java/util/Arrays$ArrayList", name := "size", desc := "()I" } : Jvm.MethodName)) ∈ lw_all := lw_g (lw_at lw_m2 86 rfl) rfl
theorem q382 : (Jvm.Cond.unhidden "java/util/Arrays$ArrayList" "size" "()I") ∈ lw_tbl := lw_at lw_m2 87 rfl
theorem q383 : (Jvm.Cond.instanceMethod ({ cls := "java/util/Arrays$ArrayList", name := "size", desc := "()I" } : Jvm.MethodName)) ∈ lw_all := lw_g (lw_at lw_m2 88 rfl) rfl
theorem q384 : (Jvm.Cond.publicMethod ({ cls := "java/util/Arrays$ArrayList", name := "size", desc := "()I" } : Jvm.MethodName)) ∈ lw_tbl := lw_at lw_m2 89 rfl
theorem q385 : (Jvm.Cond.code ({ cls := "java/util/Arrays$ArrayList", name := "size", desc := "()I" } : Jvm.MethodName) prog_51_method_2_code (1 : Nat) (Option.some Jvm.ClassFile.FieldType.int)) ∈ lw_all := lw_g (lw_at lw_m2 90 rfl) rfl
theorem q437 : (Jvm.Cond.selects "java/util/Arrays$ArrayList" ({ cls := "java/util/AbstractList", name := "listIterator", desc := "()Ljava/util/ListIterator;" } : Jvm.MethodName) ({ cls := "java/util/AbstractList", name := "listIterator", desc := "()Ljava/util/ListIterator;" } : Jvm.MethodName)) ∈ lw_all := lw_g (lw_at lw_m2 142 rfl) rfl
theorem q850 : (Jvm.Cond.selects "java/util/Arrays$ArrayList" ({ cls := "java/util/AbstractList", name := "listIterator", desc := "(I)Ljava/util/ListIterator;" } : Jvm.MethodName) ({ cls := "java/util/AbstractList", name := "listIterator", desc := "(I)Ljava/util/ListIterator;" } : Jvm.MethodName)) ∈ lw_all := lw_g (lw_at lw_m4 75 rfl) rfl
theorem q863 : (Jvm.Cond.selects "java/util/Arrays$ArrayList" ({ cls := "java/util/AbstractList", name := "size", desc := "()I" } : Jvm.MethodName) ({ cls := "java/util/Arrays$ArrayList", name := "size", desc := "()I" } : Jvm.MethodName)) ∈ lw_all := lw_g (lw_at lw_m4 88 rfl) rfl
theorem q922 : (Jvm.Cond.selects "java/util/Arrays$ArrayList" ({ cls := "java/util/List", name := "listIterator", desc := "()Ljava/util/ListIterator;" } : Jvm.MethodName) ({ cls := "java/util/AbstractList", name := "listIterator", desc := "()Ljava/util/ListIterator;" } : Jvm.MethodName)) ∈ lw_all := lw_g (lw_at lw_m4 147 rfl) rfl
theorem q923 : (Jvm.Cond.unhidden "java/util/Arrays$ArrayList" "listIterator" "()Ljava/util/ListIterator;") ∈ lw_tbl := lw_at lw_m4 148 rfl
theorem q1006 : (Jvm.Cond.instanceMethod ({ cls := "java/util/Arrays$ArrayList", name := "get", desc := "(I)Ljava/lang/Object;" } : Jvm.MethodName)) ∈ lw_all := lw_g (lw_at lw_m4 231 rfl) rfl
theorem q1007 : (Jvm.Cond.code ({ cls := "java/util/Arrays$ArrayList", name := "get", desc := "(I)Ljava/lang/Object;" } : Jvm.MethodName) prog_51_method_5_code (2 : Nat) (Option.some (Jvm.ClassFile.FieldType.object "java/lang/Object"))) ∈ lw_all := lw_g (lw_at lw_m4 232 rfl) rfl
theorem q1011 : (Jvm.Cond.selects "java/util/Arrays$ArrayList" ({ cls := "java/util/AbstractList", name := "get", desc := "(I)Ljava/lang/Object;" } : Jvm.MethodName) ({ cls := "java/util/Arrays$ArrayList", name := "get", desc := "(I)Ljava/lang/Object;" } : Jvm.MethodName)) ∈ lw_all := lw_g (lw_at lw_m4 236 rfl) rfl
theorem q1199 : (Jvm.Cond.selects "java/util/Arrays$ArrayList" ({ cls := "java/util/List", name := "iterator", desc := "()Ljava/util/Iterator;" } : Jvm.MethodName) ({ cls := "java/util/Arrays$ArrayList", name := "iterator", desc := "()Ljava/util/Iterator;" } : Jvm.MethodName)) ∈ lw_all := lw_g (lw_at lw_m5 184 rfl) rfl
theorem q1200 : (Jvm.Cond.unhidden "java/util/Arrays$ArrayList" "iterator" "()Ljava/util/Iterator;") ∈ lw_tbl := lw_at lw_m5 185 rfl
theorem q1201 : (Jvm.Cond.instanceMethod ({ cls := "java/util/Arrays$ArrayList", name := "iterator", desc := "()Ljava/util/Iterator;" } : Jvm.MethodName)) ∈ lw_all := lw_g (lw_at lw_m5 186 rfl) rfl
theorem q1202 : (Jvm.Cond.publicMethod ({ cls := "java/util/Arrays$ArrayList", name := "iterator", desc := "()Ljava/util/Iterator;" } : Jvm.MethodName)) ∈ lw_tbl := lw_at lw_m5 187 rfl
theorem q1203 : (Jvm.Cond.code ({ cls := "java/util/Arrays$ArrayList", name := "iterator", desc := "()Ljava/util/Iterator;" } : Jvm.MethodName) prog_51_method_13_code (1 : Nat) (Option.some (Jvm.ClassFile.FieldType.object "java/util/Iterator"))) ∈ lw_all := lw_g (lw_at lw_m5 188 rfl) rfl
theorem q1204 : (Jvm.Cond.classLink "java/util/Arrays$ArrayList" (73 : Nat) "java/util/Arrays$ArrayItr") ∈ lw_all := lw_g (lw_at lw_m5 189 rfl) rfl
theorem q1206 : (Jvm.Cond.methodLink "java/util/Arrays$ArrayList" (75 : Nat) ({ cls := "java/util/Arrays$ArrayItr", name := "<init>", desc := "([Ljava/lang/Object;)V" } : Jvm.MethodName)) ∈ lw_all := lw_g (lw_at lw_m5 191 rfl) rfl
theorem q1265 : (Jvm.Cond.selects "java/util/Arrays$ArrayList" ({ cls := "java/util/List", name := "equals", desc := "(Ljava/lang/Object;)Z" } : Jvm.MethodName) ({ cls := "java/util/AbstractList", name := "equals", desc := "(Ljava/lang/Object;)Z" } : Jvm.MethodName)) ∈ lw_all := lw_g (lw_at lw_m6 10 rfl) rfl
theorem q1266 : (Jvm.Cond.unhidden "java/util/Arrays$ArrayList" "equals" "(Ljava/lang/Object;)Z") ∈ lw_tbl := lw_at lw_m6 11 rfl
theorem q1284 : (Jvm.Cond.selects "java/util/Arrays$ArrayList" ({ cls := "java/util/AbstractList", name := "iterator", desc := "()Ljava/util/Iterator;" } : Jvm.MethodName) ({ cls := "java/util/Arrays$ArrayList", name := "iterator", desc := "()Ljava/util/Iterator;" } : Jvm.MethodName)) ∈ lw_all := lw_g (lw_at lw_m6 29 rfl) rfl
theorem q1394 : (Jvm.Cond.selects "java/util/Arrays$ArrayList" ({ cls := "java/util/List", name := "hashCode", desc := "()I" } : Jvm.MethodName) ({ cls := "java/util/AbstractList", name := "hashCode", desc := "()I" } : Jvm.MethodName)) ∈ lw_all := lw_g (lw_at lw_m6 139 rfl) rfl
theorem q1395 : (Jvm.Cond.unhidden "java/util/Arrays$ArrayList" "hashCode" "()I") ∈ lw_tbl := lw_at lw_m6 140 rfl
theorem q1466 : (Jvm.Cond.selects "java/util/Arrays$ArrayList" ({ cls := "java/util/List", name := "indexOf", desc := "(Ljava/lang/Object;)I" } : Jvm.MethodName) ({ cls := "java/util/Arrays$ArrayList", name := "indexOf", desc := "(Ljava/lang/Object;)I" } : Jvm.MethodName)) ∈ lw_all := lw_g (lw_at lw_m6 211 rfl) rfl
theorem q1467 : (Jvm.Cond.unhidden "java/util/Arrays$ArrayList" "indexOf" "(Ljava/lang/Object;)I") ∈ lw_tbl := lw_at lw_m6 212 rfl
theorem q1468 : (Jvm.Cond.instanceMethod ({ cls := "java/util/Arrays$ArrayList", name := "indexOf", desc := "(Ljava/lang/Object;)I" } : Jvm.MethodName)) ∈ lw_all := lw_g (lw_at lw_m6 213 rfl) rfl
theorem q1469 : (Jvm.Cond.publicMethod ({ cls := "java/util/Arrays$ArrayList", name := "indexOf", desc := "(Ljava/lang/Object;)I" } : Jvm.MethodName)) ∈ lw_tbl := lw_at lw_m6 214 rfl
theorem q1470 : (Jvm.Cond.code ({ cls := "java/util/Arrays$ArrayList", name := "indexOf", desc := "(Ljava/lang/Object;)I" } : Jvm.MethodName) prog_51_method_7_code (4 : Nat) (Option.some Jvm.ClassFile.FieldType.int)) ∈ lw_all := lw_g (lw_at lw_m6 215 rfl) rfl
theorem q1471 : (Jvm.Cond.methodLink "java/util/Arrays$ArrayList" (42 : Nat) ({ cls := "java/lang/Object", name := "equals", desc := "(Ljava/lang/Object;)Z" } : Jvm.MethodName)) ∈ lw_all := lw_g (lw_at lw_m6 216 rfl) rfl
theorem q1563 : (Jvm.Cond.selects "java/util/Arrays$ArrayList" ({ cls := "java/util/List", name := "lastIndexOf", desc := "(Ljava/lang/Object;)I" } : Jvm.MethodName) ({ cls := "java/util/AbstractList", name := "lastIndexOf", desc := "(Ljava/lang/Object;)I" } : Jvm.MethodName)) ∈ lw_all := lw_g (lw_at lw_m7 68 rfl) rfl
theorem q1564 : (Jvm.Cond.unhidden "java/util/Arrays$ArrayList" "lastIndexOf" "(Ljava/lang/Object;)I") ∈ lw_tbl := lw_at lw_m7 69 rfl
theorem q1580 : (Jvm.Cond.selects "java/util/Arrays$ArrayList" ({ cls := "java/util/List", name := "get", desc := "(I)Ljava/lang/Object;" } : Jvm.MethodName) ({ cls := "java/util/Arrays$ArrayList", name := "get", desc := "(I)Ljava/lang/Object;" } : Jvm.MethodName)) ∈ lw_all := lw_g (lw_at lw_m7 85 rfl) rfl
theorem q1581 : (Jvm.Cond.unhidden "java/util/Arrays$ArrayList" "get" "(I)Ljava/lang/Object;") ∈ lw_tbl := lw_at lw_m7 86 rfl
theorem q1582 : (Jvm.Cond.publicMethod ({ cls := "java/util/Arrays$ArrayList", name := "get", desc := "(I)Ljava/lang/Object;" } : Jvm.MethodName)) ∈ lw_tbl := lw_at lw_m7 87 rfl
theorem q1638 : (Jvm.Cond.selects "java/util/Arrays$ArrayList" ({ cls := "java/util/List", name := "listIterator", desc := "(I)Ljava/util/ListIterator;" } : Jvm.MethodName) ({ cls := "java/util/AbstractList", name := "listIterator", desc := "(I)Ljava/util/ListIterator;" } : Jvm.MethodName)) ∈ lw_all := lw_g (lw_at lw_m7 143 rfl) rfl
theorem q1639 : (Jvm.Cond.unhidden "java/util/Arrays$ArrayList" "listIterator" "(I)Ljava/util/ListIterator;") ∈ lw_tbl := lw_at lw_m7 144 rfl
theorem q1682 : (Jvm.Cond.selects "java/util/Arrays$ArrayList" ({ cls := "java/util/AbstractList", name := "add", desc := "(ILjava/lang/Object;)V" } : Jvm.MethodName) ({ cls := "java/util/AbstractList", name := "add", desc := "(ILjava/lang/Object;)V" } : Jvm.MethodName)) ∈ lw_all := lw_g (lw_at lw_m7 187 rfl) rfl
theorem q1712 : (Jvm.Cond.selects "java/util/Arrays$ArrayList" ({ cls := "java/util/List", name := "add", desc := "(Ljava/lang/Object;)Z" } : Jvm.MethodName) ({ cls := "java/util/AbstractList", name := "add", desc := "(Ljava/lang/Object;)Z" } : Jvm.MethodName)) ∈ lw_all := lw_g (lw_at lw_m7 217 rfl) rfl
theorem q1713 : (Jvm.Cond.unhidden "java/util/Arrays$ArrayList" "add" "(Ljava/lang/Object;)Z") ∈ lw_tbl := lw_at lw_m7 218 rfl
theorem q1747 : (Jvm.Cond.selects "java/util/Arrays$ArrayList" ({ cls := "java/util/AbstractList", name := "removeRange", desc := "(II)V" } : Jvm.MethodName) ({ cls := "java/util/AbstractList", name := "removeRange", desc := "(II)V" } : Jvm.MethodName)) ∈ lw_all := lw_g (lw_at lw_m8 12 rfl) rfl
theorem q1792 : (Jvm.Cond.selects "java/util/Arrays$ArrayList" ({ cls := "java/util/AbstractList", name := "remove", desc := "(I)Ljava/lang/Object;" } : Jvm.MethodName) ({ cls := "java/util/AbstractList", name := "remove", desc := "(I)Ljava/lang/Object;" } : Jvm.MethodName)) ∈ lw_all := lw_g (lw_at lw_m8 57 rfl) rfl
theorem q1846 : (Jvm.Cond.selects "java/util/Arrays$ArrayList" ({ cls := "java/util/List", name := "clear", desc := "()V" } : Jvm.MethodName) ({ cls := "java/util/AbstractList", name := "clear", desc := "()V" } : Jvm.MethodName)) ∈ lw_all := lw_g (lw_at lw_m8 111 rfl) rfl
theorem q1847 : (Jvm.Cond.unhidden "java/util/Arrays$ArrayList" "clear" "()V") ∈ lw_tbl := lw_at lw_m8 112 rfl
theorem q1867 : (Jvm.Cond.selects "java/util/Arrays$ArrayList" ({ cls := "java/util/List", name := "isEmpty", desc := "()Z" } : Jvm.MethodName) ({ cls := "java/util/AbstractCollection", name := "isEmpty", desc := "()Z" } : Jvm.MethodName)) ∈ lw_all := lw_g (lw_at lw_m8 132 rfl) rfl
theorem q1868 : (Jvm.Cond.unhidden "java/util/Arrays$ArrayList" "isEmpty" "()Z") ∈ lw_tbl := lw_at lw_m8 133 rfl
theorem q1920 : (Jvm.Cond.castable "java/util/Arrays$ArrayList" "java/lang/Iterable") ∈ lw_tbl := lw_at lw_m8 185 rfl
theorem q1921 : (Jvm.Cond.selects "java/util/Arrays$ArrayList" ({ cls := "java/lang/Iterable", name := "iterator", desc := "()Ljava/util/Iterator;" } : Jvm.MethodName) ({ cls := "java/util/Arrays$ArrayList", name := "iterator", desc := "()Ljava/util/Iterator;" } : Jvm.MethodName)) ∈ lw_all := lw_g (lw_at lw_m8 186 rfl) rfl
theorem q1955 : (Jvm.Cond.selects "java/util/Arrays$ArrayList" ({ cls := "java/lang/Iterable", name := "forEach", desc := "(Ljava/util/function/Consumer;)V" } : Jvm.MethodName) ({ cls := "java/util/Arrays$ArrayList", name := "forEach", desc := "(Ljava/util/function/Consumer;)V" } : Jvm.MethodName)) ∈ lw_all := lw_g (lw_at lw_m8 220 rfl) rfl
theorem q1956 : (Jvm.Cond.unhidden "java/util/Arrays$ArrayList" "forEach" "(Ljava/util/function/Consumer;)V") ∈ lw_tbl := lw_at lw_m8 221 rfl
theorem q1957 : (Jvm.Cond.instanceMethod ({ cls := "java/util/Arrays$ArrayList", name := "forEach", desc := "(Ljava/util/function/Consumer;)V" } : Jvm.MethodName)) ∈ lw_all := lw_g (lw_at lw_m8 222 rfl) rfl
theorem q1958 : (Jvm.Cond.publicMethod ({ cls := "java/util/Arrays$ArrayList", name := "forEach", desc := "(Ljava/util/function/Consumer;)V" } : Jvm.MethodName)) ∈ lw_tbl := lw_at lw_m8 223 rfl
theorem q1959 : (Jvm.Cond.code ({ cls := "java/util/Arrays$ArrayList", name := "forEach", desc := "(Ljava/util/function/Consumer;)V" } : Jvm.MethodName) prog_51_method_10_code (6 : Nat) (Option.none : Option Jvm.ClassFile.FieldType)) ∈ lw_all := lw_g (lw_at lw_m8 224 rfl) rfl
theorem q1960 : (Jvm.Cond.interfaceEntry "java/util/Arrays$ArrayList" (58 : Nat)) ∈ lw_tbl := lw_at lw_m8 225 rfl
theorem q1961 : (Jvm.Cond.methodLink "java/util/Arrays$ArrayList" (58 : Nat) ({ cls := "java/util/function/Consumer", name := "accept", desc := "(Ljava/lang/Object;)V" } : Jvm.MethodName)) ∈ lw_all := lw_g (lw_at lw_m8 226 rfl) rfl
theorem q2156 : (Jvm.Cond.selects "java/util/Arrays$ArrayList" ({ cls := "java/util/List", name := "subList", desc := "(II)Ljava/util/List;" } : Jvm.MethodName) ({ cls := "java/util/AbstractList", name := "subList", desc := "(II)Ljava/util/List;" } : Jvm.MethodName)) ∈ lw_all := lw_g (lw_at lw_m9 181 rfl) rfl
theorem q2157 : (Jvm.Cond.unhidden "java/util/Arrays$ArrayList" "subList" "(II)Ljava/util/List;") ∈ lw_tbl := lw_at lw_m9 182 rfl
theorem q2201 : (Jvm.Cond.selects "java/util/Arrays$ArrayList" ({ cls := "java/util/AbstractList", name := "set", desc := "(ILjava/lang/Object;)Ljava/lang/Object;" } : Jvm.MethodName) ({ cls := "java/util/Arrays$ArrayList", name := "set", desc := "(ILjava/lang/Object;)Ljava/lang/Object;" } : Jvm.MethodName)) ∈ lw_all := lw_g (lw_at lw_m9 226 rfl) rfl
theorem q2202 : (Jvm.Cond.instanceMethod ({ cls := "java/util/Arrays$ArrayList", name := "set", desc := "(ILjava/lang/Object;)Ljava/lang/Object;" } : Jvm.MethodName)) ∈ lw_all := lw_g (lw_at lw_m9 227 rfl) rfl
theorem q2203 : (Jvm.Cond.code ({ cls := "java/util/Arrays$ArrayList", name := "set", desc := "(ILjava/lang/Object;)Ljava/lang/Object;" } : Jvm.MethodName) prog_51_method_6_code (4 : Nat) (Option.some (Jvm.ClassFile.FieldType.object "java/lang/Object"))) ∈ lw_all := lw_g (lw_at lw_m9 228 rfl) rfl
theorem q2213 : (Jvm.Cond.selects "java/util/Arrays$ArrayList" ({ cls := "java/util/List", name := "set", desc := "(ILjava/lang/Object;)Ljava/lang/Object;" } : Jvm.MethodName) ({ cls := "java/util/Arrays$ArrayList", name := "set", desc := "(ILjava/lang/Object;)Ljava/lang/Object;" } : Jvm.MethodName)) ∈ lw_all := lw_g (lw_at lw_m9 238 rfl) rfl
theorem q2214 : (Jvm.Cond.unhidden "java/util/Arrays$ArrayList" "set" "(ILjava/lang/Object;)Ljava/lang/Object;") ∈ lw_tbl := lw_at lw_m9 239 rfl
theorem q2215 : (Jvm.Cond.publicMethod ({ cls := "java/util/Arrays$ArrayList", name := "set", desc := "(ILjava/lang/Object;)Ljava/lang/Object;" } : Jvm.MethodName)) ∈ lw_tbl := lw_at lw_m10 0 rfl
theorem q2288 : (Jvm.Cond.selects "java/util/Arrays$ArrayList" ({ cls := "java/util/AbstractCollection", name := "iterator", desc := "()Ljava/util/Iterator;" } : Jvm.MethodName) ({ cls := "java/util/Arrays$ArrayList", name := "iterator", desc := "()Ljava/util/Iterator;" } : Jvm.MethodName)) ∈ lw_all := lw_g (lw_at lw_m10 73 rfl) rfl
theorem q2308 : (Jvm.Cond.selects "java/util/Arrays$ArrayList" ({ cls := "java/util/List", name := "contains", desc := "(Ljava/lang/Object;)Z" } : Jvm.MethodName) ({ cls := "java/util/Arrays$ArrayList", name := "contains", desc := "(Ljava/lang/Object;)Z" } : Jvm.MethodName)) ∈ lw_all := lw_g (lw_at lw_m10 93 rfl) rfl
theorem q2309 : (Jvm.Cond.unhidden "java/util/Arrays$ArrayList" "contains" "(Ljava/lang/Object;)Z") ∈ lw_tbl := lw_at lw_m10 94 rfl
theorem q2310 : (Jvm.Cond.instanceMethod ({ cls := "java/util/Arrays$ArrayList", name := "contains", desc := "(Ljava/lang/Object;)Z" } : Jvm.MethodName)) ∈ lw_all := lw_g (lw_at lw_m10 95 rfl) rfl
theorem q2311 : (Jvm.Cond.publicMethod ({ cls := "java/util/Arrays$ArrayList", name := "contains", desc := "(Ljava/lang/Object;)Z" } : Jvm.MethodName)) ∈ lw_tbl := lw_at lw_m10 96 rfl
theorem q2312 : (Jvm.Cond.code ({ cls := "java/util/Arrays$ArrayList", name := "contains", desc := "(Ljava/lang/Object;)Z" } : Jvm.MethodName) prog_51_method_8_code (2 : Nat) (Option.some Jvm.ClassFile.FieldType.boolean)) ∈ lw_all := lw_g (lw_at lw_m10 97 rfl) rfl
theorem q2313 : (Jvm.Cond.methodLink "java/util/Arrays$ArrayList" (46 : Nat) ({ cls := "java/util/Arrays$ArrayList", name := "indexOf", desc := "(Ljava/lang/Object;)I" } : Jvm.MethodName)) ∈ lw_all := lw_g (lw_at lw_m10 98 rfl) rfl
theorem q2336 : (Jvm.Cond.castable "java/util/Arrays$ArrayList" "java/util/Collection") ∈ lw_tbl := lw_at lw_m10 121 rfl
theorem q2337 : (Jvm.Cond.selects "java/util/Arrays$ArrayList" ({ cls := "java/util/Collection", name := "iterator", desc := "()Ljava/util/Iterator;" } : Jvm.MethodName) ({ cls := "java/util/Arrays$ArrayList", name := "iterator", desc := "()Ljava/util/Iterator;" } : Jvm.MethodName)) ∈ lw_all := lw_g (lw_at lw_m10 122 rfl) rfl
theorem q2368 : (Jvm.Cond.selects "java/util/Arrays$ArrayList" ({ cls := "java/util/List", name := "containsAll", desc := "(Ljava/util/Collection;)Z" } : Jvm.MethodName) ({ cls := "java/util/AbstractCollection", name := "containsAll", desc := "(Ljava/util/Collection;)Z" } : Jvm.MethodName)) ∈ lw_all := lw_g (lw_at lw_m10 153 rfl) rfl
theorem q2369 : (Jvm.Cond.unhidden "java/util/Arrays$ArrayList" "containsAll" "(Ljava/util/Collection;)Z") ∈ lw_tbl := lw_at lw_m10 154 rfl
theorem q2389 : (Jvm.Cond.selects "java/util/Arrays$ArrayList" ({ cls := "java/util/Collection", name := "size", desc := "()I" } : Jvm.MethodName) ({ cls := "java/util/Arrays$ArrayList", name := "size", desc := "()I" } : Jvm.MethodName)) ∈ lw_all := lw_g (lw_at lw_m10 174 rfl) rfl
theorem q2398 : (Jvm.Cond.selects "java/util/Arrays$ArrayList" ({ cls := "java/util/Collection", name := "contains", desc := "(Ljava/lang/Object;)Z" } : Jvm.MethodName) ({ cls := "java/util/Arrays$ArrayList", name := "contains", desc := "(Ljava/lang/Object;)Z" } : Jvm.MethodName)) ∈ lw_all := lw_g (lw_at lw_m10 183 rfl) rfl
theorem q2583 : (Jvm.Cond.selects "java/util/Arrays$ArrayList" ({ cls := "java/util/List", name := "replaceAll", desc := "(Ljava/util/function/UnaryOperator;)V" } : Jvm.MethodName) ({ cls := "java/util/Arrays$ArrayList", name := "replaceAll", desc := "(Ljava/util/function/UnaryOperator;)V" } : Jvm.MethodName)) ∈ lw_all := lw_g (lw_at lw_m11 128 rfl) rfl
theorem q2584 : (Jvm.Cond.unhidden "java/util/Arrays$ArrayList" "replaceAll" "(Ljava/util/function/UnaryOperator;)V") ∈ lw_tbl := lw_at lw_m11 129 rfl
theorem q2585 : (Jvm.Cond.instanceMethod ({ cls := "java/util/Arrays$ArrayList", name := "replaceAll", desc := "(Ljava/util/function/UnaryOperator;)V" } : Jvm.MethodName)) ∈ lw_all := lw_g (lw_at lw_m11 130 rfl) rfl
theorem q2586 : (Jvm.Cond.publicMethod ({ cls := "java/util/Arrays$ArrayList", name := "replaceAll", desc := "(Ljava/util/function/UnaryOperator;)V" } : Jvm.MethodName)) ∈ lw_tbl := lw_at lw_m11 131 rfl
theorem q2587 : (Jvm.Cond.code ({ cls := "java/util/Arrays$ArrayList", name := "replaceAll", desc := "(Ljava/util/function/UnaryOperator;)V" } : Jvm.MethodName) prog_51_method_11_code (4 : Nat) (Option.none : Option Jvm.ClassFile.FieldType)) ∈ lw_all := lw_g (lw_at lw_m11 132 rfl) rfl
theorem q2588 : (Jvm.Cond.interfaceEntry "java/util/Arrays$ArrayList" (64 : Nat)) ∈ lw_tbl := lw_at lw_m11 133 rfl
theorem q2671 : (Jvm.Cond.selects "java/util/Arrays$ArrayList" ({ cls := "java/util/List", name := "toArray", desc := "()[Ljava/lang/Object;" } : Jvm.MethodName) ({ cls := "java/util/Arrays$ArrayList", name := "toArray", desc := "()[Ljava/lang/Object;" } : Jvm.MethodName)) ∈ lw_all := lw_g (lw_at lw_m11 216 rfl) rfl
theorem q2672 : (Jvm.Cond.unhidden "java/util/Arrays$ArrayList" "toArray" "()[Ljava/lang/Object;") ∈ lw_tbl := lw_at lw_m11 217 rfl
theorem q2673 : (Jvm.Cond.instanceMethod ({ cls := "java/util/Arrays$ArrayList", name := "toArray", desc := "()[Ljava/lang/Object;" } : Jvm.MethodName)) ∈ lw_all := lw_g (lw_at lw_m11 218 rfl) rfl
theorem q2674 : (Jvm.Cond.publicMethod ({ cls := "java/util/Arrays$ArrayList", name := "toArray", desc := "()[Ljava/lang/Object;" } : Jvm.MethodName)) ∈ lw_tbl := lw_at lw_m11 219 rfl
theorem q2675 : (Jvm.Cond.code ({ cls := "java/util/Arrays$ArrayList", name := "toArray", desc := "()[Ljava/lang/Object;" } : Jvm.MethodName) prog_51_method_3_code (1 : Nat) (Option.some (Jvm.ClassFile.FieldType.array (Jvm.ClassFile.FieldType.object "java/lang/Object")))) ∈ lw_all := lw_g (lw_at lw_m11 220 rfl) rfl
theorem q2676 : (Jvm.Cond.methodLink "java/util/Arrays$ArrayList" (20 : Nat) ({ cls := "java/util/Arrays", name := "copyOf", desc := "([Ljava/lang/Object;ILjava/lang/Class;)[Ljava/lang/Object;" } : Jvm.MethodName)) ∈ lw_all := lw_g (lw_at lw_m11 221 rfl) rfl
theorem q3035 : (Jvm.Cond.selects "java/util/Arrays$ArrayList" ({ cls := "java/util/List", name := "sort", desc := "(Ljava/util/Comparator;)V" } : Jvm.MethodName) ({ cls := "java/util/Arrays$ArrayList", name := "sort", desc := "(Ljava/util/Comparator;)V" } : Jvm.MethodName)) ∈ lw_all := lw_g (lw_at lw_m13 100 rfl) rfl
theorem q3036 : (Jvm.Cond.unhidden "java/util/Arrays$ArrayList" "sort" "(Ljava/util/Comparator;)V") ∈ lw_tbl := lw_at lw_m13 101 rfl
theorem q3037 : (Jvm.Cond.instanceMethod ({ cls := "java/util/Arrays$ArrayList", name := "sort", desc := "(Ljava/util/Comparator;)V" } : Jvm.MethodName)) ∈ lw_all := lw_g (lw_at lw_m13 102 rfl) rfl
theorem q3038 : (Jvm.Cond.publicMethod ({ cls := "java/util/Arrays$ArrayList", name := "sort", desc := "(Ljava/util/Comparator;)V" } : Jvm.MethodName)) ∈ lw_tbl := lw_at lw_m13 103 rfl
theorem q3039 : (Jvm.Cond.code ({ cls := "java/util/Arrays$ArrayList", name := "sort", desc := "(Ljava/util/Comparator;)V" } : Jvm.MethodName) prog_51_method_12_code (2 : Nat) (Option.none : Option Jvm.ClassFile.FieldType)) ∈ lw_all := lw_g (lw_at lw_m13 104 rfl) rfl
theorem q3040 : (Jvm.Cond.methodLink "java/util/Arrays$ArrayList" (69 : Nat) ({ cls := "java/util/Arrays", name := "sort", desc := "([Ljava/lang/Object;Ljava/util/Comparator;)V" } : Jvm.MethodName)) ∈ lw_all := lw_g (lw_at lw_m13 105 rfl) rfl
theorem q3116 : (Jvm.Cond.selects "java/util/Arrays$ArrayList" ({ cls := "java/util/List", name := "add", desc := "(ILjava/lang/Object;)V" } : Jvm.MethodName) ({ cls := "java/util/AbstractList", name := "add", desc := "(ILjava/lang/Object;)V" } : Jvm.MethodName)) ∈ lw_all := lw_g (lw_at lw_m13 181 rfl) rfl
theorem q3117 : (Jvm.Cond.unhidden "java/util/Arrays$ArrayList" "add" "(ILjava/lang/Object;)V") ∈ lw_tbl := lw_at lw_m13 182 rfl
theorem q3159 : (Jvm.Cond.selects "java/util/Arrays$ArrayList" ({ cls := "java/util/Collection", name := "toArray", desc := "()[Ljava/lang/Object;" } : Jvm.MethodName) ({ cls := "java/util/Arrays$ArrayList", name := "toArray", desc := "()[Ljava/lang/Object;" } : Jvm.MethodName)) ∈ lw_all := lw_g (lw_at lw_m13 224 rfl) rfl
theorem q3166 : (Jvm.Cond.selects "java/util/Arrays$ArrayList" ({ cls := "java/util/AbstractList", name := "addAll", desc := "(ILjava/util/Collection;)Z" } : Jvm.MethodName) ({ cls := "java/util/AbstractList", name := "addAll", desc := "(ILjava/util/Collection;)Z" } : Jvm.MethodName)) ∈ lw_all := lw_g (lw_at lw_m13 231 rfl) rfl
theorem q3183 : (Jvm.Cond.selects "java/util/Arrays$ArrayList" ({ cls := "java/util/List", name := "addAll", desc := "(Ljava/util/Collection;)Z" } : Jvm.MethodName) ({ cls := "java/util/AbstractCollection", name := "addAll", desc := "(Ljava/util/Collection;)Z" } : Jvm.MethodName)) ∈ lw_all := lw_g (lw_at lw_m14 8 rfl) rfl
theorem q3184 : (Jvm.Cond.unhidden "java/util/Arrays$ArrayList" "addAll" "(Ljava/util/Collection;)Z") ∈ lw_tbl := lw_at lw_m14 9 rfl
theorem q3195 : (Jvm.Cond.selects "java/util/Arrays$ArrayList" ({ cls := "java/util/AbstractCollection", name := "add", desc := "(Ljava/lang/Object;)Z" } : Jvm.MethodName) ({ cls := "java/util/AbstractList", name := "add", desc := "(Ljava/lang/Object;)Z" } : Jvm.MethodName)) ∈ lw_all := lw_g (lw_at lw_m14 20 rfl) rfl
theorem q3219 : (Jvm.Cond.selects "java/util/Arrays$ArrayList" ({ cls := "java/util/List", name := "remove", desc := "(I)Ljava/lang/Object;" } : Jvm.MethodName) ({ cls := "java/util/AbstractList", name := "remove", desc := "(I)Ljava/lang/Object;" } : Jvm.MethodName)) ∈ lw_all := lw_g (lw_at lw_m14 44 rfl) rfl
theorem q3220 : (Jvm.Cond.unhidden "java/util/Arrays$ArrayList" "remove" "(I)Ljava/lang/Object;") ∈ lw_tbl := lw_at lw_m14 45 rfl
theorem q3269 : (Jvm.Cond.selects "java/util/Arrays$ArrayList" ({ cls := "java/util/List", name := "remove", desc := "(Ljava/lang/Object;)Z" } : Jvm.MethodName) ({ cls := "java/util/AbstractCollection", name := "remove", desc := "(Ljava/lang/Object;)Z" } : Jvm.MethodName)) ∈ lw_all := lw_g (lw_at lw_m14 94 rfl) rfl
theorem q3270 : (Jvm.Cond.unhidden "java/util/Arrays$ArrayList" "remove" "(Ljava/lang/Object;)Z") ∈ lw_tbl := lw_at lw_m14 95 rfl
theorem q3313 : (Jvm.Cond.selects "java/util/Arrays$ArrayList" ({ cls := "java/util/List", name := "removeAll", desc := "(Ljava/util/Collection;)Z" } : Jvm.MethodName) ({ cls := "java/util/AbstractCollection", name := "removeAll", desc := "(Ljava/util/Collection;)Z" } : Jvm.MethodName)) ∈ lw_all := lw_g (lw_at lw_m14 138 rfl) rfl
theorem q3314 : (Jvm.Cond.unhidden "java/util/Arrays$ArrayList" "removeAll" "(Ljava/util/Collection;)Z") ∈ lw_tbl := lw_at lw_m14 139 rfl
theorem q3343 : (Jvm.Cond.selects "java/util/Arrays$ArrayList" ({ cls := "java/util/List", name := "retainAll", desc := "(Ljava/util/Collection;)Z" } : Jvm.MethodName) ({ cls := "java/util/AbstractCollection", name := "retainAll", desc := "(Ljava/util/Collection;)Z" } : Jvm.MethodName)) ∈ lw_all := lw_g (lw_at lw_m14 168 rfl) rfl
theorem q3344 : (Jvm.Cond.unhidden "java/util/Arrays$ArrayList" "retainAll" "(Ljava/util/Collection;)Z") ∈ lw_tbl := lw_at lw_m14 169 rfl
theorem q3425 : (Jvm.Cond.unhidden "java/util/Arrays$ArrayList" "removeIf" "(Ljava/util/function/Predicate;)Z") ∈ lw_tbl := lw_at lw_m15 10 rfl
theorem q3879 : (Jvm.Cond.selects "java/util/Arrays$ArrayList" ({ cls := "java/util/AbstractCollection", name := "size", desc := "()I" } : Jvm.MethodName) ({ cls := "java/util/Arrays$ArrayList", name := "size", desc := "()I" } : Jvm.MethodName)) ∈ lw_all := lw_g (lw_at lw_m16 224 rfl) rfl
theorem q3882 : (Jvm.Cond.selects "java/util/Arrays$ArrayList" ({ cls := "java/util/Arrays$ArrayList", name := "indexOf", desc := "(Ljava/lang/Object;)I" } : Jvm.MethodName) ({ cls := "java/util/Arrays$ArrayList", name := "indexOf", desc := "(Ljava/lang/Object;)I" } : Jvm.MethodName)) ∈ lw_all := lw_g (lw_at lw_m16 227 rfl) rfl
theorem q3888 : (Jvm.Cond.selects "java/util/Arrays$ArrayList" ({ cls := "java/util/AbstractCollection", name := "contains", desc := "(Ljava/lang/Object;)Z" } : Jvm.MethodName) ({ cls := "java/util/Arrays$ArrayList", name := "contains", desc := "(Ljava/lang/Object;)Z" } : Jvm.MethodName)) ∈ lw_all := lw_g (lw_at lw_m16 233 rfl) rfl
theorem q3898 : (Jvm.Cond.castable "java/util/Arrays$ArrayList" "java/util/RandomAccess") ∈ lw_tbl := lw_at lw_m17 3 rfl
theorem q3902 : (Jvm.Cond.castable "java/util/Arrays$ArrayList" "java/lang/Object") ∈ lw_tbl := lw_at lw_m17 7 rfl
theorem in_J10 : ∀ w ∈ wsJ100, w ∈ lw_all := lw_in wsJ100 [296, 294] (by decide +kernel) (by decide +kernel)

/-! java/util/AbstractList$SubList -/
set_option maxRecDepth 100000
def RJ18 : String := "java/util/AbstractList$SubList"
def TJ18 : u_T := fun k => match k with
  | 0 => ("java/util/AbstractList", "modCount", "I", false)
  | 1 => ("java/util/AbstractList$SubList", "root", "Ljava/util/AbstractList;", true)
  | 2 => ("java/util/AbstractList$SubList", "parent", "Ljava/util/AbstractList$SubList;", true)
  | 3 => ("java/util/AbstractList$SubList", "offset", "I", true)
  | _ => ("java/util/AbstractList$SubList", "size", "I", false)
def tyJ18 : Nat → FieldType := fun k => match k with
  | 0 => .int
  | 1 => .object "java/util/AbstractList"
  | 2 => .object "java/util/AbstractList$SubList"
  | 3 => .int
  | _ => .int
abbrev wsJ180 : List Cond := u_ws RJ18 TJ18 5
theorem nmJ18 : ∀ a, a < 5 → ∀ b, b < 5 → a ≠ b → (TJ18 a).2.1 ≠ (TJ18 b).2.1 := by decide +kernel
theorem tyJ18_ok : ∀ k, k < 5 → parseFieldDescriptor (TJ18 k).2.2.1 = some (tyJ18 k) := by decide +kernel
abbrev cJ18_size : ByteArray := prog_42_method_5_code
def yJ18_size : MethodName := ⟨RJ18, "size", "()I"⟩
def dkwJ18_size_0 : List UInt8 := [42, 182, 0, 34, 42, 180, 0, 21, 172]
abbrev dktJ18_size_0 : List UInt8 := dkwJ18_size_0 ++ []
theorem dksJ18_size_0 : cJ18_size.data.toList.drop 0 = dktJ18_size_0 := by decide +kernel
theorem dJ18_size_0 : decode cJ18_size 0 = .ok (.aload_n 0, 1) := dk_42 (dk_at dksJ18_size_0 0 rfl rfl)
theorem dJ18_size_1 : decode cJ18_size 1 = .ok (.invokevirtual 34, 3) := dk_182 0 34 (dk_at dksJ18_size_0 1 rfl rfl)
theorem dJ18_size_4 : decode cJ18_size 4 = .ok (.aload_n 0, 1) := dk_42 (dk_at dksJ18_size_0 4 rfl rfl)
theorem dJ18_size_5 : decode cJ18_size 5 = .ok (.getfield 21, 3) := dk_180 0 21 (dk_at dksJ18_size_0 5 rfl rfl)
theorem dJ18_size_8 : decode cJ18_size 8 = .ok (.ireturn, 1) := dk_172 (dk_at dksJ18_size_0 8 rfl rfl)
abbrev cJ18_checkForComodification : ByteArray := prog_42_method_16_code
def yJ18_checkForComodification : MethodName := ⟨RJ18, "checkForComodification", "()V"⟩
def dkwJ18_checkForComodification_0 : List UInt8 := [42, 180, 0, 7, 180, 0, 24, 42, 180, 0, 27, 159, 0, 11, 187, 0, 116, 89, 183, 0, 118, 191, 177]
abbrev dktJ18_checkForComodification_0 : List UInt8 := dkwJ18_checkForComodification_0 ++ []
theorem dksJ18_checkForComodification_0 : cJ18_checkForComodification.data.toList.drop 0 = dktJ18_checkForComodification_0 := by decide +kernel
theorem dJ18_checkForComodification_0 : decode cJ18_checkForComodification 0 = .ok (.aload_n 0, 1) := dk_42 (dk_at dksJ18_checkForComodification_0 0 rfl rfl)
theorem dJ18_checkForComodification_1 : decode cJ18_checkForComodification 1 = .ok (.getfield 7, 3) := dk_180 0 7 (dk_at dksJ18_checkForComodification_0 1 rfl rfl)
theorem dJ18_checkForComodification_4 : decode cJ18_checkForComodification 4 = .ok (.getfield 24, 3) := dk_180 0 24 (dk_at dksJ18_checkForComodification_0 4 rfl rfl)
theorem dJ18_checkForComodification_7 : decode cJ18_checkForComodification 7 = .ok (.aload_n 0, 1) := dk_42 (dk_at dksJ18_checkForComodification_0 7 rfl rfl)
theorem dJ18_checkForComodification_8 : decode cJ18_checkForComodification 8 = .ok (.getfield 27, 3) := dk_180 0 27 (dk_at dksJ18_checkForComodification_0 8 rfl rfl)
theorem dJ18_checkForComodification_11 : decode cJ18_checkForComodification 11 = .ok (.if_icmp .eq 11, 3) := dk_159 0 11 (dk_at dksJ18_checkForComodification_0 11 rfl rfl)
theorem dJ18_checkForComodification_14 : decode cJ18_checkForComodification 14 = .ok (.new 116, 3) := dk_187 0 116 (dk_at dksJ18_checkForComodification_0 14 rfl rfl)
theorem dJ18_checkForComodification_17 : decode cJ18_checkForComodification 17 = .ok (.dup, 1) := dk_89 (dk_at dksJ18_checkForComodification_0 17 rfl rfl)
theorem dJ18_checkForComodification_18 : decode cJ18_checkForComodification 18 = .ok (.invokespecial 118, 3) := dk_183 0 118 (dk_at dksJ18_checkForComodification_0 18 rfl rfl)
theorem dJ18_checkForComodification_21 : decode cJ18_checkForComodification 21 = .ok (.athrow, 1) := dk_191 (dk_at dksJ18_checkForComodification_0 21 rfl rfl)
theorem dJ18_checkForComodification_22 : decode cJ18_checkForComodification 22 = .ok (.return_, 1) := dk_177 (dk_at dksJ18_checkForComodification_0 22 rfl rfl)
abbrev cJ18_listIterator : ByteArray := prog_42_method_12_code
def yJ18_listIterator : MethodName := ⟨RJ18, "listIterator", "(I)Ljava/util/ListIterator;"⟩
def dkwJ18_listIterator_0 : List UInt8 := [42, 182, 0, 34, 42, 27, 182, 0, 45, 187, 0, 77, 89, 42, 27, 183, 0, 79, 176]
abbrev dktJ18_listIterator_0 : List UInt8 := dkwJ18_listIterator_0 ++ []
theorem dksJ18_listIterator_0 : cJ18_listIterator.data.toList.drop 0 = dktJ18_listIterator_0 := by decide +kernel
theorem dJ18_listIterator_0 : decode cJ18_listIterator 0 = .ok (.aload_n 0, 1) := dk_42 (dk_at dksJ18_listIterator_0 0 rfl rfl)
theorem dJ18_listIterator_1 : decode cJ18_listIterator 1 = .ok (.invokevirtual 34, 3) := dk_182 0 34 (dk_at dksJ18_listIterator_0 1 rfl rfl)
theorem dJ18_listIterator_4 : decode cJ18_listIterator 4 = .ok (.aload_n 0, 1) := dk_42 (dk_at dksJ18_listIterator_0 4 rfl rfl)
theorem dJ18_listIterator_5 : decode cJ18_listIterator 5 = .ok (.iload_n 1, 1) := dk_27 (dk_at dksJ18_listIterator_0 5 rfl rfl)
theorem dJ18_listIterator_6 : decode cJ18_listIterator 6 = .ok (.invokevirtual 45, 3) := dk_182 0 45 (dk_at dksJ18_listIterator_0 6 rfl rfl)
theorem dJ18_listIterator_9 : decode cJ18_listIterator 9 = .ok (.new 77, 3) := dk_187 0 77 (dk_at dksJ18_listIterator_0 9 rfl rfl)
theorem dJ18_listIterator_12 : decode cJ18_listIterator 12 = .ok (.dup, 1) := dk_89 (dk_at dksJ18_listIterator_0 12 rfl rfl)
theorem dJ18_listIterator_13 : decode cJ18_listIterator 13 = .ok (.aload_n 0, 1) := dk_42 (dk_at dksJ18_listIterator_0 13 rfl rfl)
theorem dJ18_listIterator_14 : decode cJ18_listIterator 14 = .ok (.iload_n 1, 1) := dk_27 (dk_at dksJ18_listIterator_0 14 rfl rfl)
theorem dJ18_listIterator_15 : decode cJ18_listIterator 15 = .ok (.invokespecial 79, 3) := dk_183 0 79 (dk_at dksJ18_listIterator_0 15 rfl rfl)
theorem dJ18_listIterator_18 : decode cJ18_listIterator 18 = .ok (.areturn, 1) := dk_176 (dk_at dksJ18_listIterator_0 18 rfl rfl)
abbrev cJ18_rangeCheckForAdd : ByteArray := prog_42_method_14_code
def yJ18_rangeCheckForAdd : MethodName := ⟨RJ18, "rangeCheckForAdd", "(I)V"⟩
def dkwJ18_rangeCheckForAdd_1 : List UInt8 := [191, 177]
abbrev dktJ18_rangeCheckForAdd_1 : List UInt8 := dkwJ18_rangeCheckForAdd_1 ++ []
def dkwJ18_rangeCheckForAdd_0 : List UInt8 := [27, 155, 0, 11, 27, 42, 180, 0, 21, 164, 0, 16, 187, 0, 89, 89, 42, 27, 182, 0, 91, 183, 0, 95]
abbrev dktJ18_rangeCheckForAdd_0 : List UInt8 := dkwJ18_rangeCheckForAdd_0 ++ dktJ18_rangeCheckForAdd_1
theorem dksJ18_rangeCheckForAdd_0 : cJ18_rangeCheckForAdd.data.toList.drop 0 = dktJ18_rangeCheckForAdd_0 := by decide +kernel
theorem dksJ18_rangeCheckForAdd_1 : cJ18_rangeCheckForAdd.data.toList.drop 24 = dktJ18_rangeCheckForAdd_1 := dk_seg dksJ18_rangeCheckForAdd_0 24 rfl rfl
theorem dJ18_rangeCheckForAdd_0 : decode cJ18_rangeCheckForAdd 0 = .ok (.iload_n 1, 1) := dk_27 (dk_at dksJ18_rangeCheckForAdd_0 0 rfl rfl)
theorem dJ18_rangeCheckForAdd_1 : decode cJ18_rangeCheckForAdd 1 = .ok (.ifCond .lt 11, 3) := dk_155 0 11 (dk_at dksJ18_rangeCheckForAdd_0 1 rfl rfl)
theorem dJ18_rangeCheckForAdd_4 : decode cJ18_rangeCheckForAdd 4 = .ok (.iload_n 1, 1) := dk_27 (dk_at dksJ18_rangeCheckForAdd_0 4 rfl rfl)
theorem dJ18_rangeCheckForAdd_5 : decode cJ18_rangeCheckForAdd 5 = .ok (.aload_n 0, 1) := dk_42 (dk_at dksJ18_rangeCheckForAdd_0 5 rfl rfl)
theorem dJ18_rangeCheckForAdd_6 : decode cJ18_rangeCheckForAdd 6 = .ok (.getfield 21, 3) := dk_180 0 21 (dk_at dksJ18_rangeCheckForAdd_0 6 rfl rfl)
theorem dJ18_rangeCheckForAdd_9 : decode cJ18_rangeCheckForAdd 9 = .ok (.if_icmp .le 16, 3) := dk_164 0 16 (dk_at dksJ18_rangeCheckForAdd_0 9 rfl rfl)
theorem dJ18_rangeCheckForAdd_12 : decode cJ18_rangeCheckForAdd 12 = .ok (.new 89, 3) := dk_187 0 89 (dk_at dksJ18_rangeCheckForAdd_0 12 rfl rfl)
theorem dJ18_rangeCheckForAdd_15 : decode cJ18_rangeCheckForAdd 15 = .ok (.dup, 1) := dk_89 (dk_at dksJ18_rangeCheckForAdd_0 15 rfl rfl)
theorem dJ18_rangeCheckForAdd_16 : decode cJ18_rangeCheckForAdd 16 = .ok (.aload_n 0, 1) := dk_42 (dk_at dksJ18_rangeCheckForAdd_0 16 rfl rfl)
theorem dJ18_rangeCheckForAdd_17 : decode cJ18_rangeCheckForAdd 17 = .ok (.iload_n 1, 1) := dk_27 (dk_at dksJ18_rangeCheckForAdd_0 17 rfl rfl)
theorem dJ18_rangeCheckForAdd_18 : decode cJ18_rangeCheckForAdd 18 = .ok (.invokevirtual 91, 3) := dk_182 0 91 (dk_at dksJ18_rangeCheckForAdd_0 18 rfl rfl)
theorem dJ18_rangeCheckForAdd_21 : decode cJ18_rangeCheckForAdd 21 = .ok (.invokespecial 95, 3) := dk_183 0 95 (dk_at dksJ18_rangeCheckForAdd_0 21 rfl rfl)
theorem dJ18_rangeCheckForAdd_24 : decode cJ18_rangeCheckForAdd 24 = .ok (.athrow, 1) := dk_191 (dk_at dksJ18_rangeCheckForAdd_1 0 rfl rfl)
theorem dJ18_rangeCheckForAdd_25 : decode cJ18_rangeCheckForAdd 25 = .ok (.return_, 1) := dk_177 (dk_at dksJ18_rangeCheckForAdd_1 1 rfl rfl)
abbrev cJ18_outOfBoundsMsg : ByteArray := prog_42_method_15_code
def yJ18_outOfBoundsMsg : MethodName := ⟨RJ18, "outOfBoundsMsg", "(I)Ljava/lang/String;"⟩
def dkwJ18_outOfBoundsMsg_1 : List UInt8 := [180, 0, 21, 182, 0, 107, 182, 0, 112, 176]
abbrev dktJ18_outOfBoundsMsg_1 : List UInt8 := dkwJ18_outOfBoundsMsg_1 ++ []
def dkwJ18_outOfBoundsMsg_0 : List UInt8 := [187, 0, 98, 89, 183, 0, 100, 18, 101, 182, 0, 103, 27, 182, 0, 107, 18, 110, 182, 0, 103, 42]
abbrev dktJ18_outOfBoundsMsg_0 : List UInt8 := dkwJ18_outOfBoundsMsg_0 ++ dktJ18_outOfBoundsMsg_1
theorem dksJ18_outOfBoundsMsg_0 : cJ18_outOfBoundsMsg.data.toList.drop 0 = dktJ18_outOfBoundsMsg_0 := by decide +kernel
theorem dksJ18_outOfBoundsMsg_1 : cJ18_outOfBoundsMsg.data.toList.drop 22 = dktJ18_outOfBoundsMsg_1 := dk_seg dksJ18_outOfBoundsMsg_0 22 rfl rfl
theorem dJ18_outOfBoundsMsg_0 : decode cJ18_outOfBoundsMsg 0 = .ok (.new 98, 3) := dk_187 0 98 (dk_at dksJ18_outOfBoundsMsg_0 0 rfl rfl)
theorem dJ18_outOfBoundsMsg_3 : decode cJ18_outOfBoundsMsg 3 = .ok (.dup, 1) := dk_89 (dk_at dksJ18_outOfBoundsMsg_0 3 rfl rfl)
theorem dJ18_outOfBoundsMsg_4 : decode cJ18_outOfBoundsMsg 4 = .ok (.invokespecial 100, 3) := dk_183 0 100 (dk_at dksJ18_outOfBoundsMsg_0 4 rfl rfl)
theorem dJ18_outOfBoundsMsg_7 : decode cJ18_outOfBoundsMsg 7 = .ok (.ldc 101, 2) := dk_18 101 (dk_at dksJ18_outOfBoundsMsg_0 7 rfl rfl)
theorem dJ18_outOfBoundsMsg_9 : decode cJ18_outOfBoundsMsg 9 = .ok (.invokevirtual 103, 3) := dk_182 0 103 (dk_at dksJ18_outOfBoundsMsg_0 9 rfl rfl)
theorem dJ18_outOfBoundsMsg_12 : decode cJ18_outOfBoundsMsg 12 = .ok (.iload_n 1, 1) := dk_27 (dk_at dksJ18_outOfBoundsMsg_0 12 rfl rfl)
theorem dJ18_outOfBoundsMsg_13 : decode cJ18_outOfBoundsMsg 13 = .ok (.invokevirtual 107, 3) := dk_182 0 107 (dk_at dksJ18_outOfBoundsMsg_0 13 rfl rfl)
theorem dJ18_outOfBoundsMsg_16 : decode cJ18_outOfBoundsMsg 16 = .ok (.ldc 110, 2) := dk_18 110 (dk_at dksJ18_outOfBoundsMsg_0 16 rfl rfl)
theorem dJ18_outOfBoundsMsg_18 : decode cJ18_outOfBoundsMsg 18 = .ok (.invokevirtual 103, 3) := dk_182 0 103 (dk_at dksJ18_outOfBoundsMsg_0 18 rfl rfl)
theorem dJ18_outOfBoundsMsg_21 : decode cJ18_outOfBoundsMsg 21 = .ok (.aload_n 0, 1) := dk_42 (dk_at dksJ18_outOfBoundsMsg_0 21 rfl rfl)
theorem dJ18_outOfBoundsMsg_22 : decode cJ18_outOfBoundsMsg 22 = .ok (.getfield 21, 3) := dk_180 0 21 (dk_at dksJ18_outOfBoundsMsg_1 0 rfl rfl)
theorem dJ18_outOfBoundsMsg_25 : decode cJ18_outOfBoundsMsg 25 = .ok (.invokevirtual 107, 3) := dk_182 0 107 (dk_at dksJ18_outOfBoundsMsg_1 3 rfl rfl)
theorem dJ18_outOfBoundsMsg_28 : decode cJ18_outOfBoundsMsg 28 = .ok (.invokevirtual 112, 3) := dk_182 0 112 (dk_at dksJ18_outOfBoundsMsg_1 6 rfl rfl)
theorem dJ18_outOfBoundsMsg_31 : decode cJ18_outOfBoundsMsg 31 = .ok (.areturn, 1) := dk_176 (dk_at dksJ18_outOfBoundsMsg_1 9 rfl rfl)
abbrev cJ18_get : ByteArray := prog_42_method_4_code
def yJ18_get : MethodName := ⟨RJ18, "get", "(I)Ljava/lang/Object;"⟩
def dkwJ18_get_1 : List UInt8 := [182, 0, 41, 176]
abbrev dktJ18_get_1 : List UInt8 := dkwJ18_get_1 ++ []
def dkwJ18_get_0 : List UInt8 := [27, 42, 180, 0, 21, 184, 0, 28, 87, 42, 182, 0, 34, 42, 180, 0, 7, 42, 180, 0, 17, 27, 96]
abbrev dktJ18_get_0 : List UInt8 := dkwJ18_get_0 ++ dktJ18_get_1
theorem dksJ18_get_0 : cJ18_get.data.toList.drop 0 = dktJ18_get_0 := by decide +kernel
theorem dksJ18_get_1 : cJ18_get.data.toList.drop 23 = dktJ18_get_1 := dk_seg dksJ18_get_0 23 rfl rfl
theorem dJ18_get_0 : decode cJ18_get 0 = .ok (.iload_n 1, 1) := dk_27 (dk_at dksJ18_get_0 0 rfl rfl)
theorem dJ18_get_1 : decode cJ18_get 1 = .ok (.aload_n 0, 1) := dk_42 (dk_at dksJ18_get_0 1 rfl rfl)
theorem dJ18_get_2 : decode cJ18_get 2 = .ok (.getfield 21, 3) := dk_180 0 21 (dk_at dksJ18_get_0 2 rfl rfl)
theorem dJ18_get_5 : decode cJ18_get 5 = .ok (.invokestatic 28, 3) := dk_184 0 28 (dk_at dksJ18_get_0 5 rfl rfl)
theorem dJ18_get_8 : decode cJ18_get 8 = .ok (.pop, 1) := dk_87 (dk_at dksJ18_get_0 8 rfl rfl)
theorem dJ18_get_9 : decode cJ18_get 9 = .ok (.aload_n 0, 1) := dk_42 (dk_at dksJ18_get_0 9 rfl rfl)
theorem dJ18_get_10 : decode cJ18_get 10 = .ok (.invokevirtual 34, 3) := dk_182 0 34 (dk_at dksJ18_get_0 10 rfl rfl)
theorem dJ18_get_13 : decode cJ18_get 13 = .ok (.aload_n 0, 1) := dk_42 (dk_at dksJ18_get_0 13 rfl rfl)
theorem dJ18_get_14 : decode cJ18_get 14 = .ok (.getfield 7, 3) := dk_180 0 7 (dk_at dksJ18_get_0 14 rfl rfl)
theorem dJ18_get_17 : decode cJ18_get 17 = .ok (.aload_n 0, 1) := dk_42 (dk_at dksJ18_get_0 17 rfl rfl)
theorem dJ18_get_18 : decode cJ18_get 18 = .ok (.getfield 17, 3) := dk_180 0 17 (dk_at dksJ18_get_0 18 rfl rfl)
theorem dJ18_get_21 : decode cJ18_get 21 = .ok (.iload_n 1, 1) := dk_27 (dk_at dksJ18_get_0 21 rfl rfl)
theorem dJ18_get_22 : decode cJ18_get 22 = .ok (.iadd, 1) := dk_96 (dk_at dksJ18_get_0 22 rfl rfl)
theorem dJ18_get_23 : decode cJ18_get 23 = .ok (.invokevirtual 41, 3) := dk_182 0 41 (dk_at dksJ18_get_1 0 rfl rfl)
theorem dJ18_get_26 : decode cJ18_get 26 = .ok (.areturn, 1) := dk_176 (dk_at dksJ18_get_1 3 rfl rfl)
abbrev cJ18_iterator : ByteArray := prog_42_method_11_code
def yJ18_iterator : MethodName := ⟨RJ18, "iterator", "()Ljava/util/Iterator;"⟩
theorem dJ18_iterator_0 : decode cJ18_iterator 0 = .ok (.aload_n 0, 1) := by decide +kernel
theorem dJ18_iterator_1 : decode cJ18_iterator 1 = .ok (.invokevirtual 73, 3) := by decide +kernel
theorem dJ18_iterator_4 : decode cJ18_iterator 4 = .ok (.areturn, 1) := by decide +kernel
abbrev cJ18_add : ByteArray := prog_42_method_6_code
def yJ18_add : MethodName := ⟨RJ18, "add", "(ILjava/lang/Object;)V"⟩
def dkwJ18_add_1 : List UInt8 := [4, 182, 0, 53, 177]
abbrev dktJ18_add_1 : List UInt8 := dkwJ18_add_1 ++ []
def dkwJ18_add_0 : List UInt8 := [42, 27, 182, 0, 45, 42, 182, 0, 34, 42, 180, 0, 7, 42, 180, 0, 17, 27, 96, 44, 182, 0, 49, 42]
abbrev dktJ18_add_0 : List UInt8 := dkwJ18_add_0 ++ dktJ18_add_1
theorem dksJ18_add_0 : cJ18_add.data.toList.drop 0 = dktJ18_add_0 := by decide +kernel
theorem dksJ18_add_1 : cJ18_add.data.toList.drop 24 = dktJ18_add_1 := dk_seg dksJ18_add_0 24 rfl rfl
theorem dJ18_add_0 : decode cJ18_add 0 = .ok (.aload_n 0, 1) := dk_42 (dk_at dksJ18_add_0 0 rfl rfl)
theorem dJ18_add_1 : decode cJ18_add 1 = .ok (.iload_n 1, 1) := dk_27 (dk_at dksJ18_add_0 1 rfl rfl)
theorem dJ18_add_2 : decode cJ18_add 2 = .ok (.invokevirtual 45, 3) := dk_182 0 45 (dk_at dksJ18_add_0 2 rfl rfl)
theorem dJ18_add_5 : decode cJ18_add 5 = .ok (.aload_n 0, 1) := dk_42 (dk_at dksJ18_add_0 5 rfl rfl)
theorem dJ18_add_6 : decode cJ18_add 6 = .ok (.invokevirtual 34, 3) := dk_182 0 34 (dk_at dksJ18_add_0 6 rfl rfl)
theorem dJ18_add_9 : decode cJ18_add 9 = .ok (.aload_n 0, 1) := dk_42 (dk_at dksJ18_add_0 9 rfl rfl)
theorem dJ18_add_10 : decode cJ18_add 10 = .ok (.getfield 7, 3) := dk_180 0 7 (dk_at dksJ18_add_0 10 rfl rfl)
theorem dJ18_add_13 : decode cJ18_add 13 = .ok (.aload_n 0, 1) := dk_42 (dk_at dksJ18_add_0 13 rfl rfl)
theorem dJ18_add_14 : decode cJ18_add 14 = .ok (.getfield 17, 3) := dk_180 0 17 (dk_at dksJ18_add_0 14 rfl rfl)
theorem dJ18_add_17 : decode cJ18_add 17 = .ok (.iload_n 1, 1) := dk_27 (dk_at dksJ18_add_0 17 rfl rfl)
theorem dJ18_add_18 : decode cJ18_add 18 = .ok (.iadd, 1) := dk_96 (dk_at dksJ18_add_0 18 rfl rfl)
theorem dJ18_add_19 : decode cJ18_add 19 = .ok (.aload_n 2, 1) := dk_44 (dk_at dksJ18_add_0 19 rfl rfl)
theorem dJ18_add_20 : decode cJ18_add 20 = .ok (.invokevirtual 49, 3) := dk_182 0 49 (dk_at dksJ18_add_0 20 rfl rfl)
theorem dJ18_add_23 : decode cJ18_add 23 = .ok (.aload_n 0, 1) := dk_42 (dk_at dksJ18_add_0 23 rfl rfl)
theorem dJ18_add_24 : decode cJ18_add 24 = .ok (.iconst 1, 1) := dk_4 (dk_at dksJ18_add_1 0 rfl rfl)
theorem dJ18_add_25 : decode cJ18_add 25 = .ok (.invokevirtual 53, 3) := dk_182 0 53 (dk_at dksJ18_add_1 1 rfl rfl)
theorem dJ18_add_28 : decode cJ18_add 28 = .ok (.return_, 1) := dk_177 (dk_at dksJ18_add_1 4 rfl rfl)
abbrev cJ18_updateSizeAndModCount : ByteArray := prog_42_method_17_code
def yJ18_updateSizeAndModCount : MethodName := ⟨RJ18, "updateSizeAndModCount", "(I)V"⟩
def dkwJ18_updateSizeAndModCount_1 : List UInt8 := [180, 0, 13, 77, 44, 199, 255, 229, 177]
abbrev dktJ18_updateSizeAndModCount_1 : List UInt8 := dkwJ18_updateSizeAndModCount_1 ++ []
def dkwJ18_updateSizeAndModCount_0 : List UInt8 := [42, 77, 44, 89, 180, 0, 21, 27, 96, 181, 0, 21, 44, 42, 180, 0, 7, 180, 0, 24, 181, 0, 27, 44]
abbrev dktJ18_updateSizeAndModCount_0 : List UInt8 := dkwJ18_updateSizeAndModCount_0 ++ dktJ18_updateSizeAndModCount_1
theorem dksJ18_updateSizeAndModCount_0 : cJ18_updateSizeAndModCount.data.toList.drop 0 = dktJ18_updateSizeAndModCount_0 := by decide +kernel
theorem dksJ18_updateSizeAndModCount_1 : cJ18_updateSizeAndModCount.data.toList.drop 24 = dktJ18_updateSizeAndModCount_1 := dk_seg dksJ18_updateSizeAndModCount_0 24 rfl rfl
theorem dJ18_updateSizeAndModCount_0 : decode cJ18_updateSizeAndModCount 0 = .ok (.aload_n 0, 1) := dk_42 (dk_at dksJ18_updateSizeAndModCount_0 0 rfl rfl)
theorem dJ18_updateSizeAndModCount_1 : decode cJ18_updateSizeAndModCount 1 = .ok (.astore_n 2, 1) := dk_77 (dk_at dksJ18_updateSizeAndModCount_0 1 rfl rfl)
theorem dJ18_updateSizeAndModCount_2 : decode cJ18_updateSizeAndModCount 2 = .ok (.aload_n 2, 1) := dk_44 (dk_at dksJ18_updateSizeAndModCount_0 2 rfl rfl)
theorem dJ18_updateSizeAndModCount_3 : decode cJ18_updateSizeAndModCount 3 = .ok (.dup, 1) := dk_89 (dk_at dksJ18_updateSizeAndModCount_0 3 rfl rfl)
theorem dJ18_updateSizeAndModCount_4 : decode cJ18_updateSizeAndModCount 4 = .ok (.getfield 21, 3) := dk_180 0 21 (dk_at dksJ18_updateSizeAndModCount_0 4 rfl rfl)
theorem dJ18_updateSizeAndModCount_7 : decode cJ18_updateSizeAndModCount 7 = .ok (.iload_n 1, 1) := dk_27 (dk_at dksJ18_updateSizeAndModCount_0 7 rfl rfl)
theorem dJ18_updateSizeAndModCount_8 : decode cJ18_updateSizeAndModCount 8 = .ok (.iadd, 1) := dk_96 (dk_at dksJ18_updateSizeAndModCount_0 8 rfl rfl)
theorem dJ18_updateSizeAndModCount_9 : decode cJ18_updateSizeAndModCount 9 = .ok (.putfield 21, 3) := dk_181 0 21 (dk_at dksJ18_updateSizeAndModCount_0 9 rfl rfl)
theorem dJ18_updateSizeAndModCount_12 : decode cJ18_updateSizeAndModCount 12 = .ok (.aload_n 2, 1) := dk_44 (dk_at dksJ18_updateSizeAndModCount_0 12 rfl rfl)
theorem dJ18_updateSizeAndModCount_13 : decode cJ18_updateSizeAndModCount 13 = .ok (.aload_n 0, 1) := dk_42 (dk_at dksJ18_updateSizeAndModCount_0 13 rfl rfl)
theorem dJ18_updateSizeAndModCount_14 : decode cJ18_updateSizeAndModCount 14 = .ok (.getfield 7, 3) := dk_180 0 7 (dk_at dksJ18_updateSizeAndModCount_0 14 rfl rfl)
theorem dJ18_updateSizeAndModCount_17 : decode cJ18_updateSizeAndModCount 17 = .ok (.getfield 24, 3) := dk_180 0 24 (dk_at dksJ18_updateSizeAndModCount_0 17 rfl rfl)
theorem dJ18_updateSizeAndModCount_20 : decode cJ18_updateSizeAndModCount 20 = .ok (.putfield 27, 3) := dk_181 0 27 (dk_at dksJ18_updateSizeAndModCount_0 20 rfl rfl)
theorem dJ18_updateSizeAndModCount_23 : decode cJ18_updateSizeAndModCount 23 = .ok (.aload_n 2, 1) := dk_44 (dk_at dksJ18_updateSizeAndModCount_0 23 rfl rfl)
theorem dJ18_updateSizeAndModCount_24 : decode cJ18_updateSizeAndModCount 24 = .ok (.getfield 13, 3) := dk_180 0 13 (dk_at dksJ18_updateSizeAndModCount_1 0 rfl rfl)
theorem dJ18_updateSizeAndModCount_27 : decode cJ18_updateSizeAndModCount 27 = .ok (.astore_n 2, 1) := dk_77 (dk_at dksJ18_updateSizeAndModCount_1 3 rfl rfl)
theorem dJ18_updateSizeAndModCount_28 : decode cJ18_updateSizeAndModCount 28 = .ok (.aload_n 2, 1) := dk_44 (dk_at dksJ18_updateSizeAndModCount_1 4 rfl rfl)
theorem dJ18_updateSizeAndModCount_29 : decode cJ18_updateSizeAndModCount 29 = .ok (.ifnonnull (-27), 3) := dk_199 255 229 (dk_at dksJ18_updateSizeAndModCount_1 5 rfl rfl)
theorem dJ18_updateSizeAndModCount_32 : decode cJ18_updateSizeAndModCount 32 = .ok (.return_, 1) := dk_177 (dk_at dksJ18_updateSizeAndModCount_1 8 rfl rfl)
abbrev cJ18_removeRange : ByteArray := prog_42_method_8_code
def yJ18_removeRange : MethodName := ⟨RJ18, "removeRange", "(II)V"⟩
def dkwJ18_removeRange_1 : List UInt8 := [27, 28, 100, 182, 0, 53, 177]
abbrev dktJ18_removeRange_1 : List UInt8 := dkwJ18_removeRange_1 ++ []
def dkwJ18_removeRange_0 : List UInt8 := [42, 182, 0, 34, 42, 180, 0, 7, 42, 180, 0, 17, 27, 96, 42, 180, 0, 17, 28, 96, 182, 0, 59, 42]
abbrev dktJ18_removeRange_0 : List UInt8 := dkwJ18_removeRange_0 ++ dktJ18_removeRange_1
theorem dksJ18_removeRange_0 : cJ18_removeRange.data.toList.drop 0 = dktJ18_removeRange_0 := by decide +kernel
theorem dksJ18_removeRange_1 : cJ18_removeRange.data.toList.drop 24 = dktJ18_removeRange_1 := dk_seg dksJ18_removeRange_0 24 rfl rfl
theorem dJ18_removeRange_0 : decode cJ18_removeRange 0 = .ok (.aload_n 0, 1) := dk_42 (dk_at dksJ18_removeRange_0 0 rfl rfl)
theorem dJ18_removeRange_1 : decode cJ18_removeRange 1 = .ok (.invokevirtual 34, 3) := dk_182 0 34 (dk_at dksJ18_removeRange_0 1 rfl rfl)
theorem dJ18_removeRange_4 : decode cJ18_removeRange 4 = .ok (.aload_n 0, 1) := dk_42 (dk_at dksJ18_removeRange_0 4 rfl rfl)
theorem dJ18_removeRange_5 : decode cJ18_removeRange 5 = .ok (.getfield 7, 3) := dk_180 0 7 (dk_at dksJ18_removeRange_0 5 rfl rfl)
theorem dJ18_removeRange_8 : decode cJ18_removeRange 8 = .ok (.aload_n 0, 1) := dk_42 (dk_at dksJ18_removeRange_0 8 rfl rfl)
theorem dJ18_removeRange_9 : decode cJ18_removeRange 9 = .ok (.getfield 17, 3) := dk_180 0 17 (dk_at dksJ18_removeRange_0 9 rfl rfl)
theorem dJ18_removeRange_12 : decode cJ18_removeRange 12 = .ok (.iload_n 1, 1) := dk_27 (dk_at dksJ18_removeRange_0 12 rfl rfl)
theorem dJ18_removeRange_13 : decode cJ18_removeRange 13 = .ok (.iadd, 1) := dk_96 (dk_at dksJ18_removeRange_0 13 rfl rfl)
theorem dJ18_removeRange_14 : decode cJ18_removeRange 14 = .ok (.aload_n 0, 1) := dk_42 (dk_at dksJ18_removeRange_0 14 rfl rfl)
theorem dJ18_removeRange_15 : decode cJ18_removeRange 15 = .ok (.getfield 17, 3) := dk_180 0 17 (dk_at dksJ18_removeRange_0 15 rfl rfl)
theorem dJ18_removeRange_18 : decode cJ18_removeRange 18 = .ok (.iload_n 2, 1) := dk_28 (dk_at dksJ18_removeRange_0 18 rfl rfl)
theorem dJ18_removeRange_19 : decode cJ18_removeRange 19 = .ok (.iadd, 1) := dk_96 (dk_at dksJ18_removeRange_0 19 rfl rfl)
theorem dJ18_removeRange_20 : decode cJ18_removeRange 20 = .ok (.invokevirtual 59, 3) := dk_182 0 59 (dk_at dksJ18_removeRange_0 20 rfl rfl)
theorem dJ18_removeRange_23 : decode cJ18_removeRange 23 = .ok (.aload_n 0, 1) := dk_42 (dk_at dksJ18_removeRange_0 23 rfl rfl)
theorem dJ18_removeRange_24 : decode cJ18_removeRange 24 = .ok (.iload_n 1, 1) := dk_27 (dk_at dksJ18_removeRange_1 0 rfl rfl)
theorem dJ18_removeRange_25 : decode cJ18_removeRange 25 = .ok (.iload_n 2, 1) := dk_28 (dk_at dksJ18_removeRange_1 1 rfl rfl)
theorem dJ18_removeRange_26 : decode cJ18_removeRange 26 = .ok (.isub, 1) := dk_100 (dk_at dksJ18_removeRange_1 2 rfl rfl)
theorem dJ18_removeRange_27 : decode cJ18_removeRange 27 = .ok (.invokevirtual 53, 3) := dk_182 0 53 (dk_at dksJ18_removeRange_1 3 rfl rfl)
theorem dJ18_removeRange_30 : decode cJ18_removeRange 30 = .ok (.return_, 1) := dk_177 (dk_at dksJ18_removeRange_1 6 rfl rfl)
abbrev cJ18_remove : ByteArray := prog_42_method_7_code
def yJ18_remove : MethodName := ⟨RJ18, "remove", "(I)Ljava/lang/Object;"⟩
def dkwJ18_remove_1 : List UInt8 := [182, 0, 56, 77, 42, 2, 182, 0, 53, 44, 176]
abbrev dktJ18_remove_1 : List UInt8 := dkwJ18_remove_1 ++ []
def dkwJ18_remove_0 : List UInt8 := [27, 42, 180, 0, 21, 184, 0, 28, 87, 42, 182, 0, 34, 42, 180, 0, 7, 42, 180, 0, 17, 27, 96]
abbrev dktJ18_remove_0 : List UInt8 := dkwJ18_remove_0 ++ dktJ18_remove_1
theorem dksJ18_remove_0 : cJ18_remove.data.toList.drop 0 = dktJ18_remove_0 := by decide +kernel
theorem dksJ18_remove_1 : cJ18_remove.data.toList.drop 23 = dktJ18_remove_1 := dk_seg dksJ18_remove_0 23 rfl rfl
theorem dJ18_remove_0 : decode cJ18_remove 0 = .ok (.iload_n 1, 1) := dk_27 (dk_at dksJ18_remove_0 0 rfl rfl)
theorem dJ18_remove_1 : decode cJ18_remove 1 = .ok (.aload_n 0, 1) := dk_42 (dk_at dksJ18_remove_0 1 rfl rfl)
theorem dJ18_remove_2 : decode cJ18_remove 2 = .ok (.getfield 21, 3) := dk_180 0 21 (dk_at dksJ18_remove_0 2 rfl rfl)
theorem dJ18_remove_5 : decode cJ18_remove 5 = .ok (.invokestatic 28, 3) := dk_184 0 28 (dk_at dksJ18_remove_0 5 rfl rfl)
theorem dJ18_remove_8 : decode cJ18_remove 8 = .ok (.pop, 1) := dk_87 (dk_at dksJ18_remove_0 8 rfl rfl)
theorem dJ18_remove_9 : decode cJ18_remove 9 = .ok (.aload_n 0, 1) := dk_42 (dk_at dksJ18_remove_0 9 rfl rfl)
theorem dJ18_remove_10 : decode cJ18_remove 10 = .ok (.invokevirtual 34, 3) := dk_182 0 34 (dk_at dksJ18_remove_0 10 rfl rfl)
theorem dJ18_remove_13 : decode cJ18_remove 13 = .ok (.aload_n 0, 1) := dk_42 (dk_at dksJ18_remove_0 13 rfl rfl)
theorem dJ18_remove_14 : decode cJ18_remove 14 = .ok (.getfield 7, 3) := dk_180 0 7 (dk_at dksJ18_remove_0 14 rfl rfl)
theorem dJ18_remove_17 : decode cJ18_remove 17 = .ok (.aload_n 0, 1) := dk_42 (dk_at dksJ18_remove_0 17 rfl rfl)
theorem dJ18_remove_18 : decode cJ18_remove 18 = .ok (.getfield 17, 3) := dk_180 0 17 (dk_at dksJ18_remove_0 18 rfl rfl)
theorem dJ18_remove_21 : decode cJ18_remove 21 = .ok (.iload_n 1, 1) := dk_27 (dk_at dksJ18_remove_0 21 rfl rfl)
theorem dJ18_remove_22 : decode cJ18_remove 22 = .ok (.iadd, 1) := dk_96 (dk_at dksJ18_remove_0 22 rfl rfl)
theorem dJ18_remove_23 : decode cJ18_remove 23 = .ok (.invokevirtual 56, 3) := dk_182 0 56 (dk_at dksJ18_remove_1 0 rfl rfl)
theorem dJ18_remove_26 : decode cJ18_remove 26 = .ok (.astore_n 2, 1) := dk_77 (dk_at dksJ18_remove_1 3 rfl rfl)
theorem dJ18_remove_27 : decode cJ18_remove 27 = .ok (.aload_n 0, 1) := dk_42 (dk_at dksJ18_remove_1 4 rfl rfl)
theorem dJ18_remove_28 : decode cJ18_remove 28 = .ok (.iconst (-1), 1) := dk_2 (dk_at dksJ18_remove_1 5 rfl rfl)
theorem dJ18_remove_29 : decode cJ18_remove 29 = .ok (.invokevirtual 53, 3) := dk_182 0 53 (dk_at dksJ18_remove_1 6 rfl rfl)
theorem dJ18_remove_32 : decode cJ18_remove 32 = .ok (.aload_n 2, 1) := dk_44 (dk_at dksJ18_remove_1 9 rfl rfl)
theorem dJ18_remove_33 : decode cJ18_remove 33 = .ok (.areturn, 1) := dk_176 (dk_at dksJ18_remove_1 10 rfl rfl)
abbrev cJ18_init : ByteArray := prog_42_method_2_code
def yJ18_init : MethodName := ⟨RJ18, "<init>", "(Ljava/util/AbstractList$SubList;II)V"⟩
def dkwJ18_init_1 : List UInt8 := [181, 0, 17, 42, 29, 28, 100, 181, 0, 21, 42, 42, 180, 0, 7, 180, 0, 24, 181, 0, 27, 177]
abbrev dktJ18_init_1 : List UInt8 := dkwJ18_init_1 ++ []
def dkwJ18_init_0 : List UInt8 := [42, 183, 0, 1, 42, 43, 180, 0, 7, 181, 0, 7, 42, 43, 181, 0, 13, 42, 43, 180, 0, 17, 28, 96]
abbrev dktJ18_init_0 : List UInt8 := dkwJ18_init_0 ++ dktJ18_init_1
theorem dksJ18_init_0 : cJ18_init.data.toList.drop 0 = dktJ18_init_0 := by decide +kernel
theorem dksJ18_init_1 : cJ18_init.data.toList.drop 24 = dktJ18_init_1 := dk_seg dksJ18_init_0 24 rfl rfl
theorem dJ18_init_0 : decode cJ18_init 0 = .ok (.aload_n 0, 1) := dk_42 (dk_at dksJ18_init_0 0 rfl rfl)
theorem dJ18_init_1 : decode cJ18_init 1 = .ok (.invokespecial 1, 3) := dk_183 0 1 (dk_at dksJ18_init_0 1 rfl rfl)
theorem dJ18_init_4 : decode cJ18_init 4 = .ok (.aload_n 0, 1) := dk_42 (dk_at dksJ18_init_0 4 rfl rfl)
theorem dJ18_init_5 : decode cJ18_init 5 = .ok (.aload_n 1, 1) := dk_43 (dk_at dksJ18_init_0 5 rfl rfl)
theorem dJ18_init_6 : decode cJ18_init 6 = .ok (.getfield 7, 3) := dk_180 0 7 (dk_at dksJ18_init_0 6 rfl rfl)
theorem dJ18_init_9 : decode cJ18_init 9 = .ok (.putfield 7, 3) := dk_181 0 7 (dk_at dksJ18_init_0 9 rfl rfl)
theorem dJ18_init_12 : decode cJ18_init 12 = .ok (.aload_n 0, 1) := dk_42 (dk_at dksJ18_init_0 12 rfl rfl)
theorem dJ18_init_13 : decode cJ18_init 13 = .ok (.aload_n 1, 1) := dk_43 (dk_at dksJ18_init_0 13 rfl rfl)
theorem dJ18_init_14 : decode cJ18_init 14 = .ok (.putfield 13, 3) := dk_181 0 13 (dk_at dksJ18_init_0 14 rfl rfl)
theorem dJ18_init_17 : decode cJ18_init 17 = .ok (.aload_n 0, 1) := dk_42 (dk_at dksJ18_init_0 17 rfl rfl)
theorem dJ18_init_18 : decode cJ18_init 18 = .ok (.aload_n 1, 1) := dk_43 (dk_at dksJ18_init_0 18 rfl rfl)
theorem dJ18_init_19 : decode cJ18_init 19 = .ok (.getfield 17, 3) := dk_180 0 17 (dk_at dksJ18_init_0 19 rfl rfl)
theorem dJ18_init_22 : decode cJ18_init 22 = .ok (.iload_n 2, 1) := dk_28 (dk_at dksJ18_init_0 22 rfl rfl)
theorem dJ18_init_23 : decode cJ18_init 23 = .ok (.iadd, 1) := dk_96 (dk_at dksJ18_init_0 23 rfl rfl)
theorem dJ18_init_24 : decode cJ18_init 24 = .ok (.putfield 17, 3) := dk_181 0 17 (dk_at dksJ18_init_1 0 rfl rfl)
theorem dJ18_init_27 : decode cJ18_init 27 = .ok (.aload_n 0, 1) := dk_42 (dk_at dksJ18_init_1 3 rfl rfl)
theorem dJ18_init_28 : decode cJ18_init 28 = .ok (.iload_n 3, 1) := dk_29 (dk_at dksJ18_init_1 4 rfl rfl)
theorem dJ18_init_29 : decode cJ18_init 29 = .ok (.iload_n 2, 1) := dk_28 (dk_at dksJ18_init_1 5 rfl rfl)
theorem dJ18_init_30 : decode cJ18_init 30 = .ok (.isub, 1) := dk_100 (dk_at dksJ18_init_1 6 rfl rfl)
theorem dJ18_init_31 : decode cJ18_init 31 = .ok (.putfield 21, 3) := dk_181 0 21 (dk_at dksJ18_init_1 7 rfl rfl)
theorem dJ18_init_34 : decode cJ18_init 34 = .ok (.aload_n 0, 1) := dk_42 (dk_at dksJ18_init_1 10 rfl rfl)
theorem dJ18_init_35 : decode cJ18_init 35 = .ok (.aload_n 0, 1) := dk_42 (dk_at dksJ18_init_1 11 rfl rfl)
theorem dJ18_init_36 : decode cJ18_init 36 = .ok (.getfield 7, 3) := dk_180 0 7 (dk_at dksJ18_init_1 12 rfl rfl)
theorem dJ18_init_39 : decode cJ18_init 39 = .ok (.getfield 24, 3) := dk_180 0 24 (dk_at dksJ18_init_1 15 rfl rfl)
theorem dJ18_init_42 : decode cJ18_init 42 = .ok (.putfield 27, 3) := dk_181 0 27 (dk_at dksJ18_init_1 18 rfl rfl)
theorem dJ18_init_45 : decode cJ18_init 45 = .ok (.return_, 1) := dk_177 (dk_at dksJ18_init_1 21 rfl rfl)
abbrev cJ18_subList : ByteArray := prog_42_method_13_code
def yJ18_subList : MethodName := ⟨RJ18, "subList", "(II)Ljava/util/List;"⟩
def dkwJ18_subList_0 : List UInt8 := [27, 28, 42, 180, 0, 21, 184, 0, 82, 187, 0, 8, 89, 42, 27, 28, 183, 0, 86, 176]
abbrev dktJ18_subList_0 : List UInt8 := dkwJ18_subList_0 ++ []
theorem dksJ18_subList_0 : cJ18_subList.data.toList.drop 0 = dktJ18_subList_0 := by decide +kernel
theorem dJ18_subList_0 : decode cJ18_subList 0 = .ok (.iload_n 1, 1) := dk_27 (dk_at dksJ18_subList_0 0 rfl rfl)
theorem dJ18_subList_1 : decode cJ18_subList 1 = .ok (.iload_n 2, 1) := dk_28 (dk_at dksJ18_subList_0 1 rfl rfl)
theorem dJ18_subList_2 : decode cJ18_subList 2 = .ok (.aload_n 0, 1) := dk_42 (dk_at dksJ18_subList_0 2 rfl rfl)
theorem dJ18_subList_3 : decode cJ18_subList 3 = .ok (.getfield 21, 3) := dk_180 0 21 (dk_at dksJ18_subList_0 3 rfl rfl)
theorem dJ18_subList_6 : decode cJ18_subList 6 = .ok (.invokestatic 82, 3) := dk_184 0 82 (dk_at dksJ18_subList_0 6 rfl rfl)
theorem dJ18_subList_9 : decode cJ18_subList 9 = .ok (.new 8, 3) := dk_187 0 8 (dk_at dksJ18_subList_0 9 rfl rfl)
theorem dJ18_subList_12 : decode cJ18_subList 12 = .ok (.dup, 1) := dk_89 (dk_at dksJ18_subList_0 12 rfl rfl)
theorem dJ18_subList_13 : decode cJ18_subList 13 = .ok (.aload_n 0, 1) := dk_42 (dk_at dksJ18_subList_0 13 rfl rfl)
theorem dJ18_subList_14 : decode cJ18_subList 14 = .ok (.iload_n 1, 1) := dk_27 (dk_at dksJ18_subList_0 14 rfl rfl)
theorem dJ18_subList_15 : decode cJ18_subList 15 = .ok (.iload_n 2, 1) := dk_28 (dk_at dksJ18_subList_0 15 rfl rfl)
theorem dJ18_subList_16 : decode cJ18_subList 16 = .ok (.invokespecial 86, 3) := dk_183 0 86 (dk_at dksJ18_subList_0 16 rfl rfl)
theorem dJ18_subList_19 : decode cJ18_subList 19 = .ok (.areturn, 1) := dk_176 (dk_at dksJ18_subList_0 19 rfl rfl)
abbrev cJ18_init_2 : ByteArray := prog_42_method_1_code
def yJ18_init_2 : MethodName := ⟨RJ18, "<init>", "(Ljava/util/AbstractList;II)V"⟩
def dkwJ18_init_2_1 : List UInt8 := [181, 0, 21, 42, 43, 180, 0, 24, 181, 0, 27, 177]
abbrev dktJ18_init_2_1 : List UInt8 := dkwJ18_init_2_1 ++ []
def dkwJ18_init_2_0 : List UInt8 := [42, 183, 0, 1, 42, 43, 181, 0, 7, 42, 1, 181, 0, 13, 42, 28, 181, 0, 17, 42, 29, 28, 100]
abbrev dktJ18_init_2_0 : List UInt8 := dkwJ18_init_2_0 ++ dktJ18_init_2_1
theorem dksJ18_init_2_0 : cJ18_init_2.data.toList.drop 0 = dktJ18_init_2_0 := by decide +kernel
theorem dksJ18_init_2_1 : cJ18_init_2.data.toList.drop 23 = dktJ18_init_2_1 := dk_seg dksJ18_init_2_0 23 rfl rfl
theorem dJ18_init_2_0 : decode cJ18_init_2 0 = .ok (.aload_n 0, 1) := dk_42 (dk_at dksJ18_init_2_0 0 rfl rfl)
theorem dJ18_init_2_1 : decode cJ18_init_2 1 = .ok (.invokespecial 1, 3) := dk_183 0 1 (dk_at dksJ18_init_2_0 1 rfl rfl)
theorem dJ18_init_2_4 : decode cJ18_init_2 4 = .ok (.aload_n 0, 1) := dk_42 (dk_at dksJ18_init_2_0 4 rfl rfl)
theorem dJ18_init_2_5 : decode cJ18_init_2 5 = .ok (.aload_n 1, 1) := dk_43 (dk_at dksJ18_init_2_0 5 rfl rfl)
theorem dJ18_init_2_6 : decode cJ18_init_2 6 = .ok (.putfield 7, 3) := dk_181 0 7 (dk_at dksJ18_init_2_0 6 rfl rfl)
theorem dJ18_init_2_9 : decode cJ18_init_2 9 = .ok (.aload_n 0, 1) := dk_42 (dk_at dksJ18_init_2_0 9 rfl rfl)
theorem dJ18_init_2_10 : decode cJ18_init_2 10 = .ok (.aconst_null, 1) := dk_1 (dk_at dksJ18_init_2_0 10 rfl rfl)
theorem dJ18_init_2_11 : decode cJ18_init_2 11 = .ok (.putfield 13, 3) := dk_181 0 13 (dk_at dksJ18_init_2_0 11 rfl rfl)
theorem dJ18_init_2_14 : decode cJ18_init_2 14 = .ok (.aload_n 0, 1) := dk_42 (dk_at dksJ18_init_2_0 14 rfl rfl)
theorem dJ18_init_2_15 : decode cJ18_init_2 15 = .ok (.iload_n 2, 1) := dk_28 (dk_at dksJ18_init_2_0 15 rfl rfl)
theorem dJ18_init_2_16 : decode cJ18_init_2 16 = .ok (.putfield 17, 3) := dk_181 0 17 (dk_at dksJ18_init_2_0 16 rfl rfl)
theorem dJ18_init_2_19 : decode cJ18_init_2 19 = .ok (.aload_n 0, 1) := dk_42 (dk_at dksJ18_init_2_0 19 rfl rfl)
theorem dJ18_init_2_20 : decode cJ18_init_2 20 = .ok (.iload_n 3, 1) := dk_29 (dk_at dksJ18_init_2_0 20 rfl rfl)
theorem dJ18_init_2_21 : decode cJ18_init_2 21 = .ok (.iload_n 2, 1) := dk_28 (dk_at dksJ18_init_2_0 21 rfl rfl)
theorem dJ18_init_2_22 : decode cJ18_init_2 22 = .ok (.isub, 1) := dk_100 (dk_at dksJ18_init_2_0 22 rfl rfl)
theorem dJ18_init_2_23 : decode cJ18_init_2 23 = .ok (.putfield 21, 3) := dk_181 0 21 (dk_at dksJ18_init_2_1 0 rfl rfl)
theorem dJ18_init_2_26 : decode cJ18_init_2 26 = .ok (.aload_n 0, 1) := dk_42 (dk_at dksJ18_init_2_1 3 rfl rfl)
theorem dJ18_init_2_27 : decode cJ18_init_2 27 = .ok (.aload_n 1, 1) := dk_43 (dk_at dksJ18_init_2_1 4 rfl rfl)
theorem dJ18_init_2_28 : decode cJ18_init_2 28 = .ok (.getfield 24, 3) := dk_180 0 24 (dk_at dksJ18_init_2_1 5 rfl rfl)
theorem dJ18_init_2_31 : decode cJ18_init_2 31 = .ok (.putfield 27, 3) := dk_181 0 27 (dk_at dksJ18_init_2_1 8 rfl rfl)
theorem dJ18_init_2_34 : decode cJ18_init_2 34 = .ok (.return_, 1) := dk_177 (dk_at dksJ18_init_2_1 11 rfl rfl)
abbrev cJ18_set : ByteArray := prog_42_method_3_code
def yJ18_set : MethodName := ⟨RJ18, "set", "(ILjava/lang/Object;)Ljava/lang/Object;"⟩
def dkwJ18_set_1 : List UInt8 := [182, 0, 37, 176]
abbrev dktJ18_set_1 : List UInt8 := dkwJ18_set_1 ++ []
def dkwJ18_set_0 : List UInt8 := [27, 42, 180, 0, 21, 184, 0, 28, 87, 42, 182, 0, 34, 42, 180, 0, 7, 42, 180, 0, 17, 27, 96, 44]
abbrev dktJ18_set_0 : List UInt8 := dkwJ18_set_0 ++ dktJ18_set_1
theorem dksJ18_set_0 : cJ18_set.data.toList.drop 0 = dktJ18_set_0 := by decide +kernel
theorem dksJ18_set_1 : cJ18_set.data.toList.drop 24 = dktJ18_set_1 := dk_seg dksJ18_set_0 24 rfl rfl
theorem dJ18_set_0 : decode cJ18_set 0 = .ok (.iload_n 1, 1) := dk_27 (dk_at dksJ18_set_0 0 rfl rfl)
theorem dJ18_set_1 : decode cJ18_set 1 = .ok (.aload_n 0, 1) := dk_42 (dk_at dksJ18_set_0 1 rfl rfl)
theorem dJ18_set_2 : decode cJ18_set 2 = .ok (.getfield 21, 3) := dk_180 0 21 (dk_at dksJ18_set_0 2 rfl rfl)
theorem dJ18_set_5 : decode cJ18_set 5 = .ok (.invokestatic 28, 3) := dk_184 0 28 (dk_at dksJ18_set_0 5 rfl rfl)
theorem dJ18_set_8 : decode cJ18_set 8 = .ok (.pop, 1) := dk_87 (dk_at dksJ18_set_0 8 rfl rfl)
theorem dJ18_set_9 : decode cJ18_set 9 = .ok (.aload_n 0, 1) := dk_42 (dk_at dksJ18_set_0 9 rfl rfl)
theorem dJ18_set_10 : decode cJ18_set 10 = .ok (.invokevirtual 34, 3) := dk_182 0 34 (dk_at dksJ18_set_0 10 rfl rfl)
theorem dJ18_set_13 : decode cJ18_set 13 = .ok (.aload_n 0, 1) := dk_42 (dk_at dksJ18_set_0 13 rfl rfl)
theorem dJ18_set_14 : decode cJ18_set 14 = .ok (.getfield 7, 3) := dk_180 0 7 (dk_at dksJ18_set_0 14 rfl rfl)
theorem dJ18_set_17 : decode cJ18_set 17 = .ok (.aload_n 0, 1) := dk_42 (dk_at dksJ18_set_0 17 rfl rfl)
theorem dJ18_set_18 : decode cJ18_set 18 = .ok (.getfield 17, 3) := dk_180 0 17 (dk_at dksJ18_set_0 18 rfl rfl)
theorem dJ18_set_21 : decode cJ18_set 21 = .ok (.iload_n 1, 1) := dk_27 (dk_at dksJ18_set_0 21 rfl rfl)
theorem dJ18_set_22 : decode cJ18_set 22 = .ok (.iadd, 1) := dk_96 (dk_at dksJ18_set_0 22 rfl rfl)
theorem dJ18_set_23 : decode cJ18_set 23 = .ok (.aload_n 2, 1) := dk_44 (dk_at dksJ18_set_0 23 rfl rfl)
theorem dJ18_set_24 : decode cJ18_set 24 = .ok (.invokevirtual 37, 3) := dk_182 0 37 (dk_at dksJ18_set_1 0 rfl rfl)
theorem dJ18_set_27 : decode cJ18_set 27 = .ok (.areturn, 1) := dk_176 (dk_at dksJ18_set_1 3 rfl rfl)
abbrev cJ18_addAll : ByteArray := prog_42_method_9_code
def yJ18_addAll : MethodName := ⟨RJ18, "addAll", "(Ljava/util/Collection;)Z"⟩
def dkwJ18_addAll_0 : List UInt8 := [42, 42, 180, 0, 21, 43, 182, 0, 63, 172]
abbrev dktJ18_addAll_0 : List UInt8 := dkwJ18_addAll_0 ++ []
theorem dksJ18_addAll_0 : cJ18_addAll.data.toList.drop 0 = dktJ18_addAll_0 := by decide +kernel
theorem dJ18_addAll_0 : decode cJ18_addAll 0 = .ok (.aload_n 0, 1) := dk_42 (dk_at dksJ18_addAll_0 0 rfl rfl)
theorem dJ18_addAll_1 : decode cJ18_addAll 1 = .ok (.aload_n 0, 1) := dk_42 (dk_at dksJ18_addAll_0 1 rfl rfl)
theorem dJ18_addAll_2 : decode cJ18_addAll 2 = .ok (.getfield 21, 3) := dk_180 0 21 (dk_at dksJ18_addAll_0 2 rfl rfl)
theorem dJ18_addAll_5 : decode cJ18_addAll 5 = .ok (.aload_n 1, 1) := dk_43 (dk_at dksJ18_addAll_0 5 rfl rfl)
theorem dJ18_addAll_6 : decode cJ18_addAll 6 = .ok (.invokevirtual 63, 3) := dk_182 0 63 (dk_at dksJ18_addAll_0 6 rfl rfl)
theorem dJ18_addAll_9 : decode cJ18_addAll 9 = .ok (.ireturn, 1) := dk_172 (dk_at dksJ18_addAll_0 9 rfl rfl)
abbrev cJ18_addAll_2 : ByteArray := prog_42_method_10_code
def yJ18_addAll_2 : MethodName := ⟨RJ18, "addAll", "(ILjava/util/Collection;)Z"⟩
def dkwJ18_addAll_2_1 : List UInt8 := [180, 0, 7, 42, 180, 0, 17, 27, 96, 44, 182, 0, 72, 87, 42, 29, 182, 0, 53, 4, 172]
abbrev dktJ18_addAll_2_1 : List UInt8 := dkwJ18_addAll_2_1 ++ []
def dkwJ18_addAll_2_0 : List UInt8 := [42, 27, 182, 0, 45, 44, 185, 0, 67, 1, 0, 62, 29, 154, 0, 5, 3, 172, 42, 182, 0, 34, 42]
abbrev dktJ18_addAll_2_0 : List UInt8 := dkwJ18_addAll_2_0 ++ dktJ18_addAll_2_1
theorem dksJ18_addAll_2_0 : cJ18_addAll_2.data.toList.drop 0 = dktJ18_addAll_2_0 := by decide +kernel
theorem dksJ18_addAll_2_1 : cJ18_addAll_2.data.toList.drop 23 = dktJ18_addAll_2_1 := dk_seg dksJ18_addAll_2_0 23 rfl rfl
theorem dJ18_addAll_2_0 : decode cJ18_addAll_2 0 = .ok (.aload_n 0, 1) := dk_42 (dk_at dksJ18_addAll_2_0 0 rfl rfl)
theorem dJ18_addAll_2_1 : decode cJ18_addAll_2 1 = .ok (.iload_n 1, 1) := dk_27 (dk_at dksJ18_addAll_2_0 1 rfl rfl)
theorem dJ18_addAll_2_2 : decode cJ18_addAll_2 2 = .ok (.invokevirtual 45, 3) := dk_182 0 45 (dk_at dksJ18_addAll_2_0 2 rfl rfl)
theorem dJ18_addAll_2_5 : decode cJ18_addAll_2 5 = .ok (.aload_n 2, 1) := dk_44 (dk_at dksJ18_addAll_2_0 5 rfl rfl)
theorem dJ18_addAll_2_6 : decode cJ18_addAll_2 6 = .ok (.invokeinterface 67 1, 5) := by decide +kernel
theorem dJ18_addAll_2_11 : decode cJ18_addAll_2 11 = .ok (.istore_n 3, 1) := dk_62 (dk_at dksJ18_addAll_2_0 11 rfl rfl)
theorem dJ18_addAll_2_12 : decode cJ18_addAll_2 12 = .ok (.iload_n 3, 1) := dk_29 (dk_at dksJ18_addAll_2_0 12 rfl rfl)
theorem dJ18_addAll_2_13 : decode cJ18_addAll_2 13 = .ok (.ifCond .ne 5, 3) := dk_154 0 5 (dk_at dksJ18_addAll_2_0 13 rfl rfl)
theorem dJ18_addAll_2_16 : decode cJ18_addAll_2 16 = .ok (.iconst 0, 1) := dk_3 (dk_at dksJ18_addAll_2_0 16 rfl rfl)
theorem dJ18_addAll_2_17 : decode cJ18_addAll_2 17 = .ok (.ireturn, 1) := dk_172 (dk_at dksJ18_addAll_2_0 17 rfl rfl)
theorem dJ18_addAll_2_18 : decode cJ18_addAll_2 18 = .ok (.aload_n 0, 1) := dk_42 (dk_at dksJ18_addAll_2_0 18 rfl rfl)
theorem dJ18_addAll_2_19 : decode cJ18_addAll_2 19 = .ok (.invokevirtual 34, 3) := dk_182 0 34 (dk_at dksJ18_addAll_2_0 19 rfl rfl)
theorem dJ18_addAll_2_22 : decode cJ18_addAll_2 22 = .ok (.aload_n 0, 1) := dk_42 (dk_at dksJ18_addAll_2_0 22 rfl rfl)
theorem dJ18_addAll_2_23 : decode cJ18_addAll_2 23 = .ok (.getfield 7, 3) := dk_180 0 7 (dk_at dksJ18_addAll_2_1 0 rfl rfl)
theorem dJ18_addAll_2_26 : decode cJ18_addAll_2 26 = .ok (.aload_n 0, 1) := dk_42 (dk_at dksJ18_addAll_2_1 3 rfl rfl)
theorem dJ18_addAll_2_27 : decode cJ18_addAll_2 27 = .ok (.getfield 17, 3) := dk_180 0 17 (dk_at dksJ18_addAll_2_1 4 rfl rfl)
theorem dJ18_addAll_2_30 : decode cJ18_addAll_2 30 = .ok (.iload_n 1, 1) := dk_27 (dk_at dksJ18_addAll_2_1 7 rfl rfl)
theorem dJ18_addAll_2_31 : decode cJ18_addAll_2 31 = .ok (.iadd, 1) := dk_96 (dk_at dksJ18_addAll_2_1 8 rfl rfl)
theorem dJ18_addAll_2_32 : decode cJ18_addAll_2 32 = .ok (.aload_n 2, 1) := dk_44 (dk_at dksJ18_addAll_2_1 9 rfl rfl)
theorem dJ18_addAll_2_33 : decode cJ18_addAll_2 33 = .ok (.invokevirtual 72, 3) := dk_182 0 72 (dk_at dksJ18_addAll_2_1 10 rfl rfl)
theorem dJ18_addAll_2_36 : decode cJ18_addAll_2 36 = .ok (.pop, 1) := dk_87 (dk_at dksJ18_addAll_2_1 13 rfl rfl)
theorem dJ18_addAll_2_37 : decode cJ18_addAll_2 37 = .ok (.aload_n 0, 1) := dk_42 (dk_at dksJ18_addAll_2_1 14 rfl rfl)
theorem dJ18_addAll_2_38 : decode cJ18_addAll_2 38 = .ok (.iload_n 3, 1) := dk_29 (dk_at dksJ18_addAll_2_1 15 rfl rfl)
theorem dJ18_addAll_2_39 : decode cJ18_addAll_2 39 = .ok (.invokevirtual 53, 3) := dk_182 0 53 (dk_at dksJ18_addAll_2_1 16 rfl rfl)
theorem dJ18_addAll_2_42 : decode cJ18_addAll_2 42 = .ok (.iconst 1, 1) := dk_4 (dk_at dksJ18_addAll_2_1 19 rfl rfl)
theorem dJ18_addAll_2_43 : decode cJ18_addAll_2 43 = .ok (.ireturn, 1) := dk_172 (dk_at dksJ18_addAll_2_1 20 rfl rfl)
theorem q79 : (Jvm.Cond.initialized "java/util/AbstractList$SubList") ∈ lw_all := lw_g (lw_at lw_m1 24 rfl) rfl
theorem q143 : (Jvm.Cond.fieldLink "java/util/AbstractList$SubList" (24 : Nat) "java/util/AbstractList" "modCount" "I") ∈ lw_all := lw_g (lw_at lw_m1 88 rfl) rfl
theorem q146 : (Jvm.Cond.fieldLink "java/util/AbstractList$SubList" (27 : Nat) "java/util/AbstractList$SubList" "modCount" "I") ∈ lw_all := lw_g (lw_at lw_m1 91 rfl) rfl
theorem q147 : (Jvm.Cond.sameField "java/util/AbstractList$SubList" "java/util/AbstractList" "modCount" "I") ∈ lw_all := lw_g (lw_at lw_m1 92 rfl) rfl
theorem q237 : (Jvm.Cond.selects "java/util/AbstractList$SubList" ({ cls := "java/lang/Object", name := "getClass", desc := "()Ljava/lang/Class;" } : Jvm.MethodName) ({ cls := "java/lang/Object", name := "getClass", desc := "()Ljava/lang/Class;" } : Jvm.MethodName)) ∈ lw_all := lw_g (lw_at lw_m1 182 rfl) rfl
theorem q352 : (Jvm.Cond.instanceMethod ({ cls := "java/util/AbstractList$SubList", name := "size", desc := "()I" } : Jvm.MethodName)) ∈ lw_all := lw_g (lw_at lw_m2 57 rfl) rfl
theorem q353 : (Jvm.Cond.publicMethod ({ cls := "java/util/AbstractList$SubList", name := "size", desc := "()I" } : Jvm.MethodName)) ∈ lw_tbl := lw_at lw_m2 58 rfl
theorem q354 : (Jvm.Cond.code ({ cls := "java/util/AbstractList$SubList", name := "size", desc := "()I" } : Jvm.MethodName) prog_42_method_5_code (1 : Nat) (Option.some Jvm.ClassFile.FieldType.int)) ∈ lw_all := lw_g (lw_at lw_m2 59 rfl) rfl
theorem q355 : (Jvm.Cond.methodLink "java/util/AbstractList$SubList" (34 : Nat) ({ cls := "java/util/AbstractList$SubList", name := "checkForComodification", desc := "()V" } : Jvm.MethodName)) ∈ lw_all := lw_g (lw_at lw_m2 60 rfl) rfl
theorem q356 : (Jvm.Cond.privateMethod ({ cls := "java/util/AbstractList$SubList", name := "checkForComodification", desc := "()V" } : Jvm.MethodName)) ∈ lw_tbl := lw_at lw_m2 61 rfl
theorem q357 : (Jvm.Cond.instanceMethod ({ cls := "java/util/AbstractList$SubList", name := "checkForComodification", desc := "()V" } : Jvm.MethodName)) ∈ lw_all := lw_g (lw_at lw_m2 62 rfl) rfl
theorem q358 : (Jvm.Cond.instantiable "java/util/AbstractList$SubList" (5 : Nat)) ∈ lw_all := lw_g (lw_at lw_m2 63 rfl) rfl
theorem q359 : (Jvm.Cond.code ({ cls := "java/util/AbstractList$SubList", name := "checkForComodification", desc := "()V" } : Jvm.MethodName) prog_42_method_16_code (1 : Nat) (Option.none : Option Jvm.ClassFile.FieldType)) ∈ lw_all := lw_g (lw_at lw_m2 64 rfl) rfl
theorem q360 : (Jvm.Cond.castable "java/util/AbstractList$SubList" "java/util/List") ∈ lw_tbl := lw_at lw_m2 65 rfl
theorem q361 : (Jvm.Cond.selects "java/util/AbstractList$SubList" ({ cls := "java/util/List", name := "size", desc := "()I" } : Jvm.MethodName) ({ cls := "java/util/AbstractList$SubList", name := "size", desc := "()I" } : Jvm.MethodName)) ∈ lw_all := lw_g (lw_at lw_m2 66 rfl) rfl
theorem q362 : (Jvm.Cond.unhidden "java/util/AbstractList$SubList" "size" "()I") ∈ lw_tbl := lw_at lw_m2 67 rfl
theorem q401 : (Jvm.Cond.selects "java/util/AbstractList$SubList" ({ cls := "java/util/AbstractList", name := "listIterator", desc := "()Ljava/util/ListIterator;" } : Jvm.MethodName) ({ cls := "java/util/AbstractList", name := "listIterator", desc := "()Ljava/util/ListIterator;" } : Jvm.MethodName)) ∈ lw_all := lw_g (lw_at lw_m2 106 rfl) rfl
theorem q443 : (Jvm.Cond.instanceMethod ({ cls := "java/util/AbstractList$SubList", name := "listIterator", desc := "(I)Ljava/util/ListIterator;" } : Jvm.MethodName)) ∈ lw_all := lw_g (lw_at lw_m2 148 rfl) rfl
theorem q444 : (Jvm.Cond.code ({ cls := "java/util/AbstractList$SubList", name := "listIterator", desc := "(I)Ljava/util/ListIterator;" } : Jvm.MethodName) prog_42_method_12_code (2 : Nat) (Option.some (Jvm.ClassFile.FieldType.object "java/util/ListIterator"))) ∈ lw_all := lw_g (lw_at lw_m2 149 rfl) rfl
theorem q445 : (Jvm.Cond.methodLink "java/util/AbstractList$SubList" (45 : Nat) ({ cls := "java/util/AbstractList$SubList", name := "rangeCheckForAdd", desc := "(I)V" } : Jvm.MethodName)) ∈ lw_all := lw_g (lw_at lw_m2 150 rfl) rfl
theorem q446 : (Jvm.Cond.privateMethod ({ cls := "java/util/AbstractList$SubList", name := "rangeCheckForAdd", desc := "(I)V" } : Jvm.MethodName)) ∈ lw_tbl := lw_at lw_m2 151 rfl
theorem q447 : (Jvm.Cond.instanceMethod ({ cls := "java/util/AbstractList$SubList", name := "rangeCheckForAdd", desc := "(I)V" } : Jvm.MethodName)) ∈ lw_all := lw_g (lw_at lw_m2 152 rfl) rfl
theorem q448 : (Jvm.Cond.code ({ cls := "java/util/AbstractList$SubList", name := "rangeCheckForAdd", desc := "(I)V" } : Jvm.MethodName) prog_42_method_14_code (2 : Nat) (Option.none : Option Jvm.ClassFile.FieldType)) ∈ lw_all := lw_g (lw_at lw_m2 153 rfl) rfl
theorem q449 : (Jvm.Cond.classLink "java/util/AbstractList$SubList" (89 : Nat) "java/lang/IndexOutOfBoundsException") ∈ lw_all := lw_g (lw_at lw_m2 154 rfl) rfl
theorem q494 : (Jvm.Cond.methodLink "java/util/AbstractList$SubList" (91 : Nat) ({ cls := "java/util/AbstractList$SubList", name := "outOfBoundsMsg", desc := "(I)Ljava/lang/String;" } : Jvm.MethodName)) ∈ lw_all := lw_g (lw_at lw_m2 199 rfl) rfl
theorem q495 : (Jvm.Cond.privateMethod ({ cls := "java/util/AbstractList$SubList", name := "outOfBoundsMsg", desc := "(I)Ljava/lang/String;" } : Jvm.MethodName)) ∈ lw_tbl := lw_at lw_m2 200 rfl
theorem q496 : (Jvm.Cond.instanceMethod ({ cls := "java/util/AbstractList$SubList", name := "outOfBoundsMsg", desc := "(I)Ljava/lang/String;" } : Jvm.MethodName)) ∈ lw_all := lw_g (lw_at lw_m2 201 rfl) rfl
theorem q497 : (Jvm.Cond.code ({ cls := "java/util/AbstractList$SubList", name := "outOfBoundsMsg", desc := "(I)Ljava/lang/String;" } : Jvm.MethodName) prog_42_method_15_code (2 : Nat) (Option.some (Jvm.ClassFile.FieldType.object "java/lang/String"))) ∈ lw_all := lw_g (lw_at lw_m2 202 rfl) rfl
theorem q498 : (Jvm.Cond.classLink "java/util/AbstractList$SubList" (98 : Nat) "java/lang/StringBuilder") ∈ lw_all := lw_g (lw_at lw_m2 203 rfl) rfl
theorem q500 : (Jvm.Cond.methodLink "java/util/AbstractList$SubList" (100 : Nat) ({ cls := "java/lang/StringBuilder", name := "<init>", desc := "()V" } : Jvm.MethodName)) ∈ lw_all := lw_g (lw_at lw_m2 205 rfl) rfl
theorem q530 : (Jvm.Cond.stringRef "java/util/AbstractList$SubList" (101 : Nat) "Index: ") ∈ lw_tbl := lw_at lw_m2 235 rfl
theorem q531 : (Jvm.Cond.methodLink "java/util/AbstractList$SubList" (103 : Nat) ({ cls := "java/lang/StringBuilder", name := "append", desc := "(Ljava/lang/String;)Ljava/lang/StringBuilder;" } : Jvm.MethodName)) ∈ lw_all := lw_g (lw_at lw_m2 236 rfl) rfl
theorem q636 : (Jvm.Cond.methodLink "java/util/AbstractList$SubList" (107 : Nat) ({ cls := "java/lang/StringBuilder", name := "append", desc := "(I)Ljava/lang/StringBuilder;" } : Jvm.MethodName)) ∈ lw_all := lw_g (lw_at lw_m3 101 rfl) rfl
theorem q661 : (Jvm.Cond.stringRef "java/util/AbstractList$SubList" (110 : Nat) ", Size: ") ∈ lw_tbl := lw_at lw_m3 126 rfl
theorem q662 : (Jvm.Cond.methodLink "java/util/AbstractList$SubList" (112 : Nat) ({ cls := "java/lang/StringBuilder", name := "toString", desc := "()Ljava/lang/String;" } : Jvm.MethodName)) ∈ lw_all := lw_g (lw_at lw_m3 127 rfl) rfl
theorem q764 : (Jvm.Cond.methodLink "java/util/AbstractList$SubList" (95 : Nat) ({ cls := "java/lang/IndexOutOfBoundsException", name := "<init>", desc := "(Ljava/lang/String;)V" } : Jvm.MethodName)) ∈ lw_all := lw_g (lw_at lw_m3 229 rfl) rfl
theorem q770 : (Jvm.Cond.classLink "java/util/AbstractList$SubList" (77 : Nat) "java/util/AbstractList$SubList$1") ∈ lw_all := lw_g (lw_at lw_m3 235 rfl) rfl
theorem q772 : (Jvm.Cond.methodLink "java/util/AbstractList$SubList" (79 : Nat) ({ cls := "java/util/AbstractList$SubList$1", name := "<init>", desc := "(Ljava/util/AbstractList$SubList;I)V" } : Jvm.MethodName)) ∈ lw_all := lw_g (lw_at lw_m3 237 rfl) rfl
theorem q847 : (Jvm.Cond.selects "java/util/AbstractList$SubList" ({ cls := "java/util/AbstractList", name := "listIterator", desc := "(I)Ljava/util/ListIterator;" } : Jvm.MethodName) ({ cls := "java/util/AbstractList$SubList", name := "listIterator", desc := "(I)Ljava/util/ListIterator;" } : Jvm.MethodName)) ∈ lw_all := lw_g (lw_at lw_m4 72 rfl) rfl
theorem q860 : (Jvm.Cond.selects "java/util/AbstractList$SubList" ({ cls := "java/util/AbstractList", name := "size", desc := "()I" } : Jvm.MethodName) ({ cls := "java/util/AbstractList$SubList", name := "size", desc := "()I" } : Jvm.MethodName)) ∈ lw_all := lw_g (lw_at lw_m4 85 rfl) rfl
theorem q915 : (Jvm.Cond.selects "java/util/AbstractList$SubList" ({ cls := "java/util/List", name := "listIterator", desc := "()Ljava/util/ListIterator;" } : Jvm.MethodName) ({ cls := "java/util/AbstractList", name := "listIterator", desc := "()Ljava/util/ListIterator;" } : Jvm.MethodName)) ∈ lw_all := lw_g (lw_at lw_m4 140 rfl) rfl
theorem q916 : (Jvm.Cond.unhidden "java/util/AbstractList$SubList" "listIterator" "()Ljava/util/ListIterator;") ∈ lw_tbl := lw_at lw_m4 141 rfl
theorem q998 : (Jvm.Cond.instanceMethod ({ cls := "java/util/AbstractList$SubList", name := "get", desc := "(I)Ljava/lang/Object;" } : Jvm.MethodName)) ∈ lw_all := lw_g (lw_at lw_m4 223 rfl) rfl
theorem q999 : (Jvm.Cond.code ({ cls := "java/util/AbstractList$SubList", name := "get", desc := "(I)Ljava/lang/Object;" } : Jvm.MethodName) prog_42_method_4_code (2 : Nat) (Option.some (Jvm.ClassFile.FieldType.object "java/lang/Object"))) ∈ lw_all := lw_g (lw_at lw_m4 224 rfl) rfl
theorem q1000 : (Jvm.Cond.methodLink "java/util/AbstractList$SubList" (28 : Nat) ({ cls := "java/util/Objects", name := "checkIndex", desc := "(II)I" } : Jvm.MethodName)) ∈ lw_all := lw_g (lw_at lw_m4 225 rfl) rfl
theorem q1001 : (Jvm.Cond.methodLink "java/util/AbstractList$SubList" (41 : Nat) ({ cls := "java/util/AbstractList", name := "get", desc := "(I)Ljava/lang/Object;" } : Jvm.MethodName)) ∈ lw_all := lw_g (lw_at lw_m4 226 rfl) rfl
theorem q1008 : (Jvm.Cond.selects "java/util/AbstractList$SubList" ({ cls := "java/util/AbstractList", name := "get", desc := "(I)Ljava/lang/Object;" } : Jvm.MethodName) ({ cls := "java/util/AbstractList$SubList", name := "get", desc := "(I)Ljava/lang/Object;" } : Jvm.MethodName)) ∈ lw_all := lw_g (lw_at lw_m4 233 rfl) rfl
theorem q1136 : (Jvm.Cond.selects "java/util/AbstractList$SubList" ({ cls := "java/util/List", name := "equals", desc := "(Ljava/lang/Object;)Z" } : Jvm.MethodName) ({ cls := "java/util/AbstractList", name := "equals", desc := "(Ljava/lang/Object;)Z" } : Jvm.MethodName)) ∈ lw_all := lw_g (lw_at lw_m5 121 rfl) rfl
theorem q1137 : (Jvm.Cond.unhidden "java/util/AbstractList$SubList" "equals" "(Ljava/lang/Object;)Z") ∈ lw_tbl := lw_at lw_m5 122 rfl
theorem q1168 : (Jvm.Cond.instanceMethod ({ cls := "java/util/AbstractList$SubList", name := "iterator", desc := "()Ljava/util/Iterator;" } : Jvm.MethodName)) ∈ lw_all := lw_g (lw_at lw_m5 153 rfl) rfl
theorem q1169 : (Jvm.Cond.publicMethod ({ cls := "java/util/AbstractList$SubList", name := "iterator", desc := "()Ljava/util/Iterator;" } : Jvm.MethodName)) ∈ lw_tbl := lw_at lw_m5 154 rfl
theorem q1170 : (Jvm.Cond.code ({ cls := "java/util/AbstractList$SubList", name := "iterator", desc := "()Ljava/util/Iterator;" } : Jvm.MethodName) prog_42_method_11_code (1 : Nat) (Option.some (Jvm.ClassFile.FieldType.object "java/util/Iterator"))) ∈ lw_all := lw_g (lw_at lw_m5 155 rfl) rfl
theorem q1171 : (Jvm.Cond.methodLink "java/util/AbstractList$SubList" (73 : Nat) ({ cls := "java/util/AbstractList$SubList", name := "listIterator", desc := "()Ljava/util/ListIterator;" } : Jvm.MethodName)) ∈ lw_all := lw_g (lw_at lw_m5 156 rfl) rfl
theorem q1172 : (Jvm.Cond.sameMethod "java/util/AbstractList$SubList" "java/util/AbstractList" "listIterator" "()Ljava/util/ListIterator;") ∈ lw_all := lw_g (lw_at lw_m5 157 rfl) rfl
theorem q1175 : (Jvm.Cond.selects "java/util/AbstractList$SubList" ({ cls := "java/util/AbstractList$SubList", name := "listIterator", desc := "()Ljava/util/ListIterator;" } : Jvm.MethodName) ({ cls := "java/util/AbstractList", name := "listIterator", desc := "()Ljava/util/ListIterator;" } : Jvm.MethodName)) ∈ lw_all := lw_g (lw_at lw_m5 160 rfl) rfl
theorem q1176 : (Jvm.Cond.selects "java/util/AbstractList$SubList" ({ cls := "java/util/List", name := "iterator", desc := "()Ljava/util/Iterator;" } : Jvm.MethodName) ({ cls := "java/util/AbstractList$SubList", name := "iterator", desc := "()Ljava/util/Iterator;" } : Jvm.MethodName)) ∈ lw_all := lw_g (lw_at lw_m5 161 rfl) rfl
theorem q1177 : (Jvm.Cond.unhidden "java/util/AbstractList$SubList" "iterator" "()Ljava/util/Iterator;") ∈ lw_tbl := lw_at lw_m5 162 rfl
theorem q1281 : (Jvm.Cond.selects "java/util/AbstractList$SubList" ({ cls := "java/util/AbstractList", name := "iterator", desc := "()Ljava/util/Iterator;" } : Jvm.MethodName) ({ cls := "java/util/AbstractList$SubList", name := "iterator", desc := "()Ljava/util/Iterator;" } : Jvm.MethodName)) ∈ lw_all := lw_g (lw_at lw_m6 26 rfl) rfl
theorem q1376 : (Jvm.Cond.selects "java/util/AbstractList$SubList" ({ cls := "java/util/List", name := "hashCode", desc := "()I" } : Jvm.MethodName) ({ cls := "java/util/AbstractList", name := "hashCode", desc := "()I" } : Jvm.MethodName)) ∈ lw_all := lw_g (lw_at lw_m6 121 rfl) rfl
theorem q1377 : (Jvm.Cond.unhidden "java/util/AbstractList$SubList" "hashCode" "()I") ∈ lw_tbl := lw_at lw_m6 122 rfl
theorem q1448 : (Jvm.Cond.selects "java/util/AbstractList$SubList" ({ cls := "java/util/List", name := "indexOf", desc := "(Ljava/lang/Object;)I" } : Jvm.MethodName) ({ cls := "java/util/AbstractList", name := "indexOf", desc := "(Ljava/lang/Object;)I" } : Jvm.MethodName)) ∈ lw_all := lw_g (lw_at lw_m6 193 rfl) rfl
theorem q1449 : (Jvm.Cond.unhidden "java/util/AbstractList$SubList" "indexOf" "(Ljava/lang/Object;)I") ∈ lw_tbl := lw_at lw_m6 194 rfl
theorem q1546 : (Jvm.Cond.selects "java/util/AbstractList$SubList" ({ cls := "java/util/List", name := "lastIndexOf", desc := "(Ljava/lang/Object;)I" } : Jvm.MethodName) ({ cls := "java/util/AbstractList", name := "lastIndexOf", desc := "(Ljava/lang/Object;)I" } : Jvm.MethodName)) ∈ lw_all := lw_g (lw_at lw_m7 51 rfl) rfl
theorem q1547 : (Jvm.Cond.unhidden "java/util/AbstractList$SubList" "lastIndexOf" "(Ljava/lang/Object;)I") ∈ lw_tbl := lw_at lw_m7 52 rfl
theorem q1571 : (Jvm.Cond.publicMethod ({ cls := "java/util/AbstractList$SubList", name := "get", desc := "(I)Ljava/lang/Object;" } : Jvm.MethodName)) ∈ lw_tbl := lw_at lw_m7 76 rfl
theorem q1572 : (Jvm.Cond.selects "java/util/AbstractList$SubList" ({ cls := "java/util/List", name := "get", desc := "(I)Ljava/lang/Object;" } : Jvm.MethodName) ({ cls := "java/util/AbstractList$SubList", name := "get", desc := "(I)Ljava/lang/Object;" } : Jvm.MethodName)) ∈ lw_all := lw_g (lw_at lw_m7 77 rfl) rfl
theorem q1573 : (Jvm.Cond.unhidden "java/util/AbstractList$SubList" "get" "(I)Ljava/lang/Object;") ∈ lw_tbl := lw_at lw_m7 78 rfl
theorem q1629 : (Jvm.Cond.publicMethod ({ cls := "java/util/AbstractList$SubList", name := "listIterator", desc := "(I)Ljava/util/ListIterator;" } : Jvm.MethodName)) ∈ lw_tbl := lw_at lw_m7 134 rfl
theorem q1630 : (Jvm.Cond.selects "java/util/AbstractList$SubList" ({ cls := "java/util/List", name := "listIterator", desc := "(I)Ljava/util/ListIterator;" } : Jvm.MethodName) ({ cls := "java/util/AbstractList$SubList", name := "listIterator", desc := "(I)Ljava/util/ListIterator;" } : Jvm.MethodName)) ∈ lw_all := lw_g (lw_at lw_m7 135 rfl) rfl
theorem q1631 : (Jvm.Cond.unhidden "java/util/AbstractList$SubList" "listIterator" "(I)Ljava/util/ListIterator;") ∈ lw_tbl := lw_at lw_m7 136 rfl
theorem q1662 : (Jvm.Cond.instanceMethod ({ cls := "java/util/AbstractList$SubList", name := "add", desc := "(ILjava/lang/Object;)V" } : Jvm.MethodName)) ∈ lw_all := lw_g (lw_at lw_m7 167 rfl) rfl
theorem q1663 : (Jvm.Cond.code ({ cls := "java/util/AbstractList$SubList", name := "add", desc := "(ILjava/lang/Object;)V" } : Jvm.MethodName) prog_42_method_6_code (3 : Nat) (Option.none : Option Jvm.ClassFile.FieldType)) ∈ lw_all := lw_g (lw_at lw_m7 168 rfl) rfl
theorem q1664 : (Jvm.Cond.methodLink "java/util/AbstractList$SubList" (49 : Nat) ({ cls := "java/util/AbstractList", name := "add", desc := "(ILjava/lang/Object;)V" } : Jvm.MethodName)) ∈ lw_all := lw_g (lw_at lw_m7 169 rfl) rfl
theorem q1675 : (Jvm.Cond.methodLink "java/util/AbstractList$SubList" (53 : Nat) ({ cls := "java/util/AbstractList$SubList", name := "updateSizeAndModCount", desc := "(I)V" } : Jvm.MethodName)) ∈ lw_all := lw_g (lw_at lw_m7 180 rfl) rfl
theorem q1676 : (Jvm.Cond.privateMethod ({ cls := "java/util/AbstractList$SubList", name := "updateSizeAndModCount", desc := "(I)V" } : Jvm.MethodName)) ∈ lw_tbl := lw_at lw_m7 181 rfl
theorem q1677 : (Jvm.Cond.instanceMethod ({ cls := "java/util/AbstractList$SubList", name := "updateSizeAndModCount", desc := "(I)V" } : Jvm.MethodName)) ∈ lw_all := lw_g (lw_at lw_m7 182 rfl) rfl
theorem q1678 : (Jvm.Cond.code ({ cls := "java/util/AbstractList$SubList", name := "updateSizeAndModCount", desc := "(I)V" } : Jvm.MethodName) prog_42_method_17_code (3 : Nat) (Option.none : Option Jvm.ClassFile.FieldType)) ∈ lw_all := lw_g (lw_at lw_m7 183 rfl) rfl
theorem q1679 : (Jvm.Cond.selects "java/util/AbstractList$SubList" ({ cls := "java/util/AbstractList", name := "add", desc := "(ILjava/lang/Object;)V" } : Jvm.MethodName) ({ cls := "java/util/AbstractList$SubList", name := "add", desc := "(ILjava/lang/Object;)V" } : Jvm.MethodName)) ∈ lw_all := lw_g (lw_at lw_m7 184 rfl) rfl
theorem q1705 : (Jvm.Cond.selects "java/util/AbstractList$SubList" ({ cls := "java/util/List", name := "add", desc := "(Ljava/lang/Object;)Z" } : Jvm.MethodName) ({ cls := "java/util/AbstractList", name := "add", desc := "(Ljava/lang/Object;)Z" } : Jvm.MethodName)) ∈ lw_all := lw_g (lw_at lw_m7 210 rfl) rfl
theorem q1706 : (Jvm.Cond.unhidden "java/util/AbstractList$SubList" "add" "(Ljava/lang/Object;)Z") ∈ lw_tbl := lw_at lw_m7 211 rfl
theorem q1727 : (Jvm.Cond.instanceMethod ({ cls := "java/util/AbstractList$SubList", name := "removeRange", desc := "(II)V" } : Jvm.MethodName)) ∈ lw_all := lw_g (lw_at lw_m7 232 rfl) rfl
theorem q1728 : (Jvm.Cond.code ({ cls := "java/util/AbstractList$SubList", name := "removeRange", desc := "(II)V" } : Jvm.MethodName) prog_42_method_8_code (3 : Nat) (Option.none : Option Jvm.ClassFile.FieldType)) ∈ lw_all := lw_g (lw_at lw_m7 233 rfl) rfl
theorem q1729 : (Jvm.Cond.methodLink "java/util/AbstractList$SubList" (59 : Nat) ({ cls := "java/util/AbstractList", name := "removeRange", desc := "(II)V" } : Jvm.MethodName)) ∈ lw_all := lw_g (lw_at lw_m7 234 rfl) rfl
theorem q1744 : (Jvm.Cond.selects "java/util/AbstractList$SubList" ({ cls := "java/util/AbstractList", name := "removeRange", desc := "(II)V" } : Jvm.MethodName) ({ cls := "java/util/AbstractList$SubList", name := "removeRange", desc := "(II)V" } : Jvm.MethodName)) ∈ lw_all := lw_g (lw_at lw_m8 9 rfl) rfl
theorem q1777 : (Jvm.Cond.instanceMethod ({ cls := "java/util/AbstractList$SubList", name := "remove", desc := "(I)Ljava/lang/Object;" } : Jvm.MethodName)) ∈ lw_all := lw_g (lw_at lw_m8 42 rfl) rfl
theorem q1778 : (Jvm.Cond.code ({ cls := "java/util/AbstractList$SubList", name := "remove", desc := "(I)Ljava/lang/Object;" } : Jvm.MethodName) prog_42_method_7_code (3 : Nat) (Option.some (Jvm.ClassFile.FieldType.object "java/lang/Object"))) ∈ lw_all := lw_g (lw_at lw_m8 43 rfl) rfl
theorem q1779 : (Jvm.Cond.methodLink "java/util/AbstractList$SubList" (56 : Nat) ({ cls := "java/util/AbstractList", name := "remove", desc := "(I)Ljava/lang/Object;" } : Jvm.MethodName)) ∈ lw_all := lw_g (lw_at lw_m8 44 rfl) rfl
theorem q1789 : (Jvm.Cond.selects "java/util/AbstractList$SubList" ({ cls := "java/util/AbstractList", name := "remove", desc := "(I)Ljava/lang/Object;" } : Jvm.MethodName) ({ cls := "java/util/AbstractList$SubList", name := "remove", desc := "(I)Ljava/lang/Object;" } : Jvm.MethodName)) ∈ lw_all := lw_g (lw_at lw_m8 54 rfl) rfl
theorem q1837 : (Jvm.Cond.selects "java/util/AbstractList$SubList" ({ cls := "java/util/List", name := "clear", desc := "()V" } : Jvm.MethodName) ({ cls := "java/util/AbstractList", name := "clear", desc := "()V" } : Jvm.MethodName)) ∈ lw_all := lw_g (lw_at lw_m8 102 rfl) rfl
theorem q1838 : (Jvm.Cond.unhidden "java/util/AbstractList$SubList" "clear" "()V") ∈ lw_tbl := lw_at lw_m8 103 rfl
theorem q1858 : (Jvm.Cond.selects "java/util/AbstractList$SubList" ({ cls := "java/util/List", name := "isEmpty", desc := "()Z" } : Jvm.MethodName) ({ cls := "java/util/AbstractCollection", name := "isEmpty", desc := "()Z" } : Jvm.MethodName)) ∈ lw_all := lw_g (lw_at lw_m8 123 rfl) rfl
theorem q1859 : (Jvm.Cond.unhidden "java/util/AbstractList$SubList" "isEmpty" "()Z") ∈ lw_tbl := lw_at lw_m8 124 rfl
theorem q1914 : (Jvm.Cond.castable "java/util/AbstractList$SubList" "java/lang/Iterable") ∈ lw_tbl := lw_at lw_m8 179 rfl
theorem q1915 : (Jvm.Cond.selects "java/util/AbstractList$SubList" ({ cls := "java/lang/Iterable", name := "iterator", desc := "()Ljava/util/Iterator;" } : Jvm.MethodName) ({ cls := "java/util/AbstractList$SubList", name := "iterator", desc := "()Ljava/util/Iterator;" } : Jvm.MethodName)) ∈ lw_all := lw_g (lw_at lw_m8 180 rfl) rfl
theorem q1942 : (Jvm.Cond.unhidden "java/util/AbstractList$SubList" "forEach" "(Ljava/util/function/Consumer;)V") ∈ lw_tbl := lw_at lw_m8 207 rfl
theorem q2079 : (Jvm.Cond.instanceMethod ({ cls := "java/util/AbstractList$SubList", name := "<init>", desc := "(Ljava/util/AbstractList$SubList;II)V" } : Jvm.MethodName)) ∈ lw_all := lw_g (lw_at lw_m9 104 rfl) rfl
theorem q2080 : (Jvm.Cond.code ({ cls := "java/util/AbstractList$SubList", name := "<init>", desc := "(Ljava/util/AbstractList$SubList;II)V" } : Jvm.MethodName) prog_42_method_2_code (4 : Nat) (Option.none : Option Jvm.ClassFile.FieldType)) ∈ lw_all := lw_g (lw_at lw_m9 105 rfl) rfl
theorem q2081 : (Jvm.Cond.methodLink "java/util/AbstractList$SubList" (1 : Nat) ({ cls := "java/util/AbstractList", name := "<init>", desc := "()V" } : Jvm.MethodName)) ∈ lw_all := lw_g (lw_at lw_m9 106 rfl) rfl
theorem q2082 : (Jvm.Cond.fieldLink "java/util/AbstractList$SubList" (7 : Nat) "java/util/AbstractList$SubList" "root" "Ljava/util/AbstractList;") ∈ lw_all := lw_g (lw_at lw_m9 107 rfl) rfl
theorem q2084 : (Jvm.Cond.fieldLink "java/util/AbstractList$SubList" (13 : Nat) "java/util/AbstractList$SubList" "parent" "Ljava/util/AbstractList$SubList;") ∈ lw_all := lw_g (lw_at lw_m9 109 rfl) rfl
theorem q2085 : (Jvm.Cond.fieldLink "java/util/AbstractList$SubList" (17 : Nat) "java/util/AbstractList$SubList" "offset" "I") ∈ lw_all := lw_g (lw_at lw_m9 110 rfl) rfl
theorem q2087 : (Jvm.Cond.fieldLink "java/util/AbstractList$SubList" (21 : Nat) "java/util/AbstractList$SubList" "size" "I") ∈ lw_all := lw_g (lw_at lw_m9 112 rfl) rfl
theorem q2092 : (Jvm.Cond.soleField "java/util/AbstractList$SubList" "root") ∈ lw_all := lw_g (lw_at lw_m9 117 rfl) rfl
theorem q2094 : (Jvm.Cond.soleField "java/util/AbstractList$SubList" "parent") ∈ lw_all := lw_g (lw_at lw_m9 119 rfl) rfl
theorem q2096 : (Jvm.Cond.soleField "java/util/AbstractList$SubList" "offset") ∈ lw_all := lw_g (lw_at lw_m9 121 rfl) rfl
theorem q2098 : (Jvm.Cond.soleField "java/util/AbstractList$SubList" "size") ∈ lw_all := lw_g (lw_at lw_m9 123 rfl) rfl
theorem q2101 : (Jvm.Cond.selects "java/util/AbstractList$SubList" ({ cls := "java/util/List", name := "subList", desc := "(II)Ljava/util/List;" } : Jvm.MethodName) ({ cls := "java/util/AbstractList$SubList", name := "subList", desc := "(II)Ljava/util/List;" } : Jvm.MethodName)) ∈ lw_all := lw_g (lw_at lw_m9 126 rfl) rfl
theorem q2102 : (Jvm.Cond.unhidden "java/util/AbstractList$SubList" "subList" "(II)Ljava/util/List;") ∈ lw_tbl := lw_at lw_m9 127 rfl
theorem q2103 : (Jvm.Cond.instanceMethod ({ cls := "java/util/AbstractList$SubList", name := "subList", desc := "(II)Ljava/util/List;" } : Jvm.MethodName)) ∈ lw_all := lw_g (lw_at lw_m9 128 rfl) rfl
theorem q2104 : (Jvm.Cond.publicMethod ({ cls := "java/util/AbstractList$SubList", name := "subList", desc := "(II)Ljava/util/List;" } : Jvm.MethodName)) ∈ lw_tbl := lw_at lw_m9 129 rfl
theorem q2105 : (Jvm.Cond.code ({ cls := "java/util/AbstractList$SubList", name := "subList", desc := "(II)Ljava/util/List;" } : Jvm.MethodName) prog_42_method_13_code (3 : Nat) (Option.some (Jvm.ClassFile.FieldType.object "java/util/List"))) ∈ lw_all := lw_g (lw_at lw_m9 130 rfl) rfl
theorem q2106 : (Jvm.Cond.methodLink "java/util/AbstractList$SubList" (82 : Nat) ({ cls := "java/util/AbstractList$SubList", name := "subListRangeCheck", desc := "(III)V" } : Jvm.MethodName)) ∈ lw_all := lw_g (lw_at lw_m9 131 rfl) rfl
theorem q2107 : (Jvm.Cond.sameMethod "java/util/AbstractList$SubList" "java/util/AbstractList" "subListRangeCheck" "(III)V") ∈ lw_all := lw_g (lw_at lw_m9 132 rfl) rfl
theorem q2108 : (Jvm.Cond.classLink "java/util/AbstractList$SubList" (8 : Nat) "java/util/AbstractList$SubList") ∈ lw_all := lw_g (lw_at lw_m9 133 rfl) rfl
theorem q2109 : (Jvm.Cond.methodLink "java/util/AbstractList$SubList" (86 : Nat) ({ cls := "java/util/AbstractList$SubList", name := "<init>", desc := "(Ljava/util/AbstractList$SubList;II)V" } : Jvm.MethodName)) ∈ lw_all := lw_g (lw_at lw_m9 134 rfl) rfl
theorem q2110 : (Jvm.Cond.laysFinal "java/util/AbstractList$SubList" "java/util/AbstractList$SubList" "root" "Ljava/util/AbstractList;") ∈ lw_all := lw_g (lw_at lw_m9 135 rfl) rfl
theorem q2111 : (Jvm.Cond.laysFinal "java/util/AbstractList$SubList" "java/util/AbstractList$SubList" "parent" "Ljava/util/AbstractList$SubList;") ∈ lw_all := lw_g (lw_at lw_m9 136 rfl) rfl
theorem q2112 : (Jvm.Cond.laysFinal "java/util/AbstractList$SubList" "java/util/AbstractList$SubList" "offset" "I") ∈ lw_all := lw_g (lw_at lw_m9 137 rfl) rfl
theorem q2113 : (Jvm.Cond.lays "java/util/AbstractList$SubList" "java/util/AbstractList$SubList" "size" "I") ∈ lw_all := lw_g (lw_at lw_m9 138 rfl) rfl
theorem q2114 : (Jvm.Cond.lays "java/util/AbstractList$SubList" "java/util/AbstractList" "modCount" "I") ∈ lw_all := lw_g (lw_at lw_m9 139 rfl) rfl
theorem q2115 : (Jvm.Cond.superclass "java/util/AbstractList$SubList" "java/util/AbstractList") ∈ lw_all := lw_g (lw_at lw_m9 140 rfl) rfl
theorem q2168 : (Jvm.Cond.instanceMethod ({ cls := "java/util/AbstractList$SubList", name := "<init>", desc := "(Ljava/util/AbstractList;II)V" } : Jvm.MethodName)) ∈ lw_all := lw_g (lw_at lw_m9 193 rfl) rfl
theorem q2169 : (Jvm.Cond.code ({ cls := "java/util/AbstractList$SubList", name := "<init>", desc := "(Ljava/util/AbstractList;II)V" } : Jvm.MethodName) prog_42_method_1_code (4 : Nat) (Option.none : Option Jvm.ClassFile.FieldType)) ∈ lw_all := lw_g (lw_at lw_m9 194 rfl) rfl
theorem q2189 : (Jvm.Cond.instanceMethod ({ cls := "java/util/AbstractList$SubList", name := "set", desc := "(ILjava/lang/Object;)Ljava/lang/Object;" } : Jvm.MethodName)) ∈ lw_all := lw_g (lw_at lw_m9 214 rfl) rfl
theorem q2190 : (Jvm.Cond.publicMethod ({ cls := "java/util/AbstractList$SubList", name := "set", desc := "(ILjava/lang/Object;)Ljava/lang/Object;" } : Jvm.MethodName)) ∈ lw_tbl := lw_at lw_m9 215 rfl
theorem q2191 : (Jvm.Cond.code ({ cls := "java/util/AbstractList$SubList", name := "set", desc := "(ILjava/lang/Object;)Ljava/lang/Object;" } : Jvm.MethodName) prog_42_method_3_code (3 : Nat) (Option.some (Jvm.ClassFile.FieldType.object "java/lang/Object"))) ∈ lw_all := lw_g (lw_at lw_m9 216 rfl) rfl
theorem q2192 : (Jvm.Cond.methodLink "java/util/AbstractList$SubList" (37 : Nat) ({ cls := "java/util/AbstractList", name := "set", desc := "(ILjava/lang/Object;)Ljava/lang/Object;" } : Jvm.MethodName)) ∈ lw_all := lw_g (lw_at lw_m9 217 rfl) rfl
theorem q2196 : (Jvm.Cond.selects "java/util/AbstractList$SubList" ({ cls := "java/util/AbstractList", name := "set", desc := "(ILjava/lang/Object;)Ljava/lang/Object;" } : Jvm.MethodName) ({ cls := "java/util/AbstractList$SubList", name := "set", desc := "(ILjava/lang/Object;)Ljava/lang/Object;" } : Jvm.MethodName)) ∈ lw_all := lw_g (lw_at lw_m9 221 rfl) rfl
theorem q2205 : (Jvm.Cond.selects "java/util/AbstractList$SubList" ({ cls := "java/util/List", name := "set", desc := "(ILjava/lang/Object;)Ljava/lang/Object;" } : Jvm.MethodName) ({ cls := "java/util/AbstractList$SubList", name := "set", desc := "(ILjava/lang/Object;)Ljava/lang/Object;" } : Jvm.MethodName)) ∈ lw_all := lw_g (lw_at lw_m9 230 rfl) rfl
theorem q2206 : (Jvm.Cond.unhidden "java/util/AbstractList$SubList" "set" "(ILjava/lang/Object;)Ljava/lang/Object;") ∈ lw_tbl := lw_at lw_m9 231 rfl
theorem q2285 : (Jvm.Cond.selects "java/util/AbstractList$SubList" ({ cls := "java/util/AbstractCollection", name := "iterator", desc := "()Ljava/util/Iterator;" } : Jvm.MethodName) ({ cls := "java/util/AbstractList$SubList", name := "iterator", desc := "()Ljava/util/Iterator;" } : Jvm.MethodName)) ∈ lw_all := lw_g (lw_at lw_m10 70 rfl) rfl
theorem q2294 : (Jvm.Cond.selects "java/util/AbstractList$SubList" ({ cls := "java/util/List", name := "contains", desc := "(Ljava/lang/Object;)Z" } : Jvm.MethodName) ({ cls := "java/util/AbstractCollection", name := "contains", desc := "(Ljava/lang/Object;)Z" } : Jvm.MethodName)) ∈ lw_all := lw_g (lw_at lw_m10 79 rfl) rfl
theorem q2295 : (Jvm.Cond.unhidden "java/util/AbstractList$SubList" "contains" "(Ljava/lang/Object;)Z") ∈ lw_tbl := lw_at lw_m10 80 rfl
theorem q2330 : (Jvm.Cond.castable "java/util/AbstractList$SubList" "java/util/Collection") ∈ lw_tbl := lw_at lw_m10 115 rfl
theorem q2331 : (Jvm.Cond.selects "java/util/AbstractList$SubList" ({ cls := "java/util/Collection", name := "iterator", desc := "()Ljava/util/Iterator;" } : Jvm.MethodName) ({ cls := "java/util/AbstractList$SubList", name := "iterator", desc := "()Ljava/util/Iterator;" } : Jvm.MethodName)) ∈ lw_all := lw_g (lw_at lw_m10 116 rfl) rfl
theorem q2362 : (Jvm.Cond.selects "java/util/AbstractList$SubList" ({ cls := "java/util/List", name := "containsAll", desc := "(Ljava/util/Collection;)Z" } : Jvm.MethodName) ({ cls := "java/util/AbstractCollection", name := "containsAll", desc := "(Ljava/util/Collection;)Z" } : Jvm.MethodName)) ∈ lw_all := lw_g (lw_at lw_m10 147 rfl) rfl
theorem q2363 : (Jvm.Cond.unhidden "java/util/AbstractList$SubList" "containsAll" "(Ljava/util/Collection;)Z") ∈ lw_tbl := lw_at lw_m10 148 rfl
theorem q2386 : (Jvm.Cond.selects "java/util/AbstractList$SubList" ({ cls := "java/util/Collection", name := "size", desc := "()I" } : Jvm.MethodName) ({ cls := "java/util/AbstractList$SubList", name := "size", desc := "()I" } : Jvm.MethodName)) ∈ lw_all := lw_g (lw_at lw_m10 171 rfl) rfl
theorem q2395 : (Jvm.Cond.selects "java/util/AbstractList$SubList" ({ cls := "java/util/Collection", name := "contains", desc := "(Ljava/lang/Object;)Z" } : Jvm.MethodName) ({ cls := "java/util/AbstractCollection", name := "contains", desc := "(Ljava/lang/Object;)Z" } : Jvm.MethodName)) ∈ lw_all := lw_g (lw_at lw_m10 180 rfl) rfl
theorem q2566 : (Jvm.Cond.unhidden "java/util/AbstractList$SubList" "replaceAll" "(Ljava/util/function/UnaryOperator;)V") ∈ lw_tbl := lw_at lw_m11 111 rfl
theorem q2653 : (Jvm.Cond.selects "java/util/AbstractList$SubList" ({ cls := "java/util/List", name := "toArray", desc := "()[Ljava/lang/Object;" } : Jvm.MethodName) ({ cls := "java/util/AbstractCollection", name := "toArray", desc := "()[Ljava/lang/Object;" } : Jvm.MethodName)) ∈ lw_all := lw_g (lw_at lw_m11 198 rfl) rfl
theorem q2654 : (Jvm.Cond.unhidden "java/util/AbstractList$SubList" "toArray" "()[Ljava/lang/Object;") ∈ lw_tbl := lw_at lw_m11 199 rfl
theorem q3006 : (Jvm.Cond.unhidden "java/util/AbstractList$SubList" "sort" "(Ljava/util/Comparator;)V") ∈ lw_tbl := lw_at lw_m13 71 rfl
theorem q3107 : (Jvm.Cond.publicMethod ({ cls := "java/util/AbstractList$SubList", name := "add", desc := "(ILjava/lang/Object;)V" } : Jvm.MethodName)) ∈ lw_tbl := lw_at lw_m13 172 rfl
theorem q3108 : (Jvm.Cond.selects "java/util/AbstractList$SubList" ({ cls := "java/util/List", name := "add", desc := "(ILjava/lang/Object;)V" } : Jvm.MethodName) ({ cls := "java/util/AbstractList$SubList", name := "add", desc := "(ILjava/lang/Object;)V" } : Jvm.MethodName)) ∈ lw_all := lw_g (lw_at lw_m13 173 rfl) rfl
theorem q3109 : (Jvm.Cond.unhidden "java/util/AbstractList$SubList" "add" "(ILjava/lang/Object;)V") ∈ lw_tbl := lw_at lw_m13 174 rfl
theorem q3132 : (Jvm.Cond.instanceMethod ({ cls := "java/util/AbstractList$SubList", name := "addAll", desc := "(Ljava/util/Collection;)Z" } : Jvm.MethodName)) ∈ lw_all := lw_g (lw_at lw_m13 197 rfl) rfl
theorem q3133 : (Jvm.Cond.publicMethod ({ cls := "java/util/AbstractList$SubList", name := "addAll", desc := "(Ljava/util/Collection;)Z" } : Jvm.MethodName)) ∈ lw_tbl := lw_at lw_m13 198 rfl
theorem q3134 : (Jvm.Cond.code ({ cls := "java/util/AbstractList$SubList", name := "addAll", desc := "(Ljava/util/Collection;)Z" } : Jvm.MethodName) prog_42_method_9_code (2 : Nat) (Option.some Jvm.ClassFile.FieldType.boolean)) ∈ lw_all := lw_g (lw_at lw_m13 199 rfl) rfl
theorem q3135 : (Jvm.Cond.methodLink "java/util/AbstractList$SubList" (63 : Nat) ({ cls := "java/util/AbstractList$SubList", name := "addAll", desc := "(ILjava/util/Collection;)Z" } : Jvm.MethodName)) ∈ lw_all := lw_g (lw_at lw_m13 200 rfl) rfl
theorem q3136 : (Jvm.Cond.instanceMethod ({ cls := "java/util/AbstractList$SubList", name := "addAll", desc := "(ILjava/util/Collection;)Z" } : Jvm.MethodName)) ∈ lw_all := lw_g (lw_at lw_m13 201 rfl) rfl
theorem q3137 : (Jvm.Cond.selects "java/util/AbstractList$SubList" ({ cls := "java/util/AbstractList$SubList", name := "addAll", desc := "(ILjava/util/Collection;)Z" } : Jvm.MethodName) ({ cls := "java/util/AbstractList$SubList", name := "addAll", desc := "(ILjava/util/Collection;)Z" } : Jvm.MethodName)) ∈ lw_all := lw_g (lw_at lw_m13 202 rfl) rfl
theorem q3138 : (Jvm.Cond.sameMethod "java/util/AbstractList$SubList" "java/util/AbstractList$SubList" "addAll" "(ILjava/util/Collection;)Z") ∈ lw_all := lw_g (lw_at lw_m13 203 rfl) rfl
theorem q3140 : (Jvm.Cond.code ({ cls := "java/util/AbstractList$SubList", name := "addAll", desc := "(ILjava/util/Collection;)Z" } : Jvm.MethodName) prog_42_method_10_code (4 : Nat) (Option.some Jvm.ClassFile.FieldType.boolean)) ∈ lw_all := lw_g (lw_at lw_m13 205 rfl) rfl
theorem q3141 : (Jvm.Cond.interfaceEntry "java/util/AbstractList$SubList" (67 : Nat)) ∈ lw_tbl := lw_at lw_m13 206 rfl
theorem q3142 : (Jvm.Cond.methodLink "java/util/AbstractList$SubList" (67 : Nat) ({ cls := "java/util/Collection", name := "size", desc := "()I" } : Jvm.MethodName)) ∈ lw_all := lw_g (lw_at lw_m13 207 rfl) rfl
theorem q3143 : (Jvm.Cond.methodLink "java/util/AbstractList$SubList" (72 : Nat) ({ cls := "java/util/AbstractList", name := "addAll", desc := "(ILjava/util/Collection;)Z" } : Jvm.MethodName)) ∈ lw_all := lw_g (lw_at lw_m13 208 rfl) rfl
theorem q3147 : (Jvm.Cond.selects "java/util/AbstractList$SubList" ({ cls := "java/util/AbstractList", name := "addAll", desc := "(ILjava/util/Collection;)Z" } : Jvm.MethodName) ({ cls := "java/util/AbstractList$SubList", name := "addAll", desc := "(ILjava/util/Collection;)Z" } : Jvm.MethodName)) ∈ lw_all := lw_g (lw_at lw_m13 212 rfl) rfl
theorem q3156 : (Jvm.Cond.selects "java/util/AbstractList$SubList" ({ cls := "java/util/Collection", name := "toArray", desc := "()[Ljava/lang/Object;" } : Jvm.MethodName) ({ cls := "java/util/AbstractCollection", name := "toArray", desc := "()[Ljava/lang/Object;" } : Jvm.MethodName)) ∈ lw_all := lw_g (lw_at lw_m13 221 rfl) rfl
theorem q3170 : (Jvm.Cond.selects "java/util/AbstractList$SubList" ({ cls := "java/util/List", name := "addAll", desc := "(Ljava/util/Collection;)Z" } : Jvm.MethodName) ({ cls := "java/util/AbstractList$SubList", name := "addAll", desc := "(Ljava/util/Collection;)Z" } : Jvm.MethodName)) ∈ lw_all := lw_g (lw_at lw_m13 235 rfl) rfl
theorem q3171 : (Jvm.Cond.unhidden "java/util/AbstractList$SubList" "addAll" "(Ljava/util/Collection;)Z") ∈ lw_tbl := lw_at lw_m13 236 rfl
theorem q3192 : (Jvm.Cond.selects "java/util/AbstractList$SubList" ({ cls := "java/util/AbstractCollection", name := "add", desc := "(Ljava/lang/Object;)Z" } : Jvm.MethodName) ({ cls := "java/util/AbstractList", name := "add", desc := "(Ljava/lang/Object;)Z" } : Jvm.MethodName)) ∈ lw_all := lw_g (lw_at lw_m14 17 rfl) rfl
theorem q3210 : (Jvm.Cond.publicMethod ({ cls := "java/util/AbstractList$SubList", name := "remove", desc := "(I)Ljava/lang/Object;" } : Jvm.MethodName)) ∈ lw_tbl := lw_at lw_m14 35 rfl
theorem q3211 : (Jvm.Cond.selects "java/util/AbstractList$SubList" ({ cls := "java/util/List", name := "remove", desc := "(I)Ljava/lang/Object;" } : Jvm.MethodName) ({ cls := "java/util/AbstractList$SubList", name := "remove", desc := "(I)Ljava/lang/Object;" } : Jvm.MethodName)) ∈ lw_all := lw_g (lw_at lw_m14 36 rfl) rfl
theorem q3212 : (Jvm.Cond.unhidden "java/util/AbstractList$SubList" "remove" "(I)Ljava/lang/Object;") ∈ lw_tbl := lw_at lw_m14 37 rfl
theorem q3260 : (Jvm.Cond.selects "java/util/AbstractList$SubList" ({ cls := "java/util/List", name := "remove", desc := "(Ljava/lang/Object;)Z" } : Jvm.MethodName) ({ cls := "java/util/AbstractCollection", name := "remove", desc := "(Ljava/lang/Object;)Z" } : Jvm.MethodName)) ∈ lw_all := lw_g (lw_at lw_m14 85 rfl) rfl
theorem q3261 : (Jvm.Cond.unhidden "java/util/AbstractList$SubList" "remove" "(Ljava/lang/Object;)Z") ∈ lw_tbl := lw_at lw_m14 86 rfl
theorem q3290 : (Jvm.Cond.selects "java/util/AbstractList$SubList" ({ cls := "java/util/List", name := "removeAll", desc := "(Ljava/util/Collection;)Z" } : Jvm.MethodName) ({ cls := "java/util/AbstractCollection", name := "removeAll", desc := "(Ljava/util/Collection;)Z" } : Jvm.MethodName)) ∈ lw_all := lw_g (lw_at lw_m14 115 rfl) rfl
theorem q3291 : (Jvm.Cond.unhidden "java/util/AbstractList$SubList" "removeAll" "(Ljava/util/Collection;)Z") ∈ lw_tbl := lw_at lw_m14 116 rfl
theorem q3331 : (Jvm.Cond.selects "java/util/AbstractList$SubList" ({ cls := "java/util/List", name := "retainAll", desc := "(Ljava/util/Collection;)Z" } : Jvm.MethodName) ({ cls := "java/util/AbstractCollection", name := "retainAll", desc := "(Ljava/util/Collection;)Z" } : Jvm.MethodName)) ∈ lw_all := lw_g (lw_at lw_m14 156 rfl) rfl
theorem q3332 : (Jvm.Cond.unhidden "java/util/AbstractList$SubList" "retainAll" "(Ljava/util/Collection;)Z") ∈ lw_tbl := lw_at lw_m14 157 rfl
theorem q3398 : (Jvm.Cond.unhidden "java/util/AbstractList$SubList" "removeIf" "(Ljava/util/function/Predicate;)Z") ∈ lw_tbl := lw_at lw_m14 223 rfl
theorem q3846 : (Jvm.Cond.sameMethod "java/util/AbstractList$SubList" "java/util/AbstractList$SubList" "checkForComodification" "()V") ∈ lw_all := lw_g (lw_at lw_m16 191 rfl) rfl
theorem q3848 : (Jvm.Cond.sameMethod "java/util/AbstractList$SubList" "java/util/AbstractList$SubList" "rangeCheckForAdd" "(I)V") ∈ lw_all := lw_g (lw_at lw_m16 193 rfl) rfl
theorem q3850 : (Jvm.Cond.sameMethod "java/util/AbstractList$SubList" "java/util/AbstractList$SubList" "outOfBoundsMsg" "(I)Ljava/lang/String;") ∈ lw_all := lw_g (lw_at lw_m16 195 rfl) rfl
theorem q3870 : (Jvm.Cond.sameMethod "java/util/AbstractList$SubList" "java/util/AbstractList$SubList" "updateSizeAndModCount" "(I)V") ∈ lw_all := lw_g (lw_at lw_m16 215 rfl) rfl
theorem q3876 : (Jvm.Cond.selects "java/util/AbstractList$SubList" ({ cls := "java/util/AbstractCollection", name := "size", desc := "()I" } : Jvm.MethodName) ({ cls := "java/util/AbstractList$SubList", name := "size", desc := "()I" } : Jvm.MethodName)) ∈ lw_all := lw_g (lw_at lw_m16 221 rfl) rfl
theorem q3885 : (Jvm.Cond.selects "java/util/AbstractList$SubList" ({ cls := "java/util/AbstractCollection", name := "contains", desc := "(Ljava/lang/Object;)Z" } : Jvm.MethodName) ({ cls := "java/util/AbstractCollection", name := "contains", desc := "(Ljava/lang/Object;)Z" } : Jvm.MethodName)) ∈ lw_all := lw_g (lw_at lw_m16 230 rfl) rfl
theorem q3912 : (Jvm.Cond.castable "java/util/AbstractList$SubList" "java/lang/Object") ∈ lw_tbl := lw_at lw_m17 17 rfl
theorem in_J18 : ∀ w ∈ wsJ180, w ∈ lw_all := lw_in wsJ180 [2114, 2110, 2111, 2112, 2113] (by decide +kernel) (by decide +kernel)

/-! java/util/AbstractList$RandomAccessSubList -/
set_option maxRecDepth 100000
def RJ19 : String := "java/util/AbstractList$RandomAccessSubList"
def TJ19 : u_T := fun k => match k with
  | 0 => ("java/util/AbstractList", "modCount", "I", false)
  | 1 => ("java/util/AbstractList$SubList", "root", "Ljava/util/AbstractList;", true)
  | 2 => ("java/util/AbstractList$SubList", "parent", "Ljava/util/AbstractList$SubList;", true)
  | 3 => ("java/util/AbstractList$SubList", "offset", "I", true)
  | _ => ("java/util/AbstractList$SubList", "size", "I", false)
def tyJ19 : Nat → FieldType := fun k => match k with
  | 0 => .int
  | 1 => .object "java/util/AbstractList"
  | 2 => .object "java/util/AbstractList$SubList"
  | 3 => .int
  | _ => .int
abbrev wsJ190 : List Cond := u_ws RJ19 TJ19 5
theorem nmJ19 : ∀ a, a < 5 → ∀ b, b < 5 → a ≠ b → (TJ19 a).2.1 ≠ (TJ19 b).2.1 := by decide +kernel
theorem tyJ19_ok : ∀ k, k < 5 → parseFieldDescriptor (TJ19 k).2.2.1 = some (tyJ19 k) := by decide +kernel
abbrev cJ19_subList : ByteArray := prog_41_method_3_code
def yJ19_subList : MethodName := ⟨RJ19, "subList", "(II)Ljava/util/List;"⟩
def dkwJ19_subList_0 : List UInt8 := [27, 28, 42, 180, 0, 10, 184, 0, 16, 187, 0, 11, 89, 42, 27, 28, 183, 0, 20, 176]
abbrev dktJ19_subList_0 : List UInt8 := dkwJ19_subList_0 ++ []
theorem dksJ19_subList_0 : cJ19_subList.data.toList.drop 0 = dktJ19_subList_0 := by decide +kernel
theorem dJ19_subList_0 : decode cJ19_subList 0 = .ok (.iload_n 1, 1) := dk_27 (dk_at dksJ19_subList_0 0 rfl rfl)
theorem dJ19_subList_1 : decode cJ19_subList 1 = .ok (.iload_n 2, 1) := dk_28 (dk_at dksJ19_subList_0 1 rfl rfl)
theorem dJ19_subList_2 : decode cJ19_subList 2 = .ok (.aload_n 0, 1) := dk_42 (dk_at dksJ19_subList_0 2 rfl rfl)
theorem dJ19_subList_3 : decode cJ19_subList 3 = .ok (.getfield 10, 3) := dk_180 0 10 (dk_at dksJ19_subList_0 3 rfl rfl)
theorem dJ19_subList_6 : decode cJ19_subList 6 = .ok (.invokestatic 16, 3) := dk_184 0 16 (dk_at dksJ19_subList_0 6 rfl rfl)
theorem dJ19_subList_9 : decode cJ19_subList 9 = .ok (.new 11, 3) := dk_187 0 11 (dk_at dksJ19_subList_0 9 rfl rfl)
theorem dJ19_subList_12 : decode cJ19_subList 12 = .ok (.dup, 1) := dk_89 (dk_at dksJ19_subList_0 12 rfl rfl)
theorem dJ19_subList_13 : decode cJ19_subList 13 = .ok (.aload_n 0, 1) := dk_42 (dk_at dksJ19_subList_0 13 rfl rfl)
theorem dJ19_subList_14 : decode cJ19_subList 14 = .ok (.iload_n 1, 1) := dk_27 (dk_at dksJ19_subList_0 14 rfl rfl)
theorem dJ19_subList_15 : decode cJ19_subList 15 = .ok (.iload_n 2, 1) := dk_28 (dk_at dksJ19_subList_0 15 rfl rfl)
theorem dJ19_subList_16 : decode cJ19_subList 16 = .ok (.invokespecial 20, 3) := dk_183 0 20 (dk_at dksJ19_subList_0 16 rfl rfl)
theorem dJ19_subList_19 : decode cJ19_subList 19 = .ok (.areturn, 1) := dk_176 (dk_at dksJ19_subList_0 19 rfl rfl)
abbrev cJ19_init : ByteArray := prog_41_method_2_code
def yJ19_init : MethodName := ⟨RJ19, "<init>", "(Ljava/util/AbstractList$RandomAccessSubList;II)V"⟩
def dkwJ19_init_0 : List UInt8 := [42, 43, 28, 29, 183, 0, 7, 177]
abbrev dktJ19_init_0 : List UInt8 := dkwJ19_init_0 ++ []
theorem dksJ19_init_0 : cJ19_init.data.toList.drop 0 = dktJ19_init_0 := by decide +kernel
theorem dJ19_init_0 : decode cJ19_init 0 = .ok (.aload_n 0, 1) := dk_42 (dk_at dksJ19_init_0 0 rfl rfl)
theorem dJ19_init_1 : decode cJ19_init 1 = .ok (.aload_n 1, 1) := dk_43 (dk_at dksJ19_init_0 1 rfl rfl)
theorem dJ19_init_2 : decode cJ19_init 2 = .ok (.iload_n 2, 1) := dk_28 (dk_at dksJ19_init_0 2 rfl rfl)
theorem dJ19_init_3 : decode cJ19_init 3 = .ok (.iload_n 3, 1) := dk_29 (dk_at dksJ19_init_0 3 rfl rfl)
theorem dJ19_init_4 : decode cJ19_init 4 = .ok (.invokespecial 7, 3) := dk_183 0 7 (dk_at dksJ19_init_0 4 rfl rfl)
theorem dJ19_init_7 : decode cJ19_init 7 = .ok (.return_, 1) := dk_177 (dk_at dksJ19_init_0 7 rfl rfl)
abbrev cJ19_init_2 : ByteArray := prog_41_method_1_code
def yJ19_init_2 : MethodName := ⟨RJ19, "<init>", "(Ljava/util/AbstractList;II)V"⟩
def dkwJ19_init_2_0 : List UInt8 := [42, 43, 28, 29, 183, 0, 1, 177]
abbrev dktJ19_init_2_0 : List UInt8 := dkwJ19_init_2_0 ++ []
theorem dksJ19_init_2_0 : cJ19_init_2.data.toList.drop 0 = dktJ19_init_2_0 := by decide +kernel
theorem dJ19_init_2_0 : decode cJ19_init_2 0 = .ok (.aload_n 0, 1) := dk_42 (dk_at dksJ19_init_2_0 0 rfl rfl)
theorem dJ19_init_2_1 : decode cJ19_init_2 1 = .ok (.aload_n 1, 1) := dk_43 (dk_at dksJ19_init_2_0 1 rfl rfl)
theorem dJ19_init_2_2 : decode cJ19_init_2 2 = .ok (.iload_n 2, 1) := dk_28 (dk_at dksJ19_init_2_0 2 rfl rfl)
theorem dJ19_init_2_3 : decode cJ19_init_2 3 = .ok (.iload_n 3, 1) := dk_29 (dk_at dksJ19_init_2_0 3 rfl rfl)
theorem dJ19_init_2_4 : decode cJ19_init_2 4 = .ok (.invokespecial 1, 3) := dk_183 0 1 (dk_at dksJ19_init_2_0 4 rfl rfl)
theorem dJ19_init_2_7 : decode cJ19_init_2 7 = .ok (.return_, 1) := dk_177 (dk_at dksJ19_init_2_0 7 rfl rfl)
theorem q80 : (Jvm.Cond.initialized "java/util/AbstractList$RandomAccessSubList") ∈ lw_all := lw_g (lw_at lw_m1 25 rfl) rfl
theorem q236 : (Jvm.Cond.selects "java/util/AbstractList$RandomAccessSubList" ({ cls := "java/lang/Object", name := "getClass", desc := "()Ljava/lang/Class;" } : Jvm.MethodName) ({ cls := "java/lang/Object", name := "getClass", desc := "()Ljava/lang/Class;" } : Jvm.MethodName)) ∈ lw_all := lw_g (lw_at lw_m1 181 rfl) rfl
theorem q349 : (Jvm.Cond.castable "java/util/AbstractList$RandomAccessSubList" "java/util/List") ∈ lw_tbl := lw_at lw_m2 54 rfl
theorem q350 : (Jvm.Cond.selects "java/util/AbstractList$RandomAccessSubList" ({ cls := "java/util/List", name := "size", desc := "()I" } : Jvm.MethodName) ({ cls := "java/util/AbstractList$SubList", name := "size", desc := "()I" } : Jvm.MethodName)) ∈ lw_all := lw_g (lw_at lw_m2 55 rfl) rfl
theorem q351 : (Jvm.Cond.unhidden "java/util/AbstractList$RandomAccessSubList" "size" "()I") ∈ lw_tbl := lw_at lw_m2 56 rfl
theorem q391 : (Jvm.Cond.selects "java/util/AbstractList$RandomAccessSubList" ({ cls := "java/util/List", name := "equals", desc := "(Ljava/lang/Object;)Z" } : Jvm.MethodName) ({ cls := "java/util/AbstractList", name := "equals", desc := "(Ljava/lang/Object;)Z" } : Jvm.MethodName)) ∈ lw_all := lw_g (lw_at lw_m2 96 rfl) rfl
theorem q392 : (Jvm.Cond.unhidden "java/util/AbstractList$RandomAccessSubList" "equals" "(Ljava/lang/Object;)Z") ∈ lw_tbl := lw_at lw_m2 97 rfl
theorem q400 : (Jvm.Cond.selects "java/util/AbstractList$RandomAccessSubList" ({ cls := "java/util/AbstractList", name := "listIterator", desc := "()Ljava/util/ListIterator;" } : Jvm.MethodName) ({ cls := "java/util/AbstractList", name := "listIterator", desc := "()Ljava/util/ListIterator;" } : Jvm.MethodName)) ∈ lw_all := lw_g (lw_at lw_m2 105 rfl) rfl
theorem q442 : (Jvm.Cond.selects "java/util/AbstractList$RandomAccessSubList" ({ cls := "java/util/AbstractList", name := "listIterator", desc := "(I)Ljava/util/ListIterator;" } : Jvm.MethodName) ({ cls := "java/util/AbstractList$SubList", name := "listIterator", desc := "(I)Ljava/util/ListIterator;" } : Jvm.MethodName)) ∈ lw_all := lw_g (lw_at lw_m2 147 rfl) rfl
theorem q859 : (Jvm.Cond.selects "java/util/AbstractList$RandomAccessSubList" ({ cls := "java/util/AbstractList", name := "size", desc := "()I" } : Jvm.MethodName) ({ cls := "java/util/AbstractList$SubList", name := "size", desc := "()I" } : Jvm.MethodName)) ∈ lw_all := lw_g (lw_at lw_m4 84 rfl) rfl
theorem q912 : (Jvm.Cond.selects "java/util/AbstractList$RandomAccessSubList" ({ cls := "java/util/List", name := "listIterator", desc := "()Ljava/util/ListIterator;" } : Jvm.MethodName) ({ cls := "java/util/AbstractList", name := "listIterator", desc := "()Ljava/util/ListIterator;" } : Jvm.MethodName)) ∈ lw_all := lw_g (lw_at lw_m4 137 rfl) rfl
theorem q913 : (Jvm.Cond.unhidden "java/util/AbstractList$RandomAccessSubList" "listIterator" "()Ljava/util/ListIterator;") ∈ lw_tbl := lw_at lw_m4 138 rfl
theorem q997 : (Jvm.Cond.selects "java/util/AbstractList$RandomAccessSubList" ({ cls := "java/util/AbstractList", name := "get", desc := "(I)Ljava/lang/Object;" } : Jvm.MethodName) ({ cls := "java/util/AbstractList$SubList", name := "get", desc := "(I)Ljava/lang/Object;" } : Jvm.MethodName)) ∈ lw_all := lw_g (lw_at lw_m4 222 rfl) rfl
theorem q1166 : (Jvm.Cond.selects "java/util/AbstractList$RandomAccessSubList" ({ cls := "java/util/List", name := "iterator", desc := "()Ljava/util/Iterator;" } : Jvm.MethodName) ({ cls := "java/util/AbstractList$SubList", name := "iterator", desc := "()Ljava/util/Iterator;" } : Jvm.MethodName)) ∈ lw_all := lw_g (lw_at lw_m5 151 rfl) rfl
theorem q1167 : (Jvm.Cond.unhidden "java/util/AbstractList$RandomAccessSubList" "iterator" "()Ljava/util/Iterator;") ∈ lw_tbl := lw_at lw_m5 152 rfl
theorem q1174 : (Jvm.Cond.selects "java/util/AbstractList$RandomAccessSubList" ({ cls := "java/util/AbstractList$SubList", name := "listIterator", desc := "()Ljava/util/ListIterator;" } : Jvm.MethodName) ({ cls := "java/util/AbstractList", name := "listIterator", desc := "()Ljava/util/ListIterator;" } : Jvm.MethodName)) ∈ lw_all := lw_g (lw_at lw_m5 159 rfl) rfl
theorem q1272 : (Jvm.Cond.selects "java/util/AbstractList$RandomAccessSubList" ({ cls := "java/util/List", name := "hashCode", desc := "()I" } : Jvm.MethodName) ({ cls := "java/util/AbstractList", name := "hashCode", desc := "()I" } : Jvm.MethodName)) ∈ lw_all := lw_g (lw_at lw_m6 17 rfl) rfl
theorem q1273 : (Jvm.Cond.unhidden "java/util/AbstractList$RandomAccessSubList" "hashCode" "()I") ∈ lw_tbl := lw_at lw_m6 18 rfl
theorem q1280 : (Jvm.Cond.selects "java/util/AbstractList$RandomAccessSubList" ({ cls := "java/util/AbstractList", name := "iterator", desc := "()Ljava/util/Iterator;" } : Jvm.MethodName) ({ cls := "java/util/AbstractList$SubList", name := "iterator", desc := "()Ljava/util/Iterator;" } : Jvm.MethodName)) ∈ lw_all := lw_g (lw_at lw_m6 25 rfl) rfl
theorem q1417 : (Jvm.Cond.selects "java/util/AbstractList$RandomAccessSubList" ({ cls := "java/util/List", name := "indexOf", desc := "(Ljava/lang/Object;)I" } : Jvm.MethodName) ({ cls := "java/util/AbstractList", name := "indexOf", desc := "(Ljava/lang/Object;)I" } : Jvm.MethodName)) ∈ lw_all := lw_g (lw_at lw_m6 162 rfl) rfl
theorem q1418 : (Jvm.Cond.unhidden "java/util/AbstractList$RandomAccessSubList" "indexOf" "(Ljava/lang/Object;)I") ∈ lw_tbl := lw_at lw_m6 163 rfl
theorem q1476 : (Jvm.Cond.selects "java/util/AbstractList$RandomAccessSubList" ({ cls := "java/util/List", name := "lastIndexOf", desc := "(Ljava/lang/Object;)I" } : Jvm.MethodName) ({ cls := "java/util/AbstractList", name := "lastIndexOf", desc := "(Ljava/lang/Object;)I" } : Jvm.MethodName)) ∈ lw_all := lw_g (lw_at lw_m6 221 rfl) rfl
theorem q1477 : (Jvm.Cond.unhidden "java/util/AbstractList$RandomAccessSubList" "lastIndexOf" "(Ljava/lang/Object;)I") ∈ lw_tbl := lw_at lw_m6 222 rfl
theorem q1569 : (Jvm.Cond.selects "java/util/AbstractList$RandomAccessSubList" ({ cls := "java/util/List", name := "get", desc := "(I)Ljava/lang/Object;" } : Jvm.MethodName) ({ cls := "java/util/AbstractList$SubList", name := "get", desc := "(I)Ljava/lang/Object;" } : Jvm.MethodName)) ∈ lw_all := lw_g (lw_at lw_m7 74 rfl) rfl
theorem q1570 : (Jvm.Cond.unhidden "java/util/AbstractList$RandomAccessSubList" "get" "(I)Ljava/lang/Object;") ∈ lw_tbl := lw_at lw_m7 75 rfl
theorem q1627 : (Jvm.Cond.selects "java/util/AbstractList$RandomAccessSubList" ({ cls := "java/util/List", name := "listIterator", desc := "(I)Ljava/util/ListIterator;" } : Jvm.MethodName) ({ cls := "java/util/AbstractList$SubList", name := "listIterator", desc := "(I)Ljava/util/ListIterator;" } : Jvm.MethodName)) ∈ lw_all := lw_g (lw_at lw_m7 132 rfl) rfl
theorem q1628 : (Jvm.Cond.unhidden "java/util/AbstractList$RandomAccessSubList" "listIterator" "(I)Ljava/util/ListIterator;") ∈ lw_tbl := lw_at lw_m7 133 rfl
theorem q1653 : (Jvm.Cond.selects "java/util/AbstractList$RandomAccessSubList" ({ cls := "java/util/List", name := "add", desc := "(Ljava/lang/Object;)Z" } : Jvm.MethodName) ({ cls := "java/util/AbstractList", name := "add", desc := "(Ljava/lang/Object;)Z" } : Jvm.MethodName)) ∈ lw_all := lw_g (lw_at lw_m7 158 rfl) rfl
theorem q1654 : (Jvm.Cond.unhidden "java/util/AbstractList$RandomAccessSubList" "add" "(Ljava/lang/Object;)Z") ∈ lw_tbl := lw_at lw_m7 159 rfl
theorem q1661 : (Jvm.Cond.selects "java/util/AbstractList$RandomAccessSubList" ({ cls := "java/util/AbstractList", name := "add", desc := "(ILjava/lang/Object;)V" } : Jvm.MethodName) ({ cls := "java/util/AbstractList$SubList", name := "add", desc := "(ILjava/lang/Object;)V" } : Jvm.MethodName)) ∈ lw_all := lw_g (lw_at lw_m7 166 rfl) rfl
theorem q1718 : (Jvm.Cond.selects "java/util/AbstractList$RandomAccessSubList" ({ cls := "java/util/List", name := "clear", desc := "()V" } : Jvm.MethodName) ({ cls := "java/util/AbstractList", name := "clear", desc := "()V" } : Jvm.MethodName)) ∈ lw_all := lw_g (lw_at lw_m7 223 rfl) rfl
theorem q1719 : (Jvm.Cond.unhidden "java/util/AbstractList$RandomAccessSubList" "clear" "()V") ∈ lw_tbl := lw_at lw_m7 224 rfl
theorem q1726 : (Jvm.Cond.selects "java/util/AbstractList$RandomAccessSubList" ({ cls := "java/util/AbstractList", name := "removeRange", desc := "(II)V" } : Jvm.MethodName) ({ cls := "java/util/AbstractList$SubList", name := "removeRange", desc := "(II)V" } : Jvm.MethodName)) ∈ lw_all := lw_g (lw_at lw_m7 231 rfl) rfl
theorem q1776 : (Jvm.Cond.selects "java/util/AbstractList$RandomAccessSubList" ({ cls := "java/util/AbstractList", name := "remove", desc := "(I)Ljava/lang/Object;" } : Jvm.MethodName) ({ cls := "java/util/AbstractList$SubList", name := "remove", desc := "(I)Ljava/lang/Object;" } : Jvm.MethodName)) ∈ lw_all := lw_g (lw_at lw_m8 41 rfl) rfl
theorem q1852 : (Jvm.Cond.selects "java/util/AbstractList$RandomAccessSubList" ({ cls := "java/util/List", name := "isEmpty", desc := "()Z" } : Jvm.MethodName) ({ cls := "java/util/AbstractCollection", name := "isEmpty", desc := "()Z" } : Jvm.MethodName)) ∈ lw_all := lw_g (lw_at lw_m8 117 rfl) rfl
theorem q1853 : (Jvm.Cond.unhidden "java/util/AbstractList$RandomAccessSubList" "isEmpty" "()Z") ∈ lw_tbl := lw_at lw_m8 118 rfl
theorem q1903 : (Jvm.Cond.castable "java/util/AbstractList$RandomAccessSubList" "java/lang/Iterable") ∈ lw_tbl := lw_at lw_m8 168 rfl
theorem q1904 : (Jvm.Cond.unhidden "java/util/AbstractList$RandomAccessSubList" "forEach" "(Ljava/util/function/Consumer;)V") ∈ lw_tbl := lw_at lw_m8 169 rfl
theorem q1913 : (Jvm.Cond.selects "java/util/AbstractList$RandomAccessSubList" ({ cls := "java/lang/Iterable", name := "iterator", desc := "()Ljava/util/Iterator;" } : Jvm.MethodName) ({ cls := "java/util/AbstractList$SubList", name := "iterator", desc := "()Ljava/util/Iterator;" } : Jvm.MethodName)) ∈ lw_all := lw_g (lw_at lw_m8 178 rfl) rfl
theorem q2057 : (Jvm.Cond.selects "java/util/AbstractList$RandomAccessSubList" ({ cls := "java/util/List", name := "subList", desc := "(II)Ljava/util/List;" } : Jvm.MethodName) ({ cls := "java/util/AbstractList$RandomAccessSubList", name := "subList", desc := "(II)Ljava/util/List;" } : Jvm.MethodName)) ∈ lw_all := lw_g (lw_at lw_m9 82 rfl) rfl
theorem q2058 : (Jvm.Cond.unhidden "java/util/AbstractList$RandomAccessSubList" "subList" "(II)Ljava/util/List;") ∈ lw_tbl := lw_at lw_m9 83 rfl
theorem q2059 : (Jvm.Cond.instanceMethod ({ cls := "java/util/AbstractList$RandomAccessSubList", name := "subList", desc := "(II)Ljava/util/List;" } : Jvm.MethodName)) ∈ lw_all := lw_g (lw_at lw_m9 84 rfl) rfl
theorem q2060 : (Jvm.Cond.publicMethod ({ cls := "java/util/AbstractList$RandomAccessSubList", name := "subList", desc := "(II)Ljava/util/List;" } : Jvm.MethodName)) ∈ lw_tbl := lw_at lw_m9 85 rfl
theorem q2061 : (Jvm.Cond.code ({ cls := "java/util/AbstractList$RandomAccessSubList", name := "subList", desc := "(II)Ljava/util/List;" } : Jvm.MethodName) prog_41_method_3_code (3 : Nat) (Option.some (Jvm.ClassFile.FieldType.object "java/util/List"))) ∈ lw_all := lw_g (lw_at lw_m9 86 rfl) rfl
theorem q2062 : (Jvm.Cond.methodLink "java/util/AbstractList$RandomAccessSubList" (16 : Nat) ({ cls := "java/util/AbstractList$RandomAccessSubList", name := "subListRangeCheck", desc := "(III)V" } : Jvm.MethodName)) ∈ lw_all := lw_g (lw_at lw_m9 87 rfl) rfl
theorem q2063 : (Jvm.Cond.sameMethod "java/util/AbstractList$RandomAccessSubList" "java/util/AbstractList" "subListRangeCheck" "(III)V") ∈ lw_all := lw_g (lw_at lw_m9 88 rfl) rfl
theorem q2073 : (Jvm.Cond.classLink "java/util/AbstractList$RandomAccessSubList" (11 : Nat) "java/util/AbstractList$RandomAccessSubList") ∈ lw_all := lw_g (lw_at lw_m9 98 rfl) rfl
theorem q2074 : (Jvm.Cond.instantiable "java/util/AbstractList$RandomAccessSubList" (5 : Nat)) ∈ lw_all := lw_g (lw_at lw_m9 99 rfl) rfl
theorem q2075 : (Jvm.Cond.methodLink "java/util/AbstractList$RandomAccessSubList" (20 : Nat) ({ cls := "java/util/AbstractList$RandomAccessSubList", name := "<init>", desc := "(Ljava/util/AbstractList$RandomAccessSubList;II)V" } : Jvm.MethodName)) ∈ lw_all := lw_g (lw_at lw_m9 100 rfl) rfl
theorem q2076 : (Jvm.Cond.instanceMethod ({ cls := "java/util/AbstractList$RandomAccessSubList", name := "<init>", desc := "(Ljava/util/AbstractList$RandomAccessSubList;II)V" } : Jvm.MethodName)) ∈ lw_all := lw_g (lw_at lw_m9 101 rfl) rfl
theorem q2077 : (Jvm.Cond.code ({ cls := "java/util/AbstractList$RandomAccessSubList", name := "<init>", desc := "(Ljava/util/AbstractList$RandomAccessSubList;II)V" } : Jvm.MethodName) prog_41_method_2_code (4 : Nat) (Option.none : Option Jvm.ClassFile.FieldType)) ∈ lw_all := lw_g (lw_at lw_m9 102 rfl) rfl
theorem q2078 : (Jvm.Cond.methodLink "java/util/AbstractList$RandomAccessSubList" (7 : Nat) ({ cls := "java/util/AbstractList$SubList", name := "<init>", desc := "(Ljava/util/AbstractList$SubList;II)V" } : Jvm.MethodName)) ∈ lw_all := lw_g (lw_at lw_m9 103 rfl) rfl
theorem q2089 : (Jvm.Cond.fieldLink "java/util/AbstractList$RandomAccessSubList" (10 : Nat) "java/util/AbstractList$RandomAccessSubList" "size" "I") ∈ lw_all := lw_g (lw_at lw_m9 114 rfl) rfl
theorem q2090 : (Jvm.Cond.sameField "java/util/AbstractList$RandomAccessSubList" "java/util/AbstractList$SubList" "size" "I") ∈ lw_all := lw_g (lw_at lw_m9 115 rfl) rfl
theorem q2091 : (Jvm.Cond.laysFinal "java/util/AbstractList$RandomAccessSubList" "java/util/AbstractList$SubList" "root" "Ljava/util/AbstractList;") ∈ lw_all := lw_g (lw_at lw_m9 116 rfl) rfl
theorem q2093 : (Jvm.Cond.laysFinal "java/util/AbstractList$RandomAccessSubList" "java/util/AbstractList$SubList" "parent" "Ljava/util/AbstractList$SubList;") ∈ lw_all := lw_g (lw_at lw_m9 118 rfl) rfl
theorem q2095 : (Jvm.Cond.laysFinal "java/util/AbstractList$RandomAccessSubList" "java/util/AbstractList$SubList" "offset" "I") ∈ lw_all := lw_g (lw_at lw_m9 120 rfl) rfl
theorem q2097 : (Jvm.Cond.lays "java/util/AbstractList$RandomAccessSubList" "java/util/AbstractList$SubList" "size" "I") ∈ lw_all := lw_g (lw_at lw_m9 122 rfl) rfl
theorem q2099 : (Jvm.Cond.lays "java/util/AbstractList$RandomAccessSubList" "java/util/AbstractList" "modCount" "I") ∈ lw_all := lw_g (lw_at lw_m9 124 rfl) rfl
theorem q2100 : (Jvm.Cond.superclass "java/util/AbstractList$RandomAccessSubList" "java/util/AbstractList$SubList") ∈ lw_all := lw_g (lw_at lw_m9 125 rfl) rfl
theorem q2165 : (Jvm.Cond.instanceMethod ({ cls := "java/util/AbstractList$RandomAccessSubList", name := "<init>", desc := "(Ljava/util/AbstractList;II)V" } : Jvm.MethodName)) ∈ lw_all := lw_g (lw_at lw_m9 190 rfl) rfl
theorem q2166 : (Jvm.Cond.code ({ cls := "java/util/AbstractList$RandomAccessSubList", name := "<init>", desc := "(Ljava/util/AbstractList;II)V" } : Jvm.MethodName) prog_41_method_1_code (4 : Nat) (Option.none : Option Jvm.ClassFile.FieldType)) ∈ lw_all := lw_g (lw_at lw_m9 191 rfl) rfl
theorem q2167 : (Jvm.Cond.methodLink "java/util/AbstractList$RandomAccessSubList" (1 : Nat) ({ cls := "java/util/AbstractList$SubList", name := "<init>", desc := "(Ljava/util/AbstractList;II)V" } : Jvm.MethodName)) ∈ lw_all := lw_g (lw_at lw_m9 192 rfl) rfl
theorem q2187 : (Jvm.Cond.selects "java/util/AbstractList$RandomAccessSubList" ({ cls := "java/util/List", name := "set", desc := "(ILjava/lang/Object;)Ljava/lang/Object;" } : Jvm.MethodName) ({ cls := "java/util/AbstractList$SubList", name := "set", desc := "(ILjava/lang/Object;)Ljava/lang/Object;" } : Jvm.MethodName)) ∈ lw_all := lw_g (lw_at lw_m9 212 rfl) rfl
theorem q2188 : (Jvm.Cond.unhidden "java/util/AbstractList$RandomAccessSubList" "set" "(ILjava/lang/Object;)Ljava/lang/Object;") ∈ lw_tbl := lw_at lw_m9 213 rfl
theorem q2195 : (Jvm.Cond.selects "java/util/AbstractList$RandomAccessSubList" ({ cls := "java/util/AbstractList", name := "set", desc := "(ILjava/lang/Object;)Ljava/lang/Object;" } : Jvm.MethodName) ({ cls := "java/util/AbstractList$SubList", name := "set", desc := "(ILjava/lang/Object;)Ljava/lang/Object;" } : Jvm.MethodName)) ∈ lw_all := lw_g (lw_at lw_m9 220 rfl) rfl
theorem q2276 : (Jvm.Cond.selects "java/util/AbstractList$RandomAccessSubList" ({ cls := "java/util/List", name := "contains", desc := "(Ljava/lang/Object;)Z" } : Jvm.MethodName) ({ cls := "java/util/AbstractCollection", name := "contains", desc := "(Ljava/lang/Object;)Z" } : Jvm.MethodName)) ∈ lw_all := lw_g (lw_at lw_m10 61 rfl) rfl
theorem q2277 : (Jvm.Cond.unhidden "java/util/AbstractList$RandomAccessSubList" "contains" "(Ljava/lang/Object;)Z") ∈ lw_tbl := lw_at lw_m10 62 rfl
theorem q2284 : (Jvm.Cond.selects "java/util/AbstractList$RandomAccessSubList" ({ cls := "java/util/AbstractCollection", name := "iterator", desc := "()Ljava/util/Iterator;" } : Jvm.MethodName) ({ cls := "java/util/AbstractList$SubList", name := "iterator", desc := "()Ljava/util/Iterator;" } : Jvm.MethodName)) ∈ lw_all := lw_g (lw_at lw_m10 69 rfl) rfl
theorem q2328 : (Jvm.Cond.castable "java/util/AbstractList$RandomAccessSubList" "java/util/Collection") ∈ lw_tbl := lw_at lw_m10 113 rfl
theorem q2329 : (Jvm.Cond.selects "java/util/AbstractList$RandomAccessSubList" ({ cls := "java/util/Collection", name := "iterator", desc := "()Ljava/util/Iterator;" } : Jvm.MethodName) ({ cls := "java/util/AbstractList$SubList", name := "iterator", desc := "()Ljava/util/Iterator;" } : Jvm.MethodName)) ∈ lw_all := lw_g (lw_at lw_m10 114 rfl) rfl
theorem q2354 : (Jvm.Cond.selects "java/util/AbstractList$RandomAccessSubList" ({ cls := "java/util/List", name := "containsAll", desc := "(Ljava/util/Collection;)Z" } : Jvm.MethodName) ({ cls := "java/util/AbstractCollection", name := "containsAll", desc := "(Ljava/util/Collection;)Z" } : Jvm.MethodName)) ∈ lw_all := lw_g (lw_at lw_m10 139 rfl) rfl
theorem q2355 : (Jvm.Cond.unhidden "java/util/AbstractList$RandomAccessSubList" "containsAll" "(Ljava/util/Collection;)Z") ∈ lw_tbl := lw_at lw_m10 140 rfl
theorem q2385 : (Jvm.Cond.selects "java/util/AbstractList$RandomAccessSubList" ({ cls := "java/util/Collection", name := "size", desc := "()I" } : Jvm.MethodName) ({ cls := "java/util/AbstractList$SubList", name := "size", desc := "()I" } : Jvm.MethodName)) ∈ lw_all := lw_g (lw_at lw_m10 170 rfl) rfl
theorem q2394 : (Jvm.Cond.selects "java/util/AbstractList$RandomAccessSubList" ({ cls := "java/util/Collection", name := "contains", desc := "(Ljava/lang/Object;)Z" } : Jvm.MethodName) ({ cls := "java/util/AbstractCollection", name := "contains", desc := "(Ljava/lang/Object;)Z" } : Jvm.MethodName)) ∈ lw_all := lw_g (lw_at lw_m10 179 rfl) rfl
theorem q2542 : (Jvm.Cond.unhidden "java/util/AbstractList$RandomAccessSubList" "replaceAll" "(Ljava/util/function/UnaryOperator;)V") ∈ lw_tbl := lw_at lw_m11 87 rfl
theorem q2634 : (Jvm.Cond.unhidden "java/util/AbstractList$RandomAccessSubList" "sort" "(Ljava/util/Comparator;)V") ∈ lw_tbl := lw_at lw_m11 179 rfl
theorem q2642 : (Jvm.Cond.selects "java/util/AbstractList$RandomAccessSubList" ({ cls := "java/util/List", name := "toArray", desc := "()[Ljava/lang/Object;" } : Jvm.MethodName) ({ cls := "java/util/AbstractCollection", name := "toArray", desc := "()[Ljava/lang/Object;" } : Jvm.MethodName)) ∈ lw_all := lw_g (lw_at lw_m11 187 rfl) rfl
theorem q2643 : (Jvm.Cond.unhidden "java/util/AbstractList$RandomAccessSubList" "toArray" "()[Ljava/lang/Object;") ∈ lw_tbl := lw_at lw_m11 188 rfl
theorem q3105 : (Jvm.Cond.selects "java/util/AbstractList$RandomAccessSubList" ({ cls := "java/util/List", name := "add", desc := "(ILjava/lang/Object;)V" } : Jvm.MethodName) ({ cls := "java/util/AbstractList$SubList", name := "add", desc := "(ILjava/lang/Object;)V" } : Jvm.MethodName)) ∈ lw_all := lw_g (lw_at lw_m13 170 rfl) rfl
theorem q3106 : (Jvm.Cond.unhidden "java/util/AbstractList$RandomAccessSubList" "add" "(ILjava/lang/Object;)V") ∈ lw_tbl := lw_at lw_m13 171 rfl
theorem q3130 : (Jvm.Cond.selects "java/util/AbstractList$RandomAccessSubList" ({ cls := "java/util/List", name := "addAll", desc := "(Ljava/util/Collection;)Z" } : Jvm.MethodName) ({ cls := "java/util/AbstractList$SubList", name := "addAll", desc := "(Ljava/util/Collection;)Z" } : Jvm.MethodName)) ∈ lw_all := lw_g (lw_at lw_m13 195 rfl) rfl
theorem q3131 : (Jvm.Cond.unhidden "java/util/AbstractList$RandomAccessSubList" "addAll" "(Ljava/util/Collection;)Z") ∈ lw_tbl := lw_at lw_m13 196 rfl
theorem q3139 : (Jvm.Cond.selects "java/util/AbstractList$RandomAccessSubList" ({ cls := "java/util/AbstractList$SubList", name := "addAll", desc := "(ILjava/util/Collection;)Z" } : Jvm.MethodName) ({ cls := "java/util/AbstractList$SubList", name := "addAll", desc := "(ILjava/util/Collection;)Z" } : Jvm.MethodName)) ∈ lw_all := lw_g (lw_at lw_m13 204 rfl) rfl
theorem q3146 : (Jvm.Cond.selects "java/util/AbstractList$RandomAccessSubList" ({ cls := "java/util/AbstractList", name := "addAll", desc := "(ILjava/util/Collection;)Z" } : Jvm.MethodName) ({ cls := "java/util/AbstractList$SubList", name := "addAll", desc := "(ILjava/util/Collection;)Z" } : Jvm.MethodName)) ∈ lw_all := lw_g (lw_at lw_m13 211 rfl) rfl
theorem q3155 : (Jvm.Cond.selects "java/util/AbstractList$RandomAccessSubList" ({ cls := "java/util/Collection", name := "toArray", desc := "()[Ljava/lang/Object;" } : Jvm.MethodName) ({ cls := "java/util/AbstractCollection", name := "toArray", desc := "()[Ljava/lang/Object;" } : Jvm.MethodName)) ∈ lw_all := lw_g (lw_at lw_m13 220 rfl) rfl
theorem q3191 : (Jvm.Cond.selects "java/util/AbstractList$RandomAccessSubList" ({ cls := "java/util/AbstractCollection", name := "add", desc := "(Ljava/lang/Object;)Z" } : Jvm.MethodName) ({ cls := "java/util/AbstractList", name := "add", desc := "(Ljava/lang/Object;)Z" } : Jvm.MethodName)) ∈ lw_all := lw_g (lw_at lw_m14 16 rfl) rfl
theorem q3208 : (Jvm.Cond.selects "java/util/AbstractList$RandomAccessSubList" ({ cls := "java/util/List", name := "remove", desc := "(I)Ljava/lang/Object;" } : Jvm.MethodName) ({ cls := "java/util/AbstractList$SubList", name := "remove", desc := "(I)Ljava/lang/Object;" } : Jvm.MethodName)) ∈ lw_all := lw_g (lw_at lw_m14 33 rfl) rfl
theorem q3209 : (Jvm.Cond.unhidden "java/util/AbstractList$RandomAccessSubList" "remove" "(I)Ljava/lang/Object;") ∈ lw_tbl := lw_at lw_m14 34 rfl
theorem q3233 : (Jvm.Cond.selects "java/util/AbstractList$RandomAccessSubList" ({ cls := "java/util/List", name := "remove", desc := "(Ljava/lang/Object;)Z" } : Jvm.MethodName) ({ cls := "java/util/AbstractCollection", name := "remove", desc := "(Ljava/lang/Object;)Z" } : Jvm.MethodName)) ∈ lw_all := lw_g (lw_at lw_m14 58 rfl) rfl
theorem q3234 : (Jvm.Cond.unhidden "java/util/AbstractList$RandomAccessSubList" "remove" "(Ljava/lang/Object;)Z") ∈ lw_tbl := lw_at lw_m14 59 rfl
theorem q3282 : (Jvm.Cond.selects "java/util/AbstractList$RandomAccessSubList" ({ cls := "java/util/List", name := "removeAll", desc := "(Ljava/util/Collection;)Z" } : Jvm.MethodName) ({ cls := "java/util/AbstractCollection", name := "removeAll", desc := "(Ljava/util/Collection;)Z" } : Jvm.MethodName)) ∈ lw_all := lw_g (lw_at lw_m14 107 rfl) rfl
theorem q3283 : (Jvm.Cond.unhidden "java/util/AbstractList$RandomAccessSubList" "removeAll" "(Ljava/util/Collection;)Z") ∈ lw_tbl := lw_at lw_m14 108 rfl
theorem q3326 : (Jvm.Cond.selects "java/util/AbstractList$RandomAccessSubList" ({ cls := "java/util/List", name := "retainAll", desc := "(Ljava/util/Collection;)Z" } : Jvm.MethodName) ({ cls := "java/util/AbstractCollection", name := "retainAll", desc := "(Ljava/util/Collection;)Z" } : Jvm.MethodName)) ∈ lw_all := lw_g (lw_at lw_m14 151 rfl) rfl
theorem q3327 : (Jvm.Cond.unhidden "java/util/AbstractList$RandomAccessSubList" "retainAll" "(Ljava/util/Collection;)Z") ∈ lw_tbl := lw_at lw_m14 152 rfl
theorem q3369 : (Jvm.Cond.unhidden "java/util/AbstractList$RandomAccessSubList" "removeIf" "(Ljava/util/function/Predicate;)Z") ∈ lw_tbl := lw_at lw_m14 194 rfl
theorem q3875 : (Jvm.Cond.selects "java/util/AbstractList$RandomAccessSubList" ({ cls := "java/util/AbstractCollection", name := "size", desc := "()I" } : Jvm.MethodName) ({ cls := "java/util/AbstractList$SubList", name := "size", desc := "()I" } : Jvm.MethodName)) ∈ lw_all := lw_g (lw_at lw_m16 220 rfl) rfl
theorem q3884 : (Jvm.Cond.selects "java/util/AbstractList$RandomAccessSubList" ({ cls := "java/util/AbstractCollection", name := "contains", desc := "(Ljava/lang/Object;)Z" } : Jvm.MethodName) ({ cls := "java/util/AbstractCollection", name := "contains", desc := "(Ljava/lang/Object;)Z" } : Jvm.MethodName)) ∈ lw_all := lw_g (lw_at lw_m16 229 rfl) rfl
theorem q3895 : (Jvm.Cond.castable "java/util/AbstractList$RandomAccessSubList" "java/util/RandomAccess") ∈ lw_tbl := lw_at lw_m17 0 rfl
theorem q3911 : (Jvm.Cond.castable "java/util/AbstractList$RandomAccessSubList" "java/lang/Object") ∈ lw_tbl := lw_at lw_m17 16 rfl
theorem in_J19 : ∀ w ∈ wsJ190, w ∈ lw_all := lw_in wsJ190 [2099, 2091, 2093, 2095, 2097] (by decide +kernel) (by decide +kernel)

/-! java/util/AbstractList$Itr -/
set_option maxRecDepth 100000
def RJ26 : String := "java/util/AbstractList$Itr"
abbrev cJ26_init : ByteArray := prog_39_method_1_code
def yJ26_init : MethodName := ⟨RJ26, "<init>", "(Ljava/util/AbstractList;)V"⟩
def dkwJ26_init_1 : List UInt8 := [180, 0, 20, 181, 0, 25, 177]
abbrev dktJ26_init_1 : List UInt8 := dkwJ26_init_1 ++ []
def dkwJ26_init_0 : List UInt8 := [42, 43, 181, 0, 1, 42, 183, 0, 7, 42, 3, 181, 0, 13, 42, 2, 181, 0, 17, 42, 42, 180, 0, 1]
abbrev dktJ26_init_0 : List UInt8 := dkwJ26_init_0 ++ dktJ26_init_1
theorem dksJ26_init_0 : cJ26_init.data.toList.drop 0 = dktJ26_init_0 := by decide +kernel
theorem dksJ26_init_1 : cJ26_init.data.toList.drop 24 = dktJ26_init_1 := dk_seg dksJ26_init_0 24 rfl rfl
theorem dJ26_init_0 : decode cJ26_init 0 = .ok (.aload_n 0, 1) := dk_42 (dk_at dksJ26_init_0 0 rfl rfl)
theorem dJ26_init_1 : decode cJ26_init 1 = .ok (.aload_n 1, 1) := dk_43 (dk_at dksJ26_init_0 1 rfl rfl)
theorem dJ26_init_2 : decode cJ26_init 2 = .ok (.putfield 1, 3) := dk_181 0 1 (dk_at dksJ26_init_0 2 rfl rfl)
theorem dJ26_init_5 : decode cJ26_init 5 = .ok (.aload_n 0, 1) := dk_42 (dk_at dksJ26_init_0 5 rfl rfl)
theorem dJ26_init_6 : decode cJ26_init 6 = .ok (.invokespecial 7, 3) := dk_183 0 7 (dk_at dksJ26_init_0 6 rfl rfl)
theorem dJ26_init_9 : decode cJ26_init 9 = .ok (.aload_n 0, 1) := dk_42 (dk_at dksJ26_init_0 9 rfl rfl)
theorem dJ26_init_10 : decode cJ26_init 10 = .ok (.iconst 0, 1) := dk_3 (dk_at dksJ26_init_0 10 rfl rfl)
theorem dJ26_init_11 : decode cJ26_init 11 = .ok (.putfield 13, 3) := dk_181 0 13 (dk_at dksJ26_init_0 11 rfl rfl)
theorem dJ26_init_14 : decode cJ26_init 14 = .ok (.aload_n 0, 1) := dk_42 (dk_at dksJ26_init_0 14 rfl rfl)
theorem dJ26_init_15 : decode cJ26_init 15 = .ok (.iconst (-1), 1) := dk_2 (dk_at dksJ26_init_0 15 rfl rfl)
theorem dJ26_init_16 : decode cJ26_init 16 = .ok (.putfield 17, 3) := dk_181 0 17 (dk_at dksJ26_init_0 16 rfl rfl)
theorem dJ26_init_19 : decode cJ26_init 19 = .ok (.aload_n 0, 1) := dk_42 (dk_at dksJ26_init_0 19 rfl rfl)
theorem dJ26_init_20 : decode cJ26_init 20 = .ok (.aload_n 0, 1) := dk_42 (dk_at dksJ26_init_0 20 rfl rfl)
theorem dJ26_init_21 : decode cJ26_init 21 = .ok (.getfield 1, 3) := dk_180 0 1 (dk_at dksJ26_init_0 21 rfl rfl)
theorem dJ26_init_24 : decode cJ26_init 24 = .ok (.getfield 20, 3) := dk_180 0 20 (dk_at dksJ26_init_1 0 rfl rfl)
theorem dJ26_init_27 : decode cJ26_init 27 = .ok (.putfield 25, 3) := dk_181 0 25 (dk_at dksJ26_init_1 3 rfl rfl)
theorem dJ26_init_30 : decode cJ26_init 30 = .ok (.return_, 1) := dk_177 (dk_at dksJ26_init_1 6 rfl rfl)
abbrev cJ26_hasNext : ByteArray := prog_39_method_2_code
def yJ26_hasNext : MethodName := ⟨RJ26, "hasNext", "()Z"⟩
def dkwJ26_hasNext_0 : List UInt8 := [42, 180, 0, 13, 42, 180, 0, 1, 182, 0, 28, 159, 0, 7, 4, 167, 0, 4, 3, 172]
abbrev dktJ26_hasNext_0 : List UInt8 := dkwJ26_hasNext_0 ++ []
theorem dksJ26_hasNext_0 : cJ26_hasNext.data.toList.drop 0 = dktJ26_hasNext_0 := by decide +kernel
theorem dJ26_hasNext_0 : decode cJ26_hasNext 0 = .ok (.aload_n 0, 1) := dk_42 (dk_at dksJ26_hasNext_0 0 rfl rfl)
theorem dJ26_hasNext_1 : decode cJ26_hasNext 1 = .ok (.getfield 13, 3) := dk_180 0 13 (dk_at dksJ26_hasNext_0 1 rfl rfl)
theorem dJ26_hasNext_4 : decode cJ26_hasNext 4 = .ok (.aload_n 0, 1) := dk_42 (dk_at dksJ26_hasNext_0 4 rfl rfl)
theorem dJ26_hasNext_5 : decode cJ26_hasNext 5 = .ok (.getfield 1, 3) := dk_180 0 1 (dk_at dksJ26_hasNext_0 5 rfl rfl)
theorem dJ26_hasNext_8 : decode cJ26_hasNext 8 = .ok (.invokevirtual 28, 3) := dk_182 0 28 (dk_at dksJ26_hasNext_0 8 rfl rfl)
theorem dJ26_hasNext_11 : decode cJ26_hasNext 11 = .ok (.if_icmp .eq 7, 3) := dk_159 0 7 (dk_at dksJ26_hasNext_0 11 rfl rfl)
theorem dJ26_hasNext_14 : decode cJ26_hasNext 14 = .ok (.iconst 1, 1) := dk_4 (dk_at dksJ26_hasNext_0 14 rfl rfl)
theorem dJ26_hasNext_15 : decode cJ26_hasNext 15 = .ok (.goto 4, 3) := dk_167 0 4 (dk_at dksJ26_hasNext_0 15 rfl rfl)
theorem dJ26_hasNext_18 : decode cJ26_hasNext 18 = .ok (.iconst 0, 1) := dk_3 (dk_at dksJ26_hasNext_0 18 rfl rfl)
theorem dJ26_hasNext_19 : decode cJ26_hasNext 19 = .ok (.ireturn, 1) := dk_172 (dk_at dksJ26_hasNext_0 19 rfl rfl)
abbrev cJ26_next : ByteArray := prog_39_method_3_code
def yJ26_next : MethodName := ⟨RJ26, "next", "()Ljava/lang/Object;"⟩
def dkwJ26_next_1 : List UInt8 := [27, 4, 96, 181, 0, 13, 44, 176, 76, 42, 182, 0, 32, 187, 0, 41, 89, 43, 183, 0, 43, 191]
abbrev dktJ26_next_1 : List UInt8 := dkwJ26_next_1 ++ []
def dkwJ26_next_0 : List UInt8 := [42, 182, 0, 32, 42, 180, 0, 13, 60, 42, 180, 0, 1, 27, 182, 0, 35, 77, 42, 27, 181, 0, 17, 42]
abbrev dktJ26_next_0 : List UInt8 := dkwJ26_next_0 ++ dktJ26_next_1
theorem dksJ26_next_0 : cJ26_next.data.toList.drop 0 = dktJ26_next_0 := by decide +kernel
theorem dksJ26_next_1 : cJ26_next.data.toList.drop 24 = dktJ26_next_1 := dk_seg dksJ26_next_0 24 rfl rfl
theorem dJ26_next_0 : decode cJ26_next 0 = .ok (.aload_n 0, 1) := dk_42 (dk_at dksJ26_next_0 0 rfl rfl)
theorem dJ26_next_1 : decode cJ26_next 1 = .ok (.invokevirtual 32, 3) := dk_182 0 32 (dk_at dksJ26_next_0 1 rfl rfl)
theorem dJ26_next_4 : decode cJ26_next 4 = .ok (.aload_n 0, 1) := dk_42 (dk_at dksJ26_next_0 4 rfl rfl)
theorem dJ26_next_5 : decode cJ26_next 5 = .ok (.getfield 13, 3) := dk_180 0 13 (dk_at dksJ26_next_0 5 rfl rfl)
theorem dJ26_next_8 : decode cJ26_next 8 = .ok (.istore_n 1, 1) := dk_60 (dk_at dksJ26_next_0 8 rfl rfl)
theorem dJ26_next_9 : decode cJ26_next 9 = .ok (.aload_n 0, 1) := dk_42 (dk_at dksJ26_next_0 9 rfl rfl)
theorem dJ26_next_10 : decode cJ26_next 10 = .ok (.getfield 1, 3) := dk_180 0 1 (dk_at dksJ26_next_0 10 rfl rfl)
theorem dJ26_next_13 : decode cJ26_next 13 = .ok (.iload_n 1, 1) := dk_27 (dk_at dksJ26_next_0 13 rfl rfl)
theorem dJ26_next_14 : decode cJ26_next 14 = .ok (.invokevirtual 35, 3) := dk_182 0 35 (dk_at dksJ26_next_0 14 rfl rfl)
theorem dJ26_next_17 : decode cJ26_next 17 = .ok (.astore_n 2, 1) := dk_77 (dk_at dksJ26_next_0 17 rfl rfl)
theorem dJ26_next_18 : decode cJ26_next 18 = .ok (.aload_n 0, 1) := dk_42 (dk_at dksJ26_next_0 18 rfl rfl)
theorem dJ26_next_19 : decode cJ26_next 19 = .ok (.iload_n 1, 1) := dk_27 (dk_at dksJ26_next_0 19 rfl rfl)
theorem dJ26_next_20 : decode cJ26_next 20 = .ok (.putfield 17, 3) := dk_181 0 17 (dk_at dksJ26_next_0 20 rfl rfl)
theorem dJ26_next_23 : decode cJ26_next 23 = .ok (.aload_n 0, 1) := dk_42 (dk_at dksJ26_next_0 23 rfl rfl)
theorem dJ26_next_24 : decode cJ26_next 24 = .ok (.iload_n 1, 1) := dk_27 (dk_at dksJ26_next_1 0 rfl rfl)
theorem dJ26_next_25 : decode cJ26_next 25 = .ok (.iconst 1, 1) := dk_4 (dk_at dksJ26_next_1 1 rfl rfl)
theorem dJ26_next_26 : decode cJ26_next 26 = .ok (.iadd, 1) := dk_96 (dk_at dksJ26_next_1 2 rfl rfl)
theorem dJ26_next_27 : decode cJ26_next 27 = .ok (.putfield 13, 3) := dk_181 0 13 (dk_at dksJ26_next_1 3 rfl rfl)
theorem dJ26_next_30 : decode cJ26_next 30 = .ok (.aload_n 2, 1) := dk_44 (dk_at dksJ26_next_1 6 rfl rfl)
theorem dJ26_next_31 : decode cJ26_next 31 = .ok (.areturn, 1) := dk_176 (dk_at dksJ26_next_1 7 rfl rfl)
theorem dJ26_next_32 : decode cJ26_next 32 = .ok (.astore_n 1, 1) := dk_76 (dk_at dksJ26_next_1 8 rfl rfl)
theorem dJ26_next_33 : decode cJ26_next 33 = .ok (.aload_n 0, 1) := dk_42 (dk_at dksJ26_next_1 9 rfl rfl)
theorem dJ26_next_34 : decode cJ26_next 34 = .ok (.invokevirtual 32, 3) := dk_182 0 32 (dk_at dksJ26_next_1 10 rfl rfl)
theorem dJ26_next_37 : decode cJ26_next 37 = .ok (.new 41, 3) := dk_187 0 41 (dk_at dksJ26_next_1 13 rfl rfl)
theorem dJ26_next_40 : decode cJ26_next 40 = .ok (.dup, 1) := dk_89 (dk_at dksJ26_next_1 16 rfl rfl)
theorem dJ26_next_41 : decode cJ26_next 41 = .ok (.aload_n 1, 1) := dk_43 (dk_at dksJ26_next_1 17 rfl rfl)
theorem dJ26_next_42 : decode cJ26_next 42 = .ok (.invokespecial 43, 3) := dk_183 0 43 (dk_at dksJ26_next_1 18 rfl rfl)
theorem dJ26_next_45 : decode cJ26_next 45 = .ok (.athrow, 1) := dk_191 (dk_at dksJ26_next_1 21 rfl rfl)
abbrev cJ26_checkForComodification : ByteArray := prog_39_method_5_code
def yJ26_checkForComodification : MethodName := ⟨RJ26, "checkForComodification", "()V"⟩
def dkwJ26_checkForComodification_0 : List UInt8 := [42, 180, 0, 1, 180, 0, 20, 42, 180, 0, 25, 159, 0, 11, 187, 0, 52, 89, 183, 0, 54, 191, 177]
abbrev dktJ26_checkForComodification_0 : List UInt8 := dkwJ26_checkForComodification_0 ++ []
theorem dksJ26_checkForComodification_0 : cJ26_checkForComodification.data.toList.drop 0 = dktJ26_checkForComodification_0 := by decide +kernel
theorem dJ26_checkForComodification_0 : decode cJ26_checkForComodification 0 = .ok (.aload_n 0, 1) := dk_42 (dk_at dksJ26_checkForComodification_0 0 rfl rfl)
theorem dJ26_checkForComodification_1 : decode cJ26_checkForComodification 1 = .ok (.getfield 1, 3) := dk_180 0 1 (dk_at dksJ26_checkForComodification_0 1 rfl rfl)
theorem dJ26_checkForComodification_4 : decode cJ26_checkForComodification 4 = .ok (.getfield 20, 3) := dk_180 0 20 (dk_at dksJ26_checkForComodification_0 4 rfl rfl)
theorem dJ26_checkForComodification_7 : decode cJ26_checkForComodification 7 = .ok (.aload_n 0, 1) := dk_42 (dk_at dksJ26_checkForComodification_0 7 rfl rfl)
theorem dJ26_checkForComodification_8 : decode cJ26_checkForComodification 8 = .ok (.getfield 25, 3) := dk_180 0 25 (dk_at dksJ26_checkForComodification_0 8 rfl rfl)
theorem dJ26_checkForComodification_11 : decode cJ26_checkForComodification 11 = .ok (.if_icmp .eq 11, 3) := dk_159 0 11 (dk_at dksJ26_checkForComodification_0 11 rfl rfl)
theorem dJ26_checkForComodification_14 : decode cJ26_checkForComodification 14 = .ok (.new 52, 3) := dk_187 0 52 (dk_at dksJ26_checkForComodification_0 14 rfl rfl)
theorem dJ26_checkForComodification_17 : decode cJ26_checkForComodification 17 = .ok (.dup, 1) := dk_89 (dk_at dksJ26_checkForComodification_0 17 rfl rfl)
theorem dJ26_checkForComodification_18 : decode cJ26_checkForComodification 18 = .ok (.invokespecial 54, 3) := dk_183 0 54 (dk_at dksJ26_checkForComodification_0 18 rfl rfl)
theorem dJ26_checkForComodification_21 : decode cJ26_checkForComodification 21 = .ok (.athrow, 1) := dk_191 (dk_at dksJ26_checkForComodification_0 21 rfl rfl)
theorem dJ26_checkForComodification_22 : decode cJ26_checkForComodification 22 = .ok (.return_, 1) := dk_177 (dk_at dksJ26_checkForComodification_0 22 rfl rfl)
abbrev cJ26_remove : ByteArray := prog_39_method_4_code
def yJ26_remove : MethodName := ⟨RJ26, "remove", "()V"⟩
def dkwJ26_remove_3 : List UInt8 := [187, 0, 52, 89, 183, 0, 54, 191, 177]
abbrev dktJ26_remove_3 : List UInt8 := dkwJ26_remove_3 ++ []
def dkwJ26_remove_2 : List UInt8 := [100, 181, 0, 13, 42, 2, 181, 0, 17, 42, 42, 180, 0, 1, 180, 0, 20, 181, 0, 25, 167, 0, 12, 76]
abbrev dktJ26_remove_2 : List UInt8 := dkwJ26_remove_2 ++ dktJ26_remove_3
def dkwJ26_remove_1 : List UInt8 := [180, 0, 17, 182, 0, 49, 87, 42, 180, 0, 17, 42, 180, 0, 13, 162, 0, 13, 42, 89, 180, 0, 13, 4]
abbrev dktJ26_remove_1 : List UInt8 := dkwJ26_remove_1 ++ dktJ26_remove_2
def dkwJ26_remove_0 : List UInt8 := [42, 180, 0, 17, 156, 0, 11, 187, 0, 46, 89, 183, 0, 48, 191, 42, 182, 0, 32, 42, 180, 0, 1, 42]
abbrev dktJ26_remove_0 : List UInt8 := dkwJ26_remove_0 ++ dktJ26_remove_1
theorem dksJ26_remove_0 : cJ26_remove.data.toList.drop 0 = dktJ26_remove_0 := by decide +kernel
theorem dksJ26_remove_1 : cJ26_remove.data.toList.drop 24 = dktJ26_remove_1 := dk_seg dksJ26_remove_0 24 rfl rfl
theorem dksJ26_remove_2 : cJ26_remove.data.toList.drop 48 = dktJ26_remove_2 := dk_seg dksJ26_remove_1 24 rfl rfl
theorem dksJ26_remove_3 : cJ26_remove.data.toList.drop 72 = dktJ26_remove_3 := dk_seg dksJ26_remove_2 24 rfl rfl
theorem dJ26_remove_0 : decode cJ26_remove 0 = .ok (.aload_n 0, 1) := dk_42 (dk_at dksJ26_remove_0 0 rfl rfl)
theorem dJ26_remove_1 : decode cJ26_remove 1 = .ok (.getfield 17, 3) := dk_180 0 17 (dk_at dksJ26_remove_0 1 rfl rfl)
theorem dJ26_remove_4 : decode cJ26_remove 4 = .ok (.ifCond .ge 11, 3) := dk_156 0 11 (dk_at dksJ26_remove_0 4 rfl rfl)
theorem dJ26_remove_7 : decode cJ26_remove 7 = .ok (.new 46, 3) := dk_187 0 46 (dk_at dksJ26_remove_0 7 rfl rfl)
theorem dJ26_remove_10 : decode cJ26_remove 10 = .ok (.dup, 1) := dk_89 (dk_at dksJ26_remove_0 10 rfl rfl)
theorem dJ26_remove_11 : decode cJ26_remove 11 = .ok (.invokespecial 48, 3) := dk_183 0 48 (dk_at dksJ26_remove_0 11 rfl rfl)
theorem dJ26_remove_14 : decode cJ26_remove 14 = .ok (.athrow, 1) := dk_191 (dk_at dksJ26_remove_0 14 rfl rfl)
theorem dJ26_remove_15 : decode cJ26_remove 15 = .ok (.aload_n 0, 1) := dk_42 (dk_at dksJ26_remove_0 15 rfl rfl)
theorem dJ26_remove_16 : decode cJ26_remove 16 = .ok (.invokevirtual 32, 3) := dk_182 0 32 (dk_at dksJ26_remove_0 16 rfl rfl)
theorem dJ26_remove_19 : decode cJ26_remove 19 = .ok (.aload_n 0, 1) := dk_42 (dk_at dksJ26_remove_0 19 rfl rfl)
theorem dJ26_remove_20 : decode cJ26_remove 20 = .ok (.getfield 1, 3) := dk_180 0 1 (dk_at dksJ26_remove_0 20 rfl rfl)
theorem dJ26_remove_23 : decode cJ26_remove 23 = .ok (.aload_n 0, 1) := dk_42 (dk_at dksJ26_remove_0 23 rfl rfl)
theorem dJ26_remove_24 : decode cJ26_remove 24 = .ok (.getfield 17, 3) := dk_180 0 17 (dk_at dksJ26_remove_1 0 rfl rfl)
theorem dJ26_remove_27 : decode cJ26_remove 27 = .ok (.invokevirtual 49, 3) := dk_182 0 49 (dk_at dksJ26_remove_1 3 rfl rfl)
theorem dJ26_remove_30 : decode cJ26_remove 30 = .ok (.pop, 1) := dk_87 (dk_at dksJ26_remove_1 6 rfl rfl)
theorem dJ26_remove_31 : decode cJ26_remove 31 = .ok (.aload_n 0, 1) := dk_42 (dk_at dksJ26_remove_1 7 rfl rfl)
theorem dJ26_remove_32 : decode cJ26_remove 32 = .ok (.getfield 17, 3) := dk_180 0 17 (dk_at dksJ26_remove_1 8 rfl rfl)
theorem dJ26_remove_35 : decode cJ26_remove 35 = .ok (.aload_n 0, 1) := dk_42 (dk_at dksJ26_remove_1 11 rfl rfl)
theorem dJ26_remove_36 : decode cJ26_remove 36 = .ok (.getfield 13, 3) := dk_180 0 13 (dk_at dksJ26_remove_1 12 rfl rfl)
theorem dJ26_remove_39 : decode cJ26_remove 39 = .ok (.if_icmp .ge 13, 3) := dk_162 0 13 (dk_at dksJ26_remove_1 15 rfl rfl)
theorem dJ26_remove_42 : decode cJ26_remove 42 = .ok (.aload_n 0, 1) := dk_42 (dk_at dksJ26_remove_1 18 rfl rfl)
theorem dJ26_remove_43 : decode cJ26_remove 43 = .ok (.dup, 1) := dk_89 (dk_at dksJ26_remove_1 19 rfl rfl)
theorem dJ26_remove_44 : decode cJ26_remove 44 = .ok (.getfield 13, 3) := dk_180 0 13 (dk_at dksJ26_remove_1 20 rfl rfl)
theorem dJ26_remove_47 : decode cJ26_remove 47 = .ok (.iconst 1, 1) := dk_4 (dk_at dksJ26_remove_1 23 rfl rfl)
theorem dJ26_remove_48 : decode cJ26_remove 48 = .ok (.isub, 1) := dk_100 (dk_at dksJ26_remove_2 0 rfl rfl)
theorem dJ26_remove_49 : decode cJ26_remove 49 = .ok (.putfield 13, 3) := dk_181 0 13 (dk_at dksJ26_remove_2 1 rfl rfl)
theorem dJ26_remove_52 : decode cJ26_remove 52 = .ok (.aload_n 0, 1) := dk_42 (dk_at dksJ26_remove_2 4 rfl rfl)
theorem dJ26_remove_53 : decode cJ26_remove 53 = .ok (.iconst (-1), 1) := dk_2 (dk_at dksJ26_remove_2 5 rfl rfl)
theorem dJ26_remove_54 : decode cJ26_remove 54 = .ok (.putfield 17, 3) := dk_181 0 17 (dk_at dksJ26_remove_2 6 rfl rfl)
theorem dJ26_remove_57 : decode cJ26_remove 57 = .ok (.aload_n 0, 1) := dk_42 (dk_at dksJ26_remove_2 9 rfl rfl)
theorem dJ26_remove_58 : decode cJ26_remove 58 = .ok (.aload_n 0, 1) := dk_42 (dk_at dksJ26_remove_2 10 rfl rfl)
theorem dJ26_remove_59 : decode cJ26_remove 59 = .ok (.getfield 1, 3) := dk_180 0 1 (dk_at dksJ26_remove_2 11 rfl rfl)
theorem dJ26_remove_62 : decode cJ26_remove 62 = .ok (.getfield 20, 3) := dk_180 0 20 (dk_at dksJ26_remove_2 14 rfl rfl)
theorem dJ26_remove_65 : decode cJ26_remove 65 = .ok (.putfield 25, 3) := dk_181 0 25 (dk_at dksJ26_remove_2 17 rfl rfl)
theorem dJ26_remove_68 : decode cJ26_remove 68 = .ok (.goto 12, 3) := dk_167 0 12 (dk_at dksJ26_remove_2 20 rfl rfl)
theorem dJ26_remove_71 : decode cJ26_remove 71 = .ok (.astore_n 1, 1) := dk_76 (dk_at dksJ26_remove_2 23 rfl rfl)
theorem dJ26_remove_72 : decode cJ26_remove 72 = .ok (.new 52, 3) := dk_187 0 52 (dk_at dksJ26_remove_3 0 rfl rfl)
theorem dJ26_remove_75 : decode cJ26_remove 75 = .ok (.dup, 1) := dk_89 (dk_at dksJ26_remove_3 3 rfl rfl)
theorem dJ26_remove_76 : decode cJ26_remove 76 = .ok (.invokespecial 54, 3) := dk_183 0 54 (dk_at dksJ26_remove_3 4 rfl rfl)
theorem dJ26_remove_79 : decode cJ26_remove 79 = .ok (.athrow, 1) := dk_191 (dk_at dksJ26_remove_3 7 rfl rfl)
theorem dJ26_remove_80 : decode cJ26_remove 80 = .ok (.return_, 1) := dk_177 (dk_at dksJ26_remove_3 8 rfl rfl)
theorem q87 : (Jvm.Cond.initialized "java/util/AbstractList$Itr") ∈ lw_all := lw_g (lw_at lw_m1 32 rfl) rfl
theorem q141 : (Jvm.Cond.fieldLink "java/util/AbstractList$Itr" (20 : Nat) "java/util/AbstractList" "modCount" "I") ∈ lw_all := lw_g (lw_at lw_m1 86 rfl) rfl
theorem q234 : (Jvm.Cond.selects "java/util/AbstractList$Itr" ({ cls := "java/lang/Object", name := "getClass", desc := "()Ljava/lang/Class;" } : Jvm.MethodName) ({ cls := "java/lang/Object", name := "getClass", desc := "()Ljava/lang/Class;" } : Jvm.MethodName)) ∈ lw_all := lw_g (lw_at lw_m1 179 rfl) rfl
theorem q883 : (Jvm.Cond.instanceMethod ({ cls := "java/util/AbstractList$Itr", name := "<init>", desc := "(Ljava/util/AbstractList;)V" } : Jvm.MethodName)) ∈ lw_all := lw_g (lw_at lw_m4 108 rfl) rfl
theorem q884 : (Jvm.Cond.code ({ cls := "java/util/AbstractList$Itr", name := "<init>", desc := "(Ljava/util/AbstractList;)V" } : Jvm.MethodName) prog_39_method_1_code (2 : Nat) (Option.none : Option Jvm.ClassFile.FieldType)) ∈ lw_all := lw_g (lw_at lw_m4 109 rfl) rfl
theorem q885 : (Jvm.Cond.methodLink "java/util/AbstractList$Itr" (7 : Nat) ({ cls := "java/lang/Object", name := "<init>", desc := "()V" } : Jvm.MethodName)) ∈ lw_all := lw_g (lw_at lw_m4 110 rfl) rfl
theorem q887 : (Jvm.Cond.fieldLink "java/util/AbstractList$Itr" (13 : Nat) "java/util/AbstractList$Itr" "cursor" "I") ∈ lw_all := lw_g (lw_at lw_m4 112 rfl) rfl
theorem q890 : (Jvm.Cond.fieldLink "java/util/AbstractList$Itr" (17 : Nat) "java/util/AbstractList$Itr" "lastRet" "I") ∈ lw_all := lw_g (lw_at lw_m4 115 rfl) rfl
theorem q893 : (Jvm.Cond.fieldLink "java/util/AbstractList$Itr" (25 : Nat) "java/util/AbstractList$Itr" "expectedModCount" "I") ∈ lw_all := lw_g (lw_at lw_m4 118 rfl) rfl
theorem q896 : (Jvm.Cond.fieldLink "java/util/AbstractList$Itr" (1 : Nat) "java/util/AbstractList$Itr" "this$0" "Ljava/util/AbstractList;") ∈ lw_all := lw_g (lw_at lw_m4 121 rfl) rfl
theorem q900 : (Jvm.Cond.soleField "java/util/AbstractList$Itr" "cursor") ∈ lw_all := lw_g (lw_at lw_m4 125 rfl) rfl
theorem q902 : (Jvm.Cond.soleField "java/util/AbstractList$Itr" "lastRet") ∈ lw_all := lw_g (lw_at lw_m4 127 rfl) rfl
theorem q904 : (Jvm.Cond.soleField "java/util/AbstractList$Itr" "expectedModCount") ∈ lw_all := lw_g (lw_at lw_m4 129 rfl) rfl
theorem q906 : (Jvm.Cond.soleField "java/util/AbstractList$Itr" "this$0") ∈ lw_all := lw_g (lw_at lw_m4 131 rfl) rfl
theorem q931 : (Jvm.Cond.instanceMethod ({ cls := "java/util/AbstractList$Itr", name := "hasNext", desc := "()Z" } : Jvm.MethodName)) ∈ lw_all := lw_g (lw_at lw_m4 156 rfl) rfl
theorem q932 : (Jvm.Cond.publicMethod ({ cls := "java/util/AbstractList$Itr", name := "hasNext", desc := "()Z" } : Jvm.MethodName)) ∈ lw_tbl := lw_at lw_m4 157 rfl
theorem q933 : (Jvm.Cond.code ({ cls := "java/util/AbstractList$Itr", name := "hasNext", desc := "()Z" } : Jvm.MethodName) prog_39_method_2_code (1 : Nat) (Option.some Jvm.ClassFile.FieldType.boolean)) ∈ lw_all := lw_g (lw_at lw_m4 158 rfl) rfl
theorem q934 : (Jvm.Cond.methodLink "java/util/AbstractList$Itr" (28 : Nat) ({ cls := "java/util/AbstractList", name := "size", desc := "()I" } : Jvm.MethodName)) ∈ lw_all := lw_g (lw_at lw_m4 159 rfl) rfl
theorem q985 : (Jvm.Cond.instanceMethod ({ cls := "java/util/AbstractList$Itr", name := "next", desc := "()Ljava/lang/Object;" } : Jvm.MethodName)) ∈ lw_all := lw_g (lw_at lw_m4 210 rfl) rfl
theorem q986 : (Jvm.Cond.publicMethod ({ cls := "java/util/AbstractList$Itr", name := "next", desc := "()Ljava/lang/Object;" } : Jvm.MethodName)) ∈ lw_tbl := lw_at lw_m4 211 rfl
theorem q987 : (Jvm.Cond.codeWith ({ cls := "java/util/AbstractList$Itr", name := "next", desc := "()Ljava/lang/Object;" } : Jvm.MethodName) prog_39_method_3_code (3 : Nat) (Option.some (Jvm.ClassFile.FieldType.object "java/lang/Object")) [((4 : Nat), (31 : Nat), (32 : Nat), (39 : Nat))]) ∈ lw_all := lw_g (lw_at lw_m4 212 rfl) rfl
theorem q988 : (Jvm.Cond.methodLink "java/util/AbstractList$Itr" (32 : Nat) ({ cls := "java/util/AbstractList$Itr", name := "checkForComodification", desc := "()V" } : Jvm.MethodName)) ∈ lw_all := lw_g (lw_at lw_m4 213 rfl) rfl
theorem q989 : (Jvm.Cond.instanceMethod ({ cls := "java/util/AbstractList$Itr", name := "checkForComodification", desc := "()V" } : Jvm.MethodName)) ∈ lw_all := lw_g (lw_at lw_m4 214 rfl) rfl
theorem q990 : (Jvm.Cond.selects "java/util/AbstractList$Itr" ({ cls := "java/util/AbstractList$Itr", name := "checkForComodification", desc := "()V" } : Jvm.MethodName) ({ cls := "java/util/AbstractList$Itr", name := "checkForComodification", desc := "()V" } : Jvm.MethodName)) ∈ lw_all := lw_g (lw_at lw_m4 215 rfl) rfl
theorem q991 : (Jvm.Cond.sameMethod "java/util/AbstractList$Itr" "java/util/AbstractList$Itr" "checkForComodification" "()V") ∈ lw_all := lw_g (lw_at lw_m4 216 rfl) rfl
theorem q993 : (Jvm.Cond.code ({ cls := "java/util/AbstractList$Itr", name := "checkForComodification", desc := "()V" } : Jvm.MethodName) prog_39_method_5_code (1 : Nat) (Option.none : Option Jvm.ClassFile.FieldType)) ∈ lw_all := lw_g (lw_at lw_m4 218 rfl) rfl
theorem q994 : (Jvm.Cond.methodLink "java/util/AbstractList$Itr" (35 : Nat) ({ cls := "java/util/AbstractList", name := "get", desc := "(I)Ljava/lang/Object;" } : Jvm.MethodName)) ∈ lw_all := lw_g (lw_at lw_m4 219 rfl) rfl
theorem q1012 : (Jvm.Cond.classLink "java/util/AbstractList$Itr" (41 : Nat) "java/util/NoSuchElementException") ∈ lw_all := lw_g (lw_at lw_m4 237 rfl) rfl
theorem q1021 : (Jvm.Cond.methodLink "java/util/AbstractList$Itr" (43 : Nat) ({ cls := "java/util/NoSuchElementException", name := "<init>", desc := "(Ljava/lang/Throwable;)V" } : Jvm.MethodName)) ∈ lw_all := lw_g (lw_at lw_m5 6 rfl) rfl
theorem q1221 : (Jvm.Cond.castable "java/util/AbstractList$Itr" "java/util/Iterator") ∈ lw_tbl := lw_at lw_m5 206 rfl
theorem q1222 : (Jvm.Cond.selects "java/util/AbstractList$Itr" ({ cls := "java/util/Iterator", name := "hasNext", desc := "()Z" } : Jvm.MethodName) ({ cls := "java/util/AbstractList$Itr", name := "hasNext", desc := "()Z" } : Jvm.MethodName)) ∈ lw_all := lw_g (lw_at lw_m5 207 rfl) rfl
theorem q1223 : (Jvm.Cond.unhidden "java/util/AbstractList$Itr" "hasNext" "()Z") ∈ lw_tbl := lw_at lw_m5 208 rfl
theorem q1245 : (Jvm.Cond.selects "java/util/AbstractList$Itr" ({ cls := "java/util/Iterator", name := "next", desc := "()Ljava/lang/Object;" } : Jvm.MethodName) ({ cls := "java/util/AbstractList$Itr", name := "next", desc := "()Ljava/lang/Object;" } : Jvm.MethodName)) ∈ lw_all := lw_g (lw_at lw_m5 230 rfl) rfl
theorem q1246 : (Jvm.Cond.unhidden "java/util/AbstractList$Itr" "next" "()Ljava/lang/Object;") ∈ lw_tbl := lw_at lw_m5 231 rfl
theorem q1517 : (Jvm.Cond.declares ({ cls := "java/util/AbstractList$Itr", name := "checkForComodification", desc := "()V" } : Jvm.MethodName)) ∈ lw_tbl := lw_at lw_m7 22 rfl
theorem q1755 : (Jvm.Cond.instanceMethod ({ cls := "java/util/AbstractList$Itr", name := "remove", desc := "()V" } : Jvm.MethodName)) ∈ lw_all := lw_g (lw_at lw_m8 20 rfl) rfl
theorem q1756 : (Jvm.Cond.publicMethod ({ cls := "java/util/AbstractList$Itr", name := "remove", desc := "()V" } : Jvm.MethodName)) ∈ lw_tbl := lw_at lw_m8 21 rfl
theorem q1757 : (Jvm.Cond.codeWith ({ cls := "java/util/AbstractList$Itr", name := "remove", desc := "()V" } : Jvm.MethodName) prog_39_method_4_code (2 : Nat) (Option.none : Option Jvm.ClassFile.FieldType) [((19 : Nat), (68 : Nat), (71 : Nat), (39 : Nat))]) ∈ lw_all := lw_g (lw_at lw_m8 22 rfl) rfl
theorem q1758 : (Jvm.Cond.classLink "java/util/AbstractList$Itr" (46 : Nat) "java/lang/IllegalStateException") ∈ lw_all := lw_g (lw_at lw_m8 23 rfl) rfl
theorem q1767 : (Jvm.Cond.methodLink "java/util/AbstractList$Itr" (48 : Nat) ({ cls := "java/lang/IllegalStateException", name := "<init>", desc := "()V" } : Jvm.MethodName)) ∈ lw_all := lw_g (lw_at lw_m8 32 rfl) rfl
theorem q1773 : (Jvm.Cond.methodLink "java/util/AbstractList$Itr" (49 : Nat) ({ cls := "java/util/AbstractList", name := "remove", desc := "(I)Ljava/lang/Object;" } : Jvm.MethodName)) ∈ lw_all := lw_g (lw_at lw_m8 38 rfl) rfl
theorem q1794 : (Jvm.Cond.classLink "java/util/AbstractList$Itr" (52 : Nat) "java/util/ConcurrentModificationException") ∈ lw_all := lw_g (lw_at lw_m8 59 rfl) rfl
theorem q1803 : (Jvm.Cond.methodLink "java/util/AbstractList$Itr" (54 : Nat) ({ cls := "java/util/ConcurrentModificationException", name := "<init>", desc := "()V" } : Jvm.MethodName)) ∈ lw_all := lw_g (lw_at lw_m8 68 rfl) rfl
theorem q3242 : (Jvm.Cond.selects "java/util/AbstractList$Itr" ({ cls := "java/util/Iterator", name := "remove", desc := "()V" } : Jvm.MethodName) ({ cls := "java/util/AbstractList$Itr", name := "remove", desc := "()V" } : Jvm.MethodName)) ∈ lw_all := lw_g (lw_at lw_m14 67 rfl) rfl
theorem q3243 : (Jvm.Cond.unhidden "java/util/AbstractList$Itr" "remove" "()V") ∈ lw_tbl := lw_at lw_m14 68 rfl
theorem q3921 : (Jvm.Cond.castable "java/util/AbstractList$Itr" "java/lang/Object") ∈ lw_tbl := lw_at lw_m17 26 rfl

/-! java/util/AbstractList$ListItr -/
set_option maxRecDepth 100000
def RJ27 : String := "java/util/AbstractList$ListItr"
def TJ27 : u_T := fun k => match k with
  | 0 => ("java/util/AbstractList$Itr", "cursor", "I", false)
  | 1 => ("java/util/AbstractList$Itr", "lastRet", "I", false)
  | 2 => ("java/util/AbstractList$Itr", "expectedModCount", "I", false)
  | 3 => ("java/util/AbstractList$Itr", "this$0", "Ljava/util/AbstractList;", true)
  | _ => ("java/util/AbstractList$ListItr", "this$0", "Ljava/util/AbstractList;", true)
def tyJ27 : Nat → FieldType := fun k => match k with
  | 0 => .int
  | 1 => .int
  | 2 => .int
  | 3 => .object "java/util/AbstractList"
  | _ => .object "java/util/AbstractList"
abbrev wsJ270 : List Cond := u_ws RJ27 TJ27 5
-- two fields of one name: no nmJ27
theorem tyJ27_ok : ∀ k, k < 5 → parseFieldDescriptor (TJ27 k).2.2.1 = some (tyJ27 k) := by decide +kernel
abbrev cJ27_init : ByteArray := prog_40_method_1_code
def yJ27_init : MethodName := ⟨RJ27, "<init>", "(Ljava/util/AbstractList;I)V"⟩
def dkwJ27_init_0 : List UInt8 := [42, 43, 181, 0, 1, 42, 43, 183, 0, 7, 42, 28, 181, 0, 13, 177]
abbrev dktJ27_init_0 : List UInt8 := dkwJ27_init_0 ++ []
theorem dksJ27_init_0 : cJ27_init.data.toList.drop 0 = dktJ27_init_0 := by decide +kernel
theorem dJ27_init_0 : decode cJ27_init 0 = .ok (.aload_n 0, 1) := dk_42 (dk_at dksJ27_init_0 0 rfl rfl)
theorem dJ27_init_1 : decode cJ27_init 1 = .ok (.aload_n 1, 1) := dk_43 (dk_at dksJ27_init_0 1 rfl rfl)
theorem dJ27_init_2 : decode cJ27_init 2 = .ok (.putfield 1, 3) := dk_181 0 1 (dk_at dksJ27_init_0 2 rfl rfl)
theorem dJ27_init_5 : decode cJ27_init 5 = .ok (.aload_n 0, 1) := dk_42 (dk_at dksJ27_init_0 5 rfl rfl)
theorem dJ27_init_6 : decode cJ27_init 6 = .ok (.aload_n 1, 1) := dk_43 (dk_at dksJ27_init_0 6 rfl rfl)
theorem dJ27_init_7 : decode cJ27_init 7 = .ok (.invokespecial 7, 3) := dk_183 0 7 (dk_at dksJ27_init_0 7 rfl rfl)
theorem dJ27_init_10 : decode cJ27_init 10 = .ok (.aload_n 0, 1) := dk_42 (dk_at dksJ27_init_0 10 rfl rfl)
theorem dJ27_init_11 : decode cJ27_init 11 = .ok (.iload_n 2, 1) := dk_28 (dk_at dksJ27_init_0 11 rfl rfl)
theorem dJ27_init_12 : decode cJ27_init 12 = .ok (.putfield 13, 3) := dk_181 0 13 (dk_at dksJ27_init_0 12 rfl rfl)
theorem dJ27_init_15 : decode cJ27_init 15 = .ok (.return_, 1) := dk_177 (dk_at dksJ27_init_0 15 rfl rfl)
abbrev cJ27_nextIndex : ByteArray := prog_40_method_4_code
def yJ27_nextIndex : MethodName := ⟨RJ27, "nextIndex", "()I"⟩
theorem dJ27_nextIndex_0 : decode cJ27_nextIndex 0 = .ok (.aload_n 0, 1) := by decide +kernel
theorem dJ27_nextIndex_1 : decode cJ27_nextIndex 1 = .ok (.getfield 13, 3) := by decide +kernel
theorem dJ27_nextIndex_4 : decode cJ27_nextIndex 4 = .ok (.ireturn, 1) := by decide +kernel
abbrev cJ27_previousIndex : ByteArray := prog_40_method_5_code
def yJ27_previousIndex : MethodName := ⟨RJ27, "previousIndex", "()I"⟩
def dkwJ27_previousIndex_0 : List UInt8 := [42, 180, 0, 13, 4, 100, 172]
abbrev dktJ27_previousIndex_0 : List UInt8 := dkwJ27_previousIndex_0 ++ []
theorem dksJ27_previousIndex_0 : cJ27_previousIndex.data.toList.drop 0 = dktJ27_previousIndex_0 := by decide +kernel
theorem dJ27_previousIndex_0 : decode cJ27_previousIndex 0 = .ok (.aload_n 0, 1) := dk_42 (dk_at dksJ27_previousIndex_0 0 rfl rfl)
theorem dJ27_previousIndex_1 : decode cJ27_previousIndex 1 = .ok (.getfield 13, 3) := dk_180 0 13 (dk_at dksJ27_previousIndex_0 1 rfl rfl)
theorem dJ27_previousIndex_4 : decode cJ27_previousIndex 4 = .ok (.iconst 1, 1) := dk_4 (dk_at dksJ27_previousIndex_0 4 rfl rfl)
theorem dJ27_previousIndex_5 : decode cJ27_previousIndex 5 = .ok (.isub, 1) := dk_100 (dk_at dksJ27_previousIndex_0 5 rfl rfl)
theorem dJ27_previousIndex_6 : decode cJ27_previousIndex 6 = .ok (.ireturn, 1) := dk_172 (dk_at dksJ27_previousIndex_0 6 rfl rfl)
abbrev cJ27_hasPrevious : ByteArray := prog_40_method_2_code
def yJ27_hasPrevious : MethodName := ⟨RJ27, "hasPrevious", "()Z"⟩
def dkwJ27_hasPrevious_0 : List UInt8 := [42, 180, 0, 13, 153, 0, 7, 4, 167, 0, 4, 3, 172]
abbrev dktJ27_hasPrevious_0 : List UInt8 := dkwJ27_hasPrevious_0 ++ []
theorem dksJ27_hasPrevious_0 : cJ27_hasPrevious.data.toList.drop 0 = dktJ27_hasPrevious_0 := by decide +kernel
theorem dJ27_hasPrevious_0 : decode cJ27_hasPrevious 0 = .ok (.aload_n 0, 1) := dk_42 (dk_at dksJ27_hasPrevious_0 0 rfl rfl)
theorem dJ27_hasPrevious_1 : decode cJ27_hasPrevious 1 = .ok (.getfield 13, 3) := dk_180 0 13 (dk_at dksJ27_hasPrevious_0 1 rfl rfl)
theorem dJ27_hasPrevious_4 : decode cJ27_hasPrevious 4 = .ok (.ifCond .eq 7, 3) := dk_153 0 7 (dk_at dksJ27_hasPrevious_0 4 rfl rfl)
theorem dJ27_hasPrevious_7 : decode cJ27_hasPrevious 7 = .ok (.iconst 1, 1) := dk_4 (dk_at dksJ27_hasPrevious_0 7 rfl rfl)
theorem dJ27_hasPrevious_8 : decode cJ27_hasPrevious 8 = .ok (.goto 4, 3) := dk_167 0 4 (dk_at dksJ27_hasPrevious_0 8 rfl rfl)
theorem dJ27_hasPrevious_11 : decode cJ27_hasPrevious 11 = .ok (.iconst 0, 1) := dk_3 (dk_at dksJ27_hasPrevious_0 11 rfl rfl)
theorem dJ27_hasPrevious_12 : decode cJ27_hasPrevious 12 = .ok (.ireturn, 1) := dk_172 (dk_at dksJ27_hasPrevious_0 12 rfl rfl)
abbrev cJ27_previous : ByteArray := prog_40_method_3_code
def yJ27_previous : MethodName := ⟨RJ27, "previous", "()Ljava/lang/Object;"⟩
def dkwJ27_previous_1 : List UInt8 := [181, 0, 13, 181, 0, 27, 44, 176, 76, 42, 182, 0, 17, 187, 0, 32, 89, 43, 183, 0, 34, 191]
abbrev dktJ27_previous_1 : List UInt8 := dkwJ27_previous_1 ++ []
def dkwJ27_previous_0 : List UInt8 := [42, 182, 0, 17, 42, 180, 0, 13, 4, 100, 60, 42, 180, 0, 1, 27, 182, 0, 21, 77, 42, 42, 27, 90]
abbrev dktJ27_previous_0 : List UInt8 := dkwJ27_previous_0 ++ dktJ27_previous_1
theorem dksJ27_previous_0 : cJ27_previous.data.toList.drop 0 = dktJ27_previous_0 := by decide +kernel
theorem dksJ27_previous_1 : cJ27_previous.data.toList.drop 24 = dktJ27_previous_1 := dk_seg dksJ27_previous_0 24 rfl rfl
theorem dJ27_previous_0 : decode cJ27_previous 0 = .ok (.aload_n 0, 1) := dk_42 (dk_at dksJ27_previous_0 0 rfl rfl)
theorem dJ27_previous_1 : decode cJ27_previous 1 = .ok (.invokevirtual 17, 3) := dk_182 0 17 (dk_at dksJ27_previous_0 1 rfl rfl)
theorem dJ27_previous_4 : decode cJ27_previous 4 = .ok (.aload_n 0, 1) := dk_42 (dk_at dksJ27_previous_0 4 rfl rfl)
theorem dJ27_previous_5 : decode cJ27_previous 5 = .ok (.getfield 13, 3) := dk_180 0 13 (dk_at dksJ27_previous_0 5 rfl rfl)
theorem dJ27_previous_8 : decode cJ27_previous 8 = .ok (.iconst 1, 1) := dk_4 (dk_at dksJ27_previous_0 8 rfl rfl)
theorem dJ27_previous_9 : decode cJ27_previous 9 = .ok (.isub, 1) := dk_100 (dk_at dksJ27_previous_0 9 rfl rfl)
theorem dJ27_previous_10 : decode cJ27_previous 10 = .ok (.istore_n 1, 1) := dk_60 (dk_at dksJ27_previous_0 10 rfl rfl)
theorem dJ27_previous_11 : decode cJ27_previous 11 = .ok (.aload_n 0, 1) := dk_42 (dk_at dksJ27_previous_0 11 rfl rfl)
theorem dJ27_previous_12 : decode cJ27_previous 12 = .ok (.getfield 1, 3) := dk_180 0 1 (dk_at dksJ27_previous_0 12 rfl rfl)
theorem dJ27_previous_15 : decode cJ27_previous 15 = .ok (.iload_n 1, 1) := dk_27 (dk_at dksJ27_previous_0 15 rfl rfl)
theorem dJ27_previous_16 : decode cJ27_previous 16 = .ok (.invokevirtual 21, 3) := dk_182 0 21 (dk_at dksJ27_previous_0 16 rfl rfl)
theorem dJ27_previous_19 : decode cJ27_previous 19 = .ok (.astore_n 2, 1) := dk_77 (dk_at dksJ27_previous_0 19 rfl rfl)
theorem dJ27_previous_20 : decode cJ27_previous 20 = .ok (.aload_n 0, 1) := dk_42 (dk_at dksJ27_previous_0 20 rfl rfl)
theorem dJ27_previous_21 : decode cJ27_previous 21 = .ok (.aload_n 0, 1) := dk_42 (dk_at dksJ27_previous_0 21 rfl rfl)
theorem dJ27_previous_22 : decode cJ27_previous 22 = .ok (.iload_n 1, 1) := dk_27 (dk_at dksJ27_previous_0 22 rfl rfl)
theorem dJ27_previous_23 : decode cJ27_previous 23 = .ok (.dup_x1, 1) := dk_90 (dk_at dksJ27_previous_0 23 rfl rfl)
theorem dJ27_previous_24 : decode cJ27_previous 24 = .ok (.putfield 13, 3) := dk_181 0 13 (dk_at dksJ27_previous_1 0 rfl rfl)
theorem dJ27_previous_27 : decode cJ27_previous 27 = .ok (.putfield 27, 3) := dk_181 0 27 (dk_at dksJ27_previous_1 3 rfl rfl)
theorem dJ27_previous_30 : decode cJ27_previous 30 = .ok (.aload_n 2, 1) := dk_44 (dk_at dksJ27_previous_1 6 rfl rfl)
theorem dJ27_previous_31 : decode cJ27_previous 31 = .ok (.areturn, 1) := dk_176 (dk_at dksJ27_previous_1 7 rfl rfl)
theorem dJ27_previous_32 : decode cJ27_previous 32 = .ok (.astore_n 1, 1) := dk_76 (dk_at dksJ27_previous_1 8 rfl rfl)
theorem dJ27_previous_33 : decode cJ27_previous 33 = .ok (.aload_n 0, 1) := dk_42 (dk_at dksJ27_previous_1 9 rfl rfl)
theorem dJ27_previous_34 : decode cJ27_previous 34 = .ok (.invokevirtual 17, 3) := dk_182 0 17 (dk_at dksJ27_previous_1 10 rfl rfl)
theorem dJ27_previous_37 : decode cJ27_previous 37 = .ok (.new 32, 3) := dk_187 0 32 (dk_at dksJ27_previous_1 13 rfl rfl)
theorem dJ27_previous_40 : decode cJ27_previous 40 = .ok (.dup, 1) := dk_89 (dk_at dksJ27_previous_1 16 rfl rfl)
theorem dJ27_previous_41 : decode cJ27_previous 41 = .ok (.aload_n 1, 1) := dk_43 (dk_at dksJ27_previous_1 17 rfl rfl)
theorem dJ27_previous_42 : decode cJ27_previous 42 = .ok (.invokespecial 34, 3) := dk_183 0 34 (dk_at dksJ27_previous_1 18 rfl rfl)
theorem dJ27_previous_45 : decode cJ27_previous 45 = .ok (.athrow, 1) := dk_191 (dk_at dksJ27_previous_1 21 rfl rfl)
abbrev cJ27_set : ByteArray := prog_40_method_6_code
def yJ27_set : MethodName := ⟨RJ27, "set", "(Ljava/lang/Object;)V"⟩
def dkwJ27_set_2 : List UInt8 := [187, 0, 51, 89, 183, 0, 53, 191, 177]
abbrev dktJ27_set_2 : List UInt8 := dkwJ27_set_2 ++ []
def dkwJ27_set_1 : List UInt8 := [180, 0, 27, 43, 182, 0, 41, 87, 42, 42, 180, 0, 1, 180, 0, 45, 181, 0, 48, 167, 0, 12, 77]
abbrev dktJ27_set_1 : List UInt8 := dkwJ27_set_1 ++ dktJ27_set_2
def dkwJ27_set_0 : List UInt8 := [42, 180, 0, 27, 156, 0, 11, 187, 0, 37, 89, 183, 0, 39, 191, 42, 182, 0, 17, 42, 180, 0, 1, 42]
abbrev dktJ27_set_0 : List UInt8 := dkwJ27_set_0 ++ dktJ27_set_1
theorem dksJ27_set_0 : cJ27_set.data.toList.drop 0 = dktJ27_set_0 := by decide +kernel
theorem dksJ27_set_1 : cJ27_set.data.toList.drop 24 = dktJ27_set_1 := dk_seg dksJ27_set_0 24 rfl rfl
theorem dksJ27_set_2 : cJ27_set.data.toList.drop 47 = dktJ27_set_2 := dk_seg dksJ27_set_1 23 rfl rfl
theorem dJ27_set_0 : decode cJ27_set 0 = .ok (.aload_n 0, 1) := dk_42 (dk_at dksJ27_set_0 0 rfl rfl)
theorem dJ27_set_1 : decode cJ27_set 1 = .ok (.getfield 27, 3) := dk_180 0 27 (dk_at dksJ27_set_0 1 rfl rfl)
theorem dJ27_set_4 : decode cJ27_set 4 = .ok (.ifCond .ge 11, 3) := dk_156 0 11 (dk_at dksJ27_set_0 4 rfl rfl)
theorem dJ27_set_7 : decode cJ27_set 7 = .ok (.new 37, 3) := dk_187 0 37 (dk_at dksJ27_set_0 7 rfl rfl)
theorem dJ27_set_10 : decode cJ27_set 10 = .ok (.dup, 1) := dk_89 (dk_at dksJ27_set_0 10 rfl rfl)
theorem dJ27_set_11 : decode cJ27_set 11 = .ok (.invokespecial 39, 3) := dk_183 0 39 (dk_at dksJ27_set_0 11 rfl rfl)
theorem dJ27_set_14 : decode cJ27_set 14 = .ok (.athrow, 1) := dk_191 (dk_at dksJ27_set_0 14 rfl rfl)
theorem dJ27_set_15 : decode cJ27_set 15 = .ok (.aload_n 0, 1) := dk_42 (dk_at dksJ27_set_0 15 rfl rfl)
theorem dJ27_set_16 : decode cJ27_set 16 = .ok (.invokevirtual 17, 3) := dk_182 0 17 (dk_at dksJ27_set_0 16 rfl rfl)
theorem dJ27_set_19 : decode cJ27_set 19 = .ok (.aload_n 0, 1) := dk_42 (dk_at dksJ27_set_0 19 rfl rfl)
theorem dJ27_set_20 : decode cJ27_set 20 = .ok (.getfield 1, 3) := dk_180 0 1 (dk_at dksJ27_set_0 20 rfl rfl)
theorem dJ27_set_23 : decode cJ27_set 23 = .ok (.aload_n 0, 1) := dk_42 (dk_at dksJ27_set_0 23 rfl rfl)
theorem dJ27_set_24 : decode cJ27_set 24 = .ok (.getfield 27, 3) := dk_180 0 27 (dk_at dksJ27_set_1 0 rfl rfl)
theorem dJ27_set_27 : decode cJ27_set 27 = .ok (.aload_n 1, 1) := dk_43 (dk_at dksJ27_set_1 3 rfl rfl)
theorem dJ27_set_28 : decode cJ27_set 28 = .ok (.invokevirtual 41, 3) := dk_182 0 41 (dk_at dksJ27_set_1 4 rfl rfl)
theorem dJ27_set_31 : decode cJ27_set 31 = .ok (.pop, 1) := dk_87 (dk_at dksJ27_set_1 7 rfl rfl)
theorem dJ27_set_32 : decode cJ27_set 32 = .ok (.aload_n 0, 1) := dk_42 (dk_at dksJ27_set_1 8 rfl rfl)
theorem dJ27_set_33 : decode cJ27_set 33 = .ok (.aload_n 0, 1) := dk_42 (dk_at dksJ27_set_1 9 rfl rfl)
theorem dJ27_set_34 : decode cJ27_set 34 = .ok (.getfield 1, 3) := dk_180 0 1 (dk_at dksJ27_set_1 10 rfl rfl)
theorem dJ27_set_37 : decode cJ27_set 37 = .ok (.getfield 45, 3) := dk_180 0 45 (dk_at dksJ27_set_1 13 rfl rfl)
theorem dJ27_set_40 : decode cJ27_set 40 = .ok (.putfield 48, 3) := dk_181 0 48 (dk_at dksJ27_set_1 16 rfl rfl)
theorem dJ27_set_43 : decode cJ27_set 43 = .ok (.goto 12, 3) := dk_167 0 12 (dk_at dksJ27_set_1 19 rfl rfl)
theorem dJ27_set_46 : decode cJ27_set 46 = .ok (.astore_n 2, 1) := dk_77 (dk_at dksJ27_set_1 22 rfl rfl)
theorem dJ27_set_47 : decode cJ27_set 47 = .ok (.new 51, 3) := dk_187 0 51 (dk_at dksJ27_set_2 0 rfl rfl)
theorem dJ27_set_50 : decode cJ27_set 50 = .ok (.dup, 1) := dk_89 (dk_at dksJ27_set_2 3 rfl rfl)
theorem dJ27_set_51 : decode cJ27_set 51 = .ok (.invokespecial 53, 3) := dk_183 0 53 (dk_at dksJ27_set_2 4 rfl rfl)
theorem dJ27_set_54 : decode cJ27_set 54 = .ok (.athrow, 1) := dk_191 (dk_at dksJ27_set_2 7 rfl rfl)
theorem dJ27_set_55 : decode cJ27_set 55 = .ok (.return_, 1) := dk_177 (dk_at dksJ27_set_2 8 rfl rfl)
abbrev cJ27_add : ByteArray := prog_40_method_7_code
def yJ27_add : MethodName := ⟨RJ27, "add", "(Ljava/lang/Object;)V"⟩
def dkwJ27_add_2 : List UInt8 := [89, 183, 0, 53, 191, 177]
abbrev dktJ27_add_2 : List UInt8 := dkwJ27_add_2 ++ []
def dkwJ27_add_1 : List UInt8 := [28, 4, 96, 181, 0, 13, 42, 42, 180, 0, 1, 180, 0, 45, 181, 0, 48, 167, 0, 12, 77, 187, 0, 51]
abbrev dktJ27_add_1 : List UInt8 := dkwJ27_add_1 ++ dktJ27_add_2
def dkwJ27_add_0 : List UInt8 := [42, 182, 0, 17, 42, 180, 0, 13, 61, 42, 180, 0, 1, 28, 43, 182, 0, 54, 42, 2, 181, 0, 27, 42]
abbrev dktJ27_add_0 : List UInt8 := dkwJ27_add_0 ++ dktJ27_add_1
theorem dksJ27_add_0 : cJ27_add.data.toList.drop 0 = dktJ27_add_0 := by decide +kernel
theorem dksJ27_add_1 : cJ27_add.data.toList.drop 24 = dktJ27_add_1 := dk_seg dksJ27_add_0 24 rfl rfl
theorem dksJ27_add_2 : cJ27_add.data.toList.drop 48 = dktJ27_add_2 := dk_seg dksJ27_add_1 24 rfl rfl
theorem dJ27_add_0 : decode cJ27_add 0 = .ok (.aload_n 0, 1) := dk_42 (dk_at dksJ27_add_0 0 rfl rfl)
theorem dJ27_add_1 : decode cJ27_add 1 = .ok (.invokevirtual 17, 3) := dk_182 0 17 (dk_at dksJ27_add_0 1 rfl rfl)
theorem dJ27_add_4 : decode cJ27_add 4 = .ok (.aload_n 0, 1) := dk_42 (dk_at dksJ27_add_0 4 rfl rfl)
theorem dJ27_add_5 : decode cJ27_add 5 = .ok (.getfield 13, 3) := dk_180 0 13 (dk_at dksJ27_add_0 5 rfl rfl)
theorem dJ27_add_8 : decode cJ27_add 8 = .ok (.istore_n 2, 1) := dk_61 (dk_at dksJ27_add_0 8 rfl rfl)
theorem dJ27_add_9 : decode cJ27_add 9 = .ok (.aload_n 0, 1) := dk_42 (dk_at dksJ27_add_0 9 rfl rfl)
theorem dJ27_add_10 : decode cJ27_add 10 = .ok (.getfield 1, 3) := dk_180 0 1 (dk_at dksJ27_add_0 10 rfl rfl)
theorem dJ27_add_13 : decode cJ27_add 13 = .ok (.iload_n 2, 1) := dk_28 (dk_at dksJ27_add_0 13 rfl rfl)
theorem dJ27_add_14 : decode cJ27_add 14 = .ok (.aload_n 1, 1) := dk_43 (dk_at dksJ27_add_0 14 rfl rfl)
theorem dJ27_add_15 : decode cJ27_add 15 = .ok (.invokevirtual 54, 3) := dk_182 0 54 (dk_at dksJ27_add_0 15 rfl rfl)
theorem dJ27_add_18 : decode cJ27_add 18 = .ok (.aload_n 0, 1) := dk_42 (dk_at dksJ27_add_0 18 rfl rfl)
theorem dJ27_add_19 : decode cJ27_add 19 = .ok (.iconst (-1), 1) := dk_2 (dk_at dksJ27_add_0 19 rfl rfl)
theorem dJ27_add_20 : decode cJ27_add 20 = .ok (.putfield 27, 3) := dk_181 0 27 (dk_at dksJ27_add_0 20 rfl rfl)
theorem dJ27_add_23 : decode cJ27_add 23 = .ok (.aload_n 0, 1) := dk_42 (dk_at dksJ27_add_0 23 rfl rfl)
theorem dJ27_add_24 : decode cJ27_add 24 = .ok (.iload_n 2, 1) := dk_28 (dk_at dksJ27_add_1 0 rfl rfl)
theorem dJ27_add_25 : decode cJ27_add 25 = .ok (.iconst 1, 1) := dk_4 (dk_at dksJ27_add_1 1 rfl rfl)
theorem dJ27_add_26 : decode cJ27_add 26 = .ok (.iadd, 1) := dk_96 (dk_at dksJ27_add_1 2 rfl rfl)
theorem dJ27_add_27 : decode cJ27_add 27 = .ok (.putfield 13, 3) := dk_181 0 13 (dk_at dksJ27_add_1 3 rfl rfl)
theorem dJ27_add_30 : decode cJ27_add 30 = .ok (.aload_n 0, 1) := dk_42 (dk_at dksJ27_add_1 6 rfl rfl)
theorem dJ27_add_31 : decode cJ27_add 31 = .ok (.aload_n 0, 1) := dk_42 (dk_at dksJ27_add_1 7 rfl rfl)
theorem dJ27_add_32 : decode cJ27_add 32 = .ok (.getfield 1, 3) := dk_180 0 1 (dk_at dksJ27_add_1 8 rfl rfl)
theorem dJ27_add_35 : decode cJ27_add 35 = .ok (.getfield 45, 3) := dk_180 0 45 (dk_at dksJ27_add_1 11 rfl rfl)
theorem dJ27_add_38 : decode cJ27_add 38 = .ok (.putfield 48, 3) := dk_181 0 48 (dk_at dksJ27_add_1 14 rfl rfl)
theorem dJ27_add_41 : decode cJ27_add 41 = .ok (.goto 12, 3) := dk_167 0 12 (dk_at dksJ27_add_1 17 rfl rfl)
theorem dJ27_add_44 : decode cJ27_add 44 = .ok (.astore_n 2, 1) := dk_77 (dk_at dksJ27_add_1 20 rfl rfl)
theorem dJ27_add_45 : decode cJ27_add 45 = .ok (.new 51, 3) := dk_187 0 51 (dk_at dksJ27_add_1 21 rfl rfl)
theorem dJ27_add_48 : decode cJ27_add 48 = .ok (.dup, 1) := dk_89 (dk_at dksJ27_add_2 0 rfl rfl)
theorem dJ27_add_49 : decode cJ27_add 49 = .ok (.invokespecial 53, 3) := dk_183 0 53 (dk_at dksJ27_add_2 1 rfl rfl)
theorem dJ27_add_52 : decode cJ27_add 52 = .ok (.athrow, 1) := dk_191 (dk_at dksJ27_add_2 4 rfl rfl)
theorem dJ27_add_53 : decode cJ27_add 53 = .ok (.return_, 1) := dk_177 (dk_at dksJ27_add_2 5 rfl rfl)
theorem q88 : (Jvm.Cond.initialized "java/util/AbstractList$ListItr") ∈ lw_all := lw_g (lw_at lw_m1 33 rfl) rfl
theorem q149 : (Jvm.Cond.fieldLink "java/util/AbstractList$ListItr" (45 : Nat) "java/util/AbstractList" "modCount" "I") ∈ lw_all := lw_g (lw_at lw_m1 94 rfl) rfl
theorem q235 : (Jvm.Cond.selects "java/util/AbstractList$ListItr" ({ cls := "java/lang/Object", name := "getClass", desc := "()Ljava/lang/Class;" } : Jvm.MethodName) ({ cls := "java/lang/Object", name := "getClass", desc := "()Ljava/lang/Class;" } : Jvm.MethodName)) ∈ lw_all := lw_g (lw_at lw_m1 180 rfl) rfl
theorem q878 : (Jvm.Cond.instantiable "java/util/AbstractList$ListItr" (5 : Nat)) ∈ lw_all := lw_g (lw_at lw_m4 103 rfl) rfl
theorem q880 : (Jvm.Cond.instanceMethod ({ cls := "java/util/AbstractList$ListItr", name := "<init>", desc := "(Ljava/util/AbstractList;I)V" } : Jvm.MethodName)) ∈ lw_all := lw_g (lw_at lw_m4 105 rfl) rfl
theorem q881 : (Jvm.Cond.code ({ cls := "java/util/AbstractList$ListItr", name := "<init>", desc := "(Ljava/util/AbstractList;I)V" } : Jvm.MethodName) prog_40_method_1_code (3 : Nat) (Option.none : Option Jvm.ClassFile.FieldType)) ∈ lw_all := lw_g (lw_at lw_m4 106 rfl) rfl
theorem q882 : (Jvm.Cond.methodLinkNest "java/util/AbstractList$ListItr" (7 : Nat) ({ cls := "java/util/AbstractList$Itr", name := "<init>", desc := "(Ljava/util/AbstractList;)V" } : Jvm.MethodName) "java/util/AbstractList") ∈ lw_tbl := lw_at lw_m4 107 rfl
theorem q886 : (Jvm.Cond.fieldLink "java/util/AbstractList$ListItr" (1 : Nat) "java/util/AbstractList$ListItr" "this$0" "Ljava/util/AbstractList;") ∈ lw_all := lw_g (lw_at lw_m4 111 rfl) rfl
theorem q888 : (Jvm.Cond.fieldLink "java/util/AbstractList$ListItr" (13 : Nat) "java/util/AbstractList$ListItr" "cursor" "I") ∈ lw_all := lw_g (lw_at lw_m4 113 rfl) rfl
theorem q889 : (Jvm.Cond.sameField "java/util/AbstractList$ListItr" "java/util/AbstractList$Itr" "cursor" "I") ∈ lw_all := lw_g (lw_at lw_m4 114 rfl) rfl
theorem q891 : (Jvm.Cond.fieldLink "java/util/AbstractList$ListItr" (27 : Nat) "java/util/AbstractList$ListItr" "lastRet" "I") ∈ lw_all := lw_g (lw_at lw_m4 116 rfl) rfl
theorem q892 : (Jvm.Cond.sameField "java/util/AbstractList$ListItr" "java/util/AbstractList$Itr" "lastRet" "I") ∈ lw_all := lw_g (lw_at lw_m4 117 rfl) rfl
theorem q894 : (Jvm.Cond.fieldLink "java/util/AbstractList$ListItr" (48 : Nat) "java/util/AbstractList$ListItr" "expectedModCount" "I") ∈ lw_all := lw_g (lw_at lw_m4 119 rfl) rfl
theorem q895 : (Jvm.Cond.sameField "java/util/AbstractList$ListItr" "java/util/AbstractList$Itr" "expectedModCount" "I") ∈ lw_all := lw_g (lw_at lw_m4 120 rfl) rfl
theorem q897 : (Jvm.Cond.laysFinal "java/util/AbstractList$ListItr" "java/util/AbstractList$ListItr" "this$0" "Ljava/util/AbstractList;") ∈ lw_all := lw_g (lw_at lw_m4 122 rfl) rfl
theorem q898 : (Jvm.Cond.soleField "java/util/AbstractList$ListItr" "this$0") ∈ lw_all := lw_g (lw_at lw_m4 123 rfl) rfl
theorem q899 : (Jvm.Cond.lays "java/util/AbstractList$ListItr" "java/util/AbstractList$Itr" "cursor" "I") ∈ lw_all := lw_g (lw_at lw_m4 124 rfl) rfl
theorem q901 : (Jvm.Cond.lays "java/util/AbstractList$ListItr" "java/util/AbstractList$Itr" "lastRet" "I") ∈ lw_all := lw_g (lw_at lw_m4 126 rfl) rfl
theorem q903 : (Jvm.Cond.lays "java/util/AbstractList$ListItr" "java/util/AbstractList$Itr" "expectedModCount" "I") ∈ lw_all := lw_g (lw_at lw_m4 128 rfl) rfl
theorem q905 : (Jvm.Cond.laysFinal "java/util/AbstractList$ListItr" "java/util/AbstractList$Itr" "this$0" "Ljava/util/AbstractList;") ∈ lw_all := lw_g (lw_at lw_m4 130 rfl) rfl
theorem q907 : (Jvm.Cond.superclass "java/util/AbstractList$ListItr" "java/util/AbstractList$Itr") ∈ lw_all := lw_g (lw_at lw_m4 132 rfl) rfl
theorem q928 : (Jvm.Cond.castable "java/util/AbstractList$ListItr" "java/util/ListIterator") ∈ lw_tbl := lw_at lw_m4 153 rfl
theorem q929 : (Jvm.Cond.selects "java/util/AbstractList$ListItr" ({ cls := "java/util/ListIterator", name := "hasNext", desc := "()Z" } : Jvm.MethodName) ({ cls := "java/util/AbstractList$Itr", name := "hasNext", desc := "()Z" } : Jvm.MethodName)) ∈ lw_all := lw_g (lw_at lw_m4 154 rfl) rfl
theorem q930 : (Jvm.Cond.unhidden "java/util/AbstractList$ListItr" "hasNext" "()Z") ∈ lw_tbl := lw_at lw_m4 155 rfl
theorem q949 : (Jvm.Cond.selects "java/util/AbstractList$ListItr" ({ cls := "java/util/ListIterator", name := "nextIndex", desc := "()I" } : Jvm.MethodName) ({ cls := "java/util/AbstractList$ListItr", name := "nextIndex", desc := "()I" } : Jvm.MethodName)) ∈ lw_all := lw_g (lw_at lw_m4 174 rfl) rfl
theorem q950 : (Jvm.Cond.unhidden "java/util/AbstractList$ListItr" "nextIndex" "()I") ∈ lw_tbl := lw_at lw_m4 175 rfl
theorem q951 : (Jvm.Cond.instanceMethod ({ cls := "java/util/AbstractList$ListItr", name := "nextIndex", desc := "()I" } : Jvm.MethodName)) ∈ lw_all := lw_g (lw_at lw_m4 176 rfl) rfl
theorem q952 : (Jvm.Cond.publicMethod ({ cls := "java/util/AbstractList$ListItr", name := "nextIndex", desc := "()I" } : Jvm.MethodName)) ∈ lw_tbl := lw_at lw_m4 177 rfl
theorem q953 : (Jvm.Cond.code ({ cls := "java/util/AbstractList$ListItr", name := "nextIndex", desc := "()I" } : Jvm.MethodName) prog_40_method_4_code (1 : Nat) (Option.some Jvm.ClassFile.FieldType.int)) ∈ lw_all := lw_g (lw_at lw_m4 178 rfl) rfl
theorem q983 : (Jvm.Cond.selects "java/util/AbstractList$ListItr" ({ cls := "java/util/ListIterator", name := "next", desc := "()Ljava/lang/Object;" } : Jvm.MethodName) ({ cls := "java/util/AbstractList$Itr", name := "next", desc := "()Ljava/lang/Object;" } : Jvm.MethodName)) ∈ lw_all := lw_g (lw_at lw_m4 208 rfl) rfl
theorem q984 : (Jvm.Cond.unhidden "java/util/AbstractList$ListItr" "next" "()Ljava/lang/Object;") ∈ lw_tbl := lw_at lw_m4 209 rfl
theorem q992 : (Jvm.Cond.selects "java/util/AbstractList$ListItr" ({ cls := "java/util/AbstractList$Itr", name := "checkForComodification", desc := "()V" } : Jvm.MethodName) ({ cls := "java/util/AbstractList$Itr", name := "checkForComodification", desc := "()V" } : Jvm.MethodName)) ∈ lw_all := lw_g (lw_at lw_m4 217 rfl) rfl
theorem q1224 : (Jvm.Cond.castable "java/util/AbstractList$ListItr" "java/util/Iterator") ∈ lw_tbl := lw_at lw_m5 209 rfl
theorem q1225 : (Jvm.Cond.selects "java/util/AbstractList$ListItr" ({ cls := "java/util/Iterator", name := "hasNext", desc := "()Z" } : Jvm.MethodName) ({ cls := "java/util/AbstractList$Itr", name := "hasNext", desc := "()Z" } : Jvm.MethodName)) ∈ lw_all := lw_g (lw_at lw_m5 210 rfl) rfl
theorem q1247 : (Jvm.Cond.selects "java/util/AbstractList$ListItr" ({ cls := "java/util/Iterator", name := "next", desc := "()Ljava/lang/Object;" } : Jvm.MethodName) ({ cls := "java/util/AbstractList$Itr", name := "next", desc := "()Ljava/lang/Object;" } : Jvm.MethodName)) ∈ lw_all := lw_g (lw_at lw_m5 232 rfl) rfl
theorem q1426 : (Jvm.Cond.selects "java/util/AbstractList$ListItr" ({ cls := "java/util/ListIterator", name := "previousIndex", desc := "()I" } : Jvm.MethodName) ({ cls := "java/util/AbstractList$ListItr", name := "previousIndex", desc := "()I" } : Jvm.MethodName)) ∈ lw_all := lw_g (lw_at lw_m6 171 rfl) rfl
theorem q1427 : (Jvm.Cond.unhidden "java/util/AbstractList$ListItr" "previousIndex" "()I") ∈ lw_tbl := lw_at lw_m6 172 rfl
theorem q1428 : (Jvm.Cond.instanceMethod ({ cls := "java/util/AbstractList$ListItr", name := "previousIndex", desc := "()I" } : Jvm.MethodName)) ∈ lw_all := lw_g (lw_at lw_m6 173 rfl) rfl
theorem q1429 : (Jvm.Cond.publicMethod ({ cls := "java/util/AbstractList$ListItr", name := "previousIndex", desc := "()I" } : Jvm.MethodName)) ∈ lw_tbl := lw_at lw_m6 174 rfl
theorem q1430 : (Jvm.Cond.code ({ cls := "java/util/AbstractList$ListItr", name := "previousIndex", desc := "()I" } : Jvm.MethodName) prog_40_method_5_code (1 : Nat) (Option.some Jvm.ClassFile.FieldType.int)) ∈ lw_all := lw_g (lw_at lw_m6 175 rfl) rfl
theorem q1485 : (Jvm.Cond.selects "java/util/AbstractList$ListItr" ({ cls := "java/util/ListIterator", name := "hasPrevious", desc := "()Z" } : Jvm.MethodName) ({ cls := "java/util/AbstractList$ListItr", name := "hasPrevious", desc := "()Z" } : Jvm.MethodName)) ∈ lw_all := lw_g (lw_at lw_m6 230 rfl) rfl
theorem q1486 : (Jvm.Cond.unhidden "java/util/AbstractList$ListItr" "hasPrevious" "()Z") ∈ lw_tbl := lw_at lw_m6 231 rfl
theorem q1487 : (Jvm.Cond.instanceMethod ({ cls := "java/util/AbstractList$ListItr", name := "hasPrevious", desc := "()Z" } : Jvm.MethodName)) ∈ lw_all := lw_g (lw_at lw_m6 232 rfl) rfl
theorem q1488 : (Jvm.Cond.publicMethod ({ cls := "java/util/AbstractList$ListItr", name := "hasPrevious", desc := "()Z" } : Jvm.MethodName)) ∈ lw_tbl := lw_at lw_m6 233 rfl
theorem q1489 : (Jvm.Cond.code ({ cls := "java/util/AbstractList$ListItr", name := "hasPrevious", desc := "()Z" } : Jvm.MethodName) prog_40_method_2_code (1 : Nat) (Option.some Jvm.ClassFile.FieldType.boolean)) ∈ lw_all := lw_g (lw_at lw_m6 234 rfl) rfl
theorem q1510 : (Jvm.Cond.selects "java/util/AbstractList$ListItr" ({ cls := "java/util/ListIterator", name := "previous", desc := "()Ljava/lang/Object;" } : Jvm.MethodName) ({ cls := "java/util/AbstractList$ListItr", name := "previous", desc := "()Ljava/lang/Object;" } : Jvm.MethodName)) ∈ lw_all := lw_g (lw_at lw_m7 15 rfl) rfl
theorem q1511 : (Jvm.Cond.unhidden "java/util/AbstractList$ListItr" "previous" "()Ljava/lang/Object;") ∈ lw_tbl := lw_at lw_m7 16 rfl
theorem q1512 : (Jvm.Cond.instanceMethod ({ cls := "java/util/AbstractList$ListItr", name := "previous", desc := "()Ljava/lang/Object;" } : Jvm.MethodName)) ∈ lw_all := lw_g (lw_at lw_m7 17 rfl) rfl
theorem q1513 : (Jvm.Cond.publicMethod ({ cls := "java/util/AbstractList$ListItr", name := "previous", desc := "()Ljava/lang/Object;" } : Jvm.MethodName)) ∈ lw_tbl := lw_at lw_m7 18 rfl
theorem q1514 : (Jvm.Cond.codeWith ({ cls := "java/util/AbstractList$ListItr", name := "previous", desc := "()Ljava/lang/Object;" } : Jvm.MethodName) prog_40_method_3_code (3 : Nat) (Option.some (Jvm.ClassFile.FieldType.object "java/lang/Object")) [((4 : Nat), (31 : Nat), (32 : Nat), (30 : Nat))]) ∈ lw_all := lw_g (lw_at lw_m7 19 rfl) rfl
theorem q1515 : (Jvm.Cond.methodLink "java/util/AbstractList$ListItr" (17 : Nat) ({ cls := "java/util/AbstractList$ListItr", name := "checkForComodification", desc := "()V" } : Jvm.MethodName)) ∈ lw_all := lw_g (lw_at lw_m7 20 rfl) rfl
theorem q1516 : (Jvm.Cond.sameMethod "java/util/AbstractList$ListItr" "java/util/AbstractList$Itr" "checkForComodification" "()V") ∈ lw_all := lw_g (lw_at lw_m7 21 rfl) rfl
theorem q1518 : (Jvm.Cond.selects "java/util/AbstractList$ListItr" ({ cls := "java/util/AbstractList$ListItr", name := "checkForComodification", desc := "()V" } : Jvm.MethodName) ({ cls := "java/util/AbstractList$Itr", name := "checkForComodification", desc := "()V" } : Jvm.MethodName)) ∈ lw_all := lw_g (lw_at lw_m7 23 rfl) rfl
theorem q1519 : (Jvm.Cond.methodLink "java/util/AbstractList$ListItr" (21 : Nat) ({ cls := "java/util/AbstractList", name := "get", desc := "(I)Ljava/lang/Object;" } : Jvm.MethodName)) ∈ lw_all := lw_g (lw_at lw_m7 24 rfl) rfl
theorem q1520 : (Jvm.Cond.classLink "java/util/AbstractList$ListItr" (32 : Nat) "java/util/NoSuchElementException") ∈ lw_all := lw_g (lw_at lw_m7 25 rfl) rfl
theorem q1521 : (Jvm.Cond.methodLink "java/util/AbstractList$ListItr" (34 : Nat) ({ cls := "java/util/NoSuchElementException", name := "<init>", desc := "(Ljava/lang/Throwable;)V" } : Jvm.MethodName)) ∈ lw_all := lw_g (lw_at lw_m7 26 rfl) rfl
theorem q1753 : (Jvm.Cond.selects "java/util/AbstractList$ListItr" ({ cls := "java/util/ListIterator", name := "remove", desc := "()V" } : Jvm.MethodName) ({ cls := "java/util/AbstractList$Itr", name := "remove", desc := "()V" } : Jvm.MethodName)) ∈ lw_all := lw_g (lw_at lw_m8 18 rfl) rfl
theorem q1754 : (Jvm.Cond.unhidden "java/util/AbstractList$ListItr" "remove" "()V") ∈ lw_tbl := lw_at lw_m8 19 rfl
theorem q2498 : (Jvm.Cond.selects "java/util/AbstractList$ListItr" ({ cls := "java/util/ListIterator", name := "set", desc := "(Ljava/lang/Object;)V" } : Jvm.MethodName) ({ cls := "java/util/AbstractList$ListItr", name := "set", desc := "(Ljava/lang/Object;)V" } : Jvm.MethodName)) ∈ lw_all := lw_g (lw_at lw_m11 43 rfl) rfl
theorem q2499 : (Jvm.Cond.unhidden "java/util/AbstractList$ListItr" "set" "(Ljava/lang/Object;)V") ∈ lw_tbl := lw_at lw_m11 44 rfl
theorem q2500 : (Jvm.Cond.instanceMethod ({ cls := "java/util/AbstractList$ListItr", name := "set", desc := "(Ljava/lang/Object;)V" } : Jvm.MethodName)) ∈ lw_all := lw_g (lw_at lw_m11 45 rfl) rfl
theorem q2501 : (Jvm.Cond.publicMethod ({ cls := "java/util/AbstractList$ListItr", name := "set", desc := "(Ljava/lang/Object;)V" } : Jvm.MethodName)) ∈ lw_tbl := lw_at lw_m11 46 rfl
theorem q2502 : (Jvm.Cond.codeWith ({ cls := "java/util/AbstractList$ListItr", name := "set", desc := "(Ljava/lang/Object;)V" } : Jvm.MethodName) prog_40_method_6_code (3 : Nat) (Option.none : Option Jvm.ClassFile.FieldType) [((19 : Nat), (43 : Nat), (46 : Nat), (30 : Nat))]) ∈ lw_all := lw_g (lw_at lw_m11 47 rfl) rfl
theorem q2503 : (Jvm.Cond.classLink "java/util/AbstractList$ListItr" (37 : Nat) "java/lang/IllegalStateException") ∈ lw_all := lw_g (lw_at lw_m11 48 rfl) rfl
theorem q2504 : (Jvm.Cond.methodLink "java/util/AbstractList$ListItr" (39 : Nat) ({ cls := "java/lang/IllegalStateException", name := "<init>", desc := "()V" } : Jvm.MethodName)) ∈ lw_all := lw_g (lw_at lw_m11 49 rfl) rfl
theorem q2505 : (Jvm.Cond.methodLink "java/util/AbstractList$ListItr" (41 : Nat) ({ cls := "java/util/AbstractList", name := "set", desc := "(ILjava/lang/Object;)Ljava/lang/Object;" } : Jvm.MethodName)) ∈ lw_all := lw_g (lw_at lw_m11 50 rfl) rfl
theorem q2506 : (Jvm.Cond.classLink "java/util/AbstractList$ListItr" (51 : Nat) "java/util/ConcurrentModificationException") ∈ lw_all := lw_g (lw_at lw_m11 51 rfl) rfl
theorem q2507 : (Jvm.Cond.methodLink "java/util/AbstractList$ListItr" (53 : Nat) ({ cls := "java/util/ConcurrentModificationException", name := "<init>", desc := "()V" } : Jvm.MethodName)) ∈ lw_all := lw_g (lw_at lw_m11 52 rfl) rfl
theorem q3244 : (Jvm.Cond.selects "java/util/AbstractList$ListItr" ({ cls := "java/util/Iterator", name := "remove", desc := "()V" } : Jvm.MethodName) ({ cls := "java/util/AbstractList$Itr", name := "remove", desc := "()V" } : Jvm.MethodName)) ∈ lw_all := lw_g (lw_at lw_m14 69 rfl) rfl
theorem q3452 : (Jvm.Cond.selects "java/util/AbstractList$ListItr" ({ cls := "java/util/ListIterator", name := "add", desc := "(Ljava/lang/Object;)V" } : Jvm.MethodName) ({ cls := "java/util/AbstractList$ListItr", name := "add", desc := "(Ljava/lang/Object;)V" } : Jvm.MethodName)) ∈ lw_all := lw_g (lw_at lw_m15 37 rfl) rfl
theorem q3453 : (Jvm.Cond.unhidden "java/util/AbstractList$ListItr" "add" "(Ljava/lang/Object;)V") ∈ lw_tbl := lw_at lw_m15 38 rfl
theorem q3454 : (Jvm.Cond.instanceMethod ({ cls := "java/util/AbstractList$ListItr", name := "add", desc := "(Ljava/lang/Object;)V" } : Jvm.MethodName)) ∈ lw_all := lw_g (lw_at lw_m15 39 rfl) rfl
theorem q3455 : (Jvm.Cond.publicMethod ({ cls := "java/util/AbstractList$ListItr", name := "add", desc := "(Ljava/lang/Object;)V" } : Jvm.MethodName)) ∈ lw_tbl := lw_at lw_m15 40 rfl
theorem q3456 : (Jvm.Cond.codeWith ({ cls := "java/util/AbstractList$ListItr", name := "add", desc := "(Ljava/lang/Object;)V" } : Jvm.MethodName) prog_40_method_7_code (3 : Nat) (Option.none : Option Jvm.ClassFile.FieldType) [((4 : Nat), (41 : Nat), (44 : Nat), (30 : Nat))]) ∈ lw_all := lw_g (lw_at lw_m15 41 rfl) rfl
theorem q3457 : (Jvm.Cond.methodLink "java/util/AbstractList$ListItr" (54 : Nat) ({ cls := "java/util/AbstractList", name := "add", desc := "(ILjava/lang/Object;)V" } : Jvm.MethodName)) ∈ lw_all := lw_g (lw_at lw_m15 42 rfl) rfl
theorem q3914 : (Jvm.Cond.castable "java/util/AbstractList$ListItr" "java/lang/Object") ∈ lw_tbl := lw_at lw_m17 19 rfl
theorem in_J27 : ∀ w ∈ wsJ270, w ∈ lw_all := lw_in wsJ270 [899, 901, 903, 905, 897] (by decide +kernel) (by decide +kernel)

/-! java/util/AbstractList$SubList$1 -/
set_option maxRecDepth 100000
def RJ28 : String := "java/util/AbstractList$SubList$1"
def TJ28 : u_T := fun k => match k with
  | 0 => ("java/util/AbstractList$SubList$1", "i", "Ljava/util/ListIterator;", true)
  | 1 => ("java/util/AbstractList$SubList$1", "val$index", "I", true)
  | _ => ("java/util/AbstractList$SubList$1", "this$0", "Ljava/util/AbstractList$SubList;", true)
def tyJ28 : Nat → FieldType := fun k => match k with
  | 0 => .object "java/util/ListIterator"
  | 1 => .int
  | _ => .object "java/util/AbstractList$SubList"
abbrev wsJ280 : List Cond := u_ws RJ28 TJ28 3
theorem nmJ28 : ∀ a, a < 3 → ∀ b, b < 3 → a ≠ b → (TJ28 a).2.1 ≠ (TJ28 b).2.1 := by decide +kernel
theorem tyJ28_ok : ∀ k, k < 3 → parseFieldDescriptor (TJ28 k).2.2.1 = some (tyJ28 k) := by decide +kernel
abbrev cJ28_init : ByteArray := prog_43_method_1_code
def yJ28_init : MethodName := ⟨RJ28, "<init>", "(Ljava/util/AbstractList$SubList;I)V"⟩
def dkwJ28_init_1 : List UInt8 := [180, 0, 1, 180, 0, 23, 42, 180, 0, 7, 96, 182, 0, 26, 181, 0, 32, 177]
abbrev dktJ28_init_1 : List UInt8 := dkwJ28_init_1 ++ []
def dkwJ28_init_0 : List UInt8 := [42, 43, 181, 0, 1, 42, 28, 181, 0, 7, 42, 183, 0, 11, 42, 42, 180, 0, 1, 180, 0, 17, 42]
abbrev dktJ28_init_0 : List UInt8 := dkwJ28_init_0 ++ dktJ28_init_1
theorem dksJ28_init_0 : cJ28_init.data.toList.drop 0 = dktJ28_init_0 := by decide +kernel
theorem dksJ28_init_1 : cJ28_init.data.toList.drop 23 = dktJ28_init_1 := dk_seg dksJ28_init_0 23 rfl rfl
theorem dJ28_init_0 : decode cJ28_init 0 = .ok (.aload_n 0, 1) := dk_42 (dk_at dksJ28_init_0 0 rfl rfl)
theorem dJ28_init_1 : decode cJ28_init 1 = .ok (.aload_n 1, 1) := dk_43 (dk_at dksJ28_init_0 1 rfl rfl)
theorem dJ28_init_2 : decode cJ28_init 2 = .ok (.putfield 1, 3) := dk_181 0 1 (dk_at dksJ28_init_0 2 rfl rfl)
theorem dJ28_init_5 : decode cJ28_init 5 = .ok (.aload_n 0, 1) := dk_42 (dk_at dksJ28_init_0 5 rfl rfl)
theorem dJ28_init_6 : decode cJ28_init 6 = .ok (.iload_n 2, 1) := dk_28 (dk_at dksJ28_init_0 6 rfl rfl)
theorem dJ28_init_7 : decode cJ28_init 7 = .ok (.putfield 7, 3) := dk_181 0 7 (dk_at dksJ28_init_0 7 rfl rfl)
theorem dJ28_init_10 : decode cJ28_init 10 = .ok (.aload_n 0, 1) := dk_42 (dk_at dksJ28_init_0 10 rfl rfl)
theorem dJ28_init_11 : decode cJ28_init 11 = .ok (.invokespecial 11, 3) := dk_183 0 11 (dk_at dksJ28_init_0 11 rfl rfl)
theorem dJ28_init_14 : decode cJ28_init 14 = .ok (.aload_n 0, 1) := dk_42 (dk_at dksJ28_init_0 14 rfl rfl)
theorem dJ28_init_15 : decode cJ28_init 15 = .ok (.aload_n 0, 1) := dk_42 (dk_at dksJ28_init_0 15 rfl rfl)
theorem dJ28_init_16 : decode cJ28_init 16 = .ok (.getfield 1, 3) := dk_180 0 1 (dk_at dksJ28_init_0 16 rfl rfl)
theorem dJ28_init_19 : decode cJ28_init 19 = .ok (.getfield 17, 3) := dk_180 0 17 (dk_at dksJ28_init_0 19 rfl rfl)
theorem dJ28_init_22 : decode cJ28_init 22 = .ok (.aload_n 0, 1) := dk_42 (dk_at dksJ28_init_0 22 rfl rfl)
theorem dJ28_init_23 : decode cJ28_init 23 = .ok (.getfield 1, 3) := dk_180 0 1 (dk_at dksJ28_init_1 0 rfl rfl)
theorem dJ28_init_26 : decode cJ28_init 26 = .ok (.getfield 23, 3) := dk_180 0 23 (dk_at dksJ28_init_1 3 rfl rfl)
theorem dJ28_init_29 : decode cJ28_init 29 = .ok (.aload_n 0, 1) := dk_42 (dk_at dksJ28_init_1 6 rfl rfl)
theorem dJ28_init_30 : decode cJ28_init 30 = .ok (.getfield 7, 3) := dk_180 0 7 (dk_at dksJ28_init_1 7 rfl rfl)
theorem dJ28_init_33 : decode cJ28_init 33 = .ok (.iadd, 1) := dk_96 (dk_at dksJ28_init_1 10 rfl rfl)
theorem dJ28_init_34 : decode cJ28_init 34 = .ok (.invokevirtual 26, 3) := dk_182 0 26 (dk_at dksJ28_init_1 11 rfl rfl)
theorem dJ28_init_37 : decode cJ28_init 37 = .ok (.putfield 32, 3) := dk_181 0 32 (dk_at dksJ28_init_1 14 rfl rfl)
theorem dJ28_init_40 : decode cJ28_init 40 = .ok (.return_, 1) := dk_177 (dk_at dksJ28_init_1 17 rfl rfl)
abbrev cJ28_hasNext : ByteArray := prog_43_method_2_code
def yJ28_hasNext : MethodName := ⟨RJ28, "hasNext", "()Z"⟩
def dkwJ28_hasNext_0 : List UInt8 := [42, 182, 0, 36, 42, 180, 0, 1, 180, 0, 40, 162, 0, 7, 4, 167, 0, 4, 3, 172]
abbrev dktJ28_hasNext_0 : List UInt8 := dkwJ28_hasNext_0 ++ []
theorem dksJ28_hasNext_0 : cJ28_hasNext.data.toList.drop 0 = dktJ28_hasNext_0 := by decide +kernel
theorem dJ28_hasNext_0 : decode cJ28_hasNext 0 = .ok (.aload_n 0, 1) := dk_42 (dk_at dksJ28_hasNext_0 0 rfl rfl)
theorem dJ28_hasNext_1 : decode cJ28_hasNext 1 = .ok (.invokevirtual 36, 3) := dk_182 0 36 (dk_at dksJ28_hasNext_0 1 rfl rfl)
theorem dJ28_hasNext_4 : decode cJ28_hasNext 4 = .ok (.aload_n 0, 1) := dk_42 (dk_at dksJ28_hasNext_0 4 rfl rfl)
theorem dJ28_hasNext_5 : decode cJ28_hasNext 5 = .ok (.getfield 1, 3) := dk_180 0 1 (dk_at dksJ28_hasNext_0 5 rfl rfl)
theorem dJ28_hasNext_8 : decode cJ28_hasNext 8 = .ok (.getfield 40, 3) := dk_180 0 40 (dk_at dksJ28_hasNext_0 8 rfl rfl)
theorem dJ28_hasNext_11 : decode cJ28_hasNext 11 = .ok (.if_icmp .ge 7, 3) := dk_162 0 7 (dk_at dksJ28_hasNext_0 11 rfl rfl)
theorem dJ28_hasNext_14 : decode cJ28_hasNext 14 = .ok (.iconst 1, 1) := dk_4 (dk_at dksJ28_hasNext_0 14 rfl rfl)
theorem dJ28_hasNext_15 : decode cJ28_hasNext 15 = .ok (.goto 4, 3) := dk_167 0 4 (dk_at dksJ28_hasNext_0 15 rfl rfl)
theorem dJ28_hasNext_18 : decode cJ28_hasNext 18 = .ok (.iconst 0, 1) := dk_3 (dk_at dksJ28_hasNext_0 18 rfl rfl)
theorem dJ28_hasNext_19 : decode cJ28_hasNext 19 = .ok (.ireturn, 1) := dk_172 (dk_at dksJ28_hasNext_0 19 rfl rfl)
abbrev cJ28_nextIndex : ByteArray := prog_43_method_6_code
def yJ28_nextIndex : MethodName := ⟨RJ28, "nextIndex", "()I"⟩
def dkwJ28_nextIndex_0 : List UInt8 := [42, 180, 0, 32, 185, 0, 65, 1, 0, 42, 180, 0, 1, 180, 0, 23, 100, 172]
abbrev dktJ28_nextIndex_0 : List UInt8 := dkwJ28_nextIndex_0 ++ []
theorem dksJ28_nextIndex_0 : cJ28_nextIndex.data.toList.drop 0 = dktJ28_nextIndex_0 := by decide +kernel
theorem dJ28_nextIndex_0 : decode cJ28_nextIndex 0 = .ok (.aload_n 0, 1) := dk_42 (dk_at dksJ28_nextIndex_0 0 rfl rfl)
theorem dJ28_nextIndex_1 : decode cJ28_nextIndex 1 = .ok (.getfield 32, 3) := dk_180 0 32 (dk_at dksJ28_nextIndex_0 1 rfl rfl)
theorem dJ28_nextIndex_4 : decode cJ28_nextIndex 4 = .ok (.invokeinterface 65 1, 5) := by decide +kernel
theorem dJ28_nextIndex_9 : decode cJ28_nextIndex 9 = .ok (.aload_n 0, 1) := dk_42 (dk_at dksJ28_nextIndex_0 9 rfl rfl)
theorem dJ28_nextIndex_10 : decode cJ28_nextIndex 10 = .ok (.getfield 1, 3) := dk_180 0 1 (dk_at dksJ28_nextIndex_0 10 rfl rfl)
theorem dJ28_nextIndex_13 : decode cJ28_nextIndex 13 = .ok (.getfield 23, 3) := dk_180 0 23 (dk_at dksJ28_nextIndex_0 13 rfl rfl)
theorem dJ28_nextIndex_16 : decode cJ28_nextIndex 16 = .ok (.isub, 1) := dk_100 (dk_at dksJ28_nextIndex_0 16 rfl rfl)
theorem dJ28_nextIndex_17 : decode cJ28_nextIndex 17 = .ok (.ireturn, 1) := dk_172 (dk_at dksJ28_nextIndex_0 17 rfl rfl)
abbrev cJ28_next : ByteArray := prog_43_method_3_code
def yJ28_next : MethodName := ⟨RJ28, "next", "()Ljava/lang/Object;"⟩
def dkwJ28_next_1 : List UInt8 := [191]
abbrev dktJ28_next_1 : List UInt8 := dkwJ28_next_1 ++ []
def dkwJ28_next_0 : List UInt8 := [42, 182, 0, 43, 153, 0, 13, 42, 180, 0, 32, 185, 0, 47, 1, 0, 176, 187, 0, 53, 89, 183, 0, 55]
abbrev dktJ28_next_0 : List UInt8 := dkwJ28_next_0 ++ dktJ28_next_1
theorem dksJ28_next_0 : cJ28_next.data.toList.drop 0 = dktJ28_next_0 := by decide +kernel
theorem dksJ28_next_1 : cJ28_next.data.toList.drop 24 = dktJ28_next_1 := dk_seg dksJ28_next_0 24 rfl rfl
theorem dJ28_next_0 : decode cJ28_next 0 = .ok (.aload_n 0, 1) := dk_42 (dk_at dksJ28_next_0 0 rfl rfl)
theorem dJ28_next_1 : decode cJ28_next 1 = .ok (.invokevirtual 43, 3) := dk_182 0 43 (dk_at dksJ28_next_0 1 rfl rfl)
theorem dJ28_next_4 : decode cJ28_next 4 = .ok (.ifCond .eq 13, 3) := dk_153 0 13 (dk_at dksJ28_next_0 4 rfl rfl)
theorem dJ28_next_7 : decode cJ28_next 7 = .ok (.aload_n 0, 1) := dk_42 (dk_at dksJ28_next_0 7 rfl rfl)
theorem dJ28_next_8 : decode cJ28_next 8 = .ok (.getfield 32, 3) := dk_180 0 32 (dk_at dksJ28_next_0 8 rfl rfl)
theorem dJ28_next_11 : decode cJ28_next 11 = .ok (.invokeinterface 47 1, 5) := by decide +kernel
theorem dJ28_next_16 : decode cJ28_next 16 = .ok (.areturn, 1) := dk_176 (dk_at dksJ28_next_0 16 rfl rfl)
theorem dJ28_next_17 : decode cJ28_next 17 = .ok (.new 53, 3) := dk_187 0 53 (dk_at dksJ28_next_0 17 rfl rfl)
theorem dJ28_next_20 : decode cJ28_next 20 = .ok (.dup, 1) := dk_89 (dk_at dksJ28_next_0 20 rfl rfl)
theorem dJ28_next_21 : decode cJ28_next 21 = .ok (.invokespecial 55, 3) := dk_183 0 55 (dk_at dksJ28_next_0 21 rfl rfl)
theorem dJ28_next_24 : decode cJ28_next 24 = .ok (.athrow, 1) := dk_191 (dk_at dksJ28_next_1 0 rfl rfl)
abbrev cJ28_previousIndex : ByteArray := prog_43_method_7_code
def yJ28_previousIndex : MethodName := ⟨RJ28, "previousIndex", "()I"⟩
def dkwJ28_previousIndex_0 : List UInt8 := [42, 180, 0, 32, 185, 0, 66, 1, 0, 42, 180, 0, 1, 180, 0, 23, 100, 172]
abbrev dktJ28_previousIndex_0 : List UInt8 := dkwJ28_previousIndex_0 ++ []
theorem dksJ28_previousIndex_0 : cJ28_previousIndex.data.toList.drop 0 = dktJ28_previousIndex_0 := by decide +kernel
theorem dJ28_previousIndex_0 : decode cJ28_previousIndex 0 = .ok (.aload_n 0, 1) := dk_42 (dk_at dksJ28_previousIndex_0 0 rfl rfl)
theorem dJ28_previousIndex_1 : decode cJ28_previousIndex 1 = .ok (.getfield 32, 3) := dk_180 0 32 (dk_at dksJ28_previousIndex_0 1 rfl rfl)
theorem dJ28_previousIndex_4 : decode cJ28_previousIndex 4 = .ok (.invokeinterface 66 1, 5) := by decide +kernel
theorem dJ28_previousIndex_9 : decode cJ28_previousIndex 9 = .ok (.aload_n 0, 1) := dk_42 (dk_at dksJ28_previousIndex_0 9 rfl rfl)
theorem dJ28_previousIndex_10 : decode cJ28_previousIndex 10 = .ok (.getfield 1, 3) := dk_180 0 1 (dk_at dksJ28_previousIndex_0 10 rfl rfl)
theorem dJ28_previousIndex_13 : decode cJ28_previousIndex 13 = .ok (.getfield 23, 3) := dk_180 0 23 (dk_at dksJ28_previousIndex_0 13 rfl rfl)
theorem dJ28_previousIndex_16 : decode cJ28_previousIndex 16 = .ok (.isub, 1) := dk_100 (dk_at dksJ28_previousIndex_0 16 rfl rfl)
theorem dJ28_previousIndex_17 : decode cJ28_previousIndex 17 = .ok (.ireturn, 1) := dk_172 (dk_at dksJ28_previousIndex_0 17 rfl rfl)
abbrev cJ28_hasPrevious : ByteArray := prog_43_method_4_code
def yJ28_hasPrevious : MethodName := ⟨RJ28, "hasPrevious", "()Z"⟩
def dkwJ28_hasPrevious_0 : List UInt8 := [42, 182, 0, 56, 155, 0, 7, 4, 167, 0, 4, 3, 172]
abbrev dktJ28_hasPrevious_0 : List UInt8 := dkwJ28_hasPrevious_0 ++ []
theorem dksJ28_hasPrevious_0 : cJ28_hasPrevious.data.toList.drop 0 = dktJ28_hasPrevious_0 := by decide +kernel
theorem dJ28_hasPrevious_0 : decode cJ28_hasPrevious 0 = .ok (.aload_n 0, 1) := dk_42 (dk_at dksJ28_hasPrevious_0 0 rfl rfl)
theorem dJ28_hasPrevious_1 : decode cJ28_hasPrevious 1 = .ok (.invokevirtual 56, 3) := dk_182 0 56 (dk_at dksJ28_hasPrevious_0 1 rfl rfl)
theorem dJ28_hasPrevious_4 : decode cJ28_hasPrevious 4 = .ok (.ifCond .lt 7, 3) := dk_155 0 7 (dk_at dksJ28_hasPrevious_0 4 rfl rfl)
theorem dJ28_hasPrevious_7 : decode cJ28_hasPrevious 7 = .ok (.iconst 1, 1) := dk_4 (dk_at dksJ28_hasPrevious_0 7 rfl rfl)
theorem dJ28_hasPrevious_8 : decode cJ28_hasPrevious 8 = .ok (.goto 4, 3) := dk_167 0 4 (dk_at dksJ28_hasPrevious_0 8 rfl rfl)
theorem dJ28_hasPrevious_11 : decode cJ28_hasPrevious 11 = .ok (.iconst 0, 1) := dk_3 (dk_at dksJ28_hasPrevious_0 11 rfl rfl)
theorem dJ28_hasPrevious_12 : decode cJ28_hasPrevious 12 = .ok (.ireturn, 1) := dk_172 (dk_at dksJ28_hasPrevious_0 12 rfl rfl)
abbrev cJ28_previous : ByteArray := prog_43_method_5_code
def yJ28_previous : MethodName := ⟨RJ28, "previous", "()Ljava/lang/Object;"⟩
def dkwJ28_previous_1 : List UInt8 := [191]
abbrev dktJ28_previous_1 : List UInt8 := dkwJ28_previous_1 ++ []
def dkwJ28_previous_0 : List UInt8 := [42, 182, 0, 59, 153, 0, 13, 42, 180, 0, 32, 185, 0, 62, 1, 0, 176, 187, 0, 53, 89, 183, 0, 55]
abbrev dktJ28_previous_0 : List UInt8 := dkwJ28_previous_0 ++ dktJ28_previous_1
theorem dksJ28_previous_0 : cJ28_previous.data.toList.drop 0 = dktJ28_previous_0 := by decide +kernel
theorem dksJ28_previous_1 : cJ28_previous.data.toList.drop 24 = dktJ28_previous_1 := dk_seg dksJ28_previous_0 24 rfl rfl
theorem dJ28_previous_0 : decode cJ28_previous 0 = .ok (.aload_n 0, 1) := dk_42 (dk_at dksJ28_previous_0 0 rfl rfl)
theorem dJ28_previous_1 : decode cJ28_previous 1 = .ok (.invokevirtual 59, 3) := dk_182 0 59 (dk_at dksJ28_previous_0 1 rfl rfl)
theorem dJ28_previous_4 : decode cJ28_previous 4 = .ok (.ifCond .eq 13, 3) := dk_153 0 13 (dk_at dksJ28_previous_0 4 rfl rfl)
theorem dJ28_previous_7 : decode cJ28_previous 7 = .ok (.aload_n 0, 1) := dk_42 (dk_at dksJ28_previous_0 7 rfl rfl)
theorem dJ28_previous_8 : decode cJ28_previous 8 = .ok (.getfield 32, 3) := dk_180 0 32 (dk_at dksJ28_previous_0 8 rfl rfl)
theorem dJ28_previous_11 : decode cJ28_previous 11 = .ok (.invokeinterface 62 1, 5) := by decide +kernel
theorem dJ28_previous_16 : decode cJ28_previous 16 = .ok (.areturn, 1) := dk_176 (dk_at dksJ28_previous_0 16 rfl rfl)
theorem dJ28_previous_17 : decode cJ28_previous 17 = .ok (.new 53, 3) := dk_187 0 53 (dk_at dksJ28_previous_0 17 rfl rfl)
theorem dJ28_previous_20 : decode cJ28_previous 20 = .ok (.dup, 1) := dk_89 (dk_at dksJ28_previous_0 20 rfl rfl)
theorem dJ28_previous_21 : decode cJ28_previous 21 = .ok (.invokespecial 55, 3) := dk_183 0 55 (dk_at dksJ28_previous_0 21 rfl rfl)
theorem dJ28_previous_24 : decode cJ28_previous 24 = .ok (.athrow, 1) := dk_191 (dk_at dksJ28_previous_1 0 rfl rfl)
abbrev cJ28_remove : ByteArray := prog_43_method_8_code
def yJ28_remove : MethodName := ⟨RJ28, "remove", "()V"⟩
def dkwJ28_remove_0 : List UInt8 := [42, 180, 0, 32, 185, 0, 67, 1, 0, 42, 180, 0, 1, 2, 182, 0, 70, 177]
abbrev dktJ28_remove_0 : List UInt8 := dkwJ28_remove_0 ++ []
theorem dksJ28_remove_0 : cJ28_remove.data.toList.drop 0 = dktJ28_remove_0 := by decide +kernel
theorem dJ28_remove_0 : decode cJ28_remove 0 = .ok (.aload_n 0, 1) := dk_42 (dk_at dksJ28_remove_0 0 rfl rfl)
theorem dJ28_remove_1 : decode cJ28_remove 1 = .ok (.getfield 32, 3) := dk_180 0 32 (dk_at dksJ28_remove_0 1 rfl rfl)
theorem dJ28_remove_4 : decode cJ28_remove 4 = .ok (.invokeinterface 67 1, 5) := by decide +kernel
theorem dJ28_remove_9 : decode cJ28_remove 9 = .ok (.aload_n 0, 1) := dk_42 (dk_at dksJ28_remove_0 9 rfl rfl)
theorem dJ28_remove_10 : decode cJ28_remove 10 = .ok (.getfield 1, 3) := dk_180 0 1 (dk_at dksJ28_remove_0 10 rfl rfl)
theorem dJ28_remove_13 : decode cJ28_remove 13 = .ok (.iconst (-1), 1) := dk_2 (dk_at dksJ28_remove_0 13 rfl rfl)
theorem dJ28_remove_14 : decode cJ28_remove 14 = .ok (.invokevirtual 70, 3) := dk_182 0 70 (dk_at dksJ28_remove_0 14 rfl rfl)
theorem dJ28_remove_17 : decode cJ28_remove 17 = .ok (.return_, 1) := dk_177 (dk_at dksJ28_remove_0 17 rfl rfl)
abbrev cJ28_set : ByteArray := prog_43_method_9_code
def yJ28_set : MethodName := ⟨RJ28, "set", "(Ljava/lang/Object;)V"⟩
def dkwJ28_set_0 : List UInt8 := [42, 180, 0, 32, 43, 185, 0, 74, 2, 0, 177]
abbrev dktJ28_set_0 : List UInt8 := dkwJ28_set_0 ++ []
theorem dksJ28_set_0 : cJ28_set.data.toList.drop 0 = dktJ28_set_0 := by decide +kernel
theorem dJ28_set_0 : decode cJ28_set 0 = .ok (.aload_n 0, 1) := dk_42 (dk_at dksJ28_set_0 0 rfl rfl)
theorem dJ28_set_1 : decode cJ28_set 1 = .ok (.getfield 32, 3) := dk_180 0 32 (dk_at dksJ28_set_0 1 rfl rfl)
theorem dJ28_set_4 : decode cJ28_set 4 = .ok (.aload_n 1, 1) := dk_43 (dk_at dksJ28_set_0 4 rfl rfl)
theorem dJ28_set_5 : decode cJ28_set 5 = .ok (.invokeinterface 74 2, 5) := by decide +kernel
theorem dJ28_set_10 : decode cJ28_set 10 = .ok (.return_, 1) := dk_177 (dk_at dksJ28_set_0 10 rfl rfl)
abbrev cJ28_add : ByteArray := prog_43_method_10_code
def yJ28_add : MethodName := ⟨RJ28, "add", "(Ljava/lang/Object;)V"⟩
def dkwJ28_add_0 : List UInt8 := [42, 180, 0, 32, 43, 185, 0, 78, 2, 0, 42, 180, 0, 1, 4, 182, 0, 70, 177]
abbrev dktJ28_add_0 : List UInt8 := dkwJ28_add_0 ++ []
theorem dksJ28_add_0 : cJ28_add.data.toList.drop 0 = dktJ28_add_0 := by decide +kernel
theorem dJ28_add_0 : decode cJ28_add 0 = .ok (.aload_n 0, 1) := dk_42 (dk_at dksJ28_add_0 0 rfl rfl)
theorem dJ28_add_1 : decode cJ28_add 1 = .ok (.getfield 32, 3) := dk_180 0 32 (dk_at dksJ28_add_0 1 rfl rfl)
theorem dJ28_add_4 : decode cJ28_add 4 = .ok (.aload_n 1, 1) := dk_43 (dk_at dksJ28_add_0 4 rfl rfl)
theorem dJ28_add_5 : decode cJ28_add 5 = .ok (.invokeinterface 78 2, 5) := by decide +kernel
theorem dJ28_add_10 : decode cJ28_add 10 = .ok (.aload_n 0, 1) := dk_42 (dk_at dksJ28_add_0 10 rfl rfl)
theorem dJ28_add_11 : decode cJ28_add 11 = .ok (.getfield 1, 3) := dk_180 0 1 (dk_at dksJ28_add_0 11 rfl rfl)
theorem dJ28_add_14 : decode cJ28_add 14 = .ok (.iconst 1, 1) := dk_4 (dk_at dksJ28_add_0 14 rfl rfl)
theorem dJ28_add_15 : decode cJ28_add 15 = .ok (.invokevirtual 70, 3) := dk_182 0 70 (dk_at dksJ28_add_0 15 rfl rfl)
theorem dJ28_add_18 : decode cJ28_add 18 = .ok (.return_, 1) := dk_177 (dk_at dksJ28_add_0 18 rfl rfl)
theorem q89 : (Jvm.Cond.initialized "java/util/AbstractList$SubList$1") ∈ lw_all := lw_g (lw_at lw_m1 34 rfl) rfl
theorem q238 : (Jvm.Cond.selects "java/util/AbstractList$SubList$1" ({ cls := "java/lang/Object", name := "getClass", desc := "()Ljava/lang/Class;" } : Jvm.MethodName) ({ cls := "java/lang/Object", name := "getClass", desc := "()Ljava/lang/Class;" } : Jvm.MethodName)) ∈ lw_all := lw_g (lw_at lw_m1 183 rfl) rfl
theorem q771 : (Jvm.Cond.instantiable "java/util/AbstractList$SubList$1" (3 : Nat)) ∈ lw_all := lw_g (lw_at lw_m3 236 rfl) rfl
theorem q773 : (Jvm.Cond.instanceMethod ({ cls := "java/util/AbstractList$SubList$1", name := "<init>", desc := "(Ljava/util/AbstractList$SubList;I)V" } : Jvm.MethodName)) ∈ lw_all := lw_g (lw_at lw_m3 238 rfl) rfl
theorem q774 : (Jvm.Cond.code ({ cls := "java/util/AbstractList$SubList$1", name := "<init>", desc := "(Ljava/util/AbstractList$SubList;I)V" } : Jvm.MethodName) prog_43_method_1_code (3 : Nat) (Option.none : Option Jvm.ClassFile.FieldType)) ∈ lw_all := lw_g (lw_at lw_m3 239 rfl) rfl
theorem q775 : (Jvm.Cond.methodLink "java/util/AbstractList$SubList$1" (11 : Nat) ({ cls := "java/lang/Object", name := "<init>", desc := "()V" } : Jvm.MethodName)) ∈ lw_all := lw_g (lw_at lw_m4 0 rfl) rfl
theorem q776 : (Jvm.Cond.methodLink "java/util/AbstractList$SubList$1" (26 : Nat) ({ cls := "java/util/AbstractList", name := "listIterator", desc := "(I)Ljava/util/ListIterator;" } : Jvm.MethodName)) ∈ lw_all := lw_g (lw_at lw_m4 1 rfl) rfl
theorem q837 : (Jvm.Cond.fieldLink "java/util/AbstractList$SubList$1" (32 : Nat) "java/util/AbstractList$SubList$1" "i" "Ljava/util/ListIterator;") ∈ lw_all := lw_g (lw_at lw_m4 62 rfl) rfl
theorem q838 : (Jvm.Cond.fieldLink "java/util/AbstractList$SubList$1" (7 : Nat) "java/util/AbstractList$SubList$1" "val$index" "I") ∈ lw_all := lw_g (lw_at lw_m4 63 rfl) rfl
theorem q839 : (Jvm.Cond.fieldLink "java/util/AbstractList$SubList$1" (1 : Nat) "java/util/AbstractList$SubList$1" "this$0" "Ljava/util/AbstractList$SubList;") ∈ lw_all := lw_g (lw_at lw_m4 64 rfl) rfl
theorem q840 : (Jvm.Cond.laysFinal "java/util/AbstractList$SubList$1" "java/util/AbstractList$SubList$1" "i" "Ljava/util/ListIterator;") ∈ lw_all := lw_g (lw_at lw_m4 65 rfl) rfl
theorem q841 : (Jvm.Cond.soleField "java/util/AbstractList$SubList$1" "i") ∈ lw_all := lw_g (lw_at lw_m4 66 rfl) rfl
theorem q842 : (Jvm.Cond.laysFinal "java/util/AbstractList$SubList$1" "java/util/AbstractList$SubList$1" "val$index" "I") ∈ lw_all := lw_g (lw_at lw_m4 67 rfl) rfl
theorem q843 : (Jvm.Cond.soleField "java/util/AbstractList$SubList$1" "val$index") ∈ lw_all := lw_g (lw_at lw_m4 68 rfl) rfl
theorem q844 : (Jvm.Cond.laysFinal "java/util/AbstractList$SubList$1" "java/util/AbstractList$SubList$1" "this$0" "Ljava/util/AbstractList$SubList;") ∈ lw_all := lw_g (lw_at lw_m4 69 rfl) rfl
theorem q845 : (Jvm.Cond.soleField "java/util/AbstractList$SubList$1" "this$0") ∈ lw_all := lw_g (lw_at lw_m4 70 rfl) rfl
theorem q846 : (Jvm.Cond.superclass "java/util/AbstractList$SubList$1" "java/lang/Object") ∈ lw_all := lw_g (lw_at lw_m4 71 rfl) rfl
theorem q935 : (Jvm.Cond.castable "java/util/AbstractList$SubList$1" "java/util/ListIterator") ∈ lw_tbl := lw_at lw_m4 160 rfl
theorem q936 : (Jvm.Cond.selects "java/util/AbstractList$SubList$1" ({ cls := "java/util/ListIterator", name := "hasNext", desc := "()Z" } : Jvm.MethodName) ({ cls := "java/util/AbstractList$SubList$1", name := "hasNext", desc := "()Z" } : Jvm.MethodName)) ∈ lw_all := lw_g (lw_at lw_m4 161 rfl) rfl
theorem q937 : (Jvm.Cond.unhidden "java/util/AbstractList$SubList$1" "hasNext" "()Z") ∈ lw_tbl := lw_at lw_m4 162 rfl
theorem q938 : (Jvm.Cond.instanceMethod ({ cls := "java/util/AbstractList$SubList$1", name := "hasNext", desc := "()Z" } : Jvm.MethodName)) ∈ lw_all := lw_g (lw_at lw_m4 163 rfl) rfl
theorem q939 : (Jvm.Cond.publicMethod ({ cls := "java/util/AbstractList$SubList$1", name := "hasNext", desc := "()Z" } : Jvm.MethodName)) ∈ lw_tbl := lw_at lw_m4 164 rfl
theorem q940 : (Jvm.Cond.code ({ cls := "java/util/AbstractList$SubList$1", name := "hasNext", desc := "()Z" } : Jvm.MethodName) prog_43_method_2_code (1 : Nat) (Option.some Jvm.ClassFile.FieldType.boolean)) ∈ lw_all := lw_g (lw_at lw_m4 165 rfl) rfl
theorem q941 : (Jvm.Cond.methodLink "java/util/AbstractList$SubList$1" (36 : Nat) ({ cls := "java/util/AbstractList$SubList$1", name := "nextIndex", desc := "()I" } : Jvm.MethodName)) ∈ lw_all := lw_g (lw_at lw_m4 166 rfl) rfl
theorem q942 : (Jvm.Cond.instanceMethod ({ cls := "java/util/AbstractList$SubList$1", name := "nextIndex", desc := "()I" } : Jvm.MethodName)) ∈ lw_all := lw_g (lw_at lw_m4 167 rfl) rfl
theorem q943 : (Jvm.Cond.selects "java/util/AbstractList$SubList$1" ({ cls := "java/util/AbstractList$SubList$1", name := "nextIndex", desc := "()I" } : Jvm.MethodName) ({ cls := "java/util/AbstractList$SubList$1", name := "nextIndex", desc := "()I" } : Jvm.MethodName)) ∈ lw_all := lw_g (lw_at lw_m4 168 rfl) rfl
theorem q944 : (Jvm.Cond.code ({ cls := "java/util/AbstractList$SubList$1", name := "nextIndex", desc := "()I" } : Jvm.MethodName) prog_43_method_6_code (1 : Nat) (Option.some Jvm.ClassFile.FieldType.int)) ∈ lw_all := lw_g (lw_at lw_m4 169 rfl) rfl
theorem q945 : (Jvm.Cond.interfaceEntry "java/util/AbstractList$SubList$1" (65 : Nat)) ∈ lw_tbl := lw_at lw_m4 170 rfl
theorem q946 : (Jvm.Cond.methodLink "java/util/AbstractList$SubList$1" (65 : Nat) ({ cls := "java/util/ListIterator", name := "nextIndex", desc := "()I" } : Jvm.MethodName)) ∈ lw_all := lw_g (lw_at lw_m4 171 rfl) rfl
theorem q954 : (Jvm.Cond.selects "java/util/AbstractList$SubList$1" ({ cls := "java/util/ListIterator", name := "nextIndex", desc := "()I" } : Jvm.MethodName) ({ cls := "java/util/AbstractList$SubList$1", name := "nextIndex", desc := "()I" } : Jvm.MethodName)) ∈ lw_all := lw_g (lw_at lw_m4 179 rfl) rfl
theorem q955 : (Jvm.Cond.unhidden "java/util/AbstractList$SubList$1" "nextIndex" "()I") ∈ lw_tbl := lw_at lw_m4 180 rfl
theorem q956 : (Jvm.Cond.publicMethod ({ cls := "java/util/AbstractList$SubList$1", name := "nextIndex", desc := "()I" } : Jvm.MethodName)) ∈ lw_tbl := lw_at lw_m4 181 rfl
theorem q1074 : (Jvm.Cond.selects "java/util/AbstractList$SubList$1" ({ cls := "java/util/ListIterator", name := "next", desc := "()Ljava/lang/Object;" } : Jvm.MethodName) ({ cls := "java/util/AbstractList$SubList$1", name := "next", desc := "()Ljava/lang/Object;" } : Jvm.MethodName)) ∈ lw_all := lw_g (lw_at lw_m5 59 rfl) rfl
theorem q1075 : (Jvm.Cond.unhidden "java/util/AbstractList$SubList$1" "next" "()Ljava/lang/Object;") ∈ lw_tbl := lw_at lw_m5 60 rfl
theorem q1076 : (Jvm.Cond.instanceMethod ({ cls := "java/util/AbstractList$SubList$1", name := "next", desc := "()Ljava/lang/Object;" } : Jvm.MethodName)) ∈ lw_all := lw_g (lw_at lw_m5 61 rfl) rfl
theorem q1077 : (Jvm.Cond.publicMethod ({ cls := "java/util/AbstractList$SubList$1", name := "next", desc := "()Ljava/lang/Object;" } : Jvm.MethodName)) ∈ lw_tbl := lw_at lw_m5 62 rfl
theorem q1078 : (Jvm.Cond.code ({ cls := "java/util/AbstractList$SubList$1", name := "next", desc := "()Ljava/lang/Object;" } : Jvm.MethodName) prog_43_method_3_code (1 : Nat) (Option.some (Jvm.ClassFile.FieldType.object "java/lang/Object"))) ∈ lw_all := lw_g (lw_at lw_m5 63 rfl) rfl
theorem q1079 : (Jvm.Cond.methodLink "java/util/AbstractList$SubList$1" (43 : Nat) ({ cls := "java/util/AbstractList$SubList$1", name := "hasNext", desc := "()Z" } : Jvm.MethodName)) ∈ lw_all := lw_g (lw_at lw_m5 64 rfl) rfl
theorem q1080 : (Jvm.Cond.interfaceEntry "java/util/AbstractList$SubList$1" (47 : Nat)) ∈ lw_tbl := lw_at lw_m5 65 rfl
theorem q1081 : (Jvm.Cond.methodLink "java/util/AbstractList$SubList$1" (47 : Nat) ({ cls := "java/util/ListIterator", name := "next", desc := "()Ljava/lang/Object;" } : Jvm.MethodName)) ∈ lw_all := lw_g (lw_at lw_m5 66 rfl) rfl
theorem q1226 : (Jvm.Cond.castable "java/util/AbstractList$SubList$1" "java/util/Iterator") ∈ lw_tbl := lw_at lw_m5 211 rfl
theorem q1227 : (Jvm.Cond.selects "java/util/AbstractList$SubList$1" ({ cls := "java/util/Iterator", name := "hasNext", desc := "()Z" } : Jvm.MethodName) ({ cls := "java/util/AbstractList$SubList$1", name := "hasNext", desc := "()Z" } : Jvm.MethodName)) ∈ lw_all := lw_g (lw_at lw_m5 212 rfl) rfl
theorem q1248 : (Jvm.Cond.selects "java/util/AbstractList$SubList$1" ({ cls := "java/util/Iterator", name := "next", desc := "()Ljava/lang/Object;" } : Jvm.MethodName) ({ cls := "java/util/AbstractList$SubList$1", name := "next", desc := "()Ljava/lang/Object;" } : Jvm.MethodName)) ∈ lw_all := lw_g (lw_at lw_m5 233 rfl) rfl
theorem q1431 : (Jvm.Cond.selects "java/util/AbstractList$SubList$1" ({ cls := "java/util/ListIterator", name := "previousIndex", desc := "()I" } : Jvm.MethodName) ({ cls := "java/util/AbstractList$SubList$1", name := "previousIndex", desc := "()I" } : Jvm.MethodName)) ∈ lw_all := lw_g (lw_at lw_m6 176 rfl) rfl
theorem q1432 : (Jvm.Cond.unhidden "java/util/AbstractList$SubList$1" "previousIndex" "()I") ∈ lw_tbl := lw_at lw_m6 177 rfl
theorem q1433 : (Jvm.Cond.instanceMethod ({ cls := "java/util/AbstractList$SubList$1", name := "previousIndex", desc := "()I" } : Jvm.MethodName)) ∈ lw_all := lw_g (lw_at lw_m6 178 rfl) rfl
theorem q1434 : (Jvm.Cond.publicMethod ({ cls := "java/util/AbstractList$SubList$1", name := "previousIndex", desc := "()I" } : Jvm.MethodName)) ∈ lw_tbl := lw_at lw_m6 179 rfl
theorem q1435 : (Jvm.Cond.code ({ cls := "java/util/AbstractList$SubList$1", name := "previousIndex", desc := "()I" } : Jvm.MethodName) prog_43_method_7_code (1 : Nat) (Option.some Jvm.ClassFile.FieldType.int)) ∈ lw_all := lw_g (lw_at lw_m6 180 rfl) rfl
theorem q1436 : (Jvm.Cond.interfaceEntry "java/util/AbstractList$SubList$1" (66 : Nat)) ∈ lw_tbl := lw_at lw_m6 181 rfl
theorem q1437 : (Jvm.Cond.methodLink "java/util/AbstractList$SubList$1" (66 : Nat) ({ cls := "java/util/ListIterator", name := "previousIndex", desc := "()I" } : Jvm.MethodName)) ∈ lw_all := lw_g (lw_at lw_m6 182 rfl) rfl
theorem q1490 : (Jvm.Cond.selects "java/util/AbstractList$SubList$1" ({ cls := "java/util/ListIterator", name := "hasPrevious", desc := "()Z" } : Jvm.MethodName) ({ cls := "java/util/AbstractList$SubList$1", name := "hasPrevious", desc := "()Z" } : Jvm.MethodName)) ∈ lw_all := lw_g (lw_at lw_m6 235 rfl) rfl
theorem q1491 : (Jvm.Cond.unhidden "java/util/AbstractList$SubList$1" "hasPrevious" "()Z") ∈ lw_tbl := lw_at lw_m6 236 rfl
theorem q1492 : (Jvm.Cond.instanceMethod ({ cls := "java/util/AbstractList$SubList$1", name := "hasPrevious", desc := "()Z" } : Jvm.MethodName)) ∈ lw_all := lw_g (lw_at lw_m6 237 rfl) rfl
theorem q1493 : (Jvm.Cond.publicMethod ({ cls := "java/util/AbstractList$SubList$1", name := "hasPrevious", desc := "()Z" } : Jvm.MethodName)) ∈ lw_tbl := lw_at lw_m6 238 rfl
theorem q1494 : (Jvm.Cond.code ({ cls := "java/util/AbstractList$SubList$1", name := "hasPrevious", desc := "()Z" } : Jvm.MethodName) prog_43_method_4_code (1 : Nat) (Option.some Jvm.ClassFile.FieldType.boolean)) ∈ lw_all := lw_g (lw_at lw_m6 239 rfl) rfl
theorem q1495 : (Jvm.Cond.methodLink "java/util/AbstractList$SubList$1" (56 : Nat) ({ cls := "java/util/AbstractList$SubList$1", name := "previousIndex", desc := "()I" } : Jvm.MethodName)) ∈ lw_all := lw_g (lw_at lw_m7 0 rfl) rfl
theorem q1522 : (Jvm.Cond.selects "java/util/AbstractList$SubList$1" ({ cls := "java/util/ListIterator", name := "previous", desc := "()Ljava/lang/Object;" } : Jvm.MethodName) ({ cls := "java/util/AbstractList$SubList$1", name := "previous", desc := "()Ljava/lang/Object;" } : Jvm.MethodName)) ∈ lw_all := lw_g (lw_at lw_m7 27 rfl) rfl
theorem q1523 : (Jvm.Cond.unhidden "java/util/AbstractList$SubList$1" "previous" "()Ljava/lang/Object;") ∈ lw_tbl := lw_at lw_m7 28 rfl
theorem q1524 : (Jvm.Cond.instanceMethod ({ cls := "java/util/AbstractList$SubList$1", name := "previous", desc := "()Ljava/lang/Object;" } : Jvm.MethodName)) ∈ lw_all := lw_g (lw_at lw_m7 29 rfl) rfl
theorem q1525 : (Jvm.Cond.publicMethod ({ cls := "java/util/AbstractList$SubList$1", name := "previous", desc := "()Ljava/lang/Object;" } : Jvm.MethodName)) ∈ lw_tbl := lw_at lw_m7 30 rfl
theorem q1526 : (Jvm.Cond.code ({ cls := "java/util/AbstractList$SubList$1", name := "previous", desc := "()Ljava/lang/Object;" } : Jvm.MethodName) prog_43_method_5_code (1 : Nat) (Option.some (Jvm.ClassFile.FieldType.object "java/lang/Object"))) ∈ lw_all := lw_g (lw_at lw_m7 31 rfl) rfl
theorem q1527 : (Jvm.Cond.methodLink "java/util/AbstractList$SubList$1" (59 : Nat) ({ cls := "java/util/AbstractList$SubList$1", name := "hasPrevious", desc := "()Z" } : Jvm.MethodName)) ∈ lw_all := lw_g (lw_at lw_m7 32 rfl) rfl
theorem q1528 : (Jvm.Cond.interfaceEntry "java/util/AbstractList$SubList$1" (62 : Nat)) ∈ lw_tbl := lw_at lw_m7 33 rfl
theorem q1529 : (Jvm.Cond.methodLink "java/util/AbstractList$SubList$1" (62 : Nat) ({ cls := "java/util/ListIterator", name := "previous", desc := "()Ljava/lang/Object;" } : Jvm.MethodName)) ∈ lw_all := lw_g (lw_at lw_m7 34 rfl) rfl
theorem q1809 : (Jvm.Cond.selects "java/util/AbstractList$SubList$1" ({ cls := "java/util/ListIterator", name := "remove", desc := "()V" } : Jvm.MethodName) ({ cls := "java/util/AbstractList$SubList$1", name := "remove", desc := "()V" } : Jvm.MethodName)) ∈ lw_all := lw_g (lw_at lw_m8 74 rfl) rfl
theorem q1810 : (Jvm.Cond.unhidden "java/util/AbstractList$SubList$1" "remove" "()V") ∈ lw_tbl := lw_at lw_m8 75 rfl
theorem q1811 : (Jvm.Cond.instanceMethod ({ cls := "java/util/AbstractList$SubList$1", name := "remove", desc := "()V" } : Jvm.MethodName)) ∈ lw_all := lw_g (lw_at lw_m8 76 rfl) rfl
theorem q1812 : (Jvm.Cond.publicMethod ({ cls := "java/util/AbstractList$SubList$1", name := "remove", desc := "()V" } : Jvm.MethodName)) ∈ lw_tbl := lw_at lw_m8 77 rfl
theorem q1813 : (Jvm.Cond.code ({ cls := "java/util/AbstractList$SubList$1", name := "remove", desc := "()V" } : Jvm.MethodName) prog_43_method_8_code (1 : Nat) (Option.none : Option Jvm.ClassFile.FieldType)) ∈ lw_all := lw_g (lw_at lw_m8 78 rfl) rfl
theorem q1814 : (Jvm.Cond.interfaceEntry "java/util/AbstractList$SubList$1" (67 : Nat)) ∈ lw_tbl := lw_at lw_m8 79 rfl
theorem q1815 : (Jvm.Cond.methodLink "java/util/AbstractList$SubList$1" (67 : Nat) ({ cls := "java/util/ListIterator", name := "remove", desc := "()V" } : Jvm.MethodName)) ∈ lw_all := lw_g (lw_at lw_m8 80 rfl) rfl
theorem q1836 : (Jvm.Cond.methodLinkNest "java/util/AbstractList$SubList$1" (70 : Nat) ({ cls := "java/util/AbstractList$SubList", name := "updateSizeAndModCount", desc := "(I)V" } : Jvm.MethodName) "java/util/AbstractList") ∈ lw_tbl := lw_at lw_m8 101 rfl
theorem q2083 : (Jvm.Cond.fieldLinkNest "java/util/AbstractList$SubList$1" (17 : Nat) "java/util/AbstractList$SubList" "root" "Ljava/util/AbstractList;" "java/util/AbstractList") ∈ lw_tbl := lw_at lw_m9 108 rfl
theorem q2086 : (Jvm.Cond.fieldLinkNest "java/util/AbstractList$SubList$1" (23 : Nat) "java/util/AbstractList$SubList" "offset" "I" "java/util/AbstractList") ∈ lw_tbl := lw_at lw_m9 111 rfl
theorem q2088 : (Jvm.Cond.fieldLink "java/util/AbstractList$SubList$1" (40 : Nat) "java/util/AbstractList$SubList" "size" "I") ∈ lw_all := lw_g (lw_at lw_m9 113 rfl) rfl
theorem q2508 : (Jvm.Cond.selects "java/util/AbstractList$SubList$1" ({ cls := "java/util/ListIterator", name := "set", desc := "(Ljava/lang/Object;)V" } : Jvm.MethodName) ({ cls := "java/util/AbstractList$SubList$1", name := "set", desc := "(Ljava/lang/Object;)V" } : Jvm.MethodName)) ∈ lw_all := lw_g (lw_at lw_m11 53 rfl) rfl
theorem q2509 : (Jvm.Cond.unhidden "java/util/AbstractList$SubList$1" "set" "(Ljava/lang/Object;)V") ∈ lw_tbl := lw_at lw_m11 54 rfl
theorem q2510 : (Jvm.Cond.instanceMethod ({ cls := "java/util/AbstractList$SubList$1", name := "set", desc := "(Ljava/lang/Object;)V" } : Jvm.MethodName)) ∈ lw_all := lw_g (lw_at lw_m11 55 rfl) rfl
theorem q2511 : (Jvm.Cond.publicMethod ({ cls := "java/util/AbstractList$SubList$1", name := "set", desc := "(Ljava/lang/Object;)V" } : Jvm.MethodName)) ∈ lw_tbl := lw_at lw_m11 56 rfl
theorem q2512 : (Jvm.Cond.code ({ cls := "java/util/AbstractList$SubList$1", name := "set", desc := "(Ljava/lang/Object;)V" } : Jvm.MethodName) prog_43_method_9_code (2 : Nat) (Option.none : Option Jvm.ClassFile.FieldType)) ∈ lw_all := lw_g (lw_at lw_m11 57 rfl) rfl
theorem q2513 : (Jvm.Cond.interfaceEntry "java/util/AbstractList$SubList$1" (74 : Nat)) ∈ lw_tbl := lw_at lw_m11 58 rfl
theorem q2514 : (Jvm.Cond.methodLink "java/util/AbstractList$SubList$1" (74 : Nat) ({ cls := "java/util/ListIterator", name := "set", desc := "(Ljava/lang/Object;)V" } : Jvm.MethodName)) ∈ lw_all := lw_g (lw_at lw_m11 59 rfl) rfl
theorem q3245 : (Jvm.Cond.selects "java/util/AbstractList$SubList$1" ({ cls := "java/util/Iterator", name := "remove", desc := "()V" } : Jvm.MethodName) ({ cls := "java/util/AbstractList$SubList$1", name := "remove", desc := "()V" } : Jvm.MethodName)) ∈ lw_all := lw_g (lw_at lw_m14 70 rfl) rfl
theorem q3458 : (Jvm.Cond.selects "java/util/AbstractList$SubList$1" ({ cls := "java/util/ListIterator", name := "add", desc := "(Ljava/lang/Object;)V" } : Jvm.MethodName) ({ cls := "java/util/AbstractList$SubList$1", name := "add", desc := "(Ljava/lang/Object;)V" } : Jvm.MethodName)) ∈ lw_all := lw_g (lw_at lw_m15 43 rfl) rfl
theorem q3459 : (Jvm.Cond.unhidden "java/util/AbstractList$SubList$1" "add" "(Ljava/lang/Object;)V") ∈ lw_tbl := lw_at lw_m15 44 rfl
theorem q3460 : (Jvm.Cond.instanceMethod ({ cls := "java/util/AbstractList$SubList$1", name := "add", desc := "(Ljava/lang/Object;)V" } : Jvm.MethodName)) ∈ lw_all := lw_g (lw_at lw_m15 45 rfl) rfl
theorem q3461 : (Jvm.Cond.publicMethod ({ cls := "java/util/AbstractList$SubList$1", name := "add", desc := "(Ljava/lang/Object;)V" } : Jvm.MethodName)) ∈ lw_tbl := lw_at lw_m15 46 rfl
theorem q3462 : (Jvm.Cond.code ({ cls := "java/util/AbstractList$SubList$1", name := "add", desc := "(Ljava/lang/Object;)V" } : Jvm.MethodName) prog_43_method_10_code (2 : Nat) (Option.none : Option Jvm.ClassFile.FieldType)) ∈ lw_all := lw_g (lw_at lw_m15 47 rfl) rfl
theorem q3463 : (Jvm.Cond.interfaceEntry "java/util/AbstractList$SubList$1" (78 : Nat)) ∈ lw_tbl := lw_at lw_m15 48 rfl
theorem q3464 : (Jvm.Cond.methodLink "java/util/AbstractList$SubList$1" (78 : Nat) ({ cls := "java/util/ListIterator", name := "add", desc := "(Ljava/lang/Object;)V" } : Jvm.MethodName)) ∈ lw_all := lw_g (lw_at lw_m15 49 rfl) rfl
theorem q3861 : (Jvm.Cond.selects "java/util/AbstractList$SubList$1" ({ cls := "java/util/AbstractList$SubList$1", name := "hasNext", desc := "()Z" } : Jvm.MethodName) ({ cls := "java/util/AbstractList$SubList$1", name := "hasNext", desc := "()Z" } : Jvm.MethodName)) ∈ lw_all := lw_g (lw_at lw_m16 206 rfl) rfl
theorem q3864 : (Jvm.Cond.selects "java/util/AbstractList$SubList$1" ({ cls := "java/util/AbstractList$SubList$1", name := "previousIndex", desc := "()I" } : Jvm.MethodName) ({ cls := "java/util/AbstractList$SubList$1", name := "previousIndex", desc := "()I" } : Jvm.MethodName)) ∈ lw_all := lw_g (lw_at lw_m16 209 rfl) rfl
theorem q3865 : (Jvm.Cond.selects "java/util/AbstractList$SubList$1" ({ cls := "java/util/AbstractList$SubList$1", name := "hasPrevious", desc := "()Z" } : Jvm.MethodName) ({ cls := "java/util/AbstractList$SubList$1", name := "hasPrevious", desc := "()Z" } : Jvm.MethodName)) ∈ lw_all := lw_g (lw_at lw_m16 210 rfl) rfl
theorem q3915 : (Jvm.Cond.castable "java/util/AbstractList$SubList$1" "java/lang/Object") ∈ lw_tbl := lw_at lw_m17 20 rfl
theorem in_J28 : ∀ w ∈ wsJ280, w ∈ lw_all := lw_in wsJ280 [840, 842, 844] (by decide +kernel) (by decide +kernel)

/-! java/util/Arrays$ArrayItr -/
set_option maxRecDepth 100000
def RJ32 : String := "java/util/Arrays$ArrayItr"
def TJ32 : u_T := fun k => match k with
  | 0 => ("java/util/Arrays$ArrayItr", "cursor", "I", false)
  | _ => ("java/util/Arrays$ArrayItr", "a", "[Ljava/lang/Object;", true)
def tyJ32 : Nat → FieldType := fun k => match k with
  | 0 => .int
  | _ => .array (.object "java/lang/Object")
abbrev wsJ320 : List Cond := u_ws RJ32 TJ32 2
theorem nmJ32 : ∀ a, a < 2 → ∀ b, b < 2 → a ≠ b → (TJ32 a).2.1 ≠ (TJ32 b).2.1 := by decide +kernel
theorem tyJ32_ok : ∀ k, k < 2 → parseFieldDescriptor (TJ32 k).2.2.1 = some (tyJ32 k) := by decide +kernel
abbrev cJ32_init : ByteArray := prog_50_method_1_code
def yJ32_init : MethodName := ⟨RJ32, "<init>", "([Ljava/lang/Object;)V"⟩
def dkwJ32_init_0 : List UInt8 := [42, 183, 0, 1, 42, 43, 181, 0, 7, 177]
abbrev dktJ32_init_0 : List UInt8 := dkwJ32_init_0 ++ []
theorem dksJ32_init_0 : cJ32_init.data.toList.drop 0 = dktJ32_init_0 := by decide +kernel
theorem dJ32_init_0 : decode cJ32_init 0 = .ok (.aload_n 0, 1) := dk_42 (dk_at dksJ32_init_0 0 rfl rfl)
theorem dJ32_init_1 : decode cJ32_init 1 = .ok (.invokespecial 1, 3) := dk_183 0 1 (dk_at dksJ32_init_0 1 rfl rfl)
theorem dJ32_init_4 : decode cJ32_init 4 = .ok (.aload_n 0, 1) := dk_42 (dk_at dksJ32_init_0 4 rfl rfl)
theorem dJ32_init_5 : decode cJ32_init 5 = .ok (.aload_n 1, 1) := dk_43 (dk_at dksJ32_init_0 5 rfl rfl)
theorem dJ32_init_6 : decode cJ32_init 6 = .ok (.putfield 7, 3) := dk_181 0 7 (dk_at dksJ32_init_0 6 rfl rfl)
theorem dJ32_init_9 : decode cJ32_init 9 = .ok (.return_, 1) := dk_177 (dk_at dksJ32_init_0 9 rfl rfl)
abbrev cJ32_hasNext : ByteArray := prog_50_method_2_code
def yJ32_hasNext : MethodName := ⟨RJ32, "hasNext", "()Z"⟩
def dkwJ32_hasNext_0 : List UInt8 := [42, 180, 0, 13, 42, 180, 0, 7, 190, 162, 0, 7, 4, 167, 0, 4, 3, 172]
abbrev dktJ32_hasNext_0 : List UInt8 := dkwJ32_hasNext_0 ++ []
theorem dksJ32_hasNext_0 : cJ32_hasNext.data.toList.drop 0 = dktJ32_hasNext_0 := by decide +kernel
theorem dJ32_hasNext_0 : decode cJ32_hasNext 0 = .ok (.aload_n 0, 1) := dk_42 (dk_at dksJ32_hasNext_0 0 rfl rfl)
theorem dJ32_hasNext_1 : decode cJ32_hasNext 1 = .ok (.getfield 13, 3) := dk_180 0 13 (dk_at dksJ32_hasNext_0 1 rfl rfl)
theorem dJ32_hasNext_4 : decode cJ32_hasNext 4 = .ok (.aload_n 0, 1) := dk_42 (dk_at dksJ32_hasNext_0 4 rfl rfl)
theorem dJ32_hasNext_5 : decode cJ32_hasNext 5 = .ok (.getfield 7, 3) := dk_180 0 7 (dk_at dksJ32_hasNext_0 5 rfl rfl)
theorem dJ32_hasNext_8 : decode cJ32_hasNext 8 = .ok (.arraylength, 1) := dk_190 (dk_at dksJ32_hasNext_0 8 rfl rfl)
theorem dJ32_hasNext_9 : decode cJ32_hasNext 9 = .ok (.if_icmp .ge 7, 3) := dk_162 0 7 (dk_at dksJ32_hasNext_0 9 rfl rfl)
theorem dJ32_hasNext_12 : decode cJ32_hasNext 12 = .ok (.iconst 1, 1) := dk_4 (dk_at dksJ32_hasNext_0 12 rfl rfl)
theorem dJ32_hasNext_13 : decode cJ32_hasNext 13 = .ok (.goto 4, 3) := dk_167 0 4 (dk_at dksJ32_hasNext_0 13 rfl rfl)
theorem dJ32_hasNext_16 : decode cJ32_hasNext 16 = .ok (.iconst 0, 1) := dk_3 (dk_at dksJ32_hasNext_0 16 rfl rfl)
theorem dJ32_hasNext_17 : decode cJ32_hasNext 17 = .ok (.ireturn, 1) := dk_172 (dk_at dksJ32_hasNext_0 17 rfl rfl)
abbrev cJ32_next : ByteArray := prog_50_method_3_code
def yJ32_next : MethodName := ⟨RJ32, "next", "()Ljava/lang/Object;"⟩
def dkwJ32_next_1 : List UInt8 := [4, 96, 181, 0, 13, 42, 180, 0, 7, 27, 50, 176]
abbrev dktJ32_next_1 : List UInt8 := dkwJ32_next_1 ++ []
def dkwJ32_next_0 : List UInt8 := [42, 180, 0, 13, 60, 27, 42, 180, 0, 7, 190, 161, 0, 11, 187, 0, 17, 89, 183, 0, 19, 191, 42, 27]
abbrev dktJ32_next_0 : List UInt8 := dkwJ32_next_0 ++ dktJ32_next_1
theorem dksJ32_next_0 : cJ32_next.data.toList.drop 0 = dktJ32_next_0 := by decide +kernel
theorem dksJ32_next_1 : cJ32_next.data.toList.drop 24 = dktJ32_next_1 := dk_seg dksJ32_next_0 24 rfl rfl
theorem dJ32_next_0 : decode cJ32_next 0 = .ok (.aload_n 0, 1) := dk_42 (dk_at dksJ32_next_0 0 rfl rfl)
theorem dJ32_next_1 : decode cJ32_next 1 = .ok (.getfield 13, 3) := dk_180 0 13 (dk_at dksJ32_next_0 1 rfl rfl)
theorem dJ32_next_4 : decode cJ32_next 4 = .ok (.istore_n 1, 1) := dk_60 (dk_at dksJ32_next_0 4 rfl rfl)
theorem dJ32_next_5 : decode cJ32_next 5 = .ok (.iload_n 1, 1) := dk_27 (dk_at dksJ32_next_0 5 rfl rfl)
theorem dJ32_next_6 : decode cJ32_next 6 = .ok (.aload_n 0, 1) := dk_42 (dk_at dksJ32_next_0 6 rfl rfl)
theorem dJ32_next_7 : decode cJ32_next 7 = .ok (.getfield 7, 3) := dk_180 0 7 (dk_at dksJ32_next_0 7 rfl rfl)
theorem dJ32_next_10 : decode cJ32_next 10 = .ok (.arraylength, 1) := dk_190 (dk_at dksJ32_next_0 10 rfl rfl)
theorem dJ32_next_11 : decode cJ32_next 11 = .ok (.if_icmp .lt 11, 3) := dk_161 0 11 (dk_at dksJ32_next_0 11 rfl rfl)
theorem dJ32_next_14 : decode cJ32_next 14 = .ok (.new 17, 3) := dk_187 0 17 (dk_at dksJ32_next_0 14 rfl rfl)
theorem dJ32_next_17 : decode cJ32_next 17 = .ok (.dup, 1) := dk_89 (dk_at dksJ32_next_0 17 rfl rfl)
theorem dJ32_next_18 : decode cJ32_next 18 = .ok (.invokespecial 19, 3) := dk_183 0 19 (dk_at dksJ32_next_0 18 rfl rfl)
theorem dJ32_next_21 : decode cJ32_next 21 = .ok (.athrow, 1) := dk_191 (dk_at dksJ32_next_0 21 rfl rfl)
theorem dJ32_next_22 : decode cJ32_next 22 = .ok (.aload_n 0, 1) := dk_42 (dk_at dksJ32_next_0 22 rfl rfl)
theorem dJ32_next_23 : decode cJ32_next 23 = .ok (.iload_n 1, 1) := dk_27 (dk_at dksJ32_next_0 23 rfl rfl)
theorem dJ32_next_24 : decode cJ32_next 24 = .ok (.iconst 1, 1) := dk_4 (dk_at dksJ32_next_1 0 rfl rfl)
theorem dJ32_next_25 : decode cJ32_next 25 = .ok (.iadd, 1) := dk_96 (dk_at dksJ32_next_1 1 rfl rfl)
theorem dJ32_next_26 : decode cJ32_next 26 = .ok (.putfield 13, 3) := dk_181 0 13 (dk_at dksJ32_next_1 2 rfl rfl)
theorem dJ32_next_29 : decode cJ32_next 29 = .ok (.aload_n 0, 1) := dk_42 (dk_at dksJ32_next_1 5 rfl rfl)
theorem dJ32_next_30 : decode cJ32_next 30 = .ok (.getfield 7, 3) := dk_180 0 7 (dk_at dksJ32_next_1 6 rfl rfl)
theorem dJ32_next_33 : decode cJ32_next 33 = .ok (.iload_n 1, 1) := dk_27 (dk_at dksJ32_next_1 9 rfl rfl)
theorem dJ32_next_34 : decode cJ32_next 34 = .ok (.aaload, 1) := dk_50 (dk_at dksJ32_next_1 10 rfl rfl)
theorem dJ32_next_35 : decode cJ32_next 35 = .ok (.areturn, 1) := dk_176 (dk_at dksJ32_next_1 11 rfl rfl)
theorem q93 : (Jvm.Cond.initialized "java/util/Arrays$ArrayItr") ∈ lw_all := lw_g (lw_at lw_m1 38 rfl) rfl
theorem q244 : (Jvm.Cond.selects "java/util/Arrays$ArrayItr" ({ cls := "java/lang/Object", name := "getClass", desc := "()Ljava/lang/Class;" } : Jvm.MethodName) ({ cls := "java/lang/Object", name := "getClass", desc := "()Ljava/lang/Class;" } : Jvm.MethodName)) ∈ lw_all := lw_g (lw_at lw_m1 189 rfl) rfl
theorem q1205 : (Jvm.Cond.instantiable "java/util/Arrays$ArrayItr" (2 : Nat)) ∈ lw_all := lw_g (lw_at lw_m5 190 rfl) rfl
theorem q1207 : (Jvm.Cond.instanceMethod ({ cls := "java/util/Arrays$ArrayItr", name := "<init>", desc := "([Ljava/lang/Object;)V" } : Jvm.MethodName)) ∈ lw_all := lw_g (lw_at lw_m5 192 rfl) rfl
theorem q1208 : (Jvm.Cond.code ({ cls := "java/util/Arrays$ArrayItr", name := "<init>", desc := "([Ljava/lang/Object;)V" } : Jvm.MethodName) prog_50_method_1_code (2 : Nat) (Option.none : Option Jvm.ClassFile.FieldType)) ∈ lw_all := lw_g (lw_at lw_m5 193 rfl) rfl
theorem q1209 : (Jvm.Cond.methodLink "java/util/Arrays$ArrayItr" (1 : Nat) ({ cls := "java/lang/Object", name := "<init>", desc := "()V" } : Jvm.MethodName)) ∈ lw_all := lw_g (lw_at lw_m5 194 rfl) rfl
theorem q1210 : (Jvm.Cond.fieldLink "java/util/Arrays$ArrayItr" (13 : Nat) "java/util/Arrays$ArrayItr" "cursor" "I") ∈ lw_all := lw_g (lw_at lw_m5 195 rfl) rfl
theorem q1211 : (Jvm.Cond.fieldLink "java/util/Arrays$ArrayItr" (7 : Nat) "java/util/Arrays$ArrayItr" "a" "[Ljava/lang/Object;") ∈ lw_all := lw_g (lw_at lw_m5 196 rfl) rfl
theorem q1212 : (Jvm.Cond.lays "java/util/Arrays$ArrayItr" "java/util/Arrays$ArrayItr" "cursor" "I") ∈ lw_all := lw_g (lw_at lw_m5 197 rfl) rfl
theorem q1213 : (Jvm.Cond.soleField "java/util/Arrays$ArrayItr" "cursor") ∈ lw_all := lw_g (lw_at lw_m5 198 rfl) rfl
theorem q1214 : (Jvm.Cond.laysFinal "java/util/Arrays$ArrayItr" "java/util/Arrays$ArrayItr" "a" "[Ljava/lang/Object;") ∈ lw_all := lw_g (lw_at lw_m5 199 rfl) rfl
theorem q1215 : (Jvm.Cond.soleField "java/util/Arrays$ArrayItr" "a") ∈ lw_all := lw_g (lw_at lw_m5 200 rfl) rfl
theorem q1216 : (Jvm.Cond.superclass "java/util/Arrays$ArrayItr" "java/lang/Object") ∈ lw_all := lw_g (lw_at lw_m5 201 rfl) rfl
theorem q1235 : (Jvm.Cond.castable "java/util/Arrays$ArrayItr" "java/util/Iterator") ∈ lw_tbl := lw_at lw_m5 220 rfl
theorem q1236 : (Jvm.Cond.selects "java/util/Arrays$ArrayItr" ({ cls := "java/util/Iterator", name := "hasNext", desc := "()Z" } : Jvm.MethodName) ({ cls := "java/util/Arrays$ArrayItr", name := "hasNext", desc := "()Z" } : Jvm.MethodName)) ∈ lw_all := lw_g (lw_at lw_m5 221 rfl) rfl
theorem q1237 : (Jvm.Cond.unhidden "java/util/Arrays$ArrayItr" "hasNext" "()Z") ∈ lw_tbl := lw_at lw_m5 222 rfl
theorem q1238 : (Jvm.Cond.instanceMethod ({ cls := "java/util/Arrays$ArrayItr", name := "hasNext", desc := "()Z" } : Jvm.MethodName)) ∈ lw_all := lw_g (lw_at lw_m5 223 rfl) rfl
theorem q1239 : (Jvm.Cond.publicMethod ({ cls := "java/util/Arrays$ArrayItr", name := "hasNext", desc := "()Z" } : Jvm.MethodName)) ∈ lw_tbl := lw_at lw_m5 224 rfl
theorem q1240 : (Jvm.Cond.code ({ cls := "java/util/Arrays$ArrayItr", name := "hasNext", desc := "()Z" } : Jvm.MethodName) prog_50_method_2_code (1 : Nat) (Option.some Jvm.ClassFile.FieldType.boolean)) ∈ lw_all := lw_g (lw_at lw_m5 225 rfl) rfl
theorem q1253 : (Jvm.Cond.selects "java/util/Arrays$ArrayItr" ({ cls := "java/util/Iterator", name := "next", desc := "()Ljava/lang/Object;" } : Jvm.MethodName) ({ cls := "java/util/Arrays$ArrayItr", name := "next", desc := "()Ljava/lang/Object;" } : Jvm.MethodName)) ∈ lw_all := lw_g (lw_at lw_m5 238 rfl) rfl
theorem q1254 : (Jvm.Cond.unhidden "java/util/Arrays$ArrayItr" "next" "()Ljava/lang/Object;") ∈ lw_tbl := lw_at lw_m5 239 rfl
theorem q1255 : (Jvm.Cond.instanceMethod ({ cls := "java/util/Arrays$ArrayItr", name := "next", desc := "()Ljava/lang/Object;" } : Jvm.MethodName)) ∈ lw_all := lw_g (lw_at lw_m6 0 rfl) rfl
theorem q1256 : (Jvm.Cond.publicMethod ({ cls := "java/util/Arrays$ArrayItr", name := "next", desc := "()Ljava/lang/Object;" } : Jvm.MethodName)) ∈ lw_tbl := lw_at lw_m6 1 rfl
theorem q1257 : (Jvm.Cond.code ({ cls := "java/util/Arrays$ArrayItr", name := "next", desc := "()Ljava/lang/Object;" } : Jvm.MethodName) prog_50_method_3_code (2 : Nat) (Option.some (Jvm.ClassFile.FieldType.object "java/lang/Object"))) ∈ lw_all := lw_g (lw_at lw_m6 2 rfl) rfl
theorem q3250 : (Jvm.Cond.unhidden "java/util/Arrays$ArrayItr" "remove" "()V") ∈ lw_tbl := lw_at lw_m14 75 rfl
theorem q3919 : (Jvm.Cond.castable "java/util/Arrays$ArrayItr" "java/lang/Object") ∈ lw_tbl := lw_at lw_m17 24 rfl
theorem in_J32 : ∀ w ∈ wsJ320, w ∈ lw_all := lw_in wsJ320 [1212, 1214] (by decide +kernel) (by decide +kernel)

/-! java/util/ArrayList$Itr -/
set_option maxRecDepth 100000
def RJ29 : String := "java/util/ArrayList$Itr"
def TJ29 : u_T := fun k => match k with
  | 0 => ("java/util/ArrayList$Itr", "cursor", "I", false)
  | 1 => ("java/util/ArrayList$Itr", "lastRet", "I", false)
  | 2 => ("java/util/ArrayList$Itr", "expectedModCount", "I", false)
  | _ => ("java/util/ArrayList$Itr", "this$0", "Ljava/util/ArrayList;", true)
def tyJ29 : Nat → FieldType := fun k => match k with
  | 0 => .int
  | 1 => .int
  | 2 => .int
  | _ => .object "java/util/ArrayList"
abbrev wsJ290 : List Cond := u_ws RJ29 TJ29 4
theorem nmJ29 : ∀ a, a < 4 → ∀ b, b < 4 → a ≠ b → (TJ29 a).2.1 ≠ (TJ29 b).2.1 := by decide +kernel
theorem tyJ29_ok : ∀ k, k < 4 → parseFieldDescriptor (TJ29 k).2.2.1 = some (tyJ29 k) := by decide +kernel
abbrev cJ29_init : ByteArray := prog_45_method_1_code
def yJ29_init : MethodName := ⟨RJ29, "<init>", "(Ljava/util/ArrayList;)V"⟩
def dkwJ29_init_1 : List UInt8 := [181, 0, 22, 177]
abbrev dktJ29_init_1 : List UInt8 := dkwJ29_init_1 ++ []
def dkwJ29_init_0 : List UInt8 := [42, 43, 181, 0, 1, 42, 183, 0, 7, 42, 2, 181, 0, 13, 42, 42, 180, 0, 1, 180, 0, 17]
abbrev dktJ29_init_0 : List UInt8 := dkwJ29_init_0 ++ dktJ29_init_1
theorem dksJ29_init_0 : cJ29_init.data.toList.drop 0 = dktJ29_init_0 := by decide +kernel
theorem dksJ29_init_1 : cJ29_init.data.toList.drop 22 = dktJ29_init_1 := dk_seg dksJ29_init_0 22 rfl rfl
theorem dJ29_init_0 : decode cJ29_init 0 = .ok (.aload_n 0, 1) := dk_42 (dk_at dksJ29_init_0 0 rfl rfl)
theorem dJ29_init_1 : decode cJ29_init 1 = .ok (.aload_n 1, 1) := dk_43 (dk_at dksJ29_init_0 1 rfl rfl)
theorem dJ29_init_2 : decode cJ29_init 2 = .ok (.putfield 1, 3) := dk_181 0 1 (dk_at dksJ29_init_0 2 rfl rfl)
theorem dJ29_init_5 : decode cJ29_init 5 = .ok (.aload_n 0, 1) := dk_42 (dk_at dksJ29_init_0 5 rfl rfl)
theorem dJ29_init_6 : decode cJ29_init 6 = .ok (.invokespecial 7, 3) := dk_183 0 7 (dk_at dksJ29_init_0 6 rfl rfl)
theorem dJ29_init_9 : decode cJ29_init 9 = .ok (.aload_n 0, 1) := dk_42 (dk_at dksJ29_init_0 9 rfl rfl)
theorem dJ29_init_10 : decode cJ29_init 10 = .ok (.iconst (-1), 1) := dk_2 (dk_at dksJ29_init_0 10 rfl rfl)
theorem dJ29_init_11 : decode cJ29_init 11 = .ok (.putfield 13, 3) := dk_181 0 13 (dk_at dksJ29_init_0 11 rfl rfl)
theorem dJ29_init_14 : decode cJ29_init 14 = .ok (.aload_n 0, 1) := dk_42 (dk_at dksJ29_init_0 14 rfl rfl)
theorem dJ29_init_15 : decode cJ29_init 15 = .ok (.aload_n 0, 1) := dk_42 (dk_at dksJ29_init_0 15 rfl rfl)
theorem dJ29_init_16 : decode cJ29_init 16 = .ok (.getfield 1, 3) := dk_180 0 1 (dk_at dksJ29_init_0 16 rfl rfl)
theorem dJ29_init_19 : decode cJ29_init 19 = .ok (.getfield 17, 3) := dk_180 0 17 (dk_at dksJ29_init_0 19 rfl rfl)
theorem dJ29_init_22 : decode cJ29_init 22 = .ok (.putfield 22, 3) := dk_181 0 22 (dk_at dksJ29_init_1 0 rfl rfl)
theorem dJ29_init_25 : decode cJ29_init 25 = .ok (.return_, 1) := dk_177 (dk_at dksJ29_init_1 3 rfl rfl)
abbrev cJ29_hasNext : ByteArray := prog_45_method_2_code
def yJ29_hasNext : MethodName := ⟨RJ29, "hasNext", "()Z"⟩
def dkwJ29_hasNext_0 : List UInt8 := [42, 180, 0, 25, 42, 180, 0, 1, 180, 0, 28, 159, 0, 7, 4, 167, 0, 4, 3, 172]
abbrev dktJ29_hasNext_0 : List UInt8 := dkwJ29_hasNext_0 ++ []
theorem dksJ29_hasNext_0 : cJ29_hasNext.data.toList.drop 0 = dktJ29_hasNext_0 := by decide +kernel
theorem dJ29_hasNext_0 : decode cJ29_hasNext 0 = .ok (.aload_n 0, 1) := dk_42 (dk_at dksJ29_hasNext_0 0 rfl rfl)
theorem dJ29_hasNext_1 : decode cJ29_hasNext 1 = .ok (.getfield 25, 3) := dk_180 0 25 (dk_at dksJ29_hasNext_0 1 rfl rfl)
theorem dJ29_hasNext_4 : decode cJ29_hasNext 4 = .ok (.aload_n 0, 1) := dk_42 (dk_at dksJ29_hasNext_0 4 rfl rfl)
theorem dJ29_hasNext_5 : decode cJ29_hasNext 5 = .ok (.getfield 1, 3) := dk_180 0 1 (dk_at dksJ29_hasNext_0 5 rfl rfl)
theorem dJ29_hasNext_8 : decode cJ29_hasNext 8 = .ok (.getfield 28, 3) := dk_180 0 28 (dk_at dksJ29_hasNext_0 8 rfl rfl)
theorem dJ29_hasNext_11 : decode cJ29_hasNext 11 = .ok (.if_icmp .eq 7, 3) := dk_159 0 7 (dk_at dksJ29_hasNext_0 11 rfl rfl)
theorem dJ29_hasNext_14 : decode cJ29_hasNext 14 = .ok (.iconst 1, 1) := dk_4 (dk_at dksJ29_hasNext_0 14 rfl rfl)
theorem dJ29_hasNext_15 : decode cJ29_hasNext 15 = .ok (.goto 4, 3) := dk_167 0 4 (dk_at dksJ29_hasNext_0 15 rfl rfl)
theorem dJ29_hasNext_18 : decode cJ29_hasNext 18 = .ok (.iconst 0, 1) := dk_3 (dk_at dksJ29_hasNext_0 18 rfl rfl)
theorem dJ29_hasNext_19 : decode cJ29_hasNext 19 = .ok (.ireturn, 1) := dk_172 (dk_at dksJ29_hasNext_0 19 rfl rfl)
abbrev cJ29_next : ByteArray := prog_45_method_3_code
def yJ29_next : MethodName := ⟨RJ29, "next", "()Ljava/lang/Object;"⟩
def dkwJ29_next_2 : List UInt8 := [183, 0, 43, 191, 42, 27, 4, 96, 181, 0, 25, 44, 42, 27, 90, 181, 0, 13, 50, 176]
abbrev dktJ29_next_2 : List UInt8 := dkwJ29_next_2 ++ []
def dkwJ29_next_1 : List UInt8 := [183, 0, 36, 191, 42, 180, 0, 1, 180, 0, 37, 77, 27, 44, 190, 161, 0, 11, 187, 0, 41, 89]
abbrev dktJ29_next_1 : List UInt8 := dkwJ29_next_1 ++ dktJ29_next_2
def dkwJ29_next_0 : List UInt8 := [42, 182, 0, 31, 42, 180, 0, 25, 60, 27, 42, 180, 0, 1, 180, 0, 28, 161, 0, 11, 187, 0, 34, 89]
abbrev dktJ29_next_0 : List UInt8 := dkwJ29_next_0 ++ dktJ29_next_1
theorem dksJ29_next_0 : cJ29_next.data.toList.drop 0 = dktJ29_next_0 := by decide +kernel
theorem dksJ29_next_1 : cJ29_next.data.toList.drop 24 = dktJ29_next_1 := dk_seg dksJ29_next_0 24 rfl rfl
theorem dksJ29_next_2 : cJ29_next.data.toList.drop 46 = dktJ29_next_2 := dk_seg dksJ29_next_1 22 rfl rfl
theorem dJ29_next_0 : decode cJ29_next 0 = .ok (.aload_n 0, 1) := dk_42 (dk_at dksJ29_next_0 0 rfl rfl)
theorem dJ29_next_1 : decode cJ29_next 1 = .ok (.invokevirtual 31, 3) := dk_182 0 31 (dk_at dksJ29_next_0 1 rfl rfl)
theorem dJ29_next_4 : decode cJ29_next 4 = .ok (.aload_n 0, 1) := dk_42 (dk_at dksJ29_next_0 4 rfl rfl)
theorem dJ29_next_5 : decode cJ29_next 5 = .ok (.getfield 25, 3) := dk_180 0 25 (dk_at dksJ29_next_0 5 rfl rfl)
theorem dJ29_next_8 : decode cJ29_next 8 = .ok (.istore_n 1, 1) := dk_60 (dk_at dksJ29_next_0 8 rfl rfl)
theorem dJ29_next_9 : decode cJ29_next 9 = .ok (.iload_n 1, 1) := dk_27 (dk_at dksJ29_next_0 9 rfl rfl)
theorem dJ29_next_10 : decode cJ29_next 10 = .ok (.aload_n 0, 1) := dk_42 (dk_at dksJ29_next_0 10 rfl rfl)
theorem dJ29_next_11 : decode cJ29_next 11 = .ok (.getfield 1, 3) := dk_180 0 1 (dk_at dksJ29_next_0 11 rfl rfl)
theorem dJ29_next_14 : decode cJ29_next 14 = .ok (.getfield 28, 3) := dk_180 0 28 (dk_at dksJ29_next_0 14 rfl rfl)
theorem dJ29_next_17 : decode cJ29_next 17 = .ok (.if_icmp .lt 11, 3) := dk_161 0 11 (dk_at dksJ29_next_0 17 rfl rfl)
theorem dJ29_next_20 : decode cJ29_next 20 = .ok (.new 34, 3) := dk_187 0 34 (dk_at dksJ29_next_0 20 rfl rfl)
theorem dJ29_next_23 : decode cJ29_next 23 = .ok (.dup, 1) := dk_89 (dk_at dksJ29_next_0 23 rfl rfl)
theorem dJ29_next_24 : decode cJ29_next 24 = .ok (.invokespecial 36, 3) := dk_183 0 36 (dk_at dksJ29_next_1 0 rfl rfl)
theorem dJ29_next_27 : decode cJ29_next 27 = .ok (.athrow, 1) := dk_191 (dk_at dksJ29_next_1 3 rfl rfl)
theorem dJ29_next_28 : decode cJ29_next 28 = .ok (.aload_n 0, 1) := dk_42 (dk_at dksJ29_next_1 4 rfl rfl)
theorem dJ29_next_29 : decode cJ29_next 29 = .ok (.getfield 1, 3) := dk_180 0 1 (dk_at dksJ29_next_1 5 rfl rfl)
theorem dJ29_next_32 : decode cJ29_next 32 = .ok (.getfield 37, 3) := dk_180 0 37 (dk_at dksJ29_next_1 8 rfl rfl)
theorem dJ29_next_35 : decode cJ29_next 35 = .ok (.astore_n 2, 1) := dk_77 (dk_at dksJ29_next_1 11 rfl rfl)
theorem dJ29_next_36 : decode cJ29_next 36 = .ok (.iload_n 1, 1) := dk_27 (dk_at dksJ29_next_1 12 rfl rfl)
theorem dJ29_next_37 : decode cJ29_next 37 = .ok (.aload_n 2, 1) := dk_44 (dk_at dksJ29_next_1 13 rfl rfl)
theorem dJ29_next_38 : decode cJ29_next 38 = .ok (.arraylength, 1) := dk_190 (dk_at dksJ29_next_1 14 rfl rfl)
theorem dJ29_next_39 : decode cJ29_next 39 = .ok (.if_icmp .lt 11, 3) := dk_161 0 11 (dk_at dksJ29_next_1 15 rfl rfl)
theorem dJ29_next_42 : decode cJ29_next 42 = .ok (.new 41, 3) := dk_187 0 41 (dk_at dksJ29_next_1 18 rfl rfl)
theorem dJ29_next_45 : decode cJ29_next 45 = .ok (.dup, 1) := dk_89 (dk_at dksJ29_next_1 21 rfl rfl)
theorem dJ29_next_46 : decode cJ29_next 46 = .ok (.invokespecial 43, 3) := dk_183 0 43 (dk_at dksJ29_next_2 0 rfl rfl)
theorem dJ29_next_49 : decode cJ29_next 49 = .ok (.athrow, 1) := dk_191 (dk_at dksJ29_next_2 3 rfl rfl)
theorem dJ29_next_50 : decode cJ29_next 50 = .ok (.aload_n 0, 1) := dk_42 (dk_at dksJ29_next_2 4 rfl rfl)
theorem dJ29_next_51 : decode cJ29_next 51 = .ok (.iload_n 1, 1) := dk_27 (dk_at dksJ29_next_2 5 rfl rfl)
theorem dJ29_next_52 : decode cJ29_next 52 = .ok (.iconst 1, 1) := dk_4 (dk_at dksJ29_next_2 6 rfl rfl)
theorem dJ29_next_53 : decode cJ29_next 53 = .ok (.iadd, 1) := dk_96 (dk_at dksJ29_next_2 7 rfl rfl)
theorem dJ29_next_54 : decode cJ29_next 54 = .ok (.putfield 25, 3) := dk_181 0 25 (dk_at dksJ29_next_2 8 rfl rfl)
theorem dJ29_next_57 : decode cJ29_next 57 = .ok (.aload_n 2, 1) := dk_44 (dk_at dksJ29_next_2 11 rfl rfl)
theorem dJ29_next_58 : decode cJ29_next 58 = .ok (.aload_n 0, 1) := dk_42 (dk_at dksJ29_next_2 12 rfl rfl)
theorem dJ29_next_59 : decode cJ29_next 59 = .ok (.iload_n 1, 1) := dk_27 (dk_at dksJ29_next_2 13 rfl rfl)
theorem dJ29_next_60 : decode cJ29_next 60 = .ok (.dup_x1, 1) := dk_90 (dk_at dksJ29_next_2 14 rfl rfl)
theorem dJ29_next_61 : decode cJ29_next 61 = .ok (.putfield 13, 3) := dk_181 0 13 (dk_at dksJ29_next_2 15 rfl rfl)
theorem dJ29_next_64 : decode cJ29_next 64 = .ok (.aaload, 1) := dk_50 (dk_at dksJ29_next_2 18 rfl rfl)
theorem dJ29_next_65 : decode cJ29_next 65 = .ok (.areturn, 1) := dk_176 (dk_at dksJ29_next_2 19 rfl rfl)
abbrev cJ29_checkForComodification : ByteArray := prog_45_method_6_code
def yJ29_checkForComodification : MethodName := ⟨RJ29, "checkForComodification", "()V"⟩
def dkwJ29_checkForComodification_0 : List UInt8 := [42, 180, 0, 1, 180, 0, 17, 42, 180, 0, 22, 159, 0, 11, 187, 0, 41, 89, 183, 0, 43, 191, 177]
abbrev dktJ29_checkForComodification_0 : List UInt8 := dkwJ29_checkForComodification_0 ++ []
theorem dksJ29_checkForComodification_0 : cJ29_checkForComodification.data.toList.drop 0 = dktJ29_checkForComodification_0 := by decide +kernel
theorem dJ29_checkForComodification_0 : decode cJ29_checkForComodification 0 = .ok (.aload_n 0, 1) := dk_42 (dk_at dksJ29_checkForComodification_0 0 rfl rfl)
theorem dJ29_checkForComodification_1 : decode cJ29_checkForComodification 1 = .ok (.getfield 1, 3) := dk_180 0 1 (dk_at dksJ29_checkForComodification_0 1 rfl rfl)
theorem dJ29_checkForComodification_4 : decode cJ29_checkForComodification 4 = .ok (.getfield 17, 3) := dk_180 0 17 (dk_at dksJ29_checkForComodification_0 4 rfl rfl)
theorem dJ29_checkForComodification_7 : decode cJ29_checkForComodification 7 = .ok (.aload_n 0, 1) := dk_42 (dk_at dksJ29_checkForComodification_0 7 rfl rfl)
theorem dJ29_checkForComodification_8 : decode cJ29_checkForComodification 8 = .ok (.getfield 22, 3) := dk_180 0 22 (dk_at dksJ29_checkForComodification_0 8 rfl rfl)
theorem dJ29_checkForComodification_11 : decode cJ29_checkForComodification 11 = .ok (.if_icmp .eq 11, 3) := dk_159 0 11 (dk_at dksJ29_checkForComodification_0 11 rfl rfl)
theorem dJ29_checkForComodification_14 : decode cJ29_checkForComodification 14 = .ok (.new 41, 3) := dk_187 0 41 (dk_at dksJ29_checkForComodification_0 14 rfl rfl)
theorem dJ29_checkForComodification_17 : decode cJ29_checkForComodification 17 = .ok (.dup, 1) := dk_89 (dk_at dksJ29_checkForComodification_0 17 rfl rfl)
theorem dJ29_checkForComodification_18 : decode cJ29_checkForComodification 18 = .ok (.invokespecial 43, 3) := dk_183 0 43 (dk_at dksJ29_checkForComodification_0 18 rfl rfl)
theorem dJ29_checkForComodification_21 : decode cJ29_checkForComodification 21 = .ok (.athrow, 1) := dk_191 (dk_at dksJ29_checkForComodification_0 21 rfl rfl)
theorem dJ29_checkForComodification_22 : decode cJ29_checkForComodification 22 = .ok (.return_, 1) := dk_177 (dk_at dksJ29_checkForComodification_0 22 rfl rfl)
abbrev cJ29_remove : ByteArray := prog_45_method_4_code
def yJ29_remove : MethodName := ⟨RJ29, "remove", "()V"⟩
def dkwJ29_remove_2 : List UInt8 := [180, 0, 1, 180, 0, 17, 181, 0, 22, 167, 0, 12, 76, 187, 0, 41, 89, 183, 0, 43, 191, 177]
abbrev dktJ29_remove_2 : List UInt8 := dkwJ29_remove_2 ++ []
def dkwJ29_remove_1 : List UInt8 := [180, 0, 13, 182, 0, 47, 87, 42, 42, 180, 0, 13, 181, 0, 25, 42, 2, 181, 0, 13, 42, 42]
abbrev dktJ29_remove_1 : List UInt8 := dkwJ29_remove_1 ++ dktJ29_remove_2
def dkwJ29_remove_0 : List UInt8 := [42, 180, 0, 13, 156, 0, 11, 187, 0, 44, 89, 183, 0, 46, 191, 42, 182, 0, 31, 42, 180, 0, 1, 42]
abbrev dktJ29_remove_0 : List UInt8 := dkwJ29_remove_0 ++ dktJ29_remove_1
theorem dksJ29_remove_0 : cJ29_remove.data.toList.drop 0 = dktJ29_remove_0 := by decide +kernel
theorem dksJ29_remove_1 : cJ29_remove.data.toList.drop 24 = dktJ29_remove_1 := dk_seg dksJ29_remove_0 24 rfl rfl
theorem dksJ29_remove_2 : cJ29_remove.data.toList.drop 46 = dktJ29_remove_2 := dk_seg dksJ29_remove_1 22 rfl rfl
theorem dJ29_remove_0 : decode cJ29_remove 0 = .ok (.aload_n 0, 1) := dk_42 (dk_at dksJ29_remove_0 0 rfl rfl)
theorem dJ29_remove_1 : decode cJ29_remove 1 = .ok (.getfield 13, 3) := dk_180 0 13 (dk_at dksJ29_remove_0 1 rfl rfl)
theorem dJ29_remove_4 : decode cJ29_remove 4 = .ok (.ifCond .ge 11, 3) := dk_156 0 11 (dk_at dksJ29_remove_0 4 rfl rfl)
theorem dJ29_remove_7 : decode cJ29_remove 7 = .ok (.new 44, 3) := dk_187 0 44 (dk_at dksJ29_remove_0 7 rfl rfl)
theorem dJ29_remove_10 : decode cJ29_remove 10 = .ok (.dup, 1) := dk_89 (dk_at dksJ29_remove_0 10 rfl rfl)
theorem dJ29_remove_11 : decode cJ29_remove 11 = .ok (.invokespecial 46, 3) := dk_183 0 46 (dk_at dksJ29_remove_0 11 rfl rfl)
theorem dJ29_remove_14 : decode cJ29_remove 14 = .ok (.athrow, 1) := dk_191 (dk_at dksJ29_remove_0 14 rfl rfl)
theorem dJ29_remove_15 : decode cJ29_remove 15 = .ok (.aload_n 0, 1) := dk_42 (dk_at dksJ29_remove_0 15 rfl rfl)
theorem dJ29_remove_16 : decode cJ29_remove 16 = .ok (.invokevirtual 31, 3) := dk_182 0 31 (dk_at dksJ29_remove_0 16 rfl rfl)
theorem dJ29_remove_19 : decode cJ29_remove 19 = .ok (.aload_n 0, 1) := dk_42 (dk_at dksJ29_remove_0 19 rfl rfl)
theorem dJ29_remove_20 : decode cJ29_remove 20 = .ok (.getfield 1, 3) := dk_180 0 1 (dk_at dksJ29_remove_0 20 rfl rfl)
theorem dJ29_remove_23 : decode cJ29_remove 23 = .ok (.aload_n 0, 1) := dk_42 (dk_at dksJ29_remove_0 23 rfl rfl)
theorem dJ29_remove_24 : decode cJ29_remove 24 = .ok (.getfield 13, 3) := dk_180 0 13 (dk_at dksJ29_remove_1 0 rfl rfl)
theorem dJ29_remove_27 : decode cJ29_remove 27 = .ok (.invokevirtual 47, 3) := dk_182 0 47 (dk_at dksJ29_remove_1 3 rfl rfl)
theorem dJ29_remove_30 : decode cJ29_remove 30 = .ok (.pop, 1) := dk_87 (dk_at dksJ29_remove_1 6 rfl rfl)
theorem dJ29_remove_31 : decode cJ29_remove 31 = .ok (.aload_n 0, 1) := dk_42 (dk_at dksJ29_remove_1 7 rfl rfl)
theorem dJ29_remove_32 : decode cJ29_remove 32 = .ok (.aload_n 0, 1) := dk_42 (dk_at dksJ29_remove_1 8 rfl rfl)
theorem dJ29_remove_33 : decode cJ29_remove 33 = .ok (.getfield 13, 3) := dk_180 0 13 (dk_at dksJ29_remove_1 9 rfl rfl)
theorem dJ29_remove_36 : decode cJ29_remove 36 = .ok (.putfield 25, 3) := dk_181 0 25 (dk_at dksJ29_remove_1 12 rfl rfl)
theorem dJ29_remove_39 : decode cJ29_remove 39 = .ok (.aload_n 0, 1) := dk_42 (dk_at dksJ29_remove_1 15 rfl rfl)
theorem dJ29_remove_40 : decode cJ29_remove 40 = .ok (.iconst (-1), 1) := dk_2 (dk_at dksJ29_remove_1 16 rfl rfl)
theorem dJ29_remove_41 : decode cJ29_remove 41 = .ok (.putfield 13, 3) := dk_181 0 13 (dk_at dksJ29_remove_1 17 rfl rfl)
theorem dJ29_remove_44 : decode cJ29_remove 44 = .ok (.aload_n 0, 1) := dk_42 (dk_at dksJ29_remove_1 20 rfl rfl)
theorem dJ29_remove_45 : decode cJ29_remove 45 = .ok (.aload_n 0, 1) := dk_42 (dk_at dksJ29_remove_1 21 rfl rfl)
theorem dJ29_remove_46 : decode cJ29_remove 46 = .ok (.getfield 1, 3) := dk_180 0 1 (dk_at dksJ29_remove_2 0 rfl rfl)
theorem dJ29_remove_49 : decode cJ29_remove 49 = .ok (.getfield 17, 3) := dk_180 0 17 (dk_at dksJ29_remove_2 3 rfl rfl)
theorem dJ29_remove_52 : decode cJ29_remove 52 = .ok (.putfield 22, 3) := dk_181 0 22 (dk_at dksJ29_remove_2 6 rfl rfl)
theorem dJ29_remove_55 : decode cJ29_remove 55 = .ok (.goto 12, 3) := dk_167 0 12 (dk_at dksJ29_remove_2 9 rfl rfl)
theorem dJ29_remove_58 : decode cJ29_remove 58 = .ok (.astore_n 1, 1) := dk_76 (dk_at dksJ29_remove_2 12 rfl rfl)
theorem dJ29_remove_59 : decode cJ29_remove 59 = .ok (.new 41, 3) := dk_187 0 41 (dk_at dksJ29_remove_2 13 rfl rfl)
theorem dJ29_remove_62 : decode cJ29_remove 62 = .ok (.dup, 1) := dk_89 (dk_at dksJ29_remove_2 16 rfl rfl)
theorem dJ29_remove_63 : decode cJ29_remove 63 = .ok (.invokespecial 43, 3) := dk_183 0 43 (dk_at dksJ29_remove_2 17 rfl rfl)
theorem dJ29_remove_66 : decode cJ29_remove 66 = .ok (.athrow, 1) := dk_191 (dk_at dksJ29_remove_2 20 rfl rfl)
theorem dJ29_remove_67 : decode cJ29_remove 67 = .ok (.return_, 1) := dk_177 (dk_at dksJ29_remove_2 21 rfl rfl)
theorem q90 : (Jvm.Cond.initialized "java/util/ArrayList$Itr") ∈ lw_all := lw_g (lw_at lw_m1 35 rfl) rfl
theorem q132 : (Jvm.Cond.fieldLink "java/util/ArrayList$Itr" (37 : Nat) "java/util/ArrayList" "elementData" "[Ljava/lang/Object;") ∈ lw_all := lw_g (lw_at lw_m1 77 rfl) rfl
theorem q135 : (Jvm.Cond.fieldLinkNest "java/util/ArrayList$Itr" (28 : Nat) "java/util/ArrayList" "size" "I" "java/util/ArrayList") ∈ lw_tbl := lw_at lw_m1 80 rfl
theorem q139 : (Jvm.Cond.fieldLink "java/util/ArrayList$Itr" (17 : Nat) "java/util/ArrayList" "modCount" "I") ∈ lw_all := lw_g (lw_at lw_m1 84 rfl) rfl
theorem q240 : (Jvm.Cond.selects "java/util/ArrayList$Itr" ({ cls := "java/lang/Object", name := "getClass", desc := "()Ljava/lang/Class;" } : Jvm.MethodName) ({ cls := "java/lang/Object", name := "getClass", desc := "()Ljava/lang/Class;" } : Jvm.MethodName)) ∈ lw_all := lw_g (lw_at lw_m1 185 rfl) rfl
theorem q411 : (Jvm.Cond.instanceMethod ({ cls := "java/util/ArrayList$Itr", name := "<init>", desc := "(Ljava/util/ArrayList;)V" } : Jvm.MethodName)) ∈ lw_all := lw_g (lw_at lw_m2 116 rfl) rfl
theorem q412 : (Jvm.Cond.code ({ cls := "java/util/ArrayList$Itr", name := "<init>", desc := "(Ljava/util/ArrayList;)V" } : Jvm.MethodName) prog_45_method_1_code (2 : Nat) (Option.none : Option Jvm.ClassFile.FieldType)) ∈ lw_all := lw_g (lw_at lw_m2 117 rfl) rfl
theorem q413 : (Jvm.Cond.methodLink "java/util/ArrayList$Itr" (7 : Nat) ({ cls := "java/lang/Object", name := "<init>", desc := "()V" } : Jvm.MethodName)) ∈ lw_all := lw_g (lw_at lw_m2 118 rfl) rfl
theorem q417 : (Jvm.Cond.fieldLink "java/util/ArrayList$Itr" (25 : Nat) "java/util/ArrayList$Itr" "cursor" "I") ∈ lw_all := lw_g (lw_at lw_m2 122 rfl) rfl
theorem q418 : (Jvm.Cond.fieldLink "java/util/ArrayList$Itr" (13 : Nat) "java/util/ArrayList$Itr" "lastRet" "I") ∈ lw_all := lw_g (lw_at lw_m2 123 rfl) rfl
theorem q421 : (Jvm.Cond.fieldLink "java/util/ArrayList$Itr" (22 : Nat) "java/util/ArrayList$Itr" "expectedModCount" "I") ∈ lw_all := lw_g (lw_at lw_m2 126 rfl) rfl
theorem q424 : (Jvm.Cond.fieldLink "java/util/ArrayList$Itr" (1 : Nat) "java/util/ArrayList$Itr" "this$0" "Ljava/util/ArrayList;") ∈ lw_all := lw_g (lw_at lw_m2 129 rfl) rfl
theorem q428 : (Jvm.Cond.soleField "java/util/ArrayList$Itr" "cursor") ∈ lw_all := lw_g (lw_at lw_m2 133 rfl) rfl
theorem q430 : (Jvm.Cond.soleField "java/util/ArrayList$Itr" "lastRet") ∈ lw_all := lw_g (lw_at lw_m2 135 rfl) rfl
theorem q432 : (Jvm.Cond.soleField "java/util/ArrayList$Itr" "expectedModCount") ∈ lw_all := lw_g (lw_at lw_m2 137 rfl) rfl
theorem q434 : (Jvm.Cond.soleField "java/util/ArrayList$Itr" "this$0") ∈ lw_all := lw_g (lw_at lw_m2 139 rfl) rfl
theorem q971 : (Jvm.Cond.instanceMethod ({ cls := "java/util/ArrayList$Itr", name := "hasNext", desc := "()Z" } : Jvm.MethodName)) ∈ lw_all := lw_g (lw_at lw_m4 196 rfl) rfl
theorem q972 : (Jvm.Cond.publicMethod ({ cls := "java/util/ArrayList$Itr", name := "hasNext", desc := "()Z" } : Jvm.MethodName)) ∈ lw_tbl := lw_at lw_m4 197 rfl
theorem q973 : (Jvm.Cond.code ({ cls := "java/util/ArrayList$Itr", name := "hasNext", desc := "()Z" } : Jvm.MethodName) prog_45_method_2_code (1 : Nat) (Option.some Jvm.ClassFile.FieldType.boolean)) ∈ lw_all := lw_g (lw_at lw_m4 198 rfl) rfl
theorem q1084 : (Jvm.Cond.instanceMethod ({ cls := "java/util/ArrayList$Itr", name := "next", desc := "()Ljava/lang/Object;" } : Jvm.MethodName)) ∈ lw_all := lw_g (lw_at lw_m5 69 rfl) rfl
theorem q1085 : (Jvm.Cond.publicMethod ({ cls := "java/util/ArrayList$Itr", name := "next", desc := "()Ljava/lang/Object;" } : Jvm.MethodName)) ∈ lw_tbl := lw_at lw_m5 70 rfl
theorem q1086 : (Jvm.Cond.code ({ cls := "java/util/ArrayList$Itr", name := "next", desc := "()Ljava/lang/Object;" } : Jvm.MethodName) prog_45_method_3_code (3 : Nat) (Option.some (Jvm.ClassFile.FieldType.object "java/lang/Object"))) ∈ lw_all := lw_g (lw_at lw_m5 71 rfl) rfl
theorem q1087 : (Jvm.Cond.methodLink "java/util/ArrayList$Itr" (31 : Nat) ({ cls := "java/util/ArrayList$Itr", name := "checkForComodification", desc := "()V" } : Jvm.MethodName)) ∈ lw_all := lw_g (lw_at lw_m5 72 rfl) rfl
theorem q1088 : (Jvm.Cond.instanceMethod ({ cls := "java/util/ArrayList$Itr", name := "checkForComodification", desc := "()V" } : Jvm.MethodName)) ∈ lw_all := lw_g (lw_at lw_m5 73 rfl) rfl
theorem q1089 : (Jvm.Cond.selects "java/util/ArrayList$Itr" ({ cls := "java/util/ArrayList$Itr", name := "checkForComodification", desc := "()V" } : Jvm.MethodName) ({ cls := "java/util/ArrayList$Itr", name := "checkForComodification", desc := "()V" } : Jvm.MethodName)) ∈ lw_all := lw_g (lw_at lw_m5 74 rfl) rfl
theorem q1090 : (Jvm.Cond.sameMethod "java/util/ArrayList$Itr" "java/util/ArrayList$Itr" "checkForComodification" "()V") ∈ lw_all := lw_g (lw_at lw_m5 75 rfl) rfl
theorem q1092 : (Jvm.Cond.code ({ cls := "java/util/ArrayList$Itr", name := "checkForComodification", desc := "()V" } : Jvm.MethodName) prog_45_method_6_code (1 : Nat) (Option.none : Option Jvm.ClassFile.FieldType)) ∈ lw_all := lw_g (lw_at lw_m5 77 rfl) rfl
theorem q1184 : (Jvm.Cond.instantiable "java/util/ArrayList$Itr" (4 : Nat)) ∈ lw_all := lw_g (lw_at lw_m5 169 rfl) rfl
theorem q1186 : (Jvm.Cond.lays "java/util/ArrayList$Itr" "java/util/ArrayList$Itr" "cursor" "I") ∈ lw_all := lw_g (lw_at lw_m5 171 rfl) rfl
theorem q1187 : (Jvm.Cond.lays "java/util/ArrayList$Itr" "java/util/ArrayList$Itr" "lastRet" "I") ∈ lw_all := lw_g (lw_at lw_m5 172 rfl) rfl
theorem q1188 : (Jvm.Cond.lays "java/util/ArrayList$Itr" "java/util/ArrayList$Itr" "expectedModCount" "I") ∈ lw_all := lw_g (lw_at lw_m5 173 rfl) rfl
theorem q1189 : (Jvm.Cond.laysFinal "java/util/ArrayList$Itr" "java/util/ArrayList$Itr" "this$0" "Ljava/util/ArrayList;") ∈ lw_all := lw_g (lw_at lw_m5 174 rfl) rfl
theorem q1190 : (Jvm.Cond.superclass "java/util/ArrayList$Itr" "java/lang/Object") ∈ lw_all := lw_g (lw_at lw_m5 175 rfl) rfl
theorem q1228 : (Jvm.Cond.castable "java/util/ArrayList$Itr" "java/util/Iterator") ∈ lw_tbl := lw_at lw_m5 213 rfl
theorem q1229 : (Jvm.Cond.selects "java/util/ArrayList$Itr" ({ cls := "java/util/Iterator", name := "hasNext", desc := "()Z" } : Jvm.MethodName) ({ cls := "java/util/ArrayList$Itr", name := "hasNext", desc := "()Z" } : Jvm.MethodName)) ∈ lw_all := lw_g (lw_at lw_m5 214 rfl) rfl
theorem q1230 : (Jvm.Cond.unhidden "java/util/ArrayList$Itr" "hasNext" "()Z") ∈ lw_tbl := lw_at lw_m5 215 rfl
theorem q1249 : (Jvm.Cond.selects "java/util/ArrayList$Itr" ({ cls := "java/util/Iterator", name := "next", desc := "()Ljava/lang/Object;" } : Jvm.MethodName) ({ cls := "java/util/ArrayList$Itr", name := "next", desc := "()Ljava/lang/Object;" } : Jvm.MethodName)) ∈ lw_all := lw_g (lw_at lw_m5 234 rfl) rfl
theorem q1250 : (Jvm.Cond.unhidden "java/util/ArrayList$Itr" "next" "()Ljava/lang/Object;") ∈ lw_tbl := lw_at lw_m5 235 rfl
theorem q1537 : (Jvm.Cond.declares ({ cls := "java/util/ArrayList$Itr", name := "checkForComodification", desc := "()V" } : Jvm.MethodName)) ∈ lw_tbl := lw_at lw_m7 42 rfl
theorem q1818 : (Jvm.Cond.instanceMethod ({ cls := "java/util/ArrayList$Itr", name := "remove", desc := "()V" } : Jvm.MethodName)) ∈ lw_all := lw_g (lw_at lw_m8 83 rfl) rfl
theorem q1819 : (Jvm.Cond.publicMethod ({ cls := "java/util/ArrayList$Itr", name := "remove", desc := "()V" } : Jvm.MethodName)) ∈ lw_tbl := lw_at lw_m8 84 rfl
theorem q1820 : (Jvm.Cond.codeWith ({ cls := "java/util/ArrayList$Itr", name := "remove", desc := "()V" } : Jvm.MethodName) prog_45_method_4_code (2 : Nat) (Option.none : Option Jvm.ClassFile.FieldType) [((19 : Nat), (55 : Nat), (58 : Nat), (51 : Nat))]) ∈ lw_all := lw_g (lw_at lw_m8 85 rfl) rfl
theorem q1821 : (Jvm.Cond.classLink "java/util/ArrayList$Itr" (44 : Nat) "java/lang/IllegalStateException") ∈ lw_all := lw_g (lw_at lw_m8 86 rfl) rfl
theorem q1822 : (Jvm.Cond.methodLink "java/util/ArrayList$Itr" (46 : Nat) ({ cls := "java/lang/IllegalStateException", name := "<init>", desc := "()V" } : Jvm.MethodName)) ∈ lw_all := lw_g (lw_at lw_m8 87 rfl) rfl
theorem q1823 : (Jvm.Cond.methodLink "java/util/ArrayList$Itr" (47 : Nat) ({ cls := "java/util/ArrayList", name := "remove", desc := "(I)Ljava/lang/Object;" } : Jvm.MethodName)) ∈ lw_all := lw_g (lw_at lw_m8 88 rfl) rfl
theorem q1824 : (Jvm.Cond.classLink "java/util/ArrayList$Itr" (41 : Nat) "java/util/ConcurrentModificationException") ∈ lw_all := lw_g (lw_at lw_m8 89 rfl) rfl
theorem q1825 : (Jvm.Cond.methodLink "java/util/ArrayList$Itr" (43 : Nat) ({ cls := "java/util/ConcurrentModificationException", name := "<init>", desc := "()V" } : Jvm.MethodName)) ∈ lw_all := lw_g (lw_at lw_m8 90 rfl) rfl
theorem q3246 : (Jvm.Cond.selects "java/util/ArrayList$Itr" ({ cls := "java/util/Iterator", name := "remove", desc := "()V" } : Jvm.MethodName) ({ cls := "java/util/ArrayList$Itr", name := "remove", desc := "()V" } : Jvm.MethodName)) ∈ lw_all := lw_g (lw_at lw_m14 71 rfl) rfl
theorem q3247 : (Jvm.Cond.unhidden "java/util/ArrayList$Itr" "remove" "()V") ∈ lw_tbl := lw_at lw_m14 72 rfl
theorem q3918 : (Jvm.Cond.castable "java/util/ArrayList$Itr" "java/lang/Object") ∈ lw_tbl := lw_at lw_m17 23 rfl
theorem in_J29 : ∀ w ∈ wsJ290, w ∈ lw_all := lw_in wsJ290 [1186, 1187, 1188, 1189] (by decide +kernel) (by decide +kernel)

/-! java/util/ArrayList$ListItr -/
set_option maxRecDepth 100000
def RJ30 : String := "java/util/ArrayList$ListItr"
def TJ30 : u_T := fun k => match k with
  | 0 => ("java/util/ArrayList$Itr", "cursor", "I", false)
  | 1 => ("java/util/ArrayList$Itr", "lastRet", "I", false)
  | 2 => ("java/util/ArrayList$Itr", "expectedModCount", "I", false)
  | 3 => ("java/util/ArrayList$Itr", "this$0", "Ljava/util/ArrayList;", true)
  | _ => ("java/util/ArrayList$ListItr", "this$0", "Ljava/util/ArrayList;", true)
def tyJ30 : Nat → FieldType := fun k => match k with
  | 0 => .int
  | 1 => .int
  | 2 => .int
  | 3 => .object "java/util/ArrayList"
  | _ => .object "java/util/ArrayList"
abbrev wsJ300 : List Cond := u_ws RJ30 TJ30 5
-- two fields of one name: no nmJ30
theorem tyJ30_ok : ∀ k, k < 5 → parseFieldDescriptor (TJ30 k).2.2.1 = some (tyJ30 k) := by decide +kernel
abbrev cJ30_init : ByteArray := prog_46_method_1_code
def yJ30_init : MethodName := ⟨RJ30, "<init>", "(Ljava/util/ArrayList;I)V"⟩
def dkwJ30_init_0 : List UInt8 := [42, 43, 181, 0, 1, 42, 43, 183, 0, 7, 42, 28, 181, 0, 13, 177]
abbrev dktJ30_init_0 : List UInt8 := dkwJ30_init_0 ++ []
theorem dksJ30_init_0 : cJ30_init.data.toList.drop 0 = dktJ30_init_0 := by decide +kernel
theorem dJ30_init_0 : decode cJ30_init 0 = .ok (.aload_n 0, 1) := dk_42 (dk_at dksJ30_init_0 0 rfl rfl)
theorem dJ30_init_1 : decode cJ30_init 1 = .ok (.aload_n 1, 1) := dk_43 (dk_at dksJ30_init_0 1 rfl rfl)
theorem dJ30_init_2 : decode cJ30_init 2 = .ok (.putfield 1, 3) := dk_181 0 1 (dk_at dksJ30_init_0 2 rfl rfl)
theorem dJ30_init_5 : decode cJ30_init 5 = .ok (.aload_n 0, 1) := dk_42 (dk_at dksJ30_init_0 5 rfl rfl)
theorem dJ30_init_6 : decode cJ30_init 6 = .ok (.aload_n 1, 1) := dk_43 (dk_at dksJ30_init_0 6 rfl rfl)
theorem dJ30_init_7 : decode cJ30_init 7 = .ok (.invokespecial 7, 3) := dk_183 0 7 (dk_at dksJ30_init_0 7 rfl rfl)
theorem dJ30_init_10 : decode cJ30_init 10 = .ok (.aload_n 0, 1) := dk_42 (dk_at dksJ30_init_0 10 rfl rfl)
theorem dJ30_init_11 : decode cJ30_init 11 = .ok (.iload_n 2, 1) := dk_28 (dk_at dksJ30_init_0 11 rfl rfl)
theorem dJ30_init_12 : decode cJ30_init 12 = .ok (.putfield 13, 3) := dk_181 0 13 (dk_at dksJ30_init_0 12 rfl rfl)
theorem dJ30_init_15 : decode cJ30_init 15 = .ok (.return_, 1) := dk_177 (dk_at dksJ30_init_0 15 rfl rfl)
abbrev cJ30_nextIndex : ByteArray := prog_46_method_3_code
def yJ30_nextIndex : MethodName := ⟨RJ30, "nextIndex", "()I"⟩
theorem dJ30_nextIndex_0 : decode cJ30_nextIndex 0 = .ok (.aload_n 0, 1) := by decide +kernel
theorem dJ30_nextIndex_1 : decode cJ30_nextIndex 1 = .ok (.getfield 13, 3) := by decide +kernel
theorem dJ30_nextIndex_4 : decode cJ30_nextIndex 4 = .ok (.ireturn, 1) := by decide +kernel
abbrev cJ30_previousIndex : ByteArray := prog_46_method_4_code
def yJ30_previousIndex : MethodName := ⟨RJ30, "previousIndex", "()I"⟩
def dkwJ30_previousIndex_0 : List UInt8 := [42, 180, 0, 13, 4, 100, 172]
abbrev dktJ30_previousIndex_0 : List UInt8 := dkwJ30_previousIndex_0 ++ []
theorem dksJ30_previousIndex_0 : cJ30_previousIndex.data.toList.drop 0 = dktJ30_previousIndex_0 := by decide +kernel
theorem dJ30_previousIndex_0 : decode cJ30_previousIndex 0 = .ok (.aload_n 0, 1) := dk_42 (dk_at dksJ30_previousIndex_0 0 rfl rfl)
theorem dJ30_previousIndex_1 : decode cJ30_previousIndex 1 = .ok (.getfield 13, 3) := dk_180 0 13 (dk_at dksJ30_previousIndex_0 1 rfl rfl)
theorem dJ30_previousIndex_4 : decode cJ30_previousIndex 4 = .ok (.iconst 1, 1) := dk_4 (dk_at dksJ30_previousIndex_0 4 rfl rfl)
theorem dJ30_previousIndex_5 : decode cJ30_previousIndex 5 = .ok (.isub, 1) := dk_100 (dk_at dksJ30_previousIndex_0 5 rfl rfl)
theorem dJ30_previousIndex_6 : decode cJ30_previousIndex 6 = .ok (.ireturn, 1) := dk_172 (dk_at dksJ30_previousIndex_0 6 rfl rfl)
abbrev cJ30_hasPrevious : ByteArray := prog_46_method_2_code
def yJ30_hasPrevious : MethodName := ⟨RJ30, "hasPrevious", "()Z"⟩
def dkwJ30_hasPrevious_0 : List UInt8 := [42, 180, 0, 13, 153, 0, 7, 4, 167, 0, 4, 3, 172]
abbrev dktJ30_hasPrevious_0 : List UInt8 := dkwJ30_hasPrevious_0 ++ []
theorem dksJ30_hasPrevious_0 : cJ30_hasPrevious.data.toList.drop 0 = dktJ30_hasPrevious_0 := by decide +kernel
theorem dJ30_hasPrevious_0 : decode cJ30_hasPrevious 0 = .ok (.aload_n 0, 1) := dk_42 (dk_at dksJ30_hasPrevious_0 0 rfl rfl)
theorem dJ30_hasPrevious_1 : decode cJ30_hasPrevious 1 = .ok (.getfield 13, 3) := dk_180 0 13 (dk_at dksJ30_hasPrevious_0 1 rfl rfl)
theorem dJ30_hasPrevious_4 : decode cJ30_hasPrevious 4 = .ok (.ifCond .eq 7, 3) := dk_153 0 7 (dk_at dksJ30_hasPrevious_0 4 rfl rfl)
theorem dJ30_hasPrevious_7 : decode cJ30_hasPrevious 7 = .ok (.iconst 1, 1) := dk_4 (dk_at dksJ30_hasPrevious_0 7 rfl rfl)
theorem dJ30_hasPrevious_8 : decode cJ30_hasPrevious 8 = .ok (.goto 4, 3) := dk_167 0 4 (dk_at dksJ30_hasPrevious_0 8 rfl rfl)
theorem dJ30_hasPrevious_11 : decode cJ30_hasPrevious 11 = .ok (.iconst 0, 1) := dk_3 (dk_at dksJ30_hasPrevious_0 11 rfl rfl)
theorem dJ30_hasPrevious_12 : decode cJ30_hasPrevious 12 = .ok (.ireturn, 1) := dk_172 (dk_at dksJ30_hasPrevious_0 12 rfl rfl)
abbrev cJ30_previous : ByteArray := prog_46_method_5_code
def yJ30_previous : MethodName := ⟨RJ30, "previous", "()Ljava/lang/Object;"⟩
def dkwJ30_previous_2 : List UInt8 := [181, 0, 13, 44, 42, 27, 90, 181, 0, 34, 50, 176]
abbrev dktJ30_previous_2 : List UInt8 := dkwJ30_previous_2 ++ []
def dkwJ30_previous_1 : List UInt8 := [180, 0, 1, 180, 0, 25, 77, 27, 44, 190, 161, 0, 11, 187, 0, 31, 89, 183, 0, 33, 191, 42, 27]
abbrev dktJ30_previous_1 : List UInt8 := dkwJ30_previous_1 ++ dktJ30_previous_2
def dkwJ30_previous_0 : List UInt8 := [42, 182, 0, 17, 42, 180, 0, 13, 4, 100, 60, 27, 156, 0, 11, 187, 0, 21, 89, 183, 0, 23, 191, 42]
abbrev dktJ30_previous_0 : List UInt8 := dkwJ30_previous_0 ++ dktJ30_previous_1
theorem dksJ30_previous_0 : cJ30_previous.data.toList.drop 0 = dktJ30_previous_0 := by decide +kernel
theorem dksJ30_previous_1 : cJ30_previous.data.toList.drop 24 = dktJ30_previous_1 := dk_seg dksJ30_previous_0 24 rfl rfl
theorem dksJ30_previous_2 : cJ30_previous.data.toList.drop 47 = dktJ30_previous_2 := dk_seg dksJ30_previous_1 23 rfl rfl
theorem dJ30_previous_0 : decode cJ30_previous 0 = .ok (.aload_n 0, 1) := dk_42 (dk_at dksJ30_previous_0 0 rfl rfl)
theorem dJ30_previous_1 : decode cJ30_previous 1 = .ok (.invokevirtual 17, 3) := dk_182 0 17 (dk_at dksJ30_previous_0 1 rfl rfl)
theorem dJ30_previous_4 : decode cJ30_previous 4 = .ok (.aload_n 0, 1) := dk_42 (dk_at dksJ30_previous_0 4 rfl rfl)
theorem dJ30_previous_5 : decode cJ30_previous 5 = .ok (.getfield 13, 3) := dk_180 0 13 (dk_at dksJ30_previous_0 5 rfl rfl)
theorem dJ30_previous_8 : decode cJ30_previous 8 = .ok (.iconst 1, 1) := dk_4 (dk_at dksJ30_previous_0 8 rfl rfl)
theorem dJ30_previous_9 : decode cJ30_previous 9 = .ok (.isub, 1) := dk_100 (dk_at dksJ30_previous_0 9 rfl rfl)
theorem dJ30_previous_10 : decode cJ30_previous 10 = .ok (.istore_n 1, 1) := dk_60 (dk_at dksJ30_previous_0 10 rfl rfl)
theorem dJ30_previous_11 : decode cJ30_previous 11 = .ok (.iload_n 1, 1) := dk_27 (dk_at dksJ30_previous_0 11 rfl rfl)
theorem dJ30_previous_12 : decode cJ30_previous 12 = .ok (.ifCond .ge 11, 3) := dk_156 0 11 (dk_at dksJ30_previous_0 12 rfl rfl)
theorem dJ30_previous_15 : decode cJ30_previous 15 = .ok (.new 21, 3) := dk_187 0 21 (dk_at dksJ30_previous_0 15 rfl rfl)
theorem dJ30_previous_18 : decode cJ30_previous 18 = .ok (.dup, 1) := dk_89 (dk_at dksJ30_previous_0 18 rfl rfl)
theorem dJ30_previous_19 : decode cJ30_previous 19 = .ok (.invokespecial 23, 3) := dk_183 0 23 (dk_at dksJ30_previous_0 19 rfl rfl)
theorem dJ30_previous_22 : decode cJ30_previous 22 = .ok (.athrow, 1) := dk_191 (dk_at dksJ30_previous_0 22 rfl rfl)
theorem dJ30_previous_23 : decode cJ30_previous 23 = .ok (.aload_n 0, 1) := dk_42 (dk_at dksJ30_previous_0 23 rfl rfl)
theorem dJ30_previous_24 : decode cJ30_previous 24 = .ok (.getfield 1, 3) := dk_180 0 1 (dk_at dksJ30_previous_1 0 rfl rfl)
theorem dJ30_previous_27 : decode cJ30_previous 27 = .ok (.getfield 25, 3) := dk_180 0 25 (dk_at dksJ30_previous_1 3 rfl rfl)
theorem dJ30_previous_30 : decode cJ30_previous 30 = .ok (.astore_n 2, 1) := dk_77 (dk_at dksJ30_previous_1 6 rfl rfl)
theorem dJ30_previous_31 : decode cJ30_previous 31 = .ok (.iload_n 1, 1) := dk_27 (dk_at dksJ30_previous_1 7 rfl rfl)
theorem dJ30_previous_32 : decode cJ30_previous 32 = .ok (.aload_n 2, 1) := dk_44 (dk_at dksJ30_previous_1 8 rfl rfl)
theorem dJ30_previous_33 : decode cJ30_previous 33 = .ok (.arraylength, 1) := dk_190 (dk_at dksJ30_previous_1 9 rfl rfl)
theorem dJ30_previous_34 : decode cJ30_previous 34 = .ok (.if_icmp .lt 11, 3) := dk_161 0 11 (dk_at dksJ30_previous_1 10 rfl rfl)
theorem dJ30_previous_37 : decode cJ30_previous 37 = .ok (.new 31, 3) := dk_187 0 31 (dk_at dksJ30_previous_1 13 rfl rfl)
theorem dJ30_previous_40 : decode cJ30_previous 40 = .ok (.dup, 1) := dk_89 (dk_at dksJ30_previous_1 16 rfl rfl)
theorem dJ30_previous_41 : decode cJ30_previous 41 = .ok (.invokespecial 33, 3) := dk_183 0 33 (dk_at dksJ30_previous_1 17 rfl rfl)
theorem dJ30_previous_44 : decode cJ30_previous 44 = .ok (.athrow, 1) := dk_191 (dk_at dksJ30_previous_1 20 rfl rfl)
theorem dJ30_previous_45 : decode cJ30_previous 45 = .ok (.aload_n 0, 1) := dk_42 (dk_at dksJ30_previous_1 21 rfl rfl)
theorem dJ30_previous_46 : decode cJ30_previous 46 = .ok (.iload_n 1, 1) := dk_27 (dk_at dksJ30_previous_1 22 rfl rfl)
theorem dJ30_previous_47 : decode cJ30_previous 47 = .ok (.putfield 13, 3) := dk_181 0 13 (dk_at dksJ30_previous_2 0 rfl rfl)
theorem dJ30_previous_50 : decode cJ30_previous 50 = .ok (.aload_n 2, 1) := dk_44 (dk_at dksJ30_previous_2 3 rfl rfl)
theorem dJ30_previous_51 : decode cJ30_previous 51 = .ok (.aload_n 0, 1) := dk_42 (dk_at dksJ30_previous_2 4 rfl rfl)
theorem dJ30_previous_52 : decode cJ30_previous 52 = .ok (.iload_n 1, 1) := dk_27 (dk_at dksJ30_previous_2 5 rfl rfl)
theorem dJ30_previous_53 : decode cJ30_previous 53 = .ok (.dup_x1, 1) := dk_90 (dk_at dksJ30_previous_2 6 rfl rfl)
theorem dJ30_previous_54 : decode cJ30_previous 54 = .ok (.putfield 34, 3) := dk_181 0 34 (dk_at dksJ30_previous_2 7 rfl rfl)
theorem dJ30_previous_57 : decode cJ30_previous 57 = .ok (.aaload, 1) := dk_50 (dk_at dksJ30_previous_2 10 rfl rfl)
theorem dJ30_previous_58 : decode cJ30_previous 58 = .ok (.areturn, 1) := dk_176 (dk_at dksJ30_previous_2 11 rfl rfl)
abbrev cJ30_set : ByteArray := prog_46_method_6_code
def yJ30_set : MethodName := ⟨RJ30, "set", "(Ljava/lang/Object;)V"⟩
def dkwJ30_set_1 : List UInt8 := [180, 0, 34, 43, 182, 0, 40, 87, 167, 0, 12, 77, 187, 0, 31, 89, 183, 0, 33, 191, 177]
abbrev dktJ30_set_1 : List UInt8 := dkwJ30_set_1 ++ []
def dkwJ30_set_0 : List UInt8 := [42, 180, 0, 34, 156, 0, 11, 187, 0, 37, 89, 183, 0, 39, 191, 42, 182, 0, 17, 42, 180, 0, 1, 42]
abbrev dktJ30_set_0 : List UInt8 := dkwJ30_set_0 ++ dktJ30_set_1
theorem dksJ30_set_0 : cJ30_set.data.toList.drop 0 = dktJ30_set_0 := by decide +kernel
theorem dksJ30_set_1 : cJ30_set.data.toList.drop 24 = dktJ30_set_1 := dk_seg dksJ30_set_0 24 rfl rfl
theorem dJ30_set_0 : decode cJ30_set 0 = .ok (.aload_n 0, 1) := dk_42 (dk_at dksJ30_set_0 0 rfl rfl)
theorem dJ30_set_1 : decode cJ30_set 1 = .ok (.getfield 34, 3) := dk_180 0 34 (dk_at dksJ30_set_0 1 rfl rfl)
theorem dJ30_set_4 : decode cJ30_set 4 = .ok (.ifCond .ge 11, 3) := dk_156 0 11 (dk_at dksJ30_set_0 4 rfl rfl)
theorem dJ30_set_7 : decode cJ30_set 7 = .ok (.new 37, 3) := dk_187 0 37 (dk_at dksJ30_set_0 7 rfl rfl)
theorem dJ30_set_10 : decode cJ30_set 10 = .ok (.dup, 1) := dk_89 (dk_at dksJ30_set_0 10 rfl rfl)
theorem dJ30_set_11 : decode cJ30_set 11 = .ok (.invokespecial 39, 3) := dk_183 0 39 (dk_at dksJ30_set_0 11 rfl rfl)
theorem dJ30_set_14 : decode cJ30_set 14 = .ok (.athrow, 1) := dk_191 (dk_at dksJ30_set_0 14 rfl rfl)
theorem dJ30_set_15 : decode cJ30_set 15 = .ok (.aload_n 0, 1) := dk_42 (dk_at dksJ30_set_0 15 rfl rfl)
theorem dJ30_set_16 : decode cJ30_set 16 = .ok (.invokevirtual 17, 3) := dk_182 0 17 (dk_at dksJ30_set_0 16 rfl rfl)
theorem dJ30_set_19 : decode cJ30_set 19 = .ok (.aload_n 0, 1) := dk_42 (dk_at dksJ30_set_0 19 rfl rfl)
theorem dJ30_set_20 : decode cJ30_set 20 = .ok (.getfield 1, 3) := dk_180 0 1 (dk_at dksJ30_set_0 20 rfl rfl)
theorem dJ30_set_23 : decode cJ30_set 23 = .ok (.aload_n 0, 1) := dk_42 (dk_at dksJ30_set_0 23 rfl rfl)
theorem dJ30_set_24 : decode cJ30_set 24 = .ok (.getfield 34, 3) := dk_180 0 34 (dk_at dksJ30_set_1 0 rfl rfl)
theorem dJ30_set_27 : decode cJ30_set 27 = .ok (.aload_n 1, 1) := dk_43 (dk_at dksJ30_set_1 3 rfl rfl)
theorem dJ30_set_28 : decode cJ30_set 28 = .ok (.invokevirtual 40, 3) := dk_182 0 40 (dk_at dksJ30_set_1 4 rfl rfl)
theorem dJ30_set_31 : decode cJ30_set 31 = .ok (.pop, 1) := dk_87 (dk_at dksJ30_set_1 7 rfl rfl)
theorem dJ30_set_32 : decode cJ30_set 32 = .ok (.goto 12, 3) := dk_167 0 12 (dk_at dksJ30_set_1 8 rfl rfl)
theorem dJ30_set_35 : decode cJ30_set 35 = .ok (.astore_n 2, 1) := dk_77 (dk_at dksJ30_set_1 11 rfl rfl)
theorem dJ30_set_36 : decode cJ30_set 36 = .ok (.new 31, 3) := dk_187 0 31 (dk_at dksJ30_set_1 12 rfl rfl)
theorem dJ30_set_39 : decode cJ30_set 39 = .ok (.dup, 1) := dk_89 (dk_at dksJ30_set_1 15 rfl rfl)
theorem dJ30_set_40 : decode cJ30_set 40 = .ok (.invokespecial 33, 3) := dk_183 0 33 (dk_at dksJ30_set_1 16 rfl rfl)
theorem dJ30_set_43 : decode cJ30_set 43 = .ok (.athrow, 1) := dk_191 (dk_at dksJ30_set_1 19 rfl rfl)
theorem dJ30_set_44 : decode cJ30_set 44 = .ok (.return_, 1) := dk_177 (dk_at dksJ30_set_1 20 rfl rfl)
abbrev cJ30_add : ByteArray := prog_46_method_7_code
def yJ30_add : MethodName := ⟨RJ30, "add", "(Ljava/lang/Object;)V"⟩
def dkwJ30_add_2 : List UInt8 := [187, 0, 31, 89, 183, 0, 33, 191, 177]
abbrev dktJ30_add_2 : List UInt8 := dkwJ30_add_2 ++ []
def dkwJ30_add_1 : List UInt8 := [181, 0, 13, 42, 2, 181, 0, 34, 42, 42, 180, 0, 1, 180, 0, 50, 181, 0, 53, 167, 0, 12, 77]
abbrev dktJ30_add_1 : List UInt8 := dkwJ30_add_1 ++ dktJ30_add_2
def dkwJ30_add_0 : List UInt8 := [42, 182, 0, 17, 42, 180, 0, 13, 61, 42, 180, 0, 1, 28, 43, 182, 0, 46, 42, 28, 4, 96]
abbrev dktJ30_add_0 : List UInt8 := dkwJ30_add_0 ++ dktJ30_add_1
theorem dksJ30_add_0 : cJ30_add.data.toList.drop 0 = dktJ30_add_0 := by decide +kernel
theorem dksJ30_add_1 : cJ30_add.data.toList.drop 22 = dktJ30_add_1 := dk_seg dksJ30_add_0 22 rfl rfl
theorem dksJ30_add_2 : cJ30_add.data.toList.drop 45 = dktJ30_add_2 := dk_seg dksJ30_add_1 23 rfl rfl
theorem dJ30_add_0 : decode cJ30_add 0 = .ok (.aload_n 0, 1) := dk_42 (dk_at dksJ30_add_0 0 rfl rfl)
theorem dJ30_add_1 : decode cJ30_add 1 = .ok (.invokevirtual 17, 3) := dk_182 0 17 (dk_at dksJ30_add_0 1 rfl rfl)
theorem dJ30_add_4 : decode cJ30_add 4 = .ok (.aload_n 0, 1) := dk_42 (dk_at dksJ30_add_0 4 rfl rfl)
theorem dJ30_add_5 : decode cJ30_add 5 = .ok (.getfield 13, 3) := dk_180 0 13 (dk_at dksJ30_add_0 5 rfl rfl)
theorem dJ30_add_8 : decode cJ30_add 8 = .ok (.istore_n 2, 1) := dk_61 (dk_at dksJ30_add_0 8 rfl rfl)
theorem dJ30_add_9 : decode cJ30_add 9 = .ok (.aload_n 0, 1) := dk_42 (dk_at dksJ30_add_0 9 rfl rfl)
theorem dJ30_add_10 : decode cJ30_add 10 = .ok (.getfield 1, 3) := dk_180 0 1 (dk_at dksJ30_add_0 10 rfl rfl)
theorem dJ30_add_13 : decode cJ30_add 13 = .ok (.iload_n 2, 1) := dk_28 (dk_at dksJ30_add_0 13 rfl rfl)
theorem dJ30_add_14 : decode cJ30_add 14 = .ok (.aload_n 1, 1) := dk_43 (dk_at dksJ30_add_0 14 rfl rfl)
theorem dJ30_add_15 : decode cJ30_add 15 = .ok (.invokevirtual 46, 3) := dk_182 0 46 (dk_at dksJ30_add_0 15 rfl rfl)
theorem dJ30_add_18 : decode cJ30_add 18 = .ok (.aload_n 0, 1) := dk_42 (dk_at dksJ30_add_0 18 rfl rfl)
theorem dJ30_add_19 : decode cJ30_add 19 = .ok (.iload_n 2, 1) := dk_28 (dk_at dksJ30_add_0 19 rfl rfl)
theorem dJ30_add_20 : decode cJ30_add 20 = .ok (.iconst 1, 1) := dk_4 (dk_at dksJ30_add_0 20 rfl rfl)
theorem dJ30_add_21 : decode cJ30_add 21 = .ok (.iadd, 1) := dk_96 (dk_at dksJ30_add_0 21 rfl rfl)
theorem dJ30_add_22 : decode cJ30_add 22 = .ok (.putfield 13, 3) := dk_181 0 13 (dk_at dksJ30_add_1 0 rfl rfl)
theorem dJ30_add_25 : decode cJ30_add 25 = .ok (.aload_n 0, 1) := dk_42 (dk_at dksJ30_add_1 3 rfl rfl)
theorem dJ30_add_26 : decode cJ30_add 26 = .ok (.iconst (-1), 1) := dk_2 (dk_at dksJ30_add_1 4 rfl rfl)
theorem dJ30_add_27 : decode cJ30_add 27 = .ok (.putfield 34, 3) := dk_181 0 34 (dk_at dksJ30_add_1 5 rfl rfl)
theorem dJ30_add_30 : decode cJ30_add 30 = .ok (.aload_n 0, 1) := dk_42 (dk_at dksJ30_add_1 8 rfl rfl)
theorem dJ30_add_31 : decode cJ30_add 31 = .ok (.aload_n 0, 1) := dk_42 (dk_at dksJ30_add_1 9 rfl rfl)
theorem dJ30_add_32 : decode cJ30_add 32 = .ok (.getfield 1, 3) := dk_180 0 1 (dk_at dksJ30_add_1 10 rfl rfl)
theorem dJ30_add_35 : decode cJ30_add 35 = .ok (.getfield 50, 3) := dk_180 0 50 (dk_at dksJ30_add_1 13 rfl rfl)
theorem dJ30_add_38 : decode cJ30_add 38 = .ok (.putfield 53, 3) := dk_181 0 53 (dk_at dksJ30_add_1 16 rfl rfl)
theorem dJ30_add_41 : decode cJ30_add 41 = .ok (.goto 12, 3) := dk_167 0 12 (dk_at dksJ30_add_1 19 rfl rfl)
theorem dJ30_add_44 : decode cJ30_add 44 = .ok (.astore_n 2, 1) := dk_77 (dk_at dksJ30_add_1 22 rfl rfl)
theorem dJ30_add_45 : decode cJ30_add 45 = .ok (.new 31, 3) := dk_187 0 31 (dk_at dksJ30_add_2 0 rfl rfl)
theorem dJ30_add_48 : decode cJ30_add 48 = .ok (.dup, 1) := dk_89 (dk_at dksJ30_add_2 3 rfl rfl)
theorem dJ30_add_49 : decode cJ30_add 49 = .ok (.invokespecial 33, 3) := dk_183 0 33 (dk_at dksJ30_add_2 4 rfl rfl)
theorem dJ30_add_52 : decode cJ30_add 52 = .ok (.athrow, 1) := dk_191 (dk_at dksJ30_add_2 7 rfl rfl)
theorem dJ30_add_53 : decode cJ30_add 53 = .ok (.return_, 1) := dk_177 (dk_at dksJ30_add_2 8 rfl rfl)
theorem q91 : (Jvm.Cond.initialized "java/util/ArrayList$ListItr") ∈ lw_all := lw_g (lw_at lw_m1 36 rfl) rfl
theorem q134 : (Jvm.Cond.fieldLink "java/util/ArrayList$ListItr" (25 : Nat) "java/util/ArrayList" "elementData" "[Ljava/lang/Object;") ∈ lw_all := lw_g (lw_at lw_m1 79 rfl) rfl
theorem q150 : (Jvm.Cond.fieldLink "java/util/ArrayList$ListItr" (50 : Nat) "java/util/ArrayList" "modCount" "I") ∈ lw_all := lw_g (lw_at lw_m1 95 rfl) rfl
theorem q241 : (Jvm.Cond.selects "java/util/ArrayList$ListItr" ({ cls := "java/lang/Object", name := "getClass", desc := "()Ljava/lang/Class;" } : Jvm.MethodName) ({ cls := "java/lang/Object", name := "getClass", desc := "()Ljava/lang/Class;" } : Jvm.MethodName)) ∈ lw_all := lw_g (lw_at lw_m1 186 rfl) rfl
theorem q406 : (Jvm.Cond.instantiable "java/util/ArrayList$ListItr" (5 : Nat)) ∈ lw_all := lw_g (lw_at lw_m2 111 rfl) rfl
theorem q408 : (Jvm.Cond.instanceMethod ({ cls := "java/util/ArrayList$ListItr", name := "<init>", desc := "(Ljava/util/ArrayList;I)V" } : Jvm.MethodName)) ∈ lw_all := lw_g (lw_at lw_m2 113 rfl) rfl
theorem q409 : (Jvm.Cond.code ({ cls := "java/util/ArrayList$ListItr", name := "<init>", desc := "(Ljava/util/ArrayList;I)V" } : Jvm.MethodName) prog_46_method_1_code (3 : Nat) (Option.none : Option Jvm.ClassFile.FieldType)) ∈ lw_all := lw_g (lw_at lw_m2 114 rfl) rfl
theorem q410 : (Jvm.Cond.methodLink "java/util/ArrayList$ListItr" (7 : Nat) ({ cls := "java/util/ArrayList$Itr", name := "<init>", desc := "(Ljava/util/ArrayList;)V" } : Jvm.MethodName)) ∈ lw_all := lw_g (lw_at lw_m2 115 rfl) rfl
theorem q414 : (Jvm.Cond.fieldLink "java/util/ArrayList$ListItr" (1 : Nat) "java/util/ArrayList$ListItr" "this$0" "Ljava/util/ArrayList;") ∈ lw_all := lw_g (lw_at lw_m2 119 rfl) rfl
theorem q415 : (Jvm.Cond.fieldLink "java/util/ArrayList$ListItr" (13 : Nat) "java/util/ArrayList$ListItr" "cursor" "I") ∈ lw_all := lw_g (lw_at lw_m2 120 rfl) rfl
theorem q416 : (Jvm.Cond.sameField "java/util/ArrayList$ListItr" "java/util/ArrayList$Itr" "cursor" "I") ∈ lw_all := lw_g (lw_at lw_m2 121 rfl) rfl
theorem q419 : (Jvm.Cond.fieldLink "java/util/ArrayList$ListItr" (34 : Nat) "java/util/ArrayList$ListItr" "lastRet" "I") ∈ lw_all := lw_g (lw_at lw_m2 124 rfl) rfl
theorem q420 : (Jvm.Cond.sameField "java/util/ArrayList$ListItr" "java/util/ArrayList$Itr" "lastRet" "I") ∈ lw_all := lw_g (lw_at lw_m2 125 rfl) rfl
theorem q422 : (Jvm.Cond.fieldLink "java/util/ArrayList$ListItr" (53 : Nat) "java/util/ArrayList$ListItr" "expectedModCount" "I") ∈ lw_all := lw_g (lw_at lw_m2 127 rfl) rfl
theorem q423 : (Jvm.Cond.sameField "java/util/ArrayList$ListItr" "java/util/ArrayList$Itr" "expectedModCount" "I") ∈ lw_all := lw_g (lw_at lw_m2 128 rfl) rfl
theorem q425 : (Jvm.Cond.laysFinal "java/util/ArrayList$ListItr" "java/util/ArrayList$ListItr" "this$0" "Ljava/util/ArrayList;") ∈ lw_all := lw_g (lw_at lw_m2 130 rfl) rfl
theorem q426 : (Jvm.Cond.soleField "java/util/ArrayList$ListItr" "this$0") ∈ lw_all := lw_g (lw_at lw_m2 131 rfl) rfl
theorem q427 : (Jvm.Cond.lays "java/util/ArrayList$ListItr" "java/util/ArrayList$Itr" "cursor" "I") ∈ lw_all := lw_g (lw_at lw_m2 132 rfl) rfl
theorem q429 : (Jvm.Cond.lays "java/util/ArrayList$ListItr" "java/util/ArrayList$Itr" "lastRet" "I") ∈ lw_all := lw_g (lw_at lw_m2 134 rfl) rfl
theorem q431 : (Jvm.Cond.lays "java/util/ArrayList$ListItr" "java/util/ArrayList$Itr" "expectedModCount" "I") ∈ lw_all := lw_g (lw_at lw_m2 136 rfl) rfl
theorem q433 : (Jvm.Cond.laysFinal "java/util/ArrayList$ListItr" "java/util/ArrayList$Itr" "this$0" "Ljava/util/ArrayList;") ∈ lw_all := lw_g (lw_at lw_m2 138 rfl) rfl
theorem q435 : (Jvm.Cond.superclass "java/util/ArrayList$ListItr" "java/util/ArrayList$Itr") ∈ lw_all := lw_g (lw_at lw_m2 140 rfl) rfl
theorem q957 : (Jvm.Cond.castable "java/util/ArrayList$ListItr" "java/util/ListIterator") ∈ lw_tbl := lw_at lw_m4 182 rfl
theorem q958 : (Jvm.Cond.selects "java/util/ArrayList$ListItr" ({ cls := "java/util/ListIterator", name := "nextIndex", desc := "()I" } : Jvm.MethodName) ({ cls := "java/util/ArrayList$ListItr", name := "nextIndex", desc := "()I" } : Jvm.MethodName)) ∈ lw_all := lw_g (lw_at lw_m4 183 rfl) rfl
theorem q959 : (Jvm.Cond.unhidden "java/util/ArrayList$ListItr" "nextIndex" "()I") ∈ lw_tbl := lw_at lw_m4 184 rfl
theorem q960 : (Jvm.Cond.instanceMethod ({ cls := "java/util/ArrayList$ListItr", name := "nextIndex", desc := "()I" } : Jvm.MethodName)) ∈ lw_all := lw_g (lw_at lw_m4 185 rfl) rfl
theorem q961 : (Jvm.Cond.publicMethod ({ cls := "java/util/ArrayList$ListItr", name := "nextIndex", desc := "()I" } : Jvm.MethodName)) ∈ lw_tbl := lw_at lw_m4 186 rfl
theorem q962 : (Jvm.Cond.code ({ cls := "java/util/ArrayList$ListItr", name := "nextIndex", desc := "()I" } : Jvm.MethodName) prog_46_method_3_code (1 : Nat) (Option.some Jvm.ClassFile.FieldType.int)) ∈ lw_all := lw_g (lw_at lw_m4 187 rfl) rfl
theorem q969 : (Jvm.Cond.selects "java/util/ArrayList$ListItr" ({ cls := "java/util/ListIterator", name := "hasNext", desc := "()Z" } : Jvm.MethodName) ({ cls := "java/util/ArrayList$Itr", name := "hasNext", desc := "()Z" } : Jvm.MethodName)) ∈ lw_all := lw_g (lw_at lw_m4 194 rfl) rfl
theorem q970 : (Jvm.Cond.unhidden "java/util/ArrayList$ListItr" "hasNext" "()Z") ∈ lw_tbl := lw_at lw_m4 195 rfl
theorem q1082 : (Jvm.Cond.selects "java/util/ArrayList$ListItr" ({ cls := "java/util/ListIterator", name := "next", desc := "()Ljava/lang/Object;" } : Jvm.MethodName) ({ cls := "java/util/ArrayList$Itr", name := "next", desc := "()Ljava/lang/Object;" } : Jvm.MethodName)) ∈ lw_all := lw_g (lw_at lw_m5 67 rfl) rfl
theorem q1083 : (Jvm.Cond.unhidden "java/util/ArrayList$ListItr" "next" "()Ljava/lang/Object;") ∈ lw_tbl := lw_at lw_m5 68 rfl
theorem q1091 : (Jvm.Cond.selects "java/util/ArrayList$ListItr" ({ cls := "java/util/ArrayList$Itr", name := "checkForComodification", desc := "()V" } : Jvm.MethodName) ({ cls := "java/util/ArrayList$Itr", name := "checkForComodification", desc := "()V" } : Jvm.MethodName)) ∈ lw_all := lw_g (lw_at lw_m5 76 rfl) rfl
theorem q1231 : (Jvm.Cond.castable "java/util/ArrayList$ListItr" "java/util/Iterator") ∈ lw_tbl := lw_at lw_m5 216 rfl
theorem q1232 : (Jvm.Cond.selects "java/util/ArrayList$ListItr" ({ cls := "java/util/Iterator", name := "hasNext", desc := "()Z" } : Jvm.MethodName) ({ cls := "java/util/ArrayList$Itr", name := "hasNext", desc := "()Z" } : Jvm.MethodName)) ∈ lw_all := lw_g (lw_at lw_m5 217 rfl) rfl
theorem q1251 : (Jvm.Cond.selects "java/util/ArrayList$ListItr" ({ cls := "java/util/Iterator", name := "next", desc := "()Ljava/lang/Object;" } : Jvm.MethodName) ({ cls := "java/util/ArrayList$Itr", name := "next", desc := "()Ljava/lang/Object;" } : Jvm.MethodName)) ∈ lw_all := lw_g (lw_at lw_m5 236 rfl) rfl
theorem q1438 : (Jvm.Cond.selects "java/util/ArrayList$ListItr" ({ cls := "java/util/ListIterator", name := "previousIndex", desc := "()I" } : Jvm.MethodName) ({ cls := "java/util/ArrayList$ListItr", name := "previousIndex", desc := "()I" } : Jvm.MethodName)) ∈ lw_all := lw_g (lw_at lw_m6 183 rfl) rfl
theorem q1439 : (Jvm.Cond.unhidden "java/util/ArrayList$ListItr" "previousIndex" "()I") ∈ lw_tbl := lw_at lw_m6 184 rfl
theorem q1440 : (Jvm.Cond.instanceMethod ({ cls := "java/util/ArrayList$ListItr", name := "previousIndex", desc := "()I" } : Jvm.MethodName)) ∈ lw_all := lw_g (lw_at lw_m6 185 rfl) rfl
theorem q1441 : (Jvm.Cond.publicMethod ({ cls := "java/util/ArrayList$ListItr", name := "previousIndex", desc := "()I" } : Jvm.MethodName)) ∈ lw_tbl := lw_at lw_m6 186 rfl
theorem q1442 : (Jvm.Cond.code ({ cls := "java/util/ArrayList$ListItr", name := "previousIndex", desc := "()I" } : Jvm.MethodName) prog_46_method_4_code (1 : Nat) (Option.some Jvm.ClassFile.FieldType.int)) ∈ lw_all := lw_g (lw_at lw_m6 187 rfl) rfl
theorem q1496 : (Jvm.Cond.selects "java/util/ArrayList$ListItr" ({ cls := "java/util/ListIterator", name := "hasPrevious", desc := "()Z" } : Jvm.MethodName) ({ cls := "java/util/ArrayList$ListItr", name := "hasPrevious", desc := "()Z" } : Jvm.MethodName)) ∈ lw_all := lw_g (lw_at lw_m7 1 rfl) rfl
theorem q1497 : (Jvm.Cond.unhidden "java/util/ArrayList$ListItr" "hasPrevious" "()Z") ∈ lw_tbl := lw_at lw_m7 2 rfl
theorem q1498 : (Jvm.Cond.instanceMethod ({ cls := "java/util/ArrayList$ListItr", name := "hasPrevious", desc := "()Z" } : Jvm.MethodName)) ∈ lw_all := lw_g (lw_at lw_m7 3 rfl) rfl
theorem q1499 : (Jvm.Cond.publicMethod ({ cls := "java/util/ArrayList$ListItr", name := "hasPrevious", desc := "()Z" } : Jvm.MethodName)) ∈ lw_tbl := lw_at lw_m7 4 rfl
theorem q1500 : (Jvm.Cond.code ({ cls := "java/util/ArrayList$ListItr", name := "hasPrevious", desc := "()Z" } : Jvm.MethodName) prog_46_method_2_code (1 : Nat) (Option.some Jvm.ClassFile.FieldType.boolean)) ∈ lw_all := lw_g (lw_at lw_m7 5 rfl) rfl
theorem q1530 : (Jvm.Cond.selects "java/util/ArrayList$ListItr" ({ cls := "java/util/ListIterator", name := "previous", desc := "()Ljava/lang/Object;" } : Jvm.MethodName) ({ cls := "java/util/ArrayList$ListItr", name := "previous", desc := "()Ljava/lang/Object;" } : Jvm.MethodName)) ∈ lw_all := lw_g (lw_at lw_m7 35 rfl) rfl
theorem q1531 : (Jvm.Cond.unhidden "java/util/ArrayList$ListItr" "previous" "()Ljava/lang/Object;") ∈ lw_tbl := lw_at lw_m7 36 rfl
theorem q1532 : (Jvm.Cond.instanceMethod ({ cls := "java/util/ArrayList$ListItr", name := "previous", desc := "()Ljava/lang/Object;" } : Jvm.MethodName)) ∈ lw_all := lw_g (lw_at lw_m7 37 rfl) rfl
theorem q1533 : (Jvm.Cond.publicMethod ({ cls := "java/util/ArrayList$ListItr", name := "previous", desc := "()Ljava/lang/Object;" } : Jvm.MethodName)) ∈ lw_tbl := lw_at lw_m7 38 rfl
theorem q1534 : (Jvm.Cond.code ({ cls := "java/util/ArrayList$ListItr", name := "previous", desc := "()Ljava/lang/Object;" } : Jvm.MethodName) prog_46_method_5_code (3 : Nat) (Option.some (Jvm.ClassFile.FieldType.object "java/lang/Object"))) ∈ lw_all := lw_g (lw_at lw_m7 39 rfl) rfl
theorem q1535 : (Jvm.Cond.methodLink "java/util/ArrayList$ListItr" (17 : Nat) ({ cls := "java/util/ArrayList$ListItr", name := "checkForComodification", desc := "()V" } : Jvm.MethodName)) ∈ lw_all := lw_g (lw_at lw_m7 40 rfl) rfl
theorem q1536 : (Jvm.Cond.sameMethod "java/util/ArrayList$ListItr" "java/util/ArrayList$Itr" "checkForComodification" "()V") ∈ lw_all := lw_g (lw_at lw_m7 41 rfl) rfl
theorem q1538 : (Jvm.Cond.selects "java/util/ArrayList$ListItr" ({ cls := "java/util/ArrayList$ListItr", name := "checkForComodification", desc := "()V" } : Jvm.MethodName) ({ cls := "java/util/ArrayList$Itr", name := "checkForComodification", desc := "()V" } : Jvm.MethodName)) ∈ lw_all := lw_g (lw_at lw_m7 43 rfl) rfl
theorem q1816 : (Jvm.Cond.selects "java/util/ArrayList$ListItr" ({ cls := "java/util/ListIterator", name := "remove", desc := "()V" } : Jvm.MethodName) ({ cls := "java/util/ArrayList$Itr", name := "remove", desc := "()V" } : Jvm.MethodName)) ∈ lw_all := lw_g (lw_at lw_m8 81 rfl) rfl
theorem q1817 : (Jvm.Cond.unhidden "java/util/ArrayList$ListItr" "remove" "()V") ∈ lw_tbl := lw_at lw_m8 82 rfl
theorem q2515 : (Jvm.Cond.selects "java/util/ArrayList$ListItr" ({ cls := "java/util/ListIterator", name := "set", desc := "(Ljava/lang/Object;)V" } : Jvm.MethodName) ({ cls := "java/util/ArrayList$ListItr", name := "set", desc := "(Ljava/lang/Object;)V" } : Jvm.MethodName)) ∈ lw_all := lw_g (lw_at lw_m11 60 rfl) rfl
theorem q2516 : (Jvm.Cond.unhidden "java/util/ArrayList$ListItr" "set" "(Ljava/lang/Object;)V") ∈ lw_tbl := lw_at lw_m11 61 rfl
theorem q2517 : (Jvm.Cond.instanceMethod ({ cls := "java/util/ArrayList$ListItr", name := "set", desc := "(Ljava/lang/Object;)V" } : Jvm.MethodName)) ∈ lw_all := lw_g (lw_at lw_m11 62 rfl) rfl
theorem q2518 : (Jvm.Cond.publicMethod ({ cls := "java/util/ArrayList$ListItr", name := "set", desc := "(Ljava/lang/Object;)V" } : Jvm.MethodName)) ∈ lw_tbl := lw_at lw_m11 63 rfl
theorem q2519 : (Jvm.Cond.codeWith ({ cls := "java/util/ArrayList$ListItr", name := "set", desc := "(Ljava/lang/Object;)V" } : Jvm.MethodName) prog_46_method_6_code (3 : Nat) (Option.none : Option Jvm.ClassFile.FieldType) [((19 : Nat), (32 : Nat), (35 : Nat), (44 : Nat))]) ∈ lw_all := lw_g (lw_at lw_m11 64 rfl) rfl
theorem q2520 : (Jvm.Cond.classLink "java/util/ArrayList$ListItr" (37 : Nat) "java/lang/IllegalStateException") ∈ lw_all := lw_g (lw_at lw_m11 65 rfl) rfl
theorem q2521 : (Jvm.Cond.methodLink "java/util/ArrayList$ListItr" (39 : Nat) ({ cls := "java/lang/IllegalStateException", name := "<init>", desc := "()V" } : Jvm.MethodName)) ∈ lw_all := lw_g (lw_at lw_m11 66 rfl) rfl
theorem q2522 : (Jvm.Cond.methodLink "java/util/ArrayList$ListItr" (40 : Nat) ({ cls := "java/util/ArrayList", name := "set", desc := "(ILjava/lang/Object;)Ljava/lang/Object;" } : Jvm.MethodName)) ∈ lw_all := lw_g (lw_at lw_m11 67 rfl) rfl
theorem q2523 : (Jvm.Cond.classLink "java/util/ArrayList$ListItr" (31 : Nat) "java/util/ConcurrentModificationException") ∈ lw_all := lw_g (lw_at lw_m11 68 rfl) rfl
theorem q2524 : (Jvm.Cond.methodLink "java/util/ArrayList$ListItr" (33 : Nat) ({ cls := "java/util/ConcurrentModificationException", name := "<init>", desc := "()V" } : Jvm.MethodName)) ∈ lw_all := lw_g (lw_at lw_m11 69 rfl) rfl
theorem q3248 : (Jvm.Cond.selects "java/util/ArrayList$ListItr" ({ cls := "java/util/Iterator", name := "remove", desc := "()V" } : Jvm.MethodName) ({ cls := "java/util/ArrayList$Itr", name := "remove", desc := "()V" } : Jvm.MethodName)) ∈ lw_all := lw_g (lw_at lw_m14 73 rfl) rfl
theorem q3465 : (Jvm.Cond.selects "java/util/ArrayList$ListItr" ({ cls := "java/util/ListIterator", name := "add", desc := "(Ljava/lang/Object;)V" } : Jvm.MethodName) ({ cls := "java/util/ArrayList$ListItr", name := "add", desc := "(Ljava/lang/Object;)V" } : Jvm.MethodName)) ∈ lw_all := lw_g (lw_at lw_m15 50 rfl) rfl
theorem q3466 : (Jvm.Cond.unhidden "java/util/ArrayList$ListItr" "add" "(Ljava/lang/Object;)V") ∈ lw_tbl := lw_at lw_m15 51 rfl
theorem q3467 : (Jvm.Cond.instanceMethod ({ cls := "java/util/ArrayList$ListItr", name := "add", desc := "(Ljava/lang/Object;)V" } : Jvm.MethodName)) ∈ lw_all := lw_g (lw_at lw_m15 52 rfl) rfl
theorem q3468 : (Jvm.Cond.publicMethod ({ cls := "java/util/ArrayList$ListItr", name := "add", desc := "(Ljava/lang/Object;)V" } : Jvm.MethodName)) ∈ lw_tbl := lw_at lw_m15 53 rfl
theorem q3469 : (Jvm.Cond.codeWith ({ cls := "java/util/ArrayList$ListItr", name := "add", desc := "(Ljava/lang/Object;)V" } : Jvm.MethodName) prog_46_method_7_code (3 : Nat) (Option.none : Option Jvm.ClassFile.FieldType) [((4 : Nat), (41 : Nat), (44 : Nat), (44 : Nat))]) ∈ lw_all := lw_g (lw_at lw_m15 54 rfl) rfl
theorem q3470 : (Jvm.Cond.methodLink "java/util/ArrayList$ListItr" (46 : Nat) ({ cls := "java/util/ArrayList", name := "add", desc := "(ILjava/lang/Object;)V" } : Jvm.MethodName)) ∈ lw_all := lw_g (lw_at lw_m15 55 rfl) rfl
theorem q3916 : (Jvm.Cond.castable "java/util/ArrayList$ListItr" "java/lang/Object") ∈ lw_tbl := lw_at lw_m17 21 rfl
theorem in_J30 : ∀ w ∈ wsJ300, w ∈ lw_all := lw_in wsJ300 [427, 429, 431, 433, 425] (by decide +kernel) (by decide +kernel)

/-! java/util/List -/
set_option maxRecDepth 100000
def RJ43 : String := "java/util/List"
abbrev cJ43_replaceAll : ByteArray := prog_59_method_14_code
def yJ43_replaceAll : MethodName := ⟨RJ43, "replaceAll", "(Ljava/util/function/UnaryOperator;)V"⟩
def dkwJ43_replaceAll_1 : List UInt8 := [185, 0, 19, 1, 0, 185, 0, 23, 2, 0, 185, 0, 28, 2, 0, 167, 255, 229, 177]
abbrev dktJ43_replaceAll_1 : List UInt8 := dkwJ43_replaceAll_1 ++ []
def dkwJ43_replaceAll_0 : List UInt8 := [43, 184, 0, 1, 87, 42, 185, 0, 7, 1, 0, 77, 44, 185, 0, 13, 1, 0, 153, 0, 24, 44, 43, 44]
abbrev dktJ43_replaceAll_0 : List UInt8 := dkwJ43_replaceAll_0 ++ dktJ43_replaceAll_1
theorem dksJ43_replaceAll_0 : cJ43_replaceAll.data.toList.drop 0 = dktJ43_replaceAll_0 := by decide +kernel
theorem dksJ43_replaceAll_1 : cJ43_replaceAll.data.toList.drop 24 = dktJ43_replaceAll_1 := dk_seg dksJ43_replaceAll_0 24 rfl rfl
theorem dJ43_replaceAll_0 : decode cJ43_replaceAll 0 = .ok (.aload_n 1, 1) := dk_43 (dk_at dksJ43_replaceAll_0 0 rfl rfl)
theorem dJ43_replaceAll_1 : decode cJ43_replaceAll 1 = .ok (.invokestatic 1, 3) := dk_184 0 1 (dk_at dksJ43_replaceAll_0 1 rfl rfl)
theorem dJ43_replaceAll_4 : decode cJ43_replaceAll 4 = .ok (.pop, 1) := dk_87 (dk_at dksJ43_replaceAll_0 4 rfl rfl)
theorem dJ43_replaceAll_5 : decode cJ43_replaceAll 5 = .ok (.aload_n 0, 1) := dk_42 (dk_at dksJ43_replaceAll_0 5 rfl rfl)
theorem dJ43_replaceAll_6 : decode cJ43_replaceAll 6 = .ok (.invokeinterface 7 1, 5) := by decide +kernel
theorem dJ43_replaceAll_11 : decode cJ43_replaceAll 11 = .ok (.astore_n 2, 1) := dk_77 (dk_at dksJ43_replaceAll_0 11 rfl rfl)
theorem dJ43_replaceAll_12 : decode cJ43_replaceAll 12 = .ok (.aload_n 2, 1) := dk_44 (dk_at dksJ43_replaceAll_0 12 rfl rfl)
theorem dJ43_replaceAll_13 : decode cJ43_replaceAll 13 = .ok (.invokeinterface 13 1, 5) := by decide +kernel
theorem dJ43_replaceAll_18 : decode cJ43_replaceAll 18 = .ok (.ifCond .eq 24, 3) := dk_153 0 24 (dk_at dksJ43_replaceAll_0 18 rfl rfl)
theorem dJ43_replaceAll_21 : decode cJ43_replaceAll 21 = .ok (.aload_n 2, 1) := dk_44 (dk_at dksJ43_replaceAll_0 21 rfl rfl)
theorem dJ43_replaceAll_22 : decode cJ43_replaceAll 22 = .ok (.aload_n 1, 1) := dk_43 (dk_at dksJ43_replaceAll_0 22 rfl rfl)
theorem dJ43_replaceAll_23 : decode cJ43_replaceAll 23 = .ok (.aload_n 2, 1) := dk_44 (dk_at dksJ43_replaceAll_0 23 rfl rfl)
theorem dJ43_replaceAll_24 : decode cJ43_replaceAll 24 = .ok (.invokeinterface 19 1, 5) := by decide +kernel
theorem dJ43_replaceAll_29 : decode cJ43_replaceAll 29 = .ok (.invokeinterface 23 2, 5) := by decide +kernel
theorem dJ43_replaceAll_34 : decode cJ43_replaceAll 34 = .ok (.invokeinterface 28 2, 5) := by decide +kernel
theorem dJ43_replaceAll_39 : decode cJ43_replaceAll 39 = .ok (.goto (-27), 3) := dk_167 255 229 (dk_at dksJ43_replaceAll_1 15 rfl rfl)
theorem dJ43_replaceAll_42 : decode cJ43_replaceAll 42 = .ok (.return_, 1) := dk_177 (dk_at dksJ43_replaceAll_1 18 rfl rfl)
abbrev cJ43_sort : ByteArray := prog_59_method_15_code
def yJ43_sort : MethodName := ⟨RJ43, "sort", "(Ljava/util/Comparator;)V"⟩
def dkwJ43_sort_2 : List UInt8 := [185, 0, 19, 1, 0, 87, 45, 25, 7, 185, 0, 28, 2, 0, 132, 6, 1, 167, 255, 224, 177]
abbrev dktJ43_sort_2 : List UInt8 := dkwJ43_sort_2 ++ []
def dkwJ43_sort_1 : List UInt8 := [190, 54, 5, 3, 54, 6, 21, 6, 21, 5, 162, 0, 31, 25, 4, 21, 6, 50, 58, 7, 45]
abbrev dktJ43_sort_1 : List UInt8 := dkwJ43_sort_1 ++ dktJ43_sort_2
def dkwJ43_sort_0 : List UInt8 := [42, 185, 0, 32, 1, 0, 77, 44, 43, 184, 0, 36, 42, 185, 0, 7, 1, 0, 78, 44, 58, 4, 25, 4]
abbrev dktJ43_sort_0 : List UInt8 := dkwJ43_sort_0 ++ dktJ43_sort_1
theorem dksJ43_sort_0 : cJ43_sort.data.toList.drop 0 = dktJ43_sort_0 := by decide +kernel
theorem dksJ43_sort_1 : cJ43_sort.data.toList.drop 24 = dktJ43_sort_1 := dk_seg dksJ43_sort_0 24 rfl rfl
theorem dksJ43_sort_2 : cJ43_sort.data.toList.drop 45 = dktJ43_sort_2 := dk_seg dksJ43_sort_1 21 rfl rfl
theorem dJ43_sort_0 : decode cJ43_sort 0 = .ok (.aload_n 0, 1) := dk_42 (dk_at dksJ43_sort_0 0 rfl rfl)
theorem dJ43_sort_1 : decode cJ43_sort 1 = .ok (.invokeinterface 32 1, 5) := by decide +kernel
theorem dJ43_sort_6 : decode cJ43_sort 6 = .ok (.astore_n 2, 1) := dk_77 (dk_at dksJ43_sort_0 6 rfl rfl)
theorem dJ43_sort_7 : decode cJ43_sort 7 = .ok (.aload_n 2, 1) := dk_44 (dk_at dksJ43_sort_0 7 rfl rfl)
theorem dJ43_sort_8 : decode cJ43_sort 8 = .ok (.aload_n 1, 1) := dk_43 (dk_at dksJ43_sort_0 8 rfl rfl)
theorem dJ43_sort_9 : decode cJ43_sort 9 = .ok (.invokestatic 36, 3) := dk_184 0 36 (dk_at dksJ43_sort_0 9 rfl rfl)
theorem dJ43_sort_12 : decode cJ43_sort 12 = .ok (.aload_n 0, 1) := dk_42 (dk_at dksJ43_sort_0 12 rfl rfl)
theorem dJ43_sort_13 : decode cJ43_sort 13 = .ok (.invokeinterface 7 1, 5) := by decide +kernel
theorem dJ43_sort_18 : decode cJ43_sort 18 = .ok (.astore_n 3, 1) := dk_78 (dk_at dksJ43_sort_0 18 rfl rfl)
theorem dJ43_sort_19 : decode cJ43_sort 19 = .ok (.aload_n 2, 1) := dk_44 (dk_at dksJ43_sort_0 19 rfl rfl)
theorem dJ43_sort_20 : decode cJ43_sort 20 = .ok (.astore 4, 2) := dk_58 4 (dk_at dksJ43_sort_0 20 rfl rfl)
theorem dJ43_sort_22 : decode cJ43_sort 22 = .ok (.aload 4, 2) := dk_25 4 (dk_at dksJ43_sort_0 22 rfl rfl)
theorem dJ43_sort_24 : decode cJ43_sort 24 = .ok (.arraylength, 1) := dk_190 (dk_at dksJ43_sort_1 0 rfl rfl)
theorem dJ43_sort_25 : decode cJ43_sort 25 = .ok (.istore 5, 2) := dk_54 5 (dk_at dksJ43_sort_1 1 rfl rfl)
theorem dJ43_sort_27 : decode cJ43_sort 27 = .ok (.iconst 0, 1) := dk_3 (dk_at dksJ43_sort_1 3 rfl rfl)
theorem dJ43_sort_28 : decode cJ43_sort 28 = .ok (.istore 6, 2) := dk_54 6 (dk_at dksJ43_sort_1 4 rfl rfl)
theorem dJ43_sort_30 : decode cJ43_sort 30 = .ok (.iload 6, 2) := dk_21 6 (dk_at dksJ43_sort_1 6 rfl rfl)
theorem dJ43_sort_32 : decode cJ43_sort 32 = .ok (.iload 5, 2) := dk_21 5 (dk_at dksJ43_sort_1 8 rfl rfl)
theorem dJ43_sort_34 : decode cJ43_sort 34 = .ok (.if_icmp .ge 31, 3) := dk_162 0 31 (dk_at dksJ43_sort_1 10 rfl rfl)
theorem dJ43_sort_37 : decode cJ43_sort 37 = .ok (.aload 4, 2) := dk_25 4 (dk_at dksJ43_sort_1 13 rfl rfl)
theorem dJ43_sort_39 : decode cJ43_sort 39 = .ok (.iload 6, 2) := dk_21 6 (dk_at dksJ43_sort_1 15 rfl rfl)
theorem dJ43_sort_41 : decode cJ43_sort 41 = .ok (.aaload, 1) := dk_50 (dk_at dksJ43_sort_1 17 rfl rfl)
theorem dJ43_sort_42 : decode cJ43_sort 42 = .ok (.astore 7, 2) := dk_58 7 (dk_at dksJ43_sort_1 18 rfl rfl)
theorem dJ43_sort_44 : decode cJ43_sort 44 = .ok (.aload_n 3, 1) := dk_45 (dk_at dksJ43_sort_1 20 rfl rfl)
theorem dJ43_sort_45 : decode cJ43_sort 45 = .ok (.invokeinterface 19 1, 5) := by decide +kernel
theorem dJ43_sort_50 : decode cJ43_sort 50 = .ok (.pop, 1) := dk_87 (dk_at dksJ43_sort_2 5 rfl rfl)
theorem dJ43_sort_51 : decode cJ43_sort 51 = .ok (.aload_n 3, 1) := dk_45 (dk_at dksJ43_sort_2 6 rfl rfl)
theorem dJ43_sort_52 : decode cJ43_sort 52 = .ok (.aload 7, 2) := dk_25 7 (dk_at dksJ43_sort_2 7 rfl rfl)
theorem dJ43_sort_54 : decode cJ43_sort 54 = .ok (.invokeinterface 28 2, 5) := by decide +kernel
theorem dJ43_sort_59 : decode cJ43_sort 59 = .ok (.iinc 6 1, 3) := dk_132 6 1 (dk_at dksJ43_sort_2 14 rfl rfl)
theorem dJ43_sort_62 : decode cJ43_sort 62 = .ok (.goto (-32), 3) := dk_167 255 224 (dk_at dksJ43_sort_2 17 rfl rfl)
theorem dJ43_sort_65 : decode cJ43_sort 65 = .ok (.return_, 1) := dk_177 (dk_at dksJ43_sort_2 20 rfl rfl)
theorem q347 : (Jvm.Cond.interfaceMethod "java/util/List" "java/util/List" "size" "()I") ∈ lw_tbl := lw_at lw_m2 52 rfl
theorem q348 : (Jvm.Cond.declares ({ cls := "java/util/List", name := "size", desc := "()I" } : Jvm.MethodName)) ∈ lw_tbl := lw_at lw_m2 53 rfl
theorem q389 : (Jvm.Cond.interfaceMethod "java/util/List" "java/util/List" "equals" "(Ljava/lang/Object;)Z") ∈ lw_tbl := lw_at lw_m2 94 rfl
theorem q390 : (Jvm.Cond.declares ({ cls := "java/util/List", name := "equals", desc := "(Ljava/lang/Object;)Z" } : Jvm.MethodName)) ∈ lw_tbl := lw_at lw_m2 95 rfl
theorem q910 : (Jvm.Cond.interfaceMethod "java/util/List" "java/util/List" "listIterator" "()Ljava/util/ListIterator;") ∈ lw_tbl := lw_at lw_m4 135 rfl
theorem q911 : (Jvm.Cond.declares ({ cls := "java/util/List", name := "listIterator", desc := "()Ljava/util/ListIterator;" } : Jvm.MethodName)) ∈ lw_tbl := lw_at lw_m4 136 rfl
theorem q1164 : (Jvm.Cond.interfaceMethod "java/util/List" "java/util/List" "iterator" "()Ljava/util/Iterator;") ∈ lw_tbl := lw_at lw_m5 149 rfl
theorem q1165 : (Jvm.Cond.declares ({ cls := "java/util/List", name := "iterator", desc := "()Ljava/util/Iterator;" } : Jvm.MethodName)) ∈ lw_tbl := lw_at lw_m5 150 rfl
theorem q1270 : (Jvm.Cond.interfaceMethod "java/util/List" "java/util/List" "hashCode" "()I") ∈ lw_tbl := lw_at lw_m6 15 rfl
theorem q1271 : (Jvm.Cond.declares ({ cls := "java/util/List", name := "hashCode", desc := "()I" } : Jvm.MethodName)) ∈ lw_tbl := lw_at lw_m6 16 rfl
theorem q1415 : (Jvm.Cond.interfaceMethod "java/util/List" "java/util/List" "indexOf" "(Ljava/lang/Object;)I") ∈ lw_tbl := lw_at lw_m6 160 rfl
theorem q1416 : (Jvm.Cond.declares ({ cls := "java/util/List", name := "indexOf", desc := "(Ljava/lang/Object;)I" } : Jvm.MethodName)) ∈ lw_tbl := lw_at lw_m6 161 rfl
theorem q1474 : (Jvm.Cond.interfaceMethod "java/util/List" "java/util/List" "lastIndexOf" "(Ljava/lang/Object;)I") ∈ lw_tbl := lw_at lw_m6 219 rfl
theorem q1475 : (Jvm.Cond.declares ({ cls := "java/util/List", name := "lastIndexOf", desc := "(Ljava/lang/Object;)I" } : Jvm.MethodName)) ∈ lw_tbl := lw_at lw_m6 220 rfl
theorem q1567 : (Jvm.Cond.interfaceMethod "java/util/List" "java/util/List" "get" "(I)Ljava/lang/Object;") ∈ lw_tbl := lw_at lw_m7 72 rfl
theorem q1568 : (Jvm.Cond.declares ({ cls := "java/util/List", name := "get", desc := "(I)Ljava/lang/Object;" } : Jvm.MethodName)) ∈ lw_tbl := lw_at lw_m7 73 rfl
theorem q1625 : (Jvm.Cond.interfaceMethod "java/util/List" "java/util/List" "listIterator" "(I)Ljava/util/ListIterator;") ∈ lw_tbl := lw_at lw_m7 130 rfl
theorem q1626 : (Jvm.Cond.declares ({ cls := "java/util/List", name := "listIterator", desc := "(I)Ljava/util/ListIterator;" } : Jvm.MethodName)) ∈ lw_tbl := lw_at lw_m7 131 rfl
theorem q1651 : (Jvm.Cond.interfaceMethod "java/util/List" "java/util/List" "add" "(Ljava/lang/Object;)Z") ∈ lw_tbl := lw_at lw_m7 156 rfl
theorem q1652 : (Jvm.Cond.declares ({ cls := "java/util/List", name := "add", desc := "(Ljava/lang/Object;)Z" } : Jvm.MethodName)) ∈ lw_tbl := lw_at lw_m7 157 rfl
theorem q1716 : (Jvm.Cond.interfaceMethod "java/util/List" "java/util/List" "clear" "()V") ∈ lw_tbl := lw_at lw_m7 221 rfl
theorem q1717 : (Jvm.Cond.declares ({ cls := "java/util/List", name := "clear", desc := "()V" } : Jvm.MethodName)) ∈ lw_tbl := lw_at lw_m7 222 rfl
theorem q1850 : (Jvm.Cond.interfaceMethod "java/util/List" "java/util/List" "isEmpty" "()Z") ∈ lw_tbl := lw_at lw_m8 115 rfl
theorem q1851 : (Jvm.Cond.declares ({ cls := "java/util/List", name := "isEmpty", desc := "()Z" } : Jvm.MethodName)) ∈ lw_tbl := lw_at lw_m8 116 rfl
theorem q2055 : (Jvm.Cond.interfaceMethod "java/util/List" "java/util/List" "subList" "(II)Ljava/util/List;") ∈ lw_tbl := lw_at lw_m9 80 rfl
theorem q2056 : (Jvm.Cond.declares ({ cls := "java/util/List", name := "subList", desc := "(II)Ljava/util/List;" } : Jvm.MethodName)) ∈ lw_tbl := lw_at lw_m9 81 rfl
theorem q2185 : (Jvm.Cond.interfaceMethod "java/util/List" "java/util/List" "set" "(ILjava/lang/Object;)Ljava/lang/Object;") ∈ lw_tbl := lw_at lw_m9 210 rfl
theorem q2186 : (Jvm.Cond.declares ({ cls := "java/util/List", name := "set", desc := "(ILjava/lang/Object;)Ljava/lang/Object;" } : Jvm.MethodName)) ∈ lw_tbl := lw_at lw_m9 211 rfl
theorem q2274 : (Jvm.Cond.interfaceMethod "java/util/List" "java/util/List" "contains" "(Ljava/lang/Object;)Z") ∈ lw_tbl := lw_at lw_m10 59 rfl
theorem q2275 : (Jvm.Cond.declares ({ cls := "java/util/List", name := "contains", desc := "(Ljava/lang/Object;)Z" } : Jvm.MethodName)) ∈ lw_tbl := lw_at lw_m10 60 rfl
theorem q2352 : (Jvm.Cond.interfaceMethod "java/util/List" "java/util/List" "containsAll" "(Ljava/util/Collection;)Z") ∈ lw_tbl := lw_at lw_m10 137 rfl
theorem q2353 : (Jvm.Cond.declares ({ cls := "java/util/List", name := "containsAll", desc := "(Ljava/util/Collection;)Z" } : Jvm.MethodName)) ∈ lw_tbl := lw_at lw_m10 138 rfl
theorem q2540 : (Jvm.Cond.interfaceMethod "java/util/List" "java/util/List" "replaceAll" "(Ljava/util/function/UnaryOperator;)V") ∈ lw_tbl := lw_at lw_m11 85 rfl
theorem q2541 : (Jvm.Cond.declares ({ cls := "java/util/List", name := "replaceAll", desc := "(Ljava/util/function/UnaryOperator;)V" } : Jvm.MethodName)) ∈ lw_tbl := lw_at lw_m11 86 rfl
theorem q2543 : (Jvm.Cond.instanceMethod ({ cls := "java/util/List", name := "replaceAll", desc := "(Ljava/util/function/UnaryOperator;)V" } : Jvm.MethodName)) ∈ lw_all := lw_g (lw_at lw_m11 88 rfl) rfl
theorem q2544 : (Jvm.Cond.publicMethod ({ cls := "java/util/List", name := "replaceAll", desc := "(Ljava/util/function/UnaryOperator;)V" } : Jvm.MethodName)) ∈ lw_tbl := lw_at lw_m11 89 rfl
theorem q2545 : (Jvm.Cond.code ({ cls := "java/util/List", name := "replaceAll", desc := "(Ljava/util/function/UnaryOperator;)V" } : Jvm.MethodName) prog_59_method_14_code (3 : Nat) (Option.none : Option Jvm.ClassFile.FieldType)) ∈ lw_all := lw_g (lw_at lw_m11 90 rfl) rfl
theorem q2546 : (Jvm.Cond.methodLink "java/util/List" (1 : Nat) ({ cls := "java/util/Objects", name := "requireNonNull", desc := "(Ljava/lang/Object;)Ljava/lang/Object;" } : Jvm.MethodName)) ∈ lw_all := lw_g (lw_at lw_m11 91 rfl) rfl
theorem q2547 : (Jvm.Cond.interfaceEntry "java/util/List" (7 : Nat)) ∈ lw_tbl := lw_at lw_m11 92 rfl
theorem q2548 : (Jvm.Cond.methodLink "java/util/List" (7 : Nat) ({ cls := "java/util/List", name := "listIterator", desc := "()Ljava/util/ListIterator;" } : Jvm.MethodName)) ∈ lw_all := lw_g (lw_at lw_m11 93 rfl) rfl
theorem q2549 : (Jvm.Cond.interfaceEntry "java/util/List" (13 : Nat)) ∈ lw_tbl := lw_at lw_m11 94 rfl
theorem q2550 : (Jvm.Cond.methodLink "java/util/List" (13 : Nat) ({ cls := "java/util/ListIterator", name := "hasNext", desc := "()Z" } : Jvm.MethodName)) ∈ lw_all := lw_g (lw_at lw_m11 95 rfl) rfl
theorem q2551 : (Jvm.Cond.interfaceEntry "java/util/List" (19 : Nat)) ∈ lw_tbl := lw_at lw_m11 96 rfl
theorem q2552 : (Jvm.Cond.methodLink "java/util/List" (19 : Nat) ({ cls := "java/util/ListIterator", name := "next", desc := "()Ljava/lang/Object;" } : Jvm.MethodName)) ∈ lw_all := lw_g (lw_at lw_m11 97 rfl) rfl
theorem q2553 : (Jvm.Cond.interfaceEntry "java/util/List" (23 : Nat)) ∈ lw_tbl := lw_at lw_m11 98 rfl
theorem q2564 : (Jvm.Cond.interfaceEntry "java/util/List" (28 : Nat)) ∈ lw_tbl := lw_at lw_m11 109 rfl
theorem q2565 : (Jvm.Cond.methodLink "java/util/List" (28 : Nat) ({ cls := "java/util/ListIterator", name := "set", desc := "(Ljava/lang/Object;)V" } : Jvm.MethodName)) ∈ lw_all := lw_g (lw_at lw_m11 110 rfl) rfl
theorem q2632 : (Jvm.Cond.interfaceMethod "java/util/List" "java/util/List" "sort" "(Ljava/util/Comparator;)V") ∈ lw_tbl := lw_at lw_m11 177 rfl
theorem q2633 : (Jvm.Cond.declares ({ cls := "java/util/List", name := "sort", desc := "(Ljava/util/Comparator;)V" } : Jvm.MethodName)) ∈ lw_tbl := lw_at lw_m11 178 rfl
theorem q2635 : (Jvm.Cond.instanceMethod ({ cls := "java/util/List", name := "sort", desc := "(Ljava/util/Comparator;)V" } : Jvm.MethodName)) ∈ lw_all := lw_g (lw_at lw_m11 180 rfl) rfl
theorem q2636 : (Jvm.Cond.publicMethod ({ cls := "java/util/List", name := "sort", desc := "(Ljava/util/Comparator;)V" } : Jvm.MethodName)) ∈ lw_tbl := lw_at lw_m11 181 rfl
theorem q2637 : (Jvm.Cond.code ({ cls := "java/util/List", name := "sort", desc := "(Ljava/util/Comparator;)V" } : Jvm.MethodName) prog_59_method_15_code (8 : Nat) (Option.none : Option Jvm.ClassFile.FieldType)) ∈ lw_all := lw_g (lw_at lw_m11 182 rfl) rfl
theorem q2638 : (Jvm.Cond.interfaceEntry "java/util/List" (32 : Nat)) ∈ lw_tbl := lw_at lw_m11 183 rfl
theorem q2639 : (Jvm.Cond.methodLink "java/util/List" (32 : Nat) ({ cls := "java/util/List", name := "toArray", desc := "()[Ljava/lang/Object;" } : Jvm.MethodName)) ∈ lw_all := lw_g (lw_at lw_m11 184 rfl) rfl
theorem q2640 : (Jvm.Cond.interfaceMethod "java/util/List" "java/util/List" "toArray" "()[Ljava/lang/Object;") ∈ lw_tbl := lw_at lw_m11 185 rfl
theorem q2641 : (Jvm.Cond.declares ({ cls := "java/util/List", name := "toArray", desc := "()[Ljava/lang/Object;" } : Jvm.MethodName)) ∈ lw_tbl := lw_at lw_m11 186 rfl
theorem q2677 : (Jvm.Cond.methodLink "java/util/List" (36 : Nat) ({ cls := "java/util/Arrays", name := "sort", desc := "([Ljava/lang/Object;Ljava/util/Comparator;)V" } : Jvm.MethodName)) ∈ lw_all := lw_g (lw_at lw_m11 222 rfl) rfl
theorem q3103 : (Jvm.Cond.interfaceMethod "java/util/List" "java/util/List" "add" "(ILjava/lang/Object;)V") ∈ lw_tbl := lw_at lw_m13 168 rfl
theorem q3104 : (Jvm.Cond.declares ({ cls := "java/util/List", name := "add", desc := "(ILjava/lang/Object;)V" } : Jvm.MethodName)) ∈ lw_tbl := lw_at lw_m13 169 rfl
theorem q3128 : (Jvm.Cond.interfaceMethod "java/util/List" "java/util/List" "addAll" "(Ljava/util/Collection;)Z") ∈ lw_tbl := lw_at lw_m13 193 rfl
theorem q3129 : (Jvm.Cond.declares ({ cls := "java/util/List", name := "addAll", desc := "(Ljava/util/Collection;)Z" } : Jvm.MethodName)) ∈ lw_tbl := lw_at lw_m13 194 rfl
theorem q3206 : (Jvm.Cond.interfaceMethod "java/util/List" "java/util/List" "remove" "(I)Ljava/lang/Object;") ∈ lw_tbl := lw_at lw_m14 31 rfl
theorem q3207 : (Jvm.Cond.declares ({ cls := "java/util/List", name := "remove", desc := "(I)Ljava/lang/Object;" } : Jvm.MethodName)) ∈ lw_tbl := lw_at lw_m14 32 rfl
theorem q3231 : (Jvm.Cond.interfaceMethod "java/util/List" "java/util/List" "remove" "(Ljava/lang/Object;)Z") ∈ lw_tbl := lw_at lw_m14 56 rfl
theorem q3232 : (Jvm.Cond.declares ({ cls := "java/util/List", name := "remove", desc := "(Ljava/lang/Object;)Z" } : Jvm.MethodName)) ∈ lw_tbl := lw_at lw_m14 57 rfl
theorem q3280 : (Jvm.Cond.interfaceMethod "java/util/List" "java/util/List" "removeAll" "(Ljava/util/Collection;)Z") ∈ lw_tbl := lw_at lw_m14 105 rfl
theorem q3281 : (Jvm.Cond.declares ({ cls := "java/util/List", name := "removeAll", desc := "(Ljava/util/Collection;)Z" } : Jvm.MethodName)) ∈ lw_tbl := lw_at lw_m14 106 rfl
theorem q3324 : (Jvm.Cond.interfaceMethod "java/util/List" "java/util/List" "retainAll" "(Ljava/util/Collection;)Z") ∈ lw_tbl := lw_at lw_m14 149 rfl
theorem q3325 : (Jvm.Cond.declares ({ cls := "java/util/List", name := "retainAll", desc := "(Ljava/util/Collection;)Z" } : Jvm.MethodName)) ∈ lw_tbl := lw_at lw_m14 150 rfl

/-! java/util/Iterator -/
set_option maxRecDepth 100000
def RJ44 : String := "java/util/Iterator"
abbrev cJ44_remove : ByteArray := prog_58_method_3_code
def yJ44_remove : MethodName := ⟨RJ44, "remove", "()V"⟩
def dkwJ44_remove_0 : List UInt8 := [187, 0, 1, 89, 18, 3, 183, 0, 5, 191]
abbrev dktJ44_remove_0 : List UInt8 := dkwJ44_remove_0 ++ []
theorem dksJ44_remove_0 : cJ44_remove.data.toList.drop 0 = dktJ44_remove_0 := by decide +kernel
theorem dJ44_remove_0 : decode cJ44_remove 0 = .ok (.new 1, 3) := dk_187 0 1 (dk_at dksJ44_remove_0 0 rfl rfl)
theorem dJ44_remove_3 : decode cJ44_remove 3 = .ok (.dup, 1) := dk_89 (dk_at dksJ44_remove_0 3 rfl rfl)
theorem dJ44_remove_4 : decode cJ44_remove 4 = .ok (.ldc 3, 2) := dk_18 3 (dk_at dksJ44_remove_0 4 rfl rfl)
theorem dJ44_remove_6 : decode cJ44_remove 6 = .ok (.invokespecial 5, 3) := dk_183 0 5 (dk_at dksJ44_remove_0 6 rfl rfl)
theorem dJ44_remove_9 : decode cJ44_remove 9 = .ok (.athrow, 1) := dk_191 (dk_at dksJ44_remove_0 9 rfl rfl)
theorem q1219 : (Jvm.Cond.interfaceMethod "java/util/Iterator" "java/util/Iterator" "hasNext" "()Z") ∈ lw_tbl := lw_at lw_m5 204 rfl
theorem q1220 : (Jvm.Cond.declares ({ cls := "java/util/Iterator", name := "hasNext", desc := "()Z" } : Jvm.MethodName)) ∈ lw_tbl := lw_at lw_m5 205 rfl
theorem q1243 : (Jvm.Cond.interfaceMethod "java/util/Iterator" "java/util/Iterator" "next" "()Ljava/lang/Object;") ∈ lw_tbl := lw_at lw_m5 228 rfl
theorem q1244 : (Jvm.Cond.declares ({ cls := "java/util/Iterator", name := "next", desc := "()Ljava/lang/Object;" } : Jvm.MethodName)) ∈ lw_tbl := lw_at lw_m5 229 rfl
theorem q3240 : (Jvm.Cond.interfaceMethod "java/util/Iterator" "java/util/Iterator" "remove" "()V") ∈ lw_tbl := lw_at lw_m14 65 rfl
theorem q3241 : (Jvm.Cond.declares ({ cls := "java/util/Iterator", name := "remove", desc := "()V" } : Jvm.MethodName)) ∈ lw_tbl := lw_at lw_m14 66 rfl
theorem q3251 : (Jvm.Cond.instanceMethod ({ cls := "java/util/Iterator", name := "remove", desc := "()V" } : Jvm.MethodName)) ∈ lw_all := lw_g (lw_at lw_m14 76 rfl) rfl
theorem q3252 : (Jvm.Cond.publicMethod ({ cls := "java/util/Iterator", name := "remove", desc := "()V" } : Jvm.MethodName)) ∈ lw_tbl := lw_at lw_m14 77 rfl
theorem q3253 : (Jvm.Cond.code ({ cls := "java/util/Iterator", name := "remove", desc := "()V" } : Jvm.MethodName) prog_58_method_3_code (1 : Nat) (Option.none : Option Jvm.ClassFile.FieldType)) ∈ lw_all := lw_g (lw_at lw_m14 78 rfl) rfl
theorem q3254 : (Jvm.Cond.classLink "java/util/Iterator" (1 : Nat) "java/lang/UnsupportedOperationException") ∈ lw_all := lw_g (lw_at lw_m14 79 rfl) rfl
theorem q3255 : (Jvm.Cond.stringRef "java/util/Iterator" (3 : Nat) "remove") ∈ lw_tbl := lw_at lw_m14 80 rfl
theorem q3256 : (Jvm.Cond.methodLink "java/util/Iterator" (5 : Nat) ({ cls := "java/lang/UnsupportedOperationException", name := "<init>", desc := "(Ljava/lang/String;)V" } : Jvm.MethodName)) ∈ lw_all := lw_g (lw_at lw_m14 81 rfl) rfl

/-! java/lang/Iterable -/
set_option maxRecDepth 100000
def RJ45 : String := "java/lang/Iterable"
abbrev cJ45_forEach : ByteArray := prog_22_method_2_code
def yJ45_forEach : MethodName := ⟨RJ45, "forEach", "(Ljava/util/function/Consumer;)V"⟩
def dkwJ45_forEach_1 : List UInt8 := [185, 0, 19, 1, 0, 78, 43, 45, 185, 0, 23, 2, 0, 167, 255, 233, 177]
abbrev dktJ45_forEach_1 : List UInt8 := dkwJ45_forEach_1 ++ []
def dkwJ45_forEach_0 : List UInt8 := [43, 184, 0, 1, 87, 42, 185, 0, 7, 1, 0, 77, 44, 185, 0, 13, 1, 0, 153, 0, 20, 44]
abbrev dktJ45_forEach_0 : List UInt8 := dkwJ45_forEach_0 ++ dktJ45_forEach_1
theorem dksJ45_forEach_0 : cJ45_forEach.data.toList.drop 0 = dktJ45_forEach_0 := by decide +kernel
theorem dksJ45_forEach_1 : cJ45_forEach.data.toList.drop 22 = dktJ45_forEach_1 := dk_seg dksJ45_forEach_0 22 rfl rfl
theorem dJ45_forEach_0 : decode cJ45_forEach 0 = .ok (.aload_n 1, 1) := dk_43 (dk_at dksJ45_forEach_0 0 rfl rfl)
theorem dJ45_forEach_1 : decode cJ45_forEach 1 = .ok (.invokestatic 1, 3) := dk_184 0 1 (dk_at dksJ45_forEach_0 1 rfl rfl)
theorem dJ45_forEach_4 : decode cJ45_forEach 4 = .ok (.pop, 1) := dk_87 (dk_at dksJ45_forEach_0 4 rfl rfl)
theorem dJ45_forEach_5 : decode cJ45_forEach 5 = .ok (.aload_n 0, 1) := dk_42 (dk_at dksJ45_forEach_0 5 rfl rfl)
theorem dJ45_forEach_6 : decode cJ45_forEach 6 = .ok (.invokeinterface 7 1, 5) := by decide +kernel
theorem dJ45_forEach_11 : decode cJ45_forEach 11 = .ok (.astore_n 2, 1) := dk_77 (dk_at dksJ45_forEach_0 11 rfl rfl)
theorem dJ45_forEach_12 : decode cJ45_forEach 12 = .ok (.aload_n 2, 1) := dk_44 (dk_at dksJ45_forEach_0 12 rfl rfl)
theorem dJ45_forEach_13 : decode cJ45_forEach 13 = .ok (.invokeinterface 13 1, 5) := by decide +kernel
theorem dJ45_forEach_18 : decode cJ45_forEach 18 = .ok (.ifCond .eq 20, 3) := dk_153 0 20 (dk_at dksJ45_forEach_0 18 rfl rfl)
theorem dJ45_forEach_21 : decode cJ45_forEach 21 = .ok (.aload_n 2, 1) := dk_44 (dk_at dksJ45_forEach_0 21 rfl rfl)
theorem dJ45_forEach_22 : decode cJ45_forEach 22 = .ok (.invokeinterface 19 1, 5) := by decide +kernel
theorem dJ45_forEach_27 : decode cJ45_forEach 27 = .ok (.astore_n 3, 1) := dk_78 (dk_at dksJ45_forEach_1 5 rfl rfl)
theorem dJ45_forEach_28 : decode cJ45_forEach 28 = .ok (.aload_n 1, 1) := dk_43 (dk_at dksJ45_forEach_1 6 rfl rfl)
theorem dJ45_forEach_29 : decode cJ45_forEach 29 = .ok (.aload_n 3, 1) := dk_45 (dk_at dksJ45_forEach_1 7 rfl rfl)
theorem dJ45_forEach_30 : decode cJ45_forEach 30 = .ok (.invokeinterface 23 2, 5) := by decide +kernel
theorem dJ45_forEach_35 : decode cJ45_forEach 35 = .ok (.goto (-23), 3) := dk_167 255 233 (dk_at dksJ45_forEach_1 13 rfl rfl)
theorem dJ45_forEach_38 : decode cJ45_forEach 38 = .ok (.return_, 1) := dk_177 (dk_at dksJ45_forEach_1 16 rfl rfl)
theorem q1901 : (Jvm.Cond.interfaceMethod "java/lang/Iterable" "java/lang/Iterable" "forEach" "(Ljava/util/function/Consumer;)V") ∈ lw_tbl := lw_at lw_m8 166 rfl
theorem q1902 : (Jvm.Cond.declares ({ cls := "java/lang/Iterable", name := "forEach", desc := "(Ljava/util/function/Consumer;)V" } : Jvm.MethodName)) ∈ lw_tbl := lw_at lw_m8 167 rfl
theorem q1905 : (Jvm.Cond.instanceMethod ({ cls := "java/lang/Iterable", name := "forEach", desc := "(Ljava/util/function/Consumer;)V" } : Jvm.MethodName)) ∈ lw_all := lw_g (lw_at lw_m8 170 rfl) rfl
theorem q1906 : (Jvm.Cond.publicMethod ({ cls := "java/lang/Iterable", name := "forEach", desc := "(Ljava/util/function/Consumer;)V" } : Jvm.MethodName)) ∈ lw_tbl := lw_at lw_m8 171 rfl
theorem q1907 : (Jvm.Cond.code ({ cls := "java/lang/Iterable", name := "forEach", desc := "(Ljava/util/function/Consumer;)V" } : Jvm.MethodName) prog_22_method_2_code (4 : Nat) (Option.none : Option Jvm.ClassFile.FieldType)) ∈ lw_all := lw_g (lw_at lw_m8 172 rfl) rfl
theorem q1908 : (Jvm.Cond.methodLink "java/lang/Iterable" (1 : Nat) ({ cls := "java/util/Objects", name := "requireNonNull", desc := "(Ljava/lang/Object;)Ljava/lang/Object;" } : Jvm.MethodName)) ∈ lw_all := lw_g (lw_at lw_m8 173 rfl) rfl
theorem q1909 : (Jvm.Cond.interfaceEntry "java/lang/Iterable" (7 : Nat)) ∈ lw_tbl := lw_at lw_m8 174 rfl
theorem q1910 : (Jvm.Cond.methodLink "java/lang/Iterable" (7 : Nat) ({ cls := "java/lang/Iterable", name := "iterator", desc := "()Ljava/util/Iterator;" } : Jvm.MethodName)) ∈ lw_all := lw_g (lw_at lw_m8 175 rfl) rfl
theorem q1911 : (Jvm.Cond.interfaceMethod "java/lang/Iterable" "java/lang/Iterable" "iterator" "()Ljava/util/Iterator;") ∈ lw_tbl := lw_at lw_m8 176 rfl
theorem q1912 : (Jvm.Cond.declares ({ cls := "java/lang/Iterable", name := "iterator", desc := "()Ljava/util/Iterator;" } : Jvm.MethodName)) ∈ lw_tbl := lw_at lw_m8 177 rfl
theorem q1922 : (Jvm.Cond.interfaceEntry "java/lang/Iterable" (13 : Nat)) ∈ lw_tbl := lw_at lw_m8 187 rfl
theorem q1923 : (Jvm.Cond.methodLink "java/lang/Iterable" (13 : Nat) ({ cls := "java/util/Iterator", name := "hasNext", desc := "()Z" } : Jvm.MethodName)) ∈ lw_all := lw_g (lw_at lw_m8 188 rfl) rfl
theorem q1924 : (Jvm.Cond.interfaceEntry "java/lang/Iterable" (19 : Nat)) ∈ lw_tbl := lw_at lw_m8 189 rfl
theorem q1925 : (Jvm.Cond.methodLink "java/lang/Iterable" (19 : Nat) ({ cls := "java/util/Iterator", name := "next", desc := "()Ljava/lang/Object;" } : Jvm.MethodName)) ∈ lw_all := lw_g (lw_at lw_m8 190 rfl) rfl
theorem q1926 : (Jvm.Cond.interfaceEntry "java/lang/Iterable" (23 : Nat)) ∈ lw_tbl := lw_at lw_m8 191 rfl
theorem q1927 : (Jvm.Cond.methodLink "java/lang/Iterable" (23 : Nat) ({ cls := "java/util/function/Consumer", name := "accept", desc := "(Ljava/lang/Object;)V" } : Jvm.MethodName)) ∈ lw_all := lw_g (lw_at lw_m8 192 rfl) rfl

/-! java/util/Collection -/
set_option maxRecDepth 100000
def RJ46 : String := "java/util/Collection"
abbrev cJ46_removeIf : ByteArray := prog_53_method_13_code
def yJ46_removeIf : MethodName := ⟨RJ46, "removeIf", "(Ljava/util/function/Predicate;)Z"⟩
def dkwJ46_removeIf_2 : List UInt8 := [167, 255, 224, 28, 172]
abbrev dktJ46_removeIf_2 : List UInt8 := dkwJ46_removeIf_2 ++ []
def dkwJ46_removeIf_1 : List UInt8 := [45, 185, 0, 31, 1, 0, 185, 0, 35, 2, 0, 153, 255, 235, 45, 185, 0, 41, 1, 0, 4, 61]
abbrev dktJ46_removeIf_1 : List UInt8 := dkwJ46_removeIf_1 ++ dktJ46_removeIf_2
def dkwJ46_removeIf_0 : List UInt8 := [43, 184, 0, 15, 87, 3, 61, 42, 185, 0, 21, 1, 0, 78, 45, 185, 0, 25, 1, 0, 153, 0, 29, 43]
abbrev dktJ46_removeIf_0 : List UInt8 := dkwJ46_removeIf_0 ++ dktJ46_removeIf_1
theorem dksJ46_removeIf_0 : cJ46_removeIf.data.toList.drop 0 = dktJ46_removeIf_0 := by decide +kernel
theorem dksJ46_removeIf_1 : cJ46_removeIf.data.toList.drop 24 = dktJ46_removeIf_1 := dk_seg dksJ46_removeIf_0 24 rfl rfl
theorem dksJ46_removeIf_2 : cJ46_removeIf.data.toList.drop 46 = dktJ46_removeIf_2 := dk_seg dksJ46_removeIf_1 22 rfl rfl
theorem dJ46_removeIf_0 : decode cJ46_removeIf 0 = .ok (.aload_n 1, 1) := dk_43 (dk_at dksJ46_removeIf_0 0 rfl rfl)
theorem dJ46_removeIf_1 : decode cJ46_removeIf 1 = .ok (.invokestatic 15, 3) := dk_184 0 15 (dk_at dksJ46_removeIf_0 1 rfl rfl)
theorem dJ46_removeIf_4 : decode cJ46_removeIf 4 = .ok (.pop, 1) := dk_87 (dk_at dksJ46_removeIf_0 4 rfl rfl)
theorem dJ46_removeIf_5 : decode cJ46_removeIf 5 = .ok (.iconst 0, 1) := dk_3 (dk_at dksJ46_removeIf_0 5 rfl rfl)
theorem dJ46_removeIf_6 : decode cJ46_removeIf 6 = .ok (.istore_n 2, 1) := dk_61 (dk_at dksJ46_removeIf_0 6 rfl rfl)
theorem dJ46_removeIf_7 : decode cJ46_removeIf 7 = .ok (.aload_n 0, 1) := dk_42 (dk_at dksJ46_removeIf_0 7 rfl rfl)
theorem dJ46_removeIf_8 : decode cJ46_removeIf 8 = .ok (.invokeinterface 21 1, 5) := by decide +kernel
theorem dJ46_removeIf_13 : decode cJ46_removeIf 13 = .ok (.astore_n 3, 1) := dk_78 (dk_at dksJ46_removeIf_0 13 rfl rfl)
theorem dJ46_removeIf_14 : decode cJ46_removeIf 14 = .ok (.aload_n 3, 1) := dk_45 (dk_at dksJ46_removeIf_0 14 rfl rfl)
theorem dJ46_removeIf_15 : decode cJ46_removeIf 15 = .ok (.invokeinterface 25 1, 5) := by decide +kernel
theorem dJ46_removeIf_20 : decode cJ46_removeIf 20 = .ok (.ifCond .eq 29, 3) := dk_153 0 29 (dk_at dksJ46_removeIf_0 20 rfl rfl)
theorem dJ46_removeIf_23 : decode cJ46_removeIf 23 = .ok (.aload_n 1, 1) := dk_43 (dk_at dksJ46_removeIf_0 23 rfl rfl)
theorem dJ46_removeIf_24 : decode cJ46_removeIf 24 = .ok (.aload_n 3, 1) := dk_45 (dk_at dksJ46_removeIf_1 0 rfl rfl)
theorem dJ46_removeIf_25 : decode cJ46_removeIf 25 = .ok (.invokeinterface 31 1, 5) := by decide +kernel
theorem dJ46_removeIf_30 : decode cJ46_removeIf 30 = .ok (.invokeinterface 35 2, 5) := by decide +kernel
theorem dJ46_removeIf_35 : decode cJ46_removeIf 35 = .ok (.ifCond .eq (-21), 3) := dk_153 255 235 (dk_at dksJ46_removeIf_1 11 rfl rfl)
theorem dJ46_removeIf_38 : decode cJ46_removeIf 38 = .ok (.aload_n 3, 1) := dk_45 (dk_at dksJ46_removeIf_1 14 rfl rfl)
theorem dJ46_removeIf_39 : decode cJ46_removeIf 39 = .ok (.invokeinterface 41 1, 5) := by decide +kernel
theorem dJ46_removeIf_44 : decode cJ46_removeIf 44 = .ok (.iconst 1, 1) := dk_4 (dk_at dksJ46_removeIf_1 20 rfl rfl)
theorem dJ46_removeIf_45 : decode cJ46_removeIf 45 = .ok (.istore_n 2, 1) := dk_61 (dk_at dksJ46_removeIf_1 21 rfl rfl)
theorem dJ46_removeIf_46 : decode cJ46_removeIf 46 = .ok (.goto (-32), 3) := dk_167 255 224 (dk_at dksJ46_removeIf_2 0 rfl rfl)
theorem dJ46_removeIf_49 : decode cJ46_removeIf 49 = .ok (.iload_n 2, 1) := dk_28 (dk_at dksJ46_removeIf_2 3 rfl rfl)
theorem dJ46_removeIf_50 : decode cJ46_removeIf 50 = .ok (.ireturn, 1) := dk_172 (dk_at dksJ46_removeIf_2 4 rfl rfl)
theorem q2326 : (Jvm.Cond.interfaceMethod "java/util/Collection" "java/util/Collection" "iterator" "()Ljava/util/Iterator;") ∈ lw_tbl := lw_at lw_m10 111 rfl
theorem q2327 : (Jvm.Cond.declares ({ cls := "java/util/Collection", name := "iterator", desc := "()Ljava/util/Iterator;" } : Jvm.MethodName)) ∈ lw_tbl := lw_at lw_m10 112 rfl
theorem q2383 : (Jvm.Cond.interfaceMethod "java/util/Collection" "java/util/Collection" "size" "()I") ∈ lw_tbl := lw_at lw_m10 168 rfl
theorem q2384 : (Jvm.Cond.declares ({ cls := "java/util/Collection", name := "size", desc := "()I" } : Jvm.MethodName)) ∈ lw_tbl := lw_at lw_m10 169 rfl
theorem q2392 : (Jvm.Cond.interfaceMethod "java/util/Collection" "java/util/Collection" "contains" "(Ljava/lang/Object;)Z") ∈ lw_tbl := lw_at lw_m10 177 rfl
theorem q2393 : (Jvm.Cond.declares ({ cls := "java/util/Collection", name := "contains", desc := "(Ljava/lang/Object;)Z" } : Jvm.MethodName)) ∈ lw_tbl := lw_at lw_m10 178 rfl
theorem q3153 : (Jvm.Cond.interfaceMethod "java/util/Collection" "java/util/Collection" "toArray" "()[Ljava/lang/Object;") ∈ lw_tbl := lw_at lw_m13 218 rfl
theorem q3154 : (Jvm.Cond.declares ({ cls := "java/util/Collection", name := "toArray", desc := "()[Ljava/lang/Object;" } : Jvm.MethodName)) ∈ lw_tbl := lw_at lw_m13 219 rfl
theorem q3367 : (Jvm.Cond.interfaceMethod "java/util/Collection" "java/util/Collection" "removeIf" "(Ljava/util/function/Predicate;)Z") ∈ lw_tbl := lw_at lw_m14 192 rfl
theorem q3368 : (Jvm.Cond.declares ({ cls := "java/util/Collection", name := "removeIf", desc := "(Ljava/util/function/Predicate;)Z" } : Jvm.MethodName)) ∈ lw_tbl := lw_at lw_m14 193 rfl
theorem q3370 : (Jvm.Cond.instanceMethod ({ cls := "java/util/Collection", name := "removeIf", desc := "(Ljava/util/function/Predicate;)Z" } : Jvm.MethodName)) ∈ lw_all := lw_g (lw_at lw_m14 195 rfl) rfl
theorem q3371 : (Jvm.Cond.publicMethod ({ cls := "java/util/Collection", name := "removeIf", desc := "(Ljava/util/function/Predicate;)Z" } : Jvm.MethodName)) ∈ lw_tbl := lw_at lw_m14 196 rfl
theorem q3372 : (Jvm.Cond.code ({ cls := "java/util/Collection", name := "removeIf", desc := "(Ljava/util/function/Predicate;)Z" } : Jvm.MethodName) prog_53_method_13_code (4 : Nat) (Option.some Jvm.ClassFile.FieldType.boolean)) ∈ lw_all := lw_g (lw_at lw_m14 197 rfl) rfl
theorem q3373 : (Jvm.Cond.methodLink "java/util/Collection" (15 : Nat) ({ cls := "java/util/Objects", name := "requireNonNull", desc := "(Ljava/lang/Object;)Ljava/lang/Object;" } : Jvm.MethodName)) ∈ lw_all := lw_g (lw_at lw_m14 198 rfl) rfl
theorem q3374 : (Jvm.Cond.interfaceEntry "java/util/Collection" (21 : Nat)) ∈ lw_tbl := lw_at lw_m14 199 rfl
theorem q3375 : (Jvm.Cond.methodLink "java/util/Collection" (21 : Nat) ({ cls := "java/util/Collection", name := "iterator", desc := "()Ljava/util/Iterator;" } : Jvm.MethodName)) ∈ lw_all := lw_g (lw_at lw_m14 200 rfl) rfl
theorem q3376 : (Jvm.Cond.interfaceEntry "java/util/Collection" (25 : Nat)) ∈ lw_tbl := lw_at lw_m14 201 rfl
theorem q3377 : (Jvm.Cond.methodLink "java/util/Collection" (25 : Nat) ({ cls := "java/util/Iterator", name := "hasNext", desc := "()Z" } : Jvm.MethodName)) ∈ lw_all := lw_g (lw_at lw_m14 202 rfl) rfl
theorem q3378 : (Jvm.Cond.interfaceEntry "java/util/Collection" (31 : Nat)) ∈ lw_tbl := lw_at lw_m14 203 rfl
theorem q3379 : (Jvm.Cond.methodLink "java/util/Collection" (31 : Nat) ({ cls := "java/util/Iterator", name := "next", desc := "()Ljava/lang/Object;" } : Jvm.MethodName)) ∈ lw_all := lw_g (lw_at lw_m14 204 rfl) rfl
theorem q3380 : (Jvm.Cond.interfaceEntry "java/util/Collection" (35 : Nat)) ∈ lw_tbl := lw_at lw_m14 205 rfl
theorem q3381 : (Jvm.Cond.methodLink "java/util/Collection" (35 : Nat) ({ cls := "java/util/function/Predicate", name := "test", desc := "(Ljava/lang/Object;)Z" } : Jvm.MethodName)) ∈ lw_all := lw_g (lw_at lw_m14 206 rfl) rfl
theorem q3396 : (Jvm.Cond.interfaceEntry "java/util/Collection" (41 : Nat)) ∈ lw_tbl := lw_at lw_m14 221 rfl
theorem q3397 : (Jvm.Cond.methodLink "java/util/Collection" (41 : Nat) ({ cls := "java/util/Iterator", name := "remove", desc := "()V" } : Jvm.MethodName)) ∈ lw_all := lw_g (lw_at lw_m14 222 rfl) rfl
