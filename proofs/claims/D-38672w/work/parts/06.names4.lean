/-! java/util/ArrayList -/
set_option maxRecDepth 100000
def RJ2 : String := "java/util/ArrayList"
def TJ2 : u_T := fun k => match k with
  | 0 => ("java/util/AbstractList", "modCount", "I", false)
  | 1 => ("java/util/ArrayList", "elementData", "[Ljava/lang/Object;", false)
  | _ => ("java/util/ArrayList", "size", "I", false)
def tyJ2 : Nat → FieldType := fun k => match k with
  | 0 => .int
  | 1 => .array (.object "java/lang/Object")
  | _ => .int
abbrev wsJ20 : List Cond := u_ws RJ2 TJ2 3
theorem nmJ2 : ∀ a, a < 3 → ∀ b, b < 3 → a ≠ b → (TJ2 a).2.1 ≠ (TJ2 b).2.1 := by decide +kernel
theorem tyJ2_ok : ∀ k, k < 3 → parseFieldDescriptor (TJ2 k).2.2.1 = some (tyJ2 k) := by decide +kernel
abbrev cJ2_init : ByteArray := prog_44_method_2_code
def yJ2_init : MethodName := ⟨RJ2, "<init>", "()V"⟩
def dkwJ2_init_0 : List UInt8 := [42, 183, 0, 1, 42, 178, 0, 39, 181, 0, 9, 177]
abbrev dktJ2_init_0 : List UInt8 := dkwJ2_init_0 ++ []
theorem dksJ2_init_0 : cJ2_init.data.toList.drop 0 = dktJ2_init_0 := by decide +kernel
theorem dJ2_init_0 : decode cJ2_init 0 = .ok (.aload_n 0, 1) := dk_42 (dk_at dksJ2_init_0 0 rfl rfl)
theorem dJ2_init_1 : decode cJ2_init 1 = .ok (.invokespecial 1, 3) := dk_183 0 1 (dk_at dksJ2_init_0 1 rfl rfl)
theorem dJ2_init_4 : decode cJ2_init 4 = .ok (.aload_n 0, 1) := dk_42 (dk_at dksJ2_init_0 4 rfl rfl)
theorem dJ2_init_5 : decode cJ2_init 5 = .ok (.getstatic 39, 3) := dk_178 0 39 (dk_at dksJ2_init_0 5 rfl rfl)
theorem dJ2_init_8 : decode cJ2_init 8 = .ok (.putfield 9, 3) := dk_181 0 9 (dk_at dksJ2_init_0 8 rfl rfl)
theorem dJ2_init_11 : decode cJ2_init 11 = .ok (.return_, 1) := dk_177 (dk_at dksJ2_init_0 11 rfl rfl)
abbrev cJ2_add : ByteArray := prog_44_method_25_code
def yJ2_add : MethodName := ⟨RJ2, "add", "(Ljava/lang/Object;)Z"⟩
def dkwJ2_add_1 : List UInt8 := [172]
abbrev dktJ2_add_1 : List UInt8 := dkwJ2_add_1 ++ []
def dkwJ2_add_0 : List UInt8 := [42, 89, 180, 0, 63, 4, 96, 181, 0, 63, 42, 43, 42, 180, 0, 9, 42, 180, 0, 48, 182, 0, 131, 4]
abbrev dktJ2_add_0 : List UInt8 := dkwJ2_add_0 ++ dktJ2_add_1
theorem dksJ2_add_0 : cJ2_add.data.toList.drop 0 = dktJ2_add_0 := by decide +kernel
theorem dksJ2_add_1 : cJ2_add.data.toList.drop 24 = dktJ2_add_1 := dk_seg dksJ2_add_0 24 rfl rfl
theorem dJ2_add_0 : decode cJ2_add 0 = .ok (.aload_n 0, 1) := dk_42 (dk_at dksJ2_add_0 0 rfl rfl)
theorem dJ2_add_1 : decode cJ2_add 1 = .ok (.dup, 1) := dk_89 (dk_at dksJ2_add_0 1 rfl rfl)
theorem dJ2_add_2 : decode cJ2_add 2 = .ok (.getfield 63, 3) := dk_180 0 63 (dk_at dksJ2_add_0 2 rfl rfl)
theorem dJ2_add_5 : decode cJ2_add 5 = .ok (.iconst 1, 1) := dk_4 (dk_at dksJ2_add_0 5 rfl rfl)
theorem dJ2_add_6 : decode cJ2_add 6 = .ok (.iadd, 1) := dk_96 (dk_at dksJ2_add_0 6 rfl rfl)
theorem dJ2_add_7 : decode cJ2_add 7 = .ok (.putfield 63, 3) := dk_181 0 63 (dk_at dksJ2_add_0 7 rfl rfl)
theorem dJ2_add_10 : decode cJ2_add 10 = .ok (.aload_n 0, 1) := dk_42 (dk_at dksJ2_add_0 10 rfl rfl)
theorem dJ2_add_11 : decode cJ2_add 11 = .ok (.aload_n 1, 1) := dk_43 (dk_at dksJ2_add_0 11 rfl rfl)
theorem dJ2_add_12 : decode cJ2_add 12 = .ok (.aload_n 0, 1) := dk_42 (dk_at dksJ2_add_0 12 rfl rfl)
theorem dJ2_add_13 : decode cJ2_add 13 = .ok (.getfield 9, 3) := dk_180 0 9 (dk_at dksJ2_add_0 13 rfl rfl)
theorem dJ2_add_16 : decode cJ2_add 16 = .ok (.aload_n 0, 1) := dk_42 (dk_at dksJ2_add_0 16 rfl rfl)
theorem dJ2_add_17 : decode cJ2_add 17 = .ok (.getfield 48, 3) := dk_180 0 48 (dk_at dksJ2_add_0 17 rfl rfl)
theorem dJ2_add_20 : decode cJ2_add 20 = .ok (.invokevirtual 131, 3) := dk_182 0 131 (dk_at dksJ2_add_0 20 rfl rfl)
theorem dJ2_add_23 : decode cJ2_add 23 = .ok (.iconst 1, 1) := dk_4 (dk_at dksJ2_add_0 23 rfl rfl)
theorem dJ2_add_24 : decode cJ2_add 24 = .ok (.ireturn, 1) := dk_172 (dk_at dksJ2_add_1 0 rfl rfl)
abbrev cJ2_add_2 : ByteArray := prog_44_method_24_code
def yJ2_add_2 : MethodName := ⟨RJ2, "add", "(Ljava/lang/Object;[Ljava/lang/Object;I)V"⟩
def dkwJ2_add_2_0 : List UInt8 := [29, 44, 190, 160, 0, 8, 42, 182, 0, 129, 77, 44, 29, 43, 83, 42, 29, 4, 96, 181, 0, 48, 177]
abbrev dktJ2_add_2_0 : List UInt8 := dkwJ2_add_2_0 ++ []
theorem dksJ2_add_2_0 : cJ2_add_2.data.toList.drop 0 = dktJ2_add_2_0 := by decide +kernel
theorem dJ2_add_2_0 : decode cJ2_add_2 0 = .ok (.iload_n 3, 1) := dk_29 (dk_at dksJ2_add_2_0 0 rfl rfl)
theorem dJ2_add_2_1 : decode cJ2_add_2 1 = .ok (.aload_n 2, 1) := dk_44 (dk_at dksJ2_add_2_0 1 rfl rfl)
theorem dJ2_add_2_2 : decode cJ2_add_2 2 = .ok (.arraylength, 1) := dk_190 (dk_at dksJ2_add_2_0 2 rfl rfl)
theorem dJ2_add_2_3 : decode cJ2_add_2 3 = .ok (.if_icmp .ne 8, 3) := dk_160 0 8 (dk_at dksJ2_add_2_0 3 rfl rfl)
theorem dJ2_add_2_6 : decode cJ2_add_2 6 = .ok (.aload_n 0, 1) := dk_42 (dk_at dksJ2_add_2_0 6 rfl rfl)
theorem dJ2_add_2_7 : decode cJ2_add_2 7 = .ok (.invokevirtual 129, 3) := dk_182 0 129 (dk_at dksJ2_add_2_0 7 rfl rfl)
theorem dJ2_add_2_10 : decode cJ2_add_2 10 = .ok (.astore_n 2, 1) := dk_77 (dk_at dksJ2_add_2_0 10 rfl rfl)
theorem dJ2_add_2_11 : decode cJ2_add_2 11 = .ok (.aload_n 2, 1) := dk_44 (dk_at dksJ2_add_2_0 11 rfl rfl)
theorem dJ2_add_2_12 : decode cJ2_add_2 12 = .ok (.iload_n 3, 1) := dk_29 (dk_at dksJ2_add_2_0 12 rfl rfl)
theorem dJ2_add_2_13 : decode cJ2_add_2 13 = .ok (.aload_n 1, 1) := dk_43 (dk_at dksJ2_add_2_0 13 rfl rfl)
theorem dJ2_add_2_14 : decode cJ2_add_2 14 = .ok (.aastore, 1) := dk_83 (dk_at dksJ2_add_2_0 14 rfl rfl)
theorem dJ2_add_2_15 : decode cJ2_add_2 15 = .ok (.aload_n 0, 1) := dk_42 (dk_at dksJ2_add_2_0 15 rfl rfl)
theorem dJ2_add_2_16 : decode cJ2_add_2 16 = .ok (.iload_n 3, 1) := dk_29 (dk_at dksJ2_add_2_0 16 rfl rfl)
theorem dJ2_add_2_17 : decode cJ2_add_2 17 = .ok (.iconst 1, 1) := dk_4 (dk_at dksJ2_add_2_0 17 rfl rfl)
theorem dJ2_add_2_18 : decode cJ2_add_2 18 = .ok (.iadd, 1) := dk_96 (dk_at dksJ2_add_2_0 18 rfl rfl)
theorem dJ2_add_2_19 : decode cJ2_add_2 19 = .ok (.putfield 48, 3) := dk_181 0 48 (dk_at dksJ2_add_2_0 19 rfl rfl)
theorem dJ2_add_2_22 : decode cJ2_add_2 22 = .ok (.return_, 1) := dk_177 (dk_at dksJ2_add_2_0 22 rfl rfl)
abbrev cJ2_grow : ByteArray := prog_44_method_7_code
def yJ2_grow : MethodName := ⟨RJ2, "grow", "()[Ljava/lang/Object;"⟩
def dkwJ2_grow_0 : List UInt8 := [42, 42, 180, 0, 48, 4, 96, 182, 0, 69, 176]
abbrev dktJ2_grow_0 : List UInt8 := dkwJ2_grow_0 ++ []
theorem dksJ2_grow_0 : cJ2_grow.data.toList.drop 0 = dktJ2_grow_0 := by decide +kernel
theorem dJ2_grow_0 : decode cJ2_grow 0 = .ok (.aload_n 0, 1) := dk_42 (dk_at dksJ2_grow_0 0 rfl rfl)
theorem dJ2_grow_1 : decode cJ2_grow 1 = .ok (.aload_n 0, 1) := dk_42 (dk_at dksJ2_grow_0 1 rfl rfl)
theorem dJ2_grow_2 : decode cJ2_grow 2 = .ok (.getfield 48, 3) := dk_180 0 48 (dk_at dksJ2_grow_0 2 rfl rfl)
theorem dJ2_grow_5 : decode cJ2_grow 5 = .ok (.iconst 1, 1) := dk_4 (dk_at dksJ2_grow_0 5 rfl rfl)
theorem dJ2_grow_6 : decode cJ2_grow 6 = .ok (.iadd, 1) := dk_96 (dk_at dksJ2_grow_0 6 rfl rfl)
theorem dJ2_grow_7 : decode cJ2_grow 7 = .ok (.invokevirtual 69, 3) := dk_182 0 69 (dk_at dksJ2_grow_0 7 rfl rfl)
theorem dJ2_grow_10 : decode cJ2_grow 10 = .ok (.areturn, 1) := dk_176 (dk_at dksJ2_grow_0 10 rfl rfl)
abbrev cJ2_grow_2 : ByteArray := prog_44_method_6_code
def yJ2_grow_2 : MethodName := ⟨RJ2, "grow", "(I)[Ljava/lang/Object;"⟩
def dkwJ2_grow_2_2 : List UInt8 := [27, 184, 0, 79, 189, 0, 7, 90, 181, 0, 9, 176]
abbrev dktJ2_grow_2_2 : List UInt8 := dkwJ2_grow_2_2 ++ []
def dkwJ2_grow_2_1 : List UInt8 := [28, 4, 122, 184, 0, 73, 62, 42, 42, 180, 0, 9, 29, 184, 0, 66, 90, 181, 0, 9, 176, 42, 16, 10]
abbrev dktJ2_grow_2_1 : List UInt8 := dkwJ2_grow_2_1 ++ dktJ2_grow_2_2
def dkwJ2_grow_2_0 : List UInt8 := [42, 180, 0, 9, 190, 61, 28, 157, 0, 13, 42, 180, 0, 9, 178, 0, 39, 165, 0, 28, 28, 27, 28, 100]
abbrev dktJ2_grow_2_0 : List UInt8 := dkwJ2_grow_2_0 ++ dktJ2_grow_2_1
theorem dksJ2_grow_2_0 : cJ2_grow_2.data.toList.drop 0 = dktJ2_grow_2_0 := by decide +kernel
theorem dksJ2_grow_2_1 : cJ2_grow_2.data.toList.drop 24 = dktJ2_grow_2_1 := dk_seg dksJ2_grow_2_0 24 rfl rfl
theorem dksJ2_grow_2_2 : cJ2_grow_2.data.toList.drop 48 = dktJ2_grow_2_2 := dk_seg dksJ2_grow_2_1 24 rfl rfl
theorem dJ2_grow_2_0 : decode cJ2_grow_2 0 = .ok (.aload_n 0, 1) := dk_42 (dk_at dksJ2_grow_2_0 0 rfl rfl)
theorem dJ2_grow_2_1 : decode cJ2_grow_2 1 = .ok (.getfield 9, 3) := dk_180 0 9 (dk_at dksJ2_grow_2_0 1 rfl rfl)
theorem dJ2_grow_2_4 : decode cJ2_grow_2 4 = .ok (.arraylength, 1) := dk_190 (dk_at dksJ2_grow_2_0 4 rfl rfl)
theorem dJ2_grow_2_5 : decode cJ2_grow_2 5 = .ok (.istore_n 2, 1) := dk_61 (dk_at dksJ2_grow_2_0 5 rfl rfl)
theorem dJ2_grow_2_6 : decode cJ2_grow_2 6 = .ok (.iload_n 2, 1) := dk_28 (dk_at dksJ2_grow_2_0 6 rfl rfl)
theorem dJ2_grow_2_7 : decode cJ2_grow_2 7 = .ok (.ifCond .gt 13, 3) := dk_157 0 13 (dk_at dksJ2_grow_2_0 7 rfl rfl)
theorem dJ2_grow_2_10 : decode cJ2_grow_2 10 = .ok (.aload_n 0, 1) := dk_42 (dk_at dksJ2_grow_2_0 10 rfl rfl)
theorem dJ2_grow_2_11 : decode cJ2_grow_2 11 = .ok (.getfield 9, 3) := dk_180 0 9 (dk_at dksJ2_grow_2_0 11 rfl rfl)
theorem dJ2_grow_2_14 : decode cJ2_grow_2 14 = .ok (.getstatic 39, 3) := dk_178 0 39 (dk_at dksJ2_grow_2_0 14 rfl rfl)
theorem dJ2_grow_2_17 : decode cJ2_grow_2 17 = .ok (.if_acmp .eq 28, 3) := dk_165 0 28 (dk_at dksJ2_grow_2_0 17 rfl rfl)
theorem dJ2_grow_2_20 : decode cJ2_grow_2 20 = .ok (.iload_n 2, 1) := dk_28 (dk_at dksJ2_grow_2_0 20 rfl rfl)
theorem dJ2_grow_2_21 : decode cJ2_grow_2 21 = .ok (.iload_n 1, 1) := dk_27 (dk_at dksJ2_grow_2_0 21 rfl rfl)
theorem dJ2_grow_2_22 : decode cJ2_grow_2 22 = .ok (.iload_n 2, 1) := dk_28 (dk_at dksJ2_grow_2_0 22 rfl rfl)
theorem dJ2_grow_2_23 : decode cJ2_grow_2 23 = .ok (.isub, 1) := dk_100 (dk_at dksJ2_grow_2_0 23 rfl rfl)
theorem dJ2_grow_2_24 : decode cJ2_grow_2 24 = .ok (.iload_n 2, 1) := dk_28 (dk_at dksJ2_grow_2_1 0 rfl rfl)
theorem dJ2_grow_2_25 : decode cJ2_grow_2 25 = .ok (.iconst 1, 1) := dk_4 (dk_at dksJ2_grow_2_1 1 rfl rfl)
theorem dJ2_grow_2_26 : decode cJ2_grow_2 26 = .ok (.ishr, 1) := dk_122 (dk_at dksJ2_grow_2_1 2 rfl rfl)
theorem dJ2_grow_2_27 : decode cJ2_grow_2 27 = .ok (.invokestatic 73, 3) := dk_184 0 73 (dk_at dksJ2_grow_2_1 3 rfl rfl)
theorem dJ2_grow_2_30 : decode cJ2_grow_2 30 = .ok (.istore_n 3, 1) := dk_62 (dk_at dksJ2_grow_2_1 6 rfl rfl)
theorem dJ2_grow_2_31 : decode cJ2_grow_2 31 = .ok (.aload_n 0, 1) := dk_42 (dk_at dksJ2_grow_2_1 7 rfl rfl)
theorem dJ2_grow_2_32 : decode cJ2_grow_2 32 = .ok (.aload_n 0, 1) := dk_42 (dk_at dksJ2_grow_2_1 8 rfl rfl)
theorem dJ2_grow_2_33 : decode cJ2_grow_2 33 = .ok (.getfield 9, 3) := dk_180 0 9 (dk_at dksJ2_grow_2_1 9 rfl rfl)
theorem dJ2_grow_2_36 : decode cJ2_grow_2 36 = .ok (.iload_n 3, 1) := dk_29 (dk_at dksJ2_grow_2_1 12 rfl rfl)
theorem dJ2_grow_2_37 : decode cJ2_grow_2 37 = .ok (.invokestatic 66, 3) := dk_184 0 66 (dk_at dksJ2_grow_2_1 13 rfl rfl)
theorem dJ2_grow_2_40 : decode cJ2_grow_2 40 = .ok (.dup_x1, 1) := dk_90 (dk_at dksJ2_grow_2_1 16 rfl rfl)
theorem dJ2_grow_2_41 : decode cJ2_grow_2 41 = .ok (.putfield 9, 3) := dk_181 0 9 (dk_at dksJ2_grow_2_1 17 rfl rfl)
theorem dJ2_grow_2_44 : decode cJ2_grow_2 44 = .ok (.areturn, 1) := dk_176 (dk_at dksJ2_grow_2_1 20 rfl rfl)
theorem dJ2_grow_2_45 : decode cJ2_grow_2 45 = .ok (.aload_n 0, 1) := dk_42 (dk_at dksJ2_grow_2_1 21 rfl rfl)
theorem dJ2_grow_2_46 : decode cJ2_grow_2 46 = .ok (.bipush 10, 2) := dk_16 10 (dk_at dksJ2_grow_2_1 22 rfl rfl)
theorem dJ2_grow_2_48 : decode cJ2_grow_2 48 = .ok (.iload_n 1, 1) := dk_27 (dk_at dksJ2_grow_2_2 0 rfl rfl)
theorem dJ2_grow_2_49 : decode cJ2_grow_2 49 = .ok (.invokestatic 79, 3) := dk_184 0 79 (dk_at dksJ2_grow_2_2 1 rfl rfl)
theorem dJ2_grow_2_52 : decode cJ2_grow_2 52 = .ok (.anewarray 7, 3) := dk_189 0 7 (dk_at dksJ2_grow_2_2 4 rfl rfl)
theorem dJ2_grow_2_55 : decode cJ2_grow_2 55 = .ok (.dup_x1, 1) := dk_90 (dk_at dksJ2_grow_2_2 7 rfl rfl)
theorem dJ2_grow_2_56 : decode cJ2_grow_2 56 = .ok (.putfield 9, 3) := dk_181 0 9 (dk_at dksJ2_grow_2_2 8 rfl rfl)
theorem dJ2_grow_2_59 : decode cJ2_grow_2 59 = .ok (.areturn, 1) := dk_176 (dk_at dksJ2_grow_2_2 11 rfl rfl)
abbrev cJ2_get : ByteArray := prog_44_method_20_code
def yJ2_get : MethodName := ⟨RJ2, "get", "(I)Ljava/lang/Object;"⟩
def dkwJ2_get_0 : List UInt8 := [27, 42, 180, 0, 48, 184, 0, 118, 87, 42, 27, 182, 0, 123, 176]
abbrev dktJ2_get_0 : List UInt8 := dkwJ2_get_0 ++ []
theorem dksJ2_get_0 : cJ2_get.data.toList.drop 0 = dktJ2_get_0 := by decide +kernel
theorem dJ2_get_0 : decode cJ2_get 0 = .ok (.iload_n 1, 1) := dk_27 (dk_at dksJ2_get_0 0 rfl rfl)
theorem dJ2_get_1 : decode cJ2_get 1 = .ok (.aload_n 0, 1) := dk_42 (dk_at dksJ2_get_0 1 rfl rfl)
theorem dJ2_get_2 : decode cJ2_get 2 = .ok (.getfield 48, 3) := dk_180 0 48 (dk_at dksJ2_get_0 2 rfl rfl)
theorem dJ2_get_5 : decode cJ2_get 5 = .ok (.invokestatic 118, 3) := dk_184 0 118 (dk_at dksJ2_get_0 5 rfl rfl)
theorem dJ2_get_8 : decode cJ2_get 8 = .ok (.pop, 1) := dk_87 (dk_at dksJ2_get_0 8 rfl rfl)
theorem dJ2_get_9 : decode cJ2_get 9 = .ok (.aload_n 0, 1) := dk_42 (dk_at dksJ2_get_0 9 rfl rfl)
theorem dJ2_get_10 : decode cJ2_get 10 = .ok (.iload_n 1, 1) := dk_27 (dk_at dksJ2_get_0 10 rfl rfl)
theorem dJ2_get_11 : decode cJ2_get 11 = .ok (.invokevirtual 123, 3) := dk_182 0 123 (dk_at dksJ2_get_0 11 rfl rfl)
theorem dJ2_get_14 : decode cJ2_get 14 = .ok (.areturn, 1) := dk_176 (dk_at dksJ2_get_0 14 rfl rfl)
abbrev cJ2_elementData : ByteArray := prog_44_method_18_code
def yJ2_elementData : MethodName := ⟨RJ2, "elementData", "(I)Ljava/lang/Object;"⟩
def dkwJ2_elementData_0 : List UInt8 := [42, 180, 0, 9, 27, 50, 176]
abbrev dktJ2_elementData_0 : List UInt8 := dkwJ2_elementData_0 ++ []
theorem dksJ2_elementData_0 : cJ2_elementData.data.toList.drop 0 = dktJ2_elementData_0 := by decide +kernel
theorem dJ2_elementData_0 : decode cJ2_elementData 0 = .ok (.aload_n 0, 1) := dk_42 (dk_at dksJ2_elementData_0 0 rfl rfl)
theorem dJ2_elementData_1 : decode cJ2_elementData 1 = .ok (.getfield 9, 3) := dk_180 0 9 (dk_at dksJ2_elementData_0 1 rfl rfl)
theorem dJ2_elementData_4 : decode cJ2_elementData 4 = .ok (.iload_n 1, 1) := dk_27 (dk_at dksJ2_elementData_0 4 rfl rfl)
theorem dJ2_elementData_5 : decode cJ2_elementData 5 = .ok (.aaload, 1) := dk_50 (dk_at dksJ2_elementData_0 5 rfl rfl)
theorem dJ2_elementData_6 : decode cJ2_elementData 6 = .ok (.areturn, 1) := dk_176 (dk_at dksJ2_elementData_0 6 rfl rfl)
abbrev cJ2_size : ByteArray := prog_44_method_8_code
def yJ2_size : MethodName := ⟨RJ2, "size", "()I"⟩
theorem dJ2_size_0 : decode cJ2_size 0 = .ok (.aload_n 0, 1) := by decide +kernel
theorem dJ2_size_1 : decode cJ2_size 1 = .ok (.getfield 48, 3) := by decide +kernel
theorem dJ2_size_4 : decode cJ2_size 4 = .ok (.ireturn, 1) := by decide +kernel
abbrev cJ2_listIterator : ByteArray := prog_44_method_54_code
def yJ2_listIterator : MethodName := ⟨RJ2, "listIterator", "()Ljava/util/ListIterator;"⟩
def dkwJ2_listIterator_0 : List UInt8 := [187, 1, 6, 89, 42, 3, 183, 1, 8, 176]
abbrev dktJ2_listIterator_0 : List UInt8 := dkwJ2_listIterator_0 ++ []
theorem dksJ2_listIterator_0 : cJ2_listIterator.data.toList.drop 0 = dktJ2_listIterator_0 := by decide +kernel
theorem dJ2_listIterator_0 : decode cJ2_listIterator 0 = .ok (.new 262, 3) := dk_187 1 6 (dk_at dksJ2_listIterator_0 0 rfl rfl)
theorem dJ2_listIterator_3 : decode cJ2_listIterator 3 = .ok (.dup, 1) := dk_89 (dk_at dksJ2_listIterator_0 3 rfl rfl)
theorem dJ2_listIterator_4 : decode cJ2_listIterator 4 = .ok (.aload_n 0, 1) := dk_42 (dk_at dksJ2_listIterator_0 4 rfl rfl)
theorem dJ2_listIterator_5 : decode cJ2_listIterator 5 = .ok (.iconst 0, 1) := dk_3 (dk_at dksJ2_listIterator_0 5 rfl rfl)
theorem dJ2_listIterator_6 : decode cJ2_listIterator 6 = .ok (.invokespecial 264, 3) := dk_183 1 8 (dk_at dksJ2_listIterator_0 6 rfl rfl)
theorem dJ2_listIterator_9 : decode cJ2_listIterator 9 = .ok (.areturn, 1) := dk_176 (dk_at dksJ2_listIterator_0 9 rfl rfl)
def yJ2_listIterator_2 : MethodName := ⟨RJ2, "listIterator", "(I)Ljava/util/ListIterator;"⟩
def yJ2_rangeCheckForAdd : MethodName := ⟨RJ2, "rangeCheckForAdd", "(I)V"⟩
def yJ2_outOfBoundsMsg : MethodName := ⟨RJ2, "outOfBoundsMsg", "(I)Ljava/lang/String;"⟩
abbrev cJ2_equals : ByteArray := prog_44_method_32_code
def yJ2_equals : MethodName := ⟨RJ2, "equals", "(Ljava/lang/Object;)Z"⟩
def dkwJ2_equals_2 : List UInt8 := [3, 42, 180, 0, 48, 182, 0, 154, 62, 42, 28, 182, 0, 158, 29, 172]
abbrev dktJ2_equals_2 : List UInt8 := dkwJ2_equals_2 ++ []
def dkwJ2_equals_1 : List UInt8 := [182, 0, 111, 18, 10, 166, 0, 14, 42, 43, 192, 0, 10, 182, 0, 150, 167, 0, 16, 42, 43, 192, 0, 148]
abbrev dktJ2_equals_1 : List UInt8 := dkwJ2_equals_1 ++ dktJ2_equals_2
def dkwJ2_equals_0 : List UInt8 := [43, 42, 166, 0, 5, 4, 172, 43, 193, 0, 148, 154, 0, 5, 3, 172, 42, 180, 0, 63, 61, 43]
abbrev dktJ2_equals_0 : List UInt8 := dkwJ2_equals_0 ++ dktJ2_equals_1
theorem dksJ2_equals_0 : cJ2_equals.data.toList.drop 0 = dktJ2_equals_0 := by decide +kernel
theorem dksJ2_equals_1 : cJ2_equals.data.toList.drop 22 = dktJ2_equals_1 := dk_seg dksJ2_equals_0 22 rfl rfl
theorem dksJ2_equals_2 : cJ2_equals.data.toList.drop 46 = dktJ2_equals_2 := dk_seg dksJ2_equals_1 24 rfl rfl
theorem dJ2_equals_0 : decode cJ2_equals 0 = .ok (.aload_n 1, 1) := dk_43 (dk_at dksJ2_equals_0 0 rfl rfl)
theorem dJ2_equals_1 : decode cJ2_equals 1 = .ok (.aload_n 0, 1) := dk_42 (dk_at dksJ2_equals_0 1 rfl rfl)
theorem dJ2_equals_2 : decode cJ2_equals 2 = .ok (.if_acmp .ne 5, 3) := dk_166 0 5 (dk_at dksJ2_equals_0 2 rfl rfl)
theorem dJ2_equals_5 : decode cJ2_equals 5 = .ok (.iconst 1, 1) := dk_4 (dk_at dksJ2_equals_0 5 rfl rfl)
theorem dJ2_equals_6 : decode cJ2_equals 6 = .ok (.ireturn, 1) := dk_172 (dk_at dksJ2_equals_0 6 rfl rfl)
theorem dJ2_equals_7 : decode cJ2_equals 7 = .ok (.aload_n 1, 1) := dk_43 (dk_at dksJ2_equals_0 7 rfl rfl)
theorem dJ2_equals_8 : decode cJ2_equals 8 = .ok (.instanceof 148, 3) := dk_193 0 148 (dk_at dksJ2_equals_0 8 rfl rfl)
theorem dJ2_equals_11 : decode cJ2_equals 11 = .ok (.ifCond .ne 5, 3) := dk_154 0 5 (dk_at dksJ2_equals_0 11 rfl rfl)
theorem dJ2_equals_14 : decode cJ2_equals 14 = .ok (.iconst 0, 1) := dk_3 (dk_at dksJ2_equals_0 14 rfl rfl)
theorem dJ2_equals_15 : decode cJ2_equals 15 = .ok (.ireturn, 1) := dk_172 (dk_at dksJ2_equals_0 15 rfl rfl)
theorem dJ2_equals_16 : decode cJ2_equals 16 = .ok (.aload_n 0, 1) := dk_42 (dk_at dksJ2_equals_0 16 rfl rfl)
theorem dJ2_equals_17 : decode cJ2_equals 17 = .ok (.getfield 63, 3) := dk_180 0 63 (dk_at dksJ2_equals_0 17 rfl rfl)
theorem dJ2_equals_20 : decode cJ2_equals 20 = .ok (.istore_n 2, 1) := dk_61 (dk_at dksJ2_equals_0 20 rfl rfl)
theorem dJ2_equals_21 : decode cJ2_equals 21 = .ok (.aload_n 1, 1) := dk_43 (dk_at dksJ2_equals_0 21 rfl rfl)
theorem dJ2_equals_22 : decode cJ2_equals 22 = .ok (.invokevirtual 111, 3) := dk_182 0 111 (dk_at dksJ2_equals_1 0 rfl rfl)
theorem dJ2_equals_25 : decode cJ2_equals 25 = .ok (.ldc 10, 2) := dk_18 10 (dk_at dksJ2_equals_1 3 rfl rfl)
theorem dJ2_equals_27 : decode cJ2_equals 27 = .ok (.if_acmp .ne 14, 3) := dk_166 0 14 (dk_at dksJ2_equals_1 5 rfl rfl)
theorem dJ2_equals_30 : decode cJ2_equals 30 = .ok (.aload_n 0, 1) := dk_42 (dk_at dksJ2_equals_1 8 rfl rfl)
theorem dJ2_equals_31 : decode cJ2_equals 31 = .ok (.aload_n 1, 1) := dk_43 (dk_at dksJ2_equals_1 9 rfl rfl)
theorem dJ2_equals_32 : decode cJ2_equals 32 = .ok (.checkcast 10, 3) := dk_192 0 10 (dk_at dksJ2_equals_1 10 rfl rfl)
theorem dJ2_equals_35 : decode cJ2_equals 35 = .ok (.invokevirtual 150, 3) := dk_182 0 150 (dk_at dksJ2_equals_1 13 rfl rfl)
theorem dJ2_equals_38 : decode cJ2_equals 38 = .ok (.goto 16, 3) := dk_167 0 16 (dk_at dksJ2_equals_1 16 rfl rfl)
theorem dJ2_equals_41 : decode cJ2_equals 41 = .ok (.aload_n 0, 1) := dk_42 (dk_at dksJ2_equals_1 19 rfl rfl)
theorem dJ2_equals_42 : decode cJ2_equals 42 = .ok (.aload_n 1, 1) := dk_43 (dk_at dksJ2_equals_1 20 rfl rfl)
theorem dJ2_equals_43 : decode cJ2_equals 43 = .ok (.checkcast 148, 3) := dk_192 0 148 (dk_at dksJ2_equals_1 21 rfl rfl)
theorem dJ2_equals_46 : decode cJ2_equals 46 = .ok (.iconst 0, 1) := dk_3 (dk_at dksJ2_equals_2 0 rfl rfl)
theorem dJ2_equals_47 : decode cJ2_equals 47 = .ok (.aload_n 0, 1) := dk_42 (dk_at dksJ2_equals_2 1 rfl rfl)
theorem dJ2_equals_48 : decode cJ2_equals 48 = .ok (.getfield 48, 3) := dk_180 0 48 (dk_at dksJ2_equals_2 2 rfl rfl)
theorem dJ2_equals_51 : decode cJ2_equals 51 = .ok (.invokevirtual 154, 3) := dk_182 0 154 (dk_at dksJ2_equals_2 5 rfl rfl)
theorem dJ2_equals_54 : decode cJ2_equals 54 = .ok (.istore_n 3, 1) := dk_62 (dk_at dksJ2_equals_2 8 rfl rfl)
theorem dJ2_equals_55 : decode cJ2_equals 55 = .ok (.aload_n 0, 1) := dk_42 (dk_at dksJ2_equals_2 9 rfl rfl)
theorem dJ2_equals_56 : decode cJ2_equals 56 = .ok (.iload_n 2, 1) := dk_28 (dk_at dksJ2_equals_2 10 rfl rfl)
theorem dJ2_equals_57 : decode cJ2_equals 57 = .ok (.invokevirtual 158, 3) := dk_182 0 158 (dk_at dksJ2_equals_2 11 rfl rfl)
theorem dJ2_equals_60 : decode cJ2_equals 60 = .ok (.iload_n 3, 1) := dk_29 (dk_at dksJ2_equals_2 14 rfl rfl)
theorem dJ2_equals_61 : decode cJ2_equals 61 = .ok (.ireturn, 1) := dk_172 (dk_at dksJ2_equals_2 15 rfl rfl)
def yJ2_equalsArrayList : MethodName := ⟨RJ2, "equalsArrayList", "(Ljava/util/ArrayList;)Z"⟩
abbrev cJ2_checkForComodification : ByteArray := prog_44_method_35_code
def yJ2_checkForComodification : MethodName := ⟨RJ2, "checkForComodification", "(I)V"⟩
def dkwJ2_checkForComodification_0 : List UInt8 := [42, 180, 0, 63, 27, 159, 0, 11, 187, 0, 161, 89, 183, 0, 163, 191, 177]
abbrev dktJ2_checkForComodification_0 : List UInt8 := dkwJ2_checkForComodification_0 ++ []
theorem dksJ2_checkForComodification_0 : cJ2_checkForComodification.data.toList.drop 0 = dktJ2_checkForComodification_0 := by decide +kernel
theorem dJ2_checkForComodification_0 : decode cJ2_checkForComodification 0 = .ok (.aload_n 0, 1) := dk_42 (dk_at dksJ2_checkForComodification_0 0 rfl rfl)
theorem dJ2_checkForComodification_1 : decode cJ2_checkForComodification 1 = .ok (.getfield 63, 3) := dk_180 0 63 (dk_at dksJ2_checkForComodification_0 1 rfl rfl)
theorem dJ2_checkForComodification_4 : decode cJ2_checkForComodification 4 = .ok (.iload_n 1, 1) := dk_27 (dk_at dksJ2_checkForComodification_0 4 rfl rfl)
theorem dJ2_checkForComodification_5 : decode cJ2_checkForComodification 5 = .ok (.if_icmp .eq 11, 3) := dk_159 0 11 (dk_at dksJ2_checkForComodification_0 5 rfl rfl)
theorem dJ2_checkForComodification_8 : decode cJ2_checkForComodification 8 = .ok (.new 161, 3) := dk_187 0 161 (dk_at dksJ2_checkForComodification_0 8 rfl rfl)
theorem dJ2_checkForComodification_11 : decode cJ2_checkForComodification 11 = .ok (.dup, 1) := dk_89 (dk_at dksJ2_checkForComodification_0 11 rfl rfl)
theorem dJ2_checkForComodification_12 : decode cJ2_checkForComodification 12 = .ok (.invokespecial 163, 3) := dk_183 0 163 (dk_at dksJ2_checkForComodification_0 12 rfl rfl)
theorem dJ2_checkForComodification_15 : decode cJ2_checkForComodification 15 = .ok (.athrow, 1) := dk_191 (dk_at dksJ2_checkForComodification_0 15 rfl rfl)
theorem dJ2_checkForComodification_16 : decode cJ2_checkForComodification 16 = .ok (.return_, 1) := dk_177 (dk_at dksJ2_checkForComodification_0 16 rfl rfl)
abbrev cJ2_equalsRange : ByteArray := prog_44_method_33_code
def yJ2_equalsRange : MethodName := ⟨RJ2, "equalsRange", "(Ljava/util/List;II)Z"⟩
def dkwJ2_equalsRange_3 : List UInt8 := [25, 5, 185, 0, 168, 1, 0, 154, 0, 7, 4, 167, 0, 4, 3, 172]
abbrev dktJ2_equalsRange_3 : List UInt8 := dkwJ2_equalsRange_3 ++ []
def dkwJ2_equalsRange_2 : List UInt8 := [28, 50, 25, 5, 185, 0, 174, 1, 0, 184, 0, 177, 154, 0, 5, 3, 172, 132, 2, 1, 167, 255, 219]
abbrev dktJ2_equalsRange_2 : List UInt8 := dkwJ2_equalsRange_2 ++ dktJ2_equalsRange_3
def dkwJ2_equalsRange_1 : List UInt8 := [185, 0, 164, 1, 0, 58, 5, 28, 29, 162, 0, 38, 25, 5, 185, 0, 168, 1, 0, 153, 0, 20, 25, 4]
abbrev dktJ2_equalsRange_1 : List UInt8 := dkwJ2_equalsRange_1 ++ dktJ2_equalsRange_2
def dkwJ2_equalsRange_0 : List UInt8 := [42, 180, 0, 9, 58, 4, 29, 25, 4, 190, 164, 0, 11, 187, 0, 161, 89, 183, 0, 163, 191, 43]
abbrev dktJ2_equalsRange_0 : List UInt8 := dkwJ2_equalsRange_0 ++ dktJ2_equalsRange_1
theorem dksJ2_equalsRange_0 : cJ2_equalsRange.data.toList.drop 0 = dktJ2_equalsRange_0 := by decide +kernel
theorem dksJ2_equalsRange_1 : cJ2_equalsRange.data.toList.drop 22 = dktJ2_equalsRange_1 := dk_seg dksJ2_equalsRange_0 22 rfl rfl
theorem dksJ2_equalsRange_2 : cJ2_equalsRange.data.toList.drop 46 = dktJ2_equalsRange_2 := dk_seg dksJ2_equalsRange_1 24 rfl rfl
theorem dksJ2_equalsRange_3 : cJ2_equalsRange.data.toList.drop 69 = dktJ2_equalsRange_3 := dk_seg dksJ2_equalsRange_2 23 rfl rfl
theorem dJ2_equalsRange_0 : decode cJ2_equalsRange 0 = .ok (.aload_n 0, 1) := dk_42 (dk_at dksJ2_equalsRange_0 0 rfl rfl)
theorem dJ2_equalsRange_1 : decode cJ2_equalsRange 1 = .ok (.getfield 9, 3) := dk_180 0 9 (dk_at dksJ2_equalsRange_0 1 rfl rfl)
theorem dJ2_equalsRange_4 : decode cJ2_equalsRange 4 = .ok (.astore 4, 2) := dk_58 4 (dk_at dksJ2_equalsRange_0 4 rfl rfl)
theorem dJ2_equalsRange_6 : decode cJ2_equalsRange 6 = .ok (.iload_n 3, 1) := dk_29 (dk_at dksJ2_equalsRange_0 6 rfl rfl)
theorem dJ2_equalsRange_7 : decode cJ2_equalsRange 7 = .ok (.aload 4, 2) := dk_25 4 (dk_at dksJ2_equalsRange_0 7 rfl rfl)
theorem dJ2_equalsRange_9 : decode cJ2_equalsRange 9 = .ok (.arraylength, 1) := dk_190 (dk_at dksJ2_equalsRange_0 9 rfl rfl)
theorem dJ2_equalsRange_10 : decode cJ2_equalsRange 10 = .ok (.if_icmp .le 11, 3) := dk_164 0 11 (dk_at dksJ2_equalsRange_0 10 rfl rfl)
theorem dJ2_equalsRange_13 : decode cJ2_equalsRange 13 = .ok (.new 161, 3) := dk_187 0 161 (dk_at dksJ2_equalsRange_0 13 rfl rfl)
theorem dJ2_equalsRange_16 : decode cJ2_equalsRange 16 = .ok (.dup, 1) := dk_89 (dk_at dksJ2_equalsRange_0 16 rfl rfl)
theorem dJ2_equalsRange_17 : decode cJ2_equalsRange 17 = .ok (.invokespecial 163, 3) := dk_183 0 163 (dk_at dksJ2_equalsRange_0 17 rfl rfl)
theorem dJ2_equalsRange_20 : decode cJ2_equalsRange 20 = .ok (.athrow, 1) := dk_191 (dk_at dksJ2_equalsRange_0 20 rfl rfl)
theorem dJ2_equalsRange_21 : decode cJ2_equalsRange 21 = .ok (.aload_n 1, 1) := dk_43 (dk_at dksJ2_equalsRange_0 21 rfl rfl)
theorem dJ2_equalsRange_22 : decode cJ2_equalsRange 22 = .ok (.invokeinterface 164 1, 5) := by decide +kernel
theorem dJ2_equalsRange_27 : decode cJ2_equalsRange 27 = .ok (.astore 5, 2) := dk_58 5 (dk_at dksJ2_equalsRange_1 5 rfl rfl)
theorem dJ2_equalsRange_29 : decode cJ2_equalsRange 29 = .ok (.iload_n 2, 1) := dk_28 (dk_at dksJ2_equalsRange_1 7 rfl rfl)
theorem dJ2_equalsRange_30 : decode cJ2_equalsRange 30 = .ok (.iload_n 3, 1) := dk_29 (dk_at dksJ2_equalsRange_1 8 rfl rfl)
theorem dJ2_equalsRange_31 : decode cJ2_equalsRange 31 = .ok (.if_icmp .ge 38, 3) := dk_162 0 38 (dk_at dksJ2_equalsRange_1 9 rfl rfl)
theorem dJ2_equalsRange_34 : decode cJ2_equalsRange 34 = .ok (.aload 5, 2) := dk_25 5 (dk_at dksJ2_equalsRange_1 12 rfl rfl)
theorem dJ2_equalsRange_36 : decode cJ2_equalsRange 36 = .ok (.invokeinterface 168 1, 5) := by decide +kernel
theorem dJ2_equalsRange_41 : decode cJ2_equalsRange 41 = .ok (.ifCond .eq 20, 3) := dk_153 0 20 (dk_at dksJ2_equalsRange_1 19 rfl rfl)
theorem dJ2_equalsRange_44 : decode cJ2_equalsRange 44 = .ok (.aload 4, 2) := dk_25 4 (dk_at dksJ2_equalsRange_1 22 rfl rfl)
theorem dJ2_equalsRange_46 : decode cJ2_equalsRange 46 = .ok (.iload_n 2, 1) := dk_28 (dk_at dksJ2_equalsRange_2 0 rfl rfl)
theorem dJ2_equalsRange_47 : decode cJ2_equalsRange 47 = .ok (.aaload, 1) := dk_50 (dk_at dksJ2_equalsRange_2 1 rfl rfl)
theorem dJ2_equalsRange_48 : decode cJ2_equalsRange 48 = .ok (.aload 5, 2) := dk_25 5 (dk_at dksJ2_equalsRange_2 2 rfl rfl)
theorem dJ2_equalsRange_50 : decode cJ2_equalsRange 50 = .ok (.invokeinterface 174 1, 5) := by decide +kernel
theorem dJ2_equalsRange_55 : decode cJ2_equalsRange 55 = .ok (.invokestatic 177, 3) := dk_184 0 177 (dk_at dksJ2_equalsRange_2 9 rfl rfl)
theorem dJ2_equalsRange_58 : decode cJ2_equalsRange 58 = .ok (.ifCond .ne 5, 3) := dk_154 0 5 (dk_at dksJ2_equalsRange_2 12 rfl rfl)
theorem dJ2_equalsRange_61 : decode cJ2_equalsRange 61 = .ok (.iconst 0, 1) := dk_3 (dk_at dksJ2_equalsRange_2 15 rfl rfl)
theorem dJ2_equalsRange_62 : decode cJ2_equalsRange 62 = .ok (.ireturn, 1) := dk_172 (dk_at dksJ2_equalsRange_2 16 rfl rfl)
theorem dJ2_equalsRange_63 : decode cJ2_equalsRange 63 = .ok (.iinc 2 1, 3) := dk_132 2 1 (dk_at dksJ2_equalsRange_2 17 rfl rfl)
theorem dJ2_equalsRange_66 : decode cJ2_equalsRange 66 = .ok (.goto (-37), 3) := dk_167 255 219 (dk_at dksJ2_equalsRange_2 20 rfl rfl)
theorem dJ2_equalsRange_69 : decode cJ2_equalsRange 69 = .ok (.aload 5, 2) := dk_25 5 (dk_at dksJ2_equalsRange_3 0 rfl rfl)
theorem dJ2_equalsRange_71 : decode cJ2_equalsRange 71 = .ok (.invokeinterface 168 1, 5) := by decide +kernel
theorem dJ2_equalsRange_76 : decode cJ2_equalsRange 76 = .ok (.ifCond .ne 7, 3) := dk_154 0 7 (dk_at dksJ2_equalsRange_3 7 rfl rfl)
theorem dJ2_equalsRange_79 : decode cJ2_equalsRange 79 = .ok (.iconst 1, 1) := dk_4 (dk_at dksJ2_equalsRange_3 10 rfl rfl)
theorem dJ2_equalsRange_80 : decode cJ2_equalsRange 80 = .ok (.goto 4, 3) := dk_167 0 4 (dk_at dksJ2_equalsRange_3 11 rfl rfl)
theorem dJ2_equalsRange_83 : decode cJ2_equalsRange 83 = .ok (.iconst 0, 1) := dk_3 (dk_at dksJ2_equalsRange_3 14 rfl rfl)
theorem dJ2_equalsRange_84 : decode cJ2_equalsRange 84 = .ok (.ireturn, 1) := dk_172 (dk_at dksJ2_equalsRange_3 15 rfl rfl)
abbrev cJ2_iterator : ByteArray := prog_44_method_55_code
def yJ2_iterator : MethodName := ⟨RJ2, "iterator", "()Ljava/util/Iterator;"⟩
def dkwJ2_iterator_0 : List UInt8 := [187, 1, 11, 89, 42, 183, 1, 13, 176]
abbrev dktJ2_iterator_0 : List UInt8 := dkwJ2_iterator_0 ++ []
theorem dksJ2_iterator_0 : cJ2_iterator.data.toList.drop 0 = dktJ2_iterator_0 := by decide +kernel
theorem dJ2_iterator_0 : decode cJ2_iterator 0 = .ok (.new 267, 3) := dk_187 1 11 (dk_at dksJ2_iterator_0 0 rfl rfl)
theorem dJ2_iterator_3 : decode cJ2_iterator 3 = .ok (.dup, 1) := dk_89 (dk_at dksJ2_iterator_0 3 rfl rfl)
theorem dJ2_iterator_4 : decode cJ2_iterator 4 = .ok (.aload_n 0, 1) := dk_42 (dk_at dksJ2_iterator_0 4 rfl rfl)
theorem dJ2_iterator_5 : decode cJ2_iterator 5 = .ok (.invokespecial 269, 3) := dk_183 1 13 (dk_at dksJ2_iterator_0 5 rfl rfl)
theorem dJ2_iterator_8 : decode cJ2_iterator 8 = .ok (.areturn, 1) := dk_176 (dk_at dksJ2_iterator_0 8 rfl rfl)
def yJ2_hashCode : MethodName := ⟨RJ2, "hashCode", "()I"⟩
def yJ2_hashCodeRange : MethodName := ⟨RJ2, "hashCodeRange", "(II)I"⟩
def yJ2_indexOf : MethodName := ⟨RJ2, "indexOf", "(Ljava/lang/Object;)I"⟩
def yJ2_indexOfRange : MethodName := ⟨RJ2, "indexOfRange", "(Ljava/lang/Object;II)I"⟩
def yJ2_lastIndexOf : MethodName := ⟨RJ2, "lastIndexOf", "(Ljava/lang/Object;)I"⟩
def yJ2_lastIndexOfRange : MethodName := ⟨RJ2, "lastIndexOfRange", "(Ljava/lang/Object;II)I"⟩
def yJ2_add_3 : MethodName := ⟨RJ2, "add", "(ILjava/lang/Object;)V"⟩
def yJ2_removeRange : MethodName := ⟨RJ2, "removeRange", "(II)V"⟩
def yJ2_outOfBoundsMsg_2 : MethodName := ⟨RJ2, "outOfBoundsMsg", "(II)Ljava/lang/String;"⟩
def yJ2_shiftTailOverGap : MethodName := ⟨RJ2, "shiftTailOverGap", "([Ljava/lang/Object;II)V"⟩
def yJ2_remove : MethodName := ⟨RJ2, "remove", "(I)Ljava/lang/Object;"⟩
def yJ2_fastRemove : MethodName := ⟨RJ2, "fastRemove", "([Ljava/lang/Object;I)V"⟩
def yJ2_clear : MethodName := ⟨RJ2, "clear", "()V"⟩
def yJ2_isEmpty : MethodName := ⟨RJ2, "isEmpty", "()Z"⟩
def yJ2_forEach : MethodName := ⟨RJ2, "forEach", "(Ljava/util/function/Consumer;)V"⟩
def yJ2_elementAt : MethodName := ⟨RJ2, "elementAt", "([Ljava/lang/Object;I)Ljava/lang/Object;"⟩
abbrev cJ2_set : ByteArray := prog_44_method_23_code
def yJ2_set : MethodName := ⟨RJ2, "set", "(ILjava/lang/Object;)Ljava/lang/Object;"⟩
def dkwJ2_set_0 : List UInt8 := [27, 42, 180, 0, 48, 184, 0, 118, 87, 42, 27, 182, 0, 123, 78, 42, 180, 0, 9, 27, 44, 83, 45, 176]
abbrev dktJ2_set_0 : List UInt8 := dkwJ2_set_0 ++ []
theorem dksJ2_set_0 : cJ2_set.data.toList.drop 0 = dktJ2_set_0 := by decide +kernel
theorem dJ2_set_0 : decode cJ2_set 0 = .ok (.iload_n 1, 1) := dk_27 (dk_at dksJ2_set_0 0 rfl rfl)
theorem dJ2_set_1 : decode cJ2_set 1 = .ok (.aload_n 0, 1) := dk_42 (dk_at dksJ2_set_0 1 rfl rfl)
theorem dJ2_set_2 : decode cJ2_set 2 = .ok (.getfield 48, 3) := dk_180 0 48 (dk_at dksJ2_set_0 2 rfl rfl)
theorem dJ2_set_5 : decode cJ2_set 5 = .ok (.invokestatic 118, 3) := dk_184 0 118 (dk_at dksJ2_set_0 5 rfl rfl)
theorem dJ2_set_8 : decode cJ2_set 8 = .ok (.pop, 1) := dk_87 (dk_at dksJ2_set_0 8 rfl rfl)
theorem dJ2_set_9 : decode cJ2_set 9 = .ok (.aload_n 0, 1) := dk_42 (dk_at dksJ2_set_0 9 rfl rfl)
theorem dJ2_set_10 : decode cJ2_set 10 = .ok (.iload_n 1, 1) := dk_27 (dk_at dksJ2_set_0 10 rfl rfl)
theorem dJ2_set_11 : decode cJ2_set 11 = .ok (.invokevirtual 123, 3) := dk_182 0 123 (dk_at dksJ2_set_0 11 rfl rfl)
theorem dJ2_set_14 : decode cJ2_set 14 = .ok (.astore_n 3, 1) := dk_78 (dk_at dksJ2_set_0 14 rfl rfl)
theorem dJ2_set_15 : decode cJ2_set 15 = .ok (.aload_n 0, 1) := dk_42 (dk_at dksJ2_set_0 15 rfl rfl)
theorem dJ2_set_16 : decode cJ2_set 16 = .ok (.getfield 9, 3) := dk_180 0 9 (dk_at dksJ2_set_0 16 rfl rfl)
theorem dJ2_set_19 : decode cJ2_set 19 = .ok (.iload_n 1, 1) := dk_27 (dk_at dksJ2_set_0 19 rfl rfl)
theorem dJ2_set_20 : decode cJ2_set 20 = .ok (.aload_n 2, 1) := dk_44 (dk_at dksJ2_set_0 20 rfl rfl)
theorem dJ2_set_21 : decode cJ2_set 21 = .ok (.aastore, 1) := dk_83 (dk_at dksJ2_set_0 21 rfl rfl)
theorem dJ2_set_22 : decode cJ2_set 22 = .ok (.aload_n 3, 1) := dk_45 (dk_at dksJ2_set_0 22 rfl rfl)
theorem dJ2_set_23 : decode cJ2_set 23 = .ok (.areturn, 1) := dk_176 (dk_at dksJ2_set_0 23 rfl rfl)
def yJ2_subList : MethodName := ⟨RJ2, "subList", "(II)Ljava/util/List;"⟩
def yJ2_contains : MethodName := ⟨RJ2, "contains", "(Ljava/lang/Object;)Z"⟩
def yJ2_replaceAll : MethodName := ⟨RJ2, "replaceAll", "(Ljava/util/function/UnaryOperator;)V"⟩
def yJ2_replaceAllRange : MethodName := ⟨RJ2, "replaceAllRange", "(Ljava/util/function/UnaryOperator;II)V"⟩
def yJ2_toArray : MethodName := ⟨RJ2, "toArray", "()[Ljava/lang/Object;"⟩
def yJ2_sort : MethodName := ⟨RJ2, "sort", "(Ljava/util/Comparator;)V"⟩
def yJ2_addAll : MethodName := ⟨RJ2, "addAll", "(ILjava/util/Collection;)Z"⟩
def yJ2_addAll_2 : MethodName := ⟨RJ2, "addAll", "(Ljava/util/Collection;)Z"⟩
def yJ2_remove_2 : MethodName := ⟨RJ2, "remove", "(Ljava/lang/Object;)Z"⟩
def yJ2_removeAll : MethodName := ⟨RJ2, "removeAll", "(Ljava/util/Collection;)Z"⟩
def yJ2_batchRemove : MethodName := ⟨RJ2, "batchRemove", "(Ljava/util/Collection;ZII)Z"⟩
def yJ2_retainAll : MethodName := ⟨RJ2, "retainAll", "(Ljava/util/Collection;)Z"⟩
def yJ2_removeIf : MethodName := ⟨RJ2, "removeIf", "(Ljava/util/function/Predicate;)Z"⟩
def yJ2_removeIf_2 : MethodName := ⟨RJ2, "removeIf", "(Ljava/util/function/Predicate;II)Z"⟩
def yJ2_nBits : MethodName := ⟨RJ2, "nBits", "(I)[J"⟩
def yJ2_setBit : MethodName := ⟨RJ2, "setBit", "([JI)V"⟩
def yJ2_isClear : MethodName := ⟨RJ2, "isClear", "([JI)Z"⟩
theorem q59 : (Jvm.Cond.initialized "java/util/ArrayList") ∈ lw_all := lw_g (lw_at lw_m1 4 rfl) rfl
theorem q117 : (Jvm.Cond.instantiable "java/util/ArrayList" (3 : Nat)) ∈ lw_all := lw_g (lw_at lw_m1 62 rfl) rfl
theorem q119 : (Jvm.Cond.instanceMethod ({ cls := "java/util/ArrayList", name := "<init>", desc := "()V" } : Jvm.MethodName)) ∈ lw_all := lw_g (lw_at lw_m1 64 rfl) rfl
theorem q120 : (Jvm.Cond.code ({ cls := "java/util/ArrayList", name := "<init>", desc := "()V" } : Jvm.MethodName) prog_44_method_2_code (1 : Nat) (Option.none : Option Jvm.ClassFile.FieldType)) ∈ lw_all := lw_g (lw_at lw_m1 65 rfl) rfl
theorem q121 : (Jvm.Cond.methodLink "java/util/ArrayList" (1 : Nat) ({ cls := "java/util/AbstractList", name := "<init>", desc := "()V" } : Jvm.MethodName)) ∈ lw_all := lw_g (lw_at lw_m1 66 rfl) rfl
theorem q128 : (Jvm.Cond.fieldLink "java/util/ArrayList" (39 : Nat) "java/util/ArrayList" "DEFAULTCAPACITY_EMPTY_ELEMENTDATA" "[Ljava/lang/Object;") ∈ lw_all := lw_g (lw_at lw_m1 73 rfl) rfl
theorem q129 : (Jvm.Cond.laysStatic "java/util/ArrayList" "DEFAULTCAPACITY_EMPTY_ELEMENTDATA" "[Ljava/lang/Object;") ∈ lw_tbl := lw_at lw_m1 74 rfl
theorem q130 : (Jvm.Cond.fieldLink "java/util/ArrayList" (9 : Nat) "java/util/ArrayList" "elementData" "[Ljava/lang/Object;") ∈ lw_all := lw_g (lw_at lw_m1 75 rfl) rfl
theorem q136 : (Jvm.Cond.fieldLink "java/util/ArrayList" (48 : Nat) "java/util/ArrayList" "size" "I") ∈ lw_all := lw_g (lw_at lw_m1 81 rfl) rfl
theorem q140 : (Jvm.Cond.sameField "java/util/ArrayList" "java/util/AbstractList" "modCount" "I") ∈ lw_all := lw_g (lw_at lw_m1 85 rfl) rfl
theorem q152 : (Jvm.Cond.fieldLink "java/util/ArrayList" (63 : Nat) "java/util/ArrayList" "modCount" "I") ∈ lw_all := lw_g (lw_at lw_m1 97 rfl) rfl
theorem q153 : (Jvm.Cond.lays "java/util/ArrayList" "java/util/ArrayList" "elementData" "[Ljava/lang/Object;") ∈ lw_all := lw_g (lw_at lw_m1 98 rfl) rfl
theorem q154 : (Jvm.Cond.soleField "java/util/ArrayList" "elementData") ∈ lw_all := lw_g (lw_at lw_m1 99 rfl) rfl
theorem q155 : (Jvm.Cond.lays "java/util/ArrayList" "java/util/ArrayList" "size" "I") ∈ lw_all := lw_g (lw_at lw_m1 100 rfl) rfl
theorem q156 : (Jvm.Cond.soleField "java/util/ArrayList" "size") ∈ lw_all := lw_g (lw_at lw_m1 101 rfl) rfl
theorem q157 : (Jvm.Cond.lays "java/util/ArrayList" "java/util/AbstractList" "modCount" "I") ∈ lw_all := lw_g (lw_at lw_m1 102 rfl) rfl
theorem q159 : (Jvm.Cond.superclass "java/util/ArrayList" "java/util/AbstractList") ∈ lw_all := lw_g (lw_at lw_m1 104 rfl) rfl
theorem q187 : (Jvm.Cond.instanceMethod ({ cls := "java/util/ArrayList", name := "add", desc := "(Ljava/lang/Object;)Z" } : Jvm.MethodName)) ∈ lw_all := lw_g (lw_at lw_m1 132 rfl) rfl
theorem q188 : (Jvm.Cond.selects "java/util/ArrayList" ({ cls := "java/util/ArrayList", name := "add", desc := "(Ljava/lang/Object;)Z" } : Jvm.MethodName) ({ cls := "java/util/ArrayList", name := "add", desc := "(Ljava/lang/Object;)Z" } : Jvm.MethodName)) ∈ lw_all := lw_g (lw_at lw_m1 133 rfl) rfl
theorem q189 : (Jvm.Cond.code ({ cls := "java/util/ArrayList", name := "add", desc := "(Ljava/lang/Object;)Z" } : Jvm.MethodName) prog_44_method_25_code (2 : Nat) (Option.some Jvm.ClassFile.FieldType.boolean)) ∈ lw_all := lw_g (lw_at lw_m1 134 rfl) rfl
theorem q190 : (Jvm.Cond.methodLink "java/util/ArrayList" (131 : Nat) ({ cls := "java/util/ArrayList", name := "add", desc := "(Ljava/lang/Object;[Ljava/lang/Object;I)V" } : Jvm.MethodName)) ∈ lw_all := lw_g (lw_at lw_m1 135 rfl) rfl
theorem q191 : (Jvm.Cond.privateMethod ({ cls := "java/util/ArrayList", name := "add", desc := "(Ljava/lang/Object;[Ljava/lang/Object;I)V" } : Jvm.MethodName)) ∈ lw_tbl := lw_at lw_m1 136 rfl
theorem q192 : (Jvm.Cond.instanceMethod ({ cls := "java/util/ArrayList", name := "add", desc := "(Ljava/lang/Object;[Ljava/lang/Object;I)V" } : Jvm.MethodName)) ∈ lw_all := lw_g (lw_at lw_m1 137 rfl) rfl
theorem q193 : (Jvm.Cond.code ({ cls := "java/util/ArrayList", name := "add", desc := "(Ljava/lang/Object;[Ljava/lang/Object;I)V" } : Jvm.MethodName) prog_44_method_24_code (4 : Nat) (Option.none : Option Jvm.ClassFile.FieldType)) ∈ lw_all := lw_g (lw_at lw_m1 138 rfl) rfl
theorem q194 : (Jvm.Cond.methodLink "java/util/ArrayList" (129 : Nat) ({ cls := "java/util/ArrayList", name := "grow", desc := "()[Ljava/lang/Object;" } : Jvm.MethodName)) ∈ lw_all := lw_g (lw_at lw_m1 139 rfl) rfl
theorem q195 : (Jvm.Cond.privateMethod ({ cls := "java/util/ArrayList", name := "grow", desc := "()[Ljava/lang/Object;" } : Jvm.MethodName)) ∈ lw_tbl := lw_at lw_m1 140 rfl
theorem q196 : (Jvm.Cond.instanceMethod ({ cls := "java/util/ArrayList", name := "grow", desc := "()[Ljava/lang/Object;" } : Jvm.MethodName)) ∈ lw_all := lw_g (lw_at lw_m1 141 rfl) rfl
theorem q197 : (Jvm.Cond.code ({ cls := "java/util/ArrayList", name := "grow", desc := "()[Ljava/lang/Object;" } : Jvm.MethodName) prog_44_method_7_code (1 : Nat) (Option.some (Jvm.ClassFile.FieldType.array (Jvm.ClassFile.FieldType.object "java/lang/Object")))) ∈ lw_all := lw_g (lw_at lw_m1 142 rfl) rfl
theorem q198 : (Jvm.Cond.methodLink "java/util/ArrayList" (69 : Nat) ({ cls := "java/util/ArrayList", name := "grow", desc := "(I)[Ljava/lang/Object;" } : Jvm.MethodName)) ∈ lw_all := lw_g (lw_at lw_m1 143 rfl) rfl
theorem q199 : (Jvm.Cond.privateMethod ({ cls := "java/util/ArrayList", name := "grow", desc := "(I)[Ljava/lang/Object;" } : Jvm.MethodName)) ∈ lw_tbl := lw_at lw_m1 144 rfl
theorem q200 : (Jvm.Cond.instanceMethod ({ cls := "java/util/ArrayList", name := "grow", desc := "(I)[Ljava/lang/Object;" } : Jvm.MethodName)) ∈ lw_all := lw_g (lw_at lw_m1 145 rfl) rfl
theorem q201 : (Jvm.Cond.code ({ cls := "java/util/ArrayList", name := "grow", desc := "(I)[Ljava/lang/Object;" } : Jvm.MethodName) prog_44_method_6_code (4 : Nat) (Option.some (Jvm.ClassFile.FieldType.array (Jvm.ClassFile.FieldType.object "java/lang/Object")))) ∈ lw_all := lw_g (lw_at lw_m1 146 rfl) rfl
theorem q202 : (Jvm.Cond.methodLink "java/util/ArrayList" (73 : Nat) ({ cls := "jdk/internal/util/ArraysSupport", name := "newLength", desc := "(III)I" } : Jvm.MethodName)) ∈ lw_all := lw_g (lw_at lw_m1 147 rfl) rfl
theorem q212 : (Jvm.Cond.methodLink "java/util/ArrayList" (66 : Nat) ({ cls := "java/util/Arrays", name := "copyOf", desc := "([Ljava/lang/Object;I)[Ljava/lang/Object;" } : Jvm.MethodName)) ∈ lw_all := lw_g (lw_at lw_m1 157 rfl) rfl
theorem q239 : (Jvm.Cond.selects "java/util/ArrayList" ({ cls := "java/lang/Object", name := "getClass", desc := "()Ljava/lang/Class;" } : Jvm.MethodName) ({ cls := "java/lang/Object", name := "getClass", desc := "()Ljava/lang/Class;" } : Jvm.MethodName)) ∈ lw_all := lw_g (lw_at lw_m1 184 rfl) rfl
theorem q263 : (Jvm.Cond.methodLink "java/util/ArrayList" (79 : Nat) ({ cls := "java/lang/Math", name := "max", desc := "(II)I" } : Jvm.MethodName)) ∈ lw_all := lw_g (lw_at lw_m1 208 rfl) rfl
theorem q264 : (Jvm.Cond.classLink "java/util/ArrayList" (7 : Nat) "java/lang/Object") ∈ lw_all := lw_g (lw_at lw_m1 209 rfl) rfl
theorem q266 : (Jvm.Cond.instanceMethod ({ cls := "java/util/ArrayList", name := "get", desc := "(I)Ljava/lang/Object;" } : Jvm.MethodName)) ∈ lw_all := lw_g (lw_at lw_m1 211 rfl) rfl
theorem q267 : (Jvm.Cond.selects "java/util/ArrayList" ({ cls := "java/util/ArrayList", name := "get", desc := "(I)Ljava/lang/Object;" } : Jvm.MethodName) ({ cls := "java/util/ArrayList", name := "get", desc := "(I)Ljava/lang/Object;" } : Jvm.MethodName)) ∈ lw_all := lw_g (lw_at lw_m1 212 rfl) rfl
theorem q268 : (Jvm.Cond.code ({ cls := "java/util/ArrayList", name := "get", desc := "(I)Ljava/lang/Object;" } : Jvm.MethodName) prog_44_method_20_code (2 : Nat) (Option.some (Jvm.ClassFile.FieldType.object "java/lang/Object"))) ∈ lw_all := lw_g (lw_at lw_m1 213 rfl) rfl
theorem q269 : (Jvm.Cond.methodLink "java/util/ArrayList" (118 : Nat) ({ cls := "java/util/Objects", name := "checkIndex", desc := "(II)I" } : Jvm.MethodName)) ∈ lw_all := lw_g (lw_at lw_m1 214 rfl) rfl
theorem q275 : (Jvm.Cond.methodLink "java/util/ArrayList" (123 : Nat) ({ cls := "java/util/ArrayList", name := "elementData", desc := "(I)Ljava/lang/Object;" } : Jvm.MethodName)) ∈ lw_all := lw_g (lw_at lw_m1 220 rfl) rfl
theorem q276 : (Jvm.Cond.instanceMethod ({ cls := "java/util/ArrayList", name := "elementData", desc := "(I)Ljava/lang/Object;" } : Jvm.MethodName)) ∈ lw_all := lw_g (lw_at lw_m1 221 rfl) rfl
theorem q277 : (Jvm.Cond.selects "java/util/ArrayList" ({ cls := "java/util/ArrayList", name := "elementData", desc := "(I)Ljava/lang/Object;" } : Jvm.MethodName) ({ cls := "java/util/ArrayList", name := "elementData", desc := "(I)Ljava/lang/Object;" } : Jvm.MethodName)) ∈ lw_all := lw_g (lw_at lw_m1 222 rfl) rfl
theorem q278 : (Jvm.Cond.code ({ cls := "java/util/ArrayList", name := "elementData", desc := "(I)Ljava/lang/Object;" } : Jvm.MethodName) prog_44_method_18_code (2 : Nat) (Option.some (Jvm.ClassFile.FieldType.object "java/lang/Object"))) ∈ lw_all := lw_g (lw_at lw_m1 223 rfl) rfl
theorem q363 : (Jvm.Cond.castable "java/util/ArrayList" "java/util/List") ∈ lw_tbl := lw_at lw_m2 68 rfl
theorem q364 : (Jvm.Cond.selects "java/util/ArrayList" ({ cls := "java/util/List", name := "size", desc := "()I" } : Jvm.MethodName) ({ cls := "java/util/ArrayList", name := "size", desc := "()I" } : Jvm.MethodName)) ∈ lw_all := lw_g (lw_at lw_m2 69 rfl) rfl
theorem q365 : (Jvm.Cond.unhidden "java/util/ArrayList" "size" "()I") ∈ lw_tbl := lw_at lw_m2 70 rfl
theorem q366 : (Jvm.Cond.instanceMethod ({ cls := "java/util/ArrayList", name := "size", desc := "()I" } : Jvm.MethodName)) ∈ lw_all := lw_g (lw_at lw_m2 71 rfl) rfl
theorem q367 : (Jvm.Cond.publicMethod ({ cls := "java/util/ArrayList", name := "size", desc := "()I" } : Jvm.MethodName)) ∈ lw_tbl := lw_at lw_m2 72 rfl
theorem q368 : (Jvm.Cond.code ({ cls := "java/util/ArrayList", name := "size", desc := "()I" } : Jvm.MethodName) prog_44_method_8_code (1 : Nat) (Option.some Jvm.ClassFile.FieldType.int)) ∈ lw_all := lw_g (lw_at lw_m2 73 rfl) rfl
theorem q402 : (Jvm.Cond.selects "java/util/ArrayList" ({ cls := "java/util/AbstractList", name := "listIterator", desc := "()Ljava/util/ListIterator;" } : Jvm.MethodName) ({ cls := "java/util/ArrayList", name := "listIterator", desc := "()Ljava/util/ListIterator;" } : Jvm.MethodName)) ∈ lw_all := lw_g (lw_at lw_m2 107 rfl) rfl
theorem q403 : (Jvm.Cond.instanceMethod ({ cls := "java/util/ArrayList", name := "listIterator", desc := "()Ljava/util/ListIterator;" } : Jvm.MethodName)) ∈ lw_all := lw_g (lw_at lw_m2 108 rfl) rfl
theorem q404 : (Jvm.Cond.code ({ cls := "java/util/ArrayList", name := "listIterator", desc := "()Ljava/util/ListIterator;" } : Jvm.MethodName) prog_44_method_54_code (1 : Nat) (Option.some (Jvm.ClassFile.FieldType.object "java/util/ListIterator"))) ∈ lw_all := lw_g (lw_at lw_m2 109 rfl) rfl
theorem q405 : (Jvm.Cond.classLink "java/util/ArrayList" (262 : Nat) "java/util/ArrayList$ListItr") ∈ lw_all := lw_g (lw_at lw_m2 110 rfl) rfl
theorem q407 : (Jvm.Cond.methodLink "java/util/ArrayList" (264 : Nat) ({ cls := "java/util/ArrayList$ListItr", name := "<init>", desc := "(Ljava/util/ArrayList;I)V" } : Jvm.MethodName)) ∈ lw_all := lw_g (lw_at lw_m2 112 rfl) rfl
theorem q777 : (Jvm.Cond.instanceMethod ({ cls := "java/util/ArrayList", name := "listIterator", desc := "(I)Ljava/util/ListIterator;" } : Jvm.MethodName)) ∈ lw_all := lw_g (lw_at lw_m4 2 rfl) rfl
theorem q778 : (Jvm.Cond.code ({ cls := "java/util/ArrayList", name := "listIterator", desc := "(I)Ljava/util/ListIterator;" } : Jvm.MethodName) prog_44_method_53_code (2 : Nat) (Option.some (Jvm.ClassFile.FieldType.object "java/util/ListIterator"))) ∈ lw_all := lw_g (lw_at lw_m4 3 rfl) rfl
theorem q779 : (Jvm.Cond.methodLink "java/util/ArrayList" (135 : Nat) ({ cls := "java/util/ArrayList", name := "rangeCheckForAdd", desc := "(I)V" } : Jvm.MethodName)) ∈ lw_all := lw_g (lw_at lw_m4 4 rfl) rfl
theorem q780 : (Jvm.Cond.privateMethod ({ cls := "java/util/ArrayList", name := "rangeCheckForAdd", desc := "(I)V" } : Jvm.MethodName)) ∈ lw_tbl := lw_at lw_m4 5 rfl
theorem q781 : (Jvm.Cond.instanceMethod ({ cls := "java/util/ArrayList", name := "rangeCheckForAdd", desc := "(I)V" } : Jvm.MethodName)) ∈ lw_all := lw_g (lw_at lw_m4 6 rfl) rfl
theorem q782 : (Jvm.Cond.code ({ cls := "java/util/ArrayList", name := "rangeCheckForAdd", desc := "(I)V" } : Jvm.MethodName) prog_44_method_45_code (2 : Nat) (Option.none : Option Jvm.ClassFile.FieldType)) ∈ lw_all := lw_g (lw_at lw_m4 7 rfl) rfl
theorem q783 : (Jvm.Cond.classLink "java/util/ArrayList" (187 : Nat) "java/lang/IndexOutOfBoundsException") ∈ lw_all := lw_g (lw_at lw_m4 8 rfl) rfl
theorem q784 : (Jvm.Cond.methodLink "java/util/ArrayList" (198 : Nat) ({ cls := "java/util/ArrayList", name := "outOfBoundsMsg", desc := "(I)Ljava/lang/String;" } : Jvm.MethodName)) ∈ lw_all := lw_g (lw_at lw_m4 9 rfl) rfl
theorem q785 : (Jvm.Cond.privateMethod ({ cls := "java/util/ArrayList", name := "outOfBoundsMsg", desc := "(I)Ljava/lang/String;" } : Jvm.MethodName)) ∈ lw_tbl := lw_at lw_m4 10 rfl
theorem q786 : (Jvm.Cond.instanceMethod ({ cls := "java/util/ArrayList", name := "outOfBoundsMsg", desc := "(I)Ljava/lang/String;" } : Jvm.MethodName)) ∈ lw_all := lw_g (lw_at lw_m4 11 rfl) rfl
theorem q787 : (Jvm.Cond.code ({ cls := "java/util/ArrayList", name := "outOfBoundsMsg", desc := "(I)Ljava/lang/String;" } : Jvm.MethodName) prog_44_method_46_code (2 : Nat) (Option.some (Jvm.ClassFile.FieldType.object "java/lang/String"))) ∈ lw_all := lw_g (lw_at lw_m4 12 rfl) rfl
theorem q788 : (Jvm.Cond.classLink "java/util/ArrayList" (20 : Nat) "java/lang/StringBuilder") ∈ lw_all := lw_g (lw_at lw_m4 13 rfl) rfl
theorem q789 : (Jvm.Cond.methodLink "java/util/ArrayList" (22 : Nat) ({ cls := "java/lang/StringBuilder", name := "<init>", desc := "()V" } : Jvm.MethodName)) ∈ lw_all := lw_g (lw_at lw_m4 14 rfl) rfl
theorem q790 : (Jvm.Cond.stringRef "java/util/ArrayList" (201 : Nat) "Index: ") ∈ lw_tbl := lw_at lw_m4 15 rfl
theorem q791 : (Jvm.Cond.methodLink "java/util/ArrayList" (25 : Nat) ({ cls := "java/lang/StringBuilder", name := "append", desc := "(Ljava/lang/String;)Ljava/lang/StringBuilder;" } : Jvm.MethodName)) ∈ lw_all := lw_g (lw_at lw_m4 16 rfl) rfl
theorem q792 : (Jvm.Cond.methodLink "java/util/ArrayList" (29 : Nat) ({ cls := "java/lang/StringBuilder", name := "append", desc := "(I)Ljava/lang/StringBuilder;" } : Jvm.MethodName)) ∈ lw_all := lw_g (lw_at lw_m4 17 rfl) rfl
theorem q793 : (Jvm.Cond.stringRef "java/util/ArrayList" (203 : Nat) ", Size: ") ∈ lw_tbl := lw_at lw_m4 18 rfl
theorem q794 : (Jvm.Cond.methodLink "java/util/ArrayList" (32 : Nat) ({ cls := "java/lang/StringBuilder", name := "toString", desc := "()Ljava/lang/String;" } : Jvm.MethodName)) ∈ lw_all := lw_g (lw_at lw_m4 19 rfl) rfl
theorem q795 : (Jvm.Cond.methodLink "java/util/ArrayList" (193 : Nat) ({ cls := "java/lang/IndexOutOfBoundsException", name := "<init>", desc := "(Ljava/lang/String;)V" } : Jvm.MethodName)) ∈ lw_all := lw_g (lw_at lw_m4 20 rfl) rfl
theorem q848 : (Jvm.Cond.selects "java/util/ArrayList" ({ cls := "java/util/AbstractList", name := "listIterator", desc := "(I)Ljava/util/ListIterator;" } : Jvm.MethodName) ({ cls := "java/util/ArrayList", name := "listIterator", desc := "(I)Ljava/util/ListIterator;" } : Jvm.MethodName)) ∈ lw_all := lw_g (lw_at lw_m4 73 rfl) rfl
theorem q861 : (Jvm.Cond.selects "java/util/ArrayList" ({ cls := "java/util/AbstractList", name := "size", desc := "()I" } : Jvm.MethodName) ({ cls := "java/util/ArrayList", name := "size", desc := "()I" } : Jvm.MethodName)) ∈ lw_all := lw_g (lw_at lw_m4 86 rfl) rfl
theorem q917 : (Jvm.Cond.selects "java/util/ArrayList" ({ cls := "java/util/List", name := "listIterator", desc := "()Ljava/util/ListIterator;" } : Jvm.MethodName) ({ cls := "java/util/ArrayList", name := "listIterator", desc := "()Ljava/util/ListIterator;" } : Jvm.MethodName)) ∈ lw_all := lw_g (lw_at lw_m4 142 rfl) rfl
theorem q918 : (Jvm.Cond.unhidden "java/util/ArrayList" "listIterator" "()Ljava/util/ListIterator;") ∈ lw_tbl := lw_at lw_m4 143 rfl
theorem q919 : (Jvm.Cond.publicMethod ({ cls := "java/util/ArrayList", name := "listIterator", desc := "()Ljava/util/ListIterator;" } : Jvm.MethodName)) ∈ lw_tbl := lw_at lw_m4 144 rfl
theorem q1009 : (Jvm.Cond.selects "java/util/ArrayList" ({ cls := "java/util/AbstractList", name := "get", desc := "(I)Ljava/lang/Object;" } : Jvm.MethodName) ({ cls := "java/util/ArrayList", name := "get", desc := "(I)Ljava/lang/Object;" } : Jvm.MethodName)) ∈ lw_all := lw_g (lw_at lw_m4 234 rfl) rfl
theorem q1138 : (Jvm.Cond.selects "java/util/ArrayList" ({ cls := "java/util/List", name := "equals", desc := "(Ljava/lang/Object;)Z" } : Jvm.MethodName) ({ cls := "java/util/ArrayList", name := "equals", desc := "(Ljava/lang/Object;)Z" } : Jvm.MethodName)) ∈ lw_all := lw_g (lw_at lw_m5 123 rfl) rfl
theorem q1139 : (Jvm.Cond.unhidden "java/util/ArrayList" "equals" "(Ljava/lang/Object;)Z") ∈ lw_tbl := lw_at lw_m5 124 rfl
theorem q1140 : (Jvm.Cond.instanceMethod ({ cls := "java/util/ArrayList", name := "equals", desc := "(Ljava/lang/Object;)Z" } : Jvm.MethodName)) ∈ lw_all := lw_g (lw_at lw_m5 125 rfl) rfl
theorem q1141 : (Jvm.Cond.publicMethod ({ cls := "java/util/ArrayList", name := "equals", desc := "(Ljava/lang/Object;)Z" } : Jvm.MethodName)) ∈ lw_tbl := lw_at lw_m5 126 rfl
theorem q1142 : (Jvm.Cond.code ({ cls := "java/util/ArrayList", name := "equals", desc := "(Ljava/lang/Object;)Z" } : Jvm.MethodName) prog_44_method_32_code (4 : Nat) (Option.some Jvm.ClassFile.FieldType.boolean)) ∈ lw_all := lw_g (lw_at lw_m5 127 rfl) rfl
theorem q1143 : (Jvm.Cond.classLink "java/util/ArrayList" (148 : Nat) "java/util/List") ∈ lw_all := lw_g (lw_at lw_m5 128 rfl) rfl
theorem q1144 : (Jvm.Cond.methodLink "java/util/ArrayList" (111 : Nat) ({ cls := "java/lang/Object", name := "getClass", desc := "()Ljava/lang/Class;" } : Jvm.MethodName)) ∈ lw_all := lw_g (lw_at lw_m5 129 rfl) rfl
theorem q1145 : (Jvm.Cond.classLink "java/util/ArrayList" (10 : Nat) "java/util/ArrayList") ∈ lw_all := lw_g (lw_at lw_m5 130 rfl) rfl
theorem q1146 : (Jvm.Cond.methodLink "java/util/ArrayList" (150 : Nat) ({ cls := "java/util/ArrayList", name := "equalsArrayList", desc := "(Ljava/util/ArrayList;)Z" } : Jvm.MethodName)) ∈ lw_all := lw_g (lw_at lw_m5 131 rfl) rfl
theorem q1147 : (Jvm.Cond.privateMethod ({ cls := "java/util/ArrayList", name := "equalsArrayList", desc := "(Ljava/util/ArrayList;)Z" } : Jvm.MethodName)) ∈ lw_tbl := lw_at lw_m5 132 rfl
theorem q1148 : (Jvm.Cond.instanceMethod ({ cls := "java/util/ArrayList", name := "equalsArrayList", desc := "(Ljava/util/ArrayList;)Z" } : Jvm.MethodName)) ∈ lw_all := lw_g (lw_at lw_m5 133 rfl) rfl
theorem q1149 : (Jvm.Cond.code ({ cls := "java/util/ArrayList", name := "equalsArrayList", desc := "(Ljava/util/ArrayList;)Z" } : Jvm.MethodName) prog_44_method_34_code (8 : Nat) (Option.some Jvm.ClassFile.FieldType.boolean)) ∈ lw_all := lw_g (lw_at lw_m5 134 rfl) rfl
theorem q1150 : (Jvm.Cond.methodLink "java/util/ArrayList" (177 : Nat) ({ cls := "java/util/Objects", name := "equals", desc := "(Ljava/lang/Object;Ljava/lang/Object;)Z" } : Jvm.MethodName)) ∈ lw_all := lw_g (lw_at lw_m5 135 rfl) rfl
theorem q1154 : (Jvm.Cond.methodLink "java/util/ArrayList" (158 : Nat) ({ cls := "java/util/ArrayList", name := "checkForComodification", desc := "(I)V" } : Jvm.MethodName)) ∈ lw_all := lw_g (lw_at lw_m5 139 rfl) rfl
theorem q1155 : (Jvm.Cond.privateMethod ({ cls := "java/util/ArrayList", name := "checkForComodification", desc := "(I)V" } : Jvm.MethodName)) ∈ lw_tbl := lw_at lw_m5 140 rfl
theorem q1156 : (Jvm.Cond.instanceMethod ({ cls := "java/util/ArrayList", name := "checkForComodification", desc := "(I)V" } : Jvm.MethodName)) ∈ lw_all := lw_g (lw_at lw_m5 141 rfl) rfl
theorem q1157 : (Jvm.Cond.code ({ cls := "java/util/ArrayList", name := "checkForComodification", desc := "(I)V" } : Jvm.MethodName) prog_44_method_35_code (2 : Nat) (Option.none : Option Jvm.ClassFile.FieldType)) ∈ lw_all := lw_g (lw_at lw_m5 142 rfl) rfl
theorem q1158 : (Jvm.Cond.methodLink "java/util/ArrayList" (154 : Nat) ({ cls := "java/util/ArrayList", name := "equalsRange", desc := "(Ljava/util/List;II)Z" } : Jvm.MethodName)) ∈ lw_all := lw_g (lw_at lw_m5 143 rfl) rfl
theorem q1159 : (Jvm.Cond.instanceMethod ({ cls := "java/util/ArrayList", name := "equalsRange", desc := "(Ljava/util/List;II)Z" } : Jvm.MethodName)) ∈ lw_all := lw_g (lw_at lw_m5 144 rfl) rfl
theorem q1160 : (Jvm.Cond.selects "java/util/ArrayList" ({ cls := "java/util/ArrayList", name := "equalsRange", desc := "(Ljava/util/List;II)Z" } : Jvm.MethodName) ({ cls := "java/util/ArrayList", name := "equalsRange", desc := "(Ljava/util/List;II)Z" } : Jvm.MethodName)) ∈ lw_all := lw_g (lw_at lw_m5 145 rfl) rfl
theorem q1161 : (Jvm.Cond.code ({ cls := "java/util/ArrayList", name := "equalsRange", desc := "(Ljava/util/List;II)Z" } : Jvm.MethodName) prog_44_method_33_code (6 : Nat) (Option.some Jvm.ClassFile.FieldType.boolean)) ∈ lw_all := lw_g (lw_at lw_m5 146 rfl) rfl
theorem q1162 : (Jvm.Cond.interfaceEntry "java/util/ArrayList" (164 : Nat)) ∈ lw_tbl := lw_at lw_m5 147 rfl
theorem q1163 : (Jvm.Cond.methodLink "java/util/ArrayList" (164 : Nat) ({ cls := "java/util/List", name := "iterator", desc := "()Ljava/util/Iterator;" } : Jvm.MethodName)) ∈ lw_all := lw_g (lw_at lw_m5 148 rfl) rfl
theorem q1178 : (Jvm.Cond.selects "java/util/ArrayList" ({ cls := "java/util/List", name := "iterator", desc := "()Ljava/util/Iterator;" } : Jvm.MethodName) ({ cls := "java/util/ArrayList", name := "iterator", desc := "()Ljava/util/Iterator;" } : Jvm.MethodName)) ∈ lw_all := lw_g (lw_at lw_m5 163 rfl) rfl
theorem q1179 : (Jvm.Cond.unhidden "java/util/ArrayList" "iterator" "()Ljava/util/Iterator;") ∈ lw_tbl := lw_at lw_m5 164 rfl
theorem q1180 : (Jvm.Cond.instanceMethod ({ cls := "java/util/ArrayList", name := "iterator", desc := "()Ljava/util/Iterator;" } : Jvm.MethodName)) ∈ lw_all := lw_g (lw_at lw_m5 165 rfl) rfl
theorem q1181 : (Jvm.Cond.publicMethod ({ cls := "java/util/ArrayList", name := "iterator", desc := "()Ljava/util/Iterator;" } : Jvm.MethodName)) ∈ lw_tbl := lw_at lw_m5 166 rfl
theorem q1182 : (Jvm.Cond.code ({ cls := "java/util/ArrayList", name := "iterator", desc := "()Ljava/util/Iterator;" } : Jvm.MethodName) prog_44_method_55_code (1 : Nat) (Option.some (Jvm.ClassFile.FieldType.object "java/util/Iterator"))) ∈ lw_all := lw_g (lw_at lw_m5 167 rfl) rfl
theorem q1183 : (Jvm.Cond.classLink "java/util/ArrayList" (267 : Nat) "java/util/ArrayList$Itr") ∈ lw_all := lw_g (lw_at lw_m5 168 rfl) rfl
theorem q1185 : (Jvm.Cond.methodLink "java/util/ArrayList" (269 : Nat) ({ cls := "java/util/ArrayList$Itr", name := "<init>", desc := "(Ljava/util/ArrayList;)V" } : Jvm.MethodName)) ∈ lw_all := lw_g (lw_at lw_m5 170 rfl) rfl
theorem q1217 : (Jvm.Cond.interfaceEntry "java/util/ArrayList" (168 : Nat)) ∈ lw_tbl := lw_at lw_m5 202 rfl
theorem q1218 : (Jvm.Cond.methodLink "java/util/ArrayList" (168 : Nat) ({ cls := "java/util/Iterator", name := "hasNext", desc := "()Z" } : Jvm.MethodName)) ∈ lw_all := lw_g (lw_at lw_m5 203 rfl) rfl
theorem q1241 : (Jvm.Cond.interfaceEntry "java/util/ArrayList" (174 : Nat)) ∈ lw_tbl := lw_at lw_m5 226 rfl
theorem q1242 : (Jvm.Cond.methodLink "java/util/ArrayList" (174 : Nat) ({ cls := "java/util/Iterator", name := "next", desc := "()Ljava/lang/Object;" } : Jvm.MethodName)) ∈ lw_all := lw_g (lw_at lw_m5 227 rfl) rfl
theorem q1282 : (Jvm.Cond.selects "java/util/ArrayList" ({ cls := "java/util/AbstractList", name := "iterator", desc := "()Ljava/util/Iterator;" } : Jvm.MethodName) ({ cls := "java/util/ArrayList", name := "iterator", desc := "()Ljava/util/Iterator;" } : Jvm.MethodName)) ∈ lw_all := lw_g (lw_at lw_m6 27 rfl) rfl
theorem q1378 : (Jvm.Cond.selects "java/util/ArrayList" ({ cls := "java/util/List", name := "hashCode", desc := "()I" } : Jvm.MethodName) ({ cls := "java/util/ArrayList", name := "hashCode", desc := "()I" } : Jvm.MethodName)) ∈ lw_all := lw_g (lw_at lw_m6 123 rfl) rfl
theorem q1379 : (Jvm.Cond.unhidden "java/util/ArrayList" "hashCode" "()I") ∈ lw_tbl := lw_at lw_m6 124 rfl
theorem q1380 : (Jvm.Cond.instanceMethod ({ cls := "java/util/ArrayList", name := "hashCode", desc := "()I" } : Jvm.MethodName)) ∈ lw_all := lw_g (lw_at lw_m6 125 rfl) rfl
theorem q1381 : (Jvm.Cond.publicMethod ({ cls := "java/util/ArrayList", name := "hashCode", desc := "()I" } : Jvm.MethodName)) ∈ lw_tbl := lw_at lw_m6 126 rfl
theorem q1382 : (Jvm.Cond.code ({ cls := "java/util/ArrayList", name := "hashCode", desc := "()I" } : Jvm.MethodName) prog_44_method_36_code (3 : Nat) (Option.some Jvm.ClassFile.FieldType.int)) ∈ lw_all := lw_g (lw_at lw_m6 127 rfl) rfl
theorem q1383 : (Jvm.Cond.methodLink "java/util/ArrayList" (180 : Nat) ({ cls := "java/util/ArrayList", name := "hashCodeRange", desc := "(II)I" } : Jvm.MethodName)) ∈ lw_all := lw_g (lw_at lw_m6 128 rfl) rfl
theorem q1384 : (Jvm.Cond.instanceMethod ({ cls := "java/util/ArrayList", name := "hashCodeRange", desc := "(II)I" } : Jvm.MethodName)) ∈ lw_all := lw_g (lw_at lw_m6 129 rfl) rfl
theorem q1385 : (Jvm.Cond.selects "java/util/ArrayList" ({ cls := "java/util/ArrayList", name := "hashCodeRange", desc := "(II)I" } : Jvm.MethodName) ({ cls := "java/util/ArrayList", name := "hashCodeRange", desc := "(II)I" } : Jvm.MethodName)) ∈ lw_all := lw_g (lw_at lw_m6 130 rfl) rfl
theorem q1386 : (Jvm.Cond.code ({ cls := "java/util/ArrayList", name := "hashCodeRange", desc := "(II)I" } : Jvm.MethodName) prog_44_method_37_code (7 : Nat) (Option.some Jvm.ClassFile.FieldType.int)) ∈ lw_all := lw_g (lw_at lw_m6 131 rfl) rfl
theorem q1387 : (Jvm.Cond.methodLink "java/util/ArrayList" (183 : Nat) ({ cls := "java/lang/Object", name := "hashCode", desc := "()I" } : Jvm.MethodName)) ∈ lw_all := lw_g (lw_at lw_m6 132 rfl) rfl
theorem q1450 : (Jvm.Cond.selects "java/util/ArrayList" ({ cls := "java/util/List", name := "indexOf", desc := "(Ljava/lang/Object;)I" } : Jvm.MethodName) ({ cls := "java/util/ArrayList", name := "indexOf", desc := "(Ljava/lang/Object;)I" } : Jvm.MethodName)) ∈ lw_all := lw_g (lw_at lw_m6 195 rfl) rfl
theorem q1451 : (Jvm.Cond.unhidden "java/util/ArrayList" "indexOf" "(Ljava/lang/Object;)I") ∈ lw_tbl := lw_at lw_m6 196 rfl
theorem q1452 : (Jvm.Cond.instanceMethod ({ cls := "java/util/ArrayList", name := "indexOf", desc := "(Ljava/lang/Object;)I" } : Jvm.MethodName)) ∈ lw_all := lw_g (lw_at lw_m6 197 rfl) rfl
theorem q1453 : (Jvm.Cond.publicMethod ({ cls := "java/util/ArrayList", name := "indexOf", desc := "(Ljava/lang/Object;)I" } : Jvm.MethodName)) ∈ lw_tbl := lw_at lw_m6 198 rfl
theorem q1454 : (Jvm.Cond.code ({ cls := "java/util/ArrayList", name := "indexOf", desc := "(Ljava/lang/Object;)I" } : Jvm.MethodName) prog_44_method_11_code (2 : Nat) (Option.some Jvm.ClassFile.FieldType.int)) ∈ lw_all := lw_g (lw_at lw_m6 199 rfl) rfl
theorem q1455 : (Jvm.Cond.methodLink "java/util/ArrayList" (89 : Nat) ({ cls := "java/util/ArrayList", name := "indexOfRange", desc := "(Ljava/lang/Object;II)I" } : Jvm.MethodName)) ∈ lw_all := lw_g (lw_at lw_m6 200 rfl) rfl
theorem q1456 : (Jvm.Cond.instanceMethod ({ cls := "java/util/ArrayList", name := "indexOfRange", desc := "(Ljava/lang/Object;II)I" } : Jvm.MethodName)) ∈ lw_all := lw_g (lw_at lw_m6 201 rfl) rfl
theorem q1457 : (Jvm.Cond.selects "java/util/ArrayList" ({ cls := "java/util/ArrayList", name := "indexOfRange", desc := "(Ljava/lang/Object;II)I" } : Jvm.MethodName) ({ cls := "java/util/ArrayList", name := "indexOfRange", desc := "(Ljava/lang/Object;II)I" } : Jvm.MethodName)) ∈ lw_all := lw_g (lw_at lw_m6 202 rfl) rfl
theorem q1458 : (Jvm.Cond.code ({ cls := "java/util/ArrayList", name := "indexOfRange", desc := "(Ljava/lang/Object;II)I" } : Jvm.MethodName) prog_44_method_12_code (6 : Nat) (Option.some Jvm.ClassFile.FieldType.int)) ∈ lw_all := lw_g (lw_at lw_m6 203 rfl) rfl
theorem q1459 : (Jvm.Cond.methodLink "java/util/ArrayList" (93 : Nat) ({ cls := "java/lang/Object", name := "equals", desc := "(Ljava/lang/Object;)Z" } : Jvm.MethodName)) ∈ lw_all := lw_g (lw_at lw_m6 204 rfl) rfl
theorem q1548 : (Jvm.Cond.selects "java/util/ArrayList" ({ cls := "java/util/List", name := "lastIndexOf", desc := "(Ljava/lang/Object;)I" } : Jvm.MethodName) ({ cls := "java/util/ArrayList", name := "lastIndexOf", desc := "(Ljava/lang/Object;)I" } : Jvm.MethodName)) ∈ lw_all := lw_g (lw_at lw_m7 53 rfl) rfl
theorem q1549 : (Jvm.Cond.unhidden "java/util/ArrayList" "lastIndexOf" "(Ljava/lang/Object;)I") ∈ lw_tbl := lw_at lw_m7 54 rfl
theorem q1550 : (Jvm.Cond.instanceMethod ({ cls := "java/util/ArrayList", name := "lastIndexOf", desc := "(Ljava/lang/Object;)I" } : Jvm.MethodName)) ∈ lw_all := lw_g (lw_at lw_m7 55 rfl) rfl
theorem q1551 : (Jvm.Cond.publicMethod ({ cls := "java/util/ArrayList", name := "lastIndexOf", desc := "(Ljava/lang/Object;)I" } : Jvm.MethodName)) ∈ lw_tbl := lw_at lw_m7 56 rfl
theorem q1552 : (Jvm.Cond.code ({ cls := "java/util/ArrayList", name := "lastIndexOf", desc := "(Ljava/lang/Object;)I" } : Jvm.MethodName) prog_44_method_13_code (2 : Nat) (Option.some Jvm.ClassFile.FieldType.int)) ∈ lw_all := lw_g (lw_at lw_m7 57 rfl) rfl
theorem q1553 : (Jvm.Cond.methodLink "java/util/ArrayList" (97 : Nat) ({ cls := "java/util/ArrayList", name := "lastIndexOfRange", desc := "(Ljava/lang/Object;II)I" } : Jvm.MethodName)) ∈ lw_all := lw_g (lw_at lw_m7 58 rfl) rfl
theorem q1554 : (Jvm.Cond.instanceMethod ({ cls := "java/util/ArrayList", name := "lastIndexOfRange", desc := "(Ljava/lang/Object;II)I" } : Jvm.MethodName)) ∈ lw_all := lw_g (lw_at lw_m7 59 rfl) rfl
theorem q1555 : (Jvm.Cond.selects "java/util/ArrayList" ({ cls := "java/util/ArrayList", name := "lastIndexOfRange", desc := "(Ljava/lang/Object;II)I" } : Jvm.MethodName) ({ cls := "java/util/ArrayList", name := "lastIndexOfRange", desc := "(Ljava/lang/Object;II)I" } : Jvm.MethodName)) ∈ lw_all := lw_g (lw_at lw_m7 60 rfl) rfl
theorem q1556 : (Jvm.Cond.code ({ cls := "java/util/ArrayList", name := "lastIndexOfRange", desc := "(Ljava/lang/Object;II)I" } : Jvm.MethodName) prog_44_method_14_code (6 : Nat) (Option.some Jvm.ClassFile.FieldType.int)) ∈ lw_all := lw_g (lw_at lw_m7 61 rfl) rfl
theorem q1574 : (Jvm.Cond.selects "java/util/ArrayList" ({ cls := "java/util/List", name := "get", desc := "(I)Ljava/lang/Object;" } : Jvm.MethodName) ({ cls := "java/util/ArrayList", name := "get", desc := "(I)Ljava/lang/Object;" } : Jvm.MethodName)) ∈ lw_all := lw_g (lw_at lw_m7 79 rfl) rfl
theorem q1575 : (Jvm.Cond.unhidden "java/util/ArrayList" "get" "(I)Ljava/lang/Object;") ∈ lw_tbl := lw_at lw_m7 80 rfl
theorem q1576 : (Jvm.Cond.publicMethod ({ cls := "java/util/ArrayList", name := "get", desc := "(I)Ljava/lang/Object;" } : Jvm.MethodName)) ∈ lw_tbl := lw_at lw_m7 81 rfl
theorem q1632 : (Jvm.Cond.selects "java/util/ArrayList" ({ cls := "java/util/List", name := "listIterator", desc := "(I)Ljava/util/ListIterator;" } : Jvm.MethodName) ({ cls := "java/util/ArrayList", name := "listIterator", desc := "(I)Ljava/util/ListIterator;" } : Jvm.MethodName)) ∈ lw_all := lw_g (lw_at lw_m7 137 rfl) rfl
theorem q1633 : (Jvm.Cond.unhidden "java/util/ArrayList" "listIterator" "(I)Ljava/util/ListIterator;") ∈ lw_tbl := lw_at lw_m7 138 rfl
theorem q1634 : (Jvm.Cond.publicMethod ({ cls := "java/util/ArrayList", name := "listIterator", desc := "(I)Ljava/util/ListIterator;" } : Jvm.MethodName)) ∈ lw_tbl := lw_at lw_m7 139 rfl
theorem q1665 : (Jvm.Cond.instanceMethod ({ cls := "java/util/ArrayList", name := "add", desc := "(ILjava/lang/Object;)V" } : Jvm.MethodName)) ∈ lw_all := lw_g (lw_at lw_m7 170 rfl) rfl
theorem q1666 : (Jvm.Cond.code ({ cls := "java/util/ArrayList", name := "add", desc := "(ILjava/lang/Object;)V" } : Jvm.MethodName) prog_44_method_26_code (5 : Nat) (Option.none : Option Jvm.ClassFile.FieldType)) ∈ lw_all := lw_g (lw_at lw_m7 171 rfl) rfl
theorem q1667 : (Jvm.Cond.methodLink "java/util/ArrayList" (112 : Nat) ({ cls := "java/lang/System", name := "arraycopy", desc := "(Ljava/lang/Object;ILjava/lang/Object;II)V" } : Jvm.MethodName)) ∈ lw_all := lw_g (lw_at lw_m7 172 rfl) rfl
theorem q1680 : (Jvm.Cond.selects "java/util/ArrayList" ({ cls := "java/util/AbstractList", name := "add", desc := "(ILjava/lang/Object;)V" } : Jvm.MethodName) ({ cls := "java/util/ArrayList", name := "add", desc := "(ILjava/lang/Object;)V" } : Jvm.MethodName)) ∈ lw_all := lw_g (lw_at lw_m7 185 rfl) rfl
theorem q1707 : (Jvm.Cond.selects "java/util/ArrayList" ({ cls := "java/util/List", name := "add", desc := "(Ljava/lang/Object;)Z" } : Jvm.MethodName) ({ cls := "java/util/ArrayList", name := "add", desc := "(Ljava/lang/Object;)Z" } : Jvm.MethodName)) ∈ lw_all := lw_g (lw_at lw_m7 212 rfl) rfl
theorem q1708 : (Jvm.Cond.unhidden "java/util/ArrayList" "add" "(Ljava/lang/Object;)Z") ∈ lw_tbl := lw_at lw_m7 213 rfl
theorem q1709 : (Jvm.Cond.publicMethod ({ cls := "java/util/ArrayList", name := "add", desc := "(Ljava/lang/Object;)Z" } : Jvm.MethodName)) ∈ lw_tbl := lw_at lw_m7 214 rfl
theorem q1730 : (Jvm.Cond.instanceMethod ({ cls := "java/util/ArrayList", name := "removeRange", desc := "(II)V" } : Jvm.MethodName)) ∈ lw_all := lw_g (lw_at lw_m7 235 rfl) rfl
theorem q1731 : (Jvm.Cond.code ({ cls := "java/util/ArrayList", name := "removeRange", desc := "(II)V" } : Jvm.MethodName) prog_44_method_43_code (3 : Nat) (Option.none : Option Jvm.ClassFile.FieldType)) ∈ lw_all := lw_g (lw_at lw_m7 236 rfl) rfl
theorem q1732 : (Jvm.Cond.methodLink "java/util/ArrayList" (189 : Nat) ({ cls := "java/util/ArrayList", name := "outOfBoundsMsg", desc := "(II)Ljava/lang/String;" } : Jvm.MethodName)) ∈ lw_all := lw_g (lw_at lw_m7 237 rfl) rfl
theorem q1733 : (Jvm.Cond.static ({ cls := "java/util/ArrayList", name := "outOfBoundsMsg", desc := "(II)Ljava/lang/String;" } : Jvm.MethodName)) ∈ lw_all := lw_g (lw_at lw_m7 238 rfl) rfl
theorem q1734 : (Jvm.Cond.code ({ cls := "java/util/ArrayList", name := "outOfBoundsMsg", desc := "(II)Ljava/lang/String;" } : Jvm.MethodName) prog_44_method_47_code (2 : Nat) (Option.some (Jvm.ClassFile.FieldType.object "java/lang/String"))) ∈ lw_all := lw_g (lw_at lw_m7 239 rfl) rfl
theorem q1735 : (Jvm.Cond.stringRef "java/util/ArrayList" (205 : Nat) "From Index: ") ∈ lw_tbl := lw_at lw_m8 0 rfl
theorem q1736 : (Jvm.Cond.stringRef "java/util/ArrayList" (207 : Nat) " > To Index: ") ∈ lw_tbl := lw_at lw_m8 1 rfl
theorem q1737 : (Jvm.Cond.methodLink "java/util/ArrayList" (194 : Nat) ({ cls := "java/util/ArrayList", name := "shiftTailOverGap", desc := "([Ljava/lang/Object;II)V" } : Jvm.MethodName)) ∈ lw_all := lw_g (lw_at lw_m8 2 rfl) rfl
theorem q1738 : (Jvm.Cond.privateMethod ({ cls := "java/util/ArrayList", name := "shiftTailOverGap", desc := "([Ljava/lang/Object;II)V" } : Jvm.MethodName)) ∈ lw_tbl := lw_at lw_m8 3 rfl
theorem q1739 : (Jvm.Cond.instanceMethod ({ cls := "java/util/ArrayList", name := "shiftTailOverGap", desc := "([Ljava/lang/Object;II)V" } : Jvm.MethodName)) ∈ lw_all := lw_g (lw_at lw_m8 4 rfl) rfl
theorem q1740 : (Jvm.Cond.code ({ cls := "java/util/ArrayList", name := "shiftTailOverGap", desc := "([Ljava/lang/Object;II)V" } : Jvm.MethodName) prog_44_method_44_code (6 : Nat) (Option.none : Option Jvm.ClassFile.FieldType)) ∈ lw_all := lw_g (lw_at lw_m8 5 rfl) rfl
theorem q1745 : (Jvm.Cond.selects "java/util/ArrayList" ({ cls := "java/util/AbstractList", name := "removeRange", desc := "(II)V" } : Jvm.MethodName) ({ cls := "java/util/ArrayList", name := "removeRange", desc := "(II)V" } : Jvm.MethodName)) ∈ lw_all := lw_g (lw_at lw_m8 10 rfl) rfl
theorem q1780 : (Jvm.Cond.instanceMethod ({ cls := "java/util/ArrayList", name := "remove", desc := "(I)Ljava/lang/Object;" } : Jvm.MethodName)) ∈ lw_all := lw_g (lw_at lw_m8 45 rfl) rfl
theorem q1781 : (Jvm.Cond.code ({ cls := "java/util/ArrayList", name := "remove", desc := "(I)Ljava/lang/Object;" } : Jvm.MethodName) prog_44_method_29_code (4 : Nat) (Option.some (Jvm.ClassFile.FieldType.object "java/lang/Object"))) ∈ lw_all := lw_g (lw_at lw_m8 46 rfl) rfl
theorem q1782 : (Jvm.Cond.methodLink "java/util/ArrayList" (144 : Nat) ({ cls := "java/util/ArrayList", name := "fastRemove", desc := "([Ljava/lang/Object;I)V" } : Jvm.MethodName)) ∈ lw_all := lw_g (lw_at lw_m8 47 rfl) rfl
theorem q1783 : (Jvm.Cond.privateMethod ({ cls := "java/util/ArrayList", name := "fastRemove", desc := "([Ljava/lang/Object;I)V" } : Jvm.MethodName)) ∈ lw_tbl := lw_at lw_m8 48 rfl
theorem q1784 : (Jvm.Cond.instanceMethod ({ cls := "java/util/ArrayList", name := "fastRemove", desc := "([Ljava/lang/Object;I)V" } : Jvm.MethodName)) ∈ lw_all := lw_g (lw_at lw_m8 49 rfl) rfl
theorem q1785 : (Jvm.Cond.code ({ cls := "java/util/ArrayList", name := "fastRemove", desc := "([Ljava/lang/Object;I)V" } : Jvm.MethodName) prog_44_method_39_code (4 : Nat) (Option.none : Option Jvm.ClassFile.FieldType)) ∈ lw_all := lw_g (lw_at lw_m8 50 rfl) rfl
theorem q1790 : (Jvm.Cond.selects "java/util/ArrayList" ({ cls := "java/util/AbstractList", name := "remove", desc := "(I)Ljava/lang/Object;" } : Jvm.MethodName) ({ cls := "java/util/ArrayList", name := "remove", desc := "(I)Ljava/lang/Object;" } : Jvm.MethodName)) ∈ lw_all := lw_g (lw_at lw_m8 55 rfl) rfl
theorem q1839 : (Jvm.Cond.selects "java/util/ArrayList" ({ cls := "java/util/List", name := "clear", desc := "()V" } : Jvm.MethodName) ({ cls := "java/util/ArrayList", name := "clear", desc := "()V" } : Jvm.MethodName)) ∈ lw_all := lw_g (lw_at lw_m8 104 rfl) rfl
theorem q1840 : (Jvm.Cond.unhidden "java/util/ArrayList" "clear" "()V") ∈ lw_tbl := lw_at lw_m8 105 rfl
theorem q1841 : (Jvm.Cond.instanceMethod ({ cls := "java/util/ArrayList", name := "clear", desc := "()V" } : Jvm.MethodName)) ∈ lw_all := lw_g (lw_at lw_m8 106 rfl) rfl
theorem q1842 : (Jvm.Cond.publicMethod ({ cls := "java/util/ArrayList", name := "clear", desc := "()V" } : Jvm.MethodName)) ∈ lw_tbl := lw_at lw_m8 107 rfl
theorem q1843 : (Jvm.Cond.code ({ cls := "java/util/ArrayList", name := "clear", desc := "()V" } : Jvm.MethodName) prog_44_method_40_code (4 : Nat) (Option.none : Option Jvm.ClassFile.FieldType)) ∈ lw_all := lw_g (lw_at lw_m8 108 rfl) rfl
theorem q1860 : (Jvm.Cond.selects "java/util/ArrayList" ({ cls := "java/util/List", name := "isEmpty", desc := "()Z" } : Jvm.MethodName) ({ cls := "java/util/ArrayList", name := "isEmpty", desc := "()Z" } : Jvm.MethodName)) ∈ lw_all := lw_g (lw_at lw_m8 125 rfl) rfl
theorem q1861 : (Jvm.Cond.unhidden "java/util/ArrayList" "isEmpty" "()Z") ∈ lw_tbl := lw_at lw_m8 126 rfl
theorem q1862 : (Jvm.Cond.instanceMethod ({ cls := "java/util/ArrayList", name := "isEmpty", desc := "()Z" } : Jvm.MethodName)) ∈ lw_all := lw_g (lw_at lw_m8 127 rfl) rfl
theorem q1863 : (Jvm.Cond.publicMethod ({ cls := "java/util/ArrayList", name := "isEmpty", desc := "()Z" } : Jvm.MethodName)) ∈ lw_tbl := lw_at lw_m8 128 rfl
theorem q1864 : (Jvm.Cond.code ({ cls := "java/util/ArrayList", name := "isEmpty", desc := "()Z" } : Jvm.MethodName) prog_44_method_9_code (1 : Nat) (Option.some Jvm.ClassFile.FieldType.boolean)) ∈ lw_all := lw_g (lw_at lw_m8 129 rfl) rfl
theorem q1916 : (Jvm.Cond.castable "java/util/ArrayList" "java/lang/Iterable") ∈ lw_tbl := lw_at lw_m8 181 rfl
theorem q1917 : (Jvm.Cond.selects "java/util/ArrayList" ({ cls := "java/lang/Iterable", name := "iterator", desc := "()Ljava/util/Iterator;" } : Jvm.MethodName) ({ cls := "java/util/ArrayList", name := "iterator", desc := "()Ljava/util/Iterator;" } : Jvm.MethodName)) ∈ lw_all := lw_g (lw_at lw_m8 182 rfl) rfl
theorem q1943 : (Jvm.Cond.selects "java/util/ArrayList" ({ cls := "java/lang/Iterable", name := "forEach", desc := "(Ljava/util/function/Consumer;)V" } : Jvm.MethodName) ({ cls := "java/util/ArrayList", name := "forEach", desc := "(Ljava/util/function/Consumer;)V" } : Jvm.MethodName)) ∈ lw_all := lw_g (lw_at lw_m8 208 rfl) rfl
theorem q1944 : (Jvm.Cond.unhidden "java/util/ArrayList" "forEach" "(Ljava/util/function/Consumer;)V") ∈ lw_tbl := lw_at lw_m8 209 rfl
theorem q1945 : (Jvm.Cond.instanceMethod ({ cls := "java/util/ArrayList", name := "forEach", desc := "(Ljava/util/function/Consumer;)V" } : Jvm.MethodName)) ∈ lw_all := lw_g (lw_at lw_m8 210 rfl) rfl
theorem q1946 : (Jvm.Cond.publicMethod ({ cls := "java/util/ArrayList", name := "forEach", desc := "(Ljava/util/function/Consumer;)V" } : Jvm.MethodName)) ∈ lw_tbl := lw_at lw_m8 211 rfl
theorem q1947 : (Jvm.Cond.code ({ cls := "java/util/ArrayList", name := "forEach", desc := "(Ljava/util/function/Consumer;)V" } : Jvm.MethodName) prog_44_method_57_code (6 : Nat) (Option.none : Option Jvm.ClassFile.FieldType)) ∈ lw_all := lw_g (lw_at lw_m8 212 rfl) rfl
theorem q1948 : (Jvm.Cond.methodLink "java/util/ArrayList" (213 : Nat) ({ cls := "java/util/Objects", name := "requireNonNull", desc := "(Ljava/lang/Object;)Ljava/lang/Object;" } : Jvm.MethodName)) ∈ lw_all := lw_g (lw_at lw_m8 213 rfl) rfl
theorem q1949 : (Jvm.Cond.methodLink "java/util/ArrayList" (281 : Nat) ({ cls := "java/util/ArrayList", name := "elementAt", desc := "([Ljava/lang/Object;I)Ljava/lang/Object;" } : Jvm.MethodName)) ∈ lw_all := lw_g (lw_at lw_m8 214 rfl) rfl
theorem q1950 : (Jvm.Cond.static ({ cls := "java/util/ArrayList", name := "elementAt", desc := "([Ljava/lang/Object;I)Ljava/lang/Object;" } : Jvm.MethodName)) ∈ lw_all := lw_g (lw_at lw_m8 215 rfl) rfl
theorem q1951 : (Jvm.Cond.code ({ cls := "java/util/ArrayList", name := "elementAt", desc := "([Ljava/lang/Object;I)Ljava/lang/Object;" } : Jvm.MethodName) prog_44_method_19_code (2 : Nat) (Option.some (Jvm.ClassFile.FieldType.object "java/lang/Object"))) ∈ lw_all := lw_g (lw_at lw_m8 216 rfl) rfl
theorem q1952 : (Jvm.Cond.interfaceEntry "java/util/ArrayList" (285 : Nat)) ∈ lw_tbl := lw_at lw_m8 217 rfl
theorem q1953 : (Jvm.Cond.methodLink "java/util/ArrayList" (285 : Nat) ({ cls := "java/util/function/Consumer", name := "accept", desc := "(Ljava/lang/Object;)V" } : Jvm.MethodName)) ∈ lw_all := lw_g (lw_at lw_m8 218 rfl) rfl
theorem q2016 : (Jvm.Cond.instanceMethod ({ cls := "java/util/ArrayList", name := "set", desc := "(ILjava/lang/Object;)Ljava/lang/Object;" } : Jvm.MethodName)) ∈ lw_all := lw_g (lw_at lw_m9 41 rfl) rfl
theorem q2017 : (Jvm.Cond.selects "java/util/ArrayList" ({ cls := "java/util/ArrayList", name := "set", desc := "(ILjava/lang/Object;)Ljava/lang/Object;" } : Jvm.MethodName) ({ cls := "java/util/ArrayList", name := "set", desc := "(ILjava/lang/Object;)Ljava/lang/Object;" } : Jvm.MethodName)) ∈ lw_all := lw_g (lw_at lw_m9 42 rfl) rfl
theorem q2018 : (Jvm.Cond.code ({ cls := "java/util/ArrayList", name := "set", desc := "(ILjava/lang/Object;)Ljava/lang/Object;" } : Jvm.MethodName) prog_44_method_23_code (4 : Nat) (Option.some (Jvm.ClassFile.FieldType.object "java/lang/Object"))) ∈ lw_all := lw_g (lw_at lw_m9 43 rfl) rfl
theorem q2116 : (Jvm.Cond.selects "java/util/ArrayList" ({ cls := "java/util/List", name := "subList", desc := "(II)Ljava/util/List;" } : Jvm.MethodName) ({ cls := "java/util/ArrayList", name := "subList", desc := "(II)Ljava/util/List;" } : Jvm.MethodName)) ∈ lw_all := lw_g (lw_at lw_m9 141 rfl) rfl
theorem q2117 : (Jvm.Cond.unhidden "java/util/ArrayList" "subList" "(II)Ljava/util/List;") ∈ lw_tbl := lw_at lw_m9 142 rfl
theorem q2118 : (Jvm.Cond.instanceMethod ({ cls := "java/util/ArrayList", name := "subList", desc := "(II)Ljava/util/List;" } : Jvm.MethodName)) ∈ lw_all := lw_g (lw_at lw_m9 143 rfl) rfl
theorem q2119 : (Jvm.Cond.publicMethod ({ cls := "java/util/ArrayList", name := "subList", desc := "(II)Ljava/util/List;" } : Jvm.MethodName)) ∈ lw_tbl := lw_at lw_m9 144 rfl
theorem q2120 : (Jvm.Cond.code ({ cls := "java/util/ArrayList", name := "subList", desc := "(II)Ljava/util/List;" } : Jvm.MethodName) prog_44_method_56_code (3 : Nat) (Option.some (Jvm.ClassFile.FieldType.object "java/util/List"))) ∈ lw_all := lw_g (lw_at lw_m9 145 rfl) rfl
theorem q2121 : (Jvm.Cond.methodLink "java/util/ArrayList" (272 : Nat) ({ cls := "java/util/ArrayList", name := "subListRangeCheck", desc := "(III)V" } : Jvm.MethodName)) ∈ lw_all := lw_g (lw_at lw_m9 146 rfl) rfl
theorem q2122 : (Jvm.Cond.sameMethod "java/util/ArrayList" "java/util/AbstractList" "subListRangeCheck" "(III)V") ∈ lw_all := lw_g (lw_at lw_m9 147 rfl) rfl
theorem q2123 : (Jvm.Cond.classLink "java/util/ArrayList" (276 : Nat) "java/util/ArrayList$SubList") ∈ lw_all := lw_g (lw_at lw_m9 148 rfl) rfl
theorem q2124 : (Jvm.Cond.methodLink "java/util/ArrayList" (278 : Nat) ({ cls := "java/util/ArrayList$SubList", name := "<init>", desc := "(Ljava/util/ArrayList;II)V" } : Jvm.MethodName)) ∈ lw_all := lw_g (lw_at lw_m9 149 rfl) rfl
theorem q2197 : (Jvm.Cond.selects "java/util/ArrayList" ({ cls := "java/util/AbstractList", name := "set", desc := "(ILjava/lang/Object;)Ljava/lang/Object;" } : Jvm.MethodName) ({ cls := "java/util/ArrayList", name := "set", desc := "(ILjava/lang/Object;)Ljava/lang/Object;" } : Jvm.MethodName)) ∈ lw_all := lw_g (lw_at lw_m9 222 rfl) rfl
theorem q2207 : (Jvm.Cond.selects "java/util/ArrayList" ({ cls := "java/util/List", name := "set", desc := "(ILjava/lang/Object;)Ljava/lang/Object;" } : Jvm.MethodName) ({ cls := "java/util/ArrayList", name := "set", desc := "(ILjava/lang/Object;)Ljava/lang/Object;" } : Jvm.MethodName)) ∈ lw_all := lw_g (lw_at lw_m9 232 rfl) rfl
theorem q2208 : (Jvm.Cond.unhidden "java/util/ArrayList" "set" "(ILjava/lang/Object;)Ljava/lang/Object;") ∈ lw_tbl := lw_at lw_m9 233 rfl
theorem q2209 : (Jvm.Cond.publicMethod ({ cls := "java/util/ArrayList", name := "set", desc := "(ILjava/lang/Object;)Ljava/lang/Object;" } : Jvm.MethodName)) ∈ lw_tbl := lw_at lw_m9 234 rfl
theorem q2286 : (Jvm.Cond.selects "java/util/ArrayList" ({ cls := "java/util/AbstractCollection", name := "iterator", desc := "()Ljava/util/Iterator;" } : Jvm.MethodName) ({ cls := "java/util/ArrayList", name := "iterator", desc := "()Ljava/util/Iterator;" } : Jvm.MethodName)) ∈ lw_all := lw_g (lw_at lw_m10 71 rfl) rfl
theorem q2296 : (Jvm.Cond.selects "java/util/ArrayList" ({ cls := "java/util/List", name := "contains", desc := "(Ljava/lang/Object;)Z" } : Jvm.MethodName) ({ cls := "java/util/ArrayList", name := "contains", desc := "(Ljava/lang/Object;)Z" } : Jvm.MethodName)) ∈ lw_all := lw_g (lw_at lw_m10 81 rfl) rfl
theorem q2297 : (Jvm.Cond.unhidden "java/util/ArrayList" "contains" "(Ljava/lang/Object;)Z") ∈ lw_tbl := lw_at lw_m10 82 rfl
theorem q2298 : (Jvm.Cond.instanceMethod ({ cls := "java/util/ArrayList", name := "contains", desc := "(Ljava/lang/Object;)Z" } : Jvm.MethodName)) ∈ lw_all := lw_g (lw_at lw_m10 83 rfl) rfl
theorem q2299 : (Jvm.Cond.publicMethod ({ cls := "java/util/ArrayList", name := "contains", desc := "(Ljava/lang/Object;)Z" } : Jvm.MethodName)) ∈ lw_tbl := lw_at lw_m10 84 rfl
theorem q2300 : (Jvm.Cond.code ({ cls := "java/util/ArrayList", name := "contains", desc := "(Ljava/lang/Object;)Z" } : Jvm.MethodName) prog_44_method_10_code (2 : Nat) (Option.some Jvm.ClassFile.FieldType.boolean)) ∈ lw_all := lw_g (lw_at lw_m10 85 rfl) rfl
theorem q2301 : (Jvm.Cond.methodLink "java/util/ArrayList" (85 : Nat) ({ cls := "java/util/ArrayList", name := "indexOf", desc := "(Ljava/lang/Object;)I" } : Jvm.MethodName)) ∈ lw_all := lw_g (lw_at lw_m10 86 rfl) rfl
theorem q2332 : (Jvm.Cond.castable "java/util/ArrayList" "java/util/Collection") ∈ lw_tbl := lw_at lw_m10 117 rfl
theorem q2333 : (Jvm.Cond.selects "java/util/ArrayList" ({ cls := "java/util/Collection", name := "iterator", desc := "()Ljava/util/Iterator;" } : Jvm.MethodName) ({ cls := "java/util/ArrayList", name := "iterator", desc := "()Ljava/util/Iterator;" } : Jvm.MethodName)) ∈ lw_all := lw_g (lw_at lw_m10 118 rfl) rfl
theorem q2364 : (Jvm.Cond.selects "java/util/ArrayList" ({ cls := "java/util/List", name := "containsAll", desc := "(Ljava/util/Collection;)Z" } : Jvm.MethodName) ({ cls := "java/util/AbstractCollection", name := "containsAll", desc := "(Ljava/util/Collection;)Z" } : Jvm.MethodName)) ∈ lw_all := lw_g (lw_at lw_m10 149 rfl) rfl
theorem q2365 : (Jvm.Cond.unhidden "java/util/ArrayList" "containsAll" "(Ljava/util/Collection;)Z") ∈ lw_tbl := lw_at lw_m10 150 rfl
theorem q2387 : (Jvm.Cond.selects "java/util/ArrayList" ({ cls := "java/util/Collection", name := "size", desc := "()I" } : Jvm.MethodName) ({ cls := "java/util/ArrayList", name := "size", desc := "()I" } : Jvm.MethodName)) ∈ lw_all := lw_g (lw_at lw_m10 172 rfl) rfl
theorem q2396 : (Jvm.Cond.selects "java/util/ArrayList" ({ cls := "java/util/Collection", name := "contains", desc := "(Ljava/lang/Object;)Z" } : Jvm.MethodName) ({ cls := "java/util/ArrayList", name := "contains", desc := "(Ljava/lang/Object;)Z" } : Jvm.MethodName)) ∈ lw_all := lw_g (lw_at lw_m10 181 rfl) rfl
theorem q2567 : (Jvm.Cond.selects "java/util/ArrayList" ({ cls := "java/util/List", name := "replaceAll", desc := "(Ljava/util/function/UnaryOperator;)V" } : Jvm.MethodName) ({ cls := "java/util/ArrayList", name := "replaceAll", desc := "(Ljava/util/function/UnaryOperator;)V" } : Jvm.MethodName)) ∈ lw_all := lw_g (lw_at lw_m11 112 rfl) rfl
theorem q2568 : (Jvm.Cond.unhidden "java/util/ArrayList" "replaceAll" "(Ljava/util/function/UnaryOperator;)V") ∈ lw_tbl := lw_at lw_m11 113 rfl
theorem q2569 : (Jvm.Cond.instanceMethod ({ cls := "java/util/ArrayList", name := "replaceAll", desc := "(Ljava/util/function/UnaryOperator;)V" } : Jvm.MethodName)) ∈ lw_all := lw_g (lw_at lw_m11 114 rfl) rfl
theorem q2570 : (Jvm.Cond.publicMethod ({ cls := "java/util/ArrayList", name := "replaceAll", desc := "(Ljava/util/function/UnaryOperator;)V" } : Jvm.MethodName)) ∈ lw_tbl := lw_at lw_m11 115 rfl
theorem q2571 : (Jvm.Cond.code ({ cls := "java/util/ArrayList", name := "replaceAll", desc := "(Ljava/util/function/UnaryOperator;)V" } : Jvm.MethodName) prog_44_method_64_code (2 : Nat) (Option.none : Option Jvm.ClassFile.FieldType)) ∈ lw_all := lw_g (lw_at lw_m11 116 rfl) rfl
theorem q2572 : (Jvm.Cond.methodLink "java/util/ArrayList" (316 : Nat) ({ cls := "java/util/ArrayList", name := "replaceAllRange", desc := "(Ljava/util/function/UnaryOperator;II)V" } : Jvm.MethodName)) ∈ lw_all := lw_g (lw_at lw_m11 117 rfl) rfl
theorem q2573 : (Jvm.Cond.privateMethod ({ cls := "java/util/ArrayList", name := "replaceAllRange", desc := "(Ljava/util/function/UnaryOperator;II)V" } : Jvm.MethodName)) ∈ lw_tbl := lw_at lw_m11 118 rfl
theorem q2574 : (Jvm.Cond.instanceMethod ({ cls := "java/util/ArrayList", name := "replaceAllRange", desc := "(Ljava/util/function/UnaryOperator;II)V" } : Jvm.MethodName)) ∈ lw_all := lw_g (lw_at lw_m11 119 rfl) rfl
theorem q2575 : (Jvm.Cond.code ({ cls := "java/util/ArrayList", name := "replaceAllRange", desc := "(Ljava/util/function/UnaryOperator;II)V" } : Jvm.MethodName) prog_44_method_65_code (6 : Nat) (Option.none : Option Jvm.ClassFile.FieldType)) ∈ lw_all := lw_g (lw_at lw_m11 120 rfl) rfl
theorem q2576 : (Jvm.Cond.interfaceEntry "java/util/ArrayList" (320 : Nat)) ∈ lw_tbl := lw_at lw_m11 121 rfl
theorem q2655 : (Jvm.Cond.selects "java/util/ArrayList" ({ cls := "java/util/List", name := "toArray", desc := "()[Ljava/lang/Object;" } : Jvm.MethodName) ({ cls := "java/util/ArrayList", name := "toArray", desc := "()[Ljava/lang/Object;" } : Jvm.MethodName)) ∈ lw_all := lw_g (lw_at lw_m11 200 rfl) rfl
theorem q2656 : (Jvm.Cond.unhidden "java/util/ArrayList" "toArray" "()[Ljava/lang/Object;") ∈ lw_tbl := lw_at lw_m11 201 rfl
theorem q2657 : (Jvm.Cond.instanceMethod ({ cls := "java/util/ArrayList", name := "toArray", desc := "()[Ljava/lang/Object;" } : Jvm.MethodName)) ∈ lw_all := lw_g (lw_at lw_m11 202 rfl) rfl
theorem q2658 : (Jvm.Cond.publicMethod ({ cls := "java/util/ArrayList", name := "toArray", desc := "()[Ljava/lang/Object;" } : Jvm.MethodName)) ∈ lw_tbl := lw_at lw_m11 203 rfl
theorem q2659 : (Jvm.Cond.code ({ cls := "java/util/ArrayList", name := "toArray", desc := "()[Ljava/lang/Object;" } : Jvm.MethodName) prog_44_method_16_code (1 : Nat) (Option.some (Jvm.ClassFile.FieldType.array (Jvm.ClassFile.FieldType.object "java/lang/Object")))) ∈ lw_all := lw_g (lw_at lw_m11 204 rfl) rfl
theorem q3007 : (Jvm.Cond.selects "java/util/ArrayList" ({ cls := "java/util/List", name := "sort", desc := "(Ljava/util/Comparator;)V" } : Jvm.MethodName) ({ cls := "java/util/ArrayList", name := "sort", desc := "(Ljava/util/Comparator;)V" } : Jvm.MethodName)) ∈ lw_all := lw_g (lw_at lw_m13 72 rfl) rfl
theorem q3008 : (Jvm.Cond.unhidden "java/util/ArrayList" "sort" "(Ljava/util/Comparator;)V") ∈ lw_tbl := lw_at lw_m13 73 rfl
theorem q3009 : (Jvm.Cond.instanceMethod ({ cls := "java/util/ArrayList", name := "sort", desc := "(Ljava/util/Comparator;)V" } : Jvm.MethodName)) ∈ lw_all := lw_g (lw_at lw_m13 74 rfl) rfl
theorem q3010 : (Jvm.Cond.publicMethod ({ cls := "java/util/ArrayList", name := "sort", desc := "(Ljava/util/Comparator;)V" } : Jvm.MethodName)) ∈ lw_tbl := lw_at lw_m13 75 rfl
theorem q3011 : (Jvm.Cond.code ({ cls := "java/util/ArrayList", name := "sort", desc := "(Ljava/util/Comparator;)V" } : Jvm.MethodName) prog_44_method_66_code (3 : Nat) (Option.none : Option Jvm.ClassFile.FieldType)) ∈ lw_all := lw_g (lw_at lw_m13 76 rfl) rfl
theorem q3012 : (Jvm.Cond.methodLink "java/util/ArrayList" (325 : Nat) ({ cls := "java/util/Arrays", name := "sort", desc := "([Ljava/lang/Object;IILjava/util/Comparator;)V" } : Jvm.MethodName)) ∈ lw_all := lw_g (lw_at lw_m13 77 rfl) rfl
theorem q3110 : (Jvm.Cond.selects "java/util/ArrayList" ({ cls := "java/util/List", name := "add", desc := "(ILjava/lang/Object;)V" } : Jvm.MethodName) ({ cls := "java/util/ArrayList", name := "add", desc := "(ILjava/lang/Object;)V" } : Jvm.MethodName)) ∈ lw_all := lw_g (lw_at lw_m13 175 rfl) rfl
theorem q3111 : (Jvm.Cond.unhidden "java/util/ArrayList" "add" "(ILjava/lang/Object;)V") ∈ lw_tbl := lw_at lw_m13 176 rfl
theorem q3112 : (Jvm.Cond.publicMethod ({ cls := "java/util/ArrayList", name := "add", desc := "(ILjava/lang/Object;)V" } : Jvm.MethodName)) ∈ lw_tbl := lw_at lw_m13 177 rfl
theorem q3148 : (Jvm.Cond.selects "java/util/ArrayList" ({ cls := "java/util/AbstractList", name := "addAll", desc := "(ILjava/util/Collection;)Z" } : Jvm.MethodName) ({ cls := "java/util/ArrayList", name := "addAll", desc := "(ILjava/util/Collection;)Z" } : Jvm.MethodName)) ∈ lw_all := lw_g (lw_at lw_m13 213 rfl) rfl
theorem q3149 : (Jvm.Cond.instanceMethod ({ cls := "java/util/ArrayList", name := "addAll", desc := "(ILjava/util/Collection;)Z" } : Jvm.MethodName)) ∈ lw_all := lw_g (lw_at lw_m13 214 rfl) rfl
theorem q3150 : (Jvm.Cond.code ({ cls := "java/util/ArrayList", name := "addAll", desc := "(ILjava/util/Collection;)Z" } : Jvm.MethodName) prog_44_method_42_code (8 : Nat) (Option.some Jvm.ClassFile.FieldType.boolean)) ∈ lw_all := lw_g (lw_at lw_m13 215 rfl) rfl
theorem q3151 : (Jvm.Cond.interfaceEntry "java/util/ArrayList" (42 : Nat)) ∈ lw_tbl := lw_at lw_m13 216 rfl
theorem q3152 : (Jvm.Cond.methodLink "java/util/ArrayList" (42 : Nat) ({ cls := "java/util/Collection", name := "toArray", desc := "()[Ljava/lang/Object;" } : Jvm.MethodName)) ∈ lw_all := lw_g (lw_at lw_m13 217 rfl) rfl
theorem q3157 : (Jvm.Cond.selects "java/util/ArrayList" ({ cls := "java/util/Collection", name := "toArray", desc := "()[Ljava/lang/Object;" } : Jvm.MethodName) ({ cls := "java/util/ArrayList", name := "toArray", desc := "()[Ljava/lang/Object;" } : Jvm.MethodName)) ∈ lw_all := lw_g (lw_at lw_m13 222 rfl) rfl
theorem q3172 : (Jvm.Cond.selects "java/util/ArrayList" ({ cls := "java/util/List", name := "addAll", desc := "(Ljava/util/Collection;)Z" } : Jvm.MethodName) ({ cls := "java/util/ArrayList", name := "addAll", desc := "(Ljava/util/Collection;)Z" } : Jvm.MethodName)) ∈ lw_all := lw_g (lw_at lw_m13 237 rfl) rfl
theorem q3173 : (Jvm.Cond.unhidden "java/util/ArrayList" "addAll" "(Ljava/util/Collection;)Z") ∈ lw_tbl := lw_at lw_m13 238 rfl
theorem q3174 : (Jvm.Cond.instanceMethod ({ cls := "java/util/ArrayList", name := "addAll", desc := "(Ljava/util/Collection;)Z" } : Jvm.MethodName)) ∈ lw_all := lw_g (lw_at lw_m13 239 rfl) rfl
theorem q3175 : (Jvm.Cond.publicMethod ({ cls := "java/util/ArrayList", name := "addAll", desc := "(Ljava/util/Collection;)Z" } : Jvm.MethodName)) ∈ lw_tbl := lw_at lw_m14 0 rfl
theorem q3176 : (Jvm.Cond.code ({ cls := "java/util/ArrayList", name := "addAll", desc := "(Ljava/util/Collection;)Z" } : Jvm.MethodName) prog_44_method_41_code (6 : Nat) (Option.some Jvm.ClassFile.FieldType.boolean)) ∈ lw_all := lw_g (lw_at lw_m14 1 rfl) rfl
theorem q3193 : (Jvm.Cond.selects "java/util/ArrayList" ({ cls := "java/util/AbstractCollection", name := "add", desc := "(Ljava/lang/Object;)Z" } : Jvm.MethodName) ({ cls := "java/util/ArrayList", name := "add", desc := "(Ljava/lang/Object;)Z" } : Jvm.MethodName)) ∈ lw_all := lw_g (lw_at lw_m14 18 rfl) rfl
theorem q3213 : (Jvm.Cond.selects "java/util/ArrayList" ({ cls := "java/util/List", name := "remove", desc := "(I)Ljava/lang/Object;" } : Jvm.MethodName) ({ cls := "java/util/ArrayList", name := "remove", desc := "(I)Ljava/lang/Object;" } : Jvm.MethodName)) ∈ lw_all := lw_g (lw_at lw_m14 38 rfl) rfl
theorem q3214 : (Jvm.Cond.unhidden "java/util/ArrayList" "remove" "(I)Ljava/lang/Object;") ∈ lw_tbl := lw_at lw_m14 39 rfl
theorem q3215 : (Jvm.Cond.publicMethod ({ cls := "java/util/ArrayList", name := "remove", desc := "(I)Ljava/lang/Object;" } : Jvm.MethodName)) ∈ lw_tbl := lw_at lw_m14 40 rfl
theorem q3262 : (Jvm.Cond.selects "java/util/ArrayList" ({ cls := "java/util/List", name := "remove", desc := "(Ljava/lang/Object;)Z" } : Jvm.MethodName) ({ cls := "java/util/ArrayList", name := "remove", desc := "(Ljava/lang/Object;)Z" } : Jvm.MethodName)) ∈ lw_all := lw_g (lw_at lw_m14 87 rfl) rfl
theorem q3263 : (Jvm.Cond.unhidden "java/util/ArrayList" "remove" "(Ljava/lang/Object;)Z") ∈ lw_tbl := lw_at lw_m14 88 rfl
theorem q3264 : (Jvm.Cond.instanceMethod ({ cls := "java/util/ArrayList", name := "remove", desc := "(Ljava/lang/Object;)Z" } : Jvm.MethodName)) ∈ lw_all := lw_g (lw_at lw_m14 89 rfl) rfl
theorem q3265 : (Jvm.Cond.publicMethod ({ cls := "java/util/ArrayList", name := "remove", desc := "(Ljava/lang/Object;)Z" } : Jvm.MethodName)) ∈ lw_tbl := lw_at lw_m14 90 rfl
theorem q3266 : (Jvm.Cond.code ({ cls := "java/util/ArrayList", name := "remove", desc := "(Ljava/lang/Object;)Z" } : Jvm.MethodName) prog_44_method_38_code (5 : Nat) (Option.some Jvm.ClassFile.FieldType.boolean)) ∈ lw_all := lw_g (lw_at lw_m14 91 rfl) rfl
theorem q3292 : (Jvm.Cond.selects "java/util/ArrayList" ({ cls := "java/util/List", name := "removeAll", desc := "(Ljava/util/Collection;)Z" } : Jvm.MethodName) ({ cls := "java/util/ArrayList", name := "removeAll", desc := "(Ljava/util/Collection;)Z" } : Jvm.MethodName)) ∈ lw_all := lw_g (lw_at lw_m14 117 rfl) rfl
theorem q3293 : (Jvm.Cond.unhidden "java/util/ArrayList" "removeAll" "(Ljava/util/Collection;)Z") ∈ lw_tbl := lw_at lw_m14 118 rfl
theorem q3294 : (Jvm.Cond.instanceMethod ({ cls := "java/util/ArrayList", name := "removeAll", desc := "(Ljava/util/Collection;)Z" } : Jvm.MethodName)) ∈ lw_all := lw_g (lw_at lw_m14 119 rfl) rfl
theorem q3295 : (Jvm.Cond.publicMethod ({ cls := "java/util/ArrayList", name := "removeAll", desc := "(Ljava/util/Collection;)Z" } : Jvm.MethodName)) ∈ lw_tbl := lw_at lw_m14 120 rfl
theorem q3296 : (Jvm.Cond.code ({ cls := "java/util/ArrayList", name := "removeAll", desc := "(Ljava/util/Collection;)Z" } : Jvm.MethodName) prog_44_method_48_code (2 : Nat) (Option.some Jvm.ClassFile.FieldType.boolean)) ∈ lw_all := lw_g (lw_at lw_m14 121 rfl) rfl
theorem q3297 : (Jvm.Cond.methodLink "java/util/ArrayList" (209 : Nat) ({ cls := "java/util/ArrayList", name := "batchRemove", desc := "(Ljava/util/Collection;ZII)Z" } : Jvm.MethodName)) ∈ lw_all := lw_g (lw_at lw_m14 122 rfl) rfl
theorem q3298 : (Jvm.Cond.instanceMethod ({ cls := "java/util/ArrayList", name := "batchRemove", desc := "(Ljava/util/Collection;ZII)Z" } : Jvm.MethodName)) ∈ lw_all := lw_g (lw_at lw_m14 123 rfl) rfl
theorem q3299 : (Jvm.Cond.selects "java/util/ArrayList" ({ cls := "java/util/ArrayList", name := "batchRemove", desc := "(Ljava/util/Collection;ZII)Z" } : Jvm.MethodName) ({ cls := "java/util/ArrayList", name := "batchRemove", desc := "(Ljava/util/Collection;ZII)Z" } : Jvm.MethodName)) ∈ lw_all := lw_g (lw_at lw_m14 124 rfl) rfl
theorem q3300 : (Jvm.Cond.codeWith ({ cls := "java/util/ArrayList", name := "batchRemove", desc := "(Ljava/util/Collection;ZII)Z" } : Jvm.MethodName) prog_44_method_50_code (10 : Nat) (Option.some Jvm.ClassFile.FieldType.boolean) [((54 : Nat), (95 : Nat), (122 : Nat), (220 : Nat)), ((54 : Nat), (95 : Nat), (153 : Nat), (0 : Nat)), ((122 : Nat), (155 : Nat), (153 : Nat), (0 : Nat))]) ∈ lw_all := lw_g (lw_at lw_m14 125 rfl) rfl
theorem q3301 : (Jvm.Cond.interfaceEntry "java/util/ArrayList" (217 : Nat)) ∈ lw_tbl := lw_at lw_m14 126 rfl
theorem q3302 : (Jvm.Cond.methodLink "java/util/ArrayList" (217 : Nat) ({ cls := "java/util/Collection", name := "contains", desc := "(Ljava/lang/Object;)Z" } : Jvm.MethodName)) ∈ lw_all := lw_g (lw_at lw_m14 127 rfl) rfl
theorem q3333 : (Jvm.Cond.selects "java/util/ArrayList" ({ cls := "java/util/List", name := "retainAll", desc := "(Ljava/util/Collection;)Z" } : Jvm.MethodName) ({ cls := "java/util/ArrayList", name := "retainAll", desc := "(Ljava/util/Collection;)Z" } : Jvm.MethodName)) ∈ lw_all := lw_g (lw_at lw_m14 158 rfl) rfl
theorem q3334 : (Jvm.Cond.unhidden "java/util/ArrayList" "retainAll" "(Ljava/util/Collection;)Z") ∈ lw_tbl := lw_at lw_m14 159 rfl
theorem q3335 : (Jvm.Cond.instanceMethod ({ cls := "java/util/ArrayList", name := "retainAll", desc := "(Ljava/util/Collection;)Z" } : Jvm.MethodName)) ∈ lw_all := lw_g (lw_at lw_m14 160 rfl) rfl
theorem q3336 : (Jvm.Cond.publicMethod ({ cls := "java/util/ArrayList", name := "retainAll", desc := "(Ljava/util/Collection;)Z" } : Jvm.MethodName)) ∈ lw_tbl := lw_at lw_m14 161 rfl
theorem q3337 : (Jvm.Cond.code ({ cls := "java/util/ArrayList", name := "retainAll", desc := "(Ljava/util/Collection;)Z" } : Jvm.MethodName) prog_44_method_49_code (2 : Nat) (Option.some Jvm.ClassFile.FieldType.boolean)) ∈ lw_all := lw_g (lw_at lw_m14 162 rfl) rfl
theorem q3399 : (Jvm.Cond.selects "java/util/ArrayList" ({ cls := "java/util/Collection", name := "removeIf", desc := "(Ljava/util/function/Predicate;)Z" } : Jvm.MethodName) ({ cls := "java/util/ArrayList", name := "removeIf", desc := "(Ljava/util/function/Predicate;)Z" } : Jvm.MethodName)) ∈ lw_all := lw_g (lw_at lw_m14 224 rfl) rfl
theorem q3400 : (Jvm.Cond.unhidden "java/util/ArrayList" "removeIf" "(Ljava/util/function/Predicate;)Z") ∈ lw_tbl := lw_at lw_m14 225 rfl
theorem q3401 : (Jvm.Cond.instanceMethod ({ cls := "java/util/ArrayList", name := "removeIf", desc := "(Ljava/util/function/Predicate;)Z" } : Jvm.MethodName)) ∈ lw_all := lw_g (lw_at lw_m14 226 rfl) rfl
theorem q3402 : (Jvm.Cond.publicMethod ({ cls := "java/util/ArrayList", name := "removeIf", desc := "(Ljava/util/function/Predicate;)Z" } : Jvm.MethodName)) ∈ lw_tbl := lw_at lw_m14 227 rfl
theorem q3403 : (Jvm.Cond.code ({ cls := "java/util/ArrayList", name := "removeIf", desc := "(Ljava/util/function/Predicate;)Z" } : Jvm.MethodName) prog_44_method_62_code (2 : Nat) (Option.some Jvm.ClassFile.FieldType.boolean)) ∈ lw_all := lw_g (lw_at lw_m14 228 rfl) rfl
theorem q3404 : (Jvm.Cond.methodLink "java/util/ArrayList" (295 : Nat) ({ cls := "java/util/ArrayList", name := "removeIf", desc := "(Ljava/util/function/Predicate;II)Z" } : Jvm.MethodName)) ∈ lw_all := lw_g (lw_at lw_m14 229 rfl) rfl
theorem q3405 : (Jvm.Cond.instanceMethod ({ cls := "java/util/ArrayList", name := "removeIf", desc := "(Ljava/util/function/Predicate;II)Z" } : Jvm.MethodName)) ∈ lw_all := lw_g (lw_at lw_m14 230 rfl) rfl
theorem q3406 : (Jvm.Cond.selects "java/util/ArrayList" ({ cls := "java/util/ArrayList", name := "removeIf", desc := "(Ljava/util/function/Predicate;II)Z" } : Jvm.MethodName) ({ cls := "java/util/ArrayList", name := "removeIf", desc := "(Ljava/util/function/Predicate;II)Z" } : Jvm.MethodName)) ∈ lw_all := lw_g (lw_at lw_m14 231 rfl) rfl
theorem q3407 : (Jvm.Cond.code ({ cls := "java/util/ArrayList", name := "removeIf", desc := "(Ljava/util/function/Predicate;II)Z" } : Jvm.MethodName) prog_44_method_63_code (9 : Nat) (Option.some Jvm.ClassFile.FieldType.boolean)) ∈ lw_all := lw_g (lw_at lw_m14 232 rfl) rfl
theorem q3408 : (Jvm.Cond.interfaceEntry "java/util/ArrayList" (299 : Nat)) ∈ lw_tbl := lw_at lw_m14 233 rfl
theorem q3409 : (Jvm.Cond.methodLink "java/util/ArrayList" (299 : Nat) ({ cls := "java/util/function/Predicate", name := "test", desc := "(Ljava/lang/Object;)Z" } : Jvm.MethodName)) ∈ lw_all := lw_g (lw_at lw_m14 234 rfl) rfl
theorem q3410 : (Jvm.Cond.methodLink "java/util/ArrayList" (304 : Nat) ({ cls := "java/util/ArrayList", name := "nBits", desc := "(I)[J" } : Jvm.MethodName)) ∈ lw_all := lw_g (lw_at lw_m14 235 rfl) rfl
theorem q3411 : (Jvm.Cond.static ({ cls := "java/util/ArrayList", name := "nBits", desc := "(I)[J" } : Jvm.MethodName)) ∈ lw_all := lw_g (lw_at lw_m14 236 rfl) rfl
theorem q3412 : (Jvm.Cond.code ({ cls := "java/util/ArrayList", name := "nBits", desc := "(I)[J" } : Jvm.MethodName) prog_44_method_59_code (1 : Nat) (Option.some (Jvm.ClassFile.FieldType.array Jvm.ClassFile.FieldType.long))) ∈ lw_all := lw_g (lw_at lw_m14 237 rfl) rfl
theorem q3413 : (Jvm.Cond.methodLink "java/util/ArrayList" (308 : Nat) ({ cls := "java/util/ArrayList", name := "setBit", desc := "([JI)V" } : Jvm.MethodName)) ∈ lw_all := lw_g (lw_at lw_m14 238 rfl) rfl
theorem q3414 : (Jvm.Cond.static ({ cls := "java/util/ArrayList", name := "setBit", desc := "([JI)V" } : Jvm.MethodName)) ∈ lw_all := lw_g (lw_at lw_m14 239 rfl) rfl
theorem q3415 : (Jvm.Cond.code ({ cls := "java/util/ArrayList", name := "setBit", desc := "([JI)V" } : Jvm.MethodName) prog_44_method_60_code (2 : Nat) (Option.none : Option Jvm.ClassFile.FieldType)) ∈ lw_all := lw_g (lw_at lw_m15 0 rfl) rfl
theorem q3416 : (Jvm.Cond.methodLink "java/util/ArrayList" (312 : Nat) ({ cls := "java/util/ArrayList", name := "isClear", desc := "([JI)Z" } : Jvm.MethodName)) ∈ lw_all := lw_g (lw_at lw_m15 1 rfl) rfl
theorem q3417 : (Jvm.Cond.static ({ cls := "java/util/ArrayList", name := "isClear", desc := "([JI)Z" } : Jvm.MethodName)) ∈ lw_all := lw_g (lw_at lw_m15 2 rfl) rfl
theorem q3418 : (Jvm.Cond.code ({ cls := "java/util/ArrayList", name := "isClear", desc := "([JI)Z" } : Jvm.MethodName) prog_44_method_61_code (2 : Nat) (Option.some Jvm.ClassFile.FieldType.boolean)) ∈ lw_all := lw_g (lw_at lw_m15 3 rfl) rfl
theorem q3847 : (Jvm.Cond.selects "java/util/ArrayList" ({ cls := "java/util/ArrayList", name := "size", desc := "()I" } : Jvm.MethodName) ({ cls := "java/util/ArrayList", name := "size", desc := "()I" } : Jvm.MethodName)) ∈ lw_all := lw_g (lw_at lw_m16 192 rfl) rfl
theorem q3862 : (Jvm.Cond.selects "java/util/ArrayList" ({ cls := "java/util/ArrayList", name := "equals", desc := "(Ljava/lang/Object;)Z" } : Jvm.MethodName) ({ cls := "java/util/ArrayList", name := "equals", desc := "(Ljava/lang/Object;)Z" } : Jvm.MethodName)) ∈ lw_all := lw_g (lw_at lw_m16 207 rfl) rfl
theorem q3863 : (Jvm.Cond.selects "java/util/ArrayList" ({ cls := "java/util/ArrayList", name := "iterator", desc := "()Ljava/util/Iterator;" } : Jvm.MethodName) ({ cls := "java/util/ArrayList", name := "iterator", desc := "()Ljava/util/Iterator;" } : Jvm.MethodName)) ∈ lw_all := lw_g (lw_at lw_m16 208 rfl) rfl
theorem q3869 : (Jvm.Cond.selects "java/util/ArrayList" ({ cls := "java/util/ArrayList", name := "add", desc := "(ILjava/lang/Object;)V" } : Jvm.MethodName) ({ cls := "java/util/ArrayList", name := "add", desc := "(ILjava/lang/Object;)V" } : Jvm.MethodName)) ∈ lw_all := lw_g (lw_at lw_m16 214 rfl) rfl
theorem q3871 : (Jvm.Cond.selects "java/util/ArrayList" ({ cls := "java/util/ArrayList", name := "removeRange", desc := "(II)V" } : Jvm.MethodName) ({ cls := "java/util/ArrayList", name := "removeRange", desc := "(II)V" } : Jvm.MethodName)) ∈ lw_all := lw_g (lw_at lw_m16 216 rfl) rfl
theorem q3872 : (Jvm.Cond.selects "java/util/ArrayList" ({ cls := "java/util/ArrayList", name := "remove", desc := "(I)Ljava/lang/Object;" } : Jvm.MethodName) ({ cls := "java/util/ArrayList", name := "remove", desc := "(I)Ljava/lang/Object;" } : Jvm.MethodName)) ∈ lw_all := lw_g (lw_at lw_m16 217 rfl) rfl
theorem q3877 : (Jvm.Cond.selects "java/util/ArrayList" ({ cls := "java/util/AbstractCollection", name := "size", desc := "()I" } : Jvm.MethodName) ({ cls := "java/util/ArrayList", name := "size", desc := "()I" } : Jvm.MethodName)) ∈ lw_all := lw_g (lw_at lw_m16 222 rfl) rfl
theorem q3880 : (Jvm.Cond.selects "java/util/ArrayList" ({ cls := "java/util/ArrayList", name := "indexOf", desc := "(Ljava/lang/Object;)I" } : Jvm.MethodName) ({ cls := "java/util/ArrayList", name := "indexOf", desc := "(Ljava/lang/Object;)I" } : Jvm.MethodName)) ∈ lw_all := lw_g (lw_at lw_m16 225 rfl) rfl
theorem q3886 : (Jvm.Cond.selects "java/util/ArrayList" ({ cls := "java/util/AbstractCollection", name := "contains", desc := "(Ljava/lang/Object;)Z" } : Jvm.MethodName) ({ cls := "java/util/ArrayList", name := "contains", desc := "(Ljava/lang/Object;)Z" } : Jvm.MethodName)) ∈ lw_all := lw_g (lw_at lw_m16 231 rfl) rfl
theorem q3890 : (Jvm.Cond.selects "java/util/ArrayList" ({ cls := "java/util/ArrayList", name := "addAll", desc := "(ILjava/util/Collection;)Z" } : Jvm.MethodName) ({ cls := "java/util/ArrayList", name := "addAll", desc := "(ILjava/util/Collection;)Z" } : Jvm.MethodName)) ∈ lw_all := lw_g (lw_at lw_m16 235 rfl) rfl
theorem q3896 : (Jvm.Cond.castable "java/util/ArrayList" "java/util/RandomAccess") ∈ lw_tbl := lw_at lw_m17 1 rfl
theorem q3901 : (Jvm.Cond.castable "java/util/ArrayList" "java/lang/Object") ∈ lw_tbl := lw_at lw_m17 6 rfl
theorem in_J2 : ∀ w ∈ wsJ20, w ∈ lw_all := lw_in wsJ20 [157, 153, 155] (by decide +kernel) (by decide +kernel)

/-! java/util/Arrays -/
set_option maxRecDepth 100000
def RJ7 : String := "java/util/Arrays"
abbrev cJ7_copyOf : ByteArray := prog_49_method_119_code
def yJ7_copyOf : MethodName := ⟨RJ7, "copyOf", "([Ljava/lang/Object;I)[Ljava/lang/Object;"⟩
def dkwJ7_copyOf_0 : List UInt8 := [42, 27, 42, 182, 0, 86, 184, 1, 44, 176]
abbrev dktJ7_copyOf_0 : List UInt8 := dkwJ7_copyOf_0 ++ []
theorem dksJ7_copyOf_0 : cJ7_copyOf.data.toList.drop 0 = dktJ7_copyOf_0 := by decide +kernel
theorem dJ7_copyOf_0 : decode cJ7_copyOf 0 = .ok (.aload_n 0, 1) := dk_42 (dk_at dksJ7_copyOf_0 0 rfl rfl)
theorem dJ7_copyOf_1 : decode cJ7_copyOf 1 = .ok (.iload_n 1, 1) := dk_27 (dk_at dksJ7_copyOf_0 1 rfl rfl)
theorem dJ7_copyOf_2 : decode cJ7_copyOf 2 = .ok (.aload_n 0, 1) := dk_42 (dk_at dksJ7_copyOf_0 2 rfl rfl)
theorem dJ7_copyOf_3 : decode cJ7_copyOf 3 = .ok (.invokevirtual 86, 3) := dk_182 0 86 (dk_at dksJ7_copyOf_0 3 rfl rfl)
theorem dJ7_copyOf_6 : decode cJ7_copyOf 6 = .ok (.invokestatic 300, 3) := dk_184 1 44 (dk_at dksJ7_copyOf_0 6 rfl rfl)
theorem dJ7_copyOf_9 : decode cJ7_copyOf 9 = .ok (.areturn, 1) := dk_176 (dk_at dksJ7_copyOf_0 9 rfl rfl)
abbrev cJ7_copyOf_2 : ByteArray := prog_49_method_120_code
def yJ7_copyOf_2 : MethodName := ⟨RJ7, "copyOf", "([Ljava/lang/Object;ILjava/lang/Class;)[Ljava/lang/Object;"⟩
def dkwJ7_copyOf_2_1 : List UInt8 := [78, 42, 3, 45, 3, 42, 190, 27, 184, 1, 48, 184, 0, 150, 45, 176]
abbrev dktJ7_copyOf_2_1 : List UInt8 := dkwJ7_copyOf_2_1 ++ []
def dkwJ7_copyOf_2_0 : List UInt8 := [44, 18, 110, 166, 0, 10, 27, 189, 0, 2, 167, 0, 14, 44, 182, 0, 90, 27, 184, 0, 95, 192, 0, 110]
abbrev dktJ7_copyOf_2_0 : List UInt8 := dkwJ7_copyOf_2_0 ++ dktJ7_copyOf_2_1
theorem dksJ7_copyOf_2_0 : cJ7_copyOf_2.data.toList.drop 0 = dktJ7_copyOf_2_0 := by decide +kernel
theorem dksJ7_copyOf_2_1 : cJ7_copyOf_2.data.toList.drop 24 = dktJ7_copyOf_2_1 := dk_seg dksJ7_copyOf_2_0 24 rfl rfl
theorem dJ7_copyOf_2_0 : decode cJ7_copyOf_2 0 = .ok (.aload_n 2, 1) := dk_44 (dk_at dksJ7_copyOf_2_0 0 rfl rfl)
theorem dJ7_copyOf_2_1 : decode cJ7_copyOf_2 1 = .ok (.ldc 110, 2) := dk_18 110 (dk_at dksJ7_copyOf_2_0 1 rfl rfl)
theorem dJ7_copyOf_2_3 : decode cJ7_copyOf_2 3 = .ok (.if_acmp .ne 10, 3) := dk_166 0 10 (dk_at dksJ7_copyOf_2_0 3 rfl rfl)
theorem dJ7_copyOf_2_6 : decode cJ7_copyOf_2 6 = .ok (.iload_n 1, 1) := dk_27 (dk_at dksJ7_copyOf_2_0 6 rfl rfl)
theorem dJ7_copyOf_2_7 : decode cJ7_copyOf_2 7 = .ok (.anewarray 2, 3) := dk_189 0 2 (dk_at dksJ7_copyOf_2_0 7 rfl rfl)
theorem dJ7_copyOf_2_10 : decode cJ7_copyOf_2 10 = .ok (.goto 14, 3) := dk_167 0 14 (dk_at dksJ7_copyOf_2_0 10 rfl rfl)
theorem dJ7_copyOf_2_13 : decode cJ7_copyOf_2 13 = .ok (.aload_n 2, 1) := dk_44 (dk_at dksJ7_copyOf_2_0 13 rfl rfl)
theorem dJ7_copyOf_2_14 : decode cJ7_copyOf_2 14 = .ok (.invokevirtual 90, 3) := dk_182 0 90 (dk_at dksJ7_copyOf_2_0 14 rfl rfl)
theorem dJ7_copyOf_2_17 : decode cJ7_copyOf_2 17 = .ok (.iload_n 1, 1) := dk_27 (dk_at dksJ7_copyOf_2_0 17 rfl rfl)
theorem dJ7_copyOf_2_18 : decode cJ7_copyOf_2 18 = .ok (.invokestatic 95, 3) := dk_184 0 95 (dk_at dksJ7_copyOf_2_0 18 rfl rfl)
theorem dJ7_copyOf_2_21 : decode cJ7_copyOf_2 21 = .ok (.checkcast 110, 3) := dk_192 0 110 (dk_at dksJ7_copyOf_2_0 21 rfl rfl)
theorem dJ7_copyOf_2_24 : decode cJ7_copyOf_2 24 = .ok (.astore_n 3, 1) := dk_78 (dk_at dksJ7_copyOf_2_1 0 rfl rfl)
theorem dJ7_copyOf_2_25 : decode cJ7_copyOf_2 25 = .ok (.aload_n 0, 1) := dk_42 (dk_at dksJ7_copyOf_2_1 1 rfl rfl)
theorem dJ7_copyOf_2_26 : decode cJ7_copyOf_2 26 = .ok (.iconst 0, 1) := dk_3 (dk_at dksJ7_copyOf_2_1 2 rfl rfl)
theorem dJ7_copyOf_2_27 : decode cJ7_copyOf_2 27 = .ok (.aload_n 3, 1) := dk_45 (dk_at dksJ7_copyOf_2_1 3 rfl rfl)
theorem dJ7_copyOf_2_28 : decode cJ7_copyOf_2 28 = .ok (.iconst 0, 1) := dk_3 (dk_at dksJ7_copyOf_2_1 4 rfl rfl)
theorem dJ7_copyOf_2_29 : decode cJ7_copyOf_2 29 = .ok (.aload_n 0, 1) := dk_42 (dk_at dksJ7_copyOf_2_1 5 rfl rfl)
theorem dJ7_copyOf_2_30 : decode cJ7_copyOf_2 30 = .ok (.arraylength, 1) := dk_190 (dk_at dksJ7_copyOf_2_1 6 rfl rfl)
theorem dJ7_copyOf_2_31 : decode cJ7_copyOf_2 31 = .ok (.iload_n 1, 1) := dk_27 (dk_at dksJ7_copyOf_2_1 7 rfl rfl)
theorem dJ7_copyOf_2_32 : decode cJ7_copyOf_2 32 = .ok (.invokestatic 304, 3) := dk_184 1 48 (dk_at dksJ7_copyOf_2_1 8 rfl rfl)
theorem dJ7_copyOf_2_35 : decode cJ7_copyOf_2 35 = .ok (.invokestatic 150, 3) := dk_184 0 150 (dk_at dksJ7_copyOf_2_1 11 rfl rfl)
theorem dJ7_copyOf_2_38 : decode cJ7_copyOf_2 38 = .ok (.aload_n 3, 1) := dk_45 (dk_at dksJ7_copyOf_2_1 14 rfl rfl)
theorem dJ7_copyOf_2_39 : decode cJ7_copyOf_2 39 = .ok (.areturn, 1) := dk_176 (dk_at dksJ7_copyOf_2_1 15 rfl rfl)
abbrev cJ7_asList : ByteArray := prog_49_method_148_code
def yJ7_asList : MethodName := ⟨RJ7, "asList", "([Ljava/lang/Object;)Ljava/util/List;"⟩
def dkwJ7_asList_0 : List UInt8 := [187, 1, 119, 89, 42, 183, 1, 121, 176]
abbrev dktJ7_asList_0 : List UInt8 := dkwJ7_asList_0 ++ []
theorem dksJ7_asList_0 : cJ7_asList.data.toList.drop 0 = dktJ7_asList_0 := by decide +kernel
theorem dJ7_asList_0 : decode cJ7_asList 0 = .ok (.new 375, 3) := dk_187 1 119 (dk_at dksJ7_asList_0 0 rfl rfl)
theorem dJ7_asList_3 : decode cJ7_asList 3 = .ok (.dup, 1) := dk_89 (dk_at dksJ7_asList_0 3 rfl rfl)
theorem dJ7_asList_4 : decode cJ7_asList 4 = .ok (.aload_n 0, 1) := dk_42 (dk_at dksJ7_asList_0 4 rfl rfl)
theorem dJ7_asList_5 : decode cJ7_asList 5 = .ok (.invokespecial 377, 3) := dk_183 1 121 (dk_at dksJ7_asList_0 5 rfl rfl)
theorem dJ7_asList_8 : decode cJ7_asList 8 = .ok (.areturn, 1) := dk_176 (dk_at dksJ7_asList_0 8 rfl rfl)
abbrev cJ7_copyOf_3 : ByteArray := prog_49_method_121_code
def yJ7_copyOf_3 : MethodName := ⟨RJ7, "copyOf", "([BI)[B"⟩
def dkwJ7_copyOf_3_1 : List UInt8 := [27, 184, 1, 48, 184, 0, 150, 44, 176]
abbrev dktJ7_copyOf_3_1 : List UInt8 := dkwJ7_copyOf_3_1 ++ []
def dkwJ7_copyOf_3_0 : List UInt8 := [27, 42, 190, 160, 0, 11, 42, 182, 1, 54, 192, 1, 55, 176, 27, 188, 8, 77, 42, 3, 44, 3, 42, 190]
abbrev dktJ7_copyOf_3_0 : List UInt8 := dkwJ7_copyOf_3_0 ++ dktJ7_copyOf_3_1
theorem dksJ7_copyOf_3_0 : cJ7_copyOf_3.data.toList.drop 0 = dktJ7_copyOf_3_0 := by decide +kernel
theorem dksJ7_copyOf_3_1 : cJ7_copyOf_3.data.toList.drop 24 = dktJ7_copyOf_3_1 := dk_seg dksJ7_copyOf_3_0 24 rfl rfl
theorem dJ7_copyOf_3_0 : decode cJ7_copyOf_3 0 = .ok (.iload_n 1, 1) := dk_27 (dk_at dksJ7_copyOf_3_0 0 rfl rfl)
theorem dJ7_copyOf_3_1 : decode cJ7_copyOf_3 1 = .ok (.aload_n 0, 1) := dk_42 (dk_at dksJ7_copyOf_3_0 1 rfl rfl)
theorem dJ7_copyOf_3_2 : decode cJ7_copyOf_3 2 = .ok (.arraylength, 1) := dk_190 (dk_at dksJ7_copyOf_3_0 2 rfl rfl)
theorem dJ7_copyOf_3_3 : decode cJ7_copyOf_3 3 = .ok (.if_icmp .ne 11, 3) := dk_160 0 11 (dk_at dksJ7_copyOf_3_0 3 rfl rfl)
theorem dJ7_copyOf_3_6 : decode cJ7_copyOf_3 6 = .ok (.aload_n 0, 1) := dk_42 (dk_at dksJ7_copyOf_3_0 6 rfl rfl)
theorem dJ7_copyOf_3_7 : decode cJ7_copyOf_3 7 = .ok (.invokevirtual 310, 3) := dk_182 1 54 (dk_at dksJ7_copyOf_3_0 7 rfl rfl)
theorem dJ7_copyOf_3_10 : decode cJ7_copyOf_3 10 = .ok (.checkcast 311, 3) := dk_192 1 55 (dk_at dksJ7_copyOf_3_0 10 rfl rfl)
theorem dJ7_copyOf_3_13 : decode cJ7_copyOf_3 13 = .ok (.areturn, 1) := dk_176 (dk_at dksJ7_copyOf_3_0 13 rfl rfl)
theorem dJ7_copyOf_3_14 : decode cJ7_copyOf_3 14 = .ok (.iload_n 1, 1) := dk_27 (dk_at dksJ7_copyOf_3_0 14 rfl rfl)
theorem dJ7_copyOf_3_15 : decode cJ7_copyOf_3 15 = .ok (.newarray .byte, 2) := dk_188_8 (dk_at dksJ7_copyOf_3_0 15 rfl rfl)
theorem dJ7_copyOf_3_17 : decode cJ7_copyOf_3 17 = .ok (.astore_n 2, 1) := dk_77 (dk_at dksJ7_copyOf_3_0 17 rfl rfl)
theorem dJ7_copyOf_3_18 : decode cJ7_copyOf_3 18 = .ok (.aload_n 0, 1) := dk_42 (dk_at dksJ7_copyOf_3_0 18 rfl rfl)
theorem dJ7_copyOf_3_19 : decode cJ7_copyOf_3 19 = .ok (.iconst 0, 1) := dk_3 (dk_at dksJ7_copyOf_3_0 19 rfl rfl)
theorem dJ7_copyOf_3_20 : decode cJ7_copyOf_3 20 = .ok (.aload_n 2, 1) := dk_44 (dk_at dksJ7_copyOf_3_0 20 rfl rfl)
theorem dJ7_copyOf_3_21 : decode cJ7_copyOf_3 21 = .ok (.iconst 0, 1) := dk_3 (dk_at dksJ7_copyOf_3_0 21 rfl rfl)
theorem dJ7_copyOf_3_22 : decode cJ7_copyOf_3 22 = .ok (.aload_n 0, 1) := dk_42 (dk_at dksJ7_copyOf_3_0 22 rfl rfl)
theorem dJ7_copyOf_3_23 : decode cJ7_copyOf_3 23 = .ok (.arraylength, 1) := dk_190 (dk_at dksJ7_copyOf_3_0 23 rfl rfl)
theorem dJ7_copyOf_3_24 : decode cJ7_copyOf_3 24 = .ok (.iload_n 1, 1) := dk_27 (dk_at dksJ7_copyOf_3_1 0 rfl rfl)
theorem dJ7_copyOf_3_25 : decode cJ7_copyOf_3 25 = .ok (.invokestatic 304, 3) := dk_184 1 48 (dk_at dksJ7_copyOf_3_1 1 rfl rfl)
theorem dJ7_copyOf_3_28 : decode cJ7_copyOf_3 28 = .ok (.invokestatic 150, 3) := dk_184 0 150 (dk_at dksJ7_copyOf_3_1 4 rfl rfl)
theorem dJ7_copyOf_3_31 : decode cJ7_copyOf_3 31 = .ok (.aload_n 2, 1) := dk_44 (dk_at dksJ7_copyOf_3_1 7 rfl rfl)
theorem dJ7_copyOf_3_32 : decode cJ7_copyOf_3 32 = .ok (.areturn, 1) := dk_176 (dk_at dksJ7_copyOf_3_1 8 rfl rfl)
abbrev cJ7_copyOfRange : ByteArray := prog_49_method_132_code
def yJ7_copyOfRange : MethodName := ⟨RJ7, "copyOfRange", "([BII)[B"⟩
def dkwJ7_copyOfRange_1 : List UInt8 := [176]
abbrev dktJ7_copyOfRange_1 : List UInt8 := dkwJ7_copyOfRange_1 ++ []
def dkwJ7_copyOfRange_0 : List UInt8 := [27, 154, 0, 9, 28, 42, 190, 159, 0, 10, 42, 27, 28, 184, 1, 83, 176, 42, 182, 1, 54, 192, 1, 55]
abbrev dktJ7_copyOfRange_0 : List UInt8 := dkwJ7_copyOfRange_0 ++ dktJ7_copyOfRange_1
theorem dksJ7_copyOfRange_0 : cJ7_copyOfRange.data.toList.drop 0 = dktJ7_copyOfRange_0 := by decide +kernel
theorem dksJ7_copyOfRange_1 : cJ7_copyOfRange.data.toList.drop 24 = dktJ7_copyOfRange_1 := dk_seg dksJ7_copyOfRange_0 24 rfl rfl
theorem dJ7_copyOfRange_0 : decode cJ7_copyOfRange 0 = .ok (.iload_n 1, 1) := dk_27 (dk_at dksJ7_copyOfRange_0 0 rfl rfl)
theorem dJ7_copyOfRange_1 : decode cJ7_copyOfRange 1 = .ok (.ifCond .ne 9, 3) := dk_154 0 9 (dk_at dksJ7_copyOfRange_0 1 rfl rfl)
theorem dJ7_copyOfRange_4 : decode cJ7_copyOfRange 4 = .ok (.iload_n 2, 1) := dk_28 (dk_at dksJ7_copyOfRange_0 4 rfl rfl)
theorem dJ7_copyOfRange_5 : decode cJ7_copyOfRange 5 = .ok (.aload_n 0, 1) := dk_42 (dk_at dksJ7_copyOfRange_0 5 rfl rfl)
theorem dJ7_copyOfRange_6 : decode cJ7_copyOfRange 6 = .ok (.arraylength, 1) := dk_190 (dk_at dksJ7_copyOfRange_0 6 rfl rfl)
theorem dJ7_copyOfRange_7 : decode cJ7_copyOfRange 7 = .ok (.if_icmp .eq 10, 3) := dk_159 0 10 (dk_at dksJ7_copyOfRange_0 7 rfl rfl)
theorem dJ7_copyOfRange_10 : decode cJ7_copyOfRange 10 = .ok (.aload_n 0, 1) := dk_42 (dk_at dksJ7_copyOfRange_0 10 rfl rfl)
theorem dJ7_copyOfRange_11 : decode cJ7_copyOfRange 11 = .ok (.iload_n 1, 1) := dk_27 (dk_at dksJ7_copyOfRange_0 11 rfl rfl)
theorem dJ7_copyOfRange_12 : decode cJ7_copyOfRange 12 = .ok (.iload_n 2, 1) := dk_28 (dk_at dksJ7_copyOfRange_0 12 rfl rfl)
theorem dJ7_copyOfRange_13 : decode cJ7_copyOfRange 13 = .ok (.invokestatic 339, 3) := dk_184 1 83 (dk_at dksJ7_copyOfRange_0 13 rfl rfl)
theorem dJ7_copyOfRange_16 : decode cJ7_copyOfRange 16 = .ok (.areturn, 1) := dk_176 (dk_at dksJ7_copyOfRange_0 16 rfl rfl)
theorem dJ7_copyOfRange_17 : decode cJ7_copyOfRange 17 = .ok (.aload_n 0, 1) := dk_42 (dk_at dksJ7_copyOfRange_0 17 rfl rfl)
theorem dJ7_copyOfRange_18 : decode cJ7_copyOfRange 18 = .ok (.invokevirtual 310, 3) := dk_182 1 54 (dk_at dksJ7_copyOfRange_0 18 rfl rfl)
theorem dJ7_copyOfRange_21 : decode cJ7_copyOfRange 21 = .ok (.checkcast 311, 3) := dk_192 1 55 (dk_at dksJ7_copyOfRange_0 21 rfl rfl)
theorem dJ7_copyOfRange_24 : decode cJ7_copyOfRange 24 = .ok (.areturn, 1) := dk_176 (dk_at dksJ7_copyOfRange_1 0 rfl rfl)
abbrev cJ7_copyOfRangeByte : ByteArray := prog_49_method_133_code
def yJ7_copyOfRangeByte : MethodName := ⟨RJ7, "copyOfRangeByte", "([BII)[B"⟩
def dkwJ7_copyOfRangeByte_1 : List UInt8 := [184, 1, 48, 184, 0, 150, 25, 4, 176]
abbrev dktJ7_copyOfRangeByte_1 : List UInt8 := dkwJ7_copyOfRangeByte_1 ++ []
def dkwJ7_copyOfRangeByte_0 : List UInt8 := [27, 28, 184, 1, 87, 28, 27, 100, 62, 29, 188, 8, 58, 4, 42, 27, 25, 4, 3, 42, 190, 27, 100, 29]
abbrev dktJ7_copyOfRangeByte_0 : List UInt8 := dkwJ7_copyOfRangeByte_0 ++ dktJ7_copyOfRangeByte_1
theorem dksJ7_copyOfRangeByte_0 : cJ7_copyOfRangeByte.data.toList.drop 0 = dktJ7_copyOfRangeByte_0 := by decide +kernel
theorem dksJ7_copyOfRangeByte_1 : cJ7_copyOfRangeByte.data.toList.drop 24 = dktJ7_copyOfRangeByte_1 := dk_seg dksJ7_copyOfRangeByte_0 24 rfl rfl
theorem dJ7_copyOfRangeByte_0 : decode cJ7_copyOfRangeByte 0 = .ok (.iload_n 1, 1) := dk_27 (dk_at dksJ7_copyOfRangeByte_0 0 rfl rfl)
theorem dJ7_copyOfRangeByte_1 : decode cJ7_copyOfRangeByte 1 = .ok (.iload_n 2, 1) := dk_28 (dk_at dksJ7_copyOfRangeByte_0 1 rfl rfl)
theorem dJ7_copyOfRangeByte_2 : decode cJ7_copyOfRangeByte 2 = .ok (.invokestatic 343, 3) := dk_184 1 87 (dk_at dksJ7_copyOfRangeByte_0 2 rfl rfl)
theorem dJ7_copyOfRangeByte_5 : decode cJ7_copyOfRangeByte 5 = .ok (.iload_n 2, 1) := dk_28 (dk_at dksJ7_copyOfRangeByte_0 5 rfl rfl)
theorem dJ7_copyOfRangeByte_6 : decode cJ7_copyOfRangeByte 6 = .ok (.iload_n 1, 1) := dk_27 (dk_at dksJ7_copyOfRangeByte_0 6 rfl rfl)
theorem dJ7_copyOfRangeByte_7 : decode cJ7_copyOfRangeByte 7 = .ok (.isub, 1) := dk_100 (dk_at dksJ7_copyOfRangeByte_0 7 rfl rfl)
theorem dJ7_copyOfRangeByte_8 : decode cJ7_copyOfRangeByte 8 = .ok (.istore_n 3, 1) := dk_62 (dk_at dksJ7_copyOfRangeByte_0 8 rfl rfl)
theorem dJ7_copyOfRangeByte_9 : decode cJ7_copyOfRangeByte 9 = .ok (.iload_n 3, 1) := dk_29 (dk_at dksJ7_copyOfRangeByte_0 9 rfl rfl)
theorem dJ7_copyOfRangeByte_10 : decode cJ7_copyOfRangeByte 10 = .ok (.newarray .byte, 2) := dk_188_8 (dk_at dksJ7_copyOfRangeByte_0 10 rfl rfl)
theorem dJ7_copyOfRangeByte_12 : decode cJ7_copyOfRangeByte 12 = .ok (.astore 4, 2) := dk_58 4 (dk_at dksJ7_copyOfRangeByte_0 12 rfl rfl)
theorem dJ7_copyOfRangeByte_14 : decode cJ7_copyOfRangeByte 14 = .ok (.aload_n 0, 1) := dk_42 (dk_at dksJ7_copyOfRangeByte_0 14 rfl rfl)
theorem dJ7_copyOfRangeByte_15 : decode cJ7_copyOfRangeByte 15 = .ok (.iload_n 1, 1) := dk_27 (dk_at dksJ7_copyOfRangeByte_0 15 rfl rfl)
theorem dJ7_copyOfRangeByte_16 : decode cJ7_copyOfRangeByte 16 = .ok (.aload 4, 2) := dk_25 4 (dk_at dksJ7_copyOfRangeByte_0 16 rfl rfl)
theorem dJ7_copyOfRangeByte_18 : decode cJ7_copyOfRangeByte 18 = .ok (.iconst 0, 1) := dk_3 (dk_at dksJ7_copyOfRangeByte_0 18 rfl rfl)
theorem dJ7_copyOfRangeByte_19 : decode cJ7_copyOfRangeByte 19 = .ok (.aload_n 0, 1) := dk_42 (dk_at dksJ7_copyOfRangeByte_0 19 rfl rfl)
theorem dJ7_copyOfRangeByte_20 : decode cJ7_copyOfRangeByte 20 = .ok (.arraylength, 1) := dk_190 (dk_at dksJ7_copyOfRangeByte_0 20 rfl rfl)
theorem dJ7_copyOfRangeByte_21 : decode cJ7_copyOfRangeByte 21 = .ok (.iload_n 1, 1) := dk_27 (dk_at dksJ7_copyOfRangeByte_0 21 rfl rfl)
theorem dJ7_copyOfRangeByte_22 : decode cJ7_copyOfRangeByte 22 = .ok (.isub, 1) := dk_100 (dk_at dksJ7_copyOfRangeByte_0 22 rfl rfl)
theorem dJ7_copyOfRangeByte_23 : decode cJ7_copyOfRangeByte 23 = .ok (.iload_n 3, 1) := dk_29 (dk_at dksJ7_copyOfRangeByte_0 23 rfl rfl)
theorem dJ7_copyOfRangeByte_24 : decode cJ7_copyOfRangeByte 24 = .ok (.invokestatic 304, 3) := dk_184 1 48 (dk_at dksJ7_copyOfRangeByte_1 0 rfl rfl)
theorem dJ7_copyOfRangeByte_27 : decode cJ7_copyOfRangeByte 27 = .ok (.invokestatic 150, 3) := dk_184 0 150 (dk_at dksJ7_copyOfRangeByte_1 3 rfl rfl)
theorem dJ7_copyOfRangeByte_30 : decode cJ7_copyOfRangeByte 30 = .ok (.aload 4, 2) := dk_25 4 (dk_at dksJ7_copyOfRangeByte_1 6 rfl rfl)
theorem dJ7_copyOfRangeByte_32 : decode cJ7_copyOfRangeByte 32 = .ok (.areturn, 1) := dk_176 (dk_at dksJ7_copyOfRangeByte_1 8 rfl rfl)
abbrev cJ7_checkLength : ByteArray := prog_49_method_131_code
def yJ7_checkLength : MethodName := ⟨RJ7, "checkLength", "(II)V"⟩
def dkwJ7_checkLength_1 : List UInt8 := [182, 0, 50, 27, 182, 0, 54, 182, 0, 61, 183, 0, 65, 191, 177]
abbrev dktJ7_checkLength_1 : List UInt8 := dkwJ7_checkLength_1 ++ []
def dkwJ7_checkLength_0 : List UInt8 := [27, 26, 162, 0, 35, 187, 0, 43, 89, 187, 0, 45, 89, 183, 0, 47, 26, 182, 0, 54, 19, 1, 81]
abbrev dktJ7_checkLength_0 : List UInt8 := dkwJ7_checkLength_0 ++ dktJ7_checkLength_1
theorem dksJ7_checkLength_0 : cJ7_checkLength.data.toList.drop 0 = dktJ7_checkLength_0 := by decide +kernel
theorem dksJ7_checkLength_1 : cJ7_checkLength.data.toList.drop 23 = dktJ7_checkLength_1 := dk_seg dksJ7_checkLength_0 23 rfl rfl
theorem dJ7_checkLength_0 : decode cJ7_checkLength 0 = .ok (.iload_n 1, 1) := dk_27 (dk_at dksJ7_checkLength_0 0 rfl rfl)
theorem dJ7_checkLength_1 : decode cJ7_checkLength 1 = .ok (.iload_n 0, 1) := dk_26 (dk_at dksJ7_checkLength_0 1 rfl rfl)
theorem dJ7_checkLength_2 : decode cJ7_checkLength 2 = .ok (.if_icmp .ge 35, 3) := dk_162 0 35 (dk_at dksJ7_checkLength_0 2 rfl rfl)
theorem dJ7_checkLength_5 : decode cJ7_checkLength 5 = .ok (.new 43, 3) := dk_187 0 43 (dk_at dksJ7_checkLength_0 5 rfl rfl)
theorem dJ7_checkLength_8 : decode cJ7_checkLength 8 = .ok (.dup, 1) := dk_89 (dk_at dksJ7_checkLength_0 8 rfl rfl)
theorem dJ7_checkLength_9 : decode cJ7_checkLength 9 = .ok (.new 45, 3) := dk_187 0 45 (dk_at dksJ7_checkLength_0 9 rfl rfl)
theorem dJ7_checkLength_12 : decode cJ7_checkLength 12 = .ok (.dup, 1) := dk_89 (dk_at dksJ7_checkLength_0 12 rfl rfl)
theorem dJ7_checkLength_13 : decode cJ7_checkLength 13 = .ok (.invokespecial 47, 3) := dk_183 0 47 (dk_at dksJ7_checkLength_0 13 rfl rfl)
theorem dJ7_checkLength_16 : decode cJ7_checkLength 16 = .ok (.iload_n 0, 1) := dk_26 (dk_at dksJ7_checkLength_0 16 rfl rfl)
theorem dJ7_checkLength_17 : decode cJ7_checkLength 17 = .ok (.invokevirtual 54, 3) := dk_182 0 54 (dk_at dksJ7_checkLength_0 17 rfl rfl)
theorem dJ7_checkLength_20 : decode cJ7_checkLength 20 = .ok (.ldc_w 337, 3) := dk_19 1 81 (dk_at dksJ7_checkLength_0 20 rfl rfl)
theorem dJ7_checkLength_23 : decode cJ7_checkLength 23 = .ok (.invokevirtual 50, 3) := dk_182 0 50 (dk_at dksJ7_checkLength_1 0 rfl rfl)
theorem dJ7_checkLength_26 : decode cJ7_checkLength 26 = .ok (.iload_n 1, 1) := dk_27 (dk_at dksJ7_checkLength_1 3 rfl rfl)
theorem dJ7_checkLength_27 : decode cJ7_checkLength 27 = .ok (.invokevirtual 54, 3) := dk_182 0 54 (dk_at dksJ7_checkLength_1 4 rfl rfl)
theorem dJ7_checkLength_30 : decode cJ7_checkLength 30 = .ok (.invokevirtual 61, 3) := dk_182 0 61 (dk_at dksJ7_checkLength_1 7 rfl rfl)
theorem dJ7_checkLength_33 : decode cJ7_checkLength 33 = .ok (.invokespecial 65, 3) := dk_183 0 65 (dk_at dksJ7_checkLength_1 10 rfl rfl)
theorem dJ7_checkLength_36 : decode cJ7_checkLength 36 = .ok (.athrow, 1) := dk_191 (dk_at dksJ7_checkLength_1 13 rfl rfl)
theorem dJ7_checkLength_37 : decode cJ7_checkLength 37 = .ok (.return_, 1) := dk_177 (dk_at dksJ7_checkLength_1 14 rfl rfl)
def yJ7_copyOfRange_2 : MethodName := ⟨RJ7, "copyOfRange", "([Ljava/lang/Object;II)[Ljava/lang/Object;"⟩
def yJ7_copyOfRange_3 : MethodName := ⟨RJ7, "copyOfRange", "([Ljava/lang/Object;IILjava/lang/Class;)[Ljava/lang/Object;"⟩
abbrev cJ7_sort : ByteArray := prog_49_method_41_code
def yJ7_sort : MethodName := ⟨RJ7, "sort", "([Ljava/lang/Object;Ljava/util/Comparator;)V"⟩
def dkwJ7_sort_1 : List UInt8 := [167, 0, 14, 42, 3, 42, 190, 43, 1, 3, 3, 184, 0, 79, 177]
abbrev dktJ7_sort_1 : List UInt8 := dkwJ7_sort_1 ++ []
def dkwJ7_sort_0 : List UInt8 := [43, 199, 0, 10, 42, 184, 0, 156, 167, 0, 28, 178, 0, 112, 153, 0, 11, 42, 43, 184, 0, 158]
abbrev dktJ7_sort_0 : List UInt8 := dkwJ7_sort_0 ++ dktJ7_sort_1
theorem dksJ7_sort_0 : cJ7_sort.data.toList.drop 0 = dktJ7_sort_0 := by decide +kernel
theorem dksJ7_sort_1 : cJ7_sort.data.toList.drop 22 = dktJ7_sort_1 := dk_seg dksJ7_sort_0 22 rfl rfl
theorem dJ7_sort_0 : decode cJ7_sort 0 = .ok (.aload_n 1, 1) := dk_43 (dk_at dksJ7_sort_0 0 rfl rfl)
theorem dJ7_sort_1 : decode cJ7_sort 1 = .ok (.ifnonnull 10, 3) := dk_199 0 10 (dk_at dksJ7_sort_0 1 rfl rfl)
theorem dJ7_sort_4 : decode cJ7_sort 4 = .ok (.aload_n 0, 1) := dk_42 (dk_at dksJ7_sort_0 4 rfl rfl)
theorem dJ7_sort_5 : decode cJ7_sort 5 = .ok (.invokestatic 156, 3) := dk_184 0 156 (dk_at dksJ7_sort_0 5 rfl rfl)
theorem dJ7_sort_8 : decode cJ7_sort 8 = .ok (.goto 28, 3) := dk_167 0 28 (dk_at dksJ7_sort_0 8 rfl rfl)
theorem dJ7_sort_11 : decode cJ7_sort 11 = .ok (.getstatic 112, 3) := dk_178 0 112 (dk_at dksJ7_sort_0 11 rfl rfl)
theorem dJ7_sort_14 : decode cJ7_sort 14 = .ok (.ifCond .eq 11, 3) := dk_153 0 11 (dk_at dksJ7_sort_0 14 rfl rfl)
theorem dJ7_sort_17 : decode cJ7_sort 17 = .ok (.aload_n 0, 1) := dk_42 (dk_at dksJ7_sort_0 17 rfl rfl)
theorem dJ7_sort_18 : decode cJ7_sort 18 = .ok (.aload_n 1, 1) := dk_43 (dk_at dksJ7_sort_0 18 rfl rfl)
theorem dJ7_sort_19 : decode cJ7_sort 19 = .ok (.invokestatic 158, 3) := dk_184 0 158 (dk_at dksJ7_sort_0 19 rfl rfl)
theorem dJ7_sort_22 : decode cJ7_sort 22 = .ok (.goto 14, 3) := dk_167 0 14 (dk_at dksJ7_sort_1 0 rfl rfl)
theorem dJ7_sort_25 : decode cJ7_sort 25 = .ok (.aload_n 0, 1) := dk_42 (dk_at dksJ7_sort_1 3 rfl rfl)
theorem dJ7_sort_26 : decode cJ7_sort 26 = .ok (.iconst 0, 1) := dk_3 (dk_at dksJ7_sort_1 4 rfl rfl)
theorem dJ7_sort_27 : decode cJ7_sort 27 = .ok (.aload_n 0, 1) := dk_42 (dk_at dksJ7_sort_1 5 rfl rfl)
theorem dJ7_sort_28 : decode cJ7_sort 28 = .ok (.arraylength, 1) := dk_190 (dk_at dksJ7_sort_1 6 rfl rfl)
theorem dJ7_sort_29 : decode cJ7_sort 29 = .ok (.aload_n 1, 1) := dk_43 (dk_at dksJ7_sort_1 7 rfl rfl)
theorem dJ7_sort_30 : decode cJ7_sort 30 = .ok (.aconst_null, 1) := dk_1 (dk_at dksJ7_sort_1 8 rfl rfl)
theorem dJ7_sort_31 : decode cJ7_sort 31 = .ok (.iconst 0, 1) := dk_3 (dk_at dksJ7_sort_1 9 rfl rfl)
theorem dJ7_sort_32 : decode cJ7_sort 32 = .ok (.iconst 0, 1) := dk_3 (dk_at dksJ7_sort_1 10 rfl rfl)
theorem dJ7_sort_33 : decode cJ7_sort 33 = .ok (.invokestatic 79, 3) := dk_184 0 79 (dk_at dksJ7_sort_1 11 rfl rfl)
theorem dJ7_sort_36 : decode cJ7_sort 36 = .ok (.return_, 1) := dk_177 (dk_at dksJ7_sort_1 14 rfl rfl)
def yJ7_sort_2 : MethodName := ⟨RJ7, "sort", "([Ljava/lang/Object;)V"⟩
def yJ7_sort_3 : MethodName := ⟨RJ7, "sort", "([Ljava/lang/Object;IILjava/util/Comparator;)V"⟩
def yJ7_sort_4 : MethodName := ⟨RJ7, "sort", "([Ljava/lang/Object;II)V"⟩
def yJ7_rangeCheck : MethodName := ⟨RJ7, "rangeCheck", "(III)V"⟩
theorem q65 : (Jvm.Cond.initialized "java/util/Arrays") ∈ lw_all := lw_g (lw_at lw_m1 10 rfl) rfl
theorem q213 : (Jvm.Cond.static ({ cls := "java/util/Arrays", name := "copyOf", desc := "([Ljava/lang/Object;I)[Ljava/lang/Object;" } : Jvm.MethodName)) ∈ lw_all := lw_g (lw_at lw_m1 158 rfl) rfl
theorem q214 : (Jvm.Cond.code ({ cls := "java/util/Arrays", name := "copyOf", desc := "([Ljava/lang/Object;I)[Ljava/lang/Object;" } : Jvm.MethodName) prog_49_method_119_code (2 : Nat) (Option.some (Jvm.ClassFile.FieldType.array (Jvm.ClassFile.FieldType.object "java/lang/Object")))) ∈ lw_all := lw_g (lw_at lw_m1 159 rfl) rfl
theorem q215 : (Jvm.Cond.methodLink "java/util/Arrays" (86 : Nat) ({ cls := "java/lang/Object", name := "getClass", desc := "()Ljava/lang/Class;" } : Jvm.MethodName)) ∈ lw_all := lw_g (lw_at lw_m1 160 rfl) rfl
theorem q251 : (Jvm.Cond.methodLink "java/util/Arrays" (300 : Nat) ({ cls := "java/util/Arrays", name := "copyOf", desc := "([Ljava/lang/Object;ILjava/lang/Class;)[Ljava/lang/Object;" } : Jvm.MethodName)) ∈ lw_all := lw_g (lw_at lw_m1 196 rfl) rfl
theorem q252 : (Jvm.Cond.static ({ cls := "java/util/Arrays", name := "copyOf", desc := "([Ljava/lang/Object;ILjava/lang/Class;)[Ljava/lang/Object;" } : Jvm.MethodName)) ∈ lw_all := lw_g (lw_at lw_m1 197 rfl) rfl
theorem q253 : (Jvm.Cond.code ({ cls := "java/util/Arrays", name := "copyOf", desc := "([Ljava/lang/Object;ILjava/lang/Class;)[Ljava/lang/Object;" } : Jvm.MethodName) prog_49_method_120_code (4 : Nat) (Option.some (Jvm.ClassFile.FieldType.array (Jvm.ClassFile.FieldType.object "java/lang/Object")))) ∈ lw_all := lw_g (lw_at lw_m1 198 rfl) rfl
theorem q254 : (Jvm.Cond.classLink "java/util/Arrays" (110 : Nat) "[Ljava/lang/Object;") ∈ lw_all := lw_g (lw_at lw_m1 199 rfl) rfl
theorem q256 : (Jvm.Cond.classLink "java/util/Arrays" (2 : Nat) "java/lang/Object") ∈ lw_all := lw_g (lw_at lw_m1 201 rfl) rfl
theorem q257 : (Jvm.Cond.methodLink "java/util/Arrays" (304 : Nat) ({ cls := "java/lang/Math", name := "min", desc := "(II)I" } : Jvm.MethodName)) ∈ lw_all := lw_g (lw_at lw_m1 202 rfl) rfl
theorem q260 : (Jvm.Cond.methodLink "java/util/Arrays" (150 : Nat) ({ cls := "java/lang/System", name := "arraycopy", desc := "(Ljava/lang/Object;ILjava/lang/Object;II)V" } : Jvm.MethodName)) ∈ lw_all := lw_g (lw_at lw_m1 205 rfl) rfl
theorem q281 : (Jvm.Cond.static ({ cls := "java/util/Arrays", name := "asList", desc := "([Ljava/lang/Object;)Ljava/util/List;" } : Jvm.MethodName)) ∈ lw_all := lw_g (lw_at lw_m1 226 rfl) rfl
theorem q282 : (Jvm.Cond.code ({ cls := "java/util/Arrays", name := "asList", desc := "([Ljava/lang/Object;)Ljava/util/List;" } : Jvm.MethodName) prog_49_method_148_code (1 : Nat) (Option.some (Jvm.ClassFile.FieldType.object "java/util/List"))) ∈ lw_all := lw_g (lw_at lw_m1 227 rfl) rfl
theorem q283 : (Jvm.Cond.classLink "java/util/Arrays" (375 : Nat) "java/util/Arrays$ArrayList") ∈ lw_all := lw_g (lw_at lw_m1 228 rfl) rfl
theorem q285 : (Jvm.Cond.methodLink "java/util/Arrays" (377 : Nat) ({ cls := "java/util/Arrays$ArrayList", name := "<init>", desc := "([Ljava/lang/Object;)V" } : Jvm.MethodName)) ∈ lw_all := lw_g (lw_at lw_m1 230 rfl) rfl
theorem q553 : (Jvm.Cond.static ({ cls := "java/util/Arrays", name := "copyOf", desc := "([BI)[B" } : Jvm.MethodName)) ∈ lw_all := lw_g (lw_at lw_m3 18 rfl) rfl
theorem q554 : (Jvm.Cond.code ({ cls := "java/util/Arrays", name := "copyOf", desc := "([BI)[B" } : Jvm.MethodName) prog_49_method_121_code (3 : Nat) (Option.some (Jvm.ClassFile.FieldType.array Jvm.ClassFile.FieldType.byte))) ∈ lw_all := lw_g (lw_at lw_m3 19 rfl) rfl
theorem q555 : (Jvm.Cond.methodLink "java/util/Arrays" (310 : Nat) ({ cls := "[B", name := "clone", desc := "()Ljava/lang/Object;" } : Jvm.MethodName)) ∈ lw_all := lw_g (lw_at lw_m3 20 rfl) rfl
theorem q561 : (Jvm.Cond.classLink "java/util/Arrays" (311 : Nat) "[B") ∈ lw_all := lw_g (lw_at lw_m3 26 rfl) rfl
theorem q690 : (Jvm.Cond.static ({ cls := "java/util/Arrays", name := "copyOfRange", desc := "([BII)[B" } : Jvm.MethodName)) ∈ lw_all := lw_g (lw_at lw_m3 155 rfl) rfl
theorem q691 : (Jvm.Cond.code ({ cls := "java/util/Arrays", name := "copyOfRange", desc := "([BII)[B" } : Jvm.MethodName) prog_49_method_132_code (3 : Nat) (Option.some (Jvm.ClassFile.FieldType.array Jvm.ClassFile.FieldType.byte))) ∈ lw_all := lw_g (lw_at lw_m3 156 rfl) rfl
theorem q692 : (Jvm.Cond.methodLink "java/util/Arrays" (339 : Nat) ({ cls := "java/util/Arrays", name := "copyOfRangeByte", desc := "([BII)[B" } : Jvm.MethodName)) ∈ lw_all := lw_g (lw_at lw_m3 157 rfl) rfl
theorem q693 : (Jvm.Cond.static ({ cls := "java/util/Arrays", name := "copyOfRangeByte", desc := "([BII)[B" } : Jvm.MethodName)) ∈ lw_all := lw_g (lw_at lw_m3 158 rfl) rfl
theorem q694 : (Jvm.Cond.code ({ cls := "java/util/Arrays", name := "copyOfRangeByte", desc := "([BII)[B" } : Jvm.MethodName) prog_49_method_133_code (5 : Nat) (Option.some (Jvm.ClassFile.FieldType.array Jvm.ClassFile.FieldType.byte))) ∈ lw_all := lw_g (lw_at lw_m3 159 rfl) rfl
theorem q695 : (Jvm.Cond.methodLink "java/util/Arrays" (343 : Nat) ({ cls := "java/util/Arrays", name := "checkLength", desc := "(II)V" } : Jvm.MethodName)) ∈ lw_all := lw_g (lw_at lw_m3 160 rfl) rfl
theorem q696 : (Jvm.Cond.static ({ cls := "java/util/Arrays", name := "checkLength", desc := "(II)V" } : Jvm.MethodName)) ∈ lw_all := lw_g (lw_at lw_m3 161 rfl) rfl
theorem q697 : (Jvm.Cond.code ({ cls := "java/util/Arrays", name := "checkLength", desc := "(II)V" } : Jvm.MethodName) prog_49_method_131_code (2 : Nat) (Option.none : Option Jvm.ClassFile.FieldType)) ∈ lw_all := lw_g (lw_at lw_m3 162 rfl) rfl
theorem q698 : (Jvm.Cond.classLink "java/util/Arrays" (43 : Nat) "java/lang/IllegalArgumentException") ∈ lw_all := lw_g (lw_at lw_m3 163 rfl) rfl
theorem q707 : (Jvm.Cond.classLink "java/util/Arrays" (45 : Nat) "java/lang/StringBuilder") ∈ lw_all := lw_g (lw_at lw_m3 172 rfl) rfl
theorem q708 : (Jvm.Cond.methodLink "java/util/Arrays" (47 : Nat) ({ cls := "java/lang/StringBuilder", name := "<init>", desc := "()V" } : Jvm.MethodName)) ∈ lw_all := lw_g (lw_at lw_m3 173 rfl) rfl
theorem q709 : (Jvm.Cond.methodLink "java/util/Arrays" (54 : Nat) ({ cls := "java/lang/StringBuilder", name := "append", desc := "(I)Ljava/lang/StringBuilder;" } : Jvm.MethodName)) ∈ lw_all := lw_g (lw_at lw_m3 174 rfl) rfl
theorem q710 : (Jvm.Cond.stringRef "java/util/Arrays" (337 : Nat) " > ") ∈ lw_tbl := lw_at lw_m3 175 rfl
theorem q711 : (Jvm.Cond.methodLink "java/util/Arrays" (50 : Nat) ({ cls := "java/lang/StringBuilder", name := "append", desc := "(Ljava/lang/String;)Ljava/lang/StringBuilder;" } : Jvm.MethodName)) ∈ lw_all := lw_g (lw_at lw_m3 176 rfl) rfl
theorem q712 : (Jvm.Cond.methodLink "java/util/Arrays" (61 : Nat) ({ cls := "java/lang/StringBuilder", name := "toString", desc := "()Ljava/lang/String;" } : Jvm.MethodName)) ∈ lw_all := lw_g (lw_at lw_m3 177 rfl) rfl
theorem q713 : (Jvm.Cond.methodLink "java/util/Arrays" (65 : Nat) ({ cls := "java/lang/IllegalArgumentException", name := "<init>", desc := "(Ljava/lang/String;)V" } : Jvm.MethodName)) ∈ lw_all := lw_g (lw_at lw_m3 178 rfl) rfl
theorem q2666 : (Jvm.Cond.static ({ cls := "java/util/Arrays", name := "copyOfRange", desc := "([Ljava/lang/Object;II)[Ljava/lang/Object;" } : Jvm.MethodName)) ∈ lw_all := lw_g (lw_at lw_m11 211 rfl) rfl
theorem q2667 : (Jvm.Cond.code ({ cls := "java/util/Arrays", name := "copyOfRange", desc := "([Ljava/lang/Object;II)[Ljava/lang/Object;" } : Jvm.MethodName) prog_49_method_129_code (3 : Nat) (Option.some (Jvm.ClassFile.FieldType.array (Jvm.ClassFile.FieldType.object "java/lang/Object")))) ∈ lw_all := lw_g (lw_at lw_m11 212 rfl) rfl
theorem q2668 : (Jvm.Cond.methodLink "java/util/Arrays" (334 : Nat) ({ cls := "java/util/Arrays", name := "copyOfRange", desc := "([Ljava/lang/Object;IILjava/lang/Class;)[Ljava/lang/Object;" } : Jvm.MethodName)) ∈ lw_all := lw_g (lw_at lw_m11 213 rfl) rfl
theorem q2669 : (Jvm.Cond.static ({ cls := "java/util/Arrays", name := "copyOfRange", desc := "([Ljava/lang/Object;IILjava/lang/Class;)[Ljava/lang/Object;" } : Jvm.MethodName)) ∈ lw_all := lw_g (lw_at lw_m11 214 rfl) rfl
theorem q2670 : (Jvm.Cond.code ({ cls := "java/util/Arrays", name := "copyOfRange", desc := "([Ljava/lang/Object;IILjava/lang/Class;)[Ljava/lang/Object;" } : Jvm.MethodName) prog_49_method_130_code (6 : Nat) (Option.some (Jvm.ClassFile.FieldType.array (Jvm.ClassFile.FieldType.object "java/lang/Object")))) ∈ lw_all := lw_g (lw_at lw_m11 215 rfl) rfl
theorem q2678 : (Jvm.Cond.static ({ cls := "java/util/Arrays", name := "sort", desc := "([Ljava/lang/Object;Ljava/util/Comparator;)V" } : Jvm.MethodName)) ∈ lw_all := lw_g (lw_at lw_m11 223 rfl) rfl
theorem q2679 : (Jvm.Cond.code ({ cls := "java/util/Arrays", name := "sort", desc := "([Ljava/lang/Object;Ljava/util/Comparator;)V" } : Jvm.MethodName) prog_49_method_41_code (2 : Nat) (Option.none : Option Jvm.ClassFile.FieldType)) ∈ lw_all := lw_g (lw_at lw_m11 224 rfl) rfl
theorem q2680 : (Jvm.Cond.methodLink "java/util/Arrays" (156 : Nat) ({ cls := "java/util/Arrays", name := "sort", desc := "([Ljava/lang/Object;)V" } : Jvm.MethodName)) ∈ lw_all := lw_g (lw_at lw_m11 225 rfl) rfl
theorem q2681 : (Jvm.Cond.static ({ cls := "java/util/Arrays", name := "sort", desc := "([Ljava/lang/Object;)V" } : Jvm.MethodName)) ∈ lw_all := lw_g (lw_at lw_m11 226 rfl) rfl
theorem q2682 : (Jvm.Cond.code ({ cls := "java/util/Arrays", name := "sort", desc := "([Ljava/lang/Object;)V" } : Jvm.MethodName) prog_49_method_35_code (1 : Nat) (Option.none : Option Jvm.ClassFile.FieldType)) ∈ lw_all := lw_g (lw_at lw_m11 227 rfl) rfl
theorem q2683 : (Jvm.Cond.fieldLinkNest "java/util/Arrays" (112 : Nat) "java/util/Arrays$LegacyMergeSort" "userRequested" "Z" "java/util/Arrays") ∈ lw_tbl := lw_at lw_m11 228 rfl
theorem q2685 : (Jvm.Cond.methodLink "java/util/Arrays" (122 : Nat) ({ cls := "java/util/ComparableTimSort", name := "sort", desc := "([Ljava/lang/Object;II[Ljava/lang/Object;II)V" } : Jvm.MethodName)) ∈ lw_all := lw_g (lw_at lw_m11 230 rfl) rfl
theorem q2971 : (Jvm.Cond.methodLink "java/util/Arrays" (79 : Nat) ({ cls := "java/util/TimSort", name := "sort", desc := "([Ljava/lang/Object;IILjava/util/Comparator;[Ljava/lang/Object;II)V" } : Jvm.MethodName)) ∈ lw_all := lw_g (lw_at lw_m13 36 rfl) rfl
theorem q3013 : (Jvm.Cond.static ({ cls := "java/util/Arrays", name := "sort", desc := "([Ljava/lang/Object;IILjava/util/Comparator;)V" } : Jvm.MethodName)) ∈ lw_all := lw_g (lw_at lw_m13 78 rfl) rfl
theorem q3014 : (Jvm.Cond.code ({ cls := "java/util/Arrays", name := "sort", desc := "([Ljava/lang/Object;IILjava/util/Comparator;)V" } : Jvm.MethodName) prog_49_method_43_code (4 : Nat) (Option.none : Option Jvm.ClassFile.FieldType)) ∈ lw_all := lw_g (lw_at lw_m13 79 rfl) rfl
theorem q3015 : (Jvm.Cond.methodLink "java/util/Arrays" (164 : Nat) ({ cls := "java/util/Arrays", name := "sort", desc := "([Ljava/lang/Object;II)V" } : Jvm.MethodName)) ∈ lw_all := lw_g (lw_at lw_m13 80 rfl) rfl
theorem q3016 : (Jvm.Cond.static ({ cls := "java/util/Arrays", name := "sort", desc := "([Ljava/lang/Object;II)V" } : Jvm.MethodName)) ∈ lw_all := lw_g (lw_at lw_m13 81 rfl) rfl
theorem q3017 : (Jvm.Cond.code ({ cls := "java/util/Arrays", name := "sort", desc := "([Ljava/lang/Object;II)V" } : Jvm.MethodName) prog_49_method_37_code (3 : Nat) (Option.none : Option Jvm.ClassFile.FieldType)) ∈ lw_all := lw_g (lw_at lw_m13 82 rfl) rfl
theorem q3018 : (Jvm.Cond.methodLink "java/util/Arrays" (13 : Nat) ({ cls := "java/util/Arrays", name := "rangeCheck", desc := "(III)V" } : Jvm.MethodName)) ∈ lw_all := lw_g (lw_at lw_m13 83 rfl) rfl
theorem q3019 : (Jvm.Cond.static ({ cls := "java/util/Arrays", name := "rangeCheck", desc := "(III)V" } : Jvm.MethodName)) ∈ lw_all := lw_g (lw_at lw_m13 84 rfl) rfl
theorem q3020 : (Jvm.Cond.code ({ cls := "java/util/Arrays", name := "rangeCheck", desc := "(III)V" } : Jvm.MethodName) prog_49_method_30_code (3 : Nat) (Option.none : Option Jvm.ClassFile.FieldType)) ∈ lw_all := lw_g (lw_at lw_m13 85 rfl) rfl
theorem q3021 : (Jvm.Cond.stringRef "java/util/Arrays" (48 : Nat) "fromIndex(") ∈ lw_tbl := lw_at lw_m13 86 rfl
theorem q3022 : (Jvm.Cond.stringRef "java/util/Arrays" (57 : Nat) ") > toIndex(") ∈ lw_tbl := lw_at lw_m13 87 rfl
theorem q3023 : (Jvm.Cond.stringRef "java/util/Arrays" (59 : Nat) ")") ∈ lw_tbl := lw_at lw_m13 88 rfl
theorem q3024 : (Jvm.Cond.classLink "java/util/Arrays" (68 : Nat) "java/lang/ArrayIndexOutOfBoundsException") ∈ lw_all := lw_g (lw_at lw_m13 89 rfl) rfl
theorem q3025 : (Jvm.Cond.methodLink "java/util/Arrays" (70 : Nat) ({ cls := "java/lang/ArrayIndexOutOfBoundsException", name := "<init>", desc := "(I)V" } : Jvm.MethodName)) ∈ lw_all := lw_g (lw_at lw_m13 90 rfl) rfl

/-! java/util/Collections -/
set_option maxRecDepth 100000
def RJ34 : String := "java/util/Collections"
abbrev cJ34_frequency : ByteArray := prog_54_method_82_code
def yJ34_frequency : MethodName := ⟨RJ34, "frequency", "(Ljava/util/Collection;Ljava/lang/Object;)I"⟩
def dkwJ34_frequency_3 : List UInt8 := [25, 4, 182, 0, 154, 153, 0, 6, 132, 2, 1, 167, 255, 227, 28, 172]
abbrev dktJ34_frequency_3 : List UInt8 := dkwJ34_frequency_3 ++ []
def dkwJ34_frequency_2 : List UInt8 := [185, 0, 119, 1, 0, 78, 45, 185, 0, 128, 1, 0, 153, 0, 26, 45, 185, 0, 125, 1, 0, 58, 4, 43]
abbrev dktJ34_frequency_2 : List UInt8 := dkwJ34_frequency_2 ++ dktJ34_frequency_3
def dkwJ34_frequency_1 : List UInt8 := [185, 0, 125, 1, 0, 58, 4, 25, 4, 199, 0, 6, 132, 2, 1, 167, 255, 231, 167, 0, 42, 42]
abbrev dktJ34_frequency_1 : List UInt8 := dkwJ34_frequency_1 ++ dktJ34_frequency_2
def dkwJ34_frequency_0 : List UInt8 := [3, 61, 43, 199, 0, 41, 42, 185, 0, 119, 1, 0, 78, 45, 185, 0, 128, 1, 0, 153, 0, 22, 45]
abbrev dktJ34_frequency_0 : List UInt8 := dkwJ34_frequency_0 ++ dktJ34_frequency_1
theorem dksJ34_frequency_0 : cJ34_frequency.data.toList.drop 0 = dktJ34_frequency_0 := by decide +kernel
theorem dksJ34_frequency_1 : cJ34_frequency.data.toList.drop 23 = dktJ34_frequency_1 := dk_seg dksJ34_frequency_0 23 rfl rfl
theorem dksJ34_frequency_2 : cJ34_frequency.data.toList.drop 45 = dktJ34_frequency_2 := dk_seg dksJ34_frequency_1 22 rfl rfl
theorem dksJ34_frequency_3 : cJ34_frequency.data.toList.drop 69 = dktJ34_frequency_3 := dk_seg dksJ34_frequency_2 24 rfl rfl
theorem dJ34_frequency_0 : decode cJ34_frequency 0 = .ok (.iconst 0, 1) := dk_3 (dk_at dksJ34_frequency_0 0 rfl rfl)
theorem dJ34_frequency_1 : decode cJ34_frequency 1 = .ok (.istore_n 2, 1) := dk_61 (dk_at dksJ34_frequency_0 1 rfl rfl)
theorem dJ34_frequency_2 : decode cJ34_frequency 2 = .ok (.aload_n 1, 1) := dk_43 (dk_at dksJ34_frequency_0 2 rfl rfl)
theorem dJ34_frequency_3 : decode cJ34_frequency 3 = .ok (.ifnonnull 41, 3) := dk_199 0 41 (dk_at dksJ34_frequency_0 3 rfl rfl)
theorem dJ34_frequency_6 : decode cJ34_frequency 6 = .ok (.aload_n 0, 1) := dk_42 (dk_at dksJ34_frequency_0 6 rfl rfl)
theorem dJ34_frequency_7 : decode cJ34_frequency 7 = .ok (.invokeinterface 119 1, 5) := by decide +kernel
theorem dJ34_frequency_12 : decode cJ34_frequency 12 = .ok (.astore_n 3, 1) := dk_78 (dk_at dksJ34_frequency_0 12 rfl rfl)
theorem dJ34_frequency_13 : decode cJ34_frequency 13 = .ok (.aload_n 3, 1) := dk_45 (dk_at dksJ34_frequency_0 13 rfl rfl)
theorem dJ34_frequency_14 : decode cJ34_frequency 14 = .ok (.invokeinterface 128 1, 5) := by decide +kernel
theorem dJ34_frequency_19 : decode cJ34_frequency 19 = .ok (.ifCond .eq 22, 3) := dk_153 0 22 (dk_at dksJ34_frequency_0 19 rfl rfl)
theorem dJ34_frequency_22 : decode cJ34_frequency 22 = .ok (.aload_n 3, 1) := dk_45 (dk_at dksJ34_frequency_0 22 rfl rfl)
theorem dJ34_frequency_23 : decode cJ34_frequency 23 = .ok (.invokeinterface 125 1, 5) := by decide +kernel
theorem dJ34_frequency_28 : decode cJ34_frequency 28 = .ok (.astore 4, 2) := dk_58 4 (dk_at dksJ34_frequency_1 5 rfl rfl)
theorem dJ34_frequency_30 : decode cJ34_frequency 30 = .ok (.aload 4, 2) := dk_25 4 (dk_at dksJ34_frequency_1 7 rfl rfl)
theorem dJ34_frequency_32 : decode cJ34_frequency 32 = .ok (.ifnonnull 6, 3) := dk_199 0 6 (dk_at dksJ34_frequency_1 9 rfl rfl)
theorem dJ34_frequency_35 : decode cJ34_frequency 35 = .ok (.iinc 2 1, 3) := dk_132 2 1 (dk_at dksJ34_frequency_1 12 rfl rfl)
theorem dJ34_frequency_38 : decode cJ34_frequency 38 = .ok (.goto (-25), 3) := dk_167 255 231 (dk_at dksJ34_frequency_1 15 rfl rfl)
theorem dJ34_frequency_41 : decode cJ34_frequency 41 = .ok (.goto 42, 3) := dk_167 0 42 (dk_at dksJ34_frequency_1 18 rfl rfl)
theorem dJ34_frequency_44 : decode cJ34_frequency 44 = .ok (.aload_n 0, 1) := dk_42 (dk_at dksJ34_frequency_1 21 rfl rfl)
theorem dJ34_frequency_45 : decode cJ34_frequency 45 = .ok (.invokeinterface 119 1, 5) := by decide +kernel
theorem dJ34_frequency_50 : decode cJ34_frequency 50 = .ok (.astore_n 3, 1) := dk_78 (dk_at dksJ34_frequency_2 5 rfl rfl)
theorem dJ34_frequency_51 : decode cJ34_frequency 51 = .ok (.aload_n 3, 1) := dk_45 (dk_at dksJ34_frequency_2 6 rfl rfl)
theorem dJ34_frequency_52 : decode cJ34_frequency 52 = .ok (.invokeinterface 128 1, 5) := by decide +kernel
theorem dJ34_frequency_57 : decode cJ34_frequency 57 = .ok (.ifCond .eq 26, 3) := dk_153 0 26 (dk_at dksJ34_frequency_2 12 rfl rfl)
theorem dJ34_frequency_60 : decode cJ34_frequency 60 = .ok (.aload_n 3, 1) := dk_45 (dk_at dksJ34_frequency_2 15 rfl rfl)
theorem dJ34_frequency_61 : decode cJ34_frequency 61 = .ok (.invokeinterface 125 1, 5) := by decide +kernel
theorem dJ34_frequency_66 : decode cJ34_frequency 66 = .ok (.astore 4, 2) := dk_58 4 (dk_at dksJ34_frequency_2 21 rfl rfl)
theorem dJ34_frequency_68 : decode cJ34_frequency 68 = .ok (.aload_n 1, 1) := dk_43 (dk_at dksJ34_frequency_2 23 rfl rfl)
theorem dJ34_frequency_69 : decode cJ34_frequency 69 = .ok (.aload 4, 2) := dk_25 4 (dk_at dksJ34_frequency_3 0 rfl rfl)
theorem dJ34_frequency_71 : decode cJ34_frequency 71 = .ok (.invokevirtual 154, 3) := dk_182 0 154 (dk_at dksJ34_frequency_3 2 rfl rfl)
theorem dJ34_frequency_74 : decode cJ34_frequency 74 = .ok (.ifCond .eq 6, 3) := dk_153 0 6 (dk_at dksJ34_frequency_3 5 rfl rfl)
theorem dJ34_frequency_77 : decode cJ34_frequency 77 = .ok (.iinc 2 1, 3) := dk_132 2 1 (dk_at dksJ34_frequency_3 8 rfl rfl)
theorem dJ34_frequency_80 : decode cJ34_frequency 80 = .ok (.goto (-29), 3) := dk_167 255 227 (dk_at dksJ34_frequency_3 11 rfl rfl)
theorem dJ34_frequency_83 : decode cJ34_frequency 83 = .ok (.iload_n 2, 1) := dk_28 (dk_at dksJ34_frequency_3 14 rfl rfl)
theorem dJ34_frequency_84 : decode cJ34_frequency 84 = .ok (.ireturn, 1) := dk_172 (dk_at dksJ34_frequency_3 15 rfl rfl)
abbrev cJ34_disjoint : ByteArray := prog_54_method_83_code
def yJ34_disjoint : MethodName := ⟨RJ34, "disjoint", "(Ljava/util/Collection;Ljava/util/Collection;)Z"⟩
def dkwJ34_disjoint_4 : List UInt8 := [185, 1, 204, 2, 0, 153, 0, 5, 3, 172, 167, 255, 224, 4, 172]
abbrev dktJ34_disjoint_4 : List UInt8 := dkwJ34_disjoint_4 ++ []
def dkwJ34_disjoint_3 : List UInt8 := [58, 4, 25, 4, 185, 0, 128, 1, 0, 153, 0, 28, 25, 4, 185, 0, 125, 1, 0, 58, 5, 44, 25, 5]
abbrev dktJ34_disjoint_3 : List UInt8 := dkwJ34_disjoint_3 ++ dktJ34_disjoint_4
def dkwJ34_disjoint_2 : List UInt8 := [21, 5, 154, 0, 5, 4, 172, 21, 4, 21, 5, 164, 0, 7, 43, 78, 42, 77, 45, 185, 0, 119, 1, 0]
abbrev dktJ34_disjoint_2 : List UInt8 := dkwJ34_disjoint_2 ++ dktJ34_disjoint_3
def dkwJ34_disjoint_1 : List UInt8 := [154, 0, 42, 42, 185, 1, 203, 1, 0, 54, 4, 43, 185, 1, 203, 1, 0, 54, 5, 21, 4, 153, 0, 8]
abbrev dktJ34_disjoint_1 : List UInt8 := dkwJ34_disjoint_1 ++ dktJ34_disjoint_2
def dkwJ34_disjoint_0 : List UInt8 := [43, 77, 42, 78, 42, 193, 0, 180, 153, 0, 10, 43, 78, 42, 77, 167, 0, 49, 43, 193, 0, 180]
abbrev dktJ34_disjoint_0 : List UInt8 := dkwJ34_disjoint_0 ++ dktJ34_disjoint_1
theorem dksJ34_disjoint_0 : cJ34_disjoint.data.toList.drop 0 = dktJ34_disjoint_0 := by decide +kernel
theorem dksJ34_disjoint_1 : cJ34_disjoint.data.toList.drop 22 = dktJ34_disjoint_1 := dk_seg dksJ34_disjoint_0 22 rfl rfl
theorem dksJ34_disjoint_2 : cJ34_disjoint.data.toList.drop 46 = dktJ34_disjoint_2 := dk_seg dksJ34_disjoint_1 24 rfl rfl
theorem dksJ34_disjoint_3 : cJ34_disjoint.data.toList.drop 70 = dktJ34_disjoint_3 := dk_seg dksJ34_disjoint_2 24 rfl rfl
theorem dksJ34_disjoint_4 : cJ34_disjoint.data.toList.drop 94 = dktJ34_disjoint_4 := dk_seg dksJ34_disjoint_3 24 rfl rfl
theorem dJ34_disjoint_0 : decode cJ34_disjoint 0 = .ok (.aload_n 1, 1) := dk_43 (dk_at dksJ34_disjoint_0 0 rfl rfl)
theorem dJ34_disjoint_1 : decode cJ34_disjoint 1 = .ok (.astore_n 2, 1) := dk_77 (dk_at dksJ34_disjoint_0 1 rfl rfl)
theorem dJ34_disjoint_2 : decode cJ34_disjoint 2 = .ok (.aload_n 0, 1) := dk_42 (dk_at dksJ34_disjoint_0 2 rfl rfl)
theorem dJ34_disjoint_3 : decode cJ34_disjoint 3 = .ok (.astore_n 3, 1) := dk_78 (dk_at dksJ34_disjoint_0 3 rfl rfl)
theorem dJ34_disjoint_4 : decode cJ34_disjoint 4 = .ok (.aload_n 0, 1) := dk_42 (dk_at dksJ34_disjoint_0 4 rfl rfl)
theorem dJ34_disjoint_5 : decode cJ34_disjoint 5 = .ok (.instanceof 180, 3) := dk_193 0 180 (dk_at dksJ34_disjoint_0 5 rfl rfl)
theorem dJ34_disjoint_8 : decode cJ34_disjoint 8 = .ok (.ifCond .eq 10, 3) := dk_153 0 10 (dk_at dksJ34_disjoint_0 8 rfl rfl)
theorem dJ34_disjoint_11 : decode cJ34_disjoint 11 = .ok (.aload_n 1, 1) := dk_43 (dk_at dksJ34_disjoint_0 11 rfl rfl)
theorem dJ34_disjoint_12 : decode cJ34_disjoint 12 = .ok (.astore_n 3, 1) := dk_78 (dk_at dksJ34_disjoint_0 12 rfl rfl)
theorem dJ34_disjoint_13 : decode cJ34_disjoint 13 = .ok (.aload_n 0, 1) := dk_42 (dk_at dksJ34_disjoint_0 13 rfl rfl)
theorem dJ34_disjoint_14 : decode cJ34_disjoint 14 = .ok (.astore_n 2, 1) := dk_77 (dk_at dksJ34_disjoint_0 14 rfl rfl)
theorem dJ34_disjoint_15 : decode cJ34_disjoint 15 = .ok (.goto 49, 3) := dk_167 0 49 (dk_at dksJ34_disjoint_0 15 rfl rfl)
theorem dJ34_disjoint_18 : decode cJ34_disjoint 18 = .ok (.aload_n 1, 1) := dk_43 (dk_at dksJ34_disjoint_0 18 rfl rfl)
theorem dJ34_disjoint_19 : decode cJ34_disjoint 19 = .ok (.instanceof 180, 3) := dk_193 0 180 (dk_at dksJ34_disjoint_0 19 rfl rfl)
theorem dJ34_disjoint_22 : decode cJ34_disjoint 22 = .ok (.ifCond .ne 42, 3) := dk_154 0 42 (dk_at dksJ34_disjoint_1 0 rfl rfl)
theorem dJ34_disjoint_25 : decode cJ34_disjoint 25 = .ok (.aload_n 0, 1) := dk_42 (dk_at dksJ34_disjoint_1 3 rfl rfl)
theorem dJ34_disjoint_26 : decode cJ34_disjoint 26 = .ok (.invokeinterface 459 1, 5) := by decide +kernel
theorem dJ34_disjoint_31 : decode cJ34_disjoint 31 = .ok (.istore 4, 2) := dk_54 4 (dk_at dksJ34_disjoint_1 9 rfl rfl)
theorem dJ34_disjoint_33 : decode cJ34_disjoint 33 = .ok (.aload_n 1, 1) := dk_43 (dk_at dksJ34_disjoint_1 11 rfl rfl)
theorem dJ34_disjoint_34 : decode cJ34_disjoint 34 = .ok (.invokeinterface 459 1, 5) := by decide +kernel
theorem dJ34_disjoint_39 : decode cJ34_disjoint 39 = .ok (.istore 5, 2) := dk_54 5 (dk_at dksJ34_disjoint_1 17 rfl rfl)
theorem dJ34_disjoint_41 : decode cJ34_disjoint 41 = .ok (.iload 4, 2) := dk_21 4 (dk_at dksJ34_disjoint_1 19 rfl rfl)
theorem dJ34_disjoint_43 : decode cJ34_disjoint 43 = .ok (.ifCond .eq 8, 3) := dk_153 0 8 (dk_at dksJ34_disjoint_1 21 rfl rfl)
theorem dJ34_disjoint_46 : decode cJ34_disjoint 46 = .ok (.iload 5, 2) := dk_21 5 (dk_at dksJ34_disjoint_2 0 rfl rfl)
theorem dJ34_disjoint_48 : decode cJ34_disjoint 48 = .ok (.ifCond .ne 5, 3) := dk_154 0 5 (dk_at dksJ34_disjoint_2 2 rfl rfl)
theorem dJ34_disjoint_51 : decode cJ34_disjoint 51 = .ok (.iconst 1, 1) := dk_4 (dk_at dksJ34_disjoint_2 5 rfl rfl)
theorem dJ34_disjoint_52 : decode cJ34_disjoint 52 = .ok (.ireturn, 1) := dk_172 (dk_at dksJ34_disjoint_2 6 rfl rfl)
theorem dJ34_disjoint_53 : decode cJ34_disjoint 53 = .ok (.iload 4, 2) := dk_21 4 (dk_at dksJ34_disjoint_2 7 rfl rfl)
theorem dJ34_disjoint_55 : decode cJ34_disjoint 55 = .ok (.iload 5, 2) := dk_21 5 (dk_at dksJ34_disjoint_2 9 rfl rfl)
theorem dJ34_disjoint_57 : decode cJ34_disjoint 57 = .ok (.if_icmp .le 7, 3) := dk_164 0 7 (dk_at dksJ34_disjoint_2 11 rfl rfl)
theorem dJ34_disjoint_60 : decode cJ34_disjoint 60 = .ok (.aload_n 1, 1) := dk_43 (dk_at dksJ34_disjoint_2 14 rfl rfl)
theorem dJ34_disjoint_61 : decode cJ34_disjoint 61 = .ok (.astore_n 3, 1) := dk_78 (dk_at dksJ34_disjoint_2 15 rfl rfl)
theorem dJ34_disjoint_62 : decode cJ34_disjoint 62 = .ok (.aload_n 0, 1) := dk_42 (dk_at dksJ34_disjoint_2 16 rfl rfl)
theorem dJ34_disjoint_63 : decode cJ34_disjoint 63 = .ok (.astore_n 2, 1) := dk_77 (dk_at dksJ34_disjoint_2 17 rfl rfl)
theorem dJ34_disjoint_64 : decode cJ34_disjoint 64 = .ok (.aload_n 3, 1) := dk_45 (dk_at dksJ34_disjoint_2 18 rfl rfl)
theorem dJ34_disjoint_65 : decode cJ34_disjoint 65 = .ok (.invokeinterface 119 1, 5) := by decide +kernel
theorem dJ34_disjoint_70 : decode cJ34_disjoint 70 = .ok (.astore 4, 2) := dk_58 4 (dk_at dksJ34_disjoint_3 0 rfl rfl)
theorem dJ34_disjoint_72 : decode cJ34_disjoint 72 = .ok (.aload 4, 2) := dk_25 4 (dk_at dksJ34_disjoint_3 2 rfl rfl)
theorem dJ34_disjoint_74 : decode cJ34_disjoint 74 = .ok (.invokeinterface 128 1, 5) := by decide +kernel
theorem dJ34_disjoint_79 : decode cJ34_disjoint 79 = .ok (.ifCond .eq 28, 3) := dk_153 0 28 (dk_at dksJ34_disjoint_3 9 rfl rfl)
theorem dJ34_disjoint_82 : decode cJ34_disjoint 82 = .ok (.aload 4, 2) := dk_25 4 (dk_at dksJ34_disjoint_3 12 rfl rfl)
theorem dJ34_disjoint_84 : decode cJ34_disjoint 84 = .ok (.invokeinterface 125 1, 5) := by decide +kernel
theorem dJ34_disjoint_89 : decode cJ34_disjoint 89 = .ok (.astore 5, 2) := dk_58 5 (dk_at dksJ34_disjoint_3 19 rfl rfl)
theorem dJ34_disjoint_91 : decode cJ34_disjoint 91 = .ok (.aload_n 2, 1) := dk_44 (dk_at dksJ34_disjoint_3 21 rfl rfl)
theorem dJ34_disjoint_92 : decode cJ34_disjoint 92 = .ok (.aload 5, 2) := dk_25 5 (dk_at dksJ34_disjoint_3 22 rfl rfl)
theorem dJ34_disjoint_94 : decode cJ34_disjoint 94 = .ok (.invokeinterface 460 2, 5) := by decide +kernel
theorem dJ34_disjoint_99 : decode cJ34_disjoint 99 = .ok (.ifCond .eq 5, 3) := dk_153 0 5 (dk_at dksJ34_disjoint_4 5 rfl rfl)
theorem dJ34_disjoint_102 : decode cJ34_disjoint 102 = .ok (.iconst 0, 1) := dk_3 (dk_at dksJ34_disjoint_4 8 rfl rfl)
theorem dJ34_disjoint_103 : decode cJ34_disjoint 103 = .ok (.ireturn, 1) := dk_172 (dk_at dksJ34_disjoint_4 9 rfl rfl)
theorem dJ34_disjoint_104 : decode cJ34_disjoint 104 = .ok (.goto (-32), 3) := dk_167 255 224 (dk_at dksJ34_disjoint_4 10 rfl rfl)
theorem dJ34_disjoint_107 : decode cJ34_disjoint 107 = .ok (.iconst 1, 1) := dk_4 (dk_at dksJ34_disjoint_4 13 rfl rfl)
theorem dJ34_disjoint_108 : decode cJ34_disjoint 108 = .ok (.ireturn, 1) := dk_172 (dk_at dksJ34_disjoint_4 14 rfl rfl)
abbrev cJ34_indexOfSubList : ByteArray := prog_54_method_27_code
def yJ34_indexOfSubList : MethodName := ⟨RJ34, "indexOfSubList", "(Ljava/util/List;Ljava/util/List;)I"⟩
def dkwJ34_indexOfSubList_8 : List UInt8 := [167, 0, 12, 132, 8, 1, 167, 255, 200, 21, 6, 172, 132, 6, 1, 167, 255, 173, 2, 172]
abbrev dktJ34_indexOfSubList_8 : List UInt8 := dkwJ34_indexOfSubList_8 ++ []
def dkwJ34_indexOfSubList_7 : List UInt8 := [54, 9, 21, 9, 21, 8, 162, 0, 17, 25, 5, 185, 0, 54, 1, 0, 87, 132, 9, 1, 167, 255, 238]
abbrev dktJ34_indexOfSubList_7 : List UInt8 := dkwJ34_indexOfSubList_7 ++ dktJ34_indexOfSubList_8
def dkwJ34_indexOfSubList_6 : List UInt8 := [162, 0, 56, 25, 7, 185, 0, 50, 1, 0, 25, 5, 185, 0, 50, 1, 0, 184, 0, 158, 154, 0, 30, 3]
abbrev dktJ34_indexOfSubList_6 : List UInt8 := dkwJ34_indexOfSubList_6 ++ dktJ34_indexOfSubList_7
def dkwJ34_indexOfSubList_5 : List UInt8 := [54, 6, 21, 6, 21, 4, 163, 0, 82, 43, 185, 0, 38, 1, 0, 58, 7, 3, 54, 8, 21, 8, 29]
abbrev dktJ34_indexOfSubList_5 : List UInt8 := dkwJ34_indexOfSubList_5 ++ dktJ34_indexOfSubList_6
def dkwJ34_indexOfSubList_4 : List UInt8 := [167, 255, 219, 21, 5, 172, 132, 5, 1, 167, 255, 196, 167, 0, 100, 42, 185, 0, 38, 1, 0, 58, 5, 3]
abbrev dktJ34_indexOfSubList_4 : List UInt8 := dkwJ34_indexOfSubList_4 ++ dktJ34_indexOfSubList_5
def dkwJ34_indexOfSubList_3 : List UInt8 := [42, 21, 7, 185, 0, 28, 2, 0, 184, 0, 158, 154, 0, 6, 167, 0, 15, 132, 6, 1, 132, 7, 1]
abbrev dktJ34_indexOfSubList_3 : List UInt8 := dkwJ34_indexOfSubList_3 ++ dktJ34_indexOfSubList_4
def dkwJ34_indexOfSubList_2 : List UInt8 := [163, 0, 59, 3, 54, 6, 21, 5, 54, 7, 21, 6, 29, 162, 0, 37, 43, 21, 6, 185, 0, 28, 2, 0]
abbrev dktJ34_indexOfSubList_2 : List UInt8 := dkwJ34_indexOfSubList_2 ++ dktJ34_indexOfSubList_3
def dkwJ34_indexOfSubList_1 : List UInt8 := [161, 0, 17, 42, 193, 0, 13, 153, 0, 79, 43, 193, 0, 13, 153, 0, 72, 3, 54, 5, 21, 5, 21, 4]
abbrev dktJ34_indexOfSubList_1 : List UInt8 := dkwJ34_indexOfSubList_1 ++ dktJ34_indexOfSubList_2
def dkwJ34_indexOfSubList_0 : List UInt8 := [42, 185, 0, 15, 1, 0, 61, 43, 185, 0, 15, 1, 0, 62, 28, 29, 100, 54, 4, 28, 16, 35]
abbrev dktJ34_indexOfSubList_0 : List UInt8 := dkwJ34_indexOfSubList_0 ++ dktJ34_indexOfSubList_1
theorem dksJ34_indexOfSubList_0 : cJ34_indexOfSubList.data.toList.drop 0 = dktJ34_indexOfSubList_0 := by decide +kernel
theorem dksJ34_indexOfSubList_1 : cJ34_indexOfSubList.data.toList.drop 22 = dktJ34_indexOfSubList_1 := dk_seg dksJ34_indexOfSubList_0 22 rfl rfl
theorem dksJ34_indexOfSubList_2 : cJ34_indexOfSubList.data.toList.drop 46 = dktJ34_indexOfSubList_2 := dk_seg dksJ34_indexOfSubList_1 24 rfl rfl
theorem dksJ34_indexOfSubList_3 : cJ34_indexOfSubList.data.toList.drop 70 = dktJ34_indexOfSubList_3 := dk_seg dksJ34_indexOfSubList_2 24 rfl rfl
theorem dksJ34_indexOfSubList_4 : cJ34_indexOfSubList.data.toList.drop 93 = dktJ34_indexOfSubList_4 := dk_seg dksJ34_indexOfSubList_3 23 rfl rfl
theorem dksJ34_indexOfSubList_5 : cJ34_indexOfSubList.data.toList.drop 117 = dktJ34_indexOfSubList_5 := dk_seg dksJ34_indexOfSubList_4 24 rfl rfl
theorem dksJ34_indexOfSubList_6 : cJ34_indexOfSubList.data.toList.drop 140 = dktJ34_indexOfSubList_6 := dk_seg dksJ34_indexOfSubList_5 23 rfl rfl
theorem dksJ34_indexOfSubList_7 : cJ34_indexOfSubList.data.toList.drop 164 = dktJ34_indexOfSubList_7 := dk_seg dksJ34_indexOfSubList_6 24 rfl rfl
theorem dksJ34_indexOfSubList_8 : cJ34_indexOfSubList.data.toList.drop 187 = dktJ34_indexOfSubList_8 := dk_seg dksJ34_indexOfSubList_7 23 rfl rfl
theorem dJ34_indexOfSubList_0 : decode cJ34_indexOfSubList 0 = .ok (.aload_n 0, 1) := dk_42 (dk_at dksJ34_indexOfSubList_0 0 rfl rfl)
theorem dJ34_indexOfSubList_1 : decode cJ34_indexOfSubList 1 = .ok (.invokeinterface 15 1, 5) := by decide +kernel
theorem dJ34_indexOfSubList_6 : decode cJ34_indexOfSubList 6 = .ok (.istore_n 2, 1) := dk_61 (dk_at dksJ34_indexOfSubList_0 6 rfl rfl)
theorem dJ34_indexOfSubList_7 : decode cJ34_indexOfSubList 7 = .ok (.aload_n 1, 1) := dk_43 (dk_at dksJ34_indexOfSubList_0 7 rfl rfl)
theorem dJ34_indexOfSubList_8 : decode cJ34_indexOfSubList 8 = .ok (.invokeinterface 15 1, 5) := by decide +kernel
theorem dJ34_indexOfSubList_13 : decode cJ34_indexOfSubList 13 = .ok (.istore_n 3, 1) := dk_62 (dk_at dksJ34_indexOfSubList_0 13 rfl rfl)
theorem dJ34_indexOfSubList_14 : decode cJ34_indexOfSubList 14 = .ok (.iload_n 2, 1) := dk_28 (dk_at dksJ34_indexOfSubList_0 14 rfl rfl)
theorem dJ34_indexOfSubList_15 : decode cJ34_indexOfSubList 15 = .ok (.iload_n 3, 1) := dk_29 (dk_at dksJ34_indexOfSubList_0 15 rfl rfl)
theorem dJ34_indexOfSubList_16 : decode cJ34_indexOfSubList 16 = .ok (.isub, 1) := dk_100 (dk_at dksJ34_indexOfSubList_0 16 rfl rfl)
theorem dJ34_indexOfSubList_17 : decode cJ34_indexOfSubList 17 = .ok (.istore 4, 2) := dk_54 4 (dk_at dksJ34_indexOfSubList_0 17 rfl rfl)
theorem dJ34_indexOfSubList_19 : decode cJ34_indexOfSubList 19 = .ok (.iload_n 2, 1) := dk_28 (dk_at dksJ34_indexOfSubList_0 19 rfl rfl)
theorem dJ34_indexOfSubList_20 : decode cJ34_indexOfSubList 20 = .ok (.bipush 35, 2) := dk_16 35 (dk_at dksJ34_indexOfSubList_0 20 rfl rfl)
theorem dJ34_indexOfSubList_22 : decode cJ34_indexOfSubList 22 = .ok (.if_icmp .lt 17, 3) := dk_161 0 17 (dk_at dksJ34_indexOfSubList_1 0 rfl rfl)
theorem dJ34_indexOfSubList_25 : decode cJ34_indexOfSubList 25 = .ok (.aload_n 0, 1) := dk_42 (dk_at dksJ34_indexOfSubList_1 3 rfl rfl)
theorem dJ34_indexOfSubList_26 : decode cJ34_indexOfSubList 26 = .ok (.instanceof 13, 3) := dk_193 0 13 (dk_at dksJ34_indexOfSubList_1 4 rfl rfl)
theorem dJ34_indexOfSubList_29 : decode cJ34_indexOfSubList 29 = .ok (.ifCond .eq 79, 3) := dk_153 0 79 (dk_at dksJ34_indexOfSubList_1 7 rfl rfl)
theorem dJ34_indexOfSubList_32 : decode cJ34_indexOfSubList 32 = .ok (.aload_n 1, 1) := dk_43 (dk_at dksJ34_indexOfSubList_1 10 rfl rfl)
theorem dJ34_indexOfSubList_33 : decode cJ34_indexOfSubList 33 = .ok (.instanceof 13, 3) := dk_193 0 13 (dk_at dksJ34_indexOfSubList_1 11 rfl rfl)
theorem dJ34_indexOfSubList_36 : decode cJ34_indexOfSubList 36 = .ok (.ifCond .eq 72, 3) := dk_153 0 72 (dk_at dksJ34_indexOfSubList_1 14 rfl rfl)
theorem dJ34_indexOfSubList_39 : decode cJ34_indexOfSubList 39 = .ok (.iconst 0, 1) := dk_3 (dk_at dksJ34_indexOfSubList_1 17 rfl rfl)
theorem dJ34_indexOfSubList_40 : decode cJ34_indexOfSubList 40 = .ok (.istore 5, 2) := dk_54 5 (dk_at dksJ34_indexOfSubList_1 18 rfl rfl)
theorem dJ34_indexOfSubList_42 : decode cJ34_indexOfSubList 42 = .ok (.iload 5, 2) := dk_21 5 (dk_at dksJ34_indexOfSubList_1 20 rfl rfl)
theorem dJ34_indexOfSubList_44 : decode cJ34_indexOfSubList 44 = .ok (.iload 4, 2) := dk_21 4 (dk_at dksJ34_indexOfSubList_1 22 rfl rfl)
theorem dJ34_indexOfSubList_46 : decode cJ34_indexOfSubList 46 = .ok (.if_icmp .gt 59, 3) := dk_163 0 59 (dk_at dksJ34_indexOfSubList_2 0 rfl rfl)
theorem dJ34_indexOfSubList_49 : decode cJ34_indexOfSubList 49 = .ok (.iconst 0, 1) := dk_3 (dk_at dksJ34_indexOfSubList_2 3 rfl rfl)
theorem dJ34_indexOfSubList_50 : decode cJ34_indexOfSubList 50 = .ok (.istore 6, 2) := dk_54 6 (dk_at dksJ34_indexOfSubList_2 4 rfl rfl)
theorem dJ34_indexOfSubList_52 : decode cJ34_indexOfSubList 52 = .ok (.iload 5, 2) := dk_21 5 (dk_at dksJ34_indexOfSubList_2 6 rfl rfl)
theorem dJ34_indexOfSubList_54 : decode cJ34_indexOfSubList 54 = .ok (.istore 7, 2) := dk_54 7 (dk_at dksJ34_indexOfSubList_2 8 rfl rfl)
theorem dJ34_indexOfSubList_56 : decode cJ34_indexOfSubList 56 = .ok (.iload 6, 2) := dk_21 6 (dk_at dksJ34_indexOfSubList_2 10 rfl rfl)
theorem dJ34_indexOfSubList_58 : decode cJ34_indexOfSubList 58 = .ok (.iload_n 3, 1) := dk_29 (dk_at dksJ34_indexOfSubList_2 12 rfl rfl)
theorem dJ34_indexOfSubList_59 : decode cJ34_indexOfSubList 59 = .ok (.if_icmp .ge 37, 3) := dk_162 0 37 (dk_at dksJ34_indexOfSubList_2 13 rfl rfl)
theorem dJ34_indexOfSubList_62 : decode cJ34_indexOfSubList 62 = .ok (.aload_n 1, 1) := dk_43 (dk_at dksJ34_indexOfSubList_2 16 rfl rfl)
theorem dJ34_indexOfSubList_63 : decode cJ34_indexOfSubList 63 = .ok (.iload 6, 2) := dk_21 6 (dk_at dksJ34_indexOfSubList_2 17 rfl rfl)
theorem dJ34_indexOfSubList_65 : decode cJ34_indexOfSubList 65 = .ok (.invokeinterface 28 2, 5) := by decide +kernel
theorem dJ34_indexOfSubList_70 : decode cJ34_indexOfSubList 70 = .ok (.aload_n 0, 1) := dk_42 (dk_at dksJ34_indexOfSubList_3 0 rfl rfl)
theorem dJ34_indexOfSubList_71 : decode cJ34_indexOfSubList 71 = .ok (.iload 7, 2) := dk_21 7 (dk_at dksJ34_indexOfSubList_3 1 rfl rfl)
theorem dJ34_indexOfSubList_73 : decode cJ34_indexOfSubList 73 = .ok (.invokeinterface 28 2, 5) := by decide +kernel
theorem dJ34_indexOfSubList_78 : decode cJ34_indexOfSubList 78 = .ok (.invokestatic 158, 3) := dk_184 0 158 (dk_at dksJ34_indexOfSubList_3 8 rfl rfl)
theorem dJ34_indexOfSubList_81 : decode cJ34_indexOfSubList 81 = .ok (.ifCond .ne 6, 3) := dk_154 0 6 (dk_at dksJ34_indexOfSubList_3 11 rfl rfl)
theorem dJ34_indexOfSubList_84 : decode cJ34_indexOfSubList 84 = .ok (.goto 15, 3) := dk_167 0 15 (dk_at dksJ34_indexOfSubList_3 14 rfl rfl)
theorem dJ34_indexOfSubList_87 : decode cJ34_indexOfSubList 87 = .ok (.iinc 6 1, 3) := dk_132 6 1 (dk_at dksJ34_indexOfSubList_3 17 rfl rfl)
theorem dJ34_indexOfSubList_90 : decode cJ34_indexOfSubList 90 = .ok (.iinc 7 1, 3) := dk_132 7 1 (dk_at dksJ34_indexOfSubList_3 20 rfl rfl)
theorem dJ34_indexOfSubList_93 : decode cJ34_indexOfSubList 93 = .ok (.goto (-37), 3) := dk_167 255 219 (dk_at dksJ34_indexOfSubList_4 0 rfl rfl)
theorem dJ34_indexOfSubList_96 : decode cJ34_indexOfSubList 96 = .ok (.iload 5, 2) := dk_21 5 (dk_at dksJ34_indexOfSubList_4 3 rfl rfl)
theorem dJ34_indexOfSubList_98 : decode cJ34_indexOfSubList 98 = .ok (.ireturn, 1) := dk_172 (dk_at dksJ34_indexOfSubList_4 5 rfl rfl)
theorem dJ34_indexOfSubList_99 : decode cJ34_indexOfSubList 99 = .ok (.iinc 5 1, 3) := dk_132 5 1 (dk_at dksJ34_indexOfSubList_4 6 rfl rfl)
theorem dJ34_indexOfSubList_102 : decode cJ34_indexOfSubList 102 = .ok (.goto (-60), 3) := dk_167 255 196 (dk_at dksJ34_indexOfSubList_4 9 rfl rfl)
theorem dJ34_indexOfSubList_105 : decode cJ34_indexOfSubList 105 = .ok (.goto 100, 3) := dk_167 0 100 (dk_at dksJ34_indexOfSubList_4 12 rfl rfl)
theorem dJ34_indexOfSubList_108 : decode cJ34_indexOfSubList 108 = .ok (.aload_n 0, 1) := dk_42 (dk_at dksJ34_indexOfSubList_4 15 rfl rfl)
theorem dJ34_indexOfSubList_109 : decode cJ34_indexOfSubList 109 = .ok (.invokeinterface 38 1, 5) := by decide +kernel
theorem dJ34_indexOfSubList_114 : decode cJ34_indexOfSubList 114 = .ok (.astore 5, 2) := dk_58 5 (dk_at dksJ34_indexOfSubList_4 21 rfl rfl)
theorem dJ34_indexOfSubList_116 : decode cJ34_indexOfSubList 116 = .ok (.iconst 0, 1) := dk_3 (dk_at dksJ34_indexOfSubList_4 23 rfl rfl)
theorem dJ34_indexOfSubList_117 : decode cJ34_indexOfSubList 117 = .ok (.istore 6, 2) := dk_54 6 (dk_at dksJ34_indexOfSubList_5 0 rfl rfl)
theorem dJ34_indexOfSubList_119 : decode cJ34_indexOfSubList 119 = .ok (.iload 6, 2) := dk_21 6 (dk_at dksJ34_indexOfSubList_5 2 rfl rfl)
theorem dJ34_indexOfSubList_121 : decode cJ34_indexOfSubList 121 = .ok (.iload 4, 2) := dk_21 4 (dk_at dksJ34_indexOfSubList_5 4 rfl rfl)
theorem dJ34_indexOfSubList_123 : decode cJ34_indexOfSubList 123 = .ok (.if_icmp .gt 82, 3) := dk_163 0 82 (dk_at dksJ34_indexOfSubList_5 6 rfl rfl)
theorem dJ34_indexOfSubList_126 : decode cJ34_indexOfSubList 126 = .ok (.aload_n 1, 1) := dk_43 (dk_at dksJ34_indexOfSubList_5 9 rfl rfl)
theorem dJ34_indexOfSubList_127 : decode cJ34_indexOfSubList 127 = .ok (.invokeinterface 38 1, 5) := by decide +kernel
theorem dJ34_indexOfSubList_132 : decode cJ34_indexOfSubList 132 = .ok (.astore 7, 2) := dk_58 7 (dk_at dksJ34_indexOfSubList_5 15 rfl rfl)
theorem dJ34_indexOfSubList_134 : decode cJ34_indexOfSubList 134 = .ok (.iconst 0, 1) := dk_3 (dk_at dksJ34_indexOfSubList_5 17 rfl rfl)
theorem dJ34_indexOfSubList_135 : decode cJ34_indexOfSubList 135 = .ok (.istore 8, 2) := dk_54 8 (dk_at dksJ34_indexOfSubList_5 18 rfl rfl)
theorem dJ34_indexOfSubList_137 : decode cJ34_indexOfSubList 137 = .ok (.iload 8, 2) := dk_21 8 (dk_at dksJ34_indexOfSubList_5 20 rfl rfl)
theorem dJ34_indexOfSubList_139 : decode cJ34_indexOfSubList 139 = .ok (.iload_n 3, 1) := dk_29 (dk_at dksJ34_indexOfSubList_5 22 rfl rfl)
theorem dJ34_indexOfSubList_140 : decode cJ34_indexOfSubList 140 = .ok (.if_icmp .ge 56, 3) := dk_162 0 56 (dk_at dksJ34_indexOfSubList_6 0 rfl rfl)
theorem dJ34_indexOfSubList_143 : decode cJ34_indexOfSubList 143 = .ok (.aload 7, 2) := dk_25 7 (dk_at dksJ34_indexOfSubList_6 3 rfl rfl)
theorem dJ34_indexOfSubList_145 : decode cJ34_indexOfSubList 145 = .ok (.invokeinterface 50 1, 5) := by decide +kernel
theorem dJ34_indexOfSubList_150 : decode cJ34_indexOfSubList 150 = .ok (.aload 5, 2) := dk_25 5 (dk_at dksJ34_indexOfSubList_6 10 rfl rfl)
theorem dJ34_indexOfSubList_152 : decode cJ34_indexOfSubList 152 = .ok (.invokeinterface 50 1, 5) := by decide +kernel
theorem dJ34_indexOfSubList_157 : decode cJ34_indexOfSubList 157 = .ok (.invokestatic 158, 3) := dk_184 0 158 (dk_at dksJ34_indexOfSubList_6 17 rfl rfl)
theorem dJ34_indexOfSubList_160 : decode cJ34_indexOfSubList 160 = .ok (.ifCond .ne 30, 3) := dk_154 0 30 (dk_at dksJ34_indexOfSubList_6 20 rfl rfl)
theorem dJ34_indexOfSubList_163 : decode cJ34_indexOfSubList 163 = .ok (.iconst 0, 1) := dk_3 (dk_at dksJ34_indexOfSubList_6 23 rfl rfl)
theorem dJ34_indexOfSubList_164 : decode cJ34_indexOfSubList 164 = .ok (.istore 9, 2) := dk_54 9 (dk_at dksJ34_indexOfSubList_7 0 rfl rfl)
theorem dJ34_indexOfSubList_166 : decode cJ34_indexOfSubList 166 = .ok (.iload 9, 2) := dk_21 9 (dk_at dksJ34_indexOfSubList_7 2 rfl rfl)
theorem dJ34_indexOfSubList_168 : decode cJ34_indexOfSubList 168 = .ok (.iload 8, 2) := dk_21 8 (dk_at dksJ34_indexOfSubList_7 4 rfl rfl)
theorem dJ34_indexOfSubList_170 : decode cJ34_indexOfSubList 170 = .ok (.if_icmp .ge 17, 3) := dk_162 0 17 (dk_at dksJ34_indexOfSubList_7 6 rfl rfl)
theorem dJ34_indexOfSubList_173 : decode cJ34_indexOfSubList 173 = .ok (.aload 5, 2) := dk_25 5 (dk_at dksJ34_indexOfSubList_7 9 rfl rfl)
theorem dJ34_indexOfSubList_175 : decode cJ34_indexOfSubList 175 = .ok (.invokeinterface 54 1, 5) := by decide +kernel
theorem dJ34_indexOfSubList_180 : decode cJ34_indexOfSubList 180 = .ok (.pop, 1) := dk_87 (dk_at dksJ34_indexOfSubList_7 16 rfl rfl)
theorem dJ34_indexOfSubList_181 : decode cJ34_indexOfSubList 181 = .ok (.iinc 9 1, 3) := dk_132 9 1 (dk_at dksJ34_indexOfSubList_7 17 rfl rfl)
theorem dJ34_indexOfSubList_184 : decode cJ34_indexOfSubList 184 = .ok (.goto (-18), 3) := dk_167 255 238 (dk_at dksJ34_indexOfSubList_7 20 rfl rfl)
theorem dJ34_indexOfSubList_187 : decode cJ34_indexOfSubList 187 = .ok (.goto 12, 3) := dk_167 0 12 (dk_at dksJ34_indexOfSubList_8 0 rfl rfl)
theorem dJ34_indexOfSubList_190 : decode cJ34_indexOfSubList 190 = .ok (.iinc 8 1, 3) := dk_132 8 1 (dk_at dksJ34_indexOfSubList_8 3 rfl rfl)
theorem dJ34_indexOfSubList_193 : decode cJ34_indexOfSubList 193 = .ok (.goto (-56), 3) := dk_167 255 200 (dk_at dksJ34_indexOfSubList_8 6 rfl rfl)
theorem dJ34_indexOfSubList_196 : decode cJ34_indexOfSubList 196 = .ok (.iload 6, 2) := dk_21 6 (dk_at dksJ34_indexOfSubList_8 9 rfl rfl)
theorem dJ34_indexOfSubList_198 : decode cJ34_indexOfSubList 198 = .ok (.ireturn, 1) := dk_172 (dk_at dksJ34_indexOfSubList_8 11 rfl rfl)
theorem dJ34_indexOfSubList_199 : decode cJ34_indexOfSubList 199 = .ok (.iinc 6 1, 3) := dk_132 6 1 (dk_at dksJ34_indexOfSubList_8 12 rfl rfl)
theorem dJ34_indexOfSubList_202 : decode cJ34_indexOfSubList 202 = .ok (.goto (-83), 3) := dk_167 255 173 (dk_at dksJ34_indexOfSubList_8 15 rfl rfl)
theorem dJ34_indexOfSubList_205 : decode cJ34_indexOfSubList 205 = .ok (.iconst (-1), 1) := dk_2 (dk_at dksJ34_indexOfSubList_8 18 rfl rfl)
theorem dJ34_indexOfSubList_206 : decode cJ34_indexOfSubList 206 = .ok (.ireturn, 1) := dk_172 (dk_at dksJ34_indexOfSubList_8 19 rfl rfl)
abbrev cJ34_eq : ByteArray := prog_54_method_81_code
def yJ34_eq : MethodName := ⟨RJ34, "eq", "(Ljava/lang/Object;Ljava/lang/Object;)Z"⟩
def dkwJ34_eq_0 : List UInt8 := [42, 199, 0, 15, 43, 199, 0, 7, 4, 167, 0, 12, 3, 167, 0, 8, 42, 43, 182, 0, 154, 172]
abbrev dktJ34_eq_0 : List UInt8 := dkwJ34_eq_0 ++ []
theorem dksJ34_eq_0 : cJ34_eq.data.toList.drop 0 = dktJ34_eq_0 := by decide +kernel
theorem dJ34_eq_0 : decode cJ34_eq 0 = .ok (.aload_n 0, 1) := dk_42 (dk_at dksJ34_eq_0 0 rfl rfl)
theorem dJ34_eq_1 : decode cJ34_eq 1 = .ok (.ifnonnull 15, 3) := dk_199 0 15 (dk_at dksJ34_eq_0 1 rfl rfl)
theorem dJ34_eq_4 : decode cJ34_eq 4 = .ok (.aload_n 1, 1) := dk_43 (dk_at dksJ34_eq_0 4 rfl rfl)
theorem dJ34_eq_5 : decode cJ34_eq 5 = .ok (.ifnonnull 7, 3) := dk_199 0 7 (dk_at dksJ34_eq_0 5 rfl rfl)
theorem dJ34_eq_8 : decode cJ34_eq 8 = .ok (.iconst 1, 1) := dk_4 (dk_at dksJ34_eq_0 8 rfl rfl)
theorem dJ34_eq_9 : decode cJ34_eq 9 = .ok (.goto 12, 3) := dk_167 0 12 (dk_at dksJ34_eq_0 9 rfl rfl)
theorem dJ34_eq_12 : decode cJ34_eq 12 = .ok (.iconst 0, 1) := dk_3 (dk_at dksJ34_eq_0 12 rfl rfl)
theorem dJ34_eq_13 : decode cJ34_eq 13 = .ok (.goto 8, 3) := dk_167 0 8 (dk_at dksJ34_eq_0 13 rfl rfl)
theorem dJ34_eq_16 : decode cJ34_eq 16 = .ok (.aload_n 0, 1) := dk_42 (dk_at dksJ34_eq_0 16 rfl rfl)
theorem dJ34_eq_17 : decode cJ34_eq 17 = .ok (.aload_n 1, 1) := dk_43 (dk_at dksJ34_eq_0 17 rfl rfl)
theorem dJ34_eq_18 : decode cJ34_eq 18 = .ok (.invokevirtual 154, 3) := dk_182 0 154 (dk_at dksJ34_eq_0 18 rfl rfl)
theorem dJ34_eq_21 : decode cJ34_eq 21 = .ok (.ireturn, 1) := dk_172 (dk_at dksJ34_eq_0 21 rfl rfl)
abbrev cJ34_replaceAll : ByteArray := prog_54_method_26_code
def yJ34_replaceAll : MethodName := ⟨RJ34, "replaceAll", "(Ljava/util/List;Ljava/lang/Object;Ljava/lang/Object;)Z"⟩
def dkwJ34_replaceAll_8 : List UInt8 := [153, 0, 13, 25, 5, 44, 185, 0, 78, 2, 0, 4, 62, 132, 6, 1, 167, 255, 222, 29, 172]
abbrev dktJ34_replaceAll_8 : List UInt8 := dkwJ34_replaceAll_8 ++ []
def dkwJ34_replaceAll_7 : List UInt8 := [167, 0, 43, 3, 54, 6, 21, 6, 21, 4, 162, 0, 33, 43, 25, 5, 185, 0, 50, 1, 0, 182, 0, 154]
abbrev dktJ34_replaceAll_7 : List UInt8 := dkwJ34_replaceAll_7 ++ dktJ34_replaceAll_8
def dkwJ34_replaceAll_6 : List UInt8 := [185, 0, 50, 1, 0, 199, 0, 13, 25, 5, 44, 185, 0, 78, 2, 0, 4, 62, 132, 6, 1, 167, 255, 226]
abbrev dktJ34_replaceAll_6 : List UInt8 := dkwJ34_replaceAll_6 ++ dktJ34_replaceAll_7
def dkwJ34_replaceAll_5 : List UInt8 := [42, 185, 0, 38, 1, 0, 58, 5, 43, 199, 0, 42, 3, 54, 6, 21, 6, 21, 4, 162, 0, 29, 25, 5]
abbrev dktJ34_replaceAll_5 : List UInt8 := dkwJ34_replaceAll_5 ++ dktJ34_replaceAll_6
def dkwJ34_replaceAll_4 : List UInt8 := [153, 0, 15, 42, 21, 5, 44, 185, 0, 109, 3, 0, 87, 4, 62, 132, 5, 1, 167, 255, 219, 167, 0, 94]
abbrev dktJ34_replaceAll_4 : List UInt8 := dkwJ34_replaceAll_4 ++ dktJ34_replaceAll_5
def dkwJ34_replaceAll_3 : List UInt8 := [3, 54, 5, 21, 5, 21, 4, 162, 0, 36, 43, 42, 21, 5, 185, 0, 28, 2, 0, 182, 0, 154]
abbrev dktJ34_replaceAll_3 : List UInt8 := dkwJ34_replaceAll_3 ++ dktJ34_replaceAll_4
def dkwJ34_replaceAll_2 : List UInt8 := [199, 0, 15, 42, 21, 5, 44, 185, 0, 109, 3, 0, 87, 4, 62, 132, 5, 1, 167, 255, 223, 167, 0, 140]
abbrev dktJ34_replaceAll_2 : List UInt8 := dkwJ34_replaceAll_2 ++ dktJ34_replaceAll_3
def dkwJ34_replaceAll_1 : List UInt8 := [43, 199, 0, 45, 3, 54, 5, 21, 5, 21, 4, 162, 0, 32, 42, 21, 5, 185, 0, 28, 2, 0]
abbrev dktJ34_replaceAll_1 : List UInt8 := dkwJ34_replaceAll_1 ++ dktJ34_replaceAll_2
def dkwJ34_replaceAll_0 : List UInt8 := [3, 62, 42, 185, 0, 15, 1, 0, 54, 4, 21, 4, 16, 11, 161, 0, 10, 42, 193, 0, 13, 153, 0, 95]
abbrev dktJ34_replaceAll_0 : List UInt8 := dkwJ34_replaceAll_0 ++ dktJ34_replaceAll_1
theorem dksJ34_replaceAll_0 : cJ34_replaceAll.data.toList.drop 0 = dktJ34_replaceAll_0 := by decide +kernel
theorem dksJ34_replaceAll_1 : cJ34_replaceAll.data.toList.drop 24 = dktJ34_replaceAll_1 := dk_seg dksJ34_replaceAll_0 24 rfl rfl
theorem dksJ34_replaceAll_2 : cJ34_replaceAll.data.toList.drop 46 = dktJ34_replaceAll_2 := dk_seg dksJ34_replaceAll_1 22 rfl rfl
theorem dksJ34_replaceAll_3 : cJ34_replaceAll.data.toList.drop 70 = dktJ34_replaceAll_3 := dk_seg dksJ34_replaceAll_2 24 rfl rfl
theorem dksJ34_replaceAll_4 : cJ34_replaceAll.data.toList.drop 92 = dktJ34_replaceAll_4 := dk_seg dksJ34_replaceAll_3 22 rfl rfl
theorem dksJ34_replaceAll_5 : cJ34_replaceAll.data.toList.drop 116 = dktJ34_replaceAll_5 := dk_seg dksJ34_replaceAll_4 24 rfl rfl
theorem dksJ34_replaceAll_6 : cJ34_replaceAll.data.toList.drop 140 = dktJ34_replaceAll_6 := dk_seg dksJ34_replaceAll_5 24 rfl rfl
theorem dksJ34_replaceAll_7 : cJ34_replaceAll.data.toList.drop 164 = dktJ34_replaceAll_7 := dk_seg dksJ34_replaceAll_6 24 rfl rfl
theorem dksJ34_replaceAll_8 : cJ34_replaceAll.data.toList.drop 188 = dktJ34_replaceAll_8 := dk_seg dksJ34_replaceAll_7 24 rfl rfl
theorem dJ34_replaceAll_0 : decode cJ34_replaceAll 0 = .ok (.iconst 0, 1) := dk_3 (dk_at dksJ34_replaceAll_0 0 rfl rfl)
theorem dJ34_replaceAll_1 : decode cJ34_replaceAll 1 = .ok (.istore_n 3, 1) := dk_62 (dk_at dksJ34_replaceAll_0 1 rfl rfl)
theorem dJ34_replaceAll_2 : decode cJ34_replaceAll 2 = .ok (.aload_n 0, 1) := dk_42 (dk_at dksJ34_replaceAll_0 2 rfl rfl)
theorem dJ34_replaceAll_3 : decode cJ34_replaceAll 3 = .ok (.invokeinterface 15 1, 5) := by decide +kernel
theorem dJ34_replaceAll_8 : decode cJ34_replaceAll 8 = .ok (.istore 4, 2) := dk_54 4 (dk_at dksJ34_replaceAll_0 8 rfl rfl)
theorem dJ34_replaceAll_10 : decode cJ34_replaceAll 10 = .ok (.iload 4, 2) := dk_21 4 (dk_at dksJ34_replaceAll_0 10 rfl rfl)
theorem dJ34_replaceAll_12 : decode cJ34_replaceAll 12 = .ok (.bipush 11, 2) := dk_16 11 (dk_at dksJ34_replaceAll_0 12 rfl rfl)
theorem dJ34_replaceAll_14 : decode cJ34_replaceAll 14 = .ok (.if_icmp .lt 10, 3) := dk_161 0 10 (dk_at dksJ34_replaceAll_0 14 rfl rfl)
theorem dJ34_replaceAll_17 : decode cJ34_replaceAll 17 = .ok (.aload_n 0, 1) := dk_42 (dk_at dksJ34_replaceAll_0 17 rfl rfl)
theorem dJ34_replaceAll_18 : decode cJ34_replaceAll 18 = .ok (.instanceof 13, 3) := dk_193 0 13 (dk_at dksJ34_replaceAll_0 18 rfl rfl)
theorem dJ34_replaceAll_21 : decode cJ34_replaceAll 21 = .ok (.ifCond .eq 95, 3) := dk_153 0 95 (dk_at dksJ34_replaceAll_0 21 rfl rfl)
theorem dJ34_replaceAll_24 : decode cJ34_replaceAll 24 = .ok (.aload_n 1, 1) := dk_43 (dk_at dksJ34_replaceAll_1 0 rfl rfl)
theorem dJ34_replaceAll_25 : decode cJ34_replaceAll 25 = .ok (.ifnonnull 45, 3) := dk_199 0 45 (dk_at dksJ34_replaceAll_1 1 rfl rfl)
theorem dJ34_replaceAll_28 : decode cJ34_replaceAll 28 = .ok (.iconst 0, 1) := dk_3 (dk_at dksJ34_replaceAll_1 4 rfl rfl)
theorem dJ34_replaceAll_29 : decode cJ34_replaceAll 29 = .ok (.istore 5, 2) := dk_54 5 (dk_at dksJ34_replaceAll_1 5 rfl rfl)
theorem dJ34_replaceAll_31 : decode cJ34_replaceAll 31 = .ok (.iload 5, 2) := dk_21 5 (dk_at dksJ34_replaceAll_1 7 rfl rfl)
theorem dJ34_replaceAll_33 : decode cJ34_replaceAll 33 = .ok (.iload 4, 2) := dk_21 4 (dk_at dksJ34_replaceAll_1 9 rfl rfl)
theorem dJ34_replaceAll_35 : decode cJ34_replaceAll 35 = .ok (.if_icmp .ge 32, 3) := dk_162 0 32 (dk_at dksJ34_replaceAll_1 11 rfl rfl)
theorem dJ34_replaceAll_38 : decode cJ34_replaceAll 38 = .ok (.aload_n 0, 1) := dk_42 (dk_at dksJ34_replaceAll_1 14 rfl rfl)
theorem dJ34_replaceAll_39 : decode cJ34_replaceAll 39 = .ok (.iload 5, 2) := dk_21 5 (dk_at dksJ34_replaceAll_1 15 rfl rfl)
theorem dJ34_replaceAll_41 : decode cJ34_replaceAll 41 = .ok (.invokeinterface 28 2, 5) := by decide +kernel
theorem dJ34_replaceAll_46 : decode cJ34_replaceAll 46 = .ok (.ifnonnull 15, 3) := dk_199 0 15 (dk_at dksJ34_replaceAll_2 0 rfl rfl)
theorem dJ34_replaceAll_49 : decode cJ34_replaceAll 49 = .ok (.aload_n 0, 1) := dk_42 (dk_at dksJ34_replaceAll_2 3 rfl rfl)
theorem dJ34_replaceAll_50 : decode cJ34_replaceAll 50 = .ok (.iload 5, 2) := dk_21 5 (dk_at dksJ34_replaceAll_2 4 rfl rfl)
theorem dJ34_replaceAll_52 : decode cJ34_replaceAll 52 = .ok (.aload_n 2, 1) := dk_44 (dk_at dksJ34_replaceAll_2 6 rfl rfl)
theorem dJ34_replaceAll_53 : decode cJ34_replaceAll 53 = .ok (.invokeinterface 109 3, 5) := by decide +kernel
theorem dJ34_replaceAll_58 : decode cJ34_replaceAll 58 = .ok (.pop, 1) := dk_87 (dk_at dksJ34_replaceAll_2 12 rfl rfl)
theorem dJ34_replaceAll_59 : decode cJ34_replaceAll 59 = .ok (.iconst 1, 1) := dk_4 (dk_at dksJ34_replaceAll_2 13 rfl rfl)
theorem dJ34_replaceAll_60 : decode cJ34_replaceAll 60 = .ok (.istore_n 3, 1) := dk_62 (dk_at dksJ34_replaceAll_2 14 rfl rfl)
theorem dJ34_replaceAll_61 : decode cJ34_replaceAll 61 = .ok (.iinc 5 1, 3) := dk_132 5 1 (dk_at dksJ34_replaceAll_2 15 rfl rfl)
theorem dJ34_replaceAll_64 : decode cJ34_replaceAll 64 = .ok (.goto (-33), 3) := dk_167 255 223 (dk_at dksJ34_replaceAll_2 18 rfl rfl)
theorem dJ34_replaceAll_67 : decode cJ34_replaceAll 67 = .ok (.goto 140, 3) := dk_167 0 140 (dk_at dksJ34_replaceAll_2 21 rfl rfl)
theorem dJ34_replaceAll_70 : decode cJ34_replaceAll 70 = .ok (.iconst 0, 1) := dk_3 (dk_at dksJ34_replaceAll_3 0 rfl rfl)
theorem dJ34_replaceAll_71 : decode cJ34_replaceAll 71 = .ok (.istore 5, 2) := dk_54 5 (dk_at dksJ34_replaceAll_3 1 rfl rfl)
theorem dJ34_replaceAll_73 : decode cJ34_replaceAll 73 = .ok (.iload 5, 2) := dk_21 5 (dk_at dksJ34_replaceAll_3 3 rfl rfl)
theorem dJ34_replaceAll_75 : decode cJ34_replaceAll 75 = .ok (.iload 4, 2) := dk_21 4 (dk_at dksJ34_replaceAll_3 5 rfl rfl)
theorem dJ34_replaceAll_77 : decode cJ34_replaceAll 77 = .ok (.if_icmp .ge 36, 3) := dk_162 0 36 (dk_at dksJ34_replaceAll_3 7 rfl rfl)
theorem dJ34_replaceAll_80 : decode cJ34_replaceAll 80 = .ok (.aload_n 1, 1) := dk_43 (dk_at dksJ34_replaceAll_3 10 rfl rfl)
theorem dJ34_replaceAll_81 : decode cJ34_replaceAll 81 = .ok (.aload_n 0, 1) := dk_42 (dk_at dksJ34_replaceAll_3 11 rfl rfl)
theorem dJ34_replaceAll_82 : decode cJ34_replaceAll 82 = .ok (.iload 5, 2) := dk_21 5 (dk_at dksJ34_replaceAll_3 12 rfl rfl)
theorem dJ34_replaceAll_84 : decode cJ34_replaceAll 84 = .ok (.invokeinterface 28 2, 5) := by decide +kernel
theorem dJ34_replaceAll_89 : decode cJ34_replaceAll 89 = .ok (.invokevirtual 154, 3) := dk_182 0 154 (dk_at dksJ34_replaceAll_3 19 rfl rfl)
theorem dJ34_replaceAll_92 : decode cJ34_replaceAll 92 = .ok (.ifCond .eq 15, 3) := dk_153 0 15 (dk_at dksJ34_replaceAll_4 0 rfl rfl)
theorem dJ34_replaceAll_95 : decode cJ34_replaceAll 95 = .ok (.aload_n 0, 1) := dk_42 (dk_at dksJ34_replaceAll_4 3 rfl rfl)
theorem dJ34_replaceAll_96 : decode cJ34_replaceAll 96 = .ok (.iload 5, 2) := dk_21 5 (dk_at dksJ34_replaceAll_4 4 rfl rfl)
theorem dJ34_replaceAll_98 : decode cJ34_replaceAll 98 = .ok (.aload_n 2, 1) := dk_44 (dk_at dksJ34_replaceAll_4 6 rfl rfl)
theorem dJ34_replaceAll_99 : decode cJ34_replaceAll 99 = .ok (.invokeinterface 109 3, 5) := by decide +kernel
theorem dJ34_replaceAll_104 : decode cJ34_replaceAll 104 = .ok (.pop, 1) := dk_87 (dk_at dksJ34_replaceAll_4 12 rfl rfl)
theorem dJ34_replaceAll_105 : decode cJ34_replaceAll 105 = .ok (.iconst 1, 1) := dk_4 (dk_at dksJ34_replaceAll_4 13 rfl rfl)
theorem dJ34_replaceAll_106 : decode cJ34_replaceAll 106 = .ok (.istore_n 3, 1) := dk_62 (dk_at dksJ34_replaceAll_4 14 rfl rfl)
theorem dJ34_replaceAll_107 : decode cJ34_replaceAll 107 = .ok (.iinc 5 1, 3) := dk_132 5 1 (dk_at dksJ34_replaceAll_4 15 rfl rfl)
theorem dJ34_replaceAll_110 : decode cJ34_replaceAll 110 = .ok (.goto (-37), 3) := dk_167 255 219 (dk_at dksJ34_replaceAll_4 18 rfl rfl)
theorem dJ34_replaceAll_113 : decode cJ34_replaceAll 113 = .ok (.goto 94, 3) := dk_167 0 94 (dk_at dksJ34_replaceAll_4 21 rfl rfl)
theorem dJ34_replaceAll_116 : decode cJ34_replaceAll 116 = .ok (.aload_n 0, 1) := dk_42 (dk_at dksJ34_replaceAll_5 0 rfl rfl)
theorem dJ34_replaceAll_117 : decode cJ34_replaceAll 117 = .ok (.invokeinterface 38 1, 5) := by decide +kernel
theorem dJ34_replaceAll_122 : decode cJ34_replaceAll 122 = .ok (.astore 5, 2) := dk_58 5 (dk_at dksJ34_replaceAll_5 6 rfl rfl)
theorem dJ34_replaceAll_124 : decode cJ34_replaceAll 124 = .ok (.aload_n 1, 1) := dk_43 (dk_at dksJ34_replaceAll_5 8 rfl rfl)
theorem dJ34_replaceAll_125 : decode cJ34_replaceAll 125 = .ok (.ifnonnull 42, 3) := dk_199 0 42 (dk_at dksJ34_replaceAll_5 9 rfl rfl)
theorem dJ34_replaceAll_128 : decode cJ34_replaceAll 128 = .ok (.iconst 0, 1) := dk_3 (dk_at dksJ34_replaceAll_5 12 rfl rfl)
theorem dJ34_replaceAll_129 : decode cJ34_replaceAll 129 = .ok (.istore 6, 2) := dk_54 6 (dk_at dksJ34_replaceAll_5 13 rfl rfl)
theorem dJ34_replaceAll_131 : decode cJ34_replaceAll 131 = .ok (.iload 6, 2) := dk_21 6 (dk_at dksJ34_replaceAll_5 15 rfl rfl)
theorem dJ34_replaceAll_133 : decode cJ34_replaceAll 133 = .ok (.iload 4, 2) := dk_21 4 (dk_at dksJ34_replaceAll_5 17 rfl rfl)
theorem dJ34_replaceAll_135 : decode cJ34_replaceAll 135 = .ok (.if_icmp .ge 29, 3) := dk_162 0 29 (dk_at dksJ34_replaceAll_5 19 rfl rfl)
theorem dJ34_replaceAll_138 : decode cJ34_replaceAll 138 = .ok (.aload 5, 2) := dk_25 5 (dk_at dksJ34_replaceAll_5 22 rfl rfl)
theorem dJ34_replaceAll_140 : decode cJ34_replaceAll 140 = .ok (.invokeinterface 50 1, 5) := by decide +kernel
theorem dJ34_replaceAll_145 : decode cJ34_replaceAll 145 = .ok (.ifnonnull 13, 3) := dk_199 0 13 (dk_at dksJ34_replaceAll_6 5 rfl rfl)
theorem dJ34_replaceAll_148 : decode cJ34_replaceAll 148 = .ok (.aload 5, 2) := dk_25 5 (dk_at dksJ34_replaceAll_6 8 rfl rfl)
theorem dJ34_replaceAll_150 : decode cJ34_replaceAll 150 = .ok (.aload_n 2, 1) := dk_44 (dk_at dksJ34_replaceAll_6 10 rfl rfl)
theorem dJ34_replaceAll_151 : decode cJ34_replaceAll 151 = .ok (.invokeinterface 78 2, 5) := by decide +kernel
theorem dJ34_replaceAll_156 : decode cJ34_replaceAll 156 = .ok (.iconst 1, 1) := dk_4 (dk_at dksJ34_replaceAll_6 16 rfl rfl)
theorem dJ34_replaceAll_157 : decode cJ34_replaceAll 157 = .ok (.istore_n 3, 1) := dk_62 (dk_at dksJ34_replaceAll_6 17 rfl rfl)
theorem dJ34_replaceAll_158 : decode cJ34_replaceAll 158 = .ok (.iinc 6 1, 3) := dk_132 6 1 (dk_at dksJ34_replaceAll_6 18 rfl rfl)
theorem dJ34_replaceAll_161 : decode cJ34_replaceAll 161 = .ok (.goto (-30), 3) := dk_167 255 226 (dk_at dksJ34_replaceAll_6 21 rfl rfl)
theorem dJ34_replaceAll_164 : decode cJ34_replaceAll 164 = .ok (.goto 43, 3) := dk_167 0 43 (dk_at dksJ34_replaceAll_7 0 rfl rfl)
theorem dJ34_replaceAll_167 : decode cJ34_replaceAll 167 = .ok (.iconst 0, 1) := dk_3 (dk_at dksJ34_replaceAll_7 3 rfl rfl)
theorem dJ34_replaceAll_168 : decode cJ34_replaceAll 168 = .ok (.istore 6, 2) := dk_54 6 (dk_at dksJ34_replaceAll_7 4 rfl rfl)
theorem dJ34_replaceAll_170 : decode cJ34_replaceAll 170 = .ok (.iload 6, 2) := dk_21 6 (dk_at dksJ34_replaceAll_7 6 rfl rfl)
theorem dJ34_replaceAll_172 : decode cJ34_replaceAll 172 = .ok (.iload 4, 2) := dk_21 4 (dk_at dksJ34_replaceAll_7 8 rfl rfl)
theorem dJ34_replaceAll_174 : decode cJ34_replaceAll 174 = .ok (.if_icmp .ge 33, 3) := dk_162 0 33 (dk_at dksJ34_replaceAll_7 10 rfl rfl)
theorem dJ34_replaceAll_177 : decode cJ34_replaceAll 177 = .ok (.aload_n 1, 1) := dk_43 (dk_at dksJ34_replaceAll_7 13 rfl rfl)
theorem dJ34_replaceAll_178 : decode cJ34_replaceAll 178 = .ok (.aload 5, 2) := dk_25 5 (dk_at dksJ34_replaceAll_7 14 rfl rfl)
theorem dJ34_replaceAll_180 : decode cJ34_replaceAll 180 = .ok (.invokeinterface 50 1, 5) := by decide +kernel
theorem dJ34_replaceAll_185 : decode cJ34_replaceAll 185 = .ok (.invokevirtual 154, 3) := dk_182 0 154 (dk_at dksJ34_replaceAll_7 21 rfl rfl)
theorem dJ34_replaceAll_188 : decode cJ34_replaceAll 188 = .ok (.ifCond .eq 13, 3) := dk_153 0 13 (dk_at dksJ34_replaceAll_8 0 rfl rfl)
theorem dJ34_replaceAll_191 : decode cJ34_replaceAll 191 = .ok (.aload 5, 2) := dk_25 5 (dk_at dksJ34_replaceAll_8 3 rfl rfl)
theorem dJ34_replaceAll_193 : decode cJ34_replaceAll 193 = .ok (.aload_n 2, 1) := dk_44 (dk_at dksJ34_replaceAll_8 5 rfl rfl)
theorem dJ34_replaceAll_194 : decode cJ34_replaceAll 194 = .ok (.invokeinterface 78 2, 5) := by decide +kernel
theorem dJ34_replaceAll_199 : decode cJ34_replaceAll 199 = .ok (.iconst 1, 1) := dk_4 (dk_at dksJ34_replaceAll_8 11 rfl rfl)
theorem dJ34_replaceAll_200 : decode cJ34_replaceAll 200 = .ok (.istore_n 3, 1) := dk_62 (dk_at dksJ34_replaceAll_8 12 rfl rfl)
theorem dJ34_replaceAll_201 : decode cJ34_replaceAll 201 = .ok (.iinc 6 1, 3) := dk_132 6 1 (dk_at dksJ34_replaceAll_8 13 rfl rfl)
theorem dJ34_replaceAll_204 : decode cJ34_replaceAll 204 = .ok (.goto (-34), 3) := dk_167 255 222 (dk_at dksJ34_replaceAll_8 16 rfl rfl)
theorem dJ34_replaceAll_207 : decode cJ34_replaceAll 207 = .ok (.iload_n 3, 1) := dk_29 (dk_at dksJ34_replaceAll_8 19 rfl rfl)
theorem dJ34_replaceAll_208 : decode cJ34_replaceAll 208 = .ok (.ireturn, 1) := dk_172 (dk_at dksJ34_replaceAll_8 20 rfl rfl)
abbrev cJ34_fill : ByteArray := prog_54_method_17_code
def yJ34_fill : MethodName := ⟨RJ34, "fill", "(Ljava/util/List;Ljava/lang/Object;)V"⟩
def dkwJ34_fill_3 : List UInt8 := [185, 0, 78, 2, 0, 132, 4, 1, 167, 255, 233, 177]
abbrev dktJ34_fill_3 : List UInt8 := dkwJ34_fill_3 ++ []
def dkwJ34_fill_2 : List UInt8 := [185, 0, 38, 1, 0, 78, 3, 54, 4, 21, 4, 28, 162, 0, 23, 45, 185, 0, 50, 1, 0, 87, 45, 43]
abbrev dktJ34_fill_2 : List UInt8 := dkwJ34_fill_2 ++ dktJ34_fill_3
def dkwJ34_fill_1 : List UInt8 := [162, 0, 18, 42, 29, 43, 185, 0, 109, 3, 0, 87, 132, 3, 1, 167, 255, 239, 167, 0, 39, 42]
abbrev dktJ34_fill_1 : List UInt8 := dkwJ34_fill_1 ++ dktJ34_fill_2
def dkwJ34_fill_0 : List UInt8 := [42, 185, 0, 15, 1, 0, 61, 28, 16, 25, 161, 0, 10, 42, 193, 0, 13, 153, 0, 28, 3, 62, 29, 28]
abbrev dktJ34_fill_0 : List UInt8 := dkwJ34_fill_0 ++ dktJ34_fill_1
theorem dksJ34_fill_0 : cJ34_fill.data.toList.drop 0 = dktJ34_fill_0 := by decide +kernel
theorem dksJ34_fill_1 : cJ34_fill.data.toList.drop 24 = dktJ34_fill_1 := dk_seg dksJ34_fill_0 24 rfl rfl
theorem dksJ34_fill_2 : cJ34_fill.data.toList.drop 46 = dktJ34_fill_2 := dk_seg dksJ34_fill_1 22 rfl rfl
theorem dksJ34_fill_3 : cJ34_fill.data.toList.drop 70 = dktJ34_fill_3 := dk_seg dksJ34_fill_2 24 rfl rfl
theorem dJ34_fill_0 : decode cJ34_fill 0 = .ok (.aload_n 0, 1) := dk_42 (dk_at dksJ34_fill_0 0 rfl rfl)
theorem dJ34_fill_1 : decode cJ34_fill 1 = .ok (.invokeinterface 15 1, 5) := by decide +kernel
theorem dJ34_fill_6 : decode cJ34_fill 6 = .ok (.istore_n 2, 1) := dk_61 (dk_at dksJ34_fill_0 6 rfl rfl)
theorem dJ34_fill_7 : decode cJ34_fill 7 = .ok (.iload_n 2, 1) := dk_28 (dk_at dksJ34_fill_0 7 rfl rfl)
theorem dJ34_fill_8 : decode cJ34_fill 8 = .ok (.bipush 25, 2) := dk_16 25 (dk_at dksJ34_fill_0 8 rfl rfl)
theorem dJ34_fill_10 : decode cJ34_fill 10 = .ok (.if_icmp .lt 10, 3) := dk_161 0 10 (dk_at dksJ34_fill_0 10 rfl rfl)
theorem dJ34_fill_13 : decode cJ34_fill 13 = .ok (.aload_n 0, 1) := dk_42 (dk_at dksJ34_fill_0 13 rfl rfl)
theorem dJ34_fill_14 : decode cJ34_fill 14 = .ok (.instanceof 13, 3) := dk_193 0 13 (dk_at dksJ34_fill_0 14 rfl rfl)
theorem dJ34_fill_17 : decode cJ34_fill 17 = .ok (.ifCond .eq 28, 3) := dk_153 0 28 (dk_at dksJ34_fill_0 17 rfl rfl)
theorem dJ34_fill_20 : decode cJ34_fill 20 = .ok (.iconst 0, 1) := dk_3 (dk_at dksJ34_fill_0 20 rfl rfl)
theorem dJ34_fill_21 : decode cJ34_fill 21 = .ok (.istore_n 3, 1) := dk_62 (dk_at dksJ34_fill_0 21 rfl rfl)
theorem dJ34_fill_22 : decode cJ34_fill 22 = .ok (.iload_n 3, 1) := dk_29 (dk_at dksJ34_fill_0 22 rfl rfl)
theorem dJ34_fill_23 : decode cJ34_fill 23 = .ok (.iload_n 2, 1) := dk_28 (dk_at dksJ34_fill_0 23 rfl rfl)
theorem dJ34_fill_24 : decode cJ34_fill 24 = .ok (.if_icmp .ge 18, 3) := dk_162 0 18 (dk_at dksJ34_fill_1 0 rfl rfl)
theorem dJ34_fill_27 : decode cJ34_fill 27 = .ok (.aload_n 0, 1) := dk_42 (dk_at dksJ34_fill_1 3 rfl rfl)
theorem dJ34_fill_28 : decode cJ34_fill 28 = .ok (.iload_n 3, 1) := dk_29 (dk_at dksJ34_fill_1 4 rfl rfl)
theorem dJ34_fill_29 : decode cJ34_fill 29 = .ok (.aload_n 1, 1) := dk_43 (dk_at dksJ34_fill_1 5 rfl rfl)
theorem dJ34_fill_30 : decode cJ34_fill 30 = .ok (.invokeinterface 109 3, 5) := by decide +kernel
theorem dJ34_fill_35 : decode cJ34_fill 35 = .ok (.pop, 1) := dk_87 (dk_at dksJ34_fill_1 11 rfl rfl)
theorem dJ34_fill_36 : decode cJ34_fill 36 = .ok (.iinc 3 1, 3) := dk_132 3 1 (dk_at dksJ34_fill_1 12 rfl rfl)
theorem dJ34_fill_39 : decode cJ34_fill 39 = .ok (.goto (-17), 3) := dk_167 255 239 (dk_at dksJ34_fill_1 15 rfl rfl)
theorem dJ34_fill_42 : decode cJ34_fill 42 = .ok (.goto 39, 3) := dk_167 0 39 (dk_at dksJ34_fill_1 18 rfl rfl)
theorem dJ34_fill_45 : decode cJ34_fill 45 = .ok (.aload_n 0, 1) := dk_42 (dk_at dksJ34_fill_1 21 rfl rfl)
theorem dJ34_fill_46 : decode cJ34_fill 46 = .ok (.invokeinterface 38 1, 5) := by decide +kernel
theorem dJ34_fill_51 : decode cJ34_fill 51 = .ok (.astore_n 3, 1) := dk_78 (dk_at dksJ34_fill_2 5 rfl rfl)
theorem dJ34_fill_52 : decode cJ34_fill 52 = .ok (.iconst 0, 1) := dk_3 (dk_at dksJ34_fill_2 6 rfl rfl)
theorem dJ34_fill_53 : decode cJ34_fill 53 = .ok (.istore 4, 2) := dk_54 4 (dk_at dksJ34_fill_2 7 rfl rfl)
theorem dJ34_fill_55 : decode cJ34_fill 55 = .ok (.iload 4, 2) := dk_21 4 (dk_at dksJ34_fill_2 9 rfl rfl)
theorem dJ34_fill_57 : decode cJ34_fill 57 = .ok (.iload_n 2, 1) := dk_28 (dk_at dksJ34_fill_2 11 rfl rfl)
theorem dJ34_fill_58 : decode cJ34_fill 58 = .ok (.if_icmp .ge 23, 3) := dk_162 0 23 (dk_at dksJ34_fill_2 12 rfl rfl)
theorem dJ34_fill_61 : decode cJ34_fill 61 = .ok (.aload_n 3, 1) := dk_45 (dk_at dksJ34_fill_2 15 rfl rfl)
theorem dJ34_fill_62 : decode cJ34_fill 62 = .ok (.invokeinterface 50 1, 5) := by decide +kernel
theorem dJ34_fill_67 : decode cJ34_fill 67 = .ok (.pop, 1) := dk_87 (dk_at dksJ34_fill_2 21 rfl rfl)
theorem dJ34_fill_68 : decode cJ34_fill 68 = .ok (.aload_n 3, 1) := dk_45 (dk_at dksJ34_fill_2 22 rfl rfl)
theorem dJ34_fill_69 : decode cJ34_fill 69 = .ok (.aload_n 1, 1) := dk_43 (dk_at dksJ34_fill_2 23 rfl rfl)
theorem dJ34_fill_70 : decode cJ34_fill 70 = .ok (.invokeinterface 78 2, 5) := by decide +kernel
theorem dJ34_fill_75 : decode cJ34_fill 75 = .ok (.iinc 4 1, 3) := dk_132 4 1 (dk_at dksJ34_fill_3 5 rfl rfl)
theorem dJ34_fill_78 : decode cJ34_fill 78 = .ok (.goto (-23), 3) := dk_167 255 233 (dk_at dksJ34_fill_3 8 rfl rfl)
theorem dJ34_fill_81 : decode cJ34_fill 81 = .ok (.return_, 1) := dk_177 (dk_at dksJ34_fill_3 11 rfl rfl)
abbrev cJ34_reverse : ByteArray := prog_54_method_11_code
def yJ34_reverse : MethodName := ⟨RJ34, "reverse", "(Ljava/util/List;)V"⟩
def dkwJ34_reverse_5 : List UInt8 := [185, 0, 78, 2, 0, 132, 4, 1, 167, 255, 218, 177]
abbrev dktJ34_reverse_5 : List UInt8 := dkwJ34_reverse_5 ++ []
def dkwJ34_reverse_4 : List UInt8 := [185, 0, 50, 1, 0, 58, 6, 44, 45, 185, 0, 54, 1, 0, 185, 0, 78, 2, 0, 45, 25, 6]
abbrev dktJ34_reverse_4 : List UInt8 := dkwJ34_reverse_4 ++ dktJ34_reverse_5
def dkwJ34_reverse_3 : List UInt8 := [3, 54, 4, 42, 185, 0, 15, 1, 0, 4, 122, 54, 5, 21, 4, 21, 5, 162, 0, 37, 44]
abbrev dktJ34_reverse_3 : List UInt8 := dkwJ34_reverse_3 ++ dktJ34_reverse_4
def dkwJ34_reverse_2 : List UInt8 := [132, 4, 255, 167, 255, 238, 167, 0, 72, 42, 185, 0, 38, 1, 0, 77, 42, 27, 185, 0, 75, 2, 0, 78]
abbrev dktJ34_reverse_2 : List UInt8 := dkwJ34_reverse_2 ++ dktJ34_reverse_3
def dkwJ34_reverse_1 : List UInt8 := [122, 62, 27, 4, 100, 54, 4, 28, 29, 162, 0, 19, 42, 28, 21, 4, 184, 0, 71, 132, 2, 1]
abbrev dktJ34_reverse_1 : List UInt8 := dkwJ34_reverse_1 ++ dktJ34_reverse_2
def dkwJ34_reverse_0 : List UInt8 := [42, 185, 0, 15, 1, 0, 60, 27, 16, 18, 161, 0, 10, 42, 193, 0, 13, 153, 0, 38, 3, 61, 27, 4]
abbrev dktJ34_reverse_0 : List UInt8 := dkwJ34_reverse_0 ++ dktJ34_reverse_1
theorem dksJ34_reverse_0 : cJ34_reverse.data.toList.drop 0 = dktJ34_reverse_0 := by decide +kernel
theorem dksJ34_reverse_1 : cJ34_reverse.data.toList.drop 24 = dktJ34_reverse_1 := dk_seg dksJ34_reverse_0 24 rfl rfl
theorem dksJ34_reverse_2 : cJ34_reverse.data.toList.drop 46 = dktJ34_reverse_2 := dk_seg dksJ34_reverse_1 22 rfl rfl
theorem dksJ34_reverse_3 : cJ34_reverse.data.toList.drop 70 = dktJ34_reverse_3 := dk_seg dksJ34_reverse_2 24 rfl rfl
theorem dksJ34_reverse_4 : cJ34_reverse.data.toList.drop 91 = dktJ34_reverse_4 := dk_seg dksJ34_reverse_3 21 rfl rfl
theorem dksJ34_reverse_5 : cJ34_reverse.data.toList.drop 113 = dktJ34_reverse_5 := dk_seg dksJ34_reverse_4 22 rfl rfl
theorem dJ34_reverse_0 : decode cJ34_reverse 0 = .ok (.aload_n 0, 1) := dk_42 (dk_at dksJ34_reverse_0 0 rfl rfl)
theorem dJ34_reverse_1 : decode cJ34_reverse 1 = .ok (.invokeinterface 15 1, 5) := by decide +kernel
theorem dJ34_reverse_6 : decode cJ34_reverse 6 = .ok (.istore_n 1, 1) := dk_60 (dk_at dksJ34_reverse_0 6 rfl rfl)
theorem dJ34_reverse_7 : decode cJ34_reverse 7 = .ok (.iload_n 1, 1) := dk_27 (dk_at dksJ34_reverse_0 7 rfl rfl)
theorem dJ34_reverse_8 : decode cJ34_reverse 8 = .ok (.bipush 18, 2) := dk_16 18 (dk_at dksJ34_reverse_0 8 rfl rfl)
theorem dJ34_reverse_10 : decode cJ34_reverse 10 = .ok (.if_icmp .lt 10, 3) := dk_161 0 10 (dk_at dksJ34_reverse_0 10 rfl rfl)
theorem dJ34_reverse_13 : decode cJ34_reverse 13 = .ok (.aload_n 0, 1) := dk_42 (dk_at dksJ34_reverse_0 13 rfl rfl)
theorem dJ34_reverse_14 : decode cJ34_reverse 14 = .ok (.instanceof 13, 3) := dk_193 0 13 (dk_at dksJ34_reverse_0 14 rfl rfl)
theorem dJ34_reverse_17 : decode cJ34_reverse 17 = .ok (.ifCond .eq 38, 3) := dk_153 0 38 (dk_at dksJ34_reverse_0 17 rfl rfl)
theorem dJ34_reverse_20 : decode cJ34_reverse 20 = .ok (.iconst 0, 1) := dk_3 (dk_at dksJ34_reverse_0 20 rfl rfl)
theorem dJ34_reverse_21 : decode cJ34_reverse 21 = .ok (.istore_n 2, 1) := dk_61 (dk_at dksJ34_reverse_0 21 rfl rfl)
theorem dJ34_reverse_22 : decode cJ34_reverse 22 = .ok (.iload_n 1, 1) := dk_27 (dk_at dksJ34_reverse_0 22 rfl rfl)
theorem dJ34_reverse_23 : decode cJ34_reverse 23 = .ok (.iconst 1, 1) := dk_4 (dk_at dksJ34_reverse_0 23 rfl rfl)
theorem dJ34_reverse_24 : decode cJ34_reverse 24 = .ok (.ishr, 1) := dk_122 (dk_at dksJ34_reverse_1 0 rfl rfl)
theorem dJ34_reverse_25 : decode cJ34_reverse 25 = .ok (.istore_n 3, 1) := dk_62 (dk_at dksJ34_reverse_1 1 rfl rfl)
theorem dJ34_reverse_26 : decode cJ34_reverse 26 = .ok (.iload_n 1, 1) := dk_27 (dk_at dksJ34_reverse_1 2 rfl rfl)
theorem dJ34_reverse_27 : decode cJ34_reverse 27 = .ok (.iconst 1, 1) := dk_4 (dk_at dksJ34_reverse_1 3 rfl rfl)
theorem dJ34_reverse_28 : decode cJ34_reverse 28 = .ok (.isub, 1) := dk_100 (dk_at dksJ34_reverse_1 4 rfl rfl)
theorem dJ34_reverse_29 : decode cJ34_reverse 29 = .ok (.istore 4, 2) := dk_54 4 (dk_at dksJ34_reverse_1 5 rfl rfl)
theorem dJ34_reverse_31 : decode cJ34_reverse 31 = .ok (.iload_n 2, 1) := dk_28 (dk_at dksJ34_reverse_1 7 rfl rfl)
theorem dJ34_reverse_32 : decode cJ34_reverse 32 = .ok (.iload_n 3, 1) := dk_29 (dk_at dksJ34_reverse_1 8 rfl rfl)
theorem dJ34_reverse_33 : decode cJ34_reverse 33 = .ok (.if_icmp .ge 19, 3) := dk_162 0 19 (dk_at dksJ34_reverse_1 9 rfl rfl)
theorem dJ34_reverse_36 : decode cJ34_reverse 36 = .ok (.aload_n 0, 1) := dk_42 (dk_at dksJ34_reverse_1 12 rfl rfl)
theorem dJ34_reverse_37 : decode cJ34_reverse 37 = .ok (.iload_n 2, 1) := dk_28 (dk_at dksJ34_reverse_1 13 rfl rfl)
theorem dJ34_reverse_38 : decode cJ34_reverse 38 = .ok (.iload 4, 2) := dk_21 4 (dk_at dksJ34_reverse_1 14 rfl rfl)
theorem dJ34_reverse_40 : decode cJ34_reverse 40 = .ok (.invokestatic 71, 3) := dk_184 0 71 (dk_at dksJ34_reverse_1 16 rfl rfl)
theorem dJ34_reverse_43 : decode cJ34_reverse 43 = .ok (.iinc 2 1, 3) := dk_132 2 1 (dk_at dksJ34_reverse_1 19 rfl rfl)
theorem dJ34_reverse_46 : decode cJ34_reverse 46 = .ok (.iinc 4 (-1), 3) := dk_132 4 255 (dk_at dksJ34_reverse_2 0 rfl rfl)
theorem dJ34_reverse_49 : decode cJ34_reverse 49 = .ok (.goto (-18), 3) := dk_167 255 238 (dk_at dksJ34_reverse_2 3 rfl rfl)
theorem dJ34_reverse_52 : decode cJ34_reverse 52 = .ok (.goto 72, 3) := dk_167 0 72 (dk_at dksJ34_reverse_2 6 rfl rfl)
theorem dJ34_reverse_55 : decode cJ34_reverse 55 = .ok (.aload_n 0, 1) := dk_42 (dk_at dksJ34_reverse_2 9 rfl rfl)
theorem dJ34_reverse_56 : decode cJ34_reverse 56 = .ok (.invokeinterface 38 1, 5) := by decide +kernel
theorem dJ34_reverse_61 : decode cJ34_reverse 61 = .ok (.astore_n 2, 1) := dk_77 (dk_at dksJ34_reverse_2 15 rfl rfl)
theorem dJ34_reverse_62 : decode cJ34_reverse 62 = .ok (.aload_n 0, 1) := dk_42 (dk_at dksJ34_reverse_2 16 rfl rfl)
theorem dJ34_reverse_63 : decode cJ34_reverse 63 = .ok (.iload_n 1, 1) := dk_27 (dk_at dksJ34_reverse_2 17 rfl rfl)
theorem dJ34_reverse_64 : decode cJ34_reverse 64 = .ok (.invokeinterface 75 2, 5) := by decide +kernel
theorem dJ34_reverse_69 : decode cJ34_reverse 69 = .ok (.astore_n 3, 1) := dk_78 (dk_at dksJ34_reverse_2 23 rfl rfl)
theorem dJ34_reverse_70 : decode cJ34_reverse 70 = .ok (.iconst 0, 1) := dk_3 (dk_at dksJ34_reverse_3 0 rfl rfl)
theorem dJ34_reverse_71 : decode cJ34_reverse 71 = .ok (.istore 4, 2) := dk_54 4 (dk_at dksJ34_reverse_3 1 rfl rfl)
theorem dJ34_reverse_73 : decode cJ34_reverse 73 = .ok (.aload_n 0, 1) := dk_42 (dk_at dksJ34_reverse_3 3 rfl rfl)
theorem dJ34_reverse_74 : decode cJ34_reverse 74 = .ok (.invokeinterface 15 1, 5) := by decide +kernel
theorem dJ34_reverse_79 : decode cJ34_reverse 79 = .ok (.iconst 1, 1) := dk_4 (dk_at dksJ34_reverse_3 9 rfl rfl)
theorem dJ34_reverse_80 : decode cJ34_reverse 80 = .ok (.ishr, 1) := dk_122 (dk_at dksJ34_reverse_3 10 rfl rfl)
theorem dJ34_reverse_81 : decode cJ34_reverse 81 = .ok (.istore 5, 2) := dk_54 5 (dk_at dksJ34_reverse_3 11 rfl rfl)
theorem dJ34_reverse_83 : decode cJ34_reverse 83 = .ok (.iload 4, 2) := dk_21 4 (dk_at dksJ34_reverse_3 13 rfl rfl)
theorem dJ34_reverse_85 : decode cJ34_reverse 85 = .ok (.iload 5, 2) := dk_21 5 (dk_at dksJ34_reverse_3 15 rfl rfl)
theorem dJ34_reverse_87 : decode cJ34_reverse 87 = .ok (.if_icmp .ge 37, 3) := dk_162 0 37 (dk_at dksJ34_reverse_3 17 rfl rfl)
theorem dJ34_reverse_90 : decode cJ34_reverse 90 = .ok (.aload_n 2, 1) := dk_44 (dk_at dksJ34_reverse_3 20 rfl rfl)
theorem dJ34_reverse_91 : decode cJ34_reverse 91 = .ok (.invokeinterface 50 1, 5) := by decide +kernel
theorem dJ34_reverse_96 : decode cJ34_reverse 96 = .ok (.astore 6, 2) := dk_58 6 (dk_at dksJ34_reverse_4 5 rfl rfl)
theorem dJ34_reverse_98 : decode cJ34_reverse 98 = .ok (.aload_n 2, 1) := dk_44 (dk_at dksJ34_reverse_4 7 rfl rfl)
theorem dJ34_reverse_99 : decode cJ34_reverse 99 = .ok (.aload_n 3, 1) := dk_45 (dk_at dksJ34_reverse_4 8 rfl rfl)
theorem dJ34_reverse_100 : decode cJ34_reverse 100 = .ok (.invokeinterface 54 1, 5) := by decide +kernel
theorem dJ34_reverse_105 : decode cJ34_reverse 105 = .ok (.invokeinterface 78 2, 5) := by decide +kernel
theorem dJ34_reverse_110 : decode cJ34_reverse 110 = .ok (.aload_n 3, 1) := dk_45 (dk_at dksJ34_reverse_4 19 rfl rfl)
theorem dJ34_reverse_111 : decode cJ34_reverse 111 = .ok (.aload 6, 2) := dk_25 6 (dk_at dksJ34_reverse_4 20 rfl rfl)
theorem dJ34_reverse_113 : decode cJ34_reverse 113 = .ok (.invokeinterface 78 2, 5) := by decide +kernel
theorem dJ34_reverse_118 : decode cJ34_reverse 118 = .ok (.iinc 4 1, 3) := dk_132 4 1 (dk_at dksJ34_reverse_5 5 rfl rfl)
theorem dJ34_reverse_121 : decode cJ34_reverse 121 = .ok (.goto (-38), 3) := dk_167 255 218 (dk_at dksJ34_reverse_5 8 rfl rfl)
theorem dJ34_reverse_124 : decode cJ34_reverse 124 = .ok (.return_, 1) := dk_177 (dk_at dksJ34_reverse_5 11 rfl rfl)
abbrev cJ34_swap : ByteArray := prog_54_method_15_code
def yJ34_swap : MethodName := ⟨RJ34, "swap", "(Ljava/util/List;II)V"⟩
def dkwJ34_swap_1 : List UInt8 := [177]
abbrev dktJ34_swap_1 : List UInt8 := dkwJ34_swap_1 ++ []
def dkwJ34_swap_0 : List UInt8 := [42, 78, 45, 27, 45, 28, 45, 27, 185, 0, 28, 2, 0, 185, 0, 109, 3, 0, 185, 0, 109, 3, 0, 87]
abbrev dktJ34_swap_0 : List UInt8 := dkwJ34_swap_0 ++ dktJ34_swap_1
theorem dksJ34_swap_0 : cJ34_swap.data.toList.drop 0 = dktJ34_swap_0 := by decide +kernel
theorem dksJ34_swap_1 : cJ34_swap.data.toList.drop 24 = dktJ34_swap_1 := dk_seg dksJ34_swap_0 24 rfl rfl
theorem dJ34_swap_0 : decode cJ34_swap 0 = .ok (.aload_n 0, 1) := dk_42 (dk_at dksJ34_swap_0 0 rfl rfl)
theorem dJ34_swap_1 : decode cJ34_swap 1 = .ok (.astore_n 3, 1) := dk_78 (dk_at dksJ34_swap_0 1 rfl rfl)
theorem dJ34_swap_2 : decode cJ34_swap 2 = .ok (.aload_n 3, 1) := dk_45 (dk_at dksJ34_swap_0 2 rfl rfl)
theorem dJ34_swap_3 : decode cJ34_swap 3 = .ok (.iload_n 1, 1) := dk_27 (dk_at dksJ34_swap_0 3 rfl rfl)
theorem dJ34_swap_4 : decode cJ34_swap 4 = .ok (.aload_n 3, 1) := dk_45 (dk_at dksJ34_swap_0 4 rfl rfl)
theorem dJ34_swap_5 : decode cJ34_swap 5 = .ok (.iload_n 2, 1) := dk_28 (dk_at dksJ34_swap_0 5 rfl rfl)
theorem dJ34_swap_6 : decode cJ34_swap 6 = .ok (.aload_n 3, 1) := dk_45 (dk_at dksJ34_swap_0 6 rfl rfl)
theorem dJ34_swap_7 : decode cJ34_swap 7 = .ok (.iload_n 1, 1) := dk_27 (dk_at dksJ34_swap_0 7 rfl rfl)
theorem dJ34_swap_8 : decode cJ34_swap 8 = .ok (.invokeinterface 28 2, 5) := by decide +kernel
theorem dJ34_swap_13 : decode cJ34_swap 13 = .ok (.invokeinterface 109 3, 5) := by decide +kernel
theorem dJ34_swap_18 : decode cJ34_swap 18 = .ok (.invokeinterface 109 3, 5) := by decide +kernel
theorem dJ34_swap_23 : decode cJ34_swap 23 = .ok (.pop, 1) := dk_87 (dk_at dksJ34_swap_0 23 rfl rfl)
theorem dJ34_swap_24 : decode cJ34_swap 24 = .ok (.return_, 1) := dk_177 (dk_at dksJ34_swap_1 0 rfl rfl)
abbrev cJ34_rotate : ByteArray := prog_54_method_23_code
def yJ34_rotate : MethodName := ⟨RJ34, "rotate", "(Ljava/util/List;I)V"⟩
def dkwJ34_rotate_1 : List UInt8 := [167, 0, 8, 42, 27, 184, 0, 143, 177]
abbrev dktJ34_rotate_1 : List UInt8 := dkwJ34_rotate_1 ++ []
def dkwJ34_rotate_0 : List UInt8 := [42, 193, 0, 13, 154, 0, 14, 42, 185, 0, 15, 1, 0, 16, 100, 162, 0, 11, 42, 27, 184, 0, 139]
abbrev dktJ34_rotate_0 : List UInt8 := dkwJ34_rotate_0 ++ dktJ34_rotate_1
theorem dksJ34_rotate_0 : cJ34_rotate.data.toList.drop 0 = dktJ34_rotate_0 := by decide +kernel
theorem dksJ34_rotate_1 : cJ34_rotate.data.toList.drop 23 = dktJ34_rotate_1 := dk_seg dksJ34_rotate_0 23 rfl rfl
theorem dJ34_rotate_0 : decode cJ34_rotate 0 = .ok (.aload_n 0, 1) := dk_42 (dk_at dksJ34_rotate_0 0 rfl rfl)
theorem dJ34_rotate_1 : decode cJ34_rotate 1 = .ok (.instanceof 13, 3) := dk_193 0 13 (dk_at dksJ34_rotate_0 1 rfl rfl)
theorem dJ34_rotate_4 : decode cJ34_rotate 4 = .ok (.ifCond .ne 14, 3) := dk_154 0 14 (dk_at dksJ34_rotate_0 4 rfl rfl)
theorem dJ34_rotate_7 : decode cJ34_rotate 7 = .ok (.aload_n 0, 1) := dk_42 (dk_at dksJ34_rotate_0 7 rfl rfl)
theorem dJ34_rotate_8 : decode cJ34_rotate 8 = .ok (.invokeinterface 15 1, 5) := by decide +kernel
theorem dJ34_rotate_13 : decode cJ34_rotate 13 = .ok (.bipush 100, 2) := dk_16 100 (dk_at dksJ34_rotate_0 13 rfl rfl)
theorem dJ34_rotate_15 : decode cJ34_rotate 15 = .ok (.if_icmp .ge 11, 3) := dk_162 0 11 (dk_at dksJ34_rotate_0 15 rfl rfl)
theorem dJ34_rotate_18 : decode cJ34_rotate 18 = .ok (.aload_n 0, 1) := dk_42 (dk_at dksJ34_rotate_0 18 rfl rfl)
theorem dJ34_rotate_19 : decode cJ34_rotate 19 = .ok (.iload_n 1, 1) := dk_27 (dk_at dksJ34_rotate_0 19 rfl rfl)
theorem dJ34_rotate_20 : decode cJ34_rotate 20 = .ok (.invokestatic 139, 3) := dk_184 0 139 (dk_at dksJ34_rotate_0 20 rfl rfl)
theorem dJ34_rotate_23 : decode cJ34_rotate 23 = .ok (.goto 8, 3) := dk_167 0 8 (dk_at dksJ34_rotate_1 0 rfl rfl)
theorem dJ34_rotate_26 : decode cJ34_rotate 26 = .ok (.aload_n 0, 1) := dk_42 (dk_at dksJ34_rotate_1 3 rfl rfl)
theorem dJ34_rotate_27 : decode cJ34_rotate 27 = .ok (.iload_n 1, 1) := dk_27 (dk_at dksJ34_rotate_1 4 rfl rfl)
theorem dJ34_rotate_28 : decode cJ34_rotate 28 = .ok (.invokestatic 143, 3) := dk_184 0 143 (dk_at dksJ34_rotate_1 5 rfl rfl)
theorem dJ34_rotate_31 : decode cJ34_rotate 31 = .ok (.return_, 1) := dk_177 (dk_at dksJ34_rotate_1 8 rfl rfl)
abbrev cJ34_rotate1 : ByteArray := prog_54_method_24_code
def yJ34_rotate1 : MethodName := ⟨RJ34, "rotate1", "(Ljava/util/List;I)V"⟩
def dkwJ34_rotate1_4 : List UInt8 := [21, 4, 160, 255, 219, 132, 4, 1, 167, 255, 193, 177]
abbrev dktJ34_rotate1_4 : List UInt8 := dkwJ34_rotate1_4 ++ []
def dkwJ34_rotate1_3 : List UInt8 := [21, 7, 27, 96, 54, 7, 42, 21, 7, 25, 6, 185, 0, 109, 3, 0, 58, 6, 132, 5, 1, 21, 7]
abbrev dktJ34_rotate1_3 : List UInt8 := dkwJ34_rotate1_3 ++ dktJ34_rotate1_4
def dkwJ34_rotate1_2 : List UInt8 := [185, 0, 28, 2, 0, 58, 6, 21, 4, 54, 7, 21, 7, 29, 161, 0, 9, 21, 7, 28, 100, 54, 7]
abbrev dktJ34_rotate1_2 : List UInt8 := dkwJ34_rotate1_2 ++ dktJ34_rotate1_3
def dkwJ34_rotate1_1 : List UInt8 := [27, 154, 0, 4, 177, 28, 27, 100, 62, 3, 54, 4, 3, 54, 5, 21, 5, 28, 162, 0, 63, 42, 21, 4]
abbrev dktJ34_rotate1_1 : List UInt8 := dkwJ34_rotate1_1 ++ dktJ34_rotate1_2
def dkwJ34_rotate1_0 : List UInt8 := [42, 185, 0, 15, 1, 0, 61, 28, 154, 0, 4, 177, 27, 28, 112, 60, 27, 156, 0, 7, 27, 28, 96, 60]
abbrev dktJ34_rotate1_0 : List UInt8 := dkwJ34_rotate1_0 ++ dktJ34_rotate1_1
theorem dksJ34_rotate1_0 : cJ34_rotate1.data.toList.drop 0 = dktJ34_rotate1_0 := by decide +kernel
theorem dksJ34_rotate1_1 : cJ34_rotate1.data.toList.drop 24 = dktJ34_rotate1_1 := dk_seg dksJ34_rotate1_0 24 rfl rfl
theorem dksJ34_rotate1_2 : cJ34_rotate1.data.toList.drop 48 = dktJ34_rotate1_2 := dk_seg dksJ34_rotate1_1 24 rfl rfl
theorem dksJ34_rotate1_3 : cJ34_rotate1.data.toList.drop 71 = dktJ34_rotate1_3 := dk_seg dksJ34_rotate1_2 23 rfl rfl
theorem dksJ34_rotate1_4 : cJ34_rotate1.data.toList.drop 94 = dktJ34_rotate1_4 := dk_seg dksJ34_rotate1_3 23 rfl rfl
theorem dJ34_rotate1_0 : decode cJ34_rotate1 0 = .ok (.aload_n 0, 1) := dk_42 (dk_at dksJ34_rotate1_0 0 rfl rfl)
theorem dJ34_rotate1_1 : decode cJ34_rotate1 1 = .ok (.invokeinterface 15 1, 5) := by decide +kernel
theorem dJ34_rotate1_6 : decode cJ34_rotate1 6 = .ok (.istore_n 2, 1) := dk_61 (dk_at dksJ34_rotate1_0 6 rfl rfl)
theorem dJ34_rotate1_7 : decode cJ34_rotate1 7 = .ok (.iload_n 2, 1) := dk_28 (dk_at dksJ34_rotate1_0 7 rfl rfl)
theorem dJ34_rotate1_8 : decode cJ34_rotate1 8 = .ok (.ifCond .ne 4, 3) := dk_154 0 4 (dk_at dksJ34_rotate1_0 8 rfl rfl)
theorem dJ34_rotate1_11 : decode cJ34_rotate1 11 = .ok (.return_, 1) := dk_177 (dk_at dksJ34_rotate1_0 11 rfl rfl)
theorem dJ34_rotate1_12 : decode cJ34_rotate1 12 = .ok (.iload_n 1, 1) := dk_27 (dk_at dksJ34_rotate1_0 12 rfl rfl)
theorem dJ34_rotate1_13 : decode cJ34_rotate1 13 = .ok (.iload_n 2, 1) := dk_28 (dk_at dksJ34_rotate1_0 13 rfl rfl)
theorem dJ34_rotate1_14 : decode cJ34_rotate1 14 = .ok (.irem, 1) := dk_112 (dk_at dksJ34_rotate1_0 14 rfl rfl)
theorem dJ34_rotate1_15 : decode cJ34_rotate1 15 = .ok (.istore_n 1, 1) := dk_60 (dk_at dksJ34_rotate1_0 15 rfl rfl)
theorem dJ34_rotate1_16 : decode cJ34_rotate1 16 = .ok (.iload_n 1, 1) := dk_27 (dk_at dksJ34_rotate1_0 16 rfl rfl)
theorem dJ34_rotate1_17 : decode cJ34_rotate1 17 = .ok (.ifCond .ge 7, 3) := dk_156 0 7 (dk_at dksJ34_rotate1_0 17 rfl rfl)
theorem dJ34_rotate1_20 : decode cJ34_rotate1 20 = .ok (.iload_n 1, 1) := dk_27 (dk_at dksJ34_rotate1_0 20 rfl rfl)
theorem dJ34_rotate1_21 : decode cJ34_rotate1 21 = .ok (.iload_n 2, 1) := dk_28 (dk_at dksJ34_rotate1_0 21 rfl rfl)
theorem dJ34_rotate1_22 : decode cJ34_rotate1 22 = .ok (.iadd, 1) := dk_96 (dk_at dksJ34_rotate1_0 22 rfl rfl)
theorem dJ34_rotate1_23 : decode cJ34_rotate1 23 = .ok (.istore_n 1, 1) := dk_60 (dk_at dksJ34_rotate1_0 23 rfl rfl)
theorem dJ34_rotate1_24 : decode cJ34_rotate1 24 = .ok (.iload_n 1, 1) := dk_27 (dk_at dksJ34_rotate1_1 0 rfl rfl)
theorem dJ34_rotate1_25 : decode cJ34_rotate1 25 = .ok (.ifCond .ne 4, 3) := dk_154 0 4 (dk_at dksJ34_rotate1_1 1 rfl rfl)
theorem dJ34_rotate1_28 : decode cJ34_rotate1 28 = .ok (.return_, 1) := dk_177 (dk_at dksJ34_rotate1_1 4 rfl rfl)
theorem dJ34_rotate1_29 : decode cJ34_rotate1 29 = .ok (.iload_n 2, 1) := dk_28 (dk_at dksJ34_rotate1_1 5 rfl rfl)
theorem dJ34_rotate1_30 : decode cJ34_rotate1 30 = .ok (.iload_n 1, 1) := dk_27 (dk_at dksJ34_rotate1_1 6 rfl rfl)
theorem dJ34_rotate1_31 : decode cJ34_rotate1 31 = .ok (.isub, 1) := dk_100 (dk_at dksJ34_rotate1_1 7 rfl rfl)
theorem dJ34_rotate1_32 : decode cJ34_rotate1 32 = .ok (.istore_n 3, 1) := dk_62 (dk_at dksJ34_rotate1_1 8 rfl rfl)
theorem dJ34_rotate1_33 : decode cJ34_rotate1 33 = .ok (.iconst 0, 1) := dk_3 (dk_at dksJ34_rotate1_1 9 rfl rfl)
theorem dJ34_rotate1_34 : decode cJ34_rotate1 34 = .ok (.istore 4, 2) := dk_54 4 (dk_at dksJ34_rotate1_1 10 rfl rfl)
theorem dJ34_rotate1_36 : decode cJ34_rotate1 36 = .ok (.iconst 0, 1) := dk_3 (dk_at dksJ34_rotate1_1 12 rfl rfl)
theorem dJ34_rotate1_37 : decode cJ34_rotate1 37 = .ok (.istore 5, 2) := dk_54 5 (dk_at dksJ34_rotate1_1 13 rfl rfl)
theorem dJ34_rotate1_39 : decode cJ34_rotate1 39 = .ok (.iload 5, 2) := dk_21 5 (dk_at dksJ34_rotate1_1 15 rfl rfl)
theorem dJ34_rotate1_41 : decode cJ34_rotate1 41 = .ok (.iload_n 2, 1) := dk_28 (dk_at dksJ34_rotate1_1 17 rfl rfl)
theorem dJ34_rotate1_42 : decode cJ34_rotate1 42 = .ok (.if_icmp .ge 63, 3) := dk_162 0 63 (dk_at dksJ34_rotate1_1 18 rfl rfl)
theorem dJ34_rotate1_45 : decode cJ34_rotate1 45 = .ok (.aload_n 0, 1) := dk_42 (dk_at dksJ34_rotate1_1 21 rfl rfl)
theorem dJ34_rotate1_46 : decode cJ34_rotate1 46 = .ok (.iload 4, 2) := dk_21 4 (dk_at dksJ34_rotate1_1 22 rfl rfl)
theorem dJ34_rotate1_48 : decode cJ34_rotate1 48 = .ok (.invokeinterface 28 2, 5) := by decide +kernel
theorem dJ34_rotate1_53 : decode cJ34_rotate1 53 = .ok (.astore 6, 2) := dk_58 6 (dk_at dksJ34_rotate1_2 5 rfl rfl)
theorem dJ34_rotate1_55 : decode cJ34_rotate1 55 = .ok (.iload 4, 2) := dk_21 4 (dk_at dksJ34_rotate1_2 7 rfl rfl)
theorem dJ34_rotate1_57 : decode cJ34_rotate1 57 = .ok (.istore 7, 2) := dk_54 7 (dk_at dksJ34_rotate1_2 9 rfl rfl)
theorem dJ34_rotate1_59 : decode cJ34_rotate1 59 = .ok (.iload 7, 2) := dk_21 7 (dk_at dksJ34_rotate1_2 11 rfl rfl)
theorem dJ34_rotate1_61 : decode cJ34_rotate1 61 = .ok (.iload_n 3, 1) := dk_29 (dk_at dksJ34_rotate1_2 13 rfl rfl)
theorem dJ34_rotate1_62 : decode cJ34_rotate1 62 = .ok (.if_icmp .lt 9, 3) := dk_161 0 9 (dk_at dksJ34_rotate1_2 14 rfl rfl)
theorem dJ34_rotate1_65 : decode cJ34_rotate1 65 = .ok (.iload 7, 2) := dk_21 7 (dk_at dksJ34_rotate1_2 17 rfl rfl)
theorem dJ34_rotate1_67 : decode cJ34_rotate1 67 = .ok (.iload_n 2, 1) := dk_28 (dk_at dksJ34_rotate1_2 19 rfl rfl)
theorem dJ34_rotate1_68 : decode cJ34_rotate1 68 = .ok (.isub, 1) := dk_100 (dk_at dksJ34_rotate1_2 20 rfl rfl)
theorem dJ34_rotate1_69 : decode cJ34_rotate1 69 = .ok (.istore 7, 2) := dk_54 7 (dk_at dksJ34_rotate1_2 21 rfl rfl)
theorem dJ34_rotate1_71 : decode cJ34_rotate1 71 = .ok (.iload 7, 2) := dk_21 7 (dk_at dksJ34_rotate1_3 0 rfl rfl)
theorem dJ34_rotate1_73 : decode cJ34_rotate1 73 = .ok (.iload_n 1, 1) := dk_27 (dk_at dksJ34_rotate1_3 2 rfl rfl)
theorem dJ34_rotate1_74 : decode cJ34_rotate1 74 = .ok (.iadd, 1) := dk_96 (dk_at dksJ34_rotate1_3 3 rfl rfl)
theorem dJ34_rotate1_75 : decode cJ34_rotate1 75 = .ok (.istore 7, 2) := dk_54 7 (dk_at dksJ34_rotate1_3 4 rfl rfl)
theorem dJ34_rotate1_77 : decode cJ34_rotate1 77 = .ok (.aload_n 0, 1) := dk_42 (dk_at dksJ34_rotate1_3 6 rfl rfl)
theorem dJ34_rotate1_78 : decode cJ34_rotate1 78 = .ok (.iload 7, 2) := dk_21 7 (dk_at dksJ34_rotate1_3 7 rfl rfl)
theorem dJ34_rotate1_80 : decode cJ34_rotate1 80 = .ok (.aload 6, 2) := dk_25 6 (dk_at dksJ34_rotate1_3 9 rfl rfl)
theorem dJ34_rotate1_82 : decode cJ34_rotate1 82 = .ok (.invokeinterface 109 3, 5) := by decide +kernel
theorem dJ34_rotate1_87 : decode cJ34_rotate1 87 = .ok (.astore 6, 2) := dk_58 6 (dk_at dksJ34_rotate1_3 16 rfl rfl)
theorem dJ34_rotate1_89 : decode cJ34_rotate1 89 = .ok (.iinc 5 1, 3) := dk_132 5 1 (dk_at dksJ34_rotate1_3 18 rfl rfl)
theorem dJ34_rotate1_92 : decode cJ34_rotate1 92 = .ok (.iload 7, 2) := dk_21 7 (dk_at dksJ34_rotate1_3 21 rfl rfl)
theorem dJ34_rotate1_94 : decode cJ34_rotate1 94 = .ok (.iload 4, 2) := dk_21 4 (dk_at dksJ34_rotate1_4 0 rfl rfl)
theorem dJ34_rotate1_96 : decode cJ34_rotate1 96 = .ok (.if_icmp .ne (-37), 3) := dk_160 255 219 (dk_at dksJ34_rotate1_4 2 rfl rfl)
theorem dJ34_rotate1_99 : decode cJ34_rotate1 99 = .ok (.iinc 4 1, 3) := dk_132 4 1 (dk_at dksJ34_rotate1_4 5 rfl rfl)
theorem dJ34_rotate1_102 : decode cJ34_rotate1 102 = .ok (.goto (-63), 3) := dk_167 255 193 (dk_at dksJ34_rotate1_4 8 rfl rfl)
theorem dJ34_rotate1_105 : decode cJ34_rotate1 105 = .ok (.return_, 1) := dk_177 (dk_at dksJ34_rotate1_4 11 rfl rfl)
abbrev cJ34_rotate2 : ByteArray := prog_54_method_25_code
def yJ34_rotate2 : MethodName := ⟨RJ34, "rotate2", "(Ljava/util/List;I)V"⟩
def dkwJ34_rotate2_2 : List UInt8 := [185, 0, 146, 3, 0, 184, 0, 150, 42, 184, 0, 150, 177]
abbrev dktJ34_rotate2_2 : List UInt8 := dkwJ34_rotate2_2 ++ []
def dkwJ34_rotate2_1 : List UInt8 := [62, 29, 154, 0, 4, 177, 42, 3, 29, 185, 0, 146, 3, 0, 184, 0, 150, 42, 29, 28]
abbrev dktJ34_rotate2_1 : List UInt8 := dkwJ34_rotate2_1 ++ dktJ34_rotate2_2
def dkwJ34_rotate2_0 : List UInt8 := [42, 185, 0, 15, 1, 0, 61, 28, 154, 0, 4, 177, 27, 116, 28, 112, 62, 29, 156, 0, 7, 29, 28, 96]
abbrev dktJ34_rotate2_0 : List UInt8 := dkwJ34_rotate2_0 ++ dktJ34_rotate2_1
theorem dksJ34_rotate2_0 : cJ34_rotate2.data.toList.drop 0 = dktJ34_rotate2_0 := by decide +kernel
theorem dksJ34_rotate2_1 : cJ34_rotate2.data.toList.drop 24 = dktJ34_rotate2_1 := dk_seg dksJ34_rotate2_0 24 rfl rfl
theorem dksJ34_rotate2_2 : cJ34_rotate2.data.toList.drop 44 = dktJ34_rotate2_2 := dk_seg dksJ34_rotate2_1 20 rfl rfl
theorem dJ34_rotate2_0 : decode cJ34_rotate2 0 = .ok (.aload_n 0, 1) := dk_42 (dk_at dksJ34_rotate2_0 0 rfl rfl)
theorem dJ34_rotate2_1 : decode cJ34_rotate2 1 = .ok (.invokeinterface 15 1, 5) := by decide +kernel
theorem dJ34_rotate2_6 : decode cJ34_rotate2 6 = .ok (.istore_n 2, 1) := dk_61 (dk_at dksJ34_rotate2_0 6 rfl rfl)
theorem dJ34_rotate2_7 : decode cJ34_rotate2 7 = .ok (.iload_n 2, 1) := dk_28 (dk_at dksJ34_rotate2_0 7 rfl rfl)
theorem dJ34_rotate2_8 : decode cJ34_rotate2 8 = .ok (.ifCond .ne 4, 3) := dk_154 0 4 (dk_at dksJ34_rotate2_0 8 rfl rfl)
theorem dJ34_rotate2_11 : decode cJ34_rotate2 11 = .ok (.return_, 1) := dk_177 (dk_at dksJ34_rotate2_0 11 rfl rfl)
theorem dJ34_rotate2_12 : decode cJ34_rotate2 12 = .ok (.iload_n 1, 1) := dk_27 (dk_at dksJ34_rotate2_0 12 rfl rfl)
theorem dJ34_rotate2_13 : decode cJ34_rotate2 13 = .ok (.ineg, 1) := dk_116 (dk_at dksJ34_rotate2_0 13 rfl rfl)
theorem dJ34_rotate2_14 : decode cJ34_rotate2 14 = .ok (.iload_n 2, 1) := dk_28 (dk_at dksJ34_rotate2_0 14 rfl rfl)
theorem dJ34_rotate2_15 : decode cJ34_rotate2 15 = .ok (.irem, 1) := dk_112 (dk_at dksJ34_rotate2_0 15 rfl rfl)
theorem dJ34_rotate2_16 : decode cJ34_rotate2 16 = .ok (.istore_n 3, 1) := dk_62 (dk_at dksJ34_rotate2_0 16 rfl rfl)
theorem dJ34_rotate2_17 : decode cJ34_rotate2 17 = .ok (.iload_n 3, 1) := dk_29 (dk_at dksJ34_rotate2_0 17 rfl rfl)
theorem dJ34_rotate2_18 : decode cJ34_rotate2 18 = .ok (.ifCond .ge 7, 3) := dk_156 0 7 (dk_at dksJ34_rotate2_0 18 rfl rfl)
theorem dJ34_rotate2_21 : decode cJ34_rotate2 21 = .ok (.iload_n 3, 1) := dk_29 (dk_at dksJ34_rotate2_0 21 rfl rfl)
theorem dJ34_rotate2_22 : decode cJ34_rotate2 22 = .ok (.iload_n 2, 1) := dk_28 (dk_at dksJ34_rotate2_0 22 rfl rfl)
theorem dJ34_rotate2_23 : decode cJ34_rotate2 23 = .ok (.iadd, 1) := dk_96 (dk_at dksJ34_rotate2_0 23 rfl rfl)
theorem dJ34_rotate2_24 : decode cJ34_rotate2 24 = .ok (.istore_n 3, 1) := dk_62 (dk_at dksJ34_rotate2_1 0 rfl rfl)
theorem dJ34_rotate2_25 : decode cJ34_rotate2 25 = .ok (.iload_n 3, 1) := dk_29 (dk_at dksJ34_rotate2_1 1 rfl rfl)
theorem dJ34_rotate2_26 : decode cJ34_rotate2 26 = .ok (.ifCond .ne 4, 3) := dk_154 0 4 (dk_at dksJ34_rotate2_1 2 rfl rfl)
theorem dJ34_rotate2_29 : decode cJ34_rotate2 29 = .ok (.return_, 1) := dk_177 (dk_at dksJ34_rotate2_1 5 rfl rfl)
theorem dJ34_rotate2_30 : decode cJ34_rotate2 30 = .ok (.aload_n 0, 1) := dk_42 (dk_at dksJ34_rotate2_1 6 rfl rfl)
theorem dJ34_rotate2_31 : decode cJ34_rotate2 31 = .ok (.iconst 0, 1) := dk_3 (dk_at dksJ34_rotate2_1 7 rfl rfl)
theorem dJ34_rotate2_32 : decode cJ34_rotate2 32 = .ok (.iload_n 3, 1) := dk_29 (dk_at dksJ34_rotate2_1 8 rfl rfl)
theorem dJ34_rotate2_33 : decode cJ34_rotate2 33 = .ok (.invokeinterface 146 3, 5) := by decide +kernel
theorem dJ34_rotate2_38 : decode cJ34_rotate2 38 = .ok (.invokestatic 150, 3) := dk_184 0 150 (dk_at dksJ34_rotate2_1 14 rfl rfl)
theorem dJ34_rotate2_41 : decode cJ34_rotate2 41 = .ok (.aload_n 0, 1) := dk_42 (dk_at dksJ34_rotate2_1 17 rfl rfl)
theorem dJ34_rotate2_42 : decode cJ34_rotate2 42 = .ok (.iload_n 3, 1) := dk_29 (dk_at dksJ34_rotate2_1 18 rfl rfl)
theorem dJ34_rotate2_43 : decode cJ34_rotate2 43 = .ok (.iload_n 2, 1) := dk_28 (dk_at dksJ34_rotate2_1 19 rfl rfl)
theorem dJ34_rotate2_44 : decode cJ34_rotate2 44 = .ok (.invokeinterface 146 3, 5) := by decide +kernel
theorem dJ34_rotate2_49 : decode cJ34_rotate2 49 = .ok (.invokestatic 150, 3) := dk_184 0 150 (dk_at dksJ34_rotate2_2 5 rfl rfl)
theorem dJ34_rotate2_52 : decode cJ34_rotate2 52 = .ok (.aload_n 0, 1) := dk_42 (dk_at dksJ34_rotate2_2 8 rfl rfl)
theorem dJ34_rotate2_53 : decode cJ34_rotate2 53 = .ok (.invokestatic 150, 3) := dk_184 0 150 (dk_at dksJ34_rotate2_2 9 rfl rfl)
theorem dJ34_rotate2_56 : decode cJ34_rotate2 56 = .ok (.return_, 1) := dk_177 (dk_at dksJ34_rotate2_2 12 rfl rfl)
theorem q95 : (Jvm.Cond.initialized "java/util/Collections") ∈ lw_all := lw_g (lw_at lw_m1 40 rfl) rfl
theorem q2322 : (Jvm.Cond.static ({ cls := "java/util/Collections", name := "frequency", desc := "(Ljava/util/Collection;Ljava/lang/Object;)I" } : Jvm.MethodName)) ∈ lw_all := lw_g (lw_at lw_m10 107 rfl) rfl
theorem q2323 : (Jvm.Cond.code ({ cls := "java/util/Collections", name := "frequency", desc := "(Ljava/util/Collection;Ljava/lang/Object;)I" } : Jvm.MethodName) prog_54_method_82_code (5 : Nat) (Option.some Jvm.ClassFile.FieldType.int)) ∈ lw_all := lw_g (lw_at lw_m10 108 rfl) rfl
theorem q2324 : (Jvm.Cond.interfaceEntry "java/util/Collections" (119 : Nat)) ∈ lw_tbl := lw_at lw_m10 109 rfl
theorem q2325 : (Jvm.Cond.methodLink "java/util/Collections" (119 : Nat) ({ cls := "java/util/Collection", name := "iterator", desc := "()Ljava/util/Iterator;" } : Jvm.MethodName)) ∈ lw_all := lw_g (lw_at lw_m10 110 rfl) rfl
theorem q2338 : (Jvm.Cond.interfaceEntry "java/util/Collections" (128 : Nat)) ∈ lw_tbl := lw_at lw_m10 123 rfl
theorem q2339 : (Jvm.Cond.methodLink "java/util/Collections" (128 : Nat) ({ cls := "java/util/Iterator", name := "hasNext", desc := "()Z" } : Jvm.MethodName)) ∈ lw_all := lw_g (lw_at lw_m10 124 rfl) rfl
theorem q2340 : (Jvm.Cond.interfaceEntry "java/util/Collections" (125 : Nat)) ∈ lw_tbl := lw_at lw_m10 125 rfl
theorem q2341 : (Jvm.Cond.methodLink "java/util/Collections" (125 : Nat) ({ cls := "java/util/Iterator", name := "next", desc := "()Ljava/lang/Object;" } : Jvm.MethodName)) ∈ lw_all := lw_g (lw_at lw_m10 126 rfl) rfl
theorem q2342 : (Jvm.Cond.methodLink "java/util/Collections" (154 : Nat) ({ cls := "java/lang/Object", name := "equals", desc := "(Ljava/lang/Object;)Z" } : Jvm.MethodName)) ∈ lw_all := lw_g (lw_at lw_m10 127 rfl) rfl
theorem q2378 : (Jvm.Cond.static ({ cls := "java/util/Collections", name := "disjoint", desc := "(Ljava/util/Collection;Ljava/util/Collection;)Z" } : Jvm.MethodName)) ∈ lw_all := lw_g (lw_at lw_m10 163 rfl) rfl
theorem q2379 : (Jvm.Cond.code ({ cls := "java/util/Collections", name := "disjoint", desc := "(Ljava/util/Collection;Ljava/util/Collection;)Z" } : Jvm.MethodName) prog_54_method_83_code (6 : Nat) (Option.some Jvm.ClassFile.FieldType.boolean)) ∈ lw_all := lw_g (lw_at lw_m10 164 rfl) rfl
theorem q2380 : (Jvm.Cond.classLink "java/util/Collections" (180 : Nat) "java/util/Set") ∈ lw_all := lw_g (lw_at lw_m10 165 rfl) rfl
theorem q2381 : (Jvm.Cond.interfaceEntry "java/util/Collections" (459 : Nat)) ∈ lw_tbl := lw_at lw_m10 166 rfl
theorem q2382 : (Jvm.Cond.methodLink "java/util/Collections" (459 : Nat) ({ cls := "java/util/Collection", name := "size", desc := "()I" } : Jvm.MethodName)) ∈ lw_all := lw_g (lw_at lw_m10 167 rfl) rfl
theorem q2390 : (Jvm.Cond.interfaceEntry "java/util/Collections" (460 : Nat)) ∈ lw_tbl := lw_at lw_m10 175 rfl
theorem q2391 : (Jvm.Cond.methodLink "java/util/Collections" (460 : Nat) ({ cls := "java/util/Collection", name := "contains", desc := "(Ljava/lang/Object;)Z" } : Jvm.MethodName)) ∈ lw_all := lw_g (lw_at lw_m10 176 rfl) rfl
theorem q2407 : (Jvm.Cond.static ({ cls := "java/util/Collections", name := "indexOfSubList", desc := "(Ljava/util/List;Ljava/util/List;)I" } : Jvm.MethodName)) ∈ lw_all := lw_g (lw_at lw_m10 192 rfl) rfl
theorem q2408 : (Jvm.Cond.code ({ cls := "java/util/Collections", name := "indexOfSubList", desc := "(Ljava/util/List;Ljava/util/List;)I" } : Jvm.MethodName) prog_54_method_27_code (10 : Nat) (Option.some Jvm.ClassFile.FieldType.int)) ∈ lw_all := lw_g (lw_at lw_m10 193 rfl) rfl
theorem q2409 : (Jvm.Cond.interfaceEntry "java/util/Collections" (15 : Nat)) ∈ lw_tbl := lw_at lw_m10 194 rfl
theorem q2410 : (Jvm.Cond.methodLink "java/util/Collections" (15 : Nat) ({ cls := "java/util/List", name := "size", desc := "()I" } : Jvm.MethodName)) ∈ lw_all := lw_g (lw_at lw_m10 195 rfl) rfl
theorem q2411 : (Jvm.Cond.classLink "java/util/Collections" (13 : Nat) "java/util/RandomAccess") ∈ lw_all := lw_g (lw_at lw_m10 196 rfl) rfl
theorem q2412 : (Jvm.Cond.interfaceEntry "java/util/Collections" (28 : Nat)) ∈ lw_tbl := lw_at lw_m10 197 rfl
theorem q2413 : (Jvm.Cond.methodLink "java/util/Collections" (28 : Nat) ({ cls := "java/util/List", name := "get", desc := "(I)Ljava/lang/Object;" } : Jvm.MethodName)) ∈ lw_all := lw_g (lw_at lw_m10 198 rfl) rfl
theorem q2414 : (Jvm.Cond.methodLink "java/util/Collections" (158 : Nat) ({ cls := "java/util/Collections", name := "eq", desc := "(Ljava/lang/Object;Ljava/lang/Object;)Z" } : Jvm.MethodName)) ∈ lw_all := lw_g (lw_at lw_m10 199 rfl) rfl
theorem q2415 : (Jvm.Cond.static ({ cls := "java/util/Collections", name := "eq", desc := "(Ljava/lang/Object;Ljava/lang/Object;)Z" } : Jvm.MethodName)) ∈ lw_all := lw_g (lw_at lw_m10 200 rfl) rfl
theorem q2416 : (Jvm.Cond.code ({ cls := "java/util/Collections", name := "eq", desc := "(Ljava/lang/Object;Ljava/lang/Object;)Z" } : Jvm.MethodName) prog_54_method_81_code (2 : Nat) (Option.some Jvm.ClassFile.FieldType.boolean)) ∈ lw_all := lw_g (lw_at lw_m10 201 rfl) rfl
theorem q2417 : (Jvm.Cond.interfaceEntry "java/util/Collections" (38 : Nat)) ∈ lw_tbl := lw_at lw_m10 202 rfl
theorem q2418 : (Jvm.Cond.methodLink "java/util/Collections" (38 : Nat) ({ cls := "java/util/List", name := "listIterator", desc := "()Ljava/util/ListIterator;" } : Jvm.MethodName)) ∈ lw_all := lw_g (lw_at lw_m10 203 rfl) rfl
theorem q2419 : (Jvm.Cond.interfaceEntry "java/util/Collections" (50 : Nat)) ∈ lw_tbl := lw_at lw_m10 204 rfl
theorem q2420 : (Jvm.Cond.methodLink "java/util/Collections" (50 : Nat) ({ cls := "java/util/ListIterator", name := "next", desc := "()Ljava/lang/Object;" } : Jvm.MethodName)) ∈ lw_all := lw_g (lw_at lw_m10 205 rfl) rfl
theorem q2421 : (Jvm.Cond.interfaceEntry "java/util/Collections" (54 : Nat)) ∈ lw_tbl := lw_at lw_m10 206 rfl
theorem q2422 : (Jvm.Cond.methodLink "java/util/Collections" (54 : Nat) ({ cls := "java/util/ListIterator", name := "previous", desc := "()Ljava/lang/Object;" } : Jvm.MethodName)) ∈ lw_all := lw_g (lw_at lw_m10 207 rfl) rfl
theorem q2597 : (Jvm.Cond.static ({ cls := "java/util/Collections", name := "replaceAll", desc := "(Ljava/util/List;Ljava/lang/Object;Ljava/lang/Object;)Z" } : Jvm.MethodName)) ∈ lw_all := lw_g (lw_at lw_m11 142 rfl) rfl
theorem q2598 : (Jvm.Cond.code ({ cls := "java/util/Collections", name := "replaceAll", desc := "(Ljava/util/List;Ljava/lang/Object;Ljava/lang/Object;)Z" } : Jvm.MethodName) prog_54_method_26_code (7 : Nat) (Option.some Jvm.ClassFile.FieldType.boolean)) ∈ lw_all := lw_g (lw_at lw_m11 143 rfl) rfl
theorem q2599 : (Jvm.Cond.interfaceEntry "java/util/Collections" (109 : Nat)) ∈ lw_tbl := lw_at lw_m11 144 rfl
theorem q2600 : (Jvm.Cond.methodLink "java/util/Collections" (109 : Nat) ({ cls := "java/util/List", name := "set", desc := "(ILjava/lang/Object;)Ljava/lang/Object;" } : Jvm.MethodName)) ∈ lw_all := lw_g (lw_at lw_m11 145 rfl) rfl
theorem q2601 : (Jvm.Cond.interfaceEntry "java/util/Collections" (78 : Nat)) ∈ lw_tbl := lw_at lw_m11 146 rfl
theorem q2602 : (Jvm.Cond.methodLink "java/util/Collections" (78 : Nat) ({ cls := "java/util/ListIterator", name := "set", desc := "(Ljava/lang/Object;)V" } : Jvm.MethodName)) ∈ lw_all := lw_g (lw_at lw_m11 147 rfl) rfl
theorem q2611 : (Jvm.Cond.static ({ cls := "java/util/Collections", name := "fill", desc := "(Ljava/util/List;Ljava/lang/Object;)V" } : Jvm.MethodName)) ∈ lw_all := lw_g (lw_at lw_m11 156 rfl) rfl
theorem q2612 : (Jvm.Cond.code ({ cls := "java/util/Collections", name := "fill", desc := "(Ljava/util/List;Ljava/lang/Object;)V" } : Jvm.MethodName) prog_54_method_17_code (5 : Nat) (Option.none : Option Jvm.ClassFile.FieldType)) ∈ lw_all := lw_g (lw_at lw_m11 157 rfl) rfl
theorem q3049 : (Jvm.Cond.static ({ cls := "java/util/Collections", name := "reverse", desc := "(Ljava/util/List;)V" } : Jvm.MethodName)) ∈ lw_all := lw_g (lw_at lw_m13 114 rfl) rfl
theorem q3050 : (Jvm.Cond.code ({ cls := "java/util/Collections", name := "reverse", desc := "(Ljava/util/List;)V" } : Jvm.MethodName) prog_54_method_11_code (7 : Nat) (Option.none : Option Jvm.ClassFile.FieldType)) ∈ lw_all := lw_g (lw_at lw_m13 115 rfl) rfl
theorem q3051 : (Jvm.Cond.methodLink "java/util/Collections" (71 : Nat) ({ cls := "java/util/Collections", name := "swap", desc := "(Ljava/util/List;II)V" } : Jvm.MethodName)) ∈ lw_all := lw_g (lw_at lw_m13 116 rfl) rfl
theorem q3052 : (Jvm.Cond.static ({ cls := "java/util/Collections", name := "swap", desc := "(Ljava/util/List;II)V" } : Jvm.MethodName)) ∈ lw_all := lw_g (lw_at lw_m13 117 rfl) rfl
theorem q3053 : (Jvm.Cond.code ({ cls := "java/util/Collections", name := "swap", desc := "(Ljava/util/List;II)V" } : Jvm.MethodName) prog_54_method_15_code (4 : Nat) (Option.none : Option Jvm.ClassFile.FieldType)) ∈ lw_all := lw_g (lw_at lw_m13 118 rfl) rfl
theorem q3054 : (Jvm.Cond.interfaceEntry "java/util/Collections" (75 : Nat)) ∈ lw_tbl := lw_at lw_m13 119 rfl
theorem q3055 : (Jvm.Cond.methodLink "java/util/Collections" (75 : Nat) ({ cls := "java/util/List", name := "listIterator", desc := "(I)Ljava/util/ListIterator;" } : Jvm.MethodName)) ∈ lw_all := lw_g (lw_at lw_m13 120 rfl) rfl
theorem q3064 : (Jvm.Cond.static ({ cls := "java/util/Collections", name := "rotate", desc := "(Ljava/util/List;I)V" } : Jvm.MethodName)) ∈ lw_all := lw_g (lw_at lw_m13 129 rfl) rfl
theorem q3065 : (Jvm.Cond.code ({ cls := "java/util/Collections", name := "rotate", desc := "(Ljava/util/List;I)V" } : Jvm.MethodName) prog_54_method_23_code (2 : Nat) (Option.none : Option Jvm.ClassFile.FieldType)) ∈ lw_all := lw_g (lw_at lw_m13 130 rfl) rfl
theorem q3066 : (Jvm.Cond.methodLink "java/util/Collections" (139 : Nat) ({ cls := "java/util/Collections", name := "rotate1", desc := "(Ljava/util/List;I)V" } : Jvm.MethodName)) ∈ lw_all := lw_g (lw_at lw_m13 131 rfl) rfl
theorem q3067 : (Jvm.Cond.static ({ cls := "java/util/Collections", name := "rotate1", desc := "(Ljava/util/List;I)V" } : Jvm.MethodName)) ∈ lw_all := lw_g (lw_at lw_m13 132 rfl) rfl
theorem q3068 : (Jvm.Cond.code ({ cls := "java/util/Collections", name := "rotate1", desc := "(Ljava/util/List;I)V" } : Jvm.MethodName) prog_54_method_24_code (8 : Nat) (Option.none : Option Jvm.ClassFile.FieldType)) ∈ lw_all := lw_g (lw_at lw_m13 133 rfl) rfl
theorem q3069 : (Jvm.Cond.methodLink "java/util/Collections" (143 : Nat) ({ cls := "java/util/Collections", name := "rotate2", desc := "(Ljava/util/List;I)V" } : Jvm.MethodName)) ∈ lw_all := lw_g (lw_at lw_m13 134 rfl) rfl
theorem q3070 : (Jvm.Cond.static ({ cls := "java/util/Collections", name := "rotate2", desc := "(Ljava/util/List;I)V" } : Jvm.MethodName)) ∈ lw_all := lw_g (lw_at lw_m13 135 rfl) rfl
theorem q3071 : (Jvm.Cond.code ({ cls := "java/util/Collections", name := "rotate2", desc := "(Ljava/util/List;I)V" } : Jvm.MethodName) prog_54_method_25_code (4 : Nat) (Option.none : Option Jvm.ClassFile.FieldType)) ∈ lw_all := lw_g (lw_at lw_m13 136 rfl) rfl
theorem q3072 : (Jvm.Cond.interfaceEntry "java/util/Collections" (146 : Nat)) ∈ lw_tbl := lw_at lw_m13 137 rfl
theorem q3073 : (Jvm.Cond.methodLink "java/util/Collections" (146 : Nat) ({ cls := "java/util/List", name := "subList", desc := "(II)Ljava/util/List;" } : Jvm.MethodName)) ∈ lw_all := lw_g (lw_at lw_m13 138 rfl) rfl
theorem q3074 : (Jvm.Cond.methodLink "java/util/Collections" (150 : Nat) ({ cls := "java/util/Collections", name := "reverse", desc := "(Ljava/util/List;)V" } : Jvm.MethodName)) ∈ lw_all := lw_g (lw_at lw_m13 139 rfl) rfl

/-! java/util/TimSort -/
set_option maxRecDepth 100000
def RJ40 : String := "java/util/TimSort"
abbrev cJ40_sort : ByteArray := prog_66_method_2_code
def yJ40_sort : MethodName := ⟨RJ40, "sort", "([Ljava/lang/Object;IILjava/util/Comparator;[Ljava/lang/Object;II)V"⟩
def dkwJ40_sort_9 : List UInt8 := [180, 0, 13, 4, 159, 0, 11, 187, 0, 61, 89, 183, 0, 63, 191, 177]
abbrev dktJ40_sort_9 : List UInt8 := dkwJ40_sort_9 ++ []
def dkwJ40_sort_8 : List UInt8 := [159, 0, 11, 187, 0, 61, 89, 183, 0, 63, 191, 25, 8, 182, 0, 86, 178, 0, 57, 154, 0, 20, 25, 8]
abbrev dktJ40_sort_8 : List UInt8 := dkwJ40_sort_8 ++ dktJ40_sort_9
def dkwJ40_sort_7 : List UInt8 := [96, 60, 21, 7, 21, 10, 100, 54, 7, 21, 7, 154, 255, 179, 178, 0, 57, 154, 0, 16, 27, 28]
abbrev dktJ40_sort_7 : List UInt8 := dkwJ40_sort_7 ++ dktJ40_sort_8
def dkwJ40_sort_6 : List UInt8 := [45, 184, 0, 68, 21, 11, 54, 10, 25, 8, 27, 21, 10, 182, 0, 79, 25, 8, 182, 0, 83, 27, 21, 10]
abbrev dktJ40_sort_6 : List UInt8 := dkwJ40_sort_6 ++ dktJ40_sort_7
def dkwJ40_sort_5 : List UInt8 := [21, 9, 163, 0, 8, 21, 7, 167, 0, 5, 21, 9, 54, 11, 42, 27, 27, 21, 11, 96, 27, 21, 10, 96]
abbrev dktJ40_sort_5 : List UInt8 := dkwJ40_sort_5 ++ dktJ40_sort_6
def dkwJ40_sort_4 : List UInt8 := [184, 0, 75, 54, 9, 42, 27, 28, 45, 184, 0, 64, 54, 10, 21, 10, 21, 9, 162, 0, 37, 21, 7]
abbrev dktJ40_sort_4 : List UInt8 := dkwJ40_sort_4 ++ dktJ40_sort_5
def dkwJ40_sort_3 : List UInt8 := [45, 184, 0, 68, 177, 187, 0, 7, 89, 42, 45, 25, 4, 21, 5, 21, 6, 183, 0, 72, 58, 8, 21, 7]
abbrev dktJ40_sort_3 : List UInt8 := dkwJ40_sort_3 ++ dktJ40_sort_4
def dkwJ40_sort_2 : List UInt8 := [177, 21, 7, 16, 32, 162, 0, 24, 42, 27, 28, 45, 184, 0, 64, 54, 8, 42, 27, 28, 27, 21, 8, 96]
abbrev dktJ40_sort_2 : List UInt8 := dkwJ40_sort_2 ++ dktJ40_sort_3
def dkwJ40_sort_1 : List UInt8 := [42, 190, 164, 0, 11, 187, 0, 61, 89, 183, 0, 63, 191, 28, 27, 100, 54, 7, 21, 7, 5, 162, 0, 4]
abbrev dktJ40_sort_1 : List UInt8 := dkwJ40_sort_1 ++ dktJ40_sort_2
def dkwJ40_sort_0 : List UInt8 := [178, 0, 57, 154, 0, 34, 45, 198, 0, 22, 42, 198, 0, 18, 27, 155, 0, 14, 27, 28, 163, 0, 9, 28]
abbrev dktJ40_sort_0 : List UInt8 := dkwJ40_sort_0 ++ dktJ40_sort_1
theorem dksJ40_sort_0 : cJ40_sort.data.toList.drop 0 = dktJ40_sort_0 := by decide +kernel
theorem dksJ40_sort_1 : cJ40_sort.data.toList.drop 24 = dktJ40_sort_1 := dk_seg dksJ40_sort_0 24 rfl rfl
theorem dksJ40_sort_2 : cJ40_sort.data.toList.drop 48 = dktJ40_sort_2 := dk_seg dksJ40_sort_1 24 rfl rfl
theorem dksJ40_sort_3 : cJ40_sort.data.toList.drop 72 = dktJ40_sort_3 := dk_seg dksJ40_sort_2 24 rfl rfl
theorem dksJ40_sort_4 : cJ40_sort.data.toList.drop 96 = dktJ40_sort_4 := dk_seg dksJ40_sort_3 24 rfl rfl
theorem dksJ40_sort_5 : cJ40_sort.data.toList.drop 119 = dktJ40_sort_5 := dk_seg dksJ40_sort_4 23 rfl rfl
theorem dksJ40_sort_6 : cJ40_sort.data.toList.drop 143 = dktJ40_sort_6 := dk_seg dksJ40_sort_5 24 rfl rfl
theorem dksJ40_sort_7 : cJ40_sort.data.toList.drop 167 = dktJ40_sort_7 := dk_seg dksJ40_sort_6 24 rfl rfl
theorem dksJ40_sort_8 : cJ40_sort.data.toList.drop 189 = dktJ40_sort_8 := dk_seg dksJ40_sort_7 22 rfl rfl
theorem dksJ40_sort_9 : cJ40_sort.data.toList.drop 213 = dktJ40_sort_9 := dk_seg dksJ40_sort_8 24 rfl rfl
theorem dJ40_sort_0 : decode cJ40_sort 0 = .ok (.getstatic 57, 3) := dk_178 0 57 (dk_at dksJ40_sort_0 0 rfl rfl)
theorem dJ40_sort_3 : decode cJ40_sort 3 = .ok (.ifCond .ne 34, 3) := dk_154 0 34 (dk_at dksJ40_sort_0 3 rfl rfl)
theorem dJ40_sort_6 : decode cJ40_sort 6 = .ok (.aload_n 3, 1) := dk_45 (dk_at dksJ40_sort_0 6 rfl rfl)
theorem dJ40_sort_7 : decode cJ40_sort 7 = .ok (.ifnull 22, 3) := dk_198 0 22 (dk_at dksJ40_sort_0 7 rfl rfl)
theorem dJ40_sort_10 : decode cJ40_sort 10 = .ok (.aload_n 0, 1) := dk_42 (dk_at dksJ40_sort_0 10 rfl rfl)
theorem dJ40_sort_11 : decode cJ40_sort 11 = .ok (.ifnull 18, 3) := dk_198 0 18 (dk_at dksJ40_sort_0 11 rfl rfl)
theorem dJ40_sort_14 : decode cJ40_sort 14 = .ok (.iload_n 1, 1) := dk_27 (dk_at dksJ40_sort_0 14 rfl rfl)
theorem dJ40_sort_15 : decode cJ40_sort 15 = .ok (.ifCond .lt 14, 3) := dk_155 0 14 (dk_at dksJ40_sort_0 15 rfl rfl)
theorem dJ40_sort_18 : decode cJ40_sort 18 = .ok (.iload_n 1, 1) := dk_27 (dk_at dksJ40_sort_0 18 rfl rfl)
theorem dJ40_sort_19 : decode cJ40_sort 19 = .ok (.iload_n 2, 1) := dk_28 (dk_at dksJ40_sort_0 19 rfl rfl)
theorem dJ40_sort_20 : decode cJ40_sort 20 = .ok (.if_icmp .gt 9, 3) := dk_163 0 9 (dk_at dksJ40_sort_0 20 rfl rfl)
theorem dJ40_sort_23 : decode cJ40_sort 23 = .ok (.iload_n 2, 1) := dk_28 (dk_at dksJ40_sort_0 23 rfl rfl)
theorem dJ40_sort_24 : decode cJ40_sort 24 = .ok (.aload_n 0, 1) := dk_42 (dk_at dksJ40_sort_1 0 rfl rfl)
theorem dJ40_sort_25 : decode cJ40_sort 25 = .ok (.arraylength, 1) := dk_190 (dk_at dksJ40_sort_1 1 rfl rfl)
theorem dJ40_sort_26 : decode cJ40_sort 26 = .ok (.if_icmp .le 11, 3) := dk_164 0 11 (dk_at dksJ40_sort_1 2 rfl rfl)
theorem dJ40_sort_29 : decode cJ40_sort 29 = .ok (.new 61, 3) := dk_187 0 61 (dk_at dksJ40_sort_1 5 rfl rfl)
theorem dJ40_sort_32 : decode cJ40_sort 32 = .ok (.dup, 1) := dk_89 (dk_at dksJ40_sort_1 8 rfl rfl)
theorem dJ40_sort_33 : decode cJ40_sort 33 = .ok (.invokespecial 63, 3) := dk_183 0 63 (dk_at dksJ40_sort_1 9 rfl rfl)
theorem dJ40_sort_36 : decode cJ40_sort 36 = .ok (.athrow, 1) := dk_191 (dk_at dksJ40_sort_1 12 rfl rfl)
theorem dJ40_sort_37 : decode cJ40_sort 37 = .ok (.iload_n 2, 1) := dk_28 (dk_at dksJ40_sort_1 13 rfl rfl)
theorem dJ40_sort_38 : decode cJ40_sort 38 = .ok (.iload_n 1, 1) := dk_27 (dk_at dksJ40_sort_1 14 rfl rfl)
theorem dJ40_sort_39 : decode cJ40_sort 39 = .ok (.isub, 1) := dk_100 (dk_at dksJ40_sort_1 15 rfl rfl)
theorem dJ40_sort_40 : decode cJ40_sort 40 = .ok (.istore 7, 2) := dk_54 7 (dk_at dksJ40_sort_1 16 rfl rfl)
theorem dJ40_sort_42 : decode cJ40_sort 42 = .ok (.iload 7, 2) := dk_21 7 (dk_at dksJ40_sort_1 18 rfl rfl)
theorem dJ40_sort_44 : decode cJ40_sort 44 = .ok (.iconst 2, 1) := dk_5 (dk_at dksJ40_sort_1 20 rfl rfl)
theorem dJ40_sort_45 : decode cJ40_sort 45 = .ok (.if_icmp .ge 4, 3) := dk_162 0 4 (dk_at dksJ40_sort_1 21 rfl rfl)
theorem dJ40_sort_48 : decode cJ40_sort 48 = .ok (.return_, 1) := dk_177 (dk_at dksJ40_sort_2 0 rfl rfl)
theorem dJ40_sort_49 : decode cJ40_sort 49 = .ok (.iload 7, 2) := dk_21 7 (dk_at dksJ40_sort_2 1 rfl rfl)
theorem dJ40_sort_51 : decode cJ40_sort 51 = .ok (.bipush 32, 2) := dk_16 32 (dk_at dksJ40_sort_2 3 rfl rfl)
theorem dJ40_sort_53 : decode cJ40_sort 53 = .ok (.if_icmp .ge 24, 3) := dk_162 0 24 (dk_at dksJ40_sort_2 5 rfl rfl)
theorem dJ40_sort_56 : decode cJ40_sort 56 = .ok (.aload_n 0, 1) := dk_42 (dk_at dksJ40_sort_2 8 rfl rfl)
theorem dJ40_sort_57 : decode cJ40_sort 57 = .ok (.iload_n 1, 1) := dk_27 (dk_at dksJ40_sort_2 9 rfl rfl)
theorem dJ40_sort_58 : decode cJ40_sort 58 = .ok (.iload_n 2, 1) := dk_28 (dk_at dksJ40_sort_2 10 rfl rfl)
theorem dJ40_sort_59 : decode cJ40_sort 59 = .ok (.aload_n 3, 1) := dk_45 (dk_at dksJ40_sort_2 11 rfl rfl)
theorem dJ40_sort_60 : decode cJ40_sort 60 = .ok (.invokestatic 64, 3) := dk_184 0 64 (dk_at dksJ40_sort_2 12 rfl rfl)
theorem dJ40_sort_63 : decode cJ40_sort 63 = .ok (.istore 8, 2) := dk_54 8 (dk_at dksJ40_sort_2 15 rfl rfl)
theorem dJ40_sort_65 : decode cJ40_sort 65 = .ok (.aload_n 0, 1) := dk_42 (dk_at dksJ40_sort_2 17 rfl rfl)
theorem dJ40_sort_66 : decode cJ40_sort 66 = .ok (.iload_n 1, 1) := dk_27 (dk_at dksJ40_sort_2 18 rfl rfl)
theorem dJ40_sort_67 : decode cJ40_sort 67 = .ok (.iload_n 2, 1) := dk_28 (dk_at dksJ40_sort_2 19 rfl rfl)
theorem dJ40_sort_68 : decode cJ40_sort 68 = .ok (.iload_n 1, 1) := dk_27 (dk_at dksJ40_sort_2 20 rfl rfl)
theorem dJ40_sort_69 : decode cJ40_sort 69 = .ok (.iload 8, 2) := dk_21 8 (dk_at dksJ40_sort_2 21 rfl rfl)
theorem dJ40_sort_71 : decode cJ40_sort 71 = .ok (.iadd, 1) := dk_96 (dk_at dksJ40_sort_2 23 rfl rfl)
theorem dJ40_sort_72 : decode cJ40_sort 72 = .ok (.aload_n 3, 1) := dk_45 (dk_at dksJ40_sort_3 0 rfl rfl)
theorem dJ40_sort_73 : decode cJ40_sort 73 = .ok (.invokestatic 68, 3) := dk_184 0 68 (dk_at dksJ40_sort_3 1 rfl rfl)
theorem dJ40_sort_76 : decode cJ40_sort 76 = .ok (.return_, 1) := dk_177 (dk_at dksJ40_sort_3 4 rfl rfl)
theorem dJ40_sort_77 : decode cJ40_sort 77 = .ok (.new 7, 3) := dk_187 0 7 (dk_at dksJ40_sort_3 5 rfl rfl)
theorem dJ40_sort_80 : decode cJ40_sort 80 = .ok (.dup, 1) := dk_89 (dk_at dksJ40_sort_3 8 rfl rfl)
theorem dJ40_sort_81 : decode cJ40_sort 81 = .ok (.aload_n 0, 1) := dk_42 (dk_at dksJ40_sort_3 9 rfl rfl)
theorem dJ40_sort_82 : decode cJ40_sort 82 = .ok (.aload_n 3, 1) := dk_45 (dk_at dksJ40_sort_3 10 rfl rfl)
theorem dJ40_sort_83 : decode cJ40_sort 83 = .ok (.aload 4, 2) := dk_25 4 (dk_at dksJ40_sort_3 11 rfl rfl)
theorem dJ40_sort_85 : decode cJ40_sort 85 = .ok (.iload 5, 2) := dk_21 5 (dk_at dksJ40_sort_3 13 rfl rfl)
theorem dJ40_sort_87 : decode cJ40_sort 87 = .ok (.iload 6, 2) := dk_21 6 (dk_at dksJ40_sort_3 15 rfl rfl)
theorem dJ40_sort_89 : decode cJ40_sort 89 = .ok (.invokespecial 72, 3) := dk_183 0 72 (dk_at dksJ40_sort_3 17 rfl rfl)
theorem dJ40_sort_92 : decode cJ40_sort 92 = .ok (.astore 8, 2) := dk_58 8 (dk_at dksJ40_sort_3 20 rfl rfl)
theorem dJ40_sort_94 : decode cJ40_sort 94 = .ok (.iload 7, 2) := dk_21 7 (dk_at dksJ40_sort_3 22 rfl rfl)
theorem dJ40_sort_96 : decode cJ40_sort 96 = .ok (.invokestatic 75, 3) := dk_184 0 75 (dk_at dksJ40_sort_4 0 rfl rfl)
theorem dJ40_sort_99 : decode cJ40_sort 99 = .ok (.istore 9, 2) := dk_54 9 (dk_at dksJ40_sort_4 3 rfl rfl)
theorem dJ40_sort_101 : decode cJ40_sort 101 = .ok (.aload_n 0, 1) := dk_42 (dk_at dksJ40_sort_4 5 rfl rfl)
theorem dJ40_sort_102 : decode cJ40_sort 102 = .ok (.iload_n 1, 1) := dk_27 (dk_at dksJ40_sort_4 6 rfl rfl)
theorem dJ40_sort_103 : decode cJ40_sort 103 = .ok (.iload_n 2, 1) := dk_28 (dk_at dksJ40_sort_4 7 rfl rfl)
theorem dJ40_sort_104 : decode cJ40_sort 104 = .ok (.aload_n 3, 1) := dk_45 (dk_at dksJ40_sort_4 8 rfl rfl)
theorem dJ40_sort_105 : decode cJ40_sort 105 = .ok (.invokestatic 64, 3) := dk_184 0 64 (dk_at dksJ40_sort_4 9 rfl rfl)
theorem dJ40_sort_108 : decode cJ40_sort 108 = .ok (.istore 10, 2) := dk_54 10 (dk_at dksJ40_sort_4 12 rfl rfl)
theorem dJ40_sort_110 : decode cJ40_sort 110 = .ok (.iload 10, 2) := dk_21 10 (dk_at dksJ40_sort_4 14 rfl rfl)
theorem dJ40_sort_112 : decode cJ40_sort 112 = .ok (.iload 9, 2) := dk_21 9 (dk_at dksJ40_sort_4 16 rfl rfl)
theorem dJ40_sort_114 : decode cJ40_sort 114 = .ok (.if_icmp .ge 37, 3) := dk_162 0 37 (dk_at dksJ40_sort_4 18 rfl rfl)
theorem dJ40_sort_117 : decode cJ40_sort 117 = .ok (.iload 7, 2) := dk_21 7 (dk_at dksJ40_sort_4 21 rfl rfl)
theorem dJ40_sort_119 : decode cJ40_sort 119 = .ok (.iload 9, 2) := dk_21 9 (dk_at dksJ40_sort_5 0 rfl rfl)
theorem dJ40_sort_121 : decode cJ40_sort 121 = .ok (.if_icmp .gt 8, 3) := dk_163 0 8 (dk_at dksJ40_sort_5 2 rfl rfl)
theorem dJ40_sort_124 : decode cJ40_sort 124 = .ok (.iload 7, 2) := dk_21 7 (dk_at dksJ40_sort_5 5 rfl rfl)
theorem dJ40_sort_126 : decode cJ40_sort 126 = .ok (.goto 5, 3) := dk_167 0 5 (dk_at dksJ40_sort_5 7 rfl rfl)
theorem dJ40_sort_129 : decode cJ40_sort 129 = .ok (.iload 9, 2) := dk_21 9 (dk_at dksJ40_sort_5 10 rfl rfl)
theorem dJ40_sort_131 : decode cJ40_sort 131 = .ok (.istore 11, 2) := dk_54 11 (dk_at dksJ40_sort_5 12 rfl rfl)
theorem dJ40_sort_133 : decode cJ40_sort 133 = .ok (.aload_n 0, 1) := dk_42 (dk_at dksJ40_sort_5 14 rfl rfl)
theorem dJ40_sort_134 : decode cJ40_sort 134 = .ok (.iload_n 1, 1) := dk_27 (dk_at dksJ40_sort_5 15 rfl rfl)
theorem dJ40_sort_135 : decode cJ40_sort 135 = .ok (.iload_n 1, 1) := dk_27 (dk_at dksJ40_sort_5 16 rfl rfl)
theorem dJ40_sort_136 : decode cJ40_sort 136 = .ok (.iload 11, 2) := dk_21 11 (dk_at dksJ40_sort_5 17 rfl rfl)
theorem dJ40_sort_138 : decode cJ40_sort 138 = .ok (.iadd, 1) := dk_96 (dk_at dksJ40_sort_5 19 rfl rfl)
theorem dJ40_sort_139 : decode cJ40_sort 139 = .ok (.iload_n 1, 1) := dk_27 (dk_at dksJ40_sort_5 20 rfl rfl)
theorem dJ40_sort_140 : decode cJ40_sort 140 = .ok (.iload 10, 2) := dk_21 10 (dk_at dksJ40_sort_5 21 rfl rfl)
theorem dJ40_sort_142 : decode cJ40_sort 142 = .ok (.iadd, 1) := dk_96 (dk_at dksJ40_sort_5 23 rfl rfl)
theorem dJ40_sort_143 : decode cJ40_sort 143 = .ok (.aload_n 3, 1) := dk_45 (dk_at dksJ40_sort_6 0 rfl rfl)
theorem dJ40_sort_144 : decode cJ40_sort 144 = .ok (.invokestatic 68, 3) := dk_184 0 68 (dk_at dksJ40_sort_6 1 rfl rfl)
theorem dJ40_sort_147 : decode cJ40_sort 147 = .ok (.iload 11, 2) := dk_21 11 (dk_at dksJ40_sort_6 4 rfl rfl)
theorem dJ40_sort_149 : decode cJ40_sort 149 = .ok (.istore 10, 2) := dk_54 10 (dk_at dksJ40_sort_6 6 rfl rfl)
theorem dJ40_sort_151 : decode cJ40_sort 151 = .ok (.aload 8, 2) := dk_25 8 (dk_at dksJ40_sort_6 8 rfl rfl)
theorem dJ40_sort_153 : decode cJ40_sort 153 = .ok (.iload_n 1, 1) := dk_27 (dk_at dksJ40_sort_6 10 rfl rfl)
theorem dJ40_sort_154 : decode cJ40_sort 154 = .ok (.iload 10, 2) := dk_21 10 (dk_at dksJ40_sort_6 11 rfl rfl)
theorem dJ40_sort_156 : decode cJ40_sort 156 = .ok (.invokevirtual 79, 3) := dk_182 0 79 (dk_at dksJ40_sort_6 13 rfl rfl)
theorem dJ40_sort_159 : decode cJ40_sort 159 = .ok (.aload 8, 2) := dk_25 8 (dk_at dksJ40_sort_6 16 rfl rfl)
theorem dJ40_sort_161 : decode cJ40_sort 161 = .ok (.invokevirtual 83, 3) := dk_182 0 83 (dk_at dksJ40_sort_6 18 rfl rfl)
theorem dJ40_sort_164 : decode cJ40_sort 164 = .ok (.iload_n 1, 1) := dk_27 (dk_at dksJ40_sort_6 21 rfl rfl)
theorem dJ40_sort_165 : decode cJ40_sort 165 = .ok (.iload 10, 2) := dk_21 10 (dk_at dksJ40_sort_6 22 rfl rfl)
theorem dJ40_sort_167 : decode cJ40_sort 167 = .ok (.iadd, 1) := dk_96 (dk_at dksJ40_sort_7 0 rfl rfl)
theorem dJ40_sort_168 : decode cJ40_sort 168 = .ok (.istore_n 1, 1) := dk_60 (dk_at dksJ40_sort_7 1 rfl rfl)
theorem dJ40_sort_169 : decode cJ40_sort 169 = .ok (.iload 7, 2) := dk_21 7 (dk_at dksJ40_sort_7 2 rfl rfl)
theorem dJ40_sort_171 : decode cJ40_sort 171 = .ok (.iload 10, 2) := dk_21 10 (dk_at dksJ40_sort_7 4 rfl rfl)
theorem dJ40_sort_173 : decode cJ40_sort 173 = .ok (.isub, 1) := dk_100 (dk_at dksJ40_sort_7 6 rfl rfl)
theorem dJ40_sort_174 : decode cJ40_sort 174 = .ok (.istore 7, 2) := dk_54 7 (dk_at dksJ40_sort_7 7 rfl rfl)
theorem dJ40_sort_176 : decode cJ40_sort 176 = .ok (.iload 7, 2) := dk_21 7 (dk_at dksJ40_sort_7 9 rfl rfl)
theorem dJ40_sort_178 : decode cJ40_sort 178 = .ok (.ifCond .ne (-77), 3) := dk_154 255 179 (dk_at dksJ40_sort_7 11 rfl rfl)
theorem dJ40_sort_181 : decode cJ40_sort 181 = .ok (.getstatic 57, 3) := dk_178 0 57 (dk_at dksJ40_sort_7 14 rfl rfl)
theorem dJ40_sort_184 : decode cJ40_sort 184 = .ok (.ifCond .ne 16, 3) := dk_154 0 16 (dk_at dksJ40_sort_7 17 rfl rfl)
theorem dJ40_sort_187 : decode cJ40_sort 187 = .ok (.iload_n 1, 1) := dk_27 (dk_at dksJ40_sort_7 20 rfl rfl)
theorem dJ40_sort_188 : decode cJ40_sort 188 = .ok (.iload_n 2, 1) := dk_28 (dk_at dksJ40_sort_7 21 rfl rfl)
theorem dJ40_sort_189 : decode cJ40_sort 189 = .ok (.if_icmp .eq 11, 3) := dk_159 0 11 (dk_at dksJ40_sort_8 0 rfl rfl)
theorem dJ40_sort_192 : decode cJ40_sort 192 = .ok (.new 61, 3) := dk_187 0 61 (dk_at dksJ40_sort_8 3 rfl rfl)
theorem dJ40_sort_195 : decode cJ40_sort 195 = .ok (.dup, 1) := dk_89 (dk_at dksJ40_sort_8 6 rfl rfl)
theorem dJ40_sort_196 : decode cJ40_sort 196 = .ok (.invokespecial 63, 3) := dk_183 0 63 (dk_at dksJ40_sort_8 7 rfl rfl)
theorem dJ40_sort_199 : decode cJ40_sort 199 = .ok (.athrow, 1) := dk_191 (dk_at dksJ40_sort_8 10 rfl rfl)
theorem dJ40_sort_200 : decode cJ40_sort 200 = .ok (.aload 8, 2) := dk_25 8 (dk_at dksJ40_sort_8 11 rfl rfl)
theorem dJ40_sort_202 : decode cJ40_sort 202 = .ok (.invokevirtual 86, 3) := dk_182 0 86 (dk_at dksJ40_sort_8 13 rfl rfl)
theorem dJ40_sort_205 : decode cJ40_sort 205 = .ok (.getstatic 57, 3) := dk_178 0 57 (dk_at dksJ40_sort_8 16 rfl rfl)
theorem dJ40_sort_208 : decode cJ40_sort 208 = .ok (.ifCond .ne 20, 3) := dk_154 0 20 (dk_at dksJ40_sort_8 19 rfl rfl)
theorem dJ40_sort_211 : decode cJ40_sort 211 = .ok (.aload 8, 2) := dk_25 8 (dk_at dksJ40_sort_8 22 rfl rfl)
theorem dJ40_sort_213 : decode cJ40_sort 213 = .ok (.getfield 13, 3) := dk_180 0 13 (dk_at dksJ40_sort_9 0 rfl rfl)
theorem dJ40_sort_216 : decode cJ40_sort 216 = .ok (.iconst 1, 1) := dk_4 (dk_at dksJ40_sort_9 3 rfl rfl)
theorem dJ40_sort_217 : decode cJ40_sort 217 = .ok (.if_icmp .eq 11, 3) := dk_159 0 11 (dk_at dksJ40_sort_9 4 rfl rfl)
theorem dJ40_sort_220 : decode cJ40_sort 220 = .ok (.new 61, 3) := dk_187 0 61 (dk_at dksJ40_sort_9 7 rfl rfl)
theorem dJ40_sort_223 : decode cJ40_sort 223 = .ok (.dup, 1) := dk_89 (dk_at dksJ40_sort_9 10 rfl rfl)
theorem dJ40_sort_224 : decode cJ40_sort 224 = .ok (.invokespecial 63, 3) := dk_183 0 63 (dk_at dksJ40_sort_9 11 rfl rfl)
theorem dJ40_sort_227 : decode cJ40_sort 227 = .ok (.athrow, 1) := dk_191 (dk_at dksJ40_sort_9 14 rfl rfl)
theorem dJ40_sort_228 : decode cJ40_sort 228 = .ok (.return_, 1) := dk_177 (dk_at dksJ40_sort_9 15 rfl rfl)
abbrev cJ40_countRunAndMakeAscending : ByteArray := prog_66_method_4_code
def yJ40_countRunAndMakeAscending : MethodName := ⟨RJ40, "countRunAndMakeAscending", "([Ljava/lang/Object;IILjava/util/Comparator;)I"⟩
def dkwJ40_countRunAndMakeAscending_5 : List UInt8 := [155, 0, 9, 132, 4, 1, 167, 255, 228, 21, 4, 27, 100, 172]
abbrev dktJ40_countRunAndMakeAscending_5 : List UInt8 := dkwJ40_countRunAndMakeAscending_5 ++ []
def dkwJ40_countRunAndMakeAscending_4 : List UInt8 := [21, 4, 28, 162, 0, 28, 45, 42, 21, 4, 50, 42, 21, 4, 4, 100, 50, 185, 0, 89, 3, 0]
abbrev dktJ40_countRunAndMakeAscending_4 : List UInt8 := dkwJ40_countRunAndMakeAscending_4 ++ dktJ40_countRunAndMakeAscending_5
def dkwJ40_countRunAndMakeAscending_3 : List UInt8 := [185, 0, 89, 3, 0, 156, 0, 9, 132, 4, 1, 167, 255, 228, 42, 27, 21, 4, 184, 0, 101, 167, 0, 34]
abbrev dktJ40_countRunAndMakeAscending_3 : List UInt8 := dkwJ40_countRunAndMakeAscending_3 ++ dktJ40_countRunAndMakeAscending_4
def dkwJ40_countRunAndMakeAscending_2 : List UInt8 := [156, 0, 44, 21, 4, 28, 162, 0, 28, 45, 42, 21, 4, 50, 42, 21, 4, 4, 100, 50]
abbrev dktJ40_countRunAndMakeAscending_2 : List UInt8 := dkwJ40_countRunAndMakeAscending_2 ++ dktJ40_countRunAndMakeAscending_3
def dkwJ40_countRunAndMakeAscending_1 : List UInt8 := [21, 4, 28, 160, 0, 5, 4, 172, 45, 42, 21, 4, 132, 4, 1, 50, 42, 27, 50, 185, 0, 89, 3, 0]
abbrev dktJ40_countRunAndMakeAscending_1 : List UInt8 := dkwJ40_countRunAndMakeAscending_1 ++ dktJ40_countRunAndMakeAscending_2
def dkwJ40_countRunAndMakeAscending_0 : List UInt8 := [178, 0, 57, 154, 0, 16, 27, 28, 161, 0, 11, 187, 0, 61, 89, 183, 0, 63, 191, 27, 4, 96, 54, 4]
abbrev dktJ40_countRunAndMakeAscending_0 : List UInt8 := dkwJ40_countRunAndMakeAscending_0 ++ dktJ40_countRunAndMakeAscending_1
theorem dksJ40_countRunAndMakeAscending_0 : cJ40_countRunAndMakeAscending.data.toList.drop 0 = dktJ40_countRunAndMakeAscending_0 := by decide +kernel
theorem dksJ40_countRunAndMakeAscending_1 : cJ40_countRunAndMakeAscending.data.toList.drop 24 = dktJ40_countRunAndMakeAscending_1 := dk_seg dksJ40_countRunAndMakeAscending_0 24 rfl rfl
theorem dksJ40_countRunAndMakeAscending_2 : cJ40_countRunAndMakeAscending.data.toList.drop 48 = dktJ40_countRunAndMakeAscending_2 := dk_seg dksJ40_countRunAndMakeAscending_1 24 rfl rfl
theorem dksJ40_countRunAndMakeAscending_3 : cJ40_countRunAndMakeAscending.data.toList.drop 68 = dktJ40_countRunAndMakeAscending_3 := dk_seg dksJ40_countRunAndMakeAscending_2 20 rfl rfl
theorem dksJ40_countRunAndMakeAscending_4 : cJ40_countRunAndMakeAscending.data.toList.drop 92 = dktJ40_countRunAndMakeAscending_4 := dk_seg dksJ40_countRunAndMakeAscending_3 24 rfl rfl
theorem dksJ40_countRunAndMakeAscending_5 : cJ40_countRunAndMakeAscending.data.toList.drop 114 = dktJ40_countRunAndMakeAscending_5 := dk_seg dksJ40_countRunAndMakeAscending_4 22 rfl rfl
theorem dJ40_countRunAndMakeAscending_0 : decode cJ40_countRunAndMakeAscending 0 = .ok (.getstatic 57, 3) := dk_178 0 57 (dk_at dksJ40_countRunAndMakeAscending_0 0 rfl rfl)
theorem dJ40_countRunAndMakeAscending_3 : decode cJ40_countRunAndMakeAscending 3 = .ok (.ifCond .ne 16, 3) := dk_154 0 16 (dk_at dksJ40_countRunAndMakeAscending_0 3 rfl rfl)
theorem dJ40_countRunAndMakeAscending_6 : decode cJ40_countRunAndMakeAscending 6 = .ok (.iload_n 1, 1) := dk_27 (dk_at dksJ40_countRunAndMakeAscending_0 6 rfl rfl)
theorem dJ40_countRunAndMakeAscending_7 : decode cJ40_countRunAndMakeAscending 7 = .ok (.iload_n 2, 1) := dk_28 (dk_at dksJ40_countRunAndMakeAscending_0 7 rfl rfl)
theorem dJ40_countRunAndMakeAscending_8 : decode cJ40_countRunAndMakeAscending 8 = .ok (.if_icmp .lt 11, 3) := dk_161 0 11 (dk_at dksJ40_countRunAndMakeAscending_0 8 rfl rfl)
theorem dJ40_countRunAndMakeAscending_11 : decode cJ40_countRunAndMakeAscending 11 = .ok (.new 61, 3) := dk_187 0 61 (dk_at dksJ40_countRunAndMakeAscending_0 11 rfl rfl)
theorem dJ40_countRunAndMakeAscending_14 : decode cJ40_countRunAndMakeAscending 14 = .ok (.dup, 1) := dk_89 (dk_at dksJ40_countRunAndMakeAscending_0 14 rfl rfl)
theorem dJ40_countRunAndMakeAscending_15 : decode cJ40_countRunAndMakeAscending 15 = .ok (.invokespecial 63, 3) := dk_183 0 63 (dk_at dksJ40_countRunAndMakeAscending_0 15 rfl rfl)
theorem dJ40_countRunAndMakeAscending_18 : decode cJ40_countRunAndMakeAscending 18 = .ok (.athrow, 1) := dk_191 (dk_at dksJ40_countRunAndMakeAscending_0 18 rfl rfl)
theorem dJ40_countRunAndMakeAscending_19 : decode cJ40_countRunAndMakeAscending 19 = .ok (.iload_n 1, 1) := dk_27 (dk_at dksJ40_countRunAndMakeAscending_0 19 rfl rfl)
theorem dJ40_countRunAndMakeAscending_20 : decode cJ40_countRunAndMakeAscending 20 = .ok (.iconst 1, 1) := dk_4 (dk_at dksJ40_countRunAndMakeAscending_0 20 rfl rfl)
theorem dJ40_countRunAndMakeAscending_21 : decode cJ40_countRunAndMakeAscending 21 = .ok (.iadd, 1) := dk_96 (dk_at dksJ40_countRunAndMakeAscending_0 21 rfl rfl)
theorem dJ40_countRunAndMakeAscending_22 : decode cJ40_countRunAndMakeAscending 22 = .ok (.istore 4, 2) := dk_54 4 (dk_at dksJ40_countRunAndMakeAscending_0 22 rfl rfl)
theorem dJ40_countRunAndMakeAscending_24 : decode cJ40_countRunAndMakeAscending 24 = .ok (.iload 4, 2) := dk_21 4 (dk_at dksJ40_countRunAndMakeAscending_1 0 rfl rfl)
theorem dJ40_countRunAndMakeAscending_26 : decode cJ40_countRunAndMakeAscending 26 = .ok (.iload_n 2, 1) := dk_28 (dk_at dksJ40_countRunAndMakeAscending_1 2 rfl rfl)
theorem dJ40_countRunAndMakeAscending_27 : decode cJ40_countRunAndMakeAscending 27 = .ok (.if_icmp .ne 5, 3) := dk_160 0 5 (dk_at dksJ40_countRunAndMakeAscending_1 3 rfl rfl)
theorem dJ40_countRunAndMakeAscending_30 : decode cJ40_countRunAndMakeAscending 30 = .ok (.iconst 1, 1) := dk_4 (dk_at dksJ40_countRunAndMakeAscending_1 6 rfl rfl)
theorem dJ40_countRunAndMakeAscending_31 : decode cJ40_countRunAndMakeAscending 31 = .ok (.ireturn, 1) := dk_172 (dk_at dksJ40_countRunAndMakeAscending_1 7 rfl rfl)
theorem dJ40_countRunAndMakeAscending_32 : decode cJ40_countRunAndMakeAscending 32 = .ok (.aload_n 3, 1) := dk_45 (dk_at dksJ40_countRunAndMakeAscending_1 8 rfl rfl)
theorem dJ40_countRunAndMakeAscending_33 : decode cJ40_countRunAndMakeAscending 33 = .ok (.aload_n 0, 1) := dk_42 (dk_at dksJ40_countRunAndMakeAscending_1 9 rfl rfl)
theorem dJ40_countRunAndMakeAscending_34 : decode cJ40_countRunAndMakeAscending 34 = .ok (.iload 4, 2) := dk_21 4 (dk_at dksJ40_countRunAndMakeAscending_1 10 rfl rfl)
theorem dJ40_countRunAndMakeAscending_36 : decode cJ40_countRunAndMakeAscending 36 = .ok (.iinc 4 1, 3) := dk_132 4 1 (dk_at dksJ40_countRunAndMakeAscending_1 12 rfl rfl)
theorem dJ40_countRunAndMakeAscending_39 : decode cJ40_countRunAndMakeAscending 39 = .ok (.aaload, 1) := dk_50 (dk_at dksJ40_countRunAndMakeAscending_1 15 rfl rfl)
theorem dJ40_countRunAndMakeAscending_40 : decode cJ40_countRunAndMakeAscending 40 = .ok (.aload_n 0, 1) := dk_42 (dk_at dksJ40_countRunAndMakeAscending_1 16 rfl rfl)
theorem dJ40_countRunAndMakeAscending_41 : decode cJ40_countRunAndMakeAscending 41 = .ok (.iload_n 1, 1) := dk_27 (dk_at dksJ40_countRunAndMakeAscending_1 17 rfl rfl)
theorem dJ40_countRunAndMakeAscending_42 : decode cJ40_countRunAndMakeAscending 42 = .ok (.aaload, 1) := dk_50 (dk_at dksJ40_countRunAndMakeAscending_1 18 rfl rfl)
theorem dJ40_countRunAndMakeAscending_43 : decode cJ40_countRunAndMakeAscending 43 = .ok (.invokeinterface 89 3, 5) := by decide +kernel
theorem dJ40_countRunAndMakeAscending_48 : decode cJ40_countRunAndMakeAscending 48 = .ok (.ifCond .ge 44, 3) := dk_156 0 44 (dk_at dksJ40_countRunAndMakeAscending_2 0 rfl rfl)
theorem dJ40_countRunAndMakeAscending_51 : decode cJ40_countRunAndMakeAscending 51 = .ok (.iload 4, 2) := dk_21 4 (dk_at dksJ40_countRunAndMakeAscending_2 3 rfl rfl)
theorem dJ40_countRunAndMakeAscending_53 : decode cJ40_countRunAndMakeAscending 53 = .ok (.iload_n 2, 1) := dk_28 (dk_at dksJ40_countRunAndMakeAscending_2 5 rfl rfl)
theorem dJ40_countRunAndMakeAscending_54 : decode cJ40_countRunAndMakeAscending 54 = .ok (.if_icmp .ge 28, 3) := dk_162 0 28 (dk_at dksJ40_countRunAndMakeAscending_2 6 rfl rfl)
theorem dJ40_countRunAndMakeAscending_57 : decode cJ40_countRunAndMakeAscending 57 = .ok (.aload_n 3, 1) := dk_45 (dk_at dksJ40_countRunAndMakeAscending_2 9 rfl rfl)
theorem dJ40_countRunAndMakeAscending_58 : decode cJ40_countRunAndMakeAscending 58 = .ok (.aload_n 0, 1) := dk_42 (dk_at dksJ40_countRunAndMakeAscending_2 10 rfl rfl)
theorem dJ40_countRunAndMakeAscending_59 : decode cJ40_countRunAndMakeAscending 59 = .ok (.iload 4, 2) := dk_21 4 (dk_at dksJ40_countRunAndMakeAscending_2 11 rfl rfl)
theorem dJ40_countRunAndMakeAscending_61 : decode cJ40_countRunAndMakeAscending 61 = .ok (.aaload, 1) := dk_50 (dk_at dksJ40_countRunAndMakeAscending_2 13 rfl rfl)
theorem dJ40_countRunAndMakeAscending_62 : decode cJ40_countRunAndMakeAscending 62 = .ok (.aload_n 0, 1) := dk_42 (dk_at dksJ40_countRunAndMakeAscending_2 14 rfl rfl)
theorem dJ40_countRunAndMakeAscending_63 : decode cJ40_countRunAndMakeAscending 63 = .ok (.iload 4, 2) := dk_21 4 (dk_at dksJ40_countRunAndMakeAscending_2 15 rfl rfl)
theorem dJ40_countRunAndMakeAscending_65 : decode cJ40_countRunAndMakeAscending 65 = .ok (.iconst 1, 1) := dk_4 (dk_at dksJ40_countRunAndMakeAscending_2 17 rfl rfl)
theorem dJ40_countRunAndMakeAscending_66 : decode cJ40_countRunAndMakeAscending 66 = .ok (.isub, 1) := dk_100 (dk_at dksJ40_countRunAndMakeAscending_2 18 rfl rfl)
theorem dJ40_countRunAndMakeAscending_67 : decode cJ40_countRunAndMakeAscending 67 = .ok (.aaload, 1) := dk_50 (dk_at dksJ40_countRunAndMakeAscending_2 19 rfl rfl)
theorem dJ40_countRunAndMakeAscending_68 : decode cJ40_countRunAndMakeAscending 68 = .ok (.invokeinterface 89 3, 5) := by decide +kernel
theorem dJ40_countRunAndMakeAscending_73 : decode cJ40_countRunAndMakeAscending 73 = .ok (.ifCond .ge 9, 3) := dk_156 0 9 (dk_at dksJ40_countRunAndMakeAscending_3 5 rfl rfl)
theorem dJ40_countRunAndMakeAscending_76 : decode cJ40_countRunAndMakeAscending 76 = .ok (.iinc 4 1, 3) := dk_132 4 1 (dk_at dksJ40_countRunAndMakeAscending_3 8 rfl rfl)
theorem dJ40_countRunAndMakeAscending_79 : decode cJ40_countRunAndMakeAscending 79 = .ok (.goto (-28), 3) := dk_167 255 228 (dk_at dksJ40_countRunAndMakeAscending_3 11 rfl rfl)
theorem dJ40_countRunAndMakeAscending_82 : decode cJ40_countRunAndMakeAscending 82 = .ok (.aload_n 0, 1) := dk_42 (dk_at dksJ40_countRunAndMakeAscending_3 14 rfl rfl)
theorem dJ40_countRunAndMakeAscending_83 : decode cJ40_countRunAndMakeAscending 83 = .ok (.iload_n 1, 1) := dk_27 (dk_at dksJ40_countRunAndMakeAscending_3 15 rfl rfl)
theorem dJ40_countRunAndMakeAscending_84 : decode cJ40_countRunAndMakeAscending 84 = .ok (.iload 4, 2) := dk_21 4 (dk_at dksJ40_countRunAndMakeAscending_3 16 rfl rfl)
theorem dJ40_countRunAndMakeAscending_86 : decode cJ40_countRunAndMakeAscending 86 = .ok (.invokestatic 101, 3) := dk_184 0 101 (dk_at dksJ40_countRunAndMakeAscending_3 18 rfl rfl)
theorem dJ40_countRunAndMakeAscending_89 : decode cJ40_countRunAndMakeAscending 89 = .ok (.goto 34, 3) := dk_167 0 34 (dk_at dksJ40_countRunAndMakeAscending_3 21 rfl rfl)
theorem dJ40_countRunAndMakeAscending_92 : decode cJ40_countRunAndMakeAscending 92 = .ok (.iload 4, 2) := dk_21 4 (dk_at dksJ40_countRunAndMakeAscending_4 0 rfl rfl)
theorem dJ40_countRunAndMakeAscending_94 : decode cJ40_countRunAndMakeAscending 94 = .ok (.iload_n 2, 1) := dk_28 (dk_at dksJ40_countRunAndMakeAscending_4 2 rfl rfl)
theorem dJ40_countRunAndMakeAscending_95 : decode cJ40_countRunAndMakeAscending 95 = .ok (.if_icmp .ge 28, 3) := dk_162 0 28 (dk_at dksJ40_countRunAndMakeAscending_4 3 rfl rfl)
theorem dJ40_countRunAndMakeAscending_98 : decode cJ40_countRunAndMakeAscending 98 = .ok (.aload_n 3, 1) := dk_45 (dk_at dksJ40_countRunAndMakeAscending_4 6 rfl rfl)
theorem dJ40_countRunAndMakeAscending_99 : decode cJ40_countRunAndMakeAscending 99 = .ok (.aload_n 0, 1) := dk_42 (dk_at dksJ40_countRunAndMakeAscending_4 7 rfl rfl)
theorem dJ40_countRunAndMakeAscending_100 : decode cJ40_countRunAndMakeAscending 100 = .ok (.iload 4, 2) := dk_21 4 (dk_at dksJ40_countRunAndMakeAscending_4 8 rfl rfl)
theorem dJ40_countRunAndMakeAscending_102 : decode cJ40_countRunAndMakeAscending 102 = .ok (.aaload, 1) := dk_50 (dk_at dksJ40_countRunAndMakeAscending_4 10 rfl rfl)
theorem dJ40_countRunAndMakeAscending_103 : decode cJ40_countRunAndMakeAscending 103 = .ok (.aload_n 0, 1) := dk_42 (dk_at dksJ40_countRunAndMakeAscending_4 11 rfl rfl)
theorem dJ40_countRunAndMakeAscending_104 : decode cJ40_countRunAndMakeAscending 104 = .ok (.iload 4, 2) := dk_21 4 (dk_at dksJ40_countRunAndMakeAscending_4 12 rfl rfl)
theorem dJ40_countRunAndMakeAscending_106 : decode cJ40_countRunAndMakeAscending 106 = .ok (.iconst 1, 1) := dk_4 (dk_at dksJ40_countRunAndMakeAscending_4 14 rfl rfl)
theorem dJ40_countRunAndMakeAscending_107 : decode cJ40_countRunAndMakeAscending 107 = .ok (.isub, 1) := dk_100 (dk_at dksJ40_countRunAndMakeAscending_4 15 rfl rfl)
theorem dJ40_countRunAndMakeAscending_108 : decode cJ40_countRunAndMakeAscending 108 = .ok (.aaload, 1) := dk_50 (dk_at dksJ40_countRunAndMakeAscending_4 16 rfl rfl)
theorem dJ40_countRunAndMakeAscending_109 : decode cJ40_countRunAndMakeAscending 109 = .ok (.invokeinterface 89 3, 5) := by decide +kernel
theorem dJ40_countRunAndMakeAscending_114 : decode cJ40_countRunAndMakeAscending 114 = .ok (.ifCond .lt 9, 3) := dk_155 0 9 (dk_at dksJ40_countRunAndMakeAscending_5 0 rfl rfl)
theorem dJ40_countRunAndMakeAscending_117 : decode cJ40_countRunAndMakeAscending 117 = .ok (.iinc 4 1, 3) := dk_132 4 1 (dk_at dksJ40_countRunAndMakeAscending_5 3 rfl rfl)
theorem dJ40_countRunAndMakeAscending_120 : decode cJ40_countRunAndMakeAscending 120 = .ok (.goto (-28), 3) := dk_167 255 228 (dk_at dksJ40_countRunAndMakeAscending_5 6 rfl rfl)
theorem dJ40_countRunAndMakeAscending_123 : decode cJ40_countRunAndMakeAscending 123 = .ok (.iload 4, 2) := dk_21 4 (dk_at dksJ40_countRunAndMakeAscending_5 9 rfl rfl)
theorem dJ40_countRunAndMakeAscending_125 : decode cJ40_countRunAndMakeAscending 125 = .ok (.iload_n 1, 1) := dk_27 (dk_at dksJ40_countRunAndMakeAscending_5 11 rfl rfl)
theorem dJ40_countRunAndMakeAscending_126 : decode cJ40_countRunAndMakeAscending 126 = .ok (.isub, 1) := dk_100 (dk_at dksJ40_countRunAndMakeAscending_5 12 rfl rfl)
theorem dJ40_countRunAndMakeAscending_127 : decode cJ40_countRunAndMakeAscending 127 = .ok (.ireturn, 1) := dk_172 (dk_at dksJ40_countRunAndMakeAscending_5 13 rfl rfl)
abbrev cJ40_reverseRange : ByteArray := prog_66_method_5_code
def yJ40_reverseRange : MethodName := ⟨RJ40, "reverseRange", "([Ljava/lang/Object;II)V"⟩
def dkwJ40_reverseRange_1 : List UInt8 := [132, 2, 255, 45, 83, 167, 255, 231, 177]
abbrev dktJ40_reverseRange_1 : List UInt8 := dkwJ40_reverseRange_1 ++ []
def dkwJ40_reverseRange_0 : List UInt8 := [132, 2, 255, 27, 28, 162, 0, 26, 42, 27, 50, 78, 42, 27, 132, 1, 1, 42, 28, 50, 83, 42, 28]
abbrev dktJ40_reverseRange_0 : List UInt8 := dkwJ40_reverseRange_0 ++ dktJ40_reverseRange_1
theorem dksJ40_reverseRange_0 : cJ40_reverseRange.data.toList.drop 0 = dktJ40_reverseRange_0 := by decide +kernel
theorem dksJ40_reverseRange_1 : cJ40_reverseRange.data.toList.drop 23 = dktJ40_reverseRange_1 := dk_seg dksJ40_reverseRange_0 23 rfl rfl
theorem dJ40_reverseRange_0 : decode cJ40_reverseRange 0 = .ok (.iinc 2 (-1), 3) := dk_132 2 255 (dk_at dksJ40_reverseRange_0 0 rfl rfl)
theorem dJ40_reverseRange_3 : decode cJ40_reverseRange 3 = .ok (.iload_n 1, 1) := dk_27 (dk_at dksJ40_reverseRange_0 3 rfl rfl)
theorem dJ40_reverseRange_4 : decode cJ40_reverseRange 4 = .ok (.iload_n 2, 1) := dk_28 (dk_at dksJ40_reverseRange_0 4 rfl rfl)
theorem dJ40_reverseRange_5 : decode cJ40_reverseRange 5 = .ok (.if_icmp .ge 26, 3) := dk_162 0 26 (dk_at dksJ40_reverseRange_0 5 rfl rfl)
theorem dJ40_reverseRange_8 : decode cJ40_reverseRange 8 = .ok (.aload_n 0, 1) := dk_42 (dk_at dksJ40_reverseRange_0 8 rfl rfl)
theorem dJ40_reverseRange_9 : decode cJ40_reverseRange 9 = .ok (.iload_n 1, 1) := dk_27 (dk_at dksJ40_reverseRange_0 9 rfl rfl)
theorem dJ40_reverseRange_10 : decode cJ40_reverseRange 10 = .ok (.aaload, 1) := dk_50 (dk_at dksJ40_reverseRange_0 10 rfl rfl)
theorem dJ40_reverseRange_11 : decode cJ40_reverseRange 11 = .ok (.astore_n 3, 1) := dk_78 (dk_at dksJ40_reverseRange_0 11 rfl rfl)
theorem dJ40_reverseRange_12 : decode cJ40_reverseRange 12 = .ok (.aload_n 0, 1) := dk_42 (dk_at dksJ40_reverseRange_0 12 rfl rfl)
theorem dJ40_reverseRange_13 : decode cJ40_reverseRange 13 = .ok (.iload_n 1, 1) := dk_27 (dk_at dksJ40_reverseRange_0 13 rfl rfl)
theorem dJ40_reverseRange_14 : decode cJ40_reverseRange 14 = .ok (.iinc 1 1, 3) := dk_132 1 1 (dk_at dksJ40_reverseRange_0 14 rfl rfl)
theorem dJ40_reverseRange_17 : decode cJ40_reverseRange 17 = .ok (.aload_n 0, 1) := dk_42 (dk_at dksJ40_reverseRange_0 17 rfl rfl)
theorem dJ40_reverseRange_18 : decode cJ40_reverseRange 18 = .ok (.iload_n 2, 1) := dk_28 (dk_at dksJ40_reverseRange_0 18 rfl rfl)
theorem dJ40_reverseRange_19 : decode cJ40_reverseRange 19 = .ok (.aaload, 1) := dk_50 (dk_at dksJ40_reverseRange_0 19 rfl rfl)
theorem dJ40_reverseRange_20 : decode cJ40_reverseRange 20 = .ok (.aastore, 1) := dk_83 (dk_at dksJ40_reverseRange_0 20 rfl rfl)
theorem dJ40_reverseRange_21 : decode cJ40_reverseRange 21 = .ok (.aload_n 0, 1) := dk_42 (dk_at dksJ40_reverseRange_0 21 rfl rfl)
theorem dJ40_reverseRange_22 : decode cJ40_reverseRange 22 = .ok (.iload_n 2, 1) := dk_28 (dk_at dksJ40_reverseRange_0 22 rfl rfl)
theorem dJ40_reverseRange_23 : decode cJ40_reverseRange 23 = .ok (.iinc 2 (-1), 3) := dk_132 2 255 (dk_at dksJ40_reverseRange_1 0 rfl rfl)
theorem dJ40_reverseRange_26 : decode cJ40_reverseRange 26 = .ok (.aload_n 3, 1) := dk_45 (dk_at dksJ40_reverseRange_1 3 rfl rfl)
theorem dJ40_reverseRange_27 : decode cJ40_reverseRange 27 = .ok (.aastore, 1) := dk_83 (dk_at dksJ40_reverseRange_1 4 rfl rfl)
theorem dJ40_reverseRange_28 : decode cJ40_reverseRange 28 = .ok (.goto (-25), 3) := dk_167 255 231 (dk_at dksJ40_reverseRange_1 5 rfl rfl)
theorem dJ40_reverseRange_31 : decode cJ40_reverseRange 31 = .ok (.return_, 1) := dk_177 (dk_at dksJ40_reverseRange_1 8 rfl rfl)
abbrev cJ40_binarySort : ByteArray := prog_66_method_3_code
def yJ40_binarySort : MethodName := ⟨RJ40, "binarySort", "([Ljava/lang/Object;IIILjava/util/Comparator;)V"⟩
def dkwJ40_binarySort_10 : List UInt8 := [132, 3, 1, 167, 255, 69, 177]
abbrev dktJ40_binarySort_10 : List UInt8 := dkwJ40_binarySort_10 ++ []
def dkwJ40_binarySort_9 : List UInt8 := [167, 0, 16, 42, 21, 6, 42, 21, 6, 4, 96, 21, 8, 184, 0, 95, 42, 21, 6, 25, 5, 83]
abbrev dktJ40_binarySort_9 : List UInt8 := dkwJ40_binarySort_9 ++ dktJ40_binarySort_10
def dkwJ40_binarySort_8 : List UInt8 := [42, 21, 6, 5, 96, 42, 21, 6, 4, 96, 50, 83, 42, 21, 6, 4, 96, 42, 21, 6, 50, 83]
abbrev dktJ40_binarySort_8 : List UInt8 := dkwJ40_binarySort_8 ++ dktJ40_binarySort_9
def dkwJ40_binarySort_7 : List UInt8 := [171, 0, 0, 0, 0, 51, 0, 0, 0, 2, 0, 0, 0, 1, 0, 0, 0, 38, 0, 0, 0, 2, 0, 0, 0, 26]
abbrev dktJ40_binarySort_7 : List UInt8 := dkwJ40_binarySort_7 ++ dktJ40_binarySort_8
def dkwJ40_binarySort_6 : List UInt8 := [100, 54, 8, 21, 8]
abbrev dktJ40_binarySort_6 : List UInt8 := dkwJ40_binarySort_6 ++ dktJ40_binarySort_7
def dkwJ40_binarySort_5 : List UInt8 := [178, 0, 57, 154, 0, 18, 21, 6, 21, 7, 159, 0, 11, 187, 0, 61, 89, 183, 0, 63, 191, 29, 21, 6]
abbrev dktJ40_binarySort_5 : List UInt8 := dkwJ40_binarySort_5 ++ dktJ40_binarySort_6
def dkwJ40_binarySort_4 : List UInt8 := [185, 0, 89, 3, 0, 156, 0, 10, 21, 8, 54, 7, 167, 0, 9, 21, 8, 4, 96, 54, 6, 167, 255, 211]
abbrev dktJ40_binarySort_4 : List UInt8 := dkwJ40_binarySort_4 ++ dktJ40_binarySort_5
def dkwJ40_binarySort_3 : List UInt8 := [21, 7, 162, 0, 44, 21, 6, 21, 7, 96, 4, 124, 54, 8, 25, 4, 25, 5, 42, 21, 8, 50]
abbrev dktJ40_binarySort_3 : List UInt8 := dkwJ40_binarySort_3 ++ dktJ40_binarySort_4
def dkwJ40_binarySort_2 : List UInt8 := [178, 0, 57, 154, 0, 18, 21, 6, 21, 7, 164, 0, 11, 187, 0, 61, 89, 183, 0, 63, 191, 21, 6]
abbrev dktJ40_binarySort_2 : List UInt8 := dkwJ40_binarySort_2 ++ dktJ40_binarySort_3
def dkwJ40_binarySort_1 : List UInt8 := [29, 27, 160, 0, 6, 132, 3, 1, 29, 28, 162, 0, 188, 42, 29, 50, 58, 5, 27, 54, 6, 29, 54, 7]
abbrev dktJ40_binarySort_1 : List UInt8 := dkwJ40_binarySort_1 ++ dktJ40_binarySort_2
def dkwJ40_binarySort_0 : List UInt8 := [178, 0, 57, 154, 0, 21, 27, 29, 163, 0, 8, 29, 28, 164, 0, 11, 187, 0, 61, 89, 183, 0, 63, 191]
abbrev dktJ40_binarySort_0 : List UInt8 := dkwJ40_binarySort_0 ++ dktJ40_binarySort_1
theorem dksJ40_binarySort_0 : cJ40_binarySort.data.toList.drop 0 = dktJ40_binarySort_0 := by decide +kernel
theorem dksJ40_binarySort_1 : cJ40_binarySort.data.toList.drop 24 = dktJ40_binarySort_1 := dk_seg dksJ40_binarySort_0 24 rfl rfl
theorem dksJ40_binarySort_2 : cJ40_binarySort.data.toList.drop 48 = dktJ40_binarySort_2 := dk_seg dksJ40_binarySort_1 24 rfl rfl
theorem dksJ40_binarySort_3 : cJ40_binarySort.data.toList.drop 71 = dktJ40_binarySort_3 := dk_seg dksJ40_binarySort_2 23 rfl rfl
theorem dksJ40_binarySort_4 : cJ40_binarySort.data.toList.drop 93 = dktJ40_binarySort_4 := dk_seg dksJ40_binarySort_3 22 rfl rfl
theorem dksJ40_binarySort_5 : cJ40_binarySort.data.toList.drop 117 = dktJ40_binarySort_5 := dk_seg dksJ40_binarySort_4 24 rfl rfl
theorem dksJ40_binarySort_6 : cJ40_binarySort.data.toList.drop 141 = dktJ40_binarySort_6 := dk_seg dksJ40_binarySort_5 24 rfl rfl
theorem dksJ40_binarySort_7 : cJ40_binarySort.data.toList.drop 146 = dktJ40_binarySort_7 := dk_seg dksJ40_binarySort_6 5 rfl rfl
theorem dksJ40_binarySort_8 : cJ40_binarySort.data.toList.drop 172 = dktJ40_binarySort_8 := dk_seg dksJ40_binarySort_7 26 rfl rfl
theorem dksJ40_binarySort_9 : cJ40_binarySort.data.toList.drop 194 = dktJ40_binarySort_9 := dk_seg dksJ40_binarySort_8 22 rfl rfl
theorem dksJ40_binarySort_10 : cJ40_binarySort.data.toList.drop 216 = dktJ40_binarySort_10 := dk_seg dksJ40_binarySort_9 22 rfl rfl
theorem dJ40_binarySort_0 : decode cJ40_binarySort 0 = .ok (.getstatic 57, 3) := dk_178 0 57 (dk_at dksJ40_binarySort_0 0 rfl rfl)
theorem dJ40_binarySort_3 : decode cJ40_binarySort 3 = .ok (.ifCond .ne 21, 3) := dk_154 0 21 (dk_at dksJ40_binarySort_0 3 rfl rfl)
theorem dJ40_binarySort_6 : decode cJ40_binarySort 6 = .ok (.iload_n 1, 1) := dk_27 (dk_at dksJ40_binarySort_0 6 rfl rfl)
theorem dJ40_binarySort_7 : decode cJ40_binarySort 7 = .ok (.iload_n 3, 1) := dk_29 (dk_at dksJ40_binarySort_0 7 rfl rfl)
theorem dJ40_binarySort_8 : decode cJ40_binarySort 8 = .ok (.if_icmp .gt 8, 3) := dk_163 0 8 (dk_at dksJ40_binarySort_0 8 rfl rfl)
theorem dJ40_binarySort_11 : decode cJ40_binarySort 11 = .ok (.iload_n 3, 1) := dk_29 (dk_at dksJ40_binarySort_0 11 rfl rfl)
theorem dJ40_binarySort_12 : decode cJ40_binarySort 12 = .ok (.iload_n 2, 1) := dk_28 (dk_at dksJ40_binarySort_0 12 rfl rfl)
theorem dJ40_binarySort_13 : decode cJ40_binarySort 13 = .ok (.if_icmp .le 11, 3) := dk_164 0 11 (dk_at dksJ40_binarySort_0 13 rfl rfl)
theorem dJ40_binarySort_16 : decode cJ40_binarySort 16 = .ok (.new 61, 3) := dk_187 0 61 (dk_at dksJ40_binarySort_0 16 rfl rfl)
theorem dJ40_binarySort_19 : decode cJ40_binarySort 19 = .ok (.dup, 1) := dk_89 (dk_at dksJ40_binarySort_0 19 rfl rfl)
theorem dJ40_binarySort_20 : decode cJ40_binarySort 20 = .ok (.invokespecial 63, 3) := dk_183 0 63 (dk_at dksJ40_binarySort_0 20 rfl rfl)
theorem dJ40_binarySort_23 : decode cJ40_binarySort 23 = .ok (.athrow, 1) := dk_191 (dk_at dksJ40_binarySort_0 23 rfl rfl)
theorem dJ40_binarySort_24 : decode cJ40_binarySort 24 = .ok (.iload_n 3, 1) := dk_29 (dk_at dksJ40_binarySort_1 0 rfl rfl)
theorem dJ40_binarySort_25 : decode cJ40_binarySort 25 = .ok (.iload_n 1, 1) := dk_27 (dk_at dksJ40_binarySort_1 1 rfl rfl)
theorem dJ40_binarySort_26 : decode cJ40_binarySort 26 = .ok (.if_icmp .ne 6, 3) := dk_160 0 6 (dk_at dksJ40_binarySort_1 2 rfl rfl)
theorem dJ40_binarySort_29 : decode cJ40_binarySort 29 = .ok (.iinc 3 1, 3) := dk_132 3 1 (dk_at dksJ40_binarySort_1 5 rfl rfl)
theorem dJ40_binarySort_32 : decode cJ40_binarySort 32 = .ok (.iload_n 3, 1) := dk_29 (dk_at dksJ40_binarySort_1 8 rfl rfl)
theorem dJ40_binarySort_33 : decode cJ40_binarySort 33 = .ok (.iload_n 2, 1) := dk_28 (dk_at dksJ40_binarySort_1 9 rfl rfl)
theorem dJ40_binarySort_34 : decode cJ40_binarySort 34 = .ok (.if_icmp .ge 188, 3) := dk_162 0 188 (dk_at dksJ40_binarySort_1 10 rfl rfl)
theorem dJ40_binarySort_37 : decode cJ40_binarySort 37 = .ok (.aload_n 0, 1) := dk_42 (dk_at dksJ40_binarySort_1 13 rfl rfl)
theorem dJ40_binarySort_38 : decode cJ40_binarySort 38 = .ok (.iload_n 3, 1) := dk_29 (dk_at dksJ40_binarySort_1 14 rfl rfl)
theorem dJ40_binarySort_39 : decode cJ40_binarySort 39 = .ok (.aaload, 1) := dk_50 (dk_at dksJ40_binarySort_1 15 rfl rfl)
theorem dJ40_binarySort_40 : decode cJ40_binarySort 40 = .ok (.astore 5, 2) := dk_58 5 (dk_at dksJ40_binarySort_1 16 rfl rfl)
theorem dJ40_binarySort_42 : decode cJ40_binarySort 42 = .ok (.iload_n 1, 1) := dk_27 (dk_at dksJ40_binarySort_1 18 rfl rfl)
theorem dJ40_binarySort_43 : decode cJ40_binarySort 43 = .ok (.istore 6, 2) := dk_54 6 (dk_at dksJ40_binarySort_1 19 rfl rfl)
theorem dJ40_binarySort_45 : decode cJ40_binarySort 45 = .ok (.iload_n 3, 1) := dk_29 (dk_at dksJ40_binarySort_1 21 rfl rfl)
theorem dJ40_binarySort_46 : decode cJ40_binarySort 46 = .ok (.istore 7, 2) := dk_54 7 (dk_at dksJ40_binarySort_1 22 rfl rfl)
theorem dJ40_binarySort_48 : decode cJ40_binarySort 48 = .ok (.getstatic 57, 3) := dk_178 0 57 (dk_at dksJ40_binarySort_2 0 rfl rfl)
theorem dJ40_binarySort_51 : decode cJ40_binarySort 51 = .ok (.ifCond .ne 18, 3) := dk_154 0 18 (dk_at dksJ40_binarySort_2 3 rfl rfl)
theorem dJ40_binarySort_54 : decode cJ40_binarySort 54 = .ok (.iload 6, 2) := dk_21 6 (dk_at dksJ40_binarySort_2 6 rfl rfl)
theorem dJ40_binarySort_56 : decode cJ40_binarySort 56 = .ok (.iload 7, 2) := dk_21 7 (dk_at dksJ40_binarySort_2 8 rfl rfl)
theorem dJ40_binarySort_58 : decode cJ40_binarySort 58 = .ok (.if_icmp .le 11, 3) := dk_164 0 11 (dk_at dksJ40_binarySort_2 10 rfl rfl)
theorem dJ40_binarySort_61 : decode cJ40_binarySort 61 = .ok (.new 61, 3) := dk_187 0 61 (dk_at dksJ40_binarySort_2 13 rfl rfl)
theorem dJ40_binarySort_64 : decode cJ40_binarySort 64 = .ok (.dup, 1) := dk_89 (dk_at dksJ40_binarySort_2 16 rfl rfl)
theorem dJ40_binarySort_65 : decode cJ40_binarySort 65 = .ok (.invokespecial 63, 3) := dk_183 0 63 (dk_at dksJ40_binarySort_2 17 rfl rfl)
theorem dJ40_binarySort_68 : decode cJ40_binarySort 68 = .ok (.athrow, 1) := dk_191 (dk_at dksJ40_binarySort_2 20 rfl rfl)
theorem dJ40_binarySort_69 : decode cJ40_binarySort 69 = .ok (.iload 6, 2) := dk_21 6 (dk_at dksJ40_binarySort_2 21 rfl rfl)
theorem dJ40_binarySort_71 : decode cJ40_binarySort 71 = .ok (.iload 7, 2) := dk_21 7 (dk_at dksJ40_binarySort_3 0 rfl rfl)
theorem dJ40_binarySort_73 : decode cJ40_binarySort 73 = .ok (.if_icmp .ge 44, 3) := dk_162 0 44 (dk_at dksJ40_binarySort_3 2 rfl rfl)
theorem dJ40_binarySort_76 : decode cJ40_binarySort 76 = .ok (.iload 6, 2) := dk_21 6 (dk_at dksJ40_binarySort_3 5 rfl rfl)
theorem dJ40_binarySort_78 : decode cJ40_binarySort 78 = .ok (.iload 7, 2) := dk_21 7 (dk_at dksJ40_binarySort_3 7 rfl rfl)
theorem dJ40_binarySort_80 : decode cJ40_binarySort 80 = .ok (.iadd, 1) := dk_96 (dk_at dksJ40_binarySort_3 9 rfl rfl)
theorem dJ40_binarySort_81 : decode cJ40_binarySort 81 = .ok (.iconst 1, 1) := dk_4 (dk_at dksJ40_binarySort_3 10 rfl rfl)
theorem dJ40_binarySort_82 : decode cJ40_binarySort 82 = .ok (.iushr, 1) := dk_124 (dk_at dksJ40_binarySort_3 11 rfl rfl)
theorem dJ40_binarySort_83 : decode cJ40_binarySort 83 = .ok (.istore 8, 2) := dk_54 8 (dk_at dksJ40_binarySort_3 12 rfl rfl)
theorem dJ40_binarySort_85 : decode cJ40_binarySort 85 = .ok (.aload 4, 2) := dk_25 4 (dk_at dksJ40_binarySort_3 14 rfl rfl)
theorem dJ40_binarySort_87 : decode cJ40_binarySort 87 = .ok (.aload 5, 2) := dk_25 5 (dk_at dksJ40_binarySort_3 16 rfl rfl)
theorem dJ40_binarySort_89 : decode cJ40_binarySort 89 = .ok (.aload_n 0, 1) := dk_42 (dk_at dksJ40_binarySort_3 18 rfl rfl)
theorem dJ40_binarySort_90 : decode cJ40_binarySort 90 = .ok (.iload 8, 2) := dk_21 8 (dk_at dksJ40_binarySort_3 19 rfl rfl)
theorem dJ40_binarySort_92 : decode cJ40_binarySort 92 = .ok (.aaload, 1) := dk_50 (dk_at dksJ40_binarySort_3 21 rfl rfl)
theorem dJ40_binarySort_93 : decode cJ40_binarySort 93 = .ok (.invokeinterface 89 3, 5) := by decide +kernel
theorem dJ40_binarySort_98 : decode cJ40_binarySort 98 = .ok (.ifCond .ge 10, 3) := dk_156 0 10 (dk_at dksJ40_binarySort_4 5 rfl rfl)
theorem dJ40_binarySort_101 : decode cJ40_binarySort 101 = .ok (.iload 8, 2) := dk_21 8 (dk_at dksJ40_binarySort_4 8 rfl rfl)
theorem dJ40_binarySort_103 : decode cJ40_binarySort 103 = .ok (.istore 7, 2) := dk_54 7 (dk_at dksJ40_binarySort_4 10 rfl rfl)
theorem dJ40_binarySort_105 : decode cJ40_binarySort 105 = .ok (.goto 9, 3) := dk_167 0 9 (dk_at dksJ40_binarySort_4 12 rfl rfl)
theorem dJ40_binarySort_108 : decode cJ40_binarySort 108 = .ok (.iload 8, 2) := dk_21 8 (dk_at dksJ40_binarySort_4 15 rfl rfl)
theorem dJ40_binarySort_110 : decode cJ40_binarySort 110 = .ok (.iconst 1, 1) := dk_4 (dk_at dksJ40_binarySort_4 17 rfl rfl)
theorem dJ40_binarySort_111 : decode cJ40_binarySort 111 = .ok (.iadd, 1) := dk_96 (dk_at dksJ40_binarySort_4 18 rfl rfl)
theorem dJ40_binarySort_112 : decode cJ40_binarySort 112 = .ok (.istore 6, 2) := dk_54 6 (dk_at dksJ40_binarySort_4 19 rfl rfl)
theorem dJ40_binarySort_114 : decode cJ40_binarySort 114 = .ok (.goto (-45), 3) := dk_167 255 211 (dk_at dksJ40_binarySort_4 21 rfl rfl)
theorem dJ40_binarySort_117 : decode cJ40_binarySort 117 = .ok (.getstatic 57, 3) := dk_178 0 57 (dk_at dksJ40_binarySort_5 0 rfl rfl)
theorem dJ40_binarySort_120 : decode cJ40_binarySort 120 = .ok (.ifCond .ne 18, 3) := dk_154 0 18 (dk_at dksJ40_binarySort_5 3 rfl rfl)
theorem dJ40_binarySort_123 : decode cJ40_binarySort 123 = .ok (.iload 6, 2) := dk_21 6 (dk_at dksJ40_binarySort_5 6 rfl rfl)
theorem dJ40_binarySort_125 : decode cJ40_binarySort 125 = .ok (.iload 7, 2) := dk_21 7 (dk_at dksJ40_binarySort_5 8 rfl rfl)
theorem dJ40_binarySort_127 : decode cJ40_binarySort 127 = .ok (.if_icmp .eq 11, 3) := dk_159 0 11 (dk_at dksJ40_binarySort_5 10 rfl rfl)
theorem dJ40_binarySort_130 : decode cJ40_binarySort 130 = .ok (.new 61, 3) := dk_187 0 61 (dk_at dksJ40_binarySort_5 13 rfl rfl)
theorem dJ40_binarySort_133 : decode cJ40_binarySort 133 = .ok (.dup, 1) := dk_89 (dk_at dksJ40_binarySort_5 16 rfl rfl)
theorem dJ40_binarySort_134 : decode cJ40_binarySort 134 = .ok (.invokespecial 63, 3) := dk_183 0 63 (dk_at dksJ40_binarySort_5 17 rfl rfl)
theorem dJ40_binarySort_137 : decode cJ40_binarySort 137 = .ok (.athrow, 1) := dk_191 (dk_at dksJ40_binarySort_5 20 rfl rfl)
theorem dJ40_binarySort_138 : decode cJ40_binarySort 138 = .ok (.iload_n 3, 1) := dk_29 (dk_at dksJ40_binarySort_5 21 rfl rfl)
theorem dJ40_binarySort_139 : decode cJ40_binarySort 139 = .ok (.iload 6, 2) := dk_21 6 (dk_at dksJ40_binarySort_5 22 rfl rfl)
theorem dJ40_binarySort_141 : decode cJ40_binarySort 141 = .ok (.isub, 1) := dk_100 (dk_at dksJ40_binarySort_6 0 rfl rfl)
theorem dJ40_binarySort_142 : decode cJ40_binarySort 142 = .ok (.istore 8, 2) := dk_54 8 (dk_at dksJ40_binarySort_6 1 rfl rfl)
theorem dJ40_binarySort_144 : decode cJ40_binarySort 144 = .ok (.iload 8, 2) := dk_21 8 (dk_at dksJ40_binarySort_6 3 rfl rfl)
theorem dJ40_binarySort_146 : decode cJ40_binarySort 146 = .ok (.lookupswitch 51 #[(1, 38), (2, 26)], 26) := by decide +kernel
theorem dJ40_binarySort_172 : decode cJ40_binarySort 172 = .ok (.aload_n 0, 1) := dk_42 (dk_at dksJ40_binarySort_8 0 rfl rfl)
theorem dJ40_binarySort_173 : decode cJ40_binarySort 173 = .ok (.iload 6, 2) := dk_21 6 (dk_at dksJ40_binarySort_8 1 rfl rfl)
theorem dJ40_binarySort_175 : decode cJ40_binarySort 175 = .ok (.iconst 2, 1) := dk_5 (dk_at dksJ40_binarySort_8 3 rfl rfl)
theorem dJ40_binarySort_176 : decode cJ40_binarySort 176 = .ok (.iadd, 1) := dk_96 (dk_at dksJ40_binarySort_8 4 rfl rfl)
theorem dJ40_binarySort_177 : decode cJ40_binarySort 177 = .ok (.aload_n 0, 1) := dk_42 (dk_at dksJ40_binarySort_8 5 rfl rfl)
theorem dJ40_binarySort_178 : decode cJ40_binarySort 178 = .ok (.iload 6, 2) := dk_21 6 (dk_at dksJ40_binarySort_8 6 rfl rfl)
theorem dJ40_binarySort_180 : decode cJ40_binarySort 180 = .ok (.iconst 1, 1) := dk_4 (dk_at dksJ40_binarySort_8 8 rfl rfl)
theorem dJ40_binarySort_181 : decode cJ40_binarySort 181 = .ok (.iadd, 1) := dk_96 (dk_at dksJ40_binarySort_8 9 rfl rfl)
theorem dJ40_binarySort_182 : decode cJ40_binarySort 182 = .ok (.aaload, 1) := dk_50 (dk_at dksJ40_binarySort_8 10 rfl rfl)
theorem dJ40_binarySort_183 : decode cJ40_binarySort 183 = .ok (.aastore, 1) := dk_83 (dk_at dksJ40_binarySort_8 11 rfl rfl)
theorem dJ40_binarySort_184 : decode cJ40_binarySort 184 = .ok (.aload_n 0, 1) := dk_42 (dk_at dksJ40_binarySort_8 12 rfl rfl)
theorem dJ40_binarySort_185 : decode cJ40_binarySort 185 = .ok (.iload 6, 2) := dk_21 6 (dk_at dksJ40_binarySort_8 13 rfl rfl)
theorem dJ40_binarySort_187 : decode cJ40_binarySort 187 = .ok (.iconst 1, 1) := dk_4 (dk_at dksJ40_binarySort_8 15 rfl rfl)
theorem dJ40_binarySort_188 : decode cJ40_binarySort 188 = .ok (.iadd, 1) := dk_96 (dk_at dksJ40_binarySort_8 16 rfl rfl)
theorem dJ40_binarySort_189 : decode cJ40_binarySort 189 = .ok (.aload_n 0, 1) := dk_42 (dk_at dksJ40_binarySort_8 17 rfl rfl)
theorem dJ40_binarySort_190 : decode cJ40_binarySort 190 = .ok (.iload 6, 2) := dk_21 6 (dk_at dksJ40_binarySort_8 18 rfl rfl)
theorem dJ40_binarySort_192 : decode cJ40_binarySort 192 = .ok (.aaload, 1) := dk_50 (dk_at dksJ40_binarySort_8 20 rfl rfl)
theorem dJ40_binarySort_193 : decode cJ40_binarySort 193 = .ok (.aastore, 1) := dk_83 (dk_at dksJ40_binarySort_8 21 rfl rfl)
theorem dJ40_binarySort_194 : decode cJ40_binarySort 194 = .ok (.goto 16, 3) := dk_167 0 16 (dk_at dksJ40_binarySort_9 0 rfl rfl)
theorem dJ40_binarySort_197 : decode cJ40_binarySort 197 = .ok (.aload_n 0, 1) := dk_42 (dk_at dksJ40_binarySort_9 3 rfl rfl)
theorem dJ40_binarySort_198 : decode cJ40_binarySort 198 = .ok (.iload 6, 2) := dk_21 6 (dk_at dksJ40_binarySort_9 4 rfl rfl)
theorem dJ40_binarySort_200 : decode cJ40_binarySort 200 = .ok (.aload_n 0, 1) := dk_42 (dk_at dksJ40_binarySort_9 6 rfl rfl)
theorem dJ40_binarySort_201 : decode cJ40_binarySort 201 = .ok (.iload 6, 2) := dk_21 6 (dk_at dksJ40_binarySort_9 7 rfl rfl)
theorem dJ40_binarySort_203 : decode cJ40_binarySort 203 = .ok (.iconst 1, 1) := dk_4 (dk_at dksJ40_binarySort_9 9 rfl rfl)
theorem dJ40_binarySort_204 : decode cJ40_binarySort 204 = .ok (.iadd, 1) := dk_96 (dk_at dksJ40_binarySort_9 10 rfl rfl)
theorem dJ40_binarySort_205 : decode cJ40_binarySort 205 = .ok (.iload 8, 2) := dk_21 8 (dk_at dksJ40_binarySort_9 11 rfl rfl)
theorem dJ40_binarySort_207 : decode cJ40_binarySort 207 = .ok (.invokestatic 95, 3) := dk_184 0 95 (dk_at dksJ40_binarySort_9 13 rfl rfl)
theorem dJ40_binarySort_210 : decode cJ40_binarySort 210 = .ok (.aload_n 0, 1) := dk_42 (dk_at dksJ40_binarySort_9 16 rfl rfl)
theorem dJ40_binarySort_211 : decode cJ40_binarySort 211 = .ok (.iload 6, 2) := dk_21 6 (dk_at dksJ40_binarySort_9 17 rfl rfl)
theorem dJ40_binarySort_213 : decode cJ40_binarySort 213 = .ok (.aload 5, 2) := dk_25 5 (dk_at dksJ40_binarySort_9 19 rfl rfl)
theorem dJ40_binarySort_215 : decode cJ40_binarySort 215 = .ok (.aastore, 1) := dk_83 (dk_at dksJ40_binarySort_9 21 rfl rfl)
theorem dJ40_binarySort_216 : decode cJ40_binarySort 216 = .ok (.iinc 3 1, 3) := dk_132 3 1 (dk_at dksJ40_binarySort_10 0 rfl rfl)
theorem dJ40_binarySort_219 : decode cJ40_binarySort 219 = .ok (.goto (-187), 3) := dk_167 255 69 (dk_at dksJ40_binarySort_10 3 rfl rfl)
theorem dJ40_binarySort_222 : decode cJ40_binarySort 222 = .ok (.return_, 1) := dk_177 (dk_at dksJ40_binarySort_10 6 rfl rfl)
theorem q106 : (Jvm.Cond.initialized "java/util/TimSort") ∈ lw_all := lw_g (lw_at lw_m1 51 rfl) rfl
theorem q2972 : (Jvm.Cond.static ({ cls := "java/util/TimSort", name := "sort", desc := "([Ljava/lang/Object;IILjava/util/Comparator;[Ljava/lang/Object;II)V" } : Jvm.MethodName)) ∈ lw_all := lw_g (lw_at lw_m13 37 rfl) rfl
theorem q2973 : (Jvm.Cond.code ({ cls := "java/util/TimSort", name := "sort", desc := "([Ljava/lang/Object;IILjava/util/Comparator;[Ljava/lang/Object;II)V" } : Jvm.MethodName) prog_66_method_2_code (12 : Nat) (Option.none : Option Jvm.ClassFile.FieldType)) ∈ lw_all := lw_g (lw_at lw_m13 38 rfl) rfl
theorem q2974 : (Jvm.Cond.fieldLink "java/util/TimSort" (57 : Nat) "java/util/TimSort" "$assertionsDisabled" "Z") ∈ lw_all := lw_g (lw_at lw_m13 39 rfl) rfl
theorem q2975 : (Jvm.Cond.laysStatic "java/util/TimSort" "$assertionsDisabled" "Z") ∈ lw_tbl := lw_at lw_m13 40 rfl
theorem q2976 : (Jvm.Cond.methodLink "java/util/TimSort" (64 : Nat) ({ cls := "java/util/TimSort", name := "countRunAndMakeAscending", desc := "([Ljava/lang/Object;IILjava/util/Comparator;)I" } : Jvm.MethodName)) ∈ lw_all := lw_g (lw_at lw_m13 41 rfl) rfl
theorem q2977 : (Jvm.Cond.static ({ cls := "java/util/TimSort", name := "countRunAndMakeAscending", desc := "([Ljava/lang/Object;IILjava/util/Comparator;)I" } : Jvm.MethodName)) ∈ lw_all := lw_g (lw_at lw_m13 42 rfl) rfl
theorem q2978 : (Jvm.Cond.code ({ cls := "java/util/TimSort", name := "countRunAndMakeAscending", desc := "([Ljava/lang/Object;IILjava/util/Comparator;)I" } : Jvm.MethodName) prog_66_method_4_code (5 : Nat) (Option.some Jvm.ClassFile.FieldType.int)) ∈ lw_all := lw_g (lw_at lw_m13 43 rfl) rfl
theorem q2979 : (Jvm.Cond.interfaceEntry "java/util/TimSort" (89 : Nat)) ∈ lw_tbl := lw_at lw_m13 44 rfl
theorem q2980 : (Jvm.Cond.methodLink "java/util/TimSort" (89 : Nat) ({ cls := "java/util/Comparator", name := "compare", desc := "(Ljava/lang/Object;Ljava/lang/Object;)I" } : Jvm.MethodName)) ∈ lw_all := lw_g (lw_at lw_m13 45 rfl) rfl
theorem q2999 : (Jvm.Cond.methodLink "java/util/TimSort" (101 : Nat) ({ cls := "java/util/TimSort", name := "reverseRange", desc := "([Ljava/lang/Object;II)V" } : Jvm.MethodName)) ∈ lw_all := lw_g (lw_at lw_m13 64 rfl) rfl
theorem q3000 : (Jvm.Cond.static ({ cls := "java/util/TimSort", name := "reverseRange", desc := "([Ljava/lang/Object;II)V" } : Jvm.MethodName)) ∈ lw_all := lw_g (lw_at lw_m13 65 rfl) rfl
theorem q3001 : (Jvm.Cond.code ({ cls := "java/util/TimSort", name := "reverseRange", desc := "([Ljava/lang/Object;II)V" } : Jvm.MethodName) prog_66_method_5_code (4 : Nat) (Option.none : Option Jvm.ClassFile.FieldType)) ∈ lw_all := lw_g (lw_at lw_m13 66 rfl) rfl
theorem q3002 : (Jvm.Cond.methodLink "java/util/TimSort" (68 : Nat) ({ cls := "java/util/TimSort", name := "binarySort", desc := "([Ljava/lang/Object;IIILjava/util/Comparator;)V" } : Jvm.MethodName)) ∈ lw_all := lw_g (lw_at lw_m13 67 rfl) rfl
theorem q3003 : (Jvm.Cond.static ({ cls := "java/util/TimSort", name := "binarySort", desc := "([Ljava/lang/Object;IIILjava/util/Comparator;)V" } : Jvm.MethodName)) ∈ lw_all := lw_g (lw_at lw_m13 68 rfl) rfl
theorem q3004 : (Jvm.Cond.code ({ cls := "java/util/TimSort", name := "binarySort", desc := "([Ljava/lang/Object;IIILjava/util/Comparator;)V" } : Jvm.MethodName) prog_66_method_3_code (9 : Nat) (Option.none : Option Jvm.ClassFile.FieldType)) ∈ lw_all := lw_g (lw_at lw_m13 69 rfl) rfl
theorem q3005 : (Jvm.Cond.methodLink "java/util/TimSort" (95 : Nat) ({ cls := "java/lang/System", name := "arraycopy", desc := "(Ljava/lang/Object;ILjava/lang/Object;II)V" } : Jvm.MethodName)) ∈ lw_all := lw_g (lw_at lw_m13 70 rfl) rfl

/-! java/util/Objects -/
set_option maxRecDepth 100000
def RJ8 : String := "java/util/Objects"
abbrev cJ8_checkIndex : ByteArray := prog_62_method_17_code
def yJ8_checkIndex : MethodName := ⟨RJ8, "checkIndex", "(II)I"⟩
def dkwJ8_checkIndex_0 : List UInt8 := [26, 27, 1, 184, 0, 105, 172]
abbrev dktJ8_checkIndex_0 : List UInt8 := dkwJ8_checkIndex_0 ++ []
theorem dksJ8_checkIndex_0 : cJ8_checkIndex.data.toList.drop 0 = dktJ8_checkIndex_0 := by decide +kernel
theorem dJ8_checkIndex_0 : decode cJ8_checkIndex 0 = .ok (.iload_n 0, 1) := dk_26 (dk_at dksJ8_checkIndex_0 0 rfl rfl)
theorem dJ8_checkIndex_1 : decode cJ8_checkIndex 1 = .ok (.iload_n 1, 1) := dk_27 (dk_at dksJ8_checkIndex_0 1 rfl rfl)
theorem dJ8_checkIndex_2 : decode cJ8_checkIndex 2 = .ok (.aconst_null, 1) := dk_1 (dk_at dksJ8_checkIndex_0 2 rfl rfl)
theorem dJ8_checkIndex_3 : decode cJ8_checkIndex 3 = .ok (.invokestatic 105, 3) := dk_184 0 105 (dk_at dksJ8_checkIndex_0 3 rfl rfl)
theorem dJ8_checkIndex_6 : decode cJ8_checkIndex 6 = .ok (.ireturn, 1) := dk_172 (dk_at dksJ8_checkIndex_0 6 rfl rfl)
abbrev cJ8_requireNonNull : ByteArray := prog_62_method_10_code
def yJ8_requireNonNull : MethodName := ⟨RJ8, "requireNonNull", "(Ljava/lang/Object;)Ljava/lang/Object;"⟩
def dkwJ8_requireNonNull_0 : List UInt8 := [42, 199, 0, 11, 187, 0, 84, 89, 183, 0, 86, 191, 42, 176]
abbrev dktJ8_requireNonNull_0 : List UInt8 := dkwJ8_requireNonNull_0 ++ []
theorem dksJ8_requireNonNull_0 : cJ8_requireNonNull.data.toList.drop 0 = dktJ8_requireNonNull_0 := by decide +kernel
theorem dJ8_requireNonNull_0 : decode cJ8_requireNonNull 0 = .ok (.aload_n 0, 1) := dk_42 (dk_at dksJ8_requireNonNull_0 0 rfl rfl)
theorem dJ8_requireNonNull_1 : decode cJ8_requireNonNull 1 = .ok (.ifnonnull 11, 3) := dk_199 0 11 (dk_at dksJ8_requireNonNull_0 1 rfl rfl)
theorem dJ8_requireNonNull_4 : decode cJ8_requireNonNull 4 = .ok (.new 84, 3) := dk_187 0 84 (dk_at dksJ8_requireNonNull_0 4 rfl rfl)
theorem dJ8_requireNonNull_7 : decode cJ8_requireNonNull 7 = .ok (.dup, 1) := dk_89 (dk_at dksJ8_requireNonNull_0 7 rfl rfl)
theorem dJ8_requireNonNull_8 : decode cJ8_requireNonNull 8 = .ok (.invokespecial 86, 3) := dk_183 0 86 (dk_at dksJ8_requireNonNull_0 8 rfl rfl)
theorem dJ8_requireNonNull_11 : decode cJ8_requireNonNull 11 = .ok (.athrow, 1) := dk_191 (dk_at dksJ8_requireNonNull_0 11 rfl rfl)
theorem dJ8_requireNonNull_12 : decode cJ8_requireNonNull 12 = .ok (.aload_n 0, 1) := dk_42 (dk_at dksJ8_requireNonNull_0 12 rfl rfl)
theorem dJ8_requireNonNull_13 : decode cJ8_requireNonNull 13 = .ok (.areturn, 1) := dk_176 (dk_at dksJ8_requireNonNull_0 13 rfl rfl)
abbrev cJ8_equals : ByteArray := prog_62_method_2_code
def yJ8_equals : MethodName := ⟨RJ8, "equals", "(Ljava/lang/Object;Ljava/lang/Object;)Z"⟩
def dkwJ8_equals_0 : List UInt8 := [42, 43, 165, 0, 15, 42, 198, 0, 15, 42, 43, 182, 0, 14, 153, 0, 7, 4, 167, 0, 4, 3, 172]
abbrev dktJ8_equals_0 : List UInt8 := dkwJ8_equals_0 ++ []
theorem dksJ8_equals_0 : cJ8_equals.data.toList.drop 0 = dktJ8_equals_0 := by decide +kernel
theorem dJ8_equals_0 : decode cJ8_equals 0 = .ok (.aload_n 0, 1) := dk_42 (dk_at dksJ8_equals_0 0 rfl rfl)
theorem dJ8_equals_1 : decode cJ8_equals 1 = .ok (.aload_n 1, 1) := dk_43 (dk_at dksJ8_equals_0 1 rfl rfl)
theorem dJ8_equals_2 : decode cJ8_equals 2 = .ok (.if_acmp .eq 15, 3) := dk_165 0 15 (dk_at dksJ8_equals_0 2 rfl rfl)
theorem dJ8_equals_5 : decode cJ8_equals 5 = .ok (.aload_n 0, 1) := dk_42 (dk_at dksJ8_equals_0 5 rfl rfl)
theorem dJ8_equals_6 : decode cJ8_equals 6 = .ok (.ifnull 15, 3) := dk_198 0 15 (dk_at dksJ8_equals_0 6 rfl rfl)
theorem dJ8_equals_9 : decode cJ8_equals 9 = .ok (.aload_n 0, 1) := dk_42 (dk_at dksJ8_equals_0 9 rfl rfl)
theorem dJ8_equals_10 : decode cJ8_equals 10 = .ok (.aload_n 1, 1) := dk_43 (dk_at dksJ8_equals_0 10 rfl rfl)
theorem dJ8_equals_11 : decode cJ8_equals 11 = .ok (.invokevirtual 14, 3) := dk_182 0 14 (dk_at dksJ8_equals_0 11 rfl rfl)
theorem dJ8_equals_14 : decode cJ8_equals 14 = .ok (.ifCond .eq 7, 3) := dk_153 0 7 (dk_at dksJ8_equals_0 14 rfl rfl)
theorem dJ8_equals_17 : decode cJ8_equals 17 = .ok (.iconst 1, 1) := dk_4 (dk_at dksJ8_equals_0 17 rfl rfl)
theorem dJ8_equals_18 : decode cJ8_equals 18 = .ok (.goto 4, 3) := dk_167 0 4 (dk_at dksJ8_equals_0 18 rfl rfl)
theorem dJ8_equals_21 : decode cJ8_equals 21 = .ok (.iconst 0, 1) := dk_3 (dk_at dksJ8_equals_0 21 rfl rfl)
theorem dJ8_equals_22 : decode cJ8_equals 22 = .ok (.ireturn, 1) := dk_172 (dk_at dksJ8_equals_0 22 rfl rfl)
theorem q67 : (Jvm.Cond.initialized "java/util/Objects") ∈ lw_all := lw_g (lw_at lw_m1 12 rfl) rfl
theorem q270 : (Jvm.Cond.static ({ cls := "java/util/Objects", name := "checkIndex", desc := "(II)I" } : Jvm.MethodName)) ∈ lw_all := lw_g (lw_at lw_m1 215 rfl) rfl
theorem q271 : (Jvm.Cond.code ({ cls := "java/util/Objects", name := "checkIndex", desc := "(II)I" } : Jvm.MethodName) prog_62_method_17_code (2 : Nat) (Option.some Jvm.ClassFile.FieldType.int)) ∈ lw_all := lw_g (lw_at lw_m1 216 rfl) rfl
theorem q272 : (Jvm.Cond.methodLink "java/util/Objects" (105 : Nat) ({ cls := "jdk/internal/util/Preconditions", name := "checkIndex", desc := "(IILjava/util/function/BiFunction;)I" } : Jvm.MethodName)) ∈ lw_all := lw_g (lw_at lw_m1 217 rfl) rfl
theorem q290 : (Jvm.Cond.static ({ cls := "java/util/Objects", name := "requireNonNull", desc := "(Ljava/lang/Object;)Ljava/lang/Object;" } : Jvm.MethodName)) ∈ lw_all := lw_g (lw_at lw_m1 235 rfl) rfl
theorem q291 : (Jvm.Cond.code ({ cls := "java/util/Objects", name := "requireNonNull", desc := "(Ljava/lang/Object;)Ljava/lang/Object;" } : Jvm.MethodName) prog_62_method_10_code (1 : Nat) (Option.some (Jvm.ClassFile.FieldType.object "java/lang/Object"))) ∈ lw_all := lw_g (lw_at lw_m1 236 rfl) rfl
theorem q1151 : (Jvm.Cond.static ({ cls := "java/util/Objects", name := "equals", desc := "(Ljava/lang/Object;Ljava/lang/Object;)Z" } : Jvm.MethodName)) ∈ lw_all := lw_g (lw_at lw_m5 136 rfl) rfl
theorem q1152 : (Jvm.Cond.code ({ cls := "java/util/Objects", name := "equals", desc := "(Ljava/lang/Object;Ljava/lang/Object;)Z" } : Jvm.MethodName) prog_62_method_2_code (2 : Nat) (Option.some Jvm.ClassFile.FieldType.boolean)) ∈ lw_all := lw_g (lw_at lw_m5 137 rfl) rfl
theorem q1153 : (Jvm.Cond.methodLink "java/util/Objects" (14 : Nat) ({ cls := "java/lang/Object", name := "equals", desc := "(Ljava/lang/Object;)Z" } : Jvm.MethodName)) ∈ lw_all := lw_g (lw_at lw_m5 138 rfl) rfl

/-! jdk/internal/util/Preconditions -/
set_option maxRecDepth 100000
def RJ9 : String := "jdk/internal/util/Preconditions"
abbrev cJ9_checkIndex : ByteArray := prog_75_method_11_code
def yJ9_checkIndex : MethodName := ⟨RJ9, "checkIndex", "(IILjava/util/function/BiFunction;)I"⟩
def dkwJ9_checkIndex_0 : List UInt8 := [26, 155, 0, 8, 26, 27, 161, 0, 10, 44, 26, 27, 184, 0, 95, 191, 26, 172]
abbrev dktJ9_checkIndex_0 : List UInt8 := dkwJ9_checkIndex_0 ++ []
theorem dksJ9_checkIndex_0 : cJ9_checkIndex.data.toList.drop 0 = dktJ9_checkIndex_0 := by decide +kernel
theorem dJ9_checkIndex_0 : decode cJ9_checkIndex 0 = .ok (.iload_n 0, 1) := dk_26 (dk_at dksJ9_checkIndex_0 0 rfl rfl)
theorem dJ9_checkIndex_1 : decode cJ9_checkIndex 1 = .ok (.ifCond .lt 8, 3) := dk_155 0 8 (dk_at dksJ9_checkIndex_0 1 rfl rfl)
theorem dJ9_checkIndex_4 : decode cJ9_checkIndex 4 = .ok (.iload_n 0, 1) := dk_26 (dk_at dksJ9_checkIndex_0 4 rfl rfl)
theorem dJ9_checkIndex_5 : decode cJ9_checkIndex 5 = .ok (.iload_n 1, 1) := dk_27 (dk_at dksJ9_checkIndex_0 5 rfl rfl)
theorem dJ9_checkIndex_6 : decode cJ9_checkIndex 6 = .ok (.if_icmp .lt 10, 3) := dk_161 0 10 (dk_at dksJ9_checkIndex_0 6 rfl rfl)
theorem dJ9_checkIndex_9 : decode cJ9_checkIndex 9 = .ok (.aload_n 2, 1) := dk_44 (dk_at dksJ9_checkIndex_0 9 rfl rfl)
theorem dJ9_checkIndex_10 : decode cJ9_checkIndex 10 = .ok (.iload_n 0, 1) := dk_26 (dk_at dksJ9_checkIndex_0 10 rfl rfl)
theorem dJ9_checkIndex_11 : decode cJ9_checkIndex 11 = .ok (.iload_n 1, 1) := dk_27 (dk_at dksJ9_checkIndex_0 11 rfl rfl)
theorem dJ9_checkIndex_12 : decode cJ9_checkIndex 12 = .ok (.invokestatic 95, 3) := dk_184 0 95 (dk_at dksJ9_checkIndex_0 12 rfl rfl)
theorem dJ9_checkIndex_15 : decode cJ9_checkIndex 15 = .ok (.athrow, 1) := dk_191 (dk_at dksJ9_checkIndex_0 15 rfl rfl)
theorem dJ9_checkIndex_16 : decode cJ9_checkIndex 16 = .ok (.iload_n 0, 1) := dk_26 (dk_at dksJ9_checkIndex_0 16 rfl rfl)
theorem dJ9_checkIndex_17 : decode cJ9_checkIndex 17 = .ok (.ireturn, 1) := dk_172 (dk_at dksJ9_checkIndex_0 17 rfl rfl)
abbrev cJ9_checkFromToIndex : ByteArray := prog_75_method_12_code
def yJ9_checkFromToIndex : MethodName := ⟨RJ9, "checkFromToIndex", "(IIILjava/util/function/BiFunction;)I"⟩
def dkwJ9_checkFromToIndex_0 : List UInt8 := [26, 155, 0, 13, 26, 27, 163, 0, 8, 27, 28, 164, 0, 11, 45, 26, 27, 28, 184, 0, 99, 191, 26, 172]
abbrev dktJ9_checkFromToIndex_0 : List UInt8 := dkwJ9_checkFromToIndex_0 ++ []
theorem dksJ9_checkFromToIndex_0 : cJ9_checkFromToIndex.data.toList.drop 0 = dktJ9_checkFromToIndex_0 := by decide +kernel
theorem dJ9_checkFromToIndex_0 : decode cJ9_checkFromToIndex 0 = .ok (.iload_n 0, 1) := dk_26 (dk_at dksJ9_checkFromToIndex_0 0 rfl rfl)
theorem dJ9_checkFromToIndex_1 : decode cJ9_checkFromToIndex 1 = .ok (.ifCond .lt 13, 3) := dk_155 0 13 (dk_at dksJ9_checkFromToIndex_0 1 rfl rfl)
theorem dJ9_checkFromToIndex_4 : decode cJ9_checkFromToIndex 4 = .ok (.iload_n 0, 1) := dk_26 (dk_at dksJ9_checkFromToIndex_0 4 rfl rfl)
theorem dJ9_checkFromToIndex_5 : decode cJ9_checkFromToIndex 5 = .ok (.iload_n 1, 1) := dk_27 (dk_at dksJ9_checkFromToIndex_0 5 rfl rfl)
theorem dJ9_checkFromToIndex_6 : decode cJ9_checkFromToIndex 6 = .ok (.if_icmp .gt 8, 3) := dk_163 0 8 (dk_at dksJ9_checkFromToIndex_0 6 rfl rfl)
theorem dJ9_checkFromToIndex_9 : decode cJ9_checkFromToIndex 9 = .ok (.iload_n 1, 1) := dk_27 (dk_at dksJ9_checkFromToIndex_0 9 rfl rfl)
theorem dJ9_checkFromToIndex_10 : decode cJ9_checkFromToIndex 10 = .ok (.iload_n 2, 1) := dk_28 (dk_at dksJ9_checkFromToIndex_0 10 rfl rfl)
theorem dJ9_checkFromToIndex_11 : decode cJ9_checkFromToIndex 11 = .ok (.if_icmp .le 11, 3) := dk_164 0 11 (dk_at dksJ9_checkFromToIndex_0 11 rfl rfl)
theorem dJ9_checkFromToIndex_14 : decode cJ9_checkFromToIndex 14 = .ok (.aload_n 3, 1) := dk_45 (dk_at dksJ9_checkFromToIndex_0 14 rfl rfl)
theorem dJ9_checkFromToIndex_15 : decode cJ9_checkFromToIndex 15 = .ok (.iload_n 0, 1) := dk_26 (dk_at dksJ9_checkFromToIndex_0 15 rfl rfl)
theorem dJ9_checkFromToIndex_16 : decode cJ9_checkFromToIndex 16 = .ok (.iload_n 1, 1) := dk_27 (dk_at dksJ9_checkFromToIndex_0 16 rfl rfl)
theorem dJ9_checkFromToIndex_17 : decode cJ9_checkFromToIndex 17 = .ok (.iload_n 2, 1) := dk_28 (dk_at dksJ9_checkFromToIndex_0 17 rfl rfl)
theorem dJ9_checkFromToIndex_18 : decode cJ9_checkFromToIndex 18 = .ok (.invokestatic 99, 3) := dk_184 0 99 (dk_at dksJ9_checkFromToIndex_0 18 rfl rfl)
theorem dJ9_checkFromToIndex_21 : decode cJ9_checkFromToIndex 21 = .ok (.athrow, 1) := dk_191 (dk_at dksJ9_checkFromToIndex_0 21 rfl rfl)
theorem dJ9_checkFromToIndex_22 : decode cJ9_checkFromToIndex 22 = .ok (.iload_n 0, 1) := dk_26 (dk_at dksJ9_checkFromToIndex_0 22 rfl rfl)
theorem dJ9_checkFromToIndex_23 : decode cJ9_checkFromToIndex 23 = .ok (.ireturn, 1) := dk_172 (dk_at dksJ9_checkFromToIndex_0 23 rfl rfl)
abbrev cJ9_checkFromIndexSize : ByteArray := prog_75_method_13_code
def yJ9_checkFromIndexSize : MethodName := ⟨RJ9, "checkFromIndexSize", "(IIILjava/util/function/BiFunction;)I"⟩
def dkwJ9_checkFromIndexSize_1 : List UInt8 := [172]
abbrev dktJ9_checkFromIndexSize_1 : List UInt8 := dkwJ9_checkFromIndexSize_1 ++ []
def dkwJ9_checkFromIndexSize_0 : List UInt8 := [28, 26, 128, 27, 128, 155, 0, 10, 27, 28, 26, 100, 164, 0, 11, 45, 26, 27, 28, 184, 0, 103, 191, 26]
abbrev dktJ9_checkFromIndexSize_0 : List UInt8 := dkwJ9_checkFromIndexSize_0 ++ dktJ9_checkFromIndexSize_1
theorem dksJ9_checkFromIndexSize_0 : cJ9_checkFromIndexSize.data.toList.drop 0 = dktJ9_checkFromIndexSize_0 := by decide +kernel
theorem dksJ9_checkFromIndexSize_1 : cJ9_checkFromIndexSize.data.toList.drop 24 = dktJ9_checkFromIndexSize_1 := dk_seg dksJ9_checkFromIndexSize_0 24 rfl rfl
theorem dJ9_checkFromIndexSize_0 : decode cJ9_checkFromIndexSize 0 = .ok (.iload_n 2, 1) := dk_28 (dk_at dksJ9_checkFromIndexSize_0 0 rfl rfl)
theorem dJ9_checkFromIndexSize_1 : decode cJ9_checkFromIndexSize 1 = .ok (.iload_n 0, 1) := dk_26 (dk_at dksJ9_checkFromIndexSize_0 1 rfl rfl)
theorem dJ9_checkFromIndexSize_2 : decode cJ9_checkFromIndexSize 2 = .ok (.ior, 1) := dk_128 (dk_at dksJ9_checkFromIndexSize_0 2 rfl rfl)
theorem dJ9_checkFromIndexSize_3 : decode cJ9_checkFromIndexSize 3 = .ok (.iload_n 1, 1) := dk_27 (dk_at dksJ9_checkFromIndexSize_0 3 rfl rfl)
theorem dJ9_checkFromIndexSize_4 : decode cJ9_checkFromIndexSize 4 = .ok (.ior, 1) := dk_128 (dk_at dksJ9_checkFromIndexSize_0 4 rfl rfl)
theorem dJ9_checkFromIndexSize_5 : decode cJ9_checkFromIndexSize 5 = .ok (.ifCond .lt 10, 3) := dk_155 0 10 (dk_at dksJ9_checkFromIndexSize_0 5 rfl rfl)
theorem dJ9_checkFromIndexSize_8 : decode cJ9_checkFromIndexSize 8 = .ok (.iload_n 1, 1) := dk_27 (dk_at dksJ9_checkFromIndexSize_0 8 rfl rfl)
theorem dJ9_checkFromIndexSize_9 : decode cJ9_checkFromIndexSize 9 = .ok (.iload_n 2, 1) := dk_28 (dk_at dksJ9_checkFromIndexSize_0 9 rfl rfl)
theorem dJ9_checkFromIndexSize_10 : decode cJ9_checkFromIndexSize 10 = .ok (.iload_n 0, 1) := dk_26 (dk_at dksJ9_checkFromIndexSize_0 10 rfl rfl)
theorem dJ9_checkFromIndexSize_11 : decode cJ9_checkFromIndexSize 11 = .ok (.isub, 1) := dk_100 (dk_at dksJ9_checkFromIndexSize_0 11 rfl rfl)
theorem dJ9_checkFromIndexSize_12 : decode cJ9_checkFromIndexSize 12 = .ok (.if_icmp .le 11, 3) := dk_164 0 11 (dk_at dksJ9_checkFromIndexSize_0 12 rfl rfl)
theorem dJ9_checkFromIndexSize_15 : decode cJ9_checkFromIndexSize 15 = .ok (.aload_n 3, 1) := dk_45 (dk_at dksJ9_checkFromIndexSize_0 15 rfl rfl)
theorem dJ9_checkFromIndexSize_16 : decode cJ9_checkFromIndexSize 16 = .ok (.iload_n 0, 1) := dk_26 (dk_at dksJ9_checkFromIndexSize_0 16 rfl rfl)
theorem dJ9_checkFromIndexSize_17 : decode cJ9_checkFromIndexSize 17 = .ok (.iload_n 1, 1) := dk_27 (dk_at dksJ9_checkFromIndexSize_0 17 rfl rfl)
theorem dJ9_checkFromIndexSize_18 : decode cJ9_checkFromIndexSize 18 = .ok (.iload_n 2, 1) := dk_28 (dk_at dksJ9_checkFromIndexSize_0 18 rfl rfl)
theorem dJ9_checkFromIndexSize_19 : decode cJ9_checkFromIndexSize 19 = .ok (.invokestatic 103, 3) := dk_184 0 103 (dk_at dksJ9_checkFromIndexSize_0 19 rfl rfl)
theorem dJ9_checkFromIndexSize_22 : decode cJ9_checkFromIndexSize 22 = .ok (.athrow, 1) := dk_191 (dk_at dksJ9_checkFromIndexSize_0 22 rfl rfl)
theorem dJ9_checkFromIndexSize_23 : decode cJ9_checkFromIndexSize 23 = .ok (.iload_n 0, 1) := dk_26 (dk_at dksJ9_checkFromIndexSize_0 23 rfl rfl)
theorem dJ9_checkFromIndexSize_24 : decode cJ9_checkFromIndexSize 24 = .ok (.ireturn, 1) := dk_172 (dk_at dksJ9_checkFromIndexSize_1 0 rfl rfl)
theorem q68 : (Jvm.Cond.initialized "jdk/internal/util/Preconditions") ∈ lw_all := lw_g (lw_at lw_m1 13 rfl) rfl
theorem q273 : (Jvm.Cond.static ({ cls := "jdk/internal/util/Preconditions", name := "checkIndex", desc := "(IILjava/util/function/BiFunction;)I" } : Jvm.MethodName)) ∈ lw_all := lw_g (lw_at lw_m1 218 rfl) rfl
theorem q274 : (Jvm.Cond.code ({ cls := "jdk/internal/util/Preconditions", name := "checkIndex", desc := "(IILjava/util/function/BiFunction;)I" } : Jvm.MethodName) prog_75_method_11_code (3 : Nat) (Option.some Jvm.ClassFile.FieldType.int)) ∈ lw_all := lw_g (lw_at lw_m1 219 rfl) rfl
theorem q580 : (Jvm.Cond.laysStatic "jdk/internal/util/Preconditions" "SIOOBE_FORMATTER" "Ljava/util/function/BiFunction;") ∈ lw_tbl := lw_at lw_m3 45 rfl
theorem q582 : (Jvm.Cond.static ({ cls := "jdk/internal/util/Preconditions", name := "checkFromToIndex", desc := "(IIILjava/util/function/BiFunction;)I" } : Jvm.MethodName)) ∈ lw_all := lw_g (lw_at lw_m3 47 rfl) rfl
theorem q583 : (Jvm.Cond.code ({ cls := "jdk/internal/util/Preconditions", name := "checkFromToIndex", desc := "(IIILjava/util/function/BiFunction;)I" } : Jvm.MethodName) prog_75_method_12_code (4 : Nat) (Option.some Jvm.ClassFile.FieldType.int)) ∈ lw_all := lw_g (lw_at lw_m3 48 rfl) rfl
theorem q628 : (Jvm.Cond.static ({ cls := "jdk/internal/util/Preconditions", name := "checkFromIndexSize", desc := "(IIILjava/util/function/BiFunction;)I" } : Jvm.MethodName)) ∈ lw_all := lw_g (lw_at lw_m3 93 rfl) rfl
theorem q629 : (Jvm.Cond.code ({ cls := "jdk/internal/util/Preconditions", name := "checkFromIndexSize", desc := "(IIILjava/util/function/BiFunction;)I" } : Jvm.MethodName) prog_75_method_13_code (4 : Nat) (Option.some Jvm.ClassFile.FieldType.int)) ∈ lw_all := lw_g (lw_at lw_m3 94 rfl) rfl

/-! java/lang/Integer -/
set_option maxRecDepth 100000
def RJ4 : String := "java/lang/Integer"
def TJ4 : u_T := fun k => match k with
  | _ => ("java/lang/Integer", "value", "I", true)
def tyJ4 : Nat → FieldType := fun k => match k with
  | _ => .int
abbrev wsJ40 : List Cond := u_ws RJ4 TJ4 1
theorem nmJ4 : ∀ a, a < 1 → ∀ b, b < 1 → a ≠ b → (TJ4 a).2.1 ≠ (TJ4 b).2.1 := by decide +kernel
theorem tyJ4_ok : ∀ k, k < 1 → parseFieldDescriptor (TJ4 k).2.2.1 = some (tyJ4 k) := by decide +kernel
abbrev cJ4_valueOf : ByteArray := prog_20_method_22_code
def yJ4_valueOf : MethodName := ⟨RJ4, "valueOf", "(I)Ljava/lang/Integer;"⟩
def dkwJ4_valueOf_1 : List UInt8 := [187, 0, 1, 89, 26, 183, 0, 199, 176]
abbrev dktJ4_valueOf_1 : List UInt8 := dkwJ4_valueOf_1 ++ []
def dkwJ4_valueOf_0 : List UInt8 := [26, 16, 128, 161, 0, 20, 26, 178, 0, 191, 163, 0, 13, 178, 0, 195, 26, 17, 0, 128, 96, 50, 176]
abbrev dktJ4_valueOf_0 : List UInt8 := dkwJ4_valueOf_0 ++ dktJ4_valueOf_1
theorem dksJ4_valueOf_0 : cJ4_valueOf.data.toList.drop 0 = dktJ4_valueOf_0 := by decide +kernel
theorem dksJ4_valueOf_1 : cJ4_valueOf.data.toList.drop 23 = dktJ4_valueOf_1 := dk_seg dksJ4_valueOf_0 23 rfl rfl
theorem dJ4_valueOf_0 : decode cJ4_valueOf 0 = .ok (.iload_n 0, 1) := dk_26 (dk_at dksJ4_valueOf_0 0 rfl rfl)
theorem dJ4_valueOf_1 : decode cJ4_valueOf 1 = .ok (.bipush (-128), 2) := dk_16 128 (dk_at dksJ4_valueOf_0 1 rfl rfl)
theorem dJ4_valueOf_3 : decode cJ4_valueOf 3 = .ok (.if_icmp .lt 20, 3) := dk_161 0 20 (dk_at dksJ4_valueOf_0 3 rfl rfl)
theorem dJ4_valueOf_6 : decode cJ4_valueOf 6 = .ok (.iload_n 0, 1) := dk_26 (dk_at dksJ4_valueOf_0 6 rfl rfl)
theorem dJ4_valueOf_7 : decode cJ4_valueOf 7 = .ok (.getstatic 191, 3) := dk_178 0 191 (dk_at dksJ4_valueOf_0 7 rfl rfl)
theorem dJ4_valueOf_10 : decode cJ4_valueOf 10 = .ok (.if_icmp .gt 13, 3) := dk_163 0 13 (dk_at dksJ4_valueOf_0 10 rfl rfl)
theorem dJ4_valueOf_13 : decode cJ4_valueOf 13 = .ok (.getstatic 195, 3) := dk_178 0 195 (dk_at dksJ4_valueOf_0 13 rfl rfl)
theorem dJ4_valueOf_16 : decode cJ4_valueOf 16 = .ok (.iload_n 0, 1) := dk_26 (dk_at dksJ4_valueOf_0 16 rfl rfl)
theorem dJ4_valueOf_17 : decode cJ4_valueOf 17 = .ok (.sipush 128, 3) := dk_17 0 128 (dk_at dksJ4_valueOf_0 17 rfl rfl)
theorem dJ4_valueOf_20 : decode cJ4_valueOf 20 = .ok (.iadd, 1) := dk_96 (dk_at dksJ4_valueOf_0 20 rfl rfl)
theorem dJ4_valueOf_21 : decode cJ4_valueOf 21 = .ok (.aaload, 1) := dk_50 (dk_at dksJ4_valueOf_0 21 rfl rfl)
theorem dJ4_valueOf_22 : decode cJ4_valueOf 22 = .ok (.areturn, 1) := dk_176 (dk_at dksJ4_valueOf_0 22 rfl rfl)
theorem dJ4_valueOf_23 : decode cJ4_valueOf 23 = .ok (.new 1, 3) := dk_187 0 1 (dk_at dksJ4_valueOf_1 0 rfl rfl)
theorem dJ4_valueOf_26 : decode cJ4_valueOf 26 = .ok (.dup, 1) := dk_89 (dk_at dksJ4_valueOf_1 3 rfl rfl)
theorem dJ4_valueOf_27 : decode cJ4_valueOf 27 = .ok (.iload_n 0, 1) := dk_26 (dk_at dksJ4_valueOf_1 4 rfl rfl)
theorem dJ4_valueOf_28 : decode cJ4_valueOf 28 = .ok (.invokespecial 199, 3) := dk_183 0 199 (dk_at dksJ4_valueOf_1 5 rfl rfl)
theorem dJ4_valueOf_31 : decode cJ4_valueOf 31 = .ok (.areturn, 1) := dk_176 (dk_at dksJ4_valueOf_1 8 rfl rfl)
def yJ4_init : MethodName := ⟨RJ4, "<init>", "(I)V"⟩
abbrev cJ4_stringSize : ByteArray := prog_20_method_13_code
def yJ4_stringSize : MethodName := ⟨RJ4, "stringSize", "(I)I"⟩
def dkwJ4_stringSize_1 : List UInt8 := [164, 0, 7, 29, 27, 96, 172, 16, 10, 28, 104, 61, 132, 3, 1, 167, 255, 233, 16, 10, 27, 96, 172]
abbrev dktJ4_stringSize_1 : List UInt8 := dkwJ4_stringSize_1 ++ []
def dkwJ4_stringSize_0 : List UInt8 := [4, 60, 26, 155, 0, 8, 3, 60, 26, 116, 59, 16, 246, 61, 4, 62, 29, 16, 10, 162, 0, 23, 26, 28]
abbrev dktJ4_stringSize_0 : List UInt8 := dkwJ4_stringSize_0 ++ dktJ4_stringSize_1
theorem dksJ4_stringSize_0 : cJ4_stringSize.data.toList.drop 0 = dktJ4_stringSize_0 := by decide +kernel
theorem dksJ4_stringSize_1 : cJ4_stringSize.data.toList.drop 24 = dktJ4_stringSize_1 := dk_seg dksJ4_stringSize_0 24 rfl rfl
theorem dJ4_stringSize_0 : decode cJ4_stringSize 0 = .ok (.iconst 1, 1) := dk_4 (dk_at dksJ4_stringSize_0 0 rfl rfl)
theorem dJ4_stringSize_1 : decode cJ4_stringSize 1 = .ok (.istore_n 1, 1) := dk_60 (dk_at dksJ4_stringSize_0 1 rfl rfl)
theorem dJ4_stringSize_2 : decode cJ4_stringSize 2 = .ok (.iload_n 0, 1) := dk_26 (dk_at dksJ4_stringSize_0 2 rfl rfl)
theorem dJ4_stringSize_3 : decode cJ4_stringSize 3 = .ok (.ifCond .lt 8, 3) := dk_155 0 8 (dk_at dksJ4_stringSize_0 3 rfl rfl)
theorem dJ4_stringSize_6 : decode cJ4_stringSize 6 = .ok (.iconst 0, 1) := dk_3 (dk_at dksJ4_stringSize_0 6 rfl rfl)
theorem dJ4_stringSize_7 : decode cJ4_stringSize 7 = .ok (.istore_n 1, 1) := dk_60 (dk_at dksJ4_stringSize_0 7 rfl rfl)
theorem dJ4_stringSize_8 : decode cJ4_stringSize 8 = .ok (.iload_n 0, 1) := dk_26 (dk_at dksJ4_stringSize_0 8 rfl rfl)
theorem dJ4_stringSize_9 : decode cJ4_stringSize 9 = .ok (.ineg, 1) := dk_116 (dk_at dksJ4_stringSize_0 9 rfl rfl)
theorem dJ4_stringSize_10 : decode cJ4_stringSize 10 = .ok (.istore_n 0, 1) := dk_59 (dk_at dksJ4_stringSize_0 10 rfl rfl)
theorem dJ4_stringSize_11 : decode cJ4_stringSize 11 = .ok (.bipush (-10), 2) := dk_16 246 (dk_at dksJ4_stringSize_0 11 rfl rfl)
theorem dJ4_stringSize_13 : decode cJ4_stringSize 13 = .ok (.istore_n 2, 1) := dk_61 (dk_at dksJ4_stringSize_0 13 rfl rfl)
theorem dJ4_stringSize_14 : decode cJ4_stringSize 14 = .ok (.iconst 1, 1) := dk_4 (dk_at dksJ4_stringSize_0 14 rfl rfl)
theorem dJ4_stringSize_15 : decode cJ4_stringSize 15 = .ok (.istore_n 3, 1) := dk_62 (dk_at dksJ4_stringSize_0 15 rfl rfl)
theorem dJ4_stringSize_16 : decode cJ4_stringSize 16 = .ok (.iload_n 3, 1) := dk_29 (dk_at dksJ4_stringSize_0 16 rfl rfl)
theorem dJ4_stringSize_17 : decode cJ4_stringSize 17 = .ok (.bipush 10, 2) := dk_16 10 (dk_at dksJ4_stringSize_0 17 rfl rfl)
theorem dJ4_stringSize_19 : decode cJ4_stringSize 19 = .ok (.if_icmp .ge 23, 3) := dk_162 0 23 (dk_at dksJ4_stringSize_0 19 rfl rfl)
theorem dJ4_stringSize_22 : decode cJ4_stringSize 22 = .ok (.iload_n 0, 1) := dk_26 (dk_at dksJ4_stringSize_0 22 rfl rfl)
theorem dJ4_stringSize_23 : decode cJ4_stringSize 23 = .ok (.iload_n 2, 1) := dk_28 (dk_at dksJ4_stringSize_0 23 rfl rfl)
theorem dJ4_stringSize_24 : decode cJ4_stringSize 24 = .ok (.if_icmp .le 7, 3) := dk_164 0 7 (dk_at dksJ4_stringSize_1 0 rfl rfl)
theorem dJ4_stringSize_27 : decode cJ4_stringSize 27 = .ok (.iload_n 3, 1) := dk_29 (dk_at dksJ4_stringSize_1 3 rfl rfl)
theorem dJ4_stringSize_28 : decode cJ4_stringSize 28 = .ok (.iload_n 1, 1) := dk_27 (dk_at dksJ4_stringSize_1 4 rfl rfl)
theorem dJ4_stringSize_29 : decode cJ4_stringSize 29 = .ok (.iadd, 1) := dk_96 (dk_at dksJ4_stringSize_1 5 rfl rfl)
theorem dJ4_stringSize_30 : decode cJ4_stringSize 30 = .ok (.ireturn, 1) := dk_172 (dk_at dksJ4_stringSize_1 6 rfl rfl)
theorem dJ4_stringSize_31 : decode cJ4_stringSize 31 = .ok (.bipush 10, 2) := dk_16 10 (dk_at dksJ4_stringSize_1 7 rfl rfl)
theorem dJ4_stringSize_33 : decode cJ4_stringSize 33 = .ok (.iload_n 2, 1) := dk_28 (dk_at dksJ4_stringSize_1 9 rfl rfl)
theorem dJ4_stringSize_34 : decode cJ4_stringSize 34 = .ok (.imul, 1) := dk_104 (dk_at dksJ4_stringSize_1 10 rfl rfl)
theorem dJ4_stringSize_35 : decode cJ4_stringSize 35 = .ok (.istore_n 2, 1) := dk_61 (dk_at dksJ4_stringSize_1 11 rfl rfl)
theorem dJ4_stringSize_36 : decode cJ4_stringSize 36 = .ok (.iinc 3 1, 3) := dk_132 3 1 (dk_at dksJ4_stringSize_1 12 rfl rfl)
theorem dJ4_stringSize_39 : decode cJ4_stringSize 39 = .ok (.goto (-23), 3) := dk_167 255 233 (dk_at dksJ4_stringSize_1 15 rfl rfl)
theorem dJ4_stringSize_42 : decode cJ4_stringSize 42 = .ok (.bipush 10, 2) := dk_16 10 (dk_at dksJ4_stringSize_1 18 rfl rfl)
theorem dJ4_stringSize_44 : decode cJ4_stringSize 44 = .ok (.iload_n 1, 1) := dk_27 (dk_at dksJ4_stringSize_1 20 rfl rfl)
theorem dJ4_stringSize_45 : decode cJ4_stringSize 45 = .ok (.iadd, 1) := dk_96 (dk_at dksJ4_stringSize_1 21 rfl rfl)
theorem dJ4_stringSize_46 : decode cJ4_stringSize 46 = .ok (.ireturn, 1) := dk_172 (dk_at dksJ4_stringSize_1 22 rfl rfl)
abbrev cJ4_getChars : ByteArray := prog_20_method_12_code
def yJ4_getChars : MethodName := ⟨RJ4, "getChars", "(II[B)I"⟩
def dkwJ4_getChars_5 : List UInt8 := [16, 45, 84, 21, 5, 172]
abbrev dktJ4_getChars_5 : List UInt8 := dkwJ4_getChars_5 ++ []
def dkwJ4_getChars_4 : List UInt8 := [132, 5, 255, 21, 5, 178, 0, 87, 26, 116, 51, 84, 21, 6, 153, 0, 12, 44, 132, 5, 255, 21, 5]
abbrev dktJ4_getChars_4 : List UInt8 := dkwJ4_getChars_4 ++ dktJ4_getChars_5
def dkwJ4_getChars_3 : List UInt8 := [167, 255, 209, 44, 132, 5, 255, 21, 5, 178, 0, 83, 26, 116, 51, 84, 26, 16, 247, 162, 0, 16, 44]
abbrev dktJ4_getChars_3 : List UInt8 := dkwJ4_getChars_3 ++ dktJ4_getChars_4
def dkwJ4_getChars_2 : List UInt8 := [21, 5, 178, 0, 83, 21, 4, 51, 84, 44, 132, 5, 255, 21, 5, 178, 0, 87, 21, 4, 51, 84]
abbrev dktJ4_getChars_2 : List UInt8 := dkwJ4_getChars_2 ++ dktJ4_getChars_3
def dkwJ4_getChars_1 : List UInt8 := [16, 156, 163, 0, 47, 26, 16, 100, 108, 62, 29, 16, 100, 104, 26, 100, 54, 4, 29, 59, 44, 132, 5, 255]
abbrev dktJ4_getChars_1 : List UInt8 := dkwJ4_getChars_1 ++ dktJ4_getChars_2
def dkwJ4_getChars_0 : List UInt8 := [27, 54, 5, 26, 156, 0, 7, 4, 167, 0, 4, 3, 54, 6, 21, 6, 154, 0, 6, 26, 116, 59, 26]
abbrev dktJ4_getChars_0 : List UInt8 := dkwJ4_getChars_0 ++ dktJ4_getChars_1
theorem dksJ4_getChars_0 : cJ4_getChars.data.toList.drop 0 = dktJ4_getChars_0 := by decide +kernel
theorem dksJ4_getChars_1 : cJ4_getChars.data.toList.drop 23 = dktJ4_getChars_1 := dk_seg dksJ4_getChars_0 23 rfl rfl
theorem dksJ4_getChars_2 : cJ4_getChars.data.toList.drop 47 = dktJ4_getChars_2 := dk_seg dksJ4_getChars_1 24 rfl rfl
theorem dksJ4_getChars_3 : cJ4_getChars.data.toList.drop 69 = dktJ4_getChars_3 := dk_seg dksJ4_getChars_2 22 rfl rfl
theorem dksJ4_getChars_4 : cJ4_getChars.data.toList.drop 92 = dktJ4_getChars_4 := dk_seg dksJ4_getChars_3 23 rfl rfl
theorem dksJ4_getChars_5 : cJ4_getChars.data.toList.drop 115 = dktJ4_getChars_5 := dk_seg dksJ4_getChars_4 23 rfl rfl
theorem dJ4_getChars_0 : decode cJ4_getChars 0 = .ok (.iload_n 1, 1) := dk_27 (dk_at dksJ4_getChars_0 0 rfl rfl)
theorem dJ4_getChars_1 : decode cJ4_getChars 1 = .ok (.istore 5, 2) := dk_54 5 (dk_at dksJ4_getChars_0 1 rfl rfl)
theorem dJ4_getChars_3 : decode cJ4_getChars 3 = .ok (.iload_n 0, 1) := dk_26 (dk_at dksJ4_getChars_0 3 rfl rfl)
theorem dJ4_getChars_4 : decode cJ4_getChars 4 = .ok (.ifCond .ge 7, 3) := dk_156 0 7 (dk_at dksJ4_getChars_0 4 rfl rfl)
theorem dJ4_getChars_7 : decode cJ4_getChars 7 = .ok (.iconst 1, 1) := dk_4 (dk_at dksJ4_getChars_0 7 rfl rfl)
theorem dJ4_getChars_8 : decode cJ4_getChars 8 = .ok (.goto 4, 3) := dk_167 0 4 (dk_at dksJ4_getChars_0 8 rfl rfl)
theorem dJ4_getChars_11 : decode cJ4_getChars 11 = .ok (.iconst 0, 1) := dk_3 (dk_at dksJ4_getChars_0 11 rfl rfl)
theorem dJ4_getChars_12 : decode cJ4_getChars 12 = .ok (.istore 6, 2) := dk_54 6 (dk_at dksJ4_getChars_0 12 rfl rfl)
theorem dJ4_getChars_14 : decode cJ4_getChars 14 = .ok (.iload 6, 2) := dk_21 6 (dk_at dksJ4_getChars_0 14 rfl rfl)
theorem dJ4_getChars_16 : decode cJ4_getChars 16 = .ok (.ifCond .ne 6, 3) := dk_154 0 6 (dk_at dksJ4_getChars_0 16 rfl rfl)
theorem dJ4_getChars_19 : decode cJ4_getChars 19 = .ok (.iload_n 0, 1) := dk_26 (dk_at dksJ4_getChars_0 19 rfl rfl)
theorem dJ4_getChars_20 : decode cJ4_getChars 20 = .ok (.ineg, 1) := dk_116 (dk_at dksJ4_getChars_0 20 rfl rfl)
theorem dJ4_getChars_21 : decode cJ4_getChars 21 = .ok (.istore_n 0, 1) := dk_59 (dk_at dksJ4_getChars_0 21 rfl rfl)
theorem dJ4_getChars_22 : decode cJ4_getChars 22 = .ok (.iload_n 0, 1) := dk_26 (dk_at dksJ4_getChars_0 22 rfl rfl)
theorem dJ4_getChars_23 : decode cJ4_getChars 23 = .ok (.bipush (-100), 2) := dk_16 156 (dk_at dksJ4_getChars_1 0 rfl rfl)
theorem dJ4_getChars_25 : decode cJ4_getChars 25 = .ok (.if_icmp .gt 47, 3) := dk_163 0 47 (dk_at dksJ4_getChars_1 2 rfl rfl)
theorem dJ4_getChars_28 : decode cJ4_getChars 28 = .ok (.iload_n 0, 1) := dk_26 (dk_at dksJ4_getChars_1 5 rfl rfl)
theorem dJ4_getChars_29 : decode cJ4_getChars 29 = .ok (.bipush 100, 2) := dk_16 100 (dk_at dksJ4_getChars_1 6 rfl rfl)
theorem dJ4_getChars_31 : decode cJ4_getChars 31 = .ok (.idiv, 1) := dk_108 (dk_at dksJ4_getChars_1 8 rfl rfl)
theorem dJ4_getChars_32 : decode cJ4_getChars 32 = .ok (.istore_n 3, 1) := dk_62 (dk_at dksJ4_getChars_1 9 rfl rfl)
theorem dJ4_getChars_33 : decode cJ4_getChars 33 = .ok (.iload_n 3, 1) := dk_29 (dk_at dksJ4_getChars_1 10 rfl rfl)
theorem dJ4_getChars_34 : decode cJ4_getChars 34 = .ok (.bipush 100, 2) := dk_16 100 (dk_at dksJ4_getChars_1 11 rfl rfl)
theorem dJ4_getChars_36 : decode cJ4_getChars 36 = .ok (.imul, 1) := dk_104 (dk_at dksJ4_getChars_1 13 rfl rfl)
theorem dJ4_getChars_37 : decode cJ4_getChars 37 = .ok (.iload_n 0, 1) := dk_26 (dk_at dksJ4_getChars_1 14 rfl rfl)
theorem dJ4_getChars_38 : decode cJ4_getChars 38 = .ok (.isub, 1) := dk_100 (dk_at dksJ4_getChars_1 15 rfl rfl)
theorem dJ4_getChars_39 : decode cJ4_getChars 39 = .ok (.istore 4, 2) := dk_54 4 (dk_at dksJ4_getChars_1 16 rfl rfl)
theorem dJ4_getChars_41 : decode cJ4_getChars 41 = .ok (.iload_n 3, 1) := dk_29 (dk_at dksJ4_getChars_1 18 rfl rfl)
theorem dJ4_getChars_42 : decode cJ4_getChars 42 = .ok (.istore_n 0, 1) := dk_59 (dk_at dksJ4_getChars_1 19 rfl rfl)
theorem dJ4_getChars_43 : decode cJ4_getChars 43 = .ok (.aload_n 2, 1) := dk_44 (dk_at dksJ4_getChars_1 20 rfl rfl)
theorem dJ4_getChars_44 : decode cJ4_getChars 44 = .ok (.iinc 5 (-1), 3) := dk_132 5 255 (dk_at dksJ4_getChars_1 21 rfl rfl)
theorem dJ4_getChars_47 : decode cJ4_getChars 47 = .ok (.iload 5, 2) := dk_21 5 (dk_at dksJ4_getChars_2 0 rfl rfl)
theorem dJ4_getChars_49 : decode cJ4_getChars 49 = .ok (.getstatic 83, 3) := dk_178 0 83 (dk_at dksJ4_getChars_2 2 rfl rfl)
theorem dJ4_getChars_52 : decode cJ4_getChars 52 = .ok (.iload 4, 2) := dk_21 4 (dk_at dksJ4_getChars_2 5 rfl rfl)
theorem dJ4_getChars_54 : decode cJ4_getChars 54 = .ok (.baload, 1) := dk_51 (dk_at dksJ4_getChars_2 7 rfl rfl)
theorem dJ4_getChars_55 : decode cJ4_getChars 55 = .ok (.bastore, 1) := dk_84 (dk_at dksJ4_getChars_2 8 rfl rfl)
theorem dJ4_getChars_56 : decode cJ4_getChars 56 = .ok (.aload_n 2, 1) := dk_44 (dk_at dksJ4_getChars_2 9 rfl rfl)
theorem dJ4_getChars_57 : decode cJ4_getChars 57 = .ok (.iinc 5 (-1), 3) := dk_132 5 255 (dk_at dksJ4_getChars_2 10 rfl rfl)
theorem dJ4_getChars_60 : decode cJ4_getChars 60 = .ok (.iload 5, 2) := dk_21 5 (dk_at dksJ4_getChars_2 13 rfl rfl)
theorem dJ4_getChars_62 : decode cJ4_getChars 62 = .ok (.getstatic 87, 3) := dk_178 0 87 (dk_at dksJ4_getChars_2 15 rfl rfl)
theorem dJ4_getChars_65 : decode cJ4_getChars 65 = .ok (.iload 4, 2) := dk_21 4 (dk_at dksJ4_getChars_2 18 rfl rfl)
theorem dJ4_getChars_67 : decode cJ4_getChars 67 = .ok (.baload, 1) := dk_51 (dk_at dksJ4_getChars_2 20 rfl rfl)
theorem dJ4_getChars_68 : decode cJ4_getChars 68 = .ok (.bastore, 1) := dk_84 (dk_at dksJ4_getChars_2 21 rfl rfl)
theorem dJ4_getChars_69 : decode cJ4_getChars 69 = .ok (.goto (-47), 3) := dk_167 255 209 (dk_at dksJ4_getChars_3 0 rfl rfl)
theorem dJ4_getChars_72 : decode cJ4_getChars 72 = .ok (.aload_n 2, 1) := dk_44 (dk_at dksJ4_getChars_3 3 rfl rfl)
theorem dJ4_getChars_73 : decode cJ4_getChars 73 = .ok (.iinc 5 (-1), 3) := dk_132 5 255 (dk_at dksJ4_getChars_3 4 rfl rfl)
theorem dJ4_getChars_76 : decode cJ4_getChars 76 = .ok (.iload 5, 2) := dk_21 5 (dk_at dksJ4_getChars_3 7 rfl rfl)
theorem dJ4_getChars_78 : decode cJ4_getChars 78 = .ok (.getstatic 83, 3) := dk_178 0 83 (dk_at dksJ4_getChars_3 9 rfl rfl)
theorem dJ4_getChars_81 : decode cJ4_getChars 81 = .ok (.iload_n 0, 1) := dk_26 (dk_at dksJ4_getChars_3 12 rfl rfl)
theorem dJ4_getChars_82 : decode cJ4_getChars 82 = .ok (.ineg, 1) := dk_116 (dk_at dksJ4_getChars_3 13 rfl rfl)
theorem dJ4_getChars_83 : decode cJ4_getChars 83 = .ok (.baload, 1) := dk_51 (dk_at dksJ4_getChars_3 14 rfl rfl)
theorem dJ4_getChars_84 : decode cJ4_getChars 84 = .ok (.bastore, 1) := dk_84 (dk_at dksJ4_getChars_3 15 rfl rfl)
theorem dJ4_getChars_85 : decode cJ4_getChars 85 = .ok (.iload_n 0, 1) := dk_26 (dk_at dksJ4_getChars_3 16 rfl rfl)
theorem dJ4_getChars_86 : decode cJ4_getChars 86 = .ok (.bipush (-9), 2) := dk_16 247 (dk_at dksJ4_getChars_3 17 rfl rfl)
theorem dJ4_getChars_88 : decode cJ4_getChars 88 = .ok (.if_icmp .ge 16, 3) := dk_162 0 16 (dk_at dksJ4_getChars_3 19 rfl rfl)
theorem dJ4_getChars_91 : decode cJ4_getChars 91 = .ok (.aload_n 2, 1) := dk_44 (dk_at dksJ4_getChars_3 22 rfl rfl)
theorem dJ4_getChars_92 : decode cJ4_getChars 92 = .ok (.iinc 5 (-1), 3) := dk_132 5 255 (dk_at dksJ4_getChars_4 0 rfl rfl)
theorem dJ4_getChars_95 : decode cJ4_getChars 95 = .ok (.iload 5, 2) := dk_21 5 (dk_at dksJ4_getChars_4 3 rfl rfl)
theorem dJ4_getChars_97 : decode cJ4_getChars 97 = .ok (.getstatic 87, 3) := dk_178 0 87 (dk_at dksJ4_getChars_4 5 rfl rfl)
theorem dJ4_getChars_100 : decode cJ4_getChars 100 = .ok (.iload_n 0, 1) := dk_26 (dk_at dksJ4_getChars_4 8 rfl rfl)
theorem dJ4_getChars_101 : decode cJ4_getChars 101 = .ok (.ineg, 1) := dk_116 (dk_at dksJ4_getChars_4 9 rfl rfl)
theorem dJ4_getChars_102 : decode cJ4_getChars 102 = .ok (.baload, 1) := dk_51 (dk_at dksJ4_getChars_4 10 rfl rfl)
theorem dJ4_getChars_103 : decode cJ4_getChars 103 = .ok (.bastore, 1) := dk_84 (dk_at dksJ4_getChars_4 11 rfl rfl)
theorem dJ4_getChars_104 : decode cJ4_getChars 104 = .ok (.iload 6, 2) := dk_21 6 (dk_at dksJ4_getChars_4 12 rfl rfl)
theorem dJ4_getChars_106 : decode cJ4_getChars 106 = .ok (.ifCond .eq 12, 3) := dk_153 0 12 (dk_at dksJ4_getChars_4 14 rfl rfl)
theorem dJ4_getChars_109 : decode cJ4_getChars 109 = .ok (.aload_n 2, 1) := dk_44 (dk_at dksJ4_getChars_4 17 rfl rfl)
theorem dJ4_getChars_110 : decode cJ4_getChars 110 = .ok (.iinc 5 (-1), 3) := dk_132 5 255 (dk_at dksJ4_getChars_4 18 rfl rfl)
theorem dJ4_getChars_113 : decode cJ4_getChars 113 = .ok (.iload 5, 2) := dk_21 5 (dk_at dksJ4_getChars_4 21 rfl rfl)
theorem dJ4_getChars_115 : decode cJ4_getChars 115 = .ok (.bipush 45, 2) := dk_16 45 (dk_at dksJ4_getChars_5 0 rfl rfl)
theorem dJ4_getChars_117 : decode cJ4_getChars 117 = .ok (.bastore, 1) := dk_84 (dk_at dksJ4_getChars_5 2 rfl rfl)
theorem dJ4_getChars_118 : decode cJ4_getChars 118 = .ok (.iload 5, 2) := dk_21 5 (dk_at dksJ4_getChars_5 3 rfl rfl)
theorem dJ4_getChars_120 : decode cJ4_getChars 120 = .ok (.ireturn, 1) := dk_172 (dk_at dksJ4_getChars_5 5 rfl rfl)
abbrev cJ4_equals : ByteArray := prog_20_method_34_code
def yJ4_equals : MethodName := ⟨RJ4, "equals", "(Ljava/lang/Object;)Z"⟩
def dkwJ4_equals_1 : List UInt8 := [167, 0, 4, 3, 172, 3, 172]
abbrev dktJ4_equals_1 : List UInt8 := dkwJ4_equals_1 ++ []
def dkwJ4_equals_0 : List UInt8 := [43, 193, 0, 1, 153, 0, 23, 42, 180, 0, 205, 43, 192, 0, 1, 182, 0, 211, 160, 0, 7, 4]
abbrev dktJ4_equals_0 : List UInt8 := dkwJ4_equals_0 ++ dktJ4_equals_1
theorem dksJ4_equals_0 : cJ4_equals.data.toList.drop 0 = dktJ4_equals_0 := by decide +kernel
theorem dksJ4_equals_1 : cJ4_equals.data.toList.drop 22 = dktJ4_equals_1 := dk_seg dksJ4_equals_0 22 rfl rfl
theorem dJ4_equals_0 : decode cJ4_equals 0 = .ok (.aload_n 1, 1) := dk_43 (dk_at dksJ4_equals_0 0 rfl rfl)
theorem dJ4_equals_1 : decode cJ4_equals 1 = .ok (.instanceof 1, 3) := dk_193 0 1 (dk_at dksJ4_equals_0 1 rfl rfl)
theorem dJ4_equals_4 : decode cJ4_equals 4 = .ok (.ifCond .eq 23, 3) := dk_153 0 23 (dk_at dksJ4_equals_0 4 rfl rfl)
theorem dJ4_equals_7 : decode cJ4_equals 7 = .ok (.aload_n 0, 1) := dk_42 (dk_at dksJ4_equals_0 7 rfl rfl)
theorem dJ4_equals_8 : decode cJ4_equals 8 = .ok (.getfield 205, 3) := dk_180 0 205 (dk_at dksJ4_equals_0 8 rfl rfl)
theorem dJ4_equals_11 : decode cJ4_equals 11 = .ok (.aload_n 1, 1) := dk_43 (dk_at dksJ4_equals_0 11 rfl rfl)
theorem dJ4_equals_12 : decode cJ4_equals 12 = .ok (.checkcast 1, 3) := dk_192 0 1 (dk_at dksJ4_equals_0 12 rfl rfl)
theorem dJ4_equals_15 : decode cJ4_equals 15 = .ok (.invokevirtual 211, 3) := dk_182 0 211 (dk_at dksJ4_equals_0 15 rfl rfl)
theorem dJ4_equals_18 : decode cJ4_equals 18 = .ok (.if_icmp .ne 7, 3) := dk_160 0 7 (dk_at dksJ4_equals_0 18 rfl rfl)
theorem dJ4_equals_21 : decode cJ4_equals 21 = .ok (.iconst 1, 1) := dk_4 (dk_at dksJ4_equals_0 21 rfl rfl)
theorem dJ4_equals_22 : decode cJ4_equals 22 = .ok (.goto 4, 3) := dk_167 0 4 (dk_at dksJ4_equals_1 0 rfl rfl)
theorem dJ4_equals_25 : decode cJ4_equals 25 = .ok (.iconst 0, 1) := dk_3 (dk_at dksJ4_equals_1 3 rfl rfl)
theorem dJ4_equals_26 : decode cJ4_equals 26 = .ok (.ireturn, 1) := dk_172 (dk_at dksJ4_equals_1 4 rfl rfl)
theorem dJ4_equals_27 : decode cJ4_equals 27 = .ok (.iconst 0, 1) := dk_3 (dk_at dksJ4_equals_1 5 rfl rfl)
theorem dJ4_equals_28 : decode cJ4_equals 28 = .ok (.ireturn, 1) := dk_172 (dk_at dksJ4_equals_1 6 rfl rfl)
abbrev cJ4_intValue : ByteArray := prog_20_method_27_code
def yJ4_intValue : MethodName := ⟨RJ4, "intValue", "()I"⟩
theorem dJ4_intValue_0 : decode cJ4_intValue 0 = .ok (.aload_n 0, 1) := by decide +kernel
theorem dJ4_intValue_1 : decode cJ4_intValue 1 = .ok (.getfield 205, 3) := by decide +kernel
theorem dJ4_intValue_4 : decode cJ4_intValue 4 = .ok (.ireturn, 1) := by decide +kernel
abbrev cJ4_hashCode : ByteArray := prog_20_method_32_code
def yJ4_hashCode : MethodName := ⟨RJ4, "hashCode", "()I"⟩
def dkwJ4_hashCode_0 : List UInt8 := [42, 180, 0, 205, 184, 0, 208, 172]
abbrev dktJ4_hashCode_0 : List UInt8 := dkwJ4_hashCode_0 ++ []
theorem dksJ4_hashCode_0 : cJ4_hashCode.data.toList.drop 0 = dktJ4_hashCode_0 := by decide +kernel
theorem dJ4_hashCode_0 : decode cJ4_hashCode 0 = .ok (.aload_n 0, 1) := dk_42 (dk_at dksJ4_hashCode_0 0 rfl rfl)
theorem dJ4_hashCode_1 : decode cJ4_hashCode 1 = .ok (.getfield 205, 3) := dk_180 0 205 (dk_at dksJ4_hashCode_0 1 rfl rfl)
theorem dJ4_hashCode_4 : decode cJ4_hashCode 4 = .ok (.invokestatic 208, 3) := dk_184 0 208 (dk_at dksJ4_hashCode_0 4 rfl rfl)
theorem dJ4_hashCode_7 : decode cJ4_hashCode 7 = .ok (.ireturn, 1) := dk_172 (dk_at dksJ4_hashCode_0 7 rfl rfl)
abbrev cJ4_hashCode_2 : ByteArray := prog_20_method_33_code
def yJ4_hashCode_2 : MethodName := ⟨RJ4, "hashCode", "(I)I"⟩
theorem dJ4_hashCode_2_0 : decode cJ4_hashCode_2 0 = .ok (.iload_n 0, 1) := by decide +kernel
theorem dJ4_hashCode_2_1 : decode cJ4_hashCode_2 1 = .ok (.ireturn, 1) := by decide +kernel
def yJ4_compareTo : MethodName := ⟨RJ4, "compareTo", "(Ljava/lang/Object;)I"⟩
def yJ4_compareTo_2 : MethodName := ⟨RJ4, "compareTo", "(Ljava/lang/Integer;)I"⟩
abbrev cJ4_compare : ByteArray := prog_20_method_40_code
def yJ4_compare : MethodName := ⟨RJ4, "compare", "(II)I"⟩
def dkwJ4_compare_0 : List UInt8 := [26, 27, 162, 0, 7, 2, 167, 0, 13, 26, 27, 160, 0, 7, 3, 167, 0, 4, 4, 172]
abbrev dktJ4_compare_0 : List UInt8 := dkwJ4_compare_0 ++ []
theorem dksJ4_compare_0 : cJ4_compare.data.toList.drop 0 = dktJ4_compare_0 := by decide +kernel
theorem dJ4_compare_0 : decode cJ4_compare 0 = .ok (.iload_n 0, 1) := dk_26 (dk_at dksJ4_compare_0 0 rfl rfl)
theorem dJ4_compare_1 : decode cJ4_compare 1 = .ok (.iload_n 1, 1) := dk_27 (dk_at dksJ4_compare_0 1 rfl rfl)
theorem dJ4_compare_2 : decode cJ4_compare 2 = .ok (.if_icmp .ge 7, 3) := dk_162 0 7 (dk_at dksJ4_compare_0 2 rfl rfl)
theorem dJ4_compare_5 : decode cJ4_compare 5 = .ok (.iconst (-1), 1) := dk_2 (dk_at dksJ4_compare_0 5 rfl rfl)
theorem dJ4_compare_6 : decode cJ4_compare 6 = .ok (.goto 13, 3) := dk_167 0 13 (dk_at dksJ4_compare_0 6 rfl rfl)
theorem dJ4_compare_9 : decode cJ4_compare 9 = .ok (.iload_n 0, 1) := dk_26 (dk_at dksJ4_compare_0 9 rfl rfl)
theorem dJ4_compare_10 : decode cJ4_compare 10 = .ok (.iload_n 1, 1) := dk_27 (dk_at dksJ4_compare_0 10 rfl rfl)
theorem dJ4_compare_11 : decode cJ4_compare 11 = .ok (.if_icmp .ne 7, 3) := dk_160 0 7 (dk_at dksJ4_compare_0 11 rfl rfl)
theorem dJ4_compare_14 : decode cJ4_compare 14 = .ok (.iconst 0, 1) := dk_3 (dk_at dksJ4_compare_0 14 rfl rfl)
theorem dJ4_compare_15 : decode cJ4_compare 15 = .ok (.goto 4, 3) := dk_167 0 4 (dk_at dksJ4_compare_0 15 rfl rfl)
theorem dJ4_compare_18 : decode cJ4_compare 18 = .ok (.iconst 1, 1) := dk_4 (dk_at dksJ4_compare_0 18 rfl rfl)
theorem dJ4_compare_19 : decode cJ4_compare 19 = .ok (.ireturn, 1) := dk_172 (dk_at dksJ4_compare_0 19 rfl rfl)
def yJ4_numberOfLeadingZeros : MethodName := ⟨RJ4, "numberOfLeadingZeros", "(I)I"⟩
def yJ4_numberOfTrailingZeros : MethodName := ⟨RJ4, "numberOfTrailingZeros", "(I)I"⟩
theorem q61 : (Jvm.Cond.initialized "java/lang/Integer") ∈ lw_all := lw_g (lw_at lw_m1 6 rfl) rfl
theorem q166 : (Jvm.Cond.static ({ cls := "java/lang/Integer", name := "valueOf", desc := "(I)Ljava/lang/Integer;" } : Jvm.MethodName)) ∈ lw_all := lw_g (lw_at lw_m1 111 rfl) rfl
theorem q167 : (Jvm.Cond.code ({ cls := "java/lang/Integer", name := "valueOf", desc := "(I)Ljava/lang/Integer;" } : Jvm.MethodName) prog_20_method_22_code (1 : Nat) (Option.some (Jvm.ClassFile.FieldType.object "java/lang/Integer"))) ∈ lw_all := lw_g (lw_at lw_m1 112 rfl) rfl
theorem q168 : (Jvm.Cond.fieldLink "java/lang/Integer" (191 : Nat) "java/lang/Integer$IntegerCache" "high" "I") ∈ lw_all := lw_g (lw_at lw_m1 113 rfl) rfl
theorem q170 : (Jvm.Cond.fieldLink "java/lang/Integer" (195 : Nat) "java/lang/Integer$IntegerCache" "cache" "[Ljava/lang/Integer;") ∈ lw_all := lw_g (lw_at lw_m1 115 rfl) rfl
theorem q172 : (Jvm.Cond.classLink "java/lang/Integer" (1 : Nat) "java/lang/Integer") ∈ lw_all := lw_g (lw_at lw_m1 117 rfl) rfl
theorem q173 : (Jvm.Cond.instantiable "java/lang/Integer" (1 : Nat)) ∈ lw_all := lw_g (lw_at lw_m1 118 rfl) rfl
theorem q174 : (Jvm.Cond.methodLink "java/lang/Integer" (199 : Nat) ({ cls := "java/lang/Integer", name := "<init>", desc := "(I)V" } : Jvm.MethodName)) ∈ lw_all := lw_g (lw_at lw_m1 119 rfl) rfl
theorem q175 : (Jvm.Cond.instanceMethod ({ cls := "java/lang/Integer", name := "<init>", desc := "(I)V" } : Jvm.MethodName)) ∈ lw_all := lw_g (lw_at lw_m1 120 rfl) rfl
theorem q176 : (Jvm.Cond.code ({ cls := "java/lang/Integer", name := "<init>", desc := "(I)V" } : Jvm.MethodName) prog_20_method_23_code (2 : Nat) (Option.none : Option Jvm.ClassFile.FieldType)) ∈ lw_all := lw_g (lw_at lw_m1 121 rfl) rfl
theorem q177 : (Jvm.Cond.methodLink "java/lang/Integer" (202 : Nat) ({ cls := "java/lang/Number", name := "<init>", desc := "()V" } : Jvm.MethodName)) ∈ lw_all := lw_g (lw_at lw_m1 122 rfl) rfl
theorem q181 : (Jvm.Cond.fieldLink "java/lang/Integer" (205 : Nat) "java/lang/Integer" "value" "I") ∈ lw_all := lw_g (lw_at lw_m1 126 rfl) rfl
theorem q182 : (Jvm.Cond.laysFinal "java/lang/Integer" "java/lang/Integer" "value" "I") ∈ lw_all := lw_g (lw_at lw_m1 127 rfl) rfl
theorem q183 : (Jvm.Cond.soleField "java/lang/Integer" "value") ∈ lw_all := lw_g (lw_at lw_m1 128 rfl) rfl
theorem q184 : (Jvm.Cond.superclass "java/lang/Integer" "java/lang/Number") ∈ lw_all := lw_g (lw_at lw_m1 129 rfl) rfl
theorem q229 : (Jvm.Cond.selects "java/lang/Integer" ({ cls := "java/lang/Object", name := "getClass", desc := "()Ljava/lang/Class;" } : Jvm.MethodName) ({ cls := "java/lang/Object", name := "getClass", desc := "()Ljava/lang/Class;" } : Jvm.MethodName)) ∈ lw_all := lw_g (lw_at lw_m1 174 rfl) rfl
theorem q644 : (Jvm.Cond.static ({ cls := "java/lang/Integer", name := "stringSize", desc := "(I)I" } : Jvm.MethodName)) ∈ lw_all := lw_g (lw_at lw_m3 109 rfl) rfl
theorem q645 : (Jvm.Cond.code ({ cls := "java/lang/Integer", name := "stringSize", desc := "(I)I" } : Jvm.MethodName) prog_20_method_13_code (4 : Nat) (Option.some Jvm.ClassFile.FieldType.int)) ∈ lw_all := lw_g (lw_at lw_m3 110 rfl) rfl
theorem q647 : (Jvm.Cond.static ({ cls := "java/lang/Integer", name := "getChars", desc := "(II[B)I" } : Jvm.MethodName)) ∈ lw_all := lw_g (lw_at lw_m3 112 rfl) rfl
theorem q648 : (Jvm.Cond.code ({ cls := "java/lang/Integer", name := "getChars", desc := "(II[B)I" } : Jvm.MethodName) prog_20_method_12_code (7 : Nat) (Option.some Jvm.ClassFile.FieldType.int)) ∈ lw_all := lw_g (lw_at lw_m3 113 rfl) rfl
theorem q649 : (Jvm.Cond.fieldLink "java/lang/Integer" (83 : Nat) "java/lang/Integer" "DigitOnes" "[B") ∈ lw_all := lw_g (lw_at lw_m3 114 rfl) rfl
theorem q650 : (Jvm.Cond.laysStatic "java/lang/Integer" "DigitOnes" "[B") ∈ lw_tbl := lw_at lw_m3 115 rfl
theorem q651 : (Jvm.Cond.fieldLink "java/lang/Integer" (87 : Nat) "java/lang/Integer" "DigitTens" "[B") ∈ lw_all := lw_g (lw_at lw_m3 116 rfl) rfl
theorem q652 : (Jvm.Cond.laysStatic "java/lang/Integer" "DigitTens" "[B") ∈ lw_tbl := lw_at lw_m3 117 rfl
theorem q1117 : (Jvm.Cond.selects "java/lang/Integer" ({ cls := "java/lang/Object", name := "equals", desc := "(Ljava/lang/Object;)Z" } : Jvm.MethodName) ({ cls := "java/lang/Integer", name := "equals", desc := "(Ljava/lang/Object;)Z" } : Jvm.MethodName)) ∈ lw_all := lw_g (lw_at lw_m5 102 rfl) rfl
theorem q1118 : (Jvm.Cond.instanceMethod ({ cls := "java/lang/Integer", name := "equals", desc := "(Ljava/lang/Object;)Z" } : Jvm.MethodName)) ∈ lw_all := lw_g (lw_at lw_m5 103 rfl) rfl
theorem q1119 : (Jvm.Cond.code ({ cls := "java/lang/Integer", name := "equals", desc := "(Ljava/lang/Object;)Z" } : Jvm.MethodName) prog_20_method_34_code (2 : Nat) (Option.some Jvm.ClassFile.FieldType.boolean)) ∈ lw_all := lw_g (lw_at lw_m5 104 rfl) rfl
theorem q1120 : (Jvm.Cond.methodLink "java/lang/Integer" (211 : Nat) ({ cls := "java/lang/Integer", name := "intValue", desc := "()I" } : Jvm.MethodName)) ∈ lw_all := lw_g (lw_at lw_m5 105 rfl) rfl
theorem q1121 : (Jvm.Cond.instanceMethod ({ cls := "java/lang/Integer", name := "intValue", desc := "()I" } : Jvm.MethodName)) ∈ lw_all := lw_g (lw_at lw_m5 106 rfl) rfl
theorem q1122 : (Jvm.Cond.selects "java/lang/Integer" ({ cls := "java/lang/Integer", name := "intValue", desc := "()I" } : Jvm.MethodName) ({ cls := "java/lang/Integer", name := "intValue", desc := "()I" } : Jvm.MethodName)) ∈ lw_all := lw_g (lw_at lw_m5 107 rfl) rfl
theorem q1123 : (Jvm.Cond.code ({ cls := "java/lang/Integer", name := "intValue", desc := "()I" } : Jvm.MethodName) prog_20_method_27_code (1 : Nat) (Option.some Jvm.ClassFile.FieldType.int)) ∈ lw_all := lw_g (lw_at lw_m5 108 rfl) rfl
theorem q1305 : (Jvm.Cond.selects "java/lang/Integer" ({ cls := "java/lang/Object", name := "hashCode", desc := "()I" } : Jvm.MethodName) ({ cls := "java/lang/Integer", name := "hashCode", desc := "()I" } : Jvm.MethodName)) ∈ lw_all := lw_g (lw_at lw_m6 50 rfl) rfl
theorem q1306 : (Jvm.Cond.instanceMethod ({ cls := "java/lang/Integer", name := "hashCode", desc := "()I" } : Jvm.MethodName)) ∈ lw_all := lw_g (lw_at lw_m6 51 rfl) rfl
theorem q1307 : (Jvm.Cond.code ({ cls := "java/lang/Integer", name := "hashCode", desc := "()I" } : Jvm.MethodName) prog_20_method_32_code (1 : Nat) (Option.some Jvm.ClassFile.FieldType.int)) ∈ lw_all := lw_g (lw_at lw_m6 52 rfl) rfl
theorem q1308 : (Jvm.Cond.methodLink "java/lang/Integer" (208 : Nat) ({ cls := "java/lang/Integer", name := "hashCode", desc := "(I)I" } : Jvm.MethodName)) ∈ lw_all := lw_g (lw_at lw_m6 53 rfl) rfl
theorem q1309 : (Jvm.Cond.static ({ cls := "java/lang/Integer", name := "hashCode", desc := "(I)I" } : Jvm.MethodName)) ∈ lw_all := lw_g (lw_at lw_m6 54 rfl) rfl
theorem q1310 : (Jvm.Cond.code ({ cls := "java/lang/Integer", name := "hashCode", desc := "(I)I" } : Jvm.MethodName) prog_20_method_33_code (1 : Nat) (Option.some Jvm.ClassFile.FieldType.int)) ∈ lw_all := lw_g (lw_at lw_m6 55 rfl) rfl
theorem q2698 : (Jvm.Cond.castable "java/lang/Integer" "java/lang/Comparable") ∈ lw_tbl := lw_at lw_m12 3 rfl
theorem q2699 : (Jvm.Cond.selects "java/lang/Integer" ({ cls := "java/lang/Comparable", name := "compareTo", desc := "(Ljava/lang/Object;)I" } : Jvm.MethodName) ({ cls := "java/lang/Integer", name := "compareTo", desc := "(Ljava/lang/Object;)I" } : Jvm.MethodName)) ∈ lw_all := lw_g (lw_at lw_m12 4 rfl) rfl
theorem q2700 : (Jvm.Cond.unhidden "java/lang/Integer" "compareTo" "(Ljava/lang/Object;)I") ∈ lw_tbl := lw_at lw_m12 5 rfl
theorem q2701 : (Jvm.Cond.instanceMethod ({ cls := "java/lang/Integer", name := "compareTo", desc := "(Ljava/lang/Object;)I" } : Jvm.MethodName)) ∈ lw_all := lw_g (lw_at lw_m12 6 rfl) rfl
theorem q2702 : (Jvm.Cond.publicMethod ({ cls := "java/lang/Integer", name := "compareTo", desc := "(Ljava/lang/Object;)I" } : Jvm.MethodName)) ∈ lw_tbl := lw_at lw_m12 7 rfl
theorem q2703 : (Jvm.Cond.code ({ cls := "java/lang/Integer", name := "compareTo", desc := "(Ljava/lang/Object;)I" } : Jvm.MethodName) prog_20_method_63_code (2 : Nat) (Option.some Jvm.ClassFile.FieldType.int)) ∈ lw_all := lw_g (lw_at lw_m12 8 rfl) rfl
theorem q2704 : (Jvm.Cond.methodLink "java/lang/Integer" (284 : Nat) ({ cls := "java/lang/Integer", name := "compareTo", desc := "(Ljava/lang/Integer;)I" } : Jvm.MethodName)) ∈ lw_all := lw_g (lw_at lw_m12 9 rfl) rfl
theorem q2705 : (Jvm.Cond.instanceMethod ({ cls := "java/lang/Integer", name := "compareTo", desc := "(Ljava/lang/Integer;)I" } : Jvm.MethodName)) ∈ lw_all := lw_g (lw_at lw_m12 10 rfl) rfl
theorem q2706 : (Jvm.Cond.selects "java/lang/Integer" ({ cls := "java/lang/Integer", name := "compareTo", desc := "(Ljava/lang/Integer;)I" } : Jvm.MethodName) ({ cls := "java/lang/Integer", name := "compareTo", desc := "(Ljava/lang/Integer;)I" } : Jvm.MethodName)) ∈ lw_all := lw_g (lw_at lw_m12 11 rfl) rfl
theorem q2707 : (Jvm.Cond.code ({ cls := "java/lang/Integer", name := "compareTo", desc := "(Ljava/lang/Integer;)I" } : Jvm.MethodName) prog_20_method_39_code (2 : Nat) (Option.some Jvm.ClassFile.FieldType.int)) ∈ lw_all := lw_g (lw_at lw_m12 12 rfl) rfl
theorem q2708 : (Jvm.Cond.methodLink "java/lang/Integer" (259 : Nat) ({ cls := "java/lang/Integer", name := "compare", desc := "(II)I" } : Jvm.MethodName)) ∈ lw_all := lw_g (lw_at lw_m12 13 rfl) rfl
theorem q2709 : (Jvm.Cond.static ({ cls := "java/lang/Integer", name := "compare", desc := "(II)I" } : Jvm.MethodName)) ∈ lw_all := lw_g (lw_at lw_m12 14 rfl) rfl
theorem q2710 : (Jvm.Cond.code ({ cls := "java/lang/Integer", name := "compare", desc := "(II)I" } : Jvm.MethodName) prog_20_method_40_code (2 : Nat) (Option.some Jvm.ClassFile.FieldType.int)) ∈ lw_all := lw_g (lw_at lw_m12 15 rfl) rfl
theorem q2800 : (Jvm.Cond.static ({ cls := "java/lang/Integer", name := "numberOfLeadingZeros", desc := "(I)I" } : Jvm.MethodName)) ∈ lw_all := lw_g (lw_at lw_m12 105 rfl) rfl
theorem q2801 : (Jvm.Cond.code ({ cls := "java/lang/Integer", name := "numberOfLeadingZeros", desc := "(I)I" } : Jvm.MethodName) prog_20_method_47_code (2 : Nat) (Option.some Jvm.ClassFile.FieldType.int)) ∈ lw_all := lw_g (lw_at lw_m12 106 rfl) rfl
theorem q2802 : (Jvm.Cond.constant "java/lang/Integer" (264 : Nat) (65536 : Int32)) ∈ lw_all := lw_g (lw_at lw_m12 107 rfl) rfl
theorem q2809 : (Jvm.Cond.static ({ cls := "java/lang/Integer", name := "numberOfTrailingZeros", desc := "(I)I" } : Jvm.MethodName)) ∈ lw_all := lw_g (lw_at lw_m12 114 rfl) rfl
theorem q2810 : (Jvm.Cond.code ({ cls := "java/lang/Integer", name := "numberOfTrailingZeros", desc := "(I)I" } : Jvm.MethodName) prog_20_method_48_code (2 : Nat) (Option.some Jvm.ClassFile.FieldType.int)) ∈ lw_all := lw_g (lw_at lw_m12 115 rfl) rfl
theorem q3899 : (Jvm.Cond.castable "java/lang/Integer" "java/lang/Object") ∈ lw_tbl := lw_at lw_m17 4 rfl
theorem in_J4 : ∀ w ∈ wsJ40, w ∈ lw_all := lw_in wsJ40 [182] (by decide +kernel) (by decide +kernel)

/-! java/lang/Number -/
set_option maxRecDepth 100000
def RJ3 : String := "java/lang/Number"
abbrev cJ3_init : ByteArray := prog_25_method_1_code
def yJ3_init : MethodName := ⟨RJ3, "<init>", "()V"⟩
theorem dJ3_init_0 : decode cJ3_init 0 = .ok (.aload_n 0, 1) := by decide +kernel
theorem dJ3_init_1 : decode cJ3_init 1 = .ok (.invokespecial 1, 3) := by decide +kernel
theorem dJ3_init_4 : decode cJ3_init 4 = .ok (.return_, 1) := by decide +kernel
theorem q60 : (Jvm.Cond.initialized "java/lang/Number") ∈ lw_all := lw_g (lw_at lw_m1 5 rfl) rfl
theorem q178 : (Jvm.Cond.instanceMethod ({ cls := "java/lang/Number", name := "<init>", desc := "()V" } : Jvm.MethodName)) ∈ lw_all := lw_g (lw_at lw_m1 123 rfl) rfl
theorem q179 : (Jvm.Cond.code ({ cls := "java/lang/Number", name := "<init>", desc := "()V" } : Jvm.MethodName) prog_25_method_1_code (1 : Nat) (Option.none : Option Jvm.ClassFile.FieldType)) ∈ lw_all := lw_g (lw_at lw_m1 124 rfl) rfl
theorem q180 : (Jvm.Cond.methodLink "java/lang/Number" (1 : Nat) ({ cls := "java/lang/Object", name := "<init>", desc := "()V" } : Jvm.MethodName)) ∈ lw_all := lw_g (lw_at lw_m1 125 rfl) rfl

/-! java/lang/Math -/
set_option maxRecDepth 100000
def RJ6 : String := "java/lang/Math"
abbrev cJ6_max : ByteArray := prog_24_method_65_code
def yJ6_max : MethodName := ⟨RJ6, "max", "(II)I"⟩
def dkwJ6_max_0 : List UInt8 := [26, 27, 161, 0, 7, 26, 167, 0, 4, 27, 172]
abbrev dktJ6_max_0 : List UInt8 := dkwJ6_max_0 ++ []
theorem dksJ6_max_0 : cJ6_max.data.toList.drop 0 = dktJ6_max_0 := by decide +kernel
theorem dJ6_max_0 : decode cJ6_max 0 = .ok (.iload_n 0, 1) := dk_26 (dk_at dksJ6_max_0 0 rfl rfl)
theorem dJ6_max_1 : decode cJ6_max 1 = .ok (.iload_n 1, 1) := dk_27 (dk_at dksJ6_max_0 1 rfl rfl)
theorem dJ6_max_2 : decode cJ6_max 2 = .ok (.if_icmp .lt 7, 3) := dk_161 0 7 (dk_at dksJ6_max_0 2 rfl rfl)
theorem dJ6_max_5 : decode cJ6_max 5 = .ok (.iload_n 0, 1) := dk_26 (dk_at dksJ6_max_0 5 rfl rfl)
theorem dJ6_max_6 : decode cJ6_max 6 = .ok (.goto 4, 3) := dk_167 0 4 (dk_at dksJ6_max_0 6 rfl rfl)
theorem dJ6_max_9 : decode cJ6_max 9 = .ok (.iload_n 1, 1) := dk_27 (dk_at dksJ6_max_0 9 rfl rfl)
theorem dJ6_max_10 : decode cJ6_max 10 = .ok (.ireturn, 1) := dk_172 (dk_at dksJ6_max_0 10 rfl rfl)
abbrev cJ6_min : ByteArray := prog_24_method_69_code
def yJ6_min : MethodName := ⟨RJ6, "min", "(II)I"⟩
def dkwJ6_min_0 : List UInt8 := [26, 27, 163, 0, 7, 26, 167, 0, 4, 27, 172]
abbrev dktJ6_min_0 : List UInt8 := dkwJ6_min_0 ++ []
theorem dksJ6_min_0 : cJ6_min.data.toList.drop 0 = dktJ6_min_0 := by decide +kernel
theorem dJ6_min_0 : decode cJ6_min 0 = .ok (.iload_n 0, 1) := dk_26 (dk_at dksJ6_min_0 0 rfl rfl)
theorem dJ6_min_1 : decode cJ6_min 1 = .ok (.iload_n 1, 1) := dk_27 (dk_at dksJ6_min_0 1 rfl rfl)
theorem dJ6_min_2 : decode cJ6_min 2 = .ok (.if_icmp .gt 7, 3) := dk_163 0 7 (dk_at dksJ6_min_0 2 rfl rfl)
theorem dJ6_min_5 : decode cJ6_min 5 = .ok (.iload_n 0, 1) := dk_26 (dk_at dksJ6_min_0 5 rfl rfl)
theorem dJ6_min_6 : decode cJ6_min 6 = .ok (.goto 4, 3) := dk_167 0 4 (dk_at dksJ6_min_0 6 rfl rfl)
theorem dJ6_min_9 : decode cJ6_min 9 = .ok (.iload_n 1, 1) := dk_27 (dk_at dksJ6_min_0 9 rfl rfl)
theorem dJ6_min_10 : decode cJ6_min 10 = .ok (.ireturn, 1) := dk_172 (dk_at dksJ6_min_0 10 rfl rfl)
theorem q64 : (Jvm.Cond.initialized "java/lang/Math") ∈ lw_all := lw_g (lw_at lw_m1 9 rfl) rfl
theorem q206 : (Jvm.Cond.static ({ cls := "java/lang/Math", name := "max", desc := "(II)I" } : Jvm.MethodName)) ∈ lw_all := lw_g (lw_at lw_m1 151 rfl) rfl
theorem q207 : (Jvm.Cond.code ({ cls := "java/lang/Math", name := "max", desc := "(II)I" } : Jvm.MethodName) prog_24_method_65_code (2 : Nat) (Option.some Jvm.ClassFile.FieldType.int)) ∈ lw_all := lw_g (lw_at lw_m1 152 rfl) rfl
theorem q258 : (Jvm.Cond.static ({ cls := "java/lang/Math", name := "min", desc := "(II)I" } : Jvm.MethodName)) ∈ lw_all := lw_g (lw_at lw_m1 203 rfl) rfl
theorem q259 : (Jvm.Cond.code ({ cls := "java/lang/Math", name := "min", desc := "(II)I" } : Jvm.MethodName) prog_24_method_69_code (2 : Nat) (Option.some Jvm.ClassFile.FieldType.int)) ∈ lw_all := lw_g (lw_at lw_m1 204 rfl) rfl

/-! jdk/internal/util/ArraysSupport -/
set_option maxRecDepth 100000
def RJ5 : String := "jdk/internal/util/ArraysSupport"
abbrev cJ5_newLength : ByteArray := prog_74_method_27_code
def yJ5_newLength : MethodName := ⟨RJ5, "newLength", "(III)I"⟩
def dkwJ5_newLength_1 : List UInt8 := [184, 0, 201, 172]
abbrev dktJ5_newLength_1 : List UInt8 := dkwJ5_newLength_1 ++ []
def dkwJ5_newLength_0 : List UInt8 := [26, 27, 28, 184, 0, 194, 96, 62, 3, 29, 162, 0, 11, 29, 18, 200, 163, 0, 5, 29, 172, 26, 27]
abbrev dktJ5_newLength_0 : List UInt8 := dkwJ5_newLength_0 ++ dktJ5_newLength_1
theorem dksJ5_newLength_0 : cJ5_newLength.data.toList.drop 0 = dktJ5_newLength_0 := by decide +kernel
theorem dksJ5_newLength_1 : cJ5_newLength.data.toList.drop 23 = dktJ5_newLength_1 := dk_seg dksJ5_newLength_0 23 rfl rfl
theorem dJ5_newLength_0 : decode cJ5_newLength 0 = .ok (.iload_n 0, 1) := dk_26 (dk_at dksJ5_newLength_0 0 rfl rfl)
theorem dJ5_newLength_1 : decode cJ5_newLength 1 = .ok (.iload_n 1, 1) := dk_27 (dk_at dksJ5_newLength_0 1 rfl rfl)
theorem dJ5_newLength_2 : decode cJ5_newLength 2 = .ok (.iload_n 2, 1) := dk_28 (dk_at dksJ5_newLength_0 2 rfl rfl)
theorem dJ5_newLength_3 : decode cJ5_newLength 3 = .ok (.invokestatic 194, 3) := dk_184 0 194 (dk_at dksJ5_newLength_0 3 rfl rfl)
theorem dJ5_newLength_6 : decode cJ5_newLength 6 = .ok (.iadd, 1) := dk_96 (dk_at dksJ5_newLength_0 6 rfl rfl)
theorem dJ5_newLength_7 : decode cJ5_newLength 7 = .ok (.istore_n 3, 1) := dk_62 (dk_at dksJ5_newLength_0 7 rfl rfl)
theorem dJ5_newLength_8 : decode cJ5_newLength 8 = .ok (.iconst 0, 1) := dk_3 (dk_at dksJ5_newLength_0 8 rfl rfl)
theorem dJ5_newLength_9 : decode cJ5_newLength 9 = .ok (.iload_n 3, 1) := dk_29 (dk_at dksJ5_newLength_0 9 rfl rfl)
theorem dJ5_newLength_10 : decode cJ5_newLength 10 = .ok (.if_icmp .ge 11, 3) := dk_162 0 11 (dk_at dksJ5_newLength_0 10 rfl rfl)
theorem dJ5_newLength_13 : decode cJ5_newLength 13 = .ok (.iload_n 3, 1) := dk_29 (dk_at dksJ5_newLength_0 13 rfl rfl)
theorem dJ5_newLength_14 : decode cJ5_newLength 14 = .ok (.ldc 200, 2) := dk_18 200 (dk_at dksJ5_newLength_0 14 rfl rfl)
theorem dJ5_newLength_16 : decode cJ5_newLength 16 = .ok (.if_icmp .gt 5, 3) := dk_163 0 5 (dk_at dksJ5_newLength_0 16 rfl rfl)
theorem dJ5_newLength_19 : decode cJ5_newLength 19 = .ok (.iload_n 3, 1) := dk_29 (dk_at dksJ5_newLength_0 19 rfl rfl)
theorem dJ5_newLength_20 : decode cJ5_newLength 20 = .ok (.ireturn, 1) := dk_172 (dk_at dksJ5_newLength_0 20 rfl rfl)
theorem dJ5_newLength_21 : decode cJ5_newLength 21 = .ok (.iload_n 0, 1) := dk_26 (dk_at dksJ5_newLength_0 21 rfl rfl)
theorem dJ5_newLength_22 : decode cJ5_newLength 22 = .ok (.iload_n 1, 1) := dk_27 (dk_at dksJ5_newLength_0 22 rfl rfl)
theorem dJ5_newLength_23 : decode cJ5_newLength 23 = .ok (.invokestatic 201, 3) := dk_184 0 201 (dk_at dksJ5_newLength_1 0 rfl rfl)
theorem dJ5_newLength_26 : decode cJ5_newLength 26 = .ok (.ireturn, 1) := dk_172 (dk_at dksJ5_newLength_1 3 rfl rfl)
def yJ5_hugeLength : MethodName := ⟨RJ5, "hugeLength", "(II)I"⟩
def yJ5_vectorizedHashCode : MethodName := ⟨RJ5, "vectorizedHashCode", "(Ljava/lang/Object;IIII)I"⟩
def yJ5_signedHashCode : MethodName := ⟨RJ5, "signedHashCode", "(I[BII)I"⟩
def yJ5_utf16hashCode : MethodName := ⟨RJ5, "utf16hashCode", "(I[BII)I"⟩
def yJ5_hashCode : MethodName := ⟨RJ5, "hashCode", "(I[CII)I"⟩
def yJ5_hashCode_2 : MethodName := ⟨RJ5, "hashCode", "(I[BII)I"⟩
def yJ5_hashCode_3 : MethodName := ⟨RJ5, "hashCode", "(I[SII)I"⟩
def yJ5_hashCode_4 : MethodName := ⟨RJ5, "hashCode", "(I[III)I"⟩
def yJ5_mismatch : MethodName := ⟨RJ5, "mismatch", "([B[BI)I"⟩
def yJ5_vectorizedMismatch : MethodName := ⟨RJ5, "vectorizedMismatch", "(Ljava/lang/Object;JLjava/lang/Object;JII)I"⟩
theorem q63 : (Jvm.Cond.initialized "jdk/internal/util/ArraysSupport") ∈ lw_all := lw_g (lw_at lw_m1 8 rfl) rfl
theorem q203 : (Jvm.Cond.static ({ cls := "jdk/internal/util/ArraysSupport", name := "newLength", desc := "(III)I" } : Jvm.MethodName)) ∈ lw_all := lw_g (lw_at lw_m1 148 rfl) rfl
theorem q204 : (Jvm.Cond.code ({ cls := "jdk/internal/util/ArraysSupport", name := "newLength", desc := "(III)I" } : Jvm.MethodName) prog_74_method_27_code (4 : Nat) (Option.some Jvm.ClassFile.FieldType.int)) ∈ lw_all := lw_g (lw_at lw_m1 149 rfl) rfl
theorem q205 : (Jvm.Cond.methodLink "jdk/internal/util/ArraysSupport" (194 : Nat) ({ cls := "java/lang/Math", name := "max", desc := "(II)I" } : Jvm.MethodName)) ∈ lw_all := lw_g (lw_at lw_m1 150 rfl) rfl
theorem q208 : (Jvm.Cond.constant "jdk/internal/util/ArraysSupport" (200 : Nat) (2147483639 : Int32)) ∈ lw_all := lw_g (lw_at lw_m1 153 rfl) rfl
theorem q209 : (Jvm.Cond.methodLink "jdk/internal/util/ArraysSupport" (201 : Nat) ({ cls := "jdk/internal/util/ArraysSupport", name := "hugeLength", desc := "(II)I" } : Jvm.MethodName)) ∈ lw_all := lw_g (lw_at lw_m1 154 rfl) rfl
theorem q210 : (Jvm.Cond.static ({ cls := "jdk/internal/util/ArraysSupport", name := "hugeLength", desc := "(II)I" } : Jvm.MethodName)) ∈ lw_all := lw_g (lw_at lw_m1 155 rfl) rfl
theorem q211 : (Jvm.Cond.code ({ cls := "jdk/internal/util/ArraysSupport", name := "hugeLength", desc := "(II)I" } : Jvm.MethodName) prog_74_method_28_code (3 : Nat) (Option.some Jvm.ClassFile.FieldType.int)) ∈ lw_all := lw_g (lw_at lw_m1 156 rfl) rfl
theorem q1322 : (Jvm.Cond.static ({ cls := "jdk/internal/util/ArraysSupport", name := "vectorizedHashCode", desc := "(Ljava/lang/Object;IIII)I" } : Jvm.MethodName)) ∈ lw_all := lw_g (lw_at lw_m6 67 rfl) rfl
theorem q1323 : (Jvm.Cond.code ({ cls := "jdk/internal/util/ArraysSupport", name := "vectorizedHashCode", desc := "(Ljava/lang/Object;IIII)I" } : Jvm.MethodName) prog_74_method_4_code (5 : Nat) (Option.some Jvm.ClassFile.FieldType.int)) ∈ lw_all := lw_g (lw_at lw_m6 68 rfl) rfl
theorem q1324 : (Jvm.Cond.classLink "jdk/internal/util/ArraysSupport" (60 : Nat) "[B") ∈ lw_all := lw_g (lw_at lw_m6 69 rfl) rfl
theorem q1325 : (Jvm.Cond.methodLink "jdk/internal/util/ArraysSupport" (62 : Nat) ({ cls := "jdk/internal/util/ArraysSupport", name := "signedHashCode", desc := "(I[BII)I" } : Jvm.MethodName)) ∈ lw_all := lw_g (lw_at lw_m6 70 rfl) rfl
theorem q1326 : (Jvm.Cond.static ({ cls := "jdk/internal/util/ArraysSupport", name := "signedHashCode", desc := "(I[BII)I" } : Jvm.MethodName)) ∈ lw_all := lw_g (lw_at lw_m6 71 rfl) rfl
theorem q1327 : (Jvm.Cond.code ({ cls := "jdk/internal/util/ArraysSupport", name := "signedHashCode", desc := "(I[BII)I" } : Jvm.MethodName) prog_74_method_5_code (6 : Nat) (Option.some Jvm.ClassFile.FieldType.int)) ∈ lw_all := lw_g (lw_at lw_m6 72 rfl) rfl
theorem q1328 : (Jvm.Cond.methodLink "jdk/internal/util/ArraysSupport" (66 : Nat) ({ cls := "jdk/internal/util/ArraysSupport", name := "utf16hashCode", desc := "(I[BII)I" } : Jvm.MethodName)) ∈ lw_all := lw_g (lw_at lw_m6 73 rfl) rfl
theorem q1329 : (Jvm.Cond.static ({ cls := "jdk/internal/util/ArraysSupport", name := "utf16hashCode", desc := "(I[BII)I" } : Jvm.MethodName)) ∈ lw_all := lw_g (lw_at lw_m6 74 rfl) rfl
theorem q1330 : (Jvm.Cond.code ({ cls := "jdk/internal/util/ArraysSupport", name := "utf16hashCode", desc := "(I[BII)I" } : Jvm.MethodName) prog_74_method_10_code (6 : Nat) (Option.some Jvm.ClassFile.FieldType.int)) ∈ lw_all := lw_g (lw_at lw_m6 75 rfl) rfl
theorem q1331 : (Jvm.Cond.fieldLink "jdk/internal/util/ArraysSupport" (106 : Nat) "jdk/internal/util/ArraysSupport" "JLA" "Ljdk/internal/access/JavaLangAccess;") ∈ lw_all := lw_g (lw_at lw_m6 76 rfl) rfl
theorem q1332 : (Jvm.Cond.laysStatic "jdk/internal/util/ArraysSupport" "JLA" "Ljdk/internal/access/JavaLangAccess;") ∈ lw_tbl := lw_at lw_m6 77 rfl
theorem q1333 : (Jvm.Cond.interfaceEntry "jdk/internal/util/ArraysSupport" (110 : Nat)) ∈ lw_tbl := lw_at lw_m6 78 rfl
theorem q1334 : (Jvm.Cond.methodLink "jdk/internal/util/ArraysSupport" (110 : Nat) ({ cls := "jdk/internal/access/JavaLangAccess", name := "getUTF16Char", desc := "([BI)C" } : Jvm.MethodName)) ∈ lw_all := lw_g (lw_at lw_m6 79 rfl) rfl
theorem q1344 : (Jvm.Cond.classLink "jdk/internal/util/ArraysSupport" (69 : Nat) "[C") ∈ lw_all := lw_g (lw_at lw_m6 89 rfl) rfl
theorem q1345 : (Jvm.Cond.methodLink "jdk/internal/util/ArraysSupport" (71 : Nat) ({ cls := "jdk/internal/util/ArraysSupport", name := "hashCode", desc := "(I[CII)I" } : Jvm.MethodName)) ∈ lw_all := lw_g (lw_at lw_m6 90 rfl) rfl
theorem q1346 : (Jvm.Cond.static ({ cls := "jdk/internal/util/ArraysSupport", name := "hashCode", desc := "(I[CII)I" } : Jvm.MethodName)) ∈ lw_all := lw_g (lw_at lw_m6 91 rfl) rfl
theorem q1347 : (Jvm.Cond.code ({ cls := "jdk/internal/util/ArraysSupport", name := "hashCode", desc := "(I[CII)I" } : Jvm.MethodName) prog_74_method_7_code (6 : Nat) (Option.some Jvm.ClassFile.FieldType.int)) ∈ lw_all := lw_g (lw_at lw_m6 92 rfl) rfl
theorem q1348 : (Jvm.Cond.methodLink "jdk/internal/util/ArraysSupport" (75 : Nat) ({ cls := "jdk/internal/util/ArraysSupport", name := "hashCode", desc := "(I[BII)I" } : Jvm.MethodName)) ∈ lw_all := lw_g (lw_at lw_m6 93 rfl) rfl
theorem q1349 : (Jvm.Cond.static ({ cls := "jdk/internal/util/ArraysSupport", name := "hashCode", desc := "(I[BII)I" } : Jvm.MethodName)) ∈ lw_all := lw_g (lw_at lw_m6 94 rfl) rfl
theorem q1350 : (Jvm.Cond.code ({ cls := "jdk/internal/util/ArraysSupport", name := "hashCode", desc := "(I[BII)I" } : Jvm.MethodName) prog_74_method_6_code (6 : Nat) (Option.some Jvm.ClassFile.FieldType.int)) ∈ lw_all := lw_g (lw_at lw_m6 95 rfl) rfl
theorem q1351 : (Jvm.Cond.classLink "jdk/internal/util/ArraysSupport" (77 : Nat) "[S") ∈ lw_all := lw_g (lw_at lw_m6 96 rfl) rfl
theorem q1352 : (Jvm.Cond.methodLink "jdk/internal/util/ArraysSupport" (79 : Nat) ({ cls := "jdk/internal/util/ArraysSupport", name := "hashCode", desc := "(I[SII)I" } : Jvm.MethodName)) ∈ lw_all := lw_g (lw_at lw_m6 97 rfl) rfl
theorem q1353 : (Jvm.Cond.static ({ cls := "jdk/internal/util/ArraysSupport", name := "hashCode", desc := "(I[SII)I" } : Jvm.MethodName)) ∈ lw_all := lw_g (lw_at lw_m6 98 rfl) rfl
theorem q1354 : (Jvm.Cond.code ({ cls := "jdk/internal/util/ArraysSupport", name := "hashCode", desc := "(I[SII)I" } : Jvm.MethodName) prog_74_method_8_code (6 : Nat) (Option.some Jvm.ClassFile.FieldType.int)) ∈ lw_all := lw_g (lw_at lw_m6 99 rfl) rfl
theorem q1355 : (Jvm.Cond.classLink "jdk/internal/util/ArraysSupport" (82 : Nat) "[I") ∈ lw_all := lw_g (lw_at lw_m6 100 rfl) rfl
theorem q1356 : (Jvm.Cond.methodLink "jdk/internal/util/ArraysSupport" (84 : Nat) ({ cls := "jdk/internal/util/ArraysSupport", name := "hashCode", desc := "(I[III)I" } : Jvm.MethodName)) ∈ lw_all := lw_g (lw_at lw_m6 101 rfl) rfl
theorem q1357 : (Jvm.Cond.static ({ cls := "jdk/internal/util/ArraysSupport", name := "hashCode", desc := "(I[III)I" } : Jvm.MethodName)) ∈ lw_all := lw_g (lw_at lw_m6 102 rfl) rfl
theorem q1358 : (Jvm.Cond.code ({ cls := "jdk/internal/util/ArraysSupport", name := "hashCode", desc := "(I[III)I" } : Jvm.MethodName) prog_74_method_9_code (6 : Nat) (Option.some Jvm.ClassFile.FieldType.int)) ∈ lw_all := lw_g (lw_at lw_m6 103 rfl) rfl
theorem q1359 : (Jvm.Cond.classLink "jdk/internal/util/ArraysSupport" (87 : Nat) "java/lang/IllegalArgumentException") ∈ lw_all := lw_g (lw_at lw_m6 104 rfl) rfl
theorem q1360 : (Jvm.Cond.classLink "jdk/internal/util/ArraysSupport" (89 : Nat) "java/lang/StringBuilder") ∈ lw_all := lw_g (lw_at lw_m6 105 rfl) rfl
theorem q1361 : (Jvm.Cond.methodLink "jdk/internal/util/ArraysSupport" (91 : Nat) ({ cls := "java/lang/StringBuilder", name := "<init>", desc := "()V" } : Jvm.MethodName)) ∈ lw_all := lw_g (lw_at lw_m6 106 rfl) rfl
theorem q1362 : (Jvm.Cond.stringRef "jdk/internal/util/ArraysSupport" (92 : Nat) "unrecognized basic type: ") ∈ lw_tbl := lw_at lw_m6 107 rfl
theorem q1363 : (Jvm.Cond.methodLink "jdk/internal/util/ArraysSupport" (94 : Nat) ({ cls := "java/lang/StringBuilder", name := "append", desc := "(Ljava/lang/String;)Ljava/lang/StringBuilder;" } : Jvm.MethodName)) ∈ lw_all := lw_g (lw_at lw_m6 108 rfl) rfl
theorem q1364 : (Jvm.Cond.methodLink "jdk/internal/util/ArraysSupport" (98 : Nat) ({ cls := "java/lang/StringBuilder", name := "append", desc := "(I)Ljava/lang/StringBuilder;" } : Jvm.MethodName)) ∈ lw_all := lw_g (lw_at lw_m6 109 rfl) rfl
theorem q1365 : (Jvm.Cond.methodLink "jdk/internal/util/ArraysSupport" (101 : Nat) ({ cls := "java/lang/StringBuilder", name := "toString", desc := "()Ljava/lang/String;" } : Jvm.MethodName)) ∈ lw_all := lw_g (lw_at lw_m6 110 rfl) rfl
theorem q1366 : (Jvm.Cond.methodLink "jdk/internal/util/ArraysSupport" (105 : Nat) ({ cls := "java/lang/IllegalArgumentException", name := "<init>", desc := "(Ljava/lang/String;)V" } : Jvm.MethodName)) ∈ lw_all := lw_g (lw_at lw_m6 111 rfl) rfl
theorem q2729 : (Jvm.Cond.static ({ cls := "jdk/internal/util/ArraysSupport", name := "mismatch", desc := "([B[BI)I" } : Jvm.MethodName)) ∈ lw_all := lw_g (lw_at lw_m12 34 rfl) rfl
theorem q2730 : (Jvm.Cond.code ({ cls := "jdk/internal/util/ArraysSupport", name := "mismatch", desc := "([B[BI)I" } : Jvm.MethodName) prog_74_method_13_code (4 : Nat) (Option.some Jvm.ClassFile.FieldType.int)) ∈ lw_all := lw_g (lw_at lw_m12 35 rfl) rfl
theorem q2731 : (Jvm.Cond.fieldLink "jdk/internal/util/ArraysSupport" (126 : Nat) "jdk/internal/misc/Unsafe" "ARRAY_BYTE_BASE_OFFSET" "I") ∈ lw_all := lw_g (lw_at lw_m12 36 rfl) rfl
theorem q2733 : (Jvm.Cond.fieldLink "jdk/internal/util/ArraysSupport" (129 : Nat) "jdk/internal/util/ArraysSupport" "LOG2_ARRAY_BYTE_INDEX_SCALE" "I") ∈ lw_all := lw_g (lw_at lw_m12 38 rfl) rfl
theorem q2734 : (Jvm.Cond.laysStatic "jdk/internal/util/ArraysSupport" "LOG2_ARRAY_BYTE_INDEX_SCALE" "I") ∈ lw_tbl := lw_at lw_m12 39 rfl
theorem q2735 : (Jvm.Cond.methodLink "jdk/internal/util/ArraysSupport" (122 : Nat) ({ cls := "jdk/internal/util/ArraysSupport", name := "vectorizedMismatch", desc := "(Ljava/lang/Object;JLjava/lang/Object;JII)I" } : Jvm.MethodName)) ∈ lw_all := lw_g (lw_at lw_m12 40 rfl) rfl
theorem q2736 : (Jvm.Cond.static ({ cls := "jdk/internal/util/ArraysSupport", name := "vectorizedMismatch", desc := "(Ljava/lang/Object;JLjava/lang/Object;JII)I" } : Jvm.MethodName)) ∈ lw_all := lw_g (lw_at lw_m12 41 rfl) rfl
theorem q2737 : (Jvm.Cond.code ({ cls := "jdk/internal/util/ArraysSupport", name := "vectorizedMismatch", desc := "(Ljava/lang/Object;JLjava/lang/Object;JII)I" } : Jvm.MethodName) prog_74_method_3_code (19 : Nat) (Option.some Jvm.ClassFile.FieldType.int)) ∈ lw_all := lw_g (lw_at lw_m12 42 rfl) rfl
theorem q2738 : (Jvm.Cond.fieldLink "jdk/internal/util/ArraysSupport" (20 : Nat) "jdk/internal/util/ArraysSupport" "LOG2_ARRAY_LONG_INDEX_SCALE" "I") ∈ lw_all := lw_g (lw_at lw_m12 43 rfl) rfl
theorem q2739 : (Jvm.Cond.laysStatic "jdk/internal/util/ArraysSupport" "LOG2_ARRAY_LONG_INDEX_SCALE" "I") ∈ lw_tbl := lw_at lw_m12 44 rfl
theorem q2740 : (Jvm.Cond.fieldLink "jdk/internal/util/ArraysSupport" (26 : Nat) "jdk/internal/util/ArraysSupport" "U" "Ljdk/internal/misc/Unsafe;") ∈ lw_all := lw_g (lw_at lw_m12 45 rfl) rfl
theorem q2741 : (Jvm.Cond.laysStatic "jdk/internal/util/ArraysSupport" "U" "Ljdk/internal/misc/Unsafe;") ∈ lw_tbl := lw_at lw_m12 46 rfl
theorem q2742 : (Jvm.Cond.methodLink "jdk/internal/util/ArraysSupport" (30 : Nat) ({ cls := "jdk/internal/misc/Unsafe", name := "getLongUnaligned", desc := "(Ljava/lang/Object;J)J" } : Jvm.MethodName)) ∈ lw_all := lw_g (lw_at lw_m12 47 rfl) rfl
theorem q2794 : (Jvm.Cond.fieldLink "jdk/internal/util/ArraysSupport" (36 : Nat) "jdk/internal/util/ArraysSupport" "BIG_ENDIAN" "Z") ∈ lw_all := lw_g (lw_at lw_m12 99 rfl) rfl
theorem q2795 : (Jvm.Cond.laysStatic "jdk/internal/util/ArraysSupport" "BIG_ENDIAN" "Z") ∈ lw_tbl := lw_at lw_m12 100 rfl
theorem q2796 : (Jvm.Cond.methodLink "jdk/internal/util/ArraysSupport" (40 : Nat) ({ cls := "java/lang/Long", name := "numberOfLeadingZeros", desc := "(J)I" } : Jvm.MethodName)) ∈ lw_all := lw_g (lw_at lw_m12 101 rfl) rfl
theorem q2803 : (Jvm.Cond.fieldLink "jdk/internal/util/ArraysSupport" (46 : Nat) "jdk/internal/util/ArraysSupport" "LOG2_BYTE_BIT_SIZE" "I") ∈ lw_all := lw_g (lw_at lw_m12 108 rfl) rfl
theorem q2804 : (Jvm.Cond.laysStatic "jdk/internal/util/ArraysSupport" "LOG2_BYTE_BIT_SIZE" "I") ∈ lw_tbl := lw_at lw_m12 109 rfl
theorem q2805 : (Jvm.Cond.methodLink "jdk/internal/util/ArraysSupport" (49 : Nat) ({ cls := "java/lang/Long", name := "numberOfTrailingZeros", desc := "(J)I" } : Jvm.MethodName)) ∈ lw_all := lw_g (lw_at lw_m12 110 rfl) rfl
theorem q2811 : (Jvm.Cond.fieldLink "jdk/internal/util/ArraysSupport" (51 : Nat) "jdk/internal/util/ArraysSupport" "LOG2_ARRAY_INT_INDEX_SCALE" "I") ∈ lw_all := lw_g (lw_at lw_m12 116 rfl) rfl
theorem q2812 : (Jvm.Cond.laysStatic "jdk/internal/util/ArraysSupport" "LOG2_ARRAY_INT_INDEX_SCALE" "I") ∈ lw_tbl := lw_at lw_m12 117 rfl
theorem q2813 : (Jvm.Cond.methodLink "jdk/internal/util/ArraysSupport" (54 : Nat) ({ cls := "jdk/internal/misc/Unsafe", name := "getIntUnaligned", desc := "(Ljava/lang/Object;J)I" } : Jvm.MethodName)) ∈ lw_all := lw_g (lw_at lw_m12 118 rfl) rfl
theorem q2830 : (Jvm.Cond.methodLink "jdk/internal/util/ArraysSupport" (58 : Nat) ({ cls := "java/lang/Integer", name := "numberOfLeadingZeros", desc := "(I)I" } : Jvm.MethodName)) ∈ lw_all := lw_g (lw_at lw_m12 135 rfl) rfl
theorem q2831 : (Jvm.Cond.methodLink "jdk/internal/util/ArraysSupport" (11 : Nat) ({ cls := "java/lang/Integer", name := "numberOfTrailingZeros", desc := "(I)I" } : Jvm.MethodName)) ∈ lw_all := lw_g (lw_at lw_m12 136 rfl) rfl

/-! java/lang/String -/
set_option maxRecDepth 100000
def RJ16 : String := "java/lang/String"
def TJ16 : u_T := fun k => match k with
  | 0 => ("java/lang/String", "value", "[B", true)
  | 1 => ("java/lang/String", "coder", "B", true)
  | 2 => ("java/lang/String", "hash", "I", false)
  | _ => ("java/lang/String", "hashIsZero", "Z", false)
def tyJ16 : Nat → FieldType := fun k => match k with
  | 0 => .array .byte
  | 1 => .byte
  | 2 => .int
  | _ => .boolean
abbrev wsJ160 : List Cond := u_ws RJ16 TJ16 4
theorem nmJ16 : ∀ a, a < 4 → ∀ b, b < 4 → a ≠ b → (TJ16 a).2.1 ≠ (TJ16 b).2.1 := by decide +kernel
theorem tyJ16_ok : ∀ k, k < 4 → parseFieldDescriptor (TJ16 k).2.2.1 = some (tyJ16 k) := by decide +kernel
def yJ16_checkBoundsBeginEnd : MethodName := ⟨RJ16, "checkBoundsBeginEnd", "(III)V"⟩
abbrev cJ16_length : ByteArray := prog_27_method_54_code
def yJ16_length : MethodName := ⟨RJ16, "length", "()I"⟩
def dkwJ16_length_0 : List UInt8 := [42, 180, 0, 9, 190, 42, 182, 1, 79, 122, 172]
abbrev dktJ16_length_0 : List UInt8 := dkwJ16_length_0 ++ []
theorem dksJ16_length_0 : cJ16_length.data.toList.drop 0 = dktJ16_length_0 := by decide +kernel
theorem dJ16_length_0 : decode cJ16_length 0 = .ok (.aload_n 0, 1) := dk_42 (dk_at dksJ16_length_0 0 rfl rfl)
theorem dJ16_length_1 : decode cJ16_length 1 = .ok (.getfield 9, 3) := dk_180 0 9 (dk_at dksJ16_length_0 1 rfl rfl)
theorem dJ16_length_4 : decode cJ16_length 4 = .ok (.arraylength, 1) := dk_190 (dk_at dksJ16_length_0 4 rfl rfl)
theorem dJ16_length_5 : decode cJ16_length 5 = .ok (.aload_n 0, 1) := dk_42 (dk_at dksJ16_length_0 5 rfl rfl)
theorem dJ16_length_6 : decode cJ16_length 6 = .ok (.invokevirtual 335, 3) := dk_182 1 79 (dk_at dksJ16_length_0 6 rfl rfl)
theorem dJ16_length_9 : decode cJ16_length 9 = .ok (.ishr, 1) := dk_122 (dk_at dksJ16_length_0 9 rfl rfl)
theorem dJ16_length_10 : decode cJ16_length 10 = .ok (.ireturn, 1) := dk_172 (dk_at dksJ16_length_0 10 rfl rfl)
abbrev cJ16_coder : ByteArray := prog_27_method_152_code
def yJ16_coder : MethodName := ⟨RJ16, "coder", "()B"⟩
def dkwJ16_coder_0 : List UInt8 := [178, 0, 38, 153, 0, 10, 42, 180, 0, 15, 167, 0, 4, 4, 172]
abbrev dktJ16_coder_0 : List UInt8 := dkwJ16_coder_0 ++ []
theorem dksJ16_coder_0 : cJ16_coder.data.toList.drop 0 = dktJ16_coder_0 := by decide +kernel
theorem dJ16_coder_0 : decode cJ16_coder 0 = .ok (.getstatic 38, 3) := dk_178 0 38 (dk_at dksJ16_coder_0 0 rfl rfl)
theorem dJ16_coder_3 : decode cJ16_coder 3 = .ok (.ifCond .eq 10, 3) := dk_153 0 10 (dk_at dksJ16_coder_0 3 rfl rfl)
theorem dJ16_coder_6 : decode cJ16_coder 6 = .ok (.aload_n 0, 1) := dk_42 (dk_at dksJ16_coder_0 6 rfl rfl)
theorem dJ16_coder_7 : decode cJ16_coder 7 = .ok (.getfield 15, 3) := dk_180 0 15 (dk_at dksJ16_coder_0 7 rfl rfl)
theorem dJ16_coder_10 : decode cJ16_coder 10 = .ok (.goto 4, 3) := dk_167 0 4 (dk_at dksJ16_coder_0 10 rfl rfl)
theorem dJ16_coder_13 : decode cJ16_coder 13 = .ok (.iconst 1, 1) := dk_4 (dk_at dksJ16_coder_0 13 rfl rfl)
theorem dJ16_coder_14 : decode cJ16_coder 14 = .ok (.ireturn, 1) := dk_172 (dk_at dksJ16_coder_0 14 rfl rfl)
def yJ16_checkBoundsOffCount : MethodName := ⟨RJ16, "checkBoundsOffCount", "(III)I"⟩
abbrev cJ16_getBytes : ByteArray := prog_27_method_147_code
def yJ16_getBytes : MethodName := ⟨RJ16, "getBytes", "([BIB)V"⟩
def dkwJ16_getBytes_1 : List UInt8 := [184, 0, 212, 167, 0, 18, 42, 180, 0, 9, 3, 43, 28, 42, 180, 0, 9, 190, 184, 0, 106, 177]
abbrev dktJ16_getBytes_1 : List UInt8 := dkwJ16_getBytes_1 ++ []
def dkwJ16_getBytes_0 : List UInt8 := [42, 182, 1, 79, 29, 160, 0, 23, 42, 180, 0, 9, 3, 43, 28, 29, 120, 42, 180, 0, 9, 190]
abbrev dktJ16_getBytes_0 : List UInt8 := dkwJ16_getBytes_0 ++ dktJ16_getBytes_1
theorem dksJ16_getBytes_0 : cJ16_getBytes.data.toList.drop 0 = dktJ16_getBytes_0 := by decide +kernel
theorem dksJ16_getBytes_1 : cJ16_getBytes.data.toList.drop 22 = dktJ16_getBytes_1 := dk_seg dksJ16_getBytes_0 22 rfl rfl
theorem dJ16_getBytes_0 : decode cJ16_getBytes 0 = .ok (.aload_n 0, 1) := dk_42 (dk_at dksJ16_getBytes_0 0 rfl rfl)
theorem dJ16_getBytes_1 : decode cJ16_getBytes 1 = .ok (.invokevirtual 335, 3) := dk_182 1 79 (dk_at dksJ16_getBytes_0 1 rfl rfl)
theorem dJ16_getBytes_4 : decode cJ16_getBytes 4 = .ok (.iload_n 3, 1) := dk_29 (dk_at dksJ16_getBytes_0 4 rfl rfl)
theorem dJ16_getBytes_5 : decode cJ16_getBytes 5 = .ok (.if_icmp .ne 23, 3) := dk_160 0 23 (dk_at dksJ16_getBytes_0 5 rfl rfl)
theorem dJ16_getBytes_8 : decode cJ16_getBytes 8 = .ok (.aload_n 0, 1) := dk_42 (dk_at dksJ16_getBytes_0 8 rfl rfl)
theorem dJ16_getBytes_9 : decode cJ16_getBytes 9 = .ok (.getfield 9, 3) := dk_180 0 9 (dk_at dksJ16_getBytes_0 9 rfl rfl)
theorem dJ16_getBytes_12 : decode cJ16_getBytes 12 = .ok (.iconst 0, 1) := dk_3 (dk_at dksJ16_getBytes_0 12 rfl rfl)
theorem dJ16_getBytes_13 : decode cJ16_getBytes 13 = .ok (.aload_n 1, 1) := dk_43 (dk_at dksJ16_getBytes_0 13 rfl rfl)
theorem dJ16_getBytes_14 : decode cJ16_getBytes 14 = .ok (.iload_n 2, 1) := dk_28 (dk_at dksJ16_getBytes_0 14 rfl rfl)
theorem dJ16_getBytes_15 : decode cJ16_getBytes 15 = .ok (.iload_n 3, 1) := dk_29 (dk_at dksJ16_getBytes_0 15 rfl rfl)
theorem dJ16_getBytes_16 : decode cJ16_getBytes 16 = .ok (.ishl, 1) := dk_120 (dk_at dksJ16_getBytes_0 16 rfl rfl)
theorem dJ16_getBytes_17 : decode cJ16_getBytes 17 = .ok (.aload_n 0, 1) := dk_42 (dk_at dksJ16_getBytes_0 17 rfl rfl)
theorem dJ16_getBytes_18 : decode cJ16_getBytes 18 = .ok (.getfield 9, 3) := dk_180 0 9 (dk_at dksJ16_getBytes_0 18 rfl rfl)
theorem dJ16_getBytes_21 : decode cJ16_getBytes 21 = .ok (.arraylength, 1) := dk_190 (dk_at dksJ16_getBytes_0 21 rfl rfl)
theorem dJ16_getBytes_22 : decode cJ16_getBytes 22 = .ok (.invokestatic 212, 3) := dk_184 0 212 (dk_at dksJ16_getBytes_1 0 rfl rfl)
theorem dJ16_getBytes_25 : decode cJ16_getBytes 25 = .ok (.goto 18, 3) := dk_167 0 18 (dk_at dksJ16_getBytes_1 3 rfl rfl)
theorem dJ16_getBytes_28 : decode cJ16_getBytes 28 = .ok (.aload_n 0, 1) := dk_42 (dk_at dksJ16_getBytes_1 6 rfl rfl)
theorem dJ16_getBytes_29 : decode cJ16_getBytes 29 = .ok (.getfield 9, 3) := dk_180 0 9 (dk_at dksJ16_getBytes_1 7 rfl rfl)
theorem dJ16_getBytes_32 : decode cJ16_getBytes 32 = .ok (.iconst 0, 1) := dk_3 (dk_at dksJ16_getBytes_1 10 rfl rfl)
theorem dJ16_getBytes_33 : decode cJ16_getBytes 33 = .ok (.aload_n 1, 1) := dk_43 (dk_at dksJ16_getBytes_1 11 rfl rfl)
theorem dJ16_getBytes_34 : decode cJ16_getBytes 34 = .ok (.iload_n 2, 1) := dk_28 (dk_at dksJ16_getBytes_1 12 rfl rfl)
theorem dJ16_getBytes_35 : decode cJ16_getBytes 35 = .ok (.aload_n 0, 1) := dk_42 (dk_at dksJ16_getBytes_1 13 rfl rfl)
theorem dJ16_getBytes_36 : decode cJ16_getBytes 36 = .ok (.getfield 9, 3) := dk_180 0 9 (dk_at dksJ16_getBytes_1 14 rfl rfl)
theorem dJ16_getBytes_39 : decode cJ16_getBytes 39 = .ok (.arraylength, 1) := dk_190 (dk_at dksJ16_getBytes_1 17 rfl rfl)
theorem dJ16_getBytes_40 : decode cJ16_getBytes 40 = .ok (.invokestatic 106, 3) := dk_184 0 106 (dk_at dksJ16_getBytes_1 18 rfl rfl)
theorem dJ16_getBytes_43 : decode cJ16_getBytes 43 = .ok (.return_, 1) := dk_177 (dk_at dksJ16_getBytes_1 21 rfl rfl)
abbrev cJ16_init : ByteArray := prog_27_method_53_code
def yJ16_init : MethodName := ⟨RJ16, "<init>", "(Ljava/lang/StringBuilder;)V"⟩
def dkwJ16_init_0 : List UInt8 := [42, 43, 1, 183, 1, 233, 177]
abbrev dktJ16_init_0 : List UInt8 := dkwJ16_init_0 ++ []
theorem dksJ16_init_0 : cJ16_init.data.toList.drop 0 = dktJ16_init_0 := by decide +kernel
theorem dJ16_init_0 : decode cJ16_init 0 = .ok (.aload_n 0, 1) := dk_42 (dk_at dksJ16_init_0 0 rfl rfl)
theorem dJ16_init_1 : decode cJ16_init 1 = .ok (.aload_n 1, 1) := dk_43 (dk_at dksJ16_init_0 1 rfl rfl)
theorem dJ16_init_2 : decode cJ16_init 2 = .ok (.aconst_null, 1) := dk_1 (dk_at dksJ16_init_0 2 rfl rfl)
theorem dJ16_init_3 : decode cJ16_init 3 = .ok (.invokespecial 489, 3) := dk_183 1 233 (dk_at dksJ16_init_0 3 rfl rfl)
theorem dJ16_init_6 : decode cJ16_init 6 = .ok (.return_, 1) := dk_177 (dk_at dksJ16_init_0 6 rfl rfl)
abbrev cJ16_init_2 : ByteArray := prog_27_method_150_code
def yJ16_init_2 : MethodName := ⟨RJ16, "<init>", "(Ljava/lang/AbstractStringBuilder;Ljava/lang/Void;)V"⟩
def dkwJ16_init_2_4 : List UInt8 := [181, 0, 9, 177]
abbrev dktJ16_init_2_4 : List UInt8 := dkwJ16_init_2_4 ++ []
def dkwJ16_init_2_3 : List UInt8 := [184, 0, 47, 181, 0, 15, 177, 42, 4, 181, 0, 15, 42, 45, 3, 21, 4, 4, 120, 184, 0, 54]
abbrev dktJ16_init_2_3 : List UInt8 := dkwJ16_init_2_3 ++ dktJ16_init_2_4
def dkwJ16_init_2_2 : List UInt8 := [180, 4, 24, 153, 0, 28, 42, 45, 3, 21, 4, 184, 4, 27, 181, 0, 9, 42, 42, 180, 0, 9, 21, 4]
abbrev dktJ16_init_2_2 : List UInt8 := dkwJ16_init_2_2 ++ dktJ16_init_2_3
def dkwJ16_init_2_1 : List UInt8 := [181, 0, 15, 42, 45, 3, 21, 4, 184, 0, 54, 181, 0, 9, 167, 0, 59, 178, 0, 38, 153, 0, 35, 43]
abbrev dktJ16_init_2_1 : List UInt8 := dkwJ16_init_2_1 ++ dktJ16_init_2_2
def dkwJ16_init_2_0 : List UInt8 := [42, 183, 0, 1, 43, 182, 2, 40, 78, 43, 182, 2, 37, 54, 4, 43, 182, 4, 23, 153, 0, 22, 42, 3]
abbrev dktJ16_init_2_0 : List UInt8 := dkwJ16_init_2_0 ++ dktJ16_init_2_1
theorem dksJ16_init_2_0 : cJ16_init_2.data.toList.drop 0 = dktJ16_init_2_0 := by decide +kernel
theorem dksJ16_init_2_1 : cJ16_init_2.data.toList.drop 24 = dktJ16_init_2_1 := dk_seg dksJ16_init_2_0 24 rfl rfl
theorem dksJ16_init_2_2 : cJ16_init_2.data.toList.drop 48 = dktJ16_init_2_2 := dk_seg dksJ16_init_2_1 24 rfl rfl
theorem dksJ16_init_2_3 : cJ16_init_2.data.toList.drop 72 = dktJ16_init_2_3 := dk_seg dksJ16_init_2_2 24 rfl rfl
theorem dksJ16_init_2_4 : cJ16_init_2.data.toList.drop 94 = dktJ16_init_2_4 := dk_seg dksJ16_init_2_3 22 rfl rfl
theorem dJ16_init_2_0 : decode cJ16_init_2 0 = .ok (.aload_n 0, 1) := dk_42 (dk_at dksJ16_init_2_0 0 rfl rfl)
theorem dJ16_init_2_1 : decode cJ16_init_2 1 = .ok (.invokespecial 1, 3) := dk_183 0 1 (dk_at dksJ16_init_2_0 1 rfl rfl)
theorem dJ16_init_2_4 : decode cJ16_init_2 4 = .ok (.aload_n 1, 1) := dk_43 (dk_at dksJ16_init_2_0 4 rfl rfl)
theorem dJ16_init_2_5 : decode cJ16_init_2 5 = .ok (.invokevirtual 552, 3) := dk_182 2 40 (dk_at dksJ16_init_2_0 5 rfl rfl)
theorem dJ16_init_2_8 : decode cJ16_init_2 8 = .ok (.astore_n 3, 1) := dk_78 (dk_at dksJ16_init_2_0 8 rfl rfl)
theorem dJ16_init_2_9 : decode cJ16_init_2 9 = .ok (.aload_n 1, 1) := dk_43 (dk_at dksJ16_init_2_0 9 rfl rfl)
theorem dJ16_init_2_10 : decode cJ16_init_2 10 = .ok (.invokevirtual 549, 3) := dk_182 2 37 (dk_at dksJ16_init_2_0 10 rfl rfl)
theorem dJ16_init_2_13 : decode cJ16_init_2 13 = .ok (.istore 4, 2) := dk_54 4 (dk_at dksJ16_init_2_0 13 rfl rfl)
theorem dJ16_init_2_15 : decode cJ16_init_2 15 = .ok (.aload_n 1, 1) := dk_43 (dk_at dksJ16_init_2_0 15 rfl rfl)
theorem dJ16_init_2_16 : decode cJ16_init_2 16 = .ok (.invokevirtual 1047, 3) := dk_182 4 23 (dk_at dksJ16_init_2_0 16 rfl rfl)
theorem dJ16_init_2_19 : decode cJ16_init_2 19 = .ok (.ifCond .eq 22, 3) := dk_153 0 22 (dk_at dksJ16_init_2_0 19 rfl rfl)
theorem dJ16_init_2_22 : decode cJ16_init_2 22 = .ok (.aload_n 0, 1) := dk_42 (dk_at dksJ16_init_2_0 22 rfl rfl)
theorem dJ16_init_2_23 : decode cJ16_init_2 23 = .ok (.iconst 0, 1) := dk_3 (dk_at dksJ16_init_2_0 23 rfl rfl)
theorem dJ16_init_2_24 : decode cJ16_init_2 24 = .ok (.putfield 15, 3) := dk_181 0 15 (dk_at dksJ16_init_2_1 0 rfl rfl)
theorem dJ16_init_2_27 : decode cJ16_init_2 27 = .ok (.aload_n 0, 1) := dk_42 (dk_at dksJ16_init_2_1 3 rfl rfl)
theorem dJ16_init_2_28 : decode cJ16_init_2 28 = .ok (.aload_n 3, 1) := dk_45 (dk_at dksJ16_init_2_1 4 rfl rfl)
theorem dJ16_init_2_29 : decode cJ16_init_2 29 = .ok (.iconst 0, 1) := dk_3 (dk_at dksJ16_init_2_1 5 rfl rfl)
theorem dJ16_init_2_30 : decode cJ16_init_2 30 = .ok (.iload 4, 2) := dk_21 4 (dk_at dksJ16_init_2_1 6 rfl rfl)
theorem dJ16_init_2_32 : decode cJ16_init_2 32 = .ok (.invokestatic 54, 3) := dk_184 0 54 (dk_at dksJ16_init_2_1 8 rfl rfl)
theorem dJ16_init_2_35 : decode cJ16_init_2 35 = .ok (.putfield 9, 3) := dk_181 0 9 (dk_at dksJ16_init_2_1 11 rfl rfl)
theorem dJ16_init_2_38 : decode cJ16_init_2 38 = .ok (.goto 59, 3) := dk_167 0 59 (dk_at dksJ16_init_2_1 14 rfl rfl)
theorem dJ16_init_2_41 : decode cJ16_init_2 41 = .ok (.getstatic 38, 3) := dk_178 0 38 (dk_at dksJ16_init_2_1 17 rfl rfl)
theorem dJ16_init_2_44 : decode cJ16_init_2 44 = .ok (.ifCond .eq 35, 3) := dk_153 0 35 (dk_at dksJ16_init_2_1 20 rfl rfl)
theorem dJ16_init_2_47 : decode cJ16_init_2 47 = .ok (.aload_n 1, 1) := dk_43 (dk_at dksJ16_init_2_1 23 rfl rfl)
theorem dJ16_init_2_48 : decode cJ16_init_2 48 = .ok (.getfield 1048, 3) := dk_180 4 24 (dk_at dksJ16_init_2_2 0 rfl rfl)
theorem dJ16_init_2_51 : decode cJ16_init_2 51 = .ok (.ifCond .eq 28, 3) := dk_153 0 28 (dk_at dksJ16_init_2_2 3 rfl rfl)
theorem dJ16_init_2_54 : decode cJ16_init_2 54 = .ok (.aload_n 0, 1) := dk_42 (dk_at dksJ16_init_2_2 6 rfl rfl)
theorem dJ16_init_2_55 : decode cJ16_init_2 55 = .ok (.aload_n 3, 1) := dk_45 (dk_at dksJ16_init_2_2 7 rfl rfl)
theorem dJ16_init_2_56 : decode cJ16_init_2 56 = .ok (.iconst 0, 1) := dk_3 (dk_at dksJ16_init_2_2 8 rfl rfl)
theorem dJ16_init_2_57 : decode cJ16_init_2 57 = .ok (.iload 4, 2) := dk_21 4 (dk_at dksJ16_init_2_2 9 rfl rfl)
theorem dJ16_init_2_59 : decode cJ16_init_2 59 = .ok (.invokestatic 1051, 3) := dk_184 4 27 (dk_at dksJ16_init_2_2 11 rfl rfl)
theorem dJ16_init_2_62 : decode cJ16_init_2 62 = .ok (.putfield 9, 3) := dk_181 0 9 (dk_at dksJ16_init_2_2 14 rfl rfl)
theorem dJ16_init_2_65 : decode cJ16_init_2 65 = .ok (.aload_n 0, 1) := dk_42 (dk_at dksJ16_init_2_2 17 rfl rfl)
theorem dJ16_init_2_66 : decode cJ16_init_2 66 = .ok (.aload_n 0, 1) := dk_42 (dk_at dksJ16_init_2_2 18 rfl rfl)
theorem dJ16_init_2_67 : decode cJ16_init_2 67 = .ok (.getfield 9, 3) := dk_180 0 9 (dk_at dksJ16_init_2_2 19 rfl rfl)
theorem dJ16_init_2_70 : decode cJ16_init_2 70 = .ok (.iload 4, 2) := dk_21 4 (dk_at dksJ16_init_2_2 22 rfl rfl)
theorem dJ16_init_2_72 : decode cJ16_init_2 72 = .ok (.invokestatic 47, 3) := dk_184 0 47 (dk_at dksJ16_init_2_3 0 rfl rfl)
theorem dJ16_init_2_75 : decode cJ16_init_2 75 = .ok (.putfield 15, 3) := dk_181 0 15 (dk_at dksJ16_init_2_3 3 rfl rfl)
theorem dJ16_init_2_78 : decode cJ16_init_2 78 = .ok (.return_, 1) := dk_177 (dk_at dksJ16_init_2_3 6 rfl rfl)
theorem dJ16_init_2_79 : decode cJ16_init_2 79 = .ok (.aload_n 0, 1) := dk_42 (dk_at dksJ16_init_2_3 7 rfl rfl)
theorem dJ16_init_2_80 : decode cJ16_init_2 80 = .ok (.iconst 1, 1) := dk_4 (dk_at dksJ16_init_2_3 8 rfl rfl)
theorem dJ16_init_2_81 : decode cJ16_init_2 81 = .ok (.putfield 15, 3) := dk_181 0 15 (dk_at dksJ16_init_2_3 9 rfl rfl)
theorem dJ16_init_2_84 : decode cJ16_init_2 84 = .ok (.aload_n 0, 1) := dk_42 (dk_at dksJ16_init_2_3 12 rfl rfl)
theorem dJ16_init_2_85 : decode cJ16_init_2 85 = .ok (.aload_n 3, 1) := dk_45 (dk_at dksJ16_init_2_3 13 rfl rfl)
theorem dJ16_init_2_86 : decode cJ16_init_2 86 = .ok (.iconst 0, 1) := dk_3 (dk_at dksJ16_init_2_3 14 rfl rfl)
theorem dJ16_init_2_87 : decode cJ16_init_2 87 = .ok (.iload 4, 2) := dk_21 4 (dk_at dksJ16_init_2_3 15 rfl rfl)
theorem dJ16_init_2_89 : decode cJ16_init_2 89 = .ok (.iconst 1, 1) := dk_4 (dk_at dksJ16_init_2_3 17 rfl rfl)
theorem dJ16_init_2_90 : decode cJ16_init_2 90 = .ok (.ishl, 1) := dk_120 (dk_at dksJ16_init_2_3 18 rfl rfl)
theorem dJ16_init_2_91 : decode cJ16_init_2 91 = .ok (.invokestatic 54, 3) := dk_184 0 54 (dk_at dksJ16_init_2_3 19 rfl rfl)
theorem dJ16_init_2_94 : decode cJ16_init_2 94 = .ok (.putfield 9, 3) := dk_181 0 9 (dk_at dksJ16_init_2_4 0 rfl rfl)
theorem dJ16_init_2_97 : decode cJ16_init_2 97 = .ok (.return_, 1) := dk_177 (dk_at dksJ16_init_2_4 3 rfl rfl)
abbrev cJ16_equals : ByteArray := prog_27_method_66_code
def yJ16_equals : MethodName := ⟨RJ16, "equals", "(Ljava/lang/Object;)Z"⟩
def dkwJ16_equals_2 : List UInt8 := [184, 2, 29, 153, 0, 7, 4, 167, 0, 4, 3, 172]
abbrev dktJ16_equals_2 : List UInt8 := dkwJ16_equals_2 ++ []
def dkwJ16_equals_1 : List UInt8 := [153, 0, 14, 42, 180, 0, 15, 44, 180, 0, 15, 160, 0, 21, 42, 180, 0, 9, 44, 180, 0, 9]
abbrev dktJ16_equals_1 : List UInt8 := dkwJ16_equals_1 ++ dktJ16_equals_2
def dkwJ16_equals_0 : List UInt8 := [42, 43, 166, 0, 5, 4, 172, 43, 193, 0, 10, 153, 0, 43, 43, 192, 0, 10, 77, 178, 0, 38]
abbrev dktJ16_equals_0 : List UInt8 := dkwJ16_equals_0 ++ dktJ16_equals_1
theorem dksJ16_equals_0 : cJ16_equals.data.toList.drop 0 = dktJ16_equals_0 := by decide +kernel
theorem dksJ16_equals_1 : cJ16_equals.data.toList.drop 22 = dktJ16_equals_1 := dk_seg dksJ16_equals_0 22 rfl rfl
theorem dksJ16_equals_2 : cJ16_equals.data.toList.drop 44 = dktJ16_equals_2 := dk_seg dksJ16_equals_1 22 rfl rfl
theorem dJ16_equals_0 : decode cJ16_equals 0 = .ok (.aload_n 0, 1) := dk_42 (dk_at dksJ16_equals_0 0 rfl rfl)
theorem dJ16_equals_1 : decode cJ16_equals 1 = .ok (.aload_n 1, 1) := dk_43 (dk_at dksJ16_equals_0 1 rfl rfl)
theorem dJ16_equals_2 : decode cJ16_equals 2 = .ok (.if_acmp .ne 5, 3) := dk_166 0 5 (dk_at dksJ16_equals_0 2 rfl rfl)
theorem dJ16_equals_5 : decode cJ16_equals 5 = .ok (.iconst 1, 1) := dk_4 (dk_at dksJ16_equals_0 5 rfl rfl)
theorem dJ16_equals_6 : decode cJ16_equals 6 = .ok (.ireturn, 1) := dk_172 (dk_at dksJ16_equals_0 6 rfl rfl)
theorem dJ16_equals_7 : decode cJ16_equals 7 = .ok (.aload_n 1, 1) := dk_43 (dk_at dksJ16_equals_0 7 rfl rfl)
theorem dJ16_equals_8 : decode cJ16_equals 8 = .ok (.instanceof 10, 3) := dk_193 0 10 (dk_at dksJ16_equals_0 8 rfl rfl)
theorem dJ16_equals_11 : decode cJ16_equals 11 = .ok (.ifCond .eq 43, 3) := dk_153 0 43 (dk_at dksJ16_equals_0 11 rfl rfl)
theorem dJ16_equals_14 : decode cJ16_equals 14 = .ok (.aload_n 1, 1) := dk_43 (dk_at dksJ16_equals_0 14 rfl rfl)
theorem dJ16_equals_15 : decode cJ16_equals 15 = .ok (.checkcast 10, 3) := dk_192 0 10 (dk_at dksJ16_equals_0 15 rfl rfl)
theorem dJ16_equals_18 : decode cJ16_equals 18 = .ok (.astore_n 2, 1) := dk_77 (dk_at dksJ16_equals_0 18 rfl rfl)
theorem dJ16_equals_19 : decode cJ16_equals 19 = .ok (.getstatic 38, 3) := dk_178 0 38 (dk_at dksJ16_equals_0 19 rfl rfl)
theorem dJ16_equals_22 : decode cJ16_equals 22 = .ok (.ifCond .eq 14, 3) := dk_153 0 14 (dk_at dksJ16_equals_1 0 rfl rfl)
theorem dJ16_equals_25 : decode cJ16_equals 25 = .ok (.aload_n 0, 1) := dk_42 (dk_at dksJ16_equals_1 3 rfl rfl)
theorem dJ16_equals_26 : decode cJ16_equals 26 = .ok (.getfield 15, 3) := dk_180 0 15 (dk_at dksJ16_equals_1 4 rfl rfl)
theorem dJ16_equals_29 : decode cJ16_equals 29 = .ok (.aload_n 2, 1) := dk_44 (dk_at dksJ16_equals_1 7 rfl rfl)
theorem dJ16_equals_30 : decode cJ16_equals 30 = .ok (.getfield 15, 3) := dk_180 0 15 (dk_at dksJ16_equals_1 8 rfl rfl)
theorem dJ16_equals_33 : decode cJ16_equals 33 = .ok (.if_icmp .ne 21, 3) := dk_160 0 21 (dk_at dksJ16_equals_1 11 rfl rfl)
theorem dJ16_equals_36 : decode cJ16_equals 36 = .ok (.aload_n 0, 1) := dk_42 (dk_at dksJ16_equals_1 14 rfl rfl)
theorem dJ16_equals_37 : decode cJ16_equals 37 = .ok (.getfield 9, 3) := dk_180 0 9 (dk_at dksJ16_equals_1 15 rfl rfl)
theorem dJ16_equals_40 : decode cJ16_equals 40 = .ok (.aload_n 2, 1) := dk_44 (dk_at dksJ16_equals_1 18 rfl rfl)
theorem dJ16_equals_41 : decode cJ16_equals 41 = .ok (.getfield 9, 3) := dk_180 0 9 (dk_at dksJ16_equals_1 19 rfl rfl)
theorem dJ16_equals_44 : decode cJ16_equals 44 = .ok (.invokestatic 541, 3) := dk_184 2 29 (dk_at dksJ16_equals_2 0 rfl rfl)
theorem dJ16_equals_47 : decode cJ16_equals 47 = .ok (.ifCond .eq 7, 3) := dk_153 0 7 (dk_at dksJ16_equals_2 3 rfl rfl)
theorem dJ16_equals_50 : decode cJ16_equals 50 = .ok (.iconst 1, 1) := dk_4 (dk_at dksJ16_equals_2 6 rfl rfl)
theorem dJ16_equals_51 : decode cJ16_equals 51 = .ok (.goto 4, 3) := dk_167 0 4 (dk_at dksJ16_equals_2 7 rfl rfl)
theorem dJ16_equals_54 : decode cJ16_equals 54 = .ok (.iconst 0, 1) := dk_3 (dk_at dksJ16_equals_2 10 rfl rfl)
theorem dJ16_equals_55 : decode cJ16_equals 55 = .ok (.ireturn, 1) := dk_172 (dk_at dksJ16_equals_2 11 rfl rfl)
def yJ16_hashCode : MethodName := ⟨RJ16, "hashCode", "()I"⟩
abbrev cJ16_isLatin1 : ByteArray := prog_27_method_154_code
def yJ16_isLatin1 : MethodName := ⟨RJ16, "isLatin1", "()Z"⟩
def dkwJ16_isLatin1_0 : List UInt8 := [178, 0, 38, 153, 0, 14, 42, 180, 0, 15, 154, 0, 7, 4, 167, 0, 4, 3, 172]
abbrev dktJ16_isLatin1_0 : List UInt8 := dkwJ16_isLatin1_0 ++ []
theorem dksJ16_isLatin1_0 : cJ16_isLatin1.data.toList.drop 0 = dktJ16_isLatin1_0 := by decide +kernel
theorem dJ16_isLatin1_0 : decode cJ16_isLatin1 0 = .ok (.getstatic 38, 3) := dk_178 0 38 (dk_at dksJ16_isLatin1_0 0 rfl rfl)
theorem dJ16_isLatin1_3 : decode cJ16_isLatin1 3 = .ok (.ifCond .eq 14, 3) := dk_153 0 14 (dk_at dksJ16_isLatin1_0 3 rfl rfl)
theorem dJ16_isLatin1_6 : decode cJ16_isLatin1 6 = .ok (.aload_n 0, 1) := dk_42 (dk_at dksJ16_isLatin1_0 6 rfl rfl)
theorem dJ16_isLatin1_7 : decode cJ16_isLatin1 7 = .ok (.getfield 15, 3) := dk_180 0 15 (dk_at dksJ16_isLatin1_0 7 rfl rfl)
theorem dJ16_isLatin1_10 : decode cJ16_isLatin1 10 = .ok (.ifCond .ne 7, 3) := dk_154 0 7 (dk_at dksJ16_isLatin1_0 10 rfl rfl)
theorem dJ16_isLatin1_13 : decode cJ16_isLatin1 13 = .ok (.iconst 1, 1) := dk_4 (dk_at dksJ16_isLatin1_0 13 rfl rfl)
theorem dJ16_isLatin1_14 : decode cJ16_isLatin1 14 = .ok (.goto 4, 3) := dk_167 0 4 (dk_at dksJ16_isLatin1_0 14 rfl rfl)
theorem dJ16_isLatin1_17 : decode cJ16_isLatin1 17 = .ok (.iconst 0, 1) := dk_3 (dk_at dksJ16_isLatin1_0 17 rfl rfl)
theorem dJ16_isLatin1_18 : decode cJ16_isLatin1 18 = .ok (.ireturn, 1) := dk_172 (dk_at dksJ16_isLatin1_0 18 rfl rfl)
def yJ16_checkIndex : MethodName := ⟨RJ16, "checkIndex", "(II)V"⟩
def yJ16_compareTo : MethodName := ⟨RJ16, "compareTo", "(Ljava/lang/Object;)I"⟩
def yJ16_compareTo_2 : MethodName := ⟨RJ16, "compareTo", "(Ljava/lang/String;)I"⟩
def yJ16_checkOffset : MethodName := ⟨RJ16, "checkOffset", "(II)V"⟩
abbrev cJ16_isEmpty : ByteArray := prog_27_method_55_code
def yJ16_isEmpty : MethodName := ⟨RJ16, "isEmpty", "()Z"⟩
def dkwJ16_isEmpty_0 : List UInt8 := [42, 180, 0, 9, 190, 154, 0, 7, 4, 167, 0, 4, 3, 172]
abbrev dktJ16_isEmpty_0 : List UInt8 := dkwJ16_isEmpty_0 ++ []
theorem dksJ16_isEmpty_0 : cJ16_isEmpty.data.toList.drop 0 = dktJ16_isEmpty_0 := by decide +kernel
theorem dJ16_isEmpty_0 : decode cJ16_isEmpty 0 = .ok (.aload_n 0, 1) := dk_42 (dk_at dksJ16_isEmpty_0 0 rfl rfl)
theorem dJ16_isEmpty_1 : decode cJ16_isEmpty 1 = .ok (.getfield 9, 3) := dk_180 0 9 (dk_at dksJ16_isEmpty_0 1 rfl rfl)
theorem dJ16_isEmpty_4 : decode cJ16_isEmpty 4 = .ok (.arraylength, 1) := dk_190 (dk_at dksJ16_isEmpty_0 4 rfl rfl)
theorem dJ16_isEmpty_5 : decode cJ16_isEmpty 5 = .ok (.ifCond .ne 7, 3) := dk_154 0 7 (dk_at dksJ16_isEmpty_0 5 rfl rfl)
theorem dJ16_isEmpty_8 : decode cJ16_isEmpty 8 = .ok (.iconst 1, 1) := dk_4 (dk_at dksJ16_isEmpty_0 8 rfl rfl)
theorem dJ16_isEmpty_9 : decode cJ16_isEmpty 9 = .ok (.goto 4, 3) := dk_167 0 4 (dk_at dksJ16_isEmpty_0 9 rfl rfl)
theorem dJ16_isEmpty_12 : decode cJ16_isEmpty 12 = .ok (.iconst 0, 1) := dk_3 (dk_at dksJ16_isEmpty_0 12 rfl rfl)
theorem dJ16_isEmpty_13 : decode cJ16_isEmpty 13 = .ok (.ireturn, 1) := dk_172 (dk_at dksJ16_isEmpty_0 13 rfl rfl)
theorem q77 : (Jvm.Cond.initialized "java/lang/String") ∈ lw_all := lw_g (lw_at lw_m1 22 rfl) rfl
theorem q230 : (Jvm.Cond.selects "java/lang/String" ({ cls := "java/lang/Object", name := "getClass", desc := "()Ljava/lang/Class;" } : Jvm.MethodName) ({ cls := "java/lang/Object", name := "getClass", desc := "()Ljava/lang/Class;" } : Jvm.MethodName)) ∈ lw_all := lw_g (lw_at lw_m1 175 rfl) rfl
theorem q508 : (Jvm.Cond.laysStatic "java/lang/String" "COMPACT_STRINGS" "Z") ∈ lw_tbl := lw_at lw_m2 213 rfl
theorem q518 : (Jvm.Cond.fieldLink "java/lang/String" (1048 : Nat) "java/lang/AbstractStringBuilder" "maybeLatin1" "Z") ∈ lw_all := lw_g (lw_at lw_m2 223 rfl) rfl
theorem q577 : (Jvm.Cond.static ({ cls := "java/lang/String", name := "checkBoundsBeginEnd", desc := "(III)V" } : Jvm.MethodName)) ∈ lw_all := lw_g (lw_at lw_m3 42 rfl) rfl
theorem q578 : (Jvm.Cond.code ({ cls := "java/lang/String", name := "checkBoundsBeginEnd", desc := "(III)V" } : Jvm.MethodName) prog_27_method_158_code (3 : Nat) (Option.none : Option Jvm.ClassFile.FieldType)) ∈ lw_all := lw_g (lw_at lw_m3 43 rfl) rfl
theorem q579 : (Jvm.Cond.fieldLink "java/lang/String" (1053 : Nat) "jdk/internal/util/Preconditions" "SIOOBE_FORMATTER" "Ljava/util/function/BiFunction;") ∈ lw_all := lw_g (lw_at lw_m3 44 rfl) rfl
theorem q581 : (Jvm.Cond.methodLink "java/lang/String" (1062 : Nat) ({ cls := "jdk/internal/util/Preconditions", name := "checkFromToIndex", desc := "(IIILjava/util/function/BiFunction;)I" } : Jvm.MethodName)) ∈ lw_all := lw_g (lw_at lw_m3 46 rfl) rfl
theorem q594 : (Jvm.Cond.instanceMethod ({ cls := "java/lang/String", name := "length", desc := "()I" } : Jvm.MethodName)) ∈ lw_all := lw_g (lw_at lw_m3 59 rfl) rfl
theorem q595 : (Jvm.Cond.selects "java/lang/String" ({ cls := "java/lang/String", name := "length", desc := "()I" } : Jvm.MethodName) ({ cls := "java/lang/String", name := "length", desc := "()I" } : Jvm.MethodName)) ∈ lw_all := lw_g (lw_at lw_m3 60 rfl) rfl
theorem q596 : (Jvm.Cond.code ({ cls := "java/lang/String", name := "length", desc := "()I" } : Jvm.MethodName) prog_27_method_54_code (1 : Nat) (Option.some Jvm.ClassFile.FieldType.int)) ∈ lw_all := lw_g (lw_at lw_m3 61 rfl) rfl
theorem q597 : (Jvm.Cond.methodLink "java/lang/String" (335 : Nat) ({ cls := "java/lang/String", name := "coder", desc := "()B" } : Jvm.MethodName)) ∈ lw_all := lw_g (lw_at lw_m3 62 rfl) rfl
theorem q598 : (Jvm.Cond.instanceMethod ({ cls := "java/lang/String", name := "coder", desc := "()B" } : Jvm.MethodName)) ∈ lw_all := lw_g (lw_at lw_m3 63 rfl) rfl
theorem q599 : (Jvm.Cond.selects "java/lang/String" ({ cls := "java/lang/String", name := "coder", desc := "()B" } : Jvm.MethodName) ({ cls := "java/lang/String", name := "coder", desc := "()B" } : Jvm.MethodName)) ∈ lw_all := lw_g (lw_at lw_m3 64 rfl) rfl
theorem q600 : (Jvm.Cond.code ({ cls := "java/lang/String", name := "coder", desc := "()B" } : Jvm.MethodName) prog_27_method_152_code (1 : Nat) (Option.some Jvm.ClassFile.FieldType.byte)) ∈ lw_all := lw_g (lw_at lw_m3 65 rfl) rfl
theorem q601 : (Jvm.Cond.fieldLink "java/lang/String" (38 : Nat) "java/lang/String" "COMPACT_STRINGS" "Z") ∈ lw_all := lw_g (lw_at lw_m3 66 rfl) rfl
theorem q625 : (Jvm.Cond.static ({ cls := "java/lang/String", name := "checkBoundsOffCount", desc := "(III)I" } : Jvm.MethodName)) ∈ lw_all := lw_g (lw_at lw_m3 90 rfl) rfl
theorem q626 : (Jvm.Cond.code ({ cls := "java/lang/String", name := "checkBoundsOffCount", desc := "(III)I" } : Jvm.MethodName) prog_27_method_157_code (3 : Nat) (Option.some Jvm.ClassFile.FieldType.int)) ∈ lw_all := lw_g (lw_at lw_m3 91 rfl) rfl
theorem q627 : (Jvm.Cond.methodLink "java/lang/String" (1065 : Nat) ({ cls := "jdk/internal/util/Preconditions", name := "checkFromIndexSize", desc := "(IIILjava/util/function/BiFunction;)I" } : Jvm.MethodName)) ∈ lw_all := lw_g (lw_at lw_m3 92 rfl) rfl
theorem q631 : (Jvm.Cond.instanceMethod ({ cls := "java/lang/String", name := "getBytes", desc := "([BIB)V" } : Jvm.MethodName)) ∈ lw_all := lw_g (lw_at lw_m3 96 rfl) rfl
theorem q632 : (Jvm.Cond.selects "java/lang/String" ({ cls := "java/lang/String", name := "getBytes", desc := "([BIB)V" } : Jvm.MethodName) ({ cls := "java/lang/String", name := "getBytes", desc := "([BIB)V" } : Jvm.MethodName)) ∈ lw_all := lw_g (lw_at lw_m3 97 rfl) rfl
theorem q633 : (Jvm.Cond.code ({ cls := "java/lang/String", name := "getBytes", desc := "([BIB)V" } : Jvm.MethodName) prog_27_method_147_code (4 : Nat) (Option.none : Option Jvm.ClassFile.FieldType)) ∈ lw_all := lw_g (lw_at lw_m3 98 rfl) rfl
theorem q634 : (Jvm.Cond.methodLink "java/lang/String" (212 : Nat) ({ cls := "java/lang/System", name := "arraycopy", desc := "(Ljava/lang/Object;ILjava/lang/Object;II)V" } : Jvm.MethodName)) ∈ lw_all := lw_g (lw_at lw_m3 99 rfl) rfl
theorem q635 : (Jvm.Cond.methodLink "java/lang/String" (106 : Nat) ({ cls := "java/lang/StringLatin1", name := "inflate", desc := "([BI[BII)V" } : Jvm.MethodName)) ∈ lw_all := lw_g (lw_at lw_m3 100 rfl) rfl
theorem q667 : (Jvm.Cond.instantiable "java/lang/String" (4 : Nat)) ∈ lw_all := lw_g (lw_at lw_m3 132 rfl) rfl
theorem q669 : (Jvm.Cond.instanceMethod ({ cls := "java/lang/String", name := "<init>", desc := "(Ljava/lang/StringBuilder;)V" } : Jvm.MethodName)) ∈ lw_all := lw_g (lw_at lw_m3 134 rfl) rfl
theorem q670 : (Jvm.Cond.code ({ cls := "java/lang/String", name := "<init>", desc := "(Ljava/lang/StringBuilder;)V" } : Jvm.MethodName) prog_27_method_53_code (2 : Nat) (Option.none : Option Jvm.ClassFile.FieldType)) ∈ lw_all := lw_g (lw_at lw_m3 135 rfl) rfl
theorem q671 : (Jvm.Cond.methodLink "java/lang/String" (489 : Nat) ({ cls := "java/lang/String", name := "<init>", desc := "(Ljava/lang/AbstractStringBuilder;Ljava/lang/Void;)V" } : Jvm.MethodName)) ∈ lw_all := lw_g (lw_at lw_m3 136 rfl) rfl
theorem q672 : (Jvm.Cond.instanceMethod ({ cls := "java/lang/String", name := "<init>", desc := "(Ljava/lang/AbstractStringBuilder;Ljava/lang/Void;)V" } : Jvm.MethodName)) ∈ lw_all := lw_g (lw_at lw_m3 137 rfl) rfl
theorem q673 : (Jvm.Cond.code ({ cls := "java/lang/String", name := "<init>", desc := "(Ljava/lang/AbstractStringBuilder;Ljava/lang/Void;)V" } : Jvm.MethodName) prog_27_method_150_code (5 : Nat) (Option.none : Option Jvm.ClassFile.FieldType)) ∈ lw_all := lw_g (lw_at lw_m3 138 rfl) rfl
theorem q674 : (Jvm.Cond.methodLink "java/lang/String" (1 : Nat) ({ cls := "java/lang/Object", name := "<init>", desc := "()V" } : Jvm.MethodName)) ∈ lw_all := lw_g (lw_at lw_m3 139 rfl) rfl
theorem q675 : (Jvm.Cond.methodLink "java/lang/String" (552 : Nat) ({ cls := "java/lang/AbstractStringBuilder", name := "getValue", desc := "()[B" } : Jvm.MethodName)) ∈ lw_all := lw_g (lw_at lw_m3 140 rfl) rfl
theorem q680 : (Jvm.Cond.methodLink "java/lang/String" (549 : Nat) ({ cls := "java/lang/AbstractStringBuilder", name := "length", desc := "()I" } : Jvm.MethodName)) ∈ lw_all := lw_g (lw_at lw_m3 145 rfl) rfl
theorem q688 : (Jvm.Cond.methodLink "java/lang/String" (1047 : Nat) ({ cls := "java/lang/AbstractStringBuilder", name := "isLatin1", desc := "()Z" } : Jvm.MethodName)) ∈ lw_all := lw_g (lw_at lw_m3 153 rfl) rfl
theorem q689 : (Jvm.Cond.methodLink "java/lang/String" (54 : Nat) ({ cls := "java/util/Arrays", name := "copyOfRange", desc := "([BII)[B" } : Jvm.MethodName)) ∈ lw_all := lw_g (lw_at lw_m3 154 rfl) rfl
theorem q738 : (Jvm.Cond.methodLink "java/lang/String" (1051 : Nat) ({ cls := "java/lang/StringUTF16", name := "compress", desc := "([BII)[B" } : Jvm.MethodName)) ∈ lw_all := lw_g (lw_at lw_m3 203 rfl) rfl
theorem q748 : (Jvm.Cond.methodLink "java/lang/String" (47 : Nat) ({ cls := "java/lang/StringUTF16", name := "coderFromArrayLen", desc := "([BI)B" } : Jvm.MethodName)) ∈ lw_all := lw_g (lw_at lw_m3 213 rfl) rfl
theorem q751 : (Jvm.Cond.fieldLink "java/lang/String" (9 : Nat) "java/lang/String" "value" "[B") ∈ lw_all := lw_g (lw_at lw_m3 216 rfl) rfl
theorem q752 : (Jvm.Cond.fieldLink "java/lang/String" (15 : Nat) "java/lang/String" "coder" "B") ∈ lw_all := lw_g (lw_at lw_m3 217 rfl) rfl
theorem q753 : (Jvm.Cond.fieldLink "java/lang/String" (19 : Nat) "java/lang/String" "hash" "I") ∈ lw_all := lw_g (lw_at lw_m3 218 rfl) rfl
theorem q754 : (Jvm.Cond.fieldLink "java/lang/String" (23 : Nat) "java/lang/String" "hashIsZero" "Z") ∈ lw_all := lw_g (lw_at lw_m3 219 rfl) rfl
theorem q755 : (Jvm.Cond.laysFinal "java/lang/String" "java/lang/String" "value" "[B") ∈ lw_all := lw_g (lw_at lw_m3 220 rfl) rfl
theorem q756 : (Jvm.Cond.soleField "java/lang/String" "value") ∈ lw_all := lw_g (lw_at lw_m3 221 rfl) rfl
theorem q757 : (Jvm.Cond.laysFinal "java/lang/String" "java/lang/String" "coder" "B") ∈ lw_all := lw_g (lw_at lw_m3 222 rfl) rfl
theorem q758 : (Jvm.Cond.soleField "java/lang/String" "coder") ∈ lw_all := lw_g (lw_at lw_m3 223 rfl) rfl
theorem q759 : (Jvm.Cond.lays "java/lang/String" "java/lang/String" "hash" "I") ∈ lw_all := lw_g (lw_at lw_m3 224 rfl) rfl
theorem q760 : (Jvm.Cond.soleField "java/lang/String" "hash") ∈ lw_all := lw_g (lw_at lw_m3 225 rfl) rfl
theorem q761 : (Jvm.Cond.lays "java/lang/String" "java/lang/String" "hashIsZero" "Z") ∈ lw_all := lw_g (lw_at lw_m3 226 rfl) rfl
theorem q762 : (Jvm.Cond.soleField "java/lang/String" "hashIsZero") ∈ lw_all := lw_g (lw_at lw_m3 227 rfl) rfl
theorem q763 : (Jvm.Cond.superclass "java/lang/String" "java/lang/Object") ∈ lw_all := lw_g (lw_at lw_m3 228 rfl) rfl
theorem q1124 : (Jvm.Cond.selects "java/lang/String" ({ cls := "java/lang/Object", name := "equals", desc := "(Ljava/lang/Object;)Z" } : Jvm.MethodName) ({ cls := "java/lang/String", name := "equals", desc := "(Ljava/lang/Object;)Z" } : Jvm.MethodName)) ∈ lw_all := lw_g (lw_at lw_m5 109 rfl) rfl
theorem q1125 : (Jvm.Cond.instanceMethod ({ cls := "java/lang/String", name := "equals", desc := "(Ljava/lang/Object;)Z" } : Jvm.MethodName)) ∈ lw_all := lw_g (lw_at lw_m5 110 rfl) rfl
theorem q1126 : (Jvm.Cond.code ({ cls := "java/lang/String", name := "equals", desc := "(Ljava/lang/Object;)Z" } : Jvm.MethodName) prog_27_method_66_code (3 : Nat) (Option.some Jvm.ClassFile.FieldType.boolean)) ∈ lw_all := lw_g (lw_at lw_m5 111 rfl) rfl
theorem q1127 : (Jvm.Cond.classLink "java/lang/String" (10 : Nat) "java/lang/String") ∈ lw_all := lw_g (lw_at lw_m5 112 rfl) rfl
theorem q1128 : (Jvm.Cond.methodLink "java/lang/String" (541 : Nat) ({ cls := "java/lang/StringLatin1", name := "equals", desc := "([B[B)Z" } : Jvm.MethodName)) ∈ lw_all := lw_g (lw_at lw_m5 113 rfl) rfl
theorem q1311 : (Jvm.Cond.selects "java/lang/String" ({ cls := "java/lang/Object", name := "hashCode", desc := "()I" } : Jvm.MethodName) ({ cls := "java/lang/String", name := "hashCode", desc := "()I" } : Jvm.MethodName)) ∈ lw_all := lw_g (lw_at lw_m6 56 rfl) rfl
theorem q1312 : (Jvm.Cond.instanceMethod ({ cls := "java/lang/String", name := "hashCode", desc := "()I" } : Jvm.MethodName)) ∈ lw_all := lw_g (lw_at lw_m6 57 rfl) rfl
theorem q1313 : (Jvm.Cond.code ({ cls := "java/lang/String", name := "hashCode", desc := "()I" } : Jvm.MethodName) prog_27_method_78_code (2 : Nat) (Option.some Jvm.ClassFile.FieldType.int)) ∈ lw_all := lw_g (lw_at lw_m6 58 rfl) rfl
theorem q1314 : (Jvm.Cond.methodLink "java/lang/String" (492 : Nat) ({ cls := "java/lang/String", name := "isLatin1", desc := "()Z" } : Jvm.MethodName)) ∈ lw_all := lw_g (lw_at lw_m6 59 rfl) rfl
theorem q1315 : (Jvm.Cond.instanceMethod ({ cls := "java/lang/String", name := "isLatin1", desc := "()Z" } : Jvm.MethodName)) ∈ lw_all := lw_g (lw_at lw_m6 60 rfl) rfl
theorem q1316 : (Jvm.Cond.selects "java/lang/String" ({ cls := "java/lang/String", name := "isLatin1", desc := "()Z" } : Jvm.MethodName) ({ cls := "java/lang/String", name := "isLatin1", desc := "()Z" } : Jvm.MethodName)) ∈ lw_all := lw_g (lw_at lw_m6 61 rfl) rfl
theorem q1317 : (Jvm.Cond.code ({ cls := "java/lang/String", name := "isLatin1", desc := "()Z" } : Jvm.MethodName) prog_27_method_154_code (1 : Nat) (Option.some Jvm.ClassFile.FieldType.boolean)) ∈ lw_all := lw_g (lw_at lw_m6 62 rfl) rfl
theorem q1318 : (Jvm.Cond.methodLink "java/lang/String" (628 : Nat) ({ cls := "java/lang/StringLatin1", name := "hashCode", desc := "([B)I" } : Jvm.MethodName)) ∈ lw_all := lw_g (lw_at lw_m6 63 rfl) rfl
theorem q1367 : (Jvm.Cond.methodLink "java/lang/String" (632 : Nat) ({ cls := "java/lang/StringUTF16", name := "hashCode", desc := "([B)I" } : Jvm.MethodName)) ∈ lw_all := lw_g (lw_at lw_m6 112 rfl) rfl
theorem q1614 : (Jvm.Cond.static ({ cls := "java/lang/String", name := "checkIndex", desc := "(II)V" } : Jvm.MethodName)) ∈ lw_all := lw_g (lw_at lw_m7 119 rfl) rfl
theorem q1615 : (Jvm.Cond.code ({ cls := "java/lang/String", name := "checkIndex", desc := "(II)V" } : Jvm.MethodName) prog_27_method_155_code (2 : Nat) (Option.none : Option Jvm.ClassFile.FieldType)) ∈ lw_all := lw_g (lw_at lw_m7 120 rfl) rfl
theorem q1616 : (Jvm.Cond.methodLink "java/lang/String" (1059 : Nat) ({ cls := "jdk/internal/util/Preconditions", name := "checkIndex", desc := "(IILjava/util/function/BiFunction;)I" } : Jvm.MethodName)) ∈ lw_all := lw_g (lw_at lw_m7 121 rfl) rfl
theorem q2711 : (Jvm.Cond.castable "java/lang/String" "java/lang/Comparable") ∈ lw_tbl := lw_at lw_m12 16 rfl
theorem q2712 : (Jvm.Cond.selects "java/lang/String" ({ cls := "java/lang/Comparable", name := "compareTo", desc := "(Ljava/lang/Object;)I" } : Jvm.MethodName) ({ cls := "java/lang/String", name := "compareTo", desc := "(Ljava/lang/Object;)I" } : Jvm.MethodName)) ∈ lw_all := lw_g (lw_at lw_m12 17 rfl) rfl
theorem q2713 : (Jvm.Cond.unhidden "java/lang/String" "compareTo" "(Ljava/lang/Object;)I") ∈ lw_tbl := lw_at lw_m12 18 rfl
theorem q2714 : (Jvm.Cond.instanceMethod ({ cls := "java/lang/String", name := "compareTo", desc := "(Ljava/lang/Object;)I" } : Jvm.MethodName)) ∈ lw_all := lw_g (lw_at lw_m12 19 rfl) rfl
theorem q2715 : (Jvm.Cond.publicMethod ({ cls := "java/lang/String", name := "compareTo", desc := "(Ljava/lang/Object;)I" } : Jvm.MethodName)) ∈ lw_tbl := lw_at lw_m12 20 rfl
theorem q2716 : (Jvm.Cond.code ({ cls := "java/lang/String", name := "compareTo", desc := "(Ljava/lang/Object;)I" } : Jvm.MethodName) prog_27_method_162_code (2 : Nat) (Option.some Jvm.ClassFile.FieldType.int)) ∈ lw_all := lw_g (lw_at lw_m12 21 rfl) rfl
theorem q2717 : (Jvm.Cond.methodLink "java/lang/String" (1084 : Nat) ({ cls := "java/lang/String", name := "compareTo", desc := "(Ljava/lang/String;)I" } : Jvm.MethodName)) ∈ lw_all := lw_g (lw_at lw_m12 22 rfl) rfl
theorem q2718 : (Jvm.Cond.instanceMethod ({ cls := "java/lang/String", name := "compareTo", desc := "(Ljava/lang/String;)I" } : Jvm.MethodName)) ∈ lw_all := lw_g (lw_at lw_m12 23 rfl) rfl
theorem q2719 : (Jvm.Cond.selects "java/lang/String" ({ cls := "java/lang/String", name := "compareTo", desc := "(Ljava/lang/String;)I" } : Jvm.MethodName) ({ cls := "java/lang/String", name := "compareTo", desc := "(Ljava/lang/String;)I" } : Jvm.MethodName)) ∈ lw_all := lw_g (lw_at lw_m12 24 rfl) rfl
theorem q2720 : (Jvm.Cond.code ({ cls := "java/lang/String", name := "compareTo", desc := "(Ljava/lang/String;)I" } : Jvm.MethodName) prog_27_method_71_code (5 : Nat) (Option.some Jvm.ClassFile.FieldType.int)) ∈ lw_all := lw_g (lw_at lw_m12 25 rfl) rfl
theorem q2721 : (Jvm.Cond.methodLink "java/lang/String" (586 : Nat) ({ cls := "java/lang/StringLatin1", name := "compareTo", desc := "([B[B)I" } : Jvm.MethodName)) ∈ lw_all := lw_g (lw_at lw_m12 26 rfl) rfl
theorem q2835 : (Jvm.Cond.methodLink "java/lang/String" (590 : Nat) ({ cls := "java/lang/StringUTF16", name := "compareTo", desc := "([B[B)I" } : Jvm.MethodName)) ∈ lw_all := lw_g (lw_at lw_m12 140 rfl) rfl
theorem q2842 : (Jvm.Cond.methodLink "java/lang/String" (591 : Nat) ({ cls := "java/lang/StringLatin1", name := "compareToUTF16", desc := "([B[B)I" } : Jvm.MethodName)) ∈ lw_all := lw_g (lw_at lw_m12 147 rfl) rfl
theorem q2853 : (Jvm.Cond.methodLink "java/lang/String" (594 : Nat) ({ cls := "java/lang/StringUTF16", name := "compareToLatin1", desc := "([B[B)I" } : Jvm.MethodName)) ∈ lw_all := lw_g (lw_at lw_m12 158 rfl) rfl
theorem q2879 : (Jvm.Cond.static ({ cls := "java/lang/String", name := "checkOffset", desc := "(II)V" } : Jvm.MethodName)) ∈ lw_all := lw_g (lw_at lw_m12 184 rfl) rfl
theorem q2880 : (Jvm.Cond.code ({ cls := "java/lang/String", name := "checkOffset", desc := "(II)V" } : Jvm.MethodName) prog_27_method_156_code (2 : Nat) (Option.none : Option Jvm.ClassFile.FieldType)) ∈ lw_all := lw_g (lw_at lw_m12 185 rfl) rfl
theorem q3611 : (Jvm.Cond.instanceMethod ({ cls := "java/lang/String", name := "isEmpty", desc := "()Z" } : Jvm.MethodName)) ∈ lw_all := lw_g (lw_at lw_m15 196 rfl) rfl
theorem q3612 : (Jvm.Cond.selects "java/lang/String" ({ cls := "java/lang/String", name := "isEmpty", desc := "()Z" } : Jvm.MethodName) ({ cls := "java/lang/String", name := "isEmpty", desc := "()Z" } : Jvm.MethodName)) ∈ lw_all := lw_g (lw_at lw_m15 197 rfl) rfl
theorem q3613 : (Jvm.Cond.code ({ cls := "java/lang/String", name := "isEmpty", desc := "()Z" } : Jvm.MethodName) prog_27_method_55_code (1 : Nat) (Option.some Jvm.ClassFile.FieldType.boolean)) ∈ lw_all := lw_g (lw_at lw_m15 198 rfl) rfl
theorem q3868 : (Jvm.Cond.selects "java/lang/String" ({ cls := "java/lang/String", name := "equals", desc := "(Ljava/lang/Object;)Z" } : Jvm.MethodName) ({ cls := "java/lang/String", name := "equals", desc := "(Ljava/lang/Object;)Z" } : Jvm.MethodName)) ∈ lw_all := lw_g (lw_at lw_m16 213 rfl) rfl
theorem q3909 : (Jvm.Cond.castable "java/lang/String" "java/lang/Object") ∈ lw_tbl := lw_at lw_m17 14 rfl
theorem in_J16 : ∀ w ∈ wsJ160, w ∈ lw_all := lw_in wsJ160 [755, 757, 759, 761] (by decide +kernel) (by decide +kernel)

/-! java/lang/AbstractStringBuilder -/
set_option maxRecDepth 100000
def RJ20 : String := "java/lang/AbstractStringBuilder"
abbrev cJ20_init : ByteArray := prog_10_method_2_code
def yJ20_init : MethodName := ⟨RJ20, "<init>", "(I)V"⟩
def dkwJ20_init_1 : List UInt8 := [167, 0, 16, 42, 27, 184, 0, 26, 181, 0, 15, 42, 4, 181, 0, 22, 177]
abbrev dktJ20_init_1 : List UInt8 := dkwJ20_init_1 ++ []
def dkwJ20_init_0 : List UInt8 := [42, 183, 0, 3, 178, 0, 18, 153, 0, 18, 42, 27, 188, 8, 181, 0, 15, 42, 3, 181, 0, 22]
abbrev dktJ20_init_0 : List UInt8 := dkwJ20_init_0 ++ dktJ20_init_1
theorem dksJ20_init_0 : cJ20_init.data.toList.drop 0 = dktJ20_init_0 := by decide +kernel
theorem dksJ20_init_1 : cJ20_init.data.toList.drop 22 = dktJ20_init_1 := dk_seg dksJ20_init_0 22 rfl rfl
theorem dJ20_init_0 : decode cJ20_init 0 = .ok (.aload_n 0, 1) := dk_42 (dk_at dksJ20_init_0 0 rfl rfl)
theorem dJ20_init_1 : decode cJ20_init 1 = .ok (.invokespecial 3, 3) := dk_183 0 3 (dk_at dksJ20_init_0 1 rfl rfl)
theorem dJ20_init_4 : decode cJ20_init 4 = .ok (.getstatic 18, 3) := dk_178 0 18 (dk_at dksJ20_init_0 4 rfl rfl)
theorem dJ20_init_7 : decode cJ20_init 7 = .ok (.ifCond .eq 18, 3) := dk_153 0 18 (dk_at dksJ20_init_0 7 rfl rfl)
theorem dJ20_init_10 : decode cJ20_init 10 = .ok (.aload_n 0, 1) := dk_42 (dk_at dksJ20_init_0 10 rfl rfl)
theorem dJ20_init_11 : decode cJ20_init 11 = .ok (.iload_n 1, 1) := dk_27 (dk_at dksJ20_init_0 11 rfl rfl)
theorem dJ20_init_12 : decode cJ20_init 12 = .ok (.newarray .byte, 2) := dk_188_8 (dk_at dksJ20_init_0 12 rfl rfl)
theorem dJ20_init_14 : decode cJ20_init 14 = .ok (.putfield 15, 3) := dk_181 0 15 (dk_at dksJ20_init_0 14 rfl rfl)
theorem dJ20_init_17 : decode cJ20_init 17 = .ok (.aload_n 0, 1) := dk_42 (dk_at dksJ20_init_0 17 rfl rfl)
theorem dJ20_init_18 : decode cJ20_init 18 = .ok (.iconst 0, 1) := dk_3 (dk_at dksJ20_init_0 18 rfl rfl)
theorem dJ20_init_19 : decode cJ20_init 19 = .ok (.putfield 22, 3) := dk_181 0 22 (dk_at dksJ20_init_0 19 rfl rfl)
theorem dJ20_init_22 : decode cJ20_init 22 = .ok (.goto 16, 3) := dk_167 0 16 (dk_at dksJ20_init_1 0 rfl rfl)
theorem dJ20_init_25 : decode cJ20_init 25 = .ok (.aload_n 0, 1) := dk_42 (dk_at dksJ20_init_1 3 rfl rfl)
theorem dJ20_init_26 : decode cJ20_init 26 = .ok (.iload_n 1, 1) := dk_27 (dk_at dksJ20_init_1 4 rfl rfl)
theorem dJ20_init_27 : decode cJ20_init 27 = .ok (.invokestatic 26, 3) := dk_184 0 26 (dk_at dksJ20_init_1 5 rfl rfl)
theorem dJ20_init_30 : decode cJ20_init 30 = .ok (.putfield 15, 3) := dk_181 0 15 (dk_at dksJ20_init_1 8 rfl rfl)
theorem dJ20_init_33 : decode cJ20_init 33 = .ok (.aload_n 0, 1) := dk_42 (dk_at dksJ20_init_1 11 rfl rfl)
theorem dJ20_init_34 : decode cJ20_init 34 = .ok (.iconst 1, 1) := dk_4 (dk_at dksJ20_init_1 12 rfl rfl)
theorem dJ20_init_35 : decode cJ20_init 35 = .ok (.putfield 22, 3) := dk_181 0 22 (dk_at dksJ20_init_1 13 rfl rfl)
theorem dJ20_init_38 : decode cJ20_init 38 = .ok (.return_, 1) := dk_177 (dk_at dksJ20_init_1 16 rfl rfl)
abbrev cJ20_append : ByteArray := prog_10_method_22_code
def yJ20_append : MethodName := ⟨RJ20, "append", "(Ljava/lang/String;)Ljava/lang/AbstractStringBuilder;"⟩
def dkwJ20_append_1 : List UInt8 := [42, 42, 180, 0, 79, 43, 182, 0, 208, 42, 89, 180, 0, 79, 28, 96, 181, 0, 79, 42, 176]
abbrev dktJ20_append_1 : List UInt8 := dkwJ20_append_1 ++ []
def dkwJ20_append_0 : List UInt8 := [43, 199, 0, 8, 42, 182, 0, 204, 176, 43, 182, 0, 32, 61, 42, 42, 180, 0, 79, 28, 96, 182, 0, 100]
abbrev dktJ20_append_0 : List UInt8 := dkwJ20_append_0 ++ dktJ20_append_1
theorem dksJ20_append_0 : cJ20_append.data.toList.drop 0 = dktJ20_append_0 := by decide +kernel
theorem dksJ20_append_1 : cJ20_append.data.toList.drop 24 = dktJ20_append_1 := dk_seg dksJ20_append_0 24 rfl rfl
theorem dJ20_append_0 : decode cJ20_append 0 = .ok (.aload_n 1, 1) := dk_43 (dk_at dksJ20_append_0 0 rfl rfl)
theorem dJ20_append_1 : decode cJ20_append 1 = .ok (.ifnonnull 8, 3) := dk_199 0 8 (dk_at dksJ20_append_0 1 rfl rfl)
theorem dJ20_append_4 : decode cJ20_append 4 = .ok (.aload_n 0, 1) := dk_42 (dk_at dksJ20_append_0 4 rfl rfl)
theorem dJ20_append_5 : decode cJ20_append 5 = .ok (.invokevirtual 204, 3) := dk_182 0 204 (dk_at dksJ20_append_0 5 rfl rfl)
theorem dJ20_append_8 : decode cJ20_append 8 = .ok (.areturn, 1) := dk_176 (dk_at dksJ20_append_0 8 rfl rfl)
theorem dJ20_append_9 : decode cJ20_append 9 = .ok (.aload_n 1, 1) := dk_43 (dk_at dksJ20_append_0 9 rfl rfl)
theorem dJ20_append_10 : decode cJ20_append 10 = .ok (.invokevirtual 32, 3) := dk_182 0 32 (dk_at dksJ20_append_0 10 rfl rfl)
theorem dJ20_append_13 : decode cJ20_append 13 = .ok (.istore_n 2, 1) := dk_61 (dk_at dksJ20_append_0 13 rfl rfl)
theorem dJ20_append_14 : decode cJ20_append 14 = .ok (.aload_n 0, 1) := dk_42 (dk_at dksJ20_append_0 14 rfl rfl)
theorem dJ20_append_15 : decode cJ20_append 15 = .ok (.aload_n 0, 1) := dk_42 (dk_at dksJ20_append_0 15 rfl rfl)
theorem dJ20_append_16 : decode cJ20_append 16 = .ok (.getfield 79, 3) := dk_180 0 79 (dk_at dksJ20_append_0 16 rfl rfl)
theorem dJ20_append_19 : decode cJ20_append 19 = .ok (.iload_n 2, 1) := dk_28 (dk_at dksJ20_append_0 19 rfl rfl)
theorem dJ20_append_20 : decode cJ20_append 20 = .ok (.iadd, 1) := dk_96 (dk_at dksJ20_append_0 20 rfl rfl)
theorem dJ20_append_21 : decode cJ20_append 21 = .ok (.invokevirtual 100, 3) := dk_182 0 100 (dk_at dksJ20_append_0 21 rfl rfl)
theorem dJ20_append_24 : decode cJ20_append 24 = .ok (.aload_n 0, 1) := dk_42 (dk_at dksJ20_append_1 0 rfl rfl)
theorem dJ20_append_25 : decode cJ20_append 25 = .ok (.aload_n 0, 1) := dk_42 (dk_at dksJ20_append_1 1 rfl rfl)
theorem dJ20_append_26 : decode cJ20_append 26 = .ok (.getfield 79, 3) := dk_180 0 79 (dk_at dksJ20_append_1 2 rfl rfl)
theorem dJ20_append_29 : decode cJ20_append 29 = .ok (.aload_n 1, 1) := dk_43 (dk_at dksJ20_append_1 5 rfl rfl)
theorem dJ20_append_30 : decode cJ20_append 30 = .ok (.invokevirtual 208, 3) := dk_182 0 208 (dk_at dksJ20_append_1 6 rfl rfl)
theorem dJ20_append_33 : decode cJ20_append 33 = .ok (.aload_n 0, 1) := dk_42 (dk_at dksJ20_append_1 9 rfl rfl)
theorem dJ20_append_34 : decode cJ20_append 34 = .ok (.dup, 1) := dk_89 (dk_at dksJ20_append_1 10 rfl rfl)
theorem dJ20_append_35 : decode cJ20_append 35 = .ok (.getfield 79, 3) := dk_180 0 79 (dk_at dksJ20_append_1 11 rfl rfl)
theorem dJ20_append_38 : decode cJ20_append 38 = .ok (.iload_n 2, 1) := dk_28 (dk_at dksJ20_append_1 14 rfl rfl)
theorem dJ20_append_39 : decode cJ20_append 39 = .ok (.iadd, 1) := dk_96 (dk_at dksJ20_append_1 15 rfl rfl)
theorem dJ20_append_40 : decode cJ20_append 40 = .ok (.putfield 79, 3) := dk_181 0 79 (dk_at dksJ20_append_1 16 rfl rfl)
theorem dJ20_append_43 : decode cJ20_append 43 = .ok (.aload_n 0, 1) := dk_42 (dk_at dksJ20_append_1 19 rfl rfl)
theorem dJ20_append_44 : decode cJ20_append 44 = .ok (.areturn, 1) := dk_176 (dk_at dksJ20_append_1 20 rfl rfl)
def yJ20_appendNull : MethodName := ⟨RJ20, "appendNull", "()Ljava/lang/AbstractStringBuilder;"⟩
abbrev cJ20_ensureCapacityInternal : ByteArray := prog_10_method_9_code
def yJ20_ensureCapacityInternal : MethodName := ⟨RJ20, "ensureCapacityInternal", "(I)V"⟩
def dkwJ20_ensureCapacityInternal_1 : List UInt8 := [182, 0, 104, 42, 180, 0, 22, 120, 184, 0, 108, 181, 0, 15, 177]
abbrev dktJ20_ensureCapacityInternal_1 : List UInt8 := dkwJ20_ensureCapacityInternal_1 ++ []
def dkwJ20_ensureCapacityInternal_0 : List UInt8 := [42, 180, 0, 15, 190, 42, 180, 0, 22, 122, 61, 27, 28, 100, 158, 0, 24, 42, 42, 180, 0, 15, 42, 27]
abbrev dktJ20_ensureCapacityInternal_0 : List UInt8 := dkwJ20_ensureCapacityInternal_0 ++ dktJ20_ensureCapacityInternal_1
theorem dksJ20_ensureCapacityInternal_0 : cJ20_ensureCapacityInternal.data.toList.drop 0 = dktJ20_ensureCapacityInternal_0 := by decide +kernel
theorem dksJ20_ensureCapacityInternal_1 : cJ20_ensureCapacityInternal.data.toList.drop 24 = dktJ20_ensureCapacityInternal_1 := dk_seg dksJ20_ensureCapacityInternal_0 24 rfl rfl
theorem dJ20_ensureCapacityInternal_0 : decode cJ20_ensureCapacityInternal 0 = .ok (.aload_n 0, 1) := dk_42 (dk_at dksJ20_ensureCapacityInternal_0 0 rfl rfl)
theorem dJ20_ensureCapacityInternal_1 : decode cJ20_ensureCapacityInternal 1 = .ok (.getfield 15, 3) := dk_180 0 15 (dk_at dksJ20_ensureCapacityInternal_0 1 rfl rfl)
theorem dJ20_ensureCapacityInternal_4 : decode cJ20_ensureCapacityInternal 4 = .ok (.arraylength, 1) := dk_190 (dk_at dksJ20_ensureCapacityInternal_0 4 rfl rfl)
theorem dJ20_ensureCapacityInternal_5 : decode cJ20_ensureCapacityInternal 5 = .ok (.aload_n 0, 1) := dk_42 (dk_at dksJ20_ensureCapacityInternal_0 5 rfl rfl)
theorem dJ20_ensureCapacityInternal_6 : decode cJ20_ensureCapacityInternal 6 = .ok (.getfield 22, 3) := dk_180 0 22 (dk_at dksJ20_ensureCapacityInternal_0 6 rfl rfl)
theorem dJ20_ensureCapacityInternal_9 : decode cJ20_ensureCapacityInternal 9 = .ok (.ishr, 1) := dk_122 (dk_at dksJ20_ensureCapacityInternal_0 9 rfl rfl)
theorem dJ20_ensureCapacityInternal_10 : decode cJ20_ensureCapacityInternal 10 = .ok (.istore_n 2, 1) := dk_61 (dk_at dksJ20_ensureCapacityInternal_0 10 rfl rfl)
theorem dJ20_ensureCapacityInternal_11 : decode cJ20_ensureCapacityInternal 11 = .ok (.iload_n 1, 1) := dk_27 (dk_at dksJ20_ensureCapacityInternal_0 11 rfl rfl)
theorem dJ20_ensureCapacityInternal_12 : decode cJ20_ensureCapacityInternal 12 = .ok (.iload_n 2, 1) := dk_28 (dk_at dksJ20_ensureCapacityInternal_0 12 rfl rfl)
theorem dJ20_ensureCapacityInternal_13 : decode cJ20_ensureCapacityInternal 13 = .ok (.isub, 1) := dk_100 (dk_at dksJ20_ensureCapacityInternal_0 13 rfl rfl)
theorem dJ20_ensureCapacityInternal_14 : decode cJ20_ensureCapacityInternal 14 = .ok (.ifCond .le 24, 3) := dk_158 0 24 (dk_at dksJ20_ensureCapacityInternal_0 14 rfl rfl)
theorem dJ20_ensureCapacityInternal_17 : decode cJ20_ensureCapacityInternal 17 = .ok (.aload_n 0, 1) := dk_42 (dk_at dksJ20_ensureCapacityInternal_0 17 rfl rfl)
theorem dJ20_ensureCapacityInternal_18 : decode cJ20_ensureCapacityInternal 18 = .ok (.aload_n 0, 1) := dk_42 (dk_at dksJ20_ensureCapacityInternal_0 18 rfl rfl)
theorem dJ20_ensureCapacityInternal_19 : decode cJ20_ensureCapacityInternal 19 = .ok (.getfield 15, 3) := dk_180 0 15 (dk_at dksJ20_ensureCapacityInternal_0 19 rfl rfl)
theorem dJ20_ensureCapacityInternal_22 : decode cJ20_ensureCapacityInternal 22 = .ok (.aload_n 0, 1) := dk_42 (dk_at dksJ20_ensureCapacityInternal_0 22 rfl rfl)
theorem dJ20_ensureCapacityInternal_23 : decode cJ20_ensureCapacityInternal 23 = .ok (.iload_n 1, 1) := dk_27 (dk_at dksJ20_ensureCapacityInternal_0 23 rfl rfl)
theorem dJ20_ensureCapacityInternal_24 : decode cJ20_ensureCapacityInternal 24 = .ok (.invokevirtual 104, 3) := dk_182 0 104 (dk_at dksJ20_ensureCapacityInternal_1 0 rfl rfl)
theorem dJ20_ensureCapacityInternal_27 : decode cJ20_ensureCapacityInternal 27 = .ok (.aload_n 0, 1) := dk_42 (dk_at dksJ20_ensureCapacityInternal_1 3 rfl rfl)
theorem dJ20_ensureCapacityInternal_28 : decode cJ20_ensureCapacityInternal 28 = .ok (.getfield 22, 3) := dk_180 0 22 (dk_at dksJ20_ensureCapacityInternal_1 4 rfl rfl)
theorem dJ20_ensureCapacityInternal_31 : decode cJ20_ensureCapacityInternal 31 = .ok (.ishl, 1) := dk_120 (dk_at dksJ20_ensureCapacityInternal_1 7 rfl rfl)
theorem dJ20_ensureCapacityInternal_32 : decode cJ20_ensureCapacityInternal 32 = .ok (.invokestatic 108, 3) := dk_184 0 108 (dk_at dksJ20_ensureCapacityInternal_1 8 rfl rfl)
theorem dJ20_ensureCapacityInternal_35 : decode cJ20_ensureCapacityInternal 35 = .ok (.putfield 15, 3) := dk_181 0 15 (dk_at dksJ20_ensureCapacityInternal_1 11 rfl rfl)
theorem dJ20_ensureCapacityInternal_38 : decode cJ20_ensureCapacityInternal 38 = .ok (.return_, 1) := dk_177 (dk_at dksJ20_ensureCapacityInternal_1 14 rfl rfl)
abbrev cJ20_newCapacity : ByteArray := prog_10_method_10_code
def yJ20_newCapacity : MethodName := ⟨RJ20, "newCapacity", "(I)I"⟩
def dkwJ20_newCapacity_2 : List UInt8 := [183, 0, 124, 191, 21, 5, 42, 180, 0, 22, 122, 172]
abbrev dktJ20_newCapacity_2 : List UInt8 := dkwJ20_newCapacity_2 ++ []
def dkwJ20_newCapacity_1 : List UInt8 := [180, 0, 22, 120, 96, 184, 0, 114, 54, 5, 21, 5, 18, 39, 160, 0, 13, 187, 0, 120, 89, 18, 122]
abbrev dktJ20_newCapacity_1 : List UInt8 := dkwJ20_newCapacity_1 ++ dktJ20_newCapacity_2
def dkwJ20_newCapacity_0 : List UInt8 := [42, 180, 0, 15, 190, 61, 27, 42, 180, 0, 22, 120, 62, 29, 28, 100, 54, 4, 28, 21, 4, 28, 5, 42]
abbrev dktJ20_newCapacity_0 : List UInt8 := dkwJ20_newCapacity_0 ++ dktJ20_newCapacity_1
theorem dksJ20_newCapacity_0 : cJ20_newCapacity.data.toList.drop 0 = dktJ20_newCapacity_0 := by decide +kernel
theorem dksJ20_newCapacity_1 : cJ20_newCapacity.data.toList.drop 24 = dktJ20_newCapacity_1 := dk_seg dksJ20_newCapacity_0 24 rfl rfl
theorem dksJ20_newCapacity_2 : cJ20_newCapacity.data.toList.drop 47 = dktJ20_newCapacity_2 := dk_seg dksJ20_newCapacity_1 23 rfl rfl
theorem dJ20_newCapacity_0 : decode cJ20_newCapacity 0 = .ok (.aload_n 0, 1) := dk_42 (dk_at dksJ20_newCapacity_0 0 rfl rfl)
theorem dJ20_newCapacity_1 : decode cJ20_newCapacity 1 = .ok (.getfield 15, 3) := dk_180 0 15 (dk_at dksJ20_newCapacity_0 1 rfl rfl)
theorem dJ20_newCapacity_4 : decode cJ20_newCapacity 4 = .ok (.arraylength, 1) := dk_190 (dk_at dksJ20_newCapacity_0 4 rfl rfl)
theorem dJ20_newCapacity_5 : decode cJ20_newCapacity 5 = .ok (.istore_n 2, 1) := dk_61 (dk_at dksJ20_newCapacity_0 5 rfl rfl)
theorem dJ20_newCapacity_6 : decode cJ20_newCapacity 6 = .ok (.iload_n 1, 1) := dk_27 (dk_at dksJ20_newCapacity_0 6 rfl rfl)
theorem dJ20_newCapacity_7 : decode cJ20_newCapacity 7 = .ok (.aload_n 0, 1) := dk_42 (dk_at dksJ20_newCapacity_0 7 rfl rfl)
theorem dJ20_newCapacity_8 : decode cJ20_newCapacity 8 = .ok (.getfield 22, 3) := dk_180 0 22 (dk_at dksJ20_newCapacity_0 8 rfl rfl)
theorem dJ20_newCapacity_11 : decode cJ20_newCapacity 11 = .ok (.ishl, 1) := dk_120 (dk_at dksJ20_newCapacity_0 11 rfl rfl)
theorem dJ20_newCapacity_12 : decode cJ20_newCapacity 12 = .ok (.istore_n 3, 1) := dk_62 (dk_at dksJ20_newCapacity_0 12 rfl rfl)
theorem dJ20_newCapacity_13 : decode cJ20_newCapacity 13 = .ok (.iload_n 3, 1) := dk_29 (dk_at dksJ20_newCapacity_0 13 rfl rfl)
theorem dJ20_newCapacity_14 : decode cJ20_newCapacity 14 = .ok (.iload_n 2, 1) := dk_28 (dk_at dksJ20_newCapacity_0 14 rfl rfl)
theorem dJ20_newCapacity_15 : decode cJ20_newCapacity 15 = .ok (.isub, 1) := dk_100 (dk_at dksJ20_newCapacity_0 15 rfl rfl)
theorem dJ20_newCapacity_16 : decode cJ20_newCapacity 16 = .ok (.istore 4, 2) := dk_54 4 (dk_at dksJ20_newCapacity_0 16 rfl rfl)
theorem dJ20_newCapacity_18 : decode cJ20_newCapacity 18 = .ok (.iload_n 2, 1) := dk_28 (dk_at dksJ20_newCapacity_0 18 rfl rfl)
theorem dJ20_newCapacity_19 : decode cJ20_newCapacity 19 = .ok (.iload 4, 2) := dk_21 4 (dk_at dksJ20_newCapacity_0 19 rfl rfl)
theorem dJ20_newCapacity_21 : decode cJ20_newCapacity 21 = .ok (.iload_n 2, 1) := dk_28 (dk_at dksJ20_newCapacity_0 21 rfl rfl)
theorem dJ20_newCapacity_22 : decode cJ20_newCapacity 22 = .ok (.iconst 2, 1) := dk_5 (dk_at dksJ20_newCapacity_0 22 rfl rfl)
theorem dJ20_newCapacity_23 : decode cJ20_newCapacity 23 = .ok (.aload_n 0, 1) := dk_42 (dk_at dksJ20_newCapacity_0 23 rfl rfl)
theorem dJ20_newCapacity_24 : decode cJ20_newCapacity 24 = .ok (.getfield 22, 3) := dk_180 0 22 (dk_at dksJ20_newCapacity_1 0 rfl rfl)
theorem dJ20_newCapacity_27 : decode cJ20_newCapacity 27 = .ok (.ishl, 1) := dk_120 (dk_at dksJ20_newCapacity_1 3 rfl rfl)
theorem dJ20_newCapacity_28 : decode cJ20_newCapacity 28 = .ok (.iadd, 1) := dk_96 (dk_at dksJ20_newCapacity_1 4 rfl rfl)
theorem dJ20_newCapacity_29 : decode cJ20_newCapacity 29 = .ok (.invokestatic 114, 3) := dk_184 0 114 (dk_at dksJ20_newCapacity_1 5 rfl rfl)
theorem dJ20_newCapacity_32 : decode cJ20_newCapacity 32 = .ok (.istore 5, 2) := dk_54 5 (dk_at dksJ20_newCapacity_1 8 rfl rfl)
theorem dJ20_newCapacity_34 : decode cJ20_newCapacity 34 = .ok (.iload 5, 2) := dk_21 5 (dk_at dksJ20_newCapacity_1 10 rfl rfl)
theorem dJ20_newCapacity_36 : decode cJ20_newCapacity 36 = .ok (.ldc 39, 2) := dk_18 39 (dk_at dksJ20_newCapacity_1 12 rfl rfl)
theorem dJ20_newCapacity_38 : decode cJ20_newCapacity 38 = .ok (.if_icmp .ne 13, 3) := dk_160 0 13 (dk_at dksJ20_newCapacity_1 14 rfl rfl)
theorem dJ20_newCapacity_41 : decode cJ20_newCapacity 41 = .ok (.new 120, 3) := dk_187 0 120 (dk_at dksJ20_newCapacity_1 17 rfl rfl)
theorem dJ20_newCapacity_44 : decode cJ20_newCapacity 44 = .ok (.dup, 1) := dk_89 (dk_at dksJ20_newCapacity_1 20 rfl rfl)
theorem dJ20_newCapacity_45 : decode cJ20_newCapacity 45 = .ok (.ldc 122, 2) := dk_18 122 (dk_at dksJ20_newCapacity_1 21 rfl rfl)
theorem dJ20_newCapacity_47 : decode cJ20_newCapacity 47 = .ok (.invokespecial 124, 3) := dk_183 0 124 (dk_at dksJ20_newCapacity_2 0 rfl rfl)
theorem dJ20_newCapacity_50 : decode cJ20_newCapacity 50 = .ok (.athrow, 1) := dk_191 (dk_at dksJ20_newCapacity_2 3 rfl rfl)
theorem dJ20_newCapacity_51 : decode cJ20_newCapacity 51 = .ok (.iload 5, 2) := dk_21 5 (dk_at dksJ20_newCapacity_2 4 rfl rfl)
theorem dJ20_newCapacity_53 : decode cJ20_newCapacity 53 = .ok (.aload_n 0, 1) := dk_42 (dk_at dksJ20_newCapacity_2 6 rfl rfl)
theorem dJ20_newCapacity_54 : decode cJ20_newCapacity 54 = .ok (.getfield 22, 3) := dk_180 0 22 (dk_at dksJ20_newCapacity_2 7 rfl rfl)
theorem dJ20_newCapacity_57 : decode cJ20_newCapacity 57 = .ok (.ishr, 1) := dk_122 (dk_at dksJ20_newCapacity_2 10 rfl rfl)
theorem dJ20_newCapacity_58 : decode cJ20_newCapacity 58 = .ok (.ireturn, 1) := dk_172 (dk_at dksJ20_newCapacity_2 11 rfl rfl)
abbrev cJ20_isLatin1 : ByteArray := prog_10_method_68_code
def yJ20_isLatin1 : MethodName := ⟨RJ20, "isLatin1", "()Z"⟩
def dkwJ20_isLatin1_0 : List UInt8 := [178, 0, 18, 153, 0, 14, 42, 180, 0, 22, 154, 0, 7, 4, 167, 0, 4, 3, 172]
abbrev dktJ20_isLatin1_0 : List UInt8 := dkwJ20_isLatin1_0 ++ []
theorem dksJ20_isLatin1_0 : cJ20_isLatin1.data.toList.drop 0 = dktJ20_isLatin1_0 := by decide +kernel
theorem dJ20_isLatin1_0 : decode cJ20_isLatin1 0 = .ok (.getstatic 18, 3) := dk_178 0 18 (dk_at dksJ20_isLatin1_0 0 rfl rfl)
theorem dJ20_isLatin1_3 : decode cJ20_isLatin1 3 = .ok (.ifCond .eq 14, 3) := dk_153 0 14 (dk_at dksJ20_isLatin1_0 3 rfl rfl)
theorem dJ20_isLatin1_6 : decode cJ20_isLatin1 6 = .ok (.aload_n 0, 1) := dk_42 (dk_at dksJ20_isLatin1_0 6 rfl rfl)
theorem dJ20_isLatin1_7 : decode cJ20_isLatin1 7 = .ok (.getfield 22, 3) := dk_180 0 22 (dk_at dksJ20_isLatin1_0 7 rfl rfl)
theorem dJ20_isLatin1_10 : decode cJ20_isLatin1 10 = .ok (.ifCond .ne 7, 3) := dk_154 0 7 (dk_at dksJ20_isLatin1_0 10 rfl rfl)
theorem dJ20_isLatin1_13 : decode cJ20_isLatin1 13 = .ok (.iconst 1, 1) := dk_4 (dk_at dksJ20_isLatin1_0 13 rfl rfl)
theorem dJ20_isLatin1_14 : decode cJ20_isLatin1 14 = .ok (.goto 4, 3) := dk_167 0 4 (dk_at dksJ20_isLatin1_0 14 rfl rfl)
theorem dJ20_isLatin1_17 : decode cJ20_isLatin1 17 = .ok (.iconst 0, 1) := dk_3 (dk_at dksJ20_isLatin1_0 17 rfl rfl)
theorem dJ20_isLatin1_18 : decode cJ20_isLatin1 18 = .ok (.ireturn, 1) := dk_172 (dk_at dksJ20_isLatin1_0 18 rfl rfl)
abbrev cJ20_putStringAt : ByteArray := prog_10_method_73_code
def yJ20_putStringAt : MethodName := ⟨RJ20, "putStringAt", "(ILjava/lang/String;)V"⟩
def dkwJ20_putStringAt_0 : List UInt8 := [42, 44, 182, 1, 141, 44, 42, 180, 0, 15, 27, 42, 180, 0, 22, 182, 1, 143, 177]
abbrev dktJ20_putStringAt_0 : List UInt8 := dkwJ20_putStringAt_0 ++ []
theorem dksJ20_putStringAt_0 : cJ20_putStringAt.data.toList.drop 0 = dktJ20_putStringAt_0 := by decide +kernel
theorem dJ20_putStringAt_0 : decode cJ20_putStringAt 0 = .ok (.aload_n 0, 1) := dk_42 (dk_at dksJ20_putStringAt_0 0 rfl rfl)
theorem dJ20_putStringAt_1 : decode cJ20_putStringAt 1 = .ok (.aload_n 2, 1) := dk_44 (dk_at dksJ20_putStringAt_0 1 rfl rfl)
theorem dJ20_putStringAt_2 : decode cJ20_putStringAt 2 = .ok (.invokevirtual 397, 3) := dk_182 1 141 (dk_at dksJ20_putStringAt_0 2 rfl rfl)
theorem dJ20_putStringAt_5 : decode cJ20_putStringAt 5 = .ok (.aload_n 2, 1) := dk_44 (dk_at dksJ20_putStringAt_0 5 rfl rfl)
theorem dJ20_putStringAt_6 : decode cJ20_putStringAt 6 = .ok (.aload_n 0, 1) := dk_42 (dk_at dksJ20_putStringAt_0 6 rfl rfl)
theorem dJ20_putStringAt_7 : decode cJ20_putStringAt 7 = .ok (.getfield 15, 3) := dk_180 0 15 (dk_at dksJ20_putStringAt_0 7 rfl rfl)
theorem dJ20_putStringAt_10 : decode cJ20_putStringAt 10 = .ok (.iload_n 1, 1) := dk_27 (dk_at dksJ20_putStringAt_0 10 rfl rfl)
theorem dJ20_putStringAt_11 : decode cJ20_putStringAt 11 = .ok (.aload_n 0, 1) := dk_42 (dk_at dksJ20_putStringAt_0 11 rfl rfl)
theorem dJ20_putStringAt_12 : decode cJ20_putStringAt 12 = .ok (.getfield 22, 3) := dk_180 0 22 (dk_at dksJ20_putStringAt_0 12 rfl rfl)
theorem dJ20_putStringAt_15 : decode cJ20_putStringAt 15 = .ok (.invokevirtual 399, 3) := dk_182 1 143 (dk_at dksJ20_putStringAt_0 15 rfl rfl)
theorem dJ20_putStringAt_18 : decode cJ20_putStringAt 18 = .ok (.return_, 1) := dk_177 (dk_at dksJ20_putStringAt_0 18 rfl rfl)
abbrev cJ20_inflateIfNeededFor : ByteArray := prog_10_method_71_code
def yJ20_inflateIfNeededFor : MethodName := ⟨RJ20, "inflateIfNeededFor", "(Ljava/lang/String;)V"⟩
def dkwJ20_inflateIfNeededFor_0 : List UInt8 := [178, 0, 18, 153, 0, 18, 42, 180, 0, 22, 43, 182, 0, 40, 159, 0, 7, 42, 182, 0, 195, 177]
abbrev dktJ20_inflateIfNeededFor_0 : List UInt8 := dkwJ20_inflateIfNeededFor_0 ++ []
theorem dksJ20_inflateIfNeededFor_0 : cJ20_inflateIfNeededFor.data.toList.drop 0 = dktJ20_inflateIfNeededFor_0 := by decide +kernel
theorem dJ20_inflateIfNeededFor_0 : decode cJ20_inflateIfNeededFor 0 = .ok (.getstatic 18, 3) := dk_178 0 18 (dk_at dksJ20_inflateIfNeededFor_0 0 rfl rfl)
theorem dJ20_inflateIfNeededFor_3 : decode cJ20_inflateIfNeededFor 3 = .ok (.ifCond .eq 18, 3) := dk_153 0 18 (dk_at dksJ20_inflateIfNeededFor_0 3 rfl rfl)
theorem dJ20_inflateIfNeededFor_6 : decode cJ20_inflateIfNeededFor 6 = .ok (.aload_n 0, 1) := dk_42 (dk_at dksJ20_inflateIfNeededFor_0 6 rfl rfl)
theorem dJ20_inflateIfNeededFor_7 : decode cJ20_inflateIfNeededFor 7 = .ok (.getfield 22, 3) := dk_180 0 22 (dk_at dksJ20_inflateIfNeededFor_0 7 rfl rfl)
theorem dJ20_inflateIfNeededFor_10 : decode cJ20_inflateIfNeededFor 10 = .ok (.aload_n 1, 1) := dk_43 (dk_at dksJ20_inflateIfNeededFor_0 10 rfl rfl)
theorem dJ20_inflateIfNeededFor_11 : decode cJ20_inflateIfNeededFor 11 = .ok (.invokevirtual 40, 3) := dk_182 0 40 (dk_at dksJ20_inflateIfNeededFor_0 11 rfl rfl)
theorem dJ20_inflateIfNeededFor_14 : decode cJ20_inflateIfNeededFor 14 = .ok (.if_icmp .eq 7, 3) := dk_159 0 7 (dk_at dksJ20_inflateIfNeededFor_0 14 rfl rfl)
theorem dJ20_inflateIfNeededFor_17 : decode cJ20_inflateIfNeededFor 17 = .ok (.aload_n 0, 1) := dk_42 (dk_at dksJ20_inflateIfNeededFor_0 17 rfl rfl)
theorem dJ20_inflateIfNeededFor_18 : decode cJ20_inflateIfNeededFor 18 = .ok (.invokevirtual 195, 3) := dk_182 0 195 (dk_at dksJ20_inflateIfNeededFor_0 18 rfl rfl)
theorem dJ20_inflateIfNeededFor_21 : decode cJ20_inflateIfNeededFor 21 = .ok (.return_, 1) := dk_177 (dk_at dksJ20_inflateIfNeededFor_0 21 rfl rfl)
def yJ20_inflate : MethodName := ⟨RJ20, "inflate", "()V"⟩
abbrev cJ20_append_2 : ByteArray := prog_10_method_32_code
def yJ20_append_2 : MethodName := ⟨RJ20, "append", "(I)Ljava/lang/AbstractStringBuilder;"⟩
def dkwJ20_append_2_2 : List UInt8 := [42, 29, 181, 0, 79, 42, 176]
abbrev dktJ20_append_2_2 : List UInt8 := dkwJ20_append_2_2 ++ []
def dkwJ20_append_2_1 : List UInt8 := [27, 29, 42, 180, 0, 15, 184, 0, 248, 87, 167, 0, 14, 27, 28, 29, 42, 180, 0, 15, 184, 0, 251, 87]
abbrev dktJ20_append_2_1 : List UInt8 := dkwJ20_append_2_1 ++ dktJ20_append_2_2
def dkwJ20_append_2_0 : List UInt8 := [42, 180, 0, 79, 61, 28, 27, 184, 0, 245, 96, 62, 42, 29, 182, 0, 100, 42, 182, 0, 83, 153, 0, 16]
abbrev dktJ20_append_2_0 : List UInt8 := dkwJ20_append_2_0 ++ dktJ20_append_2_1
theorem dksJ20_append_2_0 : cJ20_append_2.data.toList.drop 0 = dktJ20_append_2_0 := by decide +kernel
theorem dksJ20_append_2_1 : cJ20_append_2.data.toList.drop 24 = dktJ20_append_2_1 := dk_seg dksJ20_append_2_0 24 rfl rfl
theorem dksJ20_append_2_2 : cJ20_append_2.data.toList.drop 48 = dktJ20_append_2_2 := dk_seg dksJ20_append_2_1 24 rfl rfl
theorem dJ20_append_2_0 : decode cJ20_append_2 0 = .ok (.aload_n 0, 1) := dk_42 (dk_at dksJ20_append_2_0 0 rfl rfl)
theorem dJ20_append_2_1 : decode cJ20_append_2 1 = .ok (.getfield 79, 3) := dk_180 0 79 (dk_at dksJ20_append_2_0 1 rfl rfl)
theorem dJ20_append_2_4 : decode cJ20_append_2 4 = .ok (.istore_n 2, 1) := dk_61 (dk_at dksJ20_append_2_0 4 rfl rfl)
theorem dJ20_append_2_5 : decode cJ20_append_2 5 = .ok (.iload_n 2, 1) := dk_28 (dk_at dksJ20_append_2_0 5 rfl rfl)
theorem dJ20_append_2_6 : decode cJ20_append_2 6 = .ok (.iload_n 1, 1) := dk_27 (dk_at dksJ20_append_2_0 6 rfl rfl)
theorem dJ20_append_2_7 : decode cJ20_append_2 7 = .ok (.invokestatic 245, 3) := dk_184 0 245 (dk_at dksJ20_append_2_0 7 rfl rfl)
theorem dJ20_append_2_10 : decode cJ20_append_2 10 = .ok (.iadd, 1) := dk_96 (dk_at dksJ20_append_2_0 10 rfl rfl)
theorem dJ20_append_2_11 : decode cJ20_append_2 11 = .ok (.istore_n 3, 1) := dk_62 (dk_at dksJ20_append_2_0 11 rfl rfl)
theorem dJ20_append_2_12 : decode cJ20_append_2 12 = .ok (.aload_n 0, 1) := dk_42 (dk_at dksJ20_append_2_0 12 rfl rfl)
theorem dJ20_append_2_13 : decode cJ20_append_2 13 = .ok (.iload_n 3, 1) := dk_29 (dk_at dksJ20_append_2_0 13 rfl rfl)
theorem dJ20_append_2_14 : decode cJ20_append_2 14 = .ok (.invokevirtual 100, 3) := dk_182 0 100 (dk_at dksJ20_append_2_0 14 rfl rfl)
theorem dJ20_append_2_17 : decode cJ20_append_2 17 = .ok (.aload_n 0, 1) := dk_42 (dk_at dksJ20_append_2_0 17 rfl rfl)
theorem dJ20_append_2_18 : decode cJ20_append_2 18 = .ok (.invokevirtual 83, 3) := dk_182 0 83 (dk_at dksJ20_append_2_0 18 rfl rfl)
theorem dJ20_append_2_21 : decode cJ20_append_2 21 = .ok (.ifCond .eq 16, 3) := dk_153 0 16 (dk_at dksJ20_append_2_0 21 rfl rfl)
theorem dJ20_append_2_24 : decode cJ20_append_2 24 = .ok (.iload_n 1, 1) := dk_27 (dk_at dksJ20_append_2_1 0 rfl rfl)
theorem dJ20_append_2_25 : decode cJ20_append_2 25 = .ok (.iload_n 3, 1) := dk_29 (dk_at dksJ20_append_2_1 1 rfl rfl)
theorem dJ20_append_2_26 : decode cJ20_append_2 26 = .ok (.aload_n 0, 1) := dk_42 (dk_at dksJ20_append_2_1 2 rfl rfl)
theorem dJ20_append_2_27 : decode cJ20_append_2 27 = .ok (.getfield 15, 3) := dk_180 0 15 (dk_at dksJ20_append_2_1 3 rfl rfl)
theorem dJ20_append_2_30 : decode cJ20_append_2 30 = .ok (.invokestatic 248, 3) := dk_184 0 248 (dk_at dksJ20_append_2_1 6 rfl rfl)
theorem dJ20_append_2_33 : decode cJ20_append_2 33 = .ok (.pop, 1) := dk_87 (dk_at dksJ20_append_2_1 9 rfl rfl)
theorem dJ20_append_2_34 : decode cJ20_append_2 34 = .ok (.goto 14, 3) := dk_167 0 14 (dk_at dksJ20_append_2_1 10 rfl rfl)
theorem dJ20_append_2_37 : decode cJ20_append_2 37 = .ok (.iload_n 1, 1) := dk_27 (dk_at dksJ20_append_2_1 13 rfl rfl)
theorem dJ20_append_2_38 : decode cJ20_append_2 38 = .ok (.iload_n 2, 1) := dk_28 (dk_at dksJ20_append_2_1 14 rfl rfl)
theorem dJ20_append_2_39 : decode cJ20_append_2 39 = .ok (.iload_n 3, 1) := dk_29 (dk_at dksJ20_append_2_1 15 rfl rfl)
theorem dJ20_append_2_40 : decode cJ20_append_2 40 = .ok (.aload_n 0, 1) := dk_42 (dk_at dksJ20_append_2_1 16 rfl rfl)
theorem dJ20_append_2_41 : decode cJ20_append_2 41 = .ok (.getfield 15, 3) := dk_180 0 15 (dk_at dksJ20_append_2_1 17 rfl rfl)
theorem dJ20_append_2_44 : decode cJ20_append_2 44 = .ok (.invokestatic 251, 3) := dk_184 0 251 (dk_at dksJ20_append_2_1 20 rfl rfl)
theorem dJ20_append_2_47 : decode cJ20_append_2 47 = .ok (.pop, 1) := dk_87 (dk_at dksJ20_append_2_1 23 rfl rfl)
theorem dJ20_append_2_48 : decode cJ20_append_2 48 = .ok (.aload_n 0, 1) := dk_42 (dk_at dksJ20_append_2_2 0 rfl rfl)
theorem dJ20_append_2_49 : decode cJ20_append_2 49 = .ok (.iload_n 3, 1) := dk_29 (dk_at dksJ20_append_2_2 1 rfl rfl)
theorem dJ20_append_2_50 : decode cJ20_append_2 50 = .ok (.putfield 79, 3) := dk_181 0 79 (dk_at dksJ20_append_2_2 2 rfl rfl)
theorem dJ20_append_2_53 : decode cJ20_append_2 53 = .ok (.aload_n 0, 1) := dk_42 (dk_at dksJ20_append_2_2 5 rfl rfl)
theorem dJ20_append_2_54 : decode cJ20_append_2 54 = .ok (.areturn, 1) := dk_176 (dk_at dksJ20_append_2_2 6 rfl rfl)
abbrev cJ20_getValue : ByteArray := prog_10_method_64_code
def yJ20_getValue : MethodName := ⟨RJ20, "getValue", "()[B"⟩
theorem dJ20_getValue_0 : decode cJ20_getValue 0 = .ok (.aload_n 0, 1) := by decide +kernel
theorem dJ20_getValue_1 : decode cJ20_getValue 1 = .ok (.getfield 15, 3) := by decide +kernel
theorem dJ20_getValue_4 : decode cJ20_getValue 4 = .ok (.areturn, 1) := by decide +kernel
abbrev cJ20_length : ByteArray := prog_10_method_6_code
def yJ20_length : MethodName := ⟨RJ20, "length", "()I"⟩
theorem dJ20_length_0 : decode cJ20_length 0 = .ok (.aload_n 0, 1) := by decide +kernel
theorem dJ20_length_1 : decode cJ20_length 1 = .ok (.getfield 79, 3) := by decide +kernel
theorem dJ20_length_4 : decode cJ20_length 4 = .ok (.ireturn, 1) := by decide +kernel
abbrev cJ20_append_3 : ByteArray := prog_10_method_31_code
def yJ20_append_3 : MethodName := ⟨RJ20, "append", "(C)Ljava/lang/AbstractStringBuilder;"⟩
def dkwJ20_append_3_3 : List UInt8 := [181, 0, 79, 27, 184, 0, 197, 42, 176]
abbrev dktJ20_append_3_3 : List UInt8 := dkwJ20_append_3_3 ++ []
def dkwJ20_append_3_2 : List UInt8 := [182, 0, 83, 153, 0, 7, 42, 182, 0, 195, 42, 180, 0, 15, 42, 89, 180, 0, 79, 90, 4, 96]
abbrev dktJ20_append_3_2 : List UInt8 := dkwJ20_append_3_2 ++ dktJ20_append_3_3
def dkwJ20_append_3_1 : List UInt8 := [42, 180, 0, 15, 42, 89, 180, 0, 79, 90, 4, 96, 181, 0, 79, 27, 145, 84, 167, 0, 33, 42]
abbrev dktJ20_append_3_1 : List UInt8 := dkwJ20_append_3_1 ++ dktJ20_append_3_2
def dkwJ20_append_3_0 : List UInt8 := [42, 42, 180, 0, 79, 4, 96, 182, 0, 100, 42, 182, 0, 83, 153, 0, 31, 27, 184, 0, 191, 153, 0, 24]
abbrev dktJ20_append_3_0 : List UInt8 := dkwJ20_append_3_0 ++ dktJ20_append_3_1
theorem dksJ20_append_3_0 : cJ20_append_3.data.toList.drop 0 = dktJ20_append_3_0 := by decide +kernel
theorem dksJ20_append_3_1 : cJ20_append_3.data.toList.drop 24 = dktJ20_append_3_1 := dk_seg dksJ20_append_3_0 24 rfl rfl
theorem dksJ20_append_3_2 : cJ20_append_3.data.toList.drop 46 = dktJ20_append_3_2 := dk_seg dksJ20_append_3_1 22 rfl rfl
theorem dksJ20_append_3_3 : cJ20_append_3.data.toList.drop 68 = dktJ20_append_3_3 := dk_seg dksJ20_append_3_2 22 rfl rfl
theorem dJ20_append_3_0 : decode cJ20_append_3 0 = .ok (.aload_n 0, 1) := dk_42 (dk_at dksJ20_append_3_0 0 rfl rfl)
theorem dJ20_append_3_1 : decode cJ20_append_3 1 = .ok (.aload_n 0, 1) := dk_42 (dk_at dksJ20_append_3_0 1 rfl rfl)
theorem dJ20_append_3_2 : decode cJ20_append_3 2 = .ok (.getfield 79, 3) := dk_180 0 79 (dk_at dksJ20_append_3_0 2 rfl rfl)
theorem dJ20_append_3_5 : decode cJ20_append_3 5 = .ok (.iconst 1, 1) := dk_4 (dk_at dksJ20_append_3_0 5 rfl rfl)
theorem dJ20_append_3_6 : decode cJ20_append_3 6 = .ok (.iadd, 1) := dk_96 (dk_at dksJ20_append_3_0 6 rfl rfl)
theorem dJ20_append_3_7 : decode cJ20_append_3 7 = .ok (.invokevirtual 100, 3) := dk_182 0 100 (dk_at dksJ20_append_3_0 7 rfl rfl)
theorem dJ20_append_3_10 : decode cJ20_append_3 10 = .ok (.aload_n 0, 1) := dk_42 (dk_at dksJ20_append_3_0 10 rfl rfl)
theorem dJ20_append_3_11 : decode cJ20_append_3 11 = .ok (.invokevirtual 83, 3) := dk_182 0 83 (dk_at dksJ20_append_3_0 11 rfl rfl)
theorem dJ20_append_3_14 : decode cJ20_append_3 14 = .ok (.ifCond .eq 31, 3) := dk_153 0 31 (dk_at dksJ20_append_3_0 14 rfl rfl)
theorem dJ20_append_3_17 : decode cJ20_append_3 17 = .ok (.iload_n 1, 1) := dk_27 (dk_at dksJ20_append_3_0 17 rfl rfl)
theorem dJ20_append_3_18 : decode cJ20_append_3 18 = .ok (.invokestatic 191, 3) := dk_184 0 191 (dk_at dksJ20_append_3_0 18 rfl rfl)
theorem dJ20_append_3_21 : decode cJ20_append_3 21 = .ok (.ifCond .eq 24, 3) := dk_153 0 24 (dk_at dksJ20_append_3_0 21 rfl rfl)
theorem dJ20_append_3_24 : decode cJ20_append_3 24 = .ok (.aload_n 0, 1) := dk_42 (dk_at dksJ20_append_3_1 0 rfl rfl)
theorem dJ20_append_3_25 : decode cJ20_append_3 25 = .ok (.getfield 15, 3) := dk_180 0 15 (dk_at dksJ20_append_3_1 1 rfl rfl)
theorem dJ20_append_3_28 : decode cJ20_append_3 28 = .ok (.aload_n 0, 1) := dk_42 (dk_at dksJ20_append_3_1 4 rfl rfl)
theorem dJ20_append_3_29 : decode cJ20_append_3 29 = .ok (.dup, 1) := dk_89 (dk_at dksJ20_append_3_1 5 rfl rfl)
theorem dJ20_append_3_30 : decode cJ20_append_3 30 = .ok (.getfield 79, 3) := dk_180 0 79 (dk_at dksJ20_append_3_1 6 rfl rfl)
theorem dJ20_append_3_33 : decode cJ20_append_3 33 = .ok (.dup_x1, 1) := dk_90 (dk_at dksJ20_append_3_1 9 rfl rfl)
theorem dJ20_append_3_34 : decode cJ20_append_3 34 = .ok (.iconst 1, 1) := dk_4 (dk_at dksJ20_append_3_1 10 rfl rfl)
theorem dJ20_append_3_35 : decode cJ20_append_3 35 = .ok (.iadd, 1) := dk_96 (dk_at dksJ20_append_3_1 11 rfl rfl)
theorem dJ20_append_3_36 : decode cJ20_append_3 36 = .ok (.putfield 79, 3) := dk_181 0 79 (dk_at dksJ20_append_3_1 12 rfl rfl)
theorem dJ20_append_3_39 : decode cJ20_append_3 39 = .ok (.iload_n 1, 1) := dk_27 (dk_at dksJ20_append_3_1 15 rfl rfl)
theorem dJ20_append_3_40 : decode cJ20_append_3 40 = .ok (.i2b, 1) := dk_145 (dk_at dksJ20_append_3_1 16 rfl rfl)
theorem dJ20_append_3_41 : decode cJ20_append_3 41 = .ok (.bastore, 1) := dk_84 (dk_at dksJ20_append_3_1 17 rfl rfl)
theorem dJ20_append_3_42 : decode cJ20_append_3 42 = .ok (.goto 33, 3) := dk_167 0 33 (dk_at dksJ20_append_3_1 18 rfl rfl)
theorem dJ20_append_3_45 : decode cJ20_append_3 45 = .ok (.aload_n 0, 1) := dk_42 (dk_at dksJ20_append_3_1 21 rfl rfl)
theorem dJ20_append_3_46 : decode cJ20_append_3 46 = .ok (.invokevirtual 83, 3) := dk_182 0 83 (dk_at dksJ20_append_3_2 0 rfl rfl)
theorem dJ20_append_3_49 : decode cJ20_append_3 49 = .ok (.ifCond .eq 7, 3) := dk_153 0 7 (dk_at dksJ20_append_3_2 3 rfl rfl)
theorem dJ20_append_3_52 : decode cJ20_append_3 52 = .ok (.aload_n 0, 1) := dk_42 (dk_at dksJ20_append_3_2 6 rfl rfl)
theorem dJ20_append_3_53 : decode cJ20_append_3 53 = .ok (.invokevirtual 195, 3) := dk_182 0 195 (dk_at dksJ20_append_3_2 7 rfl rfl)
theorem dJ20_append_3_56 : decode cJ20_append_3 56 = .ok (.aload_n 0, 1) := dk_42 (dk_at dksJ20_append_3_2 10 rfl rfl)
theorem dJ20_append_3_57 : decode cJ20_append_3 57 = .ok (.getfield 15, 3) := dk_180 0 15 (dk_at dksJ20_append_3_2 11 rfl rfl)
theorem dJ20_append_3_60 : decode cJ20_append_3 60 = .ok (.aload_n 0, 1) := dk_42 (dk_at dksJ20_append_3_2 14 rfl rfl)
theorem dJ20_append_3_61 : decode cJ20_append_3 61 = .ok (.dup, 1) := dk_89 (dk_at dksJ20_append_3_2 15 rfl rfl)
theorem dJ20_append_3_62 : decode cJ20_append_3 62 = .ok (.getfield 79, 3) := dk_180 0 79 (dk_at dksJ20_append_3_2 16 rfl rfl)
theorem dJ20_append_3_65 : decode cJ20_append_3 65 = .ok (.dup_x1, 1) := dk_90 (dk_at dksJ20_append_3_2 19 rfl rfl)
theorem dJ20_append_3_66 : decode cJ20_append_3 66 = .ok (.iconst 1, 1) := dk_4 (dk_at dksJ20_append_3_2 20 rfl rfl)
theorem dJ20_append_3_67 : decode cJ20_append_3 67 = .ok (.iadd, 1) := dk_96 (dk_at dksJ20_append_3_2 21 rfl rfl)
theorem dJ20_append_3_68 : decode cJ20_append_3 68 = .ok (.putfield 79, 3) := dk_181 0 79 (dk_at dksJ20_append_3_3 0 rfl rfl)
theorem dJ20_append_3_71 : decode cJ20_append_3 71 = .ok (.iload_n 1, 1) := dk_27 (dk_at dksJ20_append_3_3 3 rfl rfl)
theorem dJ20_append_3_72 : decode cJ20_append_3 72 = .ok (.invokestatic 197, 3) := dk_184 0 197 (dk_at dksJ20_append_3_3 4 rfl rfl)
theorem dJ20_append_3_75 : decode cJ20_append_3 75 = .ok (.aload_n 0, 1) := dk_42 (dk_at dksJ20_append_3_3 7 rfl rfl)
theorem dJ20_append_3_76 : decode cJ20_append_3 76 = .ok (.areturn, 1) := dk_176 (dk_at dksJ20_append_3_3 8 rfl rfl)
def yJ20_compareTo : MethodName := ⟨RJ20, "compareTo", "(Ljava/lang/AbstractStringBuilder;)I"⟩
theorem q81 : (Jvm.Cond.initialized "java/lang/AbstractStringBuilder") ∈ lw_all := lw_g (lw_at lw_m1 26 rfl) rfl
theorem q504 : (Jvm.Cond.instanceMethod ({ cls := "java/lang/AbstractStringBuilder", name := "<init>", desc := "(I)V" } : Jvm.MethodName)) ∈ lw_all := lw_g (lw_at lw_m2 209 rfl) rfl
theorem q505 : (Jvm.Cond.code ({ cls := "java/lang/AbstractStringBuilder", name := "<init>", desc := "(I)V" } : Jvm.MethodName) prog_10_method_2_code (2 : Nat) (Option.none : Option Jvm.ClassFile.FieldType)) ∈ lw_all := lw_g (lw_at lw_m2 210 rfl) rfl
theorem q506 : (Jvm.Cond.methodLink "java/lang/AbstractStringBuilder" (3 : Nat) ({ cls := "java/lang/Object", name := "<init>", desc := "()V" } : Jvm.MethodName)) ∈ lw_all := lw_g (lw_at lw_m2 211 rfl) rfl
theorem q507 : (Jvm.Cond.fieldLink "java/lang/AbstractStringBuilder" (18 : Nat) "java/lang/String" "COMPACT_STRINGS" "Z") ∈ lw_all := lw_g (lw_at lw_m2 212 rfl) rfl
theorem q509 : (Jvm.Cond.methodLink "java/lang/AbstractStringBuilder" (26 : Nat) ({ cls := "java/lang/StringUTF16", name := "newBytesFor", desc := "(I)[B" } : Jvm.MethodName)) ∈ lw_all := lw_g (lw_at lw_m2 214 rfl) rfl
theorem q516 : (Jvm.Cond.fieldLink "java/lang/AbstractStringBuilder" (15 : Nat) "java/lang/AbstractStringBuilder" "value" "[B") ∈ lw_all := lw_g (lw_at lw_m2 221 rfl) rfl
theorem q517 : (Jvm.Cond.fieldLink "java/lang/AbstractStringBuilder" (22 : Nat) "java/lang/AbstractStringBuilder" "coder" "B") ∈ lw_all := lw_g (lw_at lw_m2 222 rfl) rfl
theorem q519 : (Jvm.Cond.fieldLink "java/lang/AbstractStringBuilder" (79 : Nat) "java/lang/AbstractStringBuilder" "count" "I") ∈ lw_all := lw_g (lw_at lw_m2 224 rfl) rfl
theorem q521 : (Jvm.Cond.soleField "java/lang/AbstractStringBuilder" "value") ∈ lw_all := lw_g (lw_at lw_m2 226 rfl) rfl
theorem q523 : (Jvm.Cond.soleField "java/lang/AbstractStringBuilder" "coder") ∈ lw_all := lw_g (lw_at lw_m2 228 rfl) rfl
theorem q525 : (Jvm.Cond.soleField "java/lang/AbstractStringBuilder" "maybeLatin1") ∈ lw_all := lw_g (lw_at lw_m2 230 rfl) rfl
theorem q527 : (Jvm.Cond.soleField "java/lang/AbstractStringBuilder" "count") ∈ lw_all := lw_g (lw_at lw_m2 232 rfl) rfl
theorem q536 : (Jvm.Cond.instanceMethod ({ cls := "java/lang/AbstractStringBuilder", name := "append", desc := "(Ljava/lang/String;)Ljava/lang/AbstractStringBuilder;" } : Jvm.MethodName)) ∈ lw_all := lw_g (lw_at lw_m3 1 rfl) rfl
theorem q537 : (Jvm.Cond.code ({ cls := "java/lang/AbstractStringBuilder", name := "append", desc := "(Ljava/lang/String;)Ljava/lang/AbstractStringBuilder;" } : Jvm.MethodName) prog_10_method_22_code (3 : Nat) (Option.some (Jvm.ClassFile.FieldType.object "java/lang/AbstractStringBuilder"))) ∈ lw_all := lw_g (lw_at lw_m3 2 rfl) rfl
theorem q538 : (Jvm.Cond.methodLink "java/lang/AbstractStringBuilder" (204 : Nat) ({ cls := "java/lang/AbstractStringBuilder", name := "appendNull", desc := "()Ljava/lang/AbstractStringBuilder;" } : Jvm.MethodName)) ∈ lw_all := lw_g (lw_at lw_m3 3 rfl) rfl
theorem q539 : (Jvm.Cond.privateMethod ({ cls := "java/lang/AbstractStringBuilder", name := "appendNull", desc := "()Ljava/lang/AbstractStringBuilder;" } : Jvm.MethodName)) ∈ lw_tbl := lw_at lw_m3 4 rfl
theorem q540 : (Jvm.Cond.instanceMethod ({ cls := "java/lang/AbstractStringBuilder", name := "appendNull", desc := "()Ljava/lang/AbstractStringBuilder;" } : Jvm.MethodName)) ∈ lw_all := lw_g (lw_at lw_m3 5 rfl) rfl
theorem q541 : (Jvm.Cond.code ({ cls := "java/lang/AbstractStringBuilder", name := "appendNull", desc := "()Ljava/lang/AbstractStringBuilder;" } : Jvm.MethodName) prog_10_method_26_code (3 : Nat) (Option.some (Jvm.ClassFile.FieldType.object "java/lang/AbstractStringBuilder"))) ∈ lw_all := lw_g (lw_at lw_m3 6 rfl) rfl
theorem q542 : (Jvm.Cond.methodLink "java/lang/AbstractStringBuilder" (100 : Nat) ({ cls := "java/lang/AbstractStringBuilder", name := "ensureCapacityInternal", desc := "(I)V" } : Jvm.MethodName)) ∈ lw_all := lw_g (lw_at lw_m3 7 rfl) rfl
theorem q543 : (Jvm.Cond.privateMethod ({ cls := "java/lang/AbstractStringBuilder", name := "ensureCapacityInternal", desc := "(I)V" } : Jvm.MethodName)) ∈ lw_tbl := lw_at lw_m3 8 rfl
theorem q544 : (Jvm.Cond.instanceMethod ({ cls := "java/lang/AbstractStringBuilder", name := "ensureCapacityInternal", desc := "(I)V" } : Jvm.MethodName)) ∈ lw_all := lw_g (lw_at lw_m3 9 rfl) rfl
theorem q545 : (Jvm.Cond.code ({ cls := "java/lang/AbstractStringBuilder", name := "ensureCapacityInternal", desc := "(I)V" } : Jvm.MethodName) prog_10_method_9_code (3 : Nat) (Option.none : Option Jvm.ClassFile.FieldType)) ∈ lw_all := lw_g (lw_at lw_m3 10 rfl) rfl
theorem q546 : (Jvm.Cond.methodLink "java/lang/AbstractStringBuilder" (104 : Nat) ({ cls := "java/lang/AbstractStringBuilder", name := "newCapacity", desc := "(I)I" } : Jvm.MethodName)) ∈ lw_all := lw_g (lw_at lw_m3 11 rfl) rfl
theorem q547 : (Jvm.Cond.privateMethod ({ cls := "java/lang/AbstractStringBuilder", name := "newCapacity", desc := "(I)I" } : Jvm.MethodName)) ∈ lw_tbl := lw_at lw_m3 12 rfl
theorem q548 : (Jvm.Cond.instanceMethod ({ cls := "java/lang/AbstractStringBuilder", name := "newCapacity", desc := "(I)I" } : Jvm.MethodName)) ∈ lw_all := lw_g (lw_at lw_m3 13 rfl) rfl
theorem q549 : (Jvm.Cond.code ({ cls := "java/lang/AbstractStringBuilder", name := "newCapacity", desc := "(I)I" } : Jvm.MethodName) prog_10_method_10_code (6 : Nat) (Option.some Jvm.ClassFile.FieldType.int)) ∈ lw_all := lw_g (lw_at lw_m3 14 rfl) rfl
theorem q550 : (Jvm.Cond.methodLink "java/lang/AbstractStringBuilder" (114 : Nat) ({ cls := "jdk/internal/util/ArraysSupport", name := "newLength", desc := "(III)I" } : Jvm.MethodName)) ∈ lw_all := lw_g (lw_at lw_m3 15 rfl) rfl
theorem q551 : (Jvm.Cond.constant "java/lang/AbstractStringBuilder" (39 : Nat) (2147483647 : Int32)) ∈ lw_all := lw_g (lw_at lw_m3 16 rfl) rfl
theorem q552 : (Jvm.Cond.methodLink "java/lang/AbstractStringBuilder" (108 : Nat) ({ cls := "java/util/Arrays", name := "copyOf", desc := "([BI)[B" } : Jvm.MethodName)) ∈ lw_all := lw_g (lw_at lw_m3 17 rfl) rfl
theorem q562 : (Jvm.Cond.methodLink "java/lang/AbstractStringBuilder" (83 : Nat) ({ cls := "java/lang/AbstractStringBuilder", name := "isLatin1", desc := "()Z" } : Jvm.MethodName)) ∈ lw_all := lw_g (lw_at lw_m3 27 rfl) rfl
theorem q563 : (Jvm.Cond.instanceMethod ({ cls := "java/lang/AbstractStringBuilder", name := "isLatin1", desc := "()Z" } : Jvm.MethodName)) ∈ lw_all := lw_g (lw_at lw_m3 28 rfl) rfl
theorem q564 : (Jvm.Cond.sameMethod "java/lang/AbstractStringBuilder" "java/lang/AbstractStringBuilder" "isLatin1" "()Z") ∈ lw_all := lw_g (lw_at lw_m3 29 rfl) rfl
theorem q566 : (Jvm.Cond.code ({ cls := "java/lang/AbstractStringBuilder", name := "isLatin1", desc := "()Z" } : Jvm.MethodName) prog_10_method_68_code (1 : Nat) (Option.some Jvm.ClassFile.FieldType.boolean)) ∈ lw_all := lw_g (lw_at lw_m3 31 rfl) rfl
theorem q567 : (Jvm.Cond.methodLink "java/lang/AbstractStringBuilder" (226 : Nat) ({ cls := "java/lang/StringUTF16", name := "putCharsAt", desc := "([BICCCC)I" } : Jvm.MethodName)) ∈ lw_all := lw_g (lw_at lw_m3 32 rfl) rfl
theorem q593 : (Jvm.Cond.methodLink "java/lang/AbstractStringBuilder" (32 : Nat) ({ cls := "java/lang/String", name := "length", desc := "()I" } : Jvm.MethodName)) ∈ lw_all := lw_g (lw_at lw_m3 58 rfl) rfl
theorem q602 : (Jvm.Cond.methodLink "java/lang/AbstractStringBuilder" (208 : Nat) ({ cls := "java/lang/AbstractStringBuilder", name := "putStringAt", desc := "(ILjava/lang/String;)V" } : Jvm.MethodName)) ∈ lw_all := lw_g (lw_at lw_m3 67 rfl) rfl
theorem q603 : (Jvm.Cond.privateMethod ({ cls := "java/lang/AbstractStringBuilder", name := "putStringAt", desc := "(ILjava/lang/String;)V" } : Jvm.MethodName)) ∈ lw_tbl := lw_at lw_m3 68 rfl
theorem q604 : (Jvm.Cond.instanceMethod ({ cls := "java/lang/AbstractStringBuilder", name := "putStringAt", desc := "(ILjava/lang/String;)V" } : Jvm.MethodName)) ∈ lw_all := lw_g (lw_at lw_m3 69 rfl) rfl
theorem q605 : (Jvm.Cond.code ({ cls := "java/lang/AbstractStringBuilder", name := "putStringAt", desc := "(ILjava/lang/String;)V" } : Jvm.MethodName) prog_10_method_73_code (3 : Nat) (Option.none : Option Jvm.ClassFile.FieldType)) ∈ lw_all := lw_g (lw_at lw_m3 70 rfl) rfl
theorem q606 : (Jvm.Cond.methodLink "java/lang/AbstractStringBuilder" (397 : Nat) ({ cls := "java/lang/AbstractStringBuilder", name := "inflateIfNeededFor", desc := "(Ljava/lang/String;)V" } : Jvm.MethodName)) ∈ lw_all := lw_g (lw_at lw_m3 71 rfl) rfl
theorem q607 : (Jvm.Cond.privateMethod ({ cls := "java/lang/AbstractStringBuilder", name := "inflateIfNeededFor", desc := "(Ljava/lang/String;)V" } : Jvm.MethodName)) ∈ lw_tbl := lw_at lw_m3 72 rfl
theorem q608 : (Jvm.Cond.instanceMethod ({ cls := "java/lang/AbstractStringBuilder", name := "inflateIfNeededFor", desc := "(Ljava/lang/String;)V" } : Jvm.MethodName)) ∈ lw_all := lw_g (lw_at lw_m3 73 rfl) rfl
theorem q609 : (Jvm.Cond.code ({ cls := "java/lang/AbstractStringBuilder", name := "inflateIfNeededFor", desc := "(Ljava/lang/String;)V" } : Jvm.MethodName) prog_10_method_71_code (2 : Nat) (Option.none : Option Jvm.ClassFile.FieldType)) ∈ lw_all := lw_g (lw_at lw_m3 74 rfl) rfl
theorem q610 : (Jvm.Cond.methodLink "java/lang/AbstractStringBuilder" (40 : Nat) ({ cls := "java/lang/String", name := "coder", desc := "()B" } : Jvm.MethodName)) ∈ lw_all := lw_g (lw_at lw_m3 75 rfl) rfl
theorem q611 : (Jvm.Cond.methodLink "java/lang/AbstractStringBuilder" (195 : Nat) ({ cls := "java/lang/AbstractStringBuilder", name := "inflate", desc := "()V" } : Jvm.MethodName)) ∈ lw_all := lw_g (lw_at lw_m3 76 rfl) rfl
theorem q612 : (Jvm.Cond.privateMethod ({ cls := "java/lang/AbstractStringBuilder", name := "inflate", desc := "()V" } : Jvm.MethodName)) ∈ lw_tbl := lw_at lw_m3 77 rfl
theorem q613 : (Jvm.Cond.instanceMethod ({ cls := "java/lang/AbstractStringBuilder", name := "inflate", desc := "()V" } : Jvm.MethodName)) ∈ lw_all := lw_g (lw_at lw_m3 78 rfl) rfl
theorem q614 : (Jvm.Cond.code ({ cls := "java/lang/AbstractStringBuilder", name := "inflate", desc := "()V" } : Jvm.MethodName) prog_10_method_11_code (2 : Nat) (Option.none : Option Jvm.ClassFile.FieldType)) ∈ lw_all := lw_g (lw_at lw_m3 79 rfl) rfl
theorem q615 : (Jvm.Cond.methodLink "java/lang/AbstractStringBuilder" (125 : Nat) ({ cls := "java/lang/StringLatin1", name := "inflate", desc := "([BI[BII)V" } : Jvm.MethodName)) ∈ lw_all := lw_g (lw_at lw_m3 80 rfl) rfl
theorem q630 : (Jvm.Cond.methodLink "java/lang/AbstractStringBuilder" (399 : Nat) ({ cls := "java/lang/String", name := "getBytes", desc := "([BIB)V" } : Jvm.MethodName)) ∈ lw_all := lw_g (lw_at lw_m3 95 rfl) rfl
theorem q641 : (Jvm.Cond.instanceMethod ({ cls := "java/lang/AbstractStringBuilder", name := "append", desc := "(I)Ljava/lang/AbstractStringBuilder;" } : Jvm.MethodName)) ∈ lw_all := lw_g (lw_at lw_m3 106 rfl) rfl
theorem q642 : (Jvm.Cond.code ({ cls := "java/lang/AbstractStringBuilder", name := "append", desc := "(I)Ljava/lang/AbstractStringBuilder;" } : Jvm.MethodName) prog_10_method_32_code (4 : Nat) (Option.some (Jvm.ClassFile.FieldType.object "java/lang/AbstractStringBuilder"))) ∈ lw_all := lw_g (lw_at lw_m3 107 rfl) rfl
theorem q643 : (Jvm.Cond.methodLink "java/lang/AbstractStringBuilder" (245 : Nat) ({ cls := "java/lang/Integer", name := "stringSize", desc := "(I)I" } : Jvm.MethodName)) ∈ lw_all := lw_g (lw_at lw_m3 108 rfl) rfl
theorem q646 : (Jvm.Cond.methodLink "java/lang/AbstractStringBuilder" (248 : Nat) ({ cls := "java/lang/Integer", name := "getChars", desc := "(II[B)I" } : Jvm.MethodName)) ∈ lw_all := lw_g (lw_at lw_m3 111 rfl) rfl
theorem q653 : (Jvm.Cond.methodLink "java/lang/AbstractStringBuilder" (251 : Nat) ({ cls := "java/lang/StringUTF16", name := "getChars", desc := "(III[B)I" } : Jvm.MethodName)) ∈ lw_all := lw_g (lw_at lw_m3 118 rfl) rfl
theorem q676 : (Jvm.Cond.instanceMethod ({ cls := "java/lang/AbstractStringBuilder", name := "getValue", desc := "()[B" } : Jvm.MethodName)) ∈ lw_all := lw_g (lw_at lw_m3 141 rfl) rfl
theorem q677 : (Jvm.Cond.sameMethod "java/lang/AbstractStringBuilder" "java/lang/AbstractStringBuilder" "getValue" "()[B") ∈ lw_all := lw_g (lw_at lw_m3 142 rfl) rfl
theorem q679 : (Jvm.Cond.code ({ cls := "java/lang/AbstractStringBuilder", name := "getValue", desc := "()[B" } : Jvm.MethodName) prog_10_method_64_code (1 : Nat) (Option.some (Jvm.ClassFile.FieldType.array Jvm.ClassFile.FieldType.byte))) ∈ lw_all := lw_g (lw_at lw_m3 144 rfl) rfl
theorem q681 : (Jvm.Cond.instanceMethod ({ cls := "java/lang/AbstractStringBuilder", name := "length", desc := "()I" } : Jvm.MethodName)) ∈ lw_all := lw_g (lw_at lw_m3 146 rfl) rfl
theorem q682 : (Jvm.Cond.sameMethod "java/lang/AbstractStringBuilder" "java/lang/AbstractStringBuilder" "length" "()I") ∈ lw_all := lw_g (lw_at lw_m3 147 rfl) rfl
theorem q687 : (Jvm.Cond.code ({ cls := "java/lang/AbstractStringBuilder", name := "length", desc := "()I" } : Jvm.MethodName) prog_10_method_6_code (1 : Nat) (Option.some Jvm.ClassFile.FieldType.int)) ∈ lw_all := lw_g (lw_at lw_m3 152 rfl) rfl
theorem q1602 : (Jvm.Cond.instanceMethod ({ cls := "java/lang/AbstractStringBuilder", name := "append", desc := "(C)Ljava/lang/AbstractStringBuilder;" } : Jvm.MethodName)) ∈ lw_all := lw_g (lw_at lw_m7 107 rfl) rfl
theorem q1603 : (Jvm.Cond.code ({ cls := "java/lang/AbstractStringBuilder", name := "append", desc := "(C)Ljava/lang/AbstractStringBuilder;" } : Jvm.MethodName) prog_10_method_31_code (2 : Nat) (Option.some (Jvm.ClassFile.FieldType.object "java/lang/AbstractStringBuilder"))) ∈ lw_all := lw_g (lw_at lw_m7 108 rfl) rfl
theorem q1604 : (Jvm.Cond.methodLink "java/lang/AbstractStringBuilder" (191 : Nat) ({ cls := "java/lang/StringLatin1", name := "canEncode", desc := "(C)Z" } : Jvm.MethodName)) ∈ lw_all := lw_g (lw_at lw_m7 109 rfl) rfl
theorem q1607 : (Jvm.Cond.methodLink "java/lang/AbstractStringBuilder" (197 : Nat) ({ cls := "java/lang/StringUTF16", name := "putCharSB", desc := "([BII)V" } : Jvm.MethodName)) ∈ lw_all := lw_g (lw_at lw_m7 112 rfl) rfl
theorem q2869 : (Jvm.Cond.instanceMethod ({ cls := "java/lang/AbstractStringBuilder", name := "compareTo", desc := "(Ljava/lang/AbstractStringBuilder;)I" } : Jvm.MethodName)) ∈ lw_all := lw_g (lw_at lw_m12 174 rfl) rfl
theorem q2870 : (Jvm.Cond.code ({ cls := "java/lang/AbstractStringBuilder", name := "compareTo", desc := "(Ljava/lang/AbstractStringBuilder;)I" } : Jvm.MethodName) prog_10_method_5_code (6 : Nat) (Option.some Jvm.ClassFile.FieldType.int)) ∈ lw_all := lw_g (lw_at lw_m12 175 rfl) rfl
theorem q2871 : (Jvm.Cond.methodLink "java/lang/AbstractStringBuilder" (87 : Nat) ({ cls := "java/lang/StringLatin1", name := "compareTo", desc := "([B[BII)I" } : Jvm.MethodName)) ∈ lw_all := lw_g (lw_at lw_m12 176 rfl) rfl
theorem q2872 : (Jvm.Cond.methodLink "java/lang/AbstractStringBuilder" (93 : Nat) ({ cls := "java/lang/StringUTF16", name := "compareTo", desc := "([B[BII)I" } : Jvm.MethodName)) ∈ lw_all := lw_g (lw_at lw_m12 177 rfl) rfl
theorem q2881 : (Jvm.Cond.methodLink "java/lang/AbstractStringBuilder" (94 : Nat) ({ cls := "java/lang/StringLatin1", name := "compareToUTF16", desc := "([B[BII)I" } : Jvm.MethodName)) ∈ lw_all := lw_g (lw_at lw_m12 186 rfl) rfl
theorem q2885 : (Jvm.Cond.methodLink "java/lang/AbstractStringBuilder" (97 : Nat) ({ cls := "java/lang/StringUTF16", name := "compareToLatin1", desc := "([B[BII)I" } : Jvm.MethodName)) ∈ lw_all := lw_g (lw_at lw_m12 190 rfl) rfl
theorem q3851 : (Jvm.Cond.sameMethod "java/lang/AbstractStringBuilder" "java/lang/AbstractStringBuilder" "append" "(Ljava/lang/String;)Ljava/lang/AbstractStringBuilder;") ∈ lw_all := lw_g (lw_at lw_m16 196 rfl) rfl
theorem q3852 : (Jvm.Cond.sameMethod "java/lang/AbstractStringBuilder" "java/lang/AbstractStringBuilder" "appendNull" "()Ljava/lang/AbstractStringBuilder;") ∈ lw_all := lw_g (lw_at lw_m16 197 rfl) rfl
theorem q3853 : (Jvm.Cond.sameMethod "java/lang/AbstractStringBuilder" "java/lang/AbstractStringBuilder" "ensureCapacityInternal" "(I)V") ∈ lw_all := lw_g (lw_at lw_m16 198 rfl) rfl
theorem q3854 : (Jvm.Cond.sameMethod "java/lang/AbstractStringBuilder" "java/lang/AbstractStringBuilder" "newCapacity" "(I)I") ∈ lw_all := lw_g (lw_at lw_m16 199 rfl) rfl
theorem q3855 : (Jvm.Cond.sameMethod "java/lang/AbstractStringBuilder" "java/lang/AbstractStringBuilder" "putStringAt" "(ILjava/lang/String;)V") ∈ lw_all := lw_g (lw_at lw_m16 200 rfl) rfl
theorem q3856 : (Jvm.Cond.sameMethod "java/lang/AbstractStringBuilder" "java/lang/AbstractStringBuilder" "inflateIfNeededFor" "(Ljava/lang/String;)V") ∈ lw_all := lw_g (lw_at lw_m16 201 rfl) rfl
theorem q3857 : (Jvm.Cond.sameMethod "java/lang/AbstractStringBuilder" "java/lang/AbstractStringBuilder" "inflate" "()V") ∈ lw_all := lw_g (lw_at lw_m16 202 rfl) rfl
theorem q3858 : (Jvm.Cond.sameMethod "java/lang/AbstractStringBuilder" "java/lang/AbstractStringBuilder" "append" "(I)Ljava/lang/AbstractStringBuilder;") ∈ lw_all := lw_g (lw_at lw_m16 203 rfl) rfl
theorem q3867 : (Jvm.Cond.sameMethod "java/lang/AbstractStringBuilder" "java/lang/AbstractStringBuilder" "append" "(C)Ljava/lang/AbstractStringBuilder;") ∈ lw_all := lw_g (lw_at lw_m16 212 rfl) rfl
theorem q3889 : (Jvm.Cond.sameMethod "java/lang/AbstractStringBuilder" "java/lang/AbstractStringBuilder" "compareTo" "(Ljava/lang/AbstractStringBuilder;)I") ∈ lw_all := lw_g (lw_at lw_m16 234 rfl) rfl

/-! java/lang/StringBuilder -/
set_option maxRecDepth 100000
def RJ21 : String := "java/lang/StringBuilder"
def TJ21 : u_T := fun k => match k with
  | 0 => ("java/lang/AbstractStringBuilder", "value", "[B", false)
  | 1 => ("java/lang/AbstractStringBuilder", "coder", "B", false)
  | 2 => ("java/lang/AbstractStringBuilder", "maybeLatin1", "Z", false)
  | _ => ("java/lang/AbstractStringBuilder", "count", "I", false)
def tyJ21 : Nat → FieldType := fun k => match k with
  | 0 => .array .byte
  | 1 => .byte
  | 2 => .boolean
  | _ => .int
abbrev wsJ210 : List Cond := u_ws RJ21 TJ21 4
theorem nmJ21 : ∀ a, a < 4 → ∀ b, b < 4 → a ≠ b → (TJ21 a).2.1 ≠ (TJ21 b).2.1 := by decide +kernel
theorem tyJ21_ok : ∀ k, k < 4 → parseFieldDescriptor (TJ21 k).2.2.1 = some (tyJ21 k) := by decide +kernel
abbrev cJ21_init : ByteArray := prog_28_method_1_code
def yJ21_init : MethodName := ⟨RJ21, "<init>", "()V"⟩
def dkwJ21_init_0 : List UInt8 := [42, 16, 16, 183, 0, 1, 177]
abbrev dktJ21_init_0 : List UInt8 := dkwJ21_init_0 ++ []
theorem dksJ21_init_0 : cJ21_init.data.toList.drop 0 = dktJ21_init_0 := by decide +kernel
theorem dJ21_init_0 : decode cJ21_init 0 = .ok (.aload_n 0, 1) := dk_42 (dk_at dksJ21_init_0 0 rfl rfl)
theorem dJ21_init_1 : decode cJ21_init 1 = .ok (.bipush 16, 2) := dk_16 16 (dk_at dksJ21_init_0 1 rfl rfl)
theorem dJ21_init_3 : decode cJ21_init 3 = .ok (.invokespecial 1, 3) := dk_183 0 1 (dk_at dksJ21_init_0 3 rfl rfl)
theorem dJ21_init_6 : decode cJ21_init 6 = .ok (.return_, 1) := dk_177 (dk_at dksJ21_init_0 6 rfl rfl)
abbrev cJ21_append : ByteArray := prog_28_method_7_code
def yJ21_append : MethodName := ⟨RJ21, "append", "(Ljava/lang/String;)Ljava/lang/StringBuilder;"⟩
def dkwJ21_append_0 : List UInt8 := [42, 43, 183, 0, 29, 87, 42, 176]
abbrev dktJ21_append_0 : List UInt8 := dkwJ21_append_0 ++ []
theorem dksJ21_append_0 : cJ21_append.data.toList.drop 0 = dktJ21_append_0 := by decide +kernel
theorem dJ21_append_0 : decode cJ21_append 0 = .ok (.aload_n 0, 1) := dk_42 (dk_at dksJ21_append_0 0 rfl rfl)
theorem dJ21_append_1 : decode cJ21_append 1 = .ok (.aload_n 1, 1) := dk_43 (dk_at dksJ21_append_0 1 rfl rfl)
theorem dJ21_append_2 : decode cJ21_append 2 = .ok (.invokespecial 29, 3) := dk_183 0 29 (dk_at dksJ21_append_0 2 rfl rfl)
theorem dJ21_append_5 : decode cJ21_append 5 = .ok (.pop, 1) := dk_87 (dk_at dksJ21_append_0 5 rfl rfl)
theorem dJ21_append_6 : decode cJ21_append 6 = .ok (.aload_n 0, 1) := dk_42 (dk_at dksJ21_append_0 6 rfl rfl)
theorem dJ21_append_7 : decode cJ21_append 7 = .ok (.areturn, 1) := dk_176 (dk_at dksJ21_append_0 7 rfl rfl)
abbrev cJ21_append_2 : ByteArray := prog_28_method_15_code
def yJ21_append_2 : MethodName := ⟨RJ21, "append", "(I)Ljava/lang/StringBuilder;"⟩
def dkwJ21_append_2_0 : List UInt8 := [42, 27, 183, 0, 53, 87, 42, 176]
abbrev dktJ21_append_2_0 : List UInt8 := dkwJ21_append_2_0 ++ []
theorem dksJ21_append_2_0 : cJ21_append_2.data.toList.drop 0 = dktJ21_append_2_0 := by decide +kernel
theorem dJ21_append_2_0 : decode cJ21_append_2 0 = .ok (.aload_n 0, 1) := dk_42 (dk_at dksJ21_append_2_0 0 rfl rfl)
theorem dJ21_append_2_1 : decode cJ21_append_2 1 = .ok (.iload_n 1, 1) := dk_27 (dk_at dksJ21_append_2_0 1 rfl rfl)
theorem dJ21_append_2_2 : decode cJ21_append_2 2 = .ok (.invokespecial 53, 3) := dk_183 0 53 (dk_at dksJ21_append_2_0 2 rfl rfl)
theorem dJ21_append_2_5 : decode cJ21_append_2 5 = .ok (.pop, 1) := dk_87 (dk_at dksJ21_append_2_0 5 rfl rfl)
theorem dJ21_append_2_6 : decode cJ21_append_2 6 = .ok (.aload_n 0, 1) := dk_42 (dk_at dksJ21_append_2_0 6 rfl rfl)
theorem dJ21_append_2_7 : decode cJ21_append_2 7 = .ok (.areturn, 1) := dk_176 (dk_at dksJ21_append_2_0 7 rfl rfl)
abbrev cJ21_toString : ByteArray := prog_28_method_42_code
def yJ21_toString : MethodName := ⟨RJ21, "toString", "()Ljava/lang/String;"⟩
def dkwJ21_toString_0 : List UInt8 := [187, 0, 18, 89, 42, 183, 0, 137, 176]
abbrev dktJ21_toString_0 : List UInt8 := dkwJ21_toString_0 ++ []
theorem dksJ21_toString_0 : cJ21_toString.data.toList.drop 0 = dktJ21_toString_0 := by decide +kernel
theorem dJ21_toString_0 : decode cJ21_toString 0 = .ok (.new 18, 3) := dk_187 0 18 (dk_at dksJ21_toString_0 0 rfl rfl)
theorem dJ21_toString_3 : decode cJ21_toString 3 = .ok (.dup, 1) := dk_89 (dk_at dksJ21_toString_0 3 rfl rfl)
theorem dJ21_toString_4 : decode cJ21_toString 4 = .ok (.aload_n 0, 1) := dk_42 (dk_at dksJ21_toString_0 4 rfl rfl)
theorem dJ21_toString_5 : decode cJ21_toString 5 = .ok (.invokespecial 137, 3) := dk_183 0 137 (dk_at dksJ21_toString_0 5 rfl rfl)
theorem dJ21_toString_8 : decode cJ21_toString 8 = .ok (.areturn, 1) := dk_176 (dk_at dksJ21_toString_0 8 rfl rfl)
abbrev cJ21_length : ByteArray := prog_28_method_93_code
def yJ21_length : MethodName := ⟨RJ21, "length", "()I"⟩
theorem dJ21_length_0 : decode cJ21_length 0 = .ok (.aload_n 0, 1) := by decide +kernel
theorem dJ21_length_1 : decode cJ21_length 1 = .ok (.invokespecial 343, 3) := by decide +kernel
theorem dJ21_length_4 : decode cJ21_length 4 = .ok (.ireturn, 1) := by decide +kernel
abbrev cJ21_append_3 : ByteArray := prog_28_method_14_code
def yJ21_append_3 : MethodName := ⟨RJ21, "append", "(C)Ljava/lang/StringBuilder;"⟩
def dkwJ21_append_3_0 : List UInt8 := [42, 27, 183, 0, 50, 87, 42, 176]
abbrev dktJ21_append_3_0 : List UInt8 := dkwJ21_append_3_0 ++ []
theorem dksJ21_append_3_0 : cJ21_append_3.data.toList.drop 0 = dktJ21_append_3_0 := by decide +kernel
theorem dJ21_append_3_0 : decode cJ21_append_3 0 = .ok (.aload_n 0, 1) := dk_42 (dk_at dksJ21_append_3_0 0 rfl rfl)
theorem dJ21_append_3_1 : decode cJ21_append_3 1 = .ok (.iload_n 1, 1) := dk_27 (dk_at dksJ21_append_3_0 1 rfl rfl)
theorem dJ21_append_3_2 : decode cJ21_append_3 2 = .ok (.invokespecial 50, 3) := dk_183 0 50 (dk_at dksJ21_append_3_0 2 rfl rfl)
theorem dJ21_append_3_5 : decode cJ21_append_3 5 = .ok (.pop, 1) := dk_87 (dk_at dksJ21_append_3_0 5 rfl rfl)
theorem dJ21_append_3_6 : decode cJ21_append_3 6 = .ok (.aload_n 0, 1) := dk_42 (dk_at dksJ21_append_3_0 6 rfl rfl)
theorem dJ21_append_3_7 : decode cJ21_append_3 7 = .ok (.areturn, 1) := dk_176 (dk_at dksJ21_append_3_0 7 rfl rfl)
def yJ21_compareTo : MethodName := ⟨RJ21, "compareTo", "(Ljava/lang/Object;)I"⟩
def yJ21_compareTo_2 : MethodName := ⟨RJ21, "compareTo", "(Ljava/lang/StringBuilder;)I"⟩
theorem q82 : (Jvm.Cond.initialized "java/lang/StringBuilder") ∈ lw_all := lw_g (lw_at lw_m1 27 rfl) rfl
theorem q231 : (Jvm.Cond.selects "java/lang/StringBuilder" ({ cls := "java/lang/Object", name := "getClass", desc := "()Ljava/lang/Class;" } : Jvm.MethodName) ({ cls := "java/lang/Object", name := "getClass", desc := "()Ljava/lang/Class;" } : Jvm.MethodName)) ∈ lw_all := lw_g (lw_at lw_m1 176 rfl) rfl
theorem q499 : (Jvm.Cond.instantiable "java/lang/StringBuilder" (4 : Nat)) ∈ lw_all := lw_g (lw_at lw_m2 204 rfl) rfl
theorem q501 : (Jvm.Cond.instanceMethod ({ cls := "java/lang/StringBuilder", name := "<init>", desc := "()V" } : Jvm.MethodName)) ∈ lw_all := lw_g (lw_at lw_m2 206 rfl) rfl
theorem q502 : (Jvm.Cond.code ({ cls := "java/lang/StringBuilder", name := "<init>", desc := "()V" } : Jvm.MethodName) prog_28_method_1_code (1 : Nat) (Option.none : Option Jvm.ClassFile.FieldType)) ∈ lw_all := lw_g (lw_at lw_m2 207 rfl) rfl
theorem q503 : (Jvm.Cond.methodLink "java/lang/StringBuilder" (1 : Nat) ({ cls := "java/lang/AbstractStringBuilder", name := "<init>", desc := "(I)V" } : Jvm.MethodName)) ∈ lw_all := lw_g (lw_at lw_m2 208 rfl) rfl
theorem q520 : (Jvm.Cond.lays "java/lang/StringBuilder" "java/lang/AbstractStringBuilder" "value" "[B") ∈ lw_all := lw_g (lw_at lw_m2 225 rfl) rfl
theorem q522 : (Jvm.Cond.lays "java/lang/StringBuilder" "java/lang/AbstractStringBuilder" "coder" "B") ∈ lw_all := lw_g (lw_at lw_m2 227 rfl) rfl
theorem q524 : (Jvm.Cond.lays "java/lang/StringBuilder" "java/lang/AbstractStringBuilder" "maybeLatin1" "Z") ∈ lw_all := lw_g (lw_at lw_m2 229 rfl) rfl
theorem q526 : (Jvm.Cond.lays "java/lang/StringBuilder" "java/lang/AbstractStringBuilder" "count" "I") ∈ lw_all := lw_g (lw_at lw_m2 231 rfl) rfl
theorem q528 : (Jvm.Cond.superclass "java/lang/StringBuilder" "java/lang/AbstractStringBuilder") ∈ lw_all := lw_g (lw_at lw_m2 233 rfl) rfl
theorem q532 : (Jvm.Cond.instanceMethod ({ cls := "java/lang/StringBuilder", name := "append", desc := "(Ljava/lang/String;)Ljava/lang/StringBuilder;" } : Jvm.MethodName)) ∈ lw_all := lw_g (lw_at lw_m2 237 rfl) rfl
theorem q533 : (Jvm.Cond.selects "java/lang/StringBuilder" ({ cls := "java/lang/StringBuilder", name := "append", desc := "(Ljava/lang/String;)Ljava/lang/StringBuilder;" } : Jvm.MethodName) ({ cls := "java/lang/StringBuilder", name := "append", desc := "(Ljava/lang/String;)Ljava/lang/StringBuilder;" } : Jvm.MethodName)) ∈ lw_all := lw_g (lw_at lw_m2 238 rfl) rfl
theorem q534 : (Jvm.Cond.code ({ cls := "java/lang/StringBuilder", name := "append", desc := "(Ljava/lang/String;)Ljava/lang/StringBuilder;" } : Jvm.MethodName) prog_28_method_7_code (2 : Nat) (Option.some (Jvm.ClassFile.FieldType.object "java/lang/StringBuilder"))) ∈ lw_all := lw_g (lw_at lw_m2 239 rfl) rfl
theorem q535 : (Jvm.Cond.methodLink "java/lang/StringBuilder" (29 : Nat) ({ cls := "java/lang/AbstractStringBuilder", name := "append", desc := "(Ljava/lang/String;)Ljava/lang/AbstractStringBuilder;" } : Jvm.MethodName)) ∈ lw_all := lw_g (lw_at lw_m3 0 rfl) rfl
theorem q565 : (Jvm.Cond.selects "java/lang/StringBuilder" ({ cls := "java/lang/AbstractStringBuilder", name := "isLatin1", desc := "()Z" } : Jvm.MethodName) ({ cls := "java/lang/AbstractStringBuilder", name := "isLatin1", desc := "()Z" } : Jvm.MethodName)) ∈ lw_all := lw_g (lw_at lw_m3 30 rfl) rfl
theorem q637 : (Jvm.Cond.instanceMethod ({ cls := "java/lang/StringBuilder", name := "append", desc := "(I)Ljava/lang/StringBuilder;" } : Jvm.MethodName)) ∈ lw_all := lw_g (lw_at lw_m3 102 rfl) rfl
theorem q638 : (Jvm.Cond.selects "java/lang/StringBuilder" ({ cls := "java/lang/StringBuilder", name := "append", desc := "(I)Ljava/lang/StringBuilder;" } : Jvm.MethodName) ({ cls := "java/lang/StringBuilder", name := "append", desc := "(I)Ljava/lang/StringBuilder;" } : Jvm.MethodName)) ∈ lw_all := lw_g (lw_at lw_m3 103 rfl) rfl
theorem q639 : (Jvm.Cond.code ({ cls := "java/lang/StringBuilder", name := "append", desc := "(I)Ljava/lang/StringBuilder;" } : Jvm.MethodName) prog_28_method_15_code (2 : Nat) (Option.some (Jvm.ClassFile.FieldType.object "java/lang/StringBuilder"))) ∈ lw_all := lw_g (lw_at lw_m3 104 rfl) rfl
theorem q640 : (Jvm.Cond.methodLink "java/lang/StringBuilder" (53 : Nat) ({ cls := "java/lang/AbstractStringBuilder", name := "append", desc := "(I)Ljava/lang/AbstractStringBuilder;" } : Jvm.MethodName)) ∈ lw_all := lw_g (lw_at lw_m3 105 rfl) rfl
theorem q663 : (Jvm.Cond.instanceMethod ({ cls := "java/lang/StringBuilder", name := "toString", desc := "()Ljava/lang/String;" } : Jvm.MethodName)) ∈ lw_all := lw_g (lw_at lw_m3 128 rfl) rfl
theorem q664 : (Jvm.Cond.selects "java/lang/StringBuilder" ({ cls := "java/lang/StringBuilder", name := "toString", desc := "()Ljava/lang/String;" } : Jvm.MethodName) ({ cls := "java/lang/StringBuilder", name := "toString", desc := "()Ljava/lang/String;" } : Jvm.MethodName)) ∈ lw_all := lw_g (lw_at lw_m3 129 rfl) rfl
theorem q665 : (Jvm.Cond.code ({ cls := "java/lang/StringBuilder", name := "toString", desc := "()Ljava/lang/String;" } : Jvm.MethodName) prog_28_method_42_code (1 : Nat) (Option.some (Jvm.ClassFile.FieldType.object "java/lang/String"))) ∈ lw_all := lw_g (lw_at lw_m3 130 rfl) rfl
theorem q666 : (Jvm.Cond.classLink "java/lang/StringBuilder" (18 : Nat) "java/lang/String") ∈ lw_all := lw_g (lw_at lw_m3 131 rfl) rfl
theorem q668 : (Jvm.Cond.methodLink "java/lang/StringBuilder" (137 : Nat) ({ cls := "java/lang/String", name := "<init>", desc := "(Ljava/lang/StringBuilder;)V" } : Jvm.MethodName)) ∈ lw_all := lw_g (lw_at lw_m3 133 rfl) rfl
theorem q678 : (Jvm.Cond.selects "java/lang/StringBuilder" ({ cls := "java/lang/AbstractStringBuilder", name := "getValue", desc := "()[B" } : Jvm.MethodName) ({ cls := "java/lang/AbstractStringBuilder", name := "getValue", desc := "()[B" } : Jvm.MethodName)) ∈ lw_all := lw_g (lw_at lw_m3 143 rfl) rfl
theorem q683 : (Jvm.Cond.selects "java/lang/StringBuilder" ({ cls := "java/lang/AbstractStringBuilder", name := "length", desc := "()I" } : Jvm.MethodName) ({ cls := "java/lang/StringBuilder", name := "length", desc := "()I" } : Jvm.MethodName)) ∈ lw_all := lw_g (lw_at lw_m3 148 rfl) rfl
theorem q684 : (Jvm.Cond.instanceMethod ({ cls := "java/lang/StringBuilder", name := "length", desc := "()I" } : Jvm.MethodName)) ∈ lw_all := lw_g (lw_at lw_m3 149 rfl) rfl
theorem q685 : (Jvm.Cond.code ({ cls := "java/lang/StringBuilder", name := "length", desc := "()I" } : Jvm.MethodName) prog_28_method_93_code (1 : Nat) (Option.some Jvm.ClassFile.FieldType.int)) ∈ lw_all := lw_g (lw_at lw_m3 150 rfl) rfl
theorem q686 : (Jvm.Cond.methodLink "java/lang/StringBuilder" (343 : Nat) ({ cls := "java/lang/AbstractStringBuilder", name := "length", desc := "()I" } : Jvm.MethodName)) ∈ lw_all := lw_g (lw_at lw_m3 151 rfl) rfl
theorem q1131 : (Jvm.Cond.selects "java/lang/StringBuilder" ({ cls := "java/lang/Object", name := "equals", desc := "(Ljava/lang/Object;)Z" } : Jvm.MethodName) ({ cls := "java/lang/Object", name := "equals", desc := "(Ljava/lang/Object;)Z" } : Jvm.MethodName)) ∈ lw_all := lw_g (lw_at lw_m5 116 rfl) rfl
theorem q1371 : (Jvm.Cond.selects "java/lang/StringBuilder" ({ cls := "java/lang/Object", name := "hashCode", desc := "()I" } : Jvm.MethodName) ({ cls := "java/lang/Object", name := "hashCode", desc := "()I" } : Jvm.MethodName)) ∈ lw_all := lw_g (lw_at lw_m6 116 rfl) rfl
theorem q1598 : (Jvm.Cond.instanceMethod ({ cls := "java/lang/StringBuilder", name := "append", desc := "(C)Ljava/lang/StringBuilder;" } : Jvm.MethodName)) ∈ lw_all := lw_g (lw_at lw_m7 103 rfl) rfl
theorem q1599 : (Jvm.Cond.selects "java/lang/StringBuilder" ({ cls := "java/lang/StringBuilder", name := "append", desc := "(C)Ljava/lang/StringBuilder;" } : Jvm.MethodName) ({ cls := "java/lang/StringBuilder", name := "append", desc := "(C)Ljava/lang/StringBuilder;" } : Jvm.MethodName)) ∈ lw_all := lw_g (lw_at lw_m7 104 rfl) rfl
theorem q1600 : (Jvm.Cond.code ({ cls := "java/lang/StringBuilder", name := "append", desc := "(C)Ljava/lang/StringBuilder;" } : Jvm.MethodName) prog_28_method_14_code (2 : Nat) (Option.some (Jvm.ClassFile.FieldType.object "java/lang/StringBuilder"))) ∈ lw_all := lw_g (lw_at lw_m7 105 rfl) rfl
theorem q1601 : (Jvm.Cond.methodLink "java/lang/StringBuilder" (50 : Nat) ({ cls := "java/lang/AbstractStringBuilder", name := "append", desc := "(C)Ljava/lang/AbstractStringBuilder;" } : Jvm.MethodName)) ∈ lw_all := lw_g (lw_at lw_m7 106 rfl) rfl
theorem q2857 : (Jvm.Cond.castable "java/lang/StringBuilder" "java/lang/Comparable") ∈ lw_tbl := lw_at lw_m12 162 rfl
theorem q2858 : (Jvm.Cond.selects "java/lang/StringBuilder" ({ cls := "java/lang/Comparable", name := "compareTo", desc := "(Ljava/lang/Object;)I" } : Jvm.MethodName) ({ cls := "java/lang/StringBuilder", name := "compareTo", desc := "(Ljava/lang/Object;)I" } : Jvm.MethodName)) ∈ lw_all := lw_g (lw_at lw_m12 163 rfl) rfl
theorem q2859 : (Jvm.Cond.unhidden "java/lang/StringBuilder" "compareTo" "(Ljava/lang/Object;)I") ∈ lw_tbl := lw_at lw_m12 164 rfl
theorem q2860 : (Jvm.Cond.instanceMethod ({ cls := "java/lang/StringBuilder", name := "compareTo", desc := "(Ljava/lang/Object;)I" } : Jvm.MethodName)) ∈ lw_all := lw_g (lw_at lw_m12 165 rfl) rfl
theorem q2861 : (Jvm.Cond.publicMethod ({ cls := "java/lang/StringBuilder", name := "compareTo", desc := "(Ljava/lang/Object;)I" } : Jvm.MethodName)) ∈ lw_tbl := lw_at lw_m12 166 rfl
theorem q2862 : (Jvm.Cond.code ({ cls := "java/lang/StringBuilder", name := "compareTo", desc := "(Ljava/lang/Object;)I" } : Jvm.MethodName) prog_28_method_97_code (2 : Nat) (Option.some Jvm.ClassFile.FieldType.int)) ∈ lw_all := lw_g (lw_at lw_m12 167 rfl) rfl
theorem q2863 : (Jvm.Cond.classLink "java/lang/StringBuilder" (24 : Nat) "java/lang/StringBuilder") ∈ lw_all := lw_g (lw_at lw_m12 168 rfl) rfl
theorem q2864 : (Jvm.Cond.methodLink "java/lang/StringBuilder" (346 : Nat) ({ cls := "java/lang/StringBuilder", name := "compareTo", desc := "(Ljava/lang/StringBuilder;)I" } : Jvm.MethodName)) ∈ lw_all := lw_g (lw_at lw_m12 169 rfl) rfl
theorem q2865 : (Jvm.Cond.instanceMethod ({ cls := "java/lang/StringBuilder", name := "compareTo", desc := "(Ljava/lang/StringBuilder;)I" } : Jvm.MethodName)) ∈ lw_all := lw_g (lw_at lw_m12 170 rfl) rfl
theorem q2866 : (Jvm.Cond.selects "java/lang/StringBuilder" ({ cls := "java/lang/StringBuilder", name := "compareTo", desc := "(Ljava/lang/StringBuilder;)I" } : Jvm.MethodName) ({ cls := "java/lang/StringBuilder", name := "compareTo", desc := "(Ljava/lang/StringBuilder;)I" } : Jvm.MethodName)) ∈ lw_all := lw_g (lw_at lw_m12 171 rfl) rfl
theorem q2867 : (Jvm.Cond.code ({ cls := "java/lang/StringBuilder", name := "compareTo", desc := "(Ljava/lang/StringBuilder;)I" } : Jvm.MethodName) prog_28_method_5_code (2 : Nat) (Option.some Jvm.ClassFile.FieldType.int)) ∈ lw_all := lw_g (lw_at lw_m12 172 rfl) rfl
theorem q2868 : (Jvm.Cond.methodLink "java/lang/StringBuilder" (13 : Nat) ({ cls := "java/lang/AbstractStringBuilder", name := "compareTo", desc := "(Ljava/lang/AbstractStringBuilder;)I" } : Jvm.MethodName)) ∈ lw_all := lw_g (lw_at lw_m12 173 rfl) rfl
theorem q3866 : (Jvm.Cond.selects "java/lang/StringBuilder" ({ cls := "java/lang/StringBuilder", name := "length", desc := "()I" } : Jvm.MethodName) ({ cls := "java/lang/StringBuilder", name := "length", desc := "()I" } : Jvm.MethodName)) ∈ lw_all := lw_g (lw_at lw_m16 211 rfl) rfl
theorem q3908 : (Jvm.Cond.castable "java/lang/StringBuilder" "java/lang/Object") ∈ lw_tbl := lw_at lw_m17 13 rfl
theorem in_J21 : ∀ w ∈ wsJ210, w ∈ lw_all := lw_in wsJ210 [520, 522, 524, 526] (by decide +kernel) (by decide +kernel)

/-! java/lang/StringLatin1 -/
set_option maxRecDepth 100000
def RJ23 : String := "java/lang/StringLatin1"
def yJ23_inflate : MethodName := ⟨RJ23, "inflate", "([BI[BII)V"⟩
abbrev cJ23_equals : ByteArray := prog_29_method_13_code
def yJ23_equals : MethodName := ⟨RJ23, "equals", "([B[B)Z"⟩
def dkwJ23_equals_1 : List UInt8 := [3, 172, 132, 2, 1, 167, 255, 236, 4, 172, 3, 172]
abbrev dktJ23_equals_1 : List UInt8 := dkwJ23_equals_1 ++ []
def dkwJ23_equals_0 : List UInt8 := [42, 190, 43, 190, 160, 0, 30, 3, 61, 28, 42, 190, 162, 0, 20, 42, 28, 51, 43, 28, 51, 159, 0, 5]
abbrev dktJ23_equals_0 : List UInt8 := dkwJ23_equals_0 ++ dktJ23_equals_1
theorem dksJ23_equals_0 : cJ23_equals.data.toList.drop 0 = dktJ23_equals_0 := by decide +kernel
theorem dksJ23_equals_1 : cJ23_equals.data.toList.drop 24 = dktJ23_equals_1 := dk_seg dksJ23_equals_0 24 rfl rfl
theorem dJ23_equals_0 : decode cJ23_equals 0 = .ok (.aload_n 0, 1) := dk_42 (dk_at dksJ23_equals_0 0 rfl rfl)
theorem dJ23_equals_1 : decode cJ23_equals 1 = .ok (.arraylength, 1) := dk_190 (dk_at dksJ23_equals_0 1 rfl rfl)
theorem dJ23_equals_2 : decode cJ23_equals 2 = .ok (.aload_n 1, 1) := dk_43 (dk_at dksJ23_equals_0 2 rfl rfl)
theorem dJ23_equals_3 : decode cJ23_equals 3 = .ok (.arraylength, 1) := dk_190 (dk_at dksJ23_equals_0 3 rfl rfl)
theorem dJ23_equals_4 : decode cJ23_equals 4 = .ok (.if_icmp .ne 30, 3) := dk_160 0 30 (dk_at dksJ23_equals_0 4 rfl rfl)
theorem dJ23_equals_7 : decode cJ23_equals 7 = .ok (.iconst 0, 1) := dk_3 (dk_at dksJ23_equals_0 7 rfl rfl)
theorem dJ23_equals_8 : decode cJ23_equals 8 = .ok (.istore_n 2, 1) := dk_61 (dk_at dksJ23_equals_0 8 rfl rfl)
theorem dJ23_equals_9 : decode cJ23_equals 9 = .ok (.iload_n 2, 1) := dk_28 (dk_at dksJ23_equals_0 9 rfl rfl)
theorem dJ23_equals_10 : decode cJ23_equals 10 = .ok (.aload_n 0, 1) := dk_42 (dk_at dksJ23_equals_0 10 rfl rfl)
theorem dJ23_equals_11 : decode cJ23_equals 11 = .ok (.arraylength, 1) := dk_190 (dk_at dksJ23_equals_0 11 rfl rfl)
theorem dJ23_equals_12 : decode cJ23_equals 12 = .ok (.if_icmp .ge 20, 3) := dk_162 0 20 (dk_at dksJ23_equals_0 12 rfl rfl)
theorem dJ23_equals_15 : decode cJ23_equals 15 = .ok (.aload_n 0, 1) := dk_42 (dk_at dksJ23_equals_0 15 rfl rfl)
theorem dJ23_equals_16 : decode cJ23_equals 16 = .ok (.iload_n 2, 1) := dk_28 (dk_at dksJ23_equals_0 16 rfl rfl)
theorem dJ23_equals_17 : decode cJ23_equals 17 = .ok (.baload, 1) := dk_51 (dk_at dksJ23_equals_0 17 rfl rfl)
theorem dJ23_equals_18 : decode cJ23_equals 18 = .ok (.aload_n 1, 1) := dk_43 (dk_at dksJ23_equals_0 18 rfl rfl)
theorem dJ23_equals_19 : decode cJ23_equals 19 = .ok (.iload_n 2, 1) := dk_28 (dk_at dksJ23_equals_0 19 rfl rfl)
theorem dJ23_equals_20 : decode cJ23_equals 20 = .ok (.baload, 1) := dk_51 (dk_at dksJ23_equals_0 20 rfl rfl)
theorem dJ23_equals_21 : decode cJ23_equals 21 = .ok (.if_icmp .eq 5, 3) := dk_159 0 5 (dk_at dksJ23_equals_0 21 rfl rfl)
theorem dJ23_equals_24 : decode cJ23_equals 24 = .ok (.iconst 0, 1) := dk_3 (dk_at dksJ23_equals_1 0 rfl rfl)
theorem dJ23_equals_25 : decode cJ23_equals 25 = .ok (.ireturn, 1) := dk_172 (dk_at dksJ23_equals_1 1 rfl rfl)
theorem dJ23_equals_26 : decode cJ23_equals 26 = .ok (.iinc 2 1, 3) := dk_132 2 1 (dk_at dksJ23_equals_1 2 rfl rfl)
theorem dJ23_equals_29 : decode cJ23_equals 29 = .ok (.goto (-20), 3) := dk_167 255 236 (dk_at dksJ23_equals_1 5 rfl rfl)
theorem dJ23_equals_32 : decode cJ23_equals 32 = .ok (.iconst 1, 1) := dk_4 (dk_at dksJ23_equals_1 8 rfl rfl)
theorem dJ23_equals_33 : decode cJ23_equals 33 = .ok (.ireturn, 1) := dk_172 (dk_at dksJ23_equals_1 9 rfl rfl)
theorem dJ23_equals_34 : decode cJ23_equals 34 = .ok (.iconst 0, 1) := dk_3 (dk_at dksJ23_equals_1 10 rfl rfl)
theorem dJ23_equals_35 : decode cJ23_equals 35 = .ok (.ireturn, 1) := dk_172 (dk_at dksJ23_equals_1 11 rfl rfl)
def yJ23_hashCode : MethodName := ⟨RJ23, "hashCode", "([B)I"⟩
abbrev cJ23_canEncode : ByteArray := prog_29_method_3_code
def yJ23_canEncode : MethodName := ⟨RJ23, "canEncode", "(C)Z"⟩
def dkwJ23_canEncode_0 : List UInt8 := [26, 17, 0, 255, 163, 0, 7, 4, 167, 0, 4, 3, 172]
abbrev dktJ23_canEncode_0 : List UInt8 := dkwJ23_canEncode_0 ++ []
theorem dksJ23_canEncode_0 : cJ23_canEncode.data.toList.drop 0 = dktJ23_canEncode_0 := by decide +kernel
theorem dJ23_canEncode_0 : decode cJ23_canEncode 0 = .ok (.iload_n 0, 1) := dk_26 (dk_at dksJ23_canEncode_0 0 rfl rfl)
theorem dJ23_canEncode_1 : decode cJ23_canEncode 1 = .ok (.sipush 255, 3) := dk_17 0 255 (dk_at dksJ23_canEncode_0 1 rfl rfl)
theorem dJ23_canEncode_4 : decode cJ23_canEncode 4 = .ok (.if_icmp .gt 7, 3) := dk_163 0 7 (dk_at dksJ23_canEncode_0 4 rfl rfl)
theorem dJ23_canEncode_7 : decode cJ23_canEncode 7 = .ok (.iconst 1, 1) := dk_4 (dk_at dksJ23_canEncode_0 7 rfl rfl)
theorem dJ23_canEncode_8 : decode cJ23_canEncode 8 = .ok (.goto 4, 3) := dk_167 0 4 (dk_at dksJ23_canEncode_0 8 rfl rfl)
theorem dJ23_canEncode_11 : decode cJ23_canEncode 11 = .ok (.iconst 0, 1) := dk_3 (dk_at dksJ23_canEncode_0 11 rfl rfl)
theorem dJ23_canEncode_12 : decode cJ23_canEncode 12 = .ok (.ireturn, 1) := dk_172 (dk_at dksJ23_canEncode_0 12 rfl rfl)
def yJ23_compareTo : MethodName := ⟨RJ23, "compareTo", "([B[B)I"⟩
def yJ23_compareTo_2 : MethodName := ⟨RJ23, "compareTo", "([B[BII)I"⟩
def yJ23_getChar : MethodName := ⟨RJ23, "getChar", "([BI)C"⟩
def yJ23_compareToUTF16 : MethodName := ⟨RJ23, "compareToUTF16", "([B[B)I"⟩
abbrev cJ23_length : ByteArray := prog_29_method_5_code
def yJ23_length : MethodName := ⟨RJ23, "length", "([B)I"⟩
theorem dJ23_length_0 : decode cJ23_length 0 = .ok (.aload_n 0, 1) := by decide +kernel
theorem dJ23_length_1 : decode cJ23_length 1 = .ok (.arraylength, 1) := by decide +kernel
theorem dJ23_length_2 : decode cJ23_length 2 = .ok (.ireturn, 1) := by decide +kernel
def yJ23_compareToUTF16Values : MethodName := ⟨RJ23, "compareToUTF16Values", "([B[BII)I"⟩
def yJ23_compareToUTF16_2 : MethodName := ⟨RJ23, "compareToUTF16", "([B[BII)I"⟩
theorem q84 : (Jvm.Cond.initialized "java/lang/StringLatin1") ∈ lw_all := lw_g (lw_at lw_m1 29 rfl) rfl
theorem q616 : (Jvm.Cond.static ({ cls := "java/lang/StringLatin1", name := "inflate", desc := "([BI[BII)V" } : Jvm.MethodName)) ∈ lw_all := lw_g (lw_at lw_m3 81 rfl) rfl
theorem q617 : (Jvm.Cond.code ({ cls := "java/lang/StringLatin1", name := "inflate", desc := "([BI[BII)V" } : Jvm.MethodName) prog_29_method_50_code (5 : Nat) (Option.none : Option Jvm.ClassFile.FieldType)) ∈ lw_all := lw_g (lw_at lw_m3 82 rfl) rfl
theorem q618 : (Jvm.Cond.methodLink "java/lang/StringLatin1" (240 : Nat) ({ cls := "java/lang/StringUTF16", name := "inflate", desc := "([BI[BII)V" } : Jvm.MethodName)) ∈ lw_all := lw_g (lw_at lw_m3 83 rfl) rfl
theorem q1129 : (Jvm.Cond.static ({ cls := "java/lang/StringLatin1", name := "equals", desc := "([B[B)Z" } : Jvm.MethodName)) ∈ lw_all := lw_g (lw_at lw_m5 114 rfl) rfl
theorem q1130 : (Jvm.Cond.code ({ cls := "java/lang/StringLatin1", name := "equals", desc := "([B[B)Z" } : Jvm.MethodName) prog_29_method_13_code (3 : Nat) (Option.some Jvm.ClassFile.FieldType.boolean)) ∈ lw_all := lw_g (lw_at lw_m5 115 rfl) rfl
theorem q1319 : (Jvm.Cond.static ({ cls := "java/lang/StringLatin1", name := "hashCode", desc := "([B)I" } : Jvm.MethodName)) ∈ lw_all := lw_g (lw_at lw_m6 64 rfl) rfl
theorem q1320 : (Jvm.Cond.code ({ cls := "java/lang/StringLatin1", name := "hashCode", desc := "([B)I" } : Jvm.MethodName) prog_29_method_21_code (1 : Nat) (Option.some Jvm.ClassFile.FieldType.int)) ∈ lw_all := lw_g (lw_at lw_m6 65 rfl) rfl
theorem q1321 : (Jvm.Cond.methodLink "java/lang/StringLatin1" (84 : Nat) ({ cls := "jdk/internal/util/ArraysSupport", name := "vectorizedHashCode", desc := "(Ljava/lang/Object;IIII)I" } : Jvm.MethodName)) ∈ lw_all := lw_g (lw_at lw_m6 66 rfl) rfl
theorem q1605 : (Jvm.Cond.static ({ cls := "java/lang/StringLatin1", name := "canEncode", desc := "(C)Z" } : Jvm.MethodName)) ∈ lw_all := lw_g (lw_at lw_m7 110 rfl) rfl
theorem q1606 : (Jvm.Cond.code ({ cls := "java/lang/StringLatin1", name := "canEncode", desc := "(C)Z" } : Jvm.MethodName) prog_29_method_3_code (1 : Nat) (Option.some Jvm.ClassFile.FieldType.boolean)) ∈ lw_all := lw_g (lw_at lw_m7 111 rfl) rfl
theorem q2722 : (Jvm.Cond.static ({ cls := "java/lang/StringLatin1", name := "compareTo", desc := "([B[B)I" } : Jvm.MethodName)) ∈ lw_all := lw_g (lw_at lw_m12 27 rfl) rfl
theorem q2723 : (Jvm.Cond.code ({ cls := "java/lang/StringLatin1", name := "compareTo", desc := "([B[B)I" } : Jvm.MethodName) prog_29_method_14_code (4 : Nat) (Option.some Jvm.ClassFile.FieldType.int)) ∈ lw_all := lw_g (lw_at lw_m12 28 rfl) rfl
theorem q2724 : (Jvm.Cond.methodLink "java/lang/StringLatin1" (34 : Nat) ({ cls := "java/lang/StringLatin1", name := "compareTo", desc := "([B[BII)I" } : Jvm.MethodName)) ∈ lw_all := lw_g (lw_at lw_m12 29 rfl) rfl
theorem q2725 : (Jvm.Cond.static ({ cls := "java/lang/StringLatin1", name := "compareTo", desc := "([B[BII)I" } : Jvm.MethodName)) ∈ lw_all := lw_g (lw_at lw_m12 30 rfl) rfl
theorem q2726 : (Jvm.Cond.code ({ cls := "java/lang/StringLatin1", name := "compareTo", desc := "([B[BII)I" } : Jvm.MethodName) prog_29_method_15_code (6 : Nat) (Option.some Jvm.ClassFile.FieldType.int)) ∈ lw_all := lw_g (lw_at lw_m12 31 rfl) rfl
theorem q2727 : (Jvm.Cond.methodLink "java/lang/StringLatin1" (38 : Nat) ({ cls := "java/lang/Math", name := "min", desc := "(II)I" } : Jvm.MethodName)) ∈ lw_all := lw_g (lw_at lw_m12 32 rfl) rfl
theorem q2728 : (Jvm.Cond.methodLink "java/lang/StringLatin1" (44 : Nat) ({ cls := "jdk/internal/util/ArraysSupport", name := "mismatch", desc := "([B[BI)I" } : Jvm.MethodName)) ∈ lw_all := lw_g (lw_at lw_m12 33 rfl) rfl
theorem q2832 : (Jvm.Cond.methodLink "java/lang/StringLatin1" (50 : Nat) ({ cls := "java/lang/StringLatin1", name := "getChar", desc := "([BI)C" } : Jvm.MethodName)) ∈ lw_all := lw_g (lw_at lw_m12 137 rfl) rfl
theorem q2833 : (Jvm.Cond.static ({ cls := "java/lang/StringLatin1", name := "getChar", desc := "([BI)C" } : Jvm.MethodName)) ∈ lw_all := lw_g (lw_at lw_m12 138 rfl) rfl
theorem q2834 : (Jvm.Cond.code ({ cls := "java/lang/StringLatin1", name := "getChar", desc := "([BI)C" } : Jvm.MethodName) prog_29_method_44_code (2 : Nat) (Option.some Jvm.ClassFile.FieldType.char)) ∈ lw_all := lw_g (lw_at lw_m12 139 rfl) rfl
theorem q2843 : (Jvm.Cond.static ({ cls := "java/lang/StringLatin1", name := "compareToUTF16", desc := "([B[B)I" } : Jvm.MethodName)) ∈ lw_all := lw_g (lw_at lw_m12 148 rfl) rfl
theorem q2844 : (Jvm.Cond.code ({ cls := "java/lang/StringLatin1", name := "compareToUTF16", desc := "([B[B)I" } : Jvm.MethodName) prog_29_method_16_code (4 : Nat) (Option.some Jvm.ClassFile.FieldType.int)) ∈ lw_all := lw_g (lw_at lw_m12 149 rfl) rfl
theorem q2845 : (Jvm.Cond.methodLink "java/lang/StringLatin1" (54 : Nat) ({ cls := "java/lang/StringLatin1", name := "length", desc := "([B)I" } : Jvm.MethodName)) ∈ lw_all := lw_g (lw_at lw_m12 150 rfl) rfl
theorem q2846 : (Jvm.Cond.static ({ cls := "java/lang/StringLatin1", name := "length", desc := "([B)I" } : Jvm.MethodName)) ∈ lw_all := lw_g (lw_at lw_m12 151 rfl) rfl
theorem q2847 : (Jvm.Cond.code ({ cls := "java/lang/StringLatin1", name := "length", desc := "([B)I" } : Jvm.MethodName) prog_29_method_5_code (1 : Nat) (Option.some Jvm.ClassFile.FieldType.int)) ∈ lw_all := lw_g (lw_at lw_m12 152 rfl) rfl
theorem q2848 : (Jvm.Cond.methodLink "java/lang/StringLatin1" (58 : Nat) ({ cls := "java/lang/StringUTF16", name := "length", desc := "([B)I" } : Jvm.MethodName)) ∈ lw_all := lw_g (lw_at lw_m12 153 rfl) rfl
theorem q2849 : (Jvm.Cond.methodLink "java/lang/StringLatin1" (59 : Nat) ({ cls := "java/lang/StringLatin1", name := "compareToUTF16Values", desc := "([B[BII)I" } : Jvm.MethodName)) ∈ lw_all := lw_g (lw_at lw_m12 154 rfl) rfl
theorem q2850 : (Jvm.Cond.static ({ cls := "java/lang/StringLatin1", name := "compareToUTF16Values", desc := "([B[BII)I" } : Jvm.MethodName)) ∈ lw_all := lw_g (lw_at lw_m12 155 rfl) rfl
theorem q2851 : (Jvm.Cond.code ({ cls := "java/lang/StringLatin1", name := "compareToUTF16Values", desc := "([B[BII)I" } : Jvm.MethodName) prog_29_method_18_code (8 : Nat) (Option.some Jvm.ClassFile.FieldType.int)) ∈ lw_all := lw_g (lw_at lw_m12 156 rfl) rfl
theorem q2852 : (Jvm.Cond.methodLink "java/lang/StringLatin1" (65 : Nat) ({ cls := "java/lang/StringUTF16", name := "getChar", desc := "([BI)C" } : Jvm.MethodName)) ∈ lw_all := lw_g (lw_at lw_m12 157 rfl) rfl
theorem q2882 : (Jvm.Cond.static ({ cls := "java/lang/StringLatin1", name := "compareToUTF16", desc := "([B[BII)I" } : Jvm.MethodName)) ∈ lw_all := lw_g (lw_at lw_m12 187 rfl) rfl
theorem q2883 : (Jvm.Cond.code ({ cls := "java/lang/StringLatin1", name := "compareToUTF16", desc := "([B[BII)I" } : Jvm.MethodName) prog_29_method_17_code (4 : Nat) (Option.some Jvm.ClassFile.FieldType.int)) ∈ lw_all := lw_g (lw_at lw_m12 188 rfl) rfl
theorem q2884 : (Jvm.Cond.methodLink "java/lang/StringLatin1" (62 : Nat) ({ cls := "java/lang/String", name := "checkOffset", desc := "(II)V" } : Jvm.MethodName)) ∈ lw_all := lw_g (lw_at lw_m12 189 rfl) rfl

/-! java/lang/Object -/
set_option maxRecDepth 100000
def RJ41 : String := "java/lang/Object"
abbrev cJ41_init : ByteArray := object_method_1_code
def yJ41_init : MethodName := ⟨RJ41, "<init>", "()V"⟩
theorem dJ41_init_0 : decode cJ41_init 0 = .ok (.return_, 1) := by decide +kernel
abbrev cJ41_equals : ByteArray := object_method_4_code
def yJ41_equals : MethodName := ⟨RJ41, "equals", "(Ljava/lang/Object;)Z"⟩
def dkwJ41_equals_0 : List UInt8 := [42, 43, 166, 0, 7, 4, 167, 0, 4, 3, 172]
abbrev dktJ41_equals_0 : List UInt8 := dkwJ41_equals_0 ++ []
theorem dksJ41_equals_0 : cJ41_equals.data.toList.drop 0 = dktJ41_equals_0 := by decide +kernel
theorem dJ41_equals_0 : decode cJ41_equals 0 = .ok (.aload_n 0, 1) := dk_42 (dk_at dksJ41_equals_0 0 rfl rfl)
theorem dJ41_equals_1 : decode cJ41_equals 1 = .ok (.aload_n 1, 1) := dk_43 (dk_at dksJ41_equals_0 1 rfl rfl)
theorem dJ41_equals_2 : decode cJ41_equals 2 = .ok (.if_acmp .ne 7, 3) := dk_166 0 7 (dk_at dksJ41_equals_0 2 rfl rfl)
theorem dJ41_equals_5 : decode cJ41_equals 5 = .ok (.iconst 1, 1) := dk_4 (dk_at dksJ41_equals_0 5 rfl rfl)
theorem dJ41_equals_6 : decode cJ41_equals 6 = .ok (.goto 4, 3) := dk_167 0 4 (dk_at dksJ41_equals_0 6 rfl rfl)
theorem dJ41_equals_9 : decode cJ41_equals 9 = .ok (.iconst 0, 1) := dk_3 (dk_at dksJ41_equals_0 9 rfl rfl)
theorem dJ41_equals_10 : decode cJ41_equals 10 = .ok (.ireturn, 1) := dk_172 (dk_at dksJ41_equals_0 10 rfl rfl)
theorem q114 : (Jvm.Cond.instanceMethod ({ cls := "java/lang/Object", name := "<init>", desc := "()V" } : Jvm.MethodName)) ∈ lw_all := lw_g (lw_at lw_m1 59 rfl) rfl
theorem q115 : (Jvm.Cond.code ({ cls := "java/lang/Object", name := "<init>", desc := "()V" } : Jvm.MethodName) object_method_1_code (1 : Nat) (Option.none : Option Jvm.ClassFile.FieldType)) ∈ lw_all := lw_g (lw_at lw_m1 60 rfl) rfl
theorem q216 : (Jvm.Cond.instanceMethod ({ cls := "java/lang/Object", name := "getClass", desc := "()Ljava/lang/Class;" } : Jvm.MethodName)) ∈ lw_all := lw_g (lw_at lw_m1 161 rfl) rfl
theorem q217 : (Jvm.Cond.sameMethod "java/lang/Object" "java/lang/Object" "getClass" "()Ljava/lang/Class;") ∈ lw_all := lw_g (lw_at lw_m1 162 rfl) rfl
theorem q250 : (Jvm.Cond.native ({ cls := "java/lang/Object", name := "getClass", desc := "()Ljava/lang/Class;" } : Jvm.MethodName)) ∈ lw_all := lw_g (lw_at lw_m1 195 rfl) rfl
theorem q557 : (Jvm.Cond.native ({ cls := "java/lang/Object", name := "clone", desc := "()Ljava/lang/Object;" } : Jvm.MethodName)) ∈ lw_all := lw_g (lw_at lw_m3 22 rfl) rfl
theorem q558 : (Jvm.Cond.instanceMethod ({ cls := "java/lang/Object", name := "clone", desc := "()Ljava/lang/Object;" } : Jvm.MethodName)) ∈ lw_all := lw_g (lw_at lw_m3 23 rfl) rfl
theorem q1102 : (Jvm.Cond.declares ({ cls := "java/lang/Object", name := "equals", desc := "(Ljava/lang/Object;)Z" } : Jvm.MethodName)) ∈ lw_tbl := lw_at lw_m5 87 rfl
theorem q1104 : (Jvm.Cond.instanceMethod ({ cls := "java/lang/Object", name := "equals", desc := "(Ljava/lang/Object;)Z" } : Jvm.MethodName)) ∈ lw_all := lw_g (lw_at lw_m5 89 rfl) rfl
theorem q1105 : (Jvm.Cond.sameMethod "java/lang/Object" "java/lang/Object" "equals" "(Ljava/lang/Object;)Z") ∈ lw_all := lw_g (lw_at lw_m5 90 rfl) rfl
theorem q1135 : (Jvm.Cond.code ({ cls := "java/lang/Object", name := "equals", desc := "(Ljava/lang/Object;)Z" } : Jvm.MethodName) object_method_4_code (2 : Nat) (Option.some Jvm.ClassFile.FieldType.boolean)) ∈ lw_all := lw_g (lw_at lw_m5 120 rfl) rfl
theorem q1290 : (Jvm.Cond.declares ({ cls := "java/lang/Object", name := "hashCode", desc := "()I" } : Jvm.MethodName)) ∈ lw_tbl := lw_at lw_m6 35 rfl
theorem q1292 : (Jvm.Cond.instanceMethod ({ cls := "java/lang/Object", name := "hashCode", desc := "()I" } : Jvm.MethodName)) ∈ lw_all := lw_g (lw_at lw_m6 37 rfl) rfl
theorem q1293 : (Jvm.Cond.sameMethod "java/lang/Object" "java/lang/Object" "hashCode" "()I") ∈ lw_all := lw_g (lw_at lw_m6 38 rfl) rfl
theorem q1375 : (Jvm.Cond.native ({ cls := "java/lang/Object", name := "hashCode", desc := "()I" } : Jvm.MethodName)) ∈ lw_all := lw_g (lw_at lw_m6 120 rfl) rfl
theorem q3893 : (Jvm.Cond.initialized "java/lang/Object") ∈ lw_all := lw_g (lw_at lw_m16 238 rfl) rfl
theorem q3934 : (Jvm.Cond.declares ({ cls := "java/lang/Object", name := "getClass", desc := "()Ljava/lang/Class;" } : Jvm.MethodName)) ∈ lw_tbl := lw_at lw_m17 39 rfl

/-! java/lang/System$2 -/
set_option maxRecDepth 100000
def RJ42 : String := "java/lang/System$2"
abbrev cJ42_getUTF16Char : ByteArray := prog_32_method_45_code
def yJ42_getUTF16Char : MethodName := ⟨RJ42, "getUTF16Char", "([BI)C"⟩
def dkwJ42_getUTF16Char_0 : List UInt8 := [43, 28, 184, 0, 185, 172]
abbrev dktJ42_getUTF16Char_0 : List UInt8 := dkwJ42_getUTF16Char_0 ++ []
theorem dksJ42_getUTF16Char_0 : cJ42_getUTF16Char.data.toList.drop 0 = dktJ42_getUTF16Char_0 := by decide +kernel
theorem dJ42_getUTF16Char_0 : decode cJ42_getUTF16Char 0 = .ok (.aload_n 1, 1) := dk_43 (dk_at dksJ42_getUTF16Char_0 0 rfl rfl)
theorem dJ42_getUTF16Char_1 : decode cJ42_getUTF16Char 1 = .ok (.iload_n 2, 1) := dk_28 (dk_at dksJ42_getUTF16Char_0 1 rfl rfl)
theorem dJ42_getUTF16Char_2 : decode cJ42_getUTF16Char 2 = .ok (.invokestatic 185, 3) := dk_184 0 185 (dk_at dksJ42_getUTF16Char_0 2 rfl rfl)
theorem dJ42_getUTF16Char_5 : decode cJ42_getUTF16Char 5 = .ok (.ireturn, 1) := dk_172 (dk_at dksJ42_getUTF16Char_0 5 rfl rfl)
theorem q232 : (Jvm.Cond.selects "java/lang/System$2" ({ cls := "java/lang/Object", name := "getClass", desc := "()Ljava/lang/Class;" } : Jvm.MethodName) ({ cls := "java/lang/Object", name := "getClass", desc := "()Ljava/lang/Class;" } : Jvm.MethodName)) ∈ lw_all := lw_g (lw_at lw_m1 177 rfl) rfl
theorem q1132 : (Jvm.Cond.selects "java/lang/System$2" ({ cls := "java/lang/Object", name := "equals", desc := "(Ljava/lang/Object;)Z" } : Jvm.MethodName) ({ cls := "java/lang/Object", name := "equals", desc := "(Ljava/lang/Object;)Z" } : Jvm.MethodName)) ∈ lw_all := lw_g (lw_at lw_m5 117 rfl) rfl
theorem q1337 : (Jvm.Cond.castable "java/lang/System$2" "jdk/internal/access/JavaLangAccess") ∈ lw_tbl := lw_at lw_m6 82 rfl
theorem q1338 : (Jvm.Cond.selects "java/lang/System$2" ({ cls := "jdk/internal/access/JavaLangAccess", name := "getUTF16Char", desc := "([BI)C" } : Jvm.MethodName) ({ cls := "java/lang/System$2", name := "getUTF16Char", desc := "([BI)C" } : Jvm.MethodName)) ∈ lw_all := lw_g (lw_at lw_m6 83 rfl) rfl
theorem q1339 : (Jvm.Cond.unhidden "java/lang/System$2" "getUTF16Char" "([BI)C") ∈ lw_tbl := lw_at lw_m6 84 rfl
theorem q1340 : (Jvm.Cond.instanceMethod ({ cls := "java/lang/System$2", name := "getUTF16Char", desc := "([BI)C" } : Jvm.MethodName)) ∈ lw_all := lw_g (lw_at lw_m6 85 rfl) rfl
theorem q1341 : (Jvm.Cond.publicMethod ({ cls := "java/lang/System$2", name := "getUTF16Char", desc := "([BI)C" } : Jvm.MethodName)) ∈ lw_tbl := lw_at lw_m6 86 rfl
theorem q1342 : (Jvm.Cond.code ({ cls := "java/lang/System$2", name := "getUTF16Char", desc := "([BI)C" } : Jvm.MethodName) prog_32_method_45_code (3 : Nat) (Option.some Jvm.ClassFile.FieldType.char)) ∈ lw_all := lw_g (lw_at lw_m6 87 rfl) rfl
theorem q1343 : (Jvm.Cond.methodLink "java/lang/System$2" (185 : Nat) ({ cls := "java/lang/StringUTF16", name := "getChar", desc := "([BI)C" } : Jvm.MethodName)) ∈ lw_all := lw_g (lw_at lw_m6 88 rfl) rfl
theorem q1372 : (Jvm.Cond.selects "java/lang/System$2" ({ cls := "java/lang/Object", name := "hashCode", desc := "()I" } : Jvm.MethodName) ({ cls := "java/lang/Object", name := "hashCode", desc := "()I" } : Jvm.MethodName)) ∈ lw_all := lw_g (lw_at lw_m6 117 rfl) rfl
theorem q3922 : (Jvm.Cond.castable "java/lang/System$2" "java/lang/Object") ∈ lw_tbl := lw_at lw_m17 27 rfl
