/-! TwinrowLaw -/
set_option maxRecDepth 100000
def RX0 : String := "TwinrowLaw"
abbrev cX0_lay : ByteArray := method_2_code
def yX0_lay : MethodName := ⟨RX0, "lay", "(LTwinrow;IILTwinrowLaw$Out;)I"⟩
def dkwX0_lay_0 : List UInt8 := [45, 42, 27, 28, 182, 0, 7, 133, 181, 0, 13, 167, 0, 11, 58, 4, 4, 172, 58, 4, 5, 172, 3, 172]
abbrev dktX0_lay_0 : List UInt8 := dkwX0_lay_0 ++ []
theorem dksX0_lay_0 : cX0_lay.data.toList.drop 0 = dktX0_lay_0 := by decide +kernel
theorem dX0_lay_0 : decode cX0_lay 0 = .ok (.aload_n 3, 1) := dk_45 (dk_at dksX0_lay_0 0 rfl rfl)
theorem dX0_lay_1 : decode cX0_lay 1 = .ok (.aload_n 0, 1) := dk_42 (dk_at dksX0_lay_0 1 rfl rfl)
theorem dX0_lay_2 : decode cX0_lay 2 = .ok (.iload_n 1, 1) := dk_27 (dk_at dksX0_lay_0 2 rfl rfl)
theorem dX0_lay_3 : decode cX0_lay 3 = .ok (.iload_n 2, 1) := dk_28 (dk_at dksX0_lay_0 3 rfl rfl)
theorem dX0_lay_4 : decode cX0_lay 4 = .ok (.invokevirtual 7, 3) := dk_182 0 7 (dk_at dksX0_lay_0 4 rfl rfl)
theorem dX0_lay_7 : decode cX0_lay 7 = .ok (.i2l, 1) := dk_133 (dk_at dksX0_lay_0 7 rfl rfl)
theorem dX0_lay_8 : decode cX0_lay 8 = .ok (.putfield 13, 3) := dk_181 0 13 (dk_at dksX0_lay_0 8 rfl rfl)
theorem dX0_lay_11 : decode cX0_lay 11 = .ok (.goto 11, 3) := dk_167 0 11 (dk_at dksX0_lay_0 11 rfl rfl)
theorem dX0_lay_14 : decode cX0_lay 14 = .ok (.astore 4, 2) := dk_58 4 (dk_at dksX0_lay_0 14 rfl rfl)
theorem dX0_lay_16 : decode cX0_lay 16 = .ok (.iconst 1, 1) := dk_4 (dk_at dksX0_lay_0 16 rfl rfl)
theorem dX0_lay_17 : decode cX0_lay 17 = .ok (.ireturn, 1) := dk_172 (dk_at dksX0_lay_0 17 rfl rfl)
theorem dX0_lay_18 : decode cX0_lay 18 = .ok (.astore 4, 2) := dk_58 4 (dk_at dksX0_lay_0 18 rfl rfl)
theorem dX0_lay_20 : decode cX0_lay 20 = .ok (.iconst 2, 1) := dk_5 (dk_at dksX0_lay_0 20 rfl rfl)
theorem dX0_lay_21 : decode cX0_lay 21 = .ok (.ireturn, 1) := dk_172 (dk_at dksX0_lay_0 21 rfl rfl)
theorem dX0_lay_22 : decode cX0_lay 22 = .ok (.iconst 0, 1) := dk_3 (dk_at dksX0_lay_0 22 rfl rfl)
theorem dX0_lay_23 : decode cX0_lay 23 = .ok (.ireturn, 1) := dk_172 (dk_at dksX0_lay_0 23 rfl rfl)
abbrev cX0_put : ByteArray := method_3_code
def yX0_put : MethodName := ⟨RX0, "put", "(LTwinrow;IIILTwinrowLaw$Out;)I"⟩
def dkwX0_put_1 : List UInt8 := [3, 172]
abbrev dktX0_put_1 : List UInt8 := dkwX0_put_1 ++ []
def dkwX0_put_0 : List UInt8 := [25, 4, 42, 27, 28, 29, 182, 0, 23, 133, 181, 0, 13, 167, 0, 11, 58, 5, 4, 172, 58, 5, 5, 172]
abbrev dktX0_put_0 : List UInt8 := dkwX0_put_0 ++ dktX0_put_1
theorem dksX0_put_0 : cX0_put.data.toList.drop 0 = dktX0_put_0 := by decide +kernel
theorem dksX0_put_1 : cX0_put.data.toList.drop 24 = dktX0_put_1 := dk_seg dksX0_put_0 24 rfl rfl
theorem dX0_put_0 : decode cX0_put 0 = .ok (.aload 4, 2) := dk_25 4 (dk_at dksX0_put_0 0 rfl rfl)
theorem dX0_put_2 : decode cX0_put 2 = .ok (.aload_n 0, 1) := dk_42 (dk_at dksX0_put_0 2 rfl rfl)
theorem dX0_put_3 : decode cX0_put 3 = .ok (.iload_n 1, 1) := dk_27 (dk_at dksX0_put_0 3 rfl rfl)
theorem dX0_put_4 : decode cX0_put 4 = .ok (.iload_n 2, 1) := dk_28 (dk_at dksX0_put_0 4 rfl rfl)
theorem dX0_put_5 : decode cX0_put 5 = .ok (.iload_n 3, 1) := dk_29 (dk_at dksX0_put_0 5 rfl rfl)
theorem dX0_put_6 : decode cX0_put 6 = .ok (.invokevirtual 23, 3) := dk_182 0 23 (dk_at dksX0_put_0 6 rfl rfl)
theorem dX0_put_9 : decode cX0_put 9 = .ok (.i2l, 1) := dk_133 (dk_at dksX0_put_0 9 rfl rfl)
theorem dX0_put_10 : decode cX0_put 10 = .ok (.putfield 13, 3) := dk_181 0 13 (dk_at dksX0_put_0 10 rfl rfl)
theorem dX0_put_13 : decode cX0_put 13 = .ok (.goto 11, 3) := dk_167 0 11 (dk_at dksX0_put_0 13 rfl rfl)
theorem dX0_put_16 : decode cX0_put 16 = .ok (.astore 5, 2) := dk_58 5 (dk_at dksX0_put_0 16 rfl rfl)
theorem dX0_put_18 : decode cX0_put 18 = .ok (.iconst 1, 1) := dk_4 (dk_at dksX0_put_0 18 rfl rfl)
theorem dX0_put_19 : decode cX0_put 19 = .ok (.ireturn, 1) := dk_172 (dk_at dksX0_put_0 19 rfl rfl)
theorem dX0_put_20 : decode cX0_put 20 = .ok (.astore 5, 2) := dk_58 5 (dk_at dksX0_put_0 20 rfl rfl)
theorem dX0_put_22 : decode cX0_put 22 = .ok (.iconst 2, 1) := dk_5 (dk_at dksX0_put_0 22 rfl rfl)
theorem dX0_put_23 : decode cX0_put 23 = .ok (.ireturn, 1) := dk_172 (dk_at dksX0_put_0 23 rfl rfl)
theorem dX0_put_24 : decode cX0_put 24 = .ok (.iconst 0, 1) := dk_3 (dk_at dksX0_put_1 0 rfl rfl)
theorem dX0_put_25 : decode cX0_put 25 = .ok (.ireturn, 1) := dk_172 (dk_at dksX0_put_1 1 rfl rfl)
abbrev cX0_at : ByteArray := method_4_code
def yX0_at : MethodName := ⟨RX0, "at", "(LTwinrow;IILTwinrowLaw$Out;)I"⟩
def dkwX0_at_0 : List UInt8 := [45, 42, 27, 28, 182, 0, 27, 133, 181, 0, 13, 167, 0, 7, 58, 4, 4, 172, 3, 172]
abbrev dktX0_at_0 : List UInt8 := dkwX0_at_0 ++ []
theorem dksX0_at_0 : cX0_at.data.toList.drop 0 = dktX0_at_0 := by decide +kernel
theorem dX0_at_0 : decode cX0_at 0 = .ok (.aload_n 3, 1) := dk_45 (dk_at dksX0_at_0 0 rfl rfl)
theorem dX0_at_1 : decode cX0_at 1 = .ok (.aload_n 0, 1) := dk_42 (dk_at dksX0_at_0 1 rfl rfl)
theorem dX0_at_2 : decode cX0_at 2 = .ok (.iload_n 1, 1) := dk_27 (dk_at dksX0_at_0 2 rfl rfl)
theorem dX0_at_3 : decode cX0_at 3 = .ok (.iload_n 2, 1) := dk_28 (dk_at dksX0_at_0 3 rfl rfl)
theorem dX0_at_4 : decode cX0_at 4 = .ok (.invokevirtual 27, 3) := dk_182 0 27 (dk_at dksX0_at_0 4 rfl rfl)
theorem dX0_at_7 : decode cX0_at 7 = .ok (.i2l, 1) := dk_133 (dk_at dksX0_at_0 7 rfl rfl)
theorem dX0_at_8 : decode cX0_at 8 = .ok (.putfield 13, 3) := dk_181 0 13 (dk_at dksX0_at_0 8 rfl rfl)
theorem dX0_at_11 : decode cX0_at 11 = .ok (.goto 7, 3) := dk_167 0 7 (dk_at dksX0_at_0 11 rfl rfl)
theorem dX0_at_14 : decode cX0_at 14 = .ok (.astore 4, 2) := dk_58 4 (dk_at dksX0_at_0 14 rfl rfl)
theorem dX0_at_16 : decode cX0_at 16 = .ok (.iconst 1, 1) := dk_4 (dk_at dksX0_at_0 16 rfl rfl)
theorem dX0_at_17 : decode cX0_at 17 = .ok (.ireturn, 1) := dk_172 (dk_at dksX0_at_0 17 rfl rfl)
theorem dX0_at_18 : decode cX0_at 18 = .ok (.iconst 0, 1) := dk_3 (dk_at dksX0_at_0 18 rfl rfl)
theorem dX0_at_19 : decode cX0_at 19 = .ok (.ireturn, 1) := dk_172 (dk_at dksX0_at_0 19 rfl rfl)
abbrev cX0_part : ByteArray := method_5_code
def yX0_part : MethodName := ⟨RX0, "part", "(LTwinrow;IIIILTwinrowLaw$Out;)I"⟩
def dkwX0_part_1 : List UInt8 := [5, 172, 3, 172]
abbrev dktX0_part_1 : List UInt8 := dkwX0_part_1 ++ []
def dkwX0_part_0 : List UInt8 := [25, 5, 42, 27, 28, 29, 21, 4, 182, 0, 30, 133, 181, 0, 13, 167, 0, 11, 58, 6, 4, 172, 58, 6]
abbrev dktX0_part_0 : List UInt8 := dkwX0_part_0 ++ dktX0_part_1
theorem dksX0_part_0 : cX0_part.data.toList.drop 0 = dktX0_part_0 := by decide +kernel
theorem dksX0_part_1 : cX0_part.data.toList.drop 24 = dktX0_part_1 := dk_seg dksX0_part_0 24 rfl rfl
theorem dX0_part_0 : decode cX0_part 0 = .ok (.aload 5, 2) := dk_25 5 (dk_at dksX0_part_0 0 rfl rfl)
theorem dX0_part_2 : decode cX0_part 2 = .ok (.aload_n 0, 1) := dk_42 (dk_at dksX0_part_0 2 rfl rfl)
theorem dX0_part_3 : decode cX0_part 3 = .ok (.iload_n 1, 1) := dk_27 (dk_at dksX0_part_0 3 rfl rfl)
theorem dX0_part_4 : decode cX0_part 4 = .ok (.iload_n 2, 1) := dk_28 (dk_at dksX0_part_0 4 rfl rfl)
theorem dX0_part_5 : decode cX0_part 5 = .ok (.iload_n 3, 1) := dk_29 (dk_at dksX0_part_0 5 rfl rfl)
theorem dX0_part_6 : decode cX0_part 6 = .ok (.iload 4, 2) := dk_21 4 (dk_at dksX0_part_0 6 rfl rfl)
theorem dX0_part_8 : decode cX0_part 8 = .ok (.invokevirtual 30, 3) := dk_182 0 30 (dk_at dksX0_part_0 8 rfl rfl)
theorem dX0_part_11 : decode cX0_part 11 = .ok (.i2l, 1) := dk_133 (dk_at dksX0_part_0 11 rfl rfl)
theorem dX0_part_12 : decode cX0_part 12 = .ok (.putfield 13, 3) := dk_181 0 13 (dk_at dksX0_part_0 12 rfl rfl)
theorem dX0_part_15 : decode cX0_part 15 = .ok (.goto 11, 3) := dk_167 0 11 (dk_at dksX0_part_0 15 rfl rfl)
theorem dX0_part_18 : decode cX0_part 18 = .ok (.astore 6, 2) := dk_58 6 (dk_at dksX0_part_0 18 rfl rfl)
theorem dX0_part_20 : decode cX0_part 20 = .ok (.iconst 1, 1) := dk_4 (dk_at dksX0_part_0 20 rfl rfl)
theorem dX0_part_21 : decode cX0_part 21 = .ok (.ireturn, 1) := dk_172 (dk_at dksX0_part_0 21 rfl rfl)
theorem dX0_part_22 : decode cX0_part 22 = .ok (.astore 6, 2) := dk_58 6 (dk_at dksX0_part_0 22 rfl rfl)
theorem dX0_part_24 : decode cX0_part 24 = .ok (.iconst 2, 1) := dk_5 (dk_at dksX0_part_1 0 rfl rfl)
theorem dX0_part_25 : decode cX0_part 25 = .ok (.ireturn, 1) := dk_172 (dk_at dksX0_part_1 1 rfl rfl)
theorem dX0_part_26 : decode cX0_part 26 = .ok (.iconst 0, 1) := dk_3 (dk_at dksX0_part_1 2 rfl rfl)
theorem dX0_part_27 : decode cX0_part 27 = .ok (.ireturn, 1) := dk_172 (dk_at dksX0_part_1 3 rfl rfl)
abbrev cX0_set : ByteArray := method_6_code
def yX0_set : MethodName := ⟨RX0, "set", "(LTwinrow;IIILTwinrowLaw$Out;)I"⟩
def dkwX0_set_1 : List UInt8 := [3, 172]
abbrev dktX0_set_1 : List UInt8 := dkwX0_set_1 ++ []
def dkwX0_set_0 : List UInt8 := [25, 4, 42, 27, 28, 29, 182, 0, 34, 133, 181, 0, 13, 167, 0, 11, 58, 5, 4, 172, 58, 5, 5, 172]
abbrev dktX0_set_0 : List UInt8 := dkwX0_set_0 ++ dktX0_set_1
theorem dksX0_set_0 : cX0_set.data.toList.drop 0 = dktX0_set_0 := by decide +kernel
theorem dksX0_set_1 : cX0_set.data.toList.drop 24 = dktX0_set_1 := dk_seg dksX0_set_0 24 rfl rfl
theorem dX0_set_0 : decode cX0_set 0 = .ok (.aload 4, 2) := dk_25 4 (dk_at dksX0_set_0 0 rfl rfl)
theorem dX0_set_2 : decode cX0_set 2 = .ok (.aload_n 0, 1) := dk_42 (dk_at dksX0_set_0 2 rfl rfl)
theorem dX0_set_3 : decode cX0_set 3 = .ok (.iload_n 1, 1) := dk_27 (dk_at dksX0_set_0 3 rfl rfl)
theorem dX0_set_4 : decode cX0_set 4 = .ok (.iload_n 2, 1) := dk_28 (dk_at dksX0_set_0 4 rfl rfl)
theorem dX0_set_5 : decode cX0_set 5 = .ok (.iload_n 3, 1) := dk_29 (dk_at dksX0_set_0 5 rfl rfl)
theorem dX0_set_6 : decode cX0_set 6 = .ok (.invokevirtual 34, 3) := dk_182 0 34 (dk_at dksX0_set_0 6 rfl rfl)
theorem dX0_set_9 : decode cX0_set 9 = .ok (.i2l, 1) := dk_133 (dk_at dksX0_set_0 9 rfl rfl)
theorem dX0_set_10 : decode cX0_set 10 = .ok (.putfield 13, 3) := dk_181 0 13 (dk_at dksX0_set_0 10 rfl rfl)
theorem dX0_set_13 : decode cX0_set 13 = .ok (.goto 11, 3) := dk_167 0 11 (dk_at dksX0_set_0 13 rfl rfl)
theorem dX0_set_16 : decode cX0_set 16 = .ok (.astore 5, 2) := dk_58 5 (dk_at dksX0_set_0 16 rfl rfl)
theorem dX0_set_18 : decode cX0_set 18 = .ok (.iconst 1, 1) := dk_4 (dk_at dksX0_set_0 18 rfl rfl)
theorem dX0_set_19 : decode cX0_set 19 = .ok (.ireturn, 1) := dk_172 (dk_at dksX0_set_0 19 rfl rfl)
theorem dX0_set_20 : decode cX0_set 20 = .ok (.astore 5, 2) := dk_58 5 (dk_at dksX0_set_0 20 rfl rfl)
theorem dX0_set_22 : decode cX0_set 22 = .ok (.iconst 2, 1) := dk_5 (dk_at dksX0_set_0 22 rfl rfl)
theorem dX0_set_23 : decode cX0_set 23 = .ok (.ireturn, 1) := dk_172 (dk_at dksX0_set_0 23 rfl rfl)
theorem dX0_set_24 : decode cX0_set 24 = .ok (.iconst 0, 1) := dk_3 (dk_at dksX0_set_1 0 rfl rfl)
theorem dX0_set_25 : decode cX0_set 25 = .ok (.ireturn, 1) := dk_172 (dk_at dksX0_set_1 1 rfl rfl)
abbrev cX0_get : ByteArray := method_7_code
def yX0_get : MethodName := ⟨RX0, "get", "(LTwinrow;IILTwinrowLaw$Out;)I"⟩
def dkwX0_get_0 : List UInt8 := [45, 42, 27, 28, 182, 0, 37, 133, 181, 0, 13, 167, 0, 7, 58, 4, 4, 172, 3, 172]
abbrev dktX0_get_0 : List UInt8 := dkwX0_get_0 ++ []
theorem dksX0_get_0 : cX0_get.data.toList.drop 0 = dktX0_get_0 := by decide +kernel
theorem dX0_get_0 : decode cX0_get 0 = .ok (.aload_n 3, 1) := dk_45 (dk_at dksX0_get_0 0 rfl rfl)
theorem dX0_get_1 : decode cX0_get 1 = .ok (.aload_n 0, 1) := dk_42 (dk_at dksX0_get_0 1 rfl rfl)
theorem dX0_get_2 : decode cX0_get 2 = .ok (.iload_n 1, 1) := dk_27 (dk_at dksX0_get_0 2 rfl rfl)
theorem dX0_get_3 : decode cX0_get 3 = .ok (.iload_n 2, 1) := dk_28 (dk_at dksX0_get_0 3 rfl rfl)
theorem dX0_get_4 : decode cX0_get 4 = .ok (.invokevirtual 37, 3) := dk_182 0 37 (dk_at dksX0_get_0 4 rfl rfl)
theorem dX0_get_7 : decode cX0_get 7 = .ok (.i2l, 1) := dk_133 (dk_at dksX0_get_0 7 rfl rfl)
theorem dX0_get_8 : decode cX0_get 8 = .ok (.putfield 13, 3) := dk_181 0 13 (dk_at dksX0_get_0 8 rfl rfl)
theorem dX0_get_11 : decode cX0_get 11 = .ok (.goto 7, 3) := dk_167 0 7 (dk_at dksX0_get_0 11 rfl rfl)
theorem dX0_get_14 : decode cX0_get 14 = .ok (.astore 4, 2) := dk_58 4 (dk_at dksX0_get_0 14 rfl rfl)
theorem dX0_get_16 : decode cX0_get 16 = .ok (.iconst 1, 1) := dk_4 (dk_at dksX0_get_0 16 rfl rfl)
theorem dX0_get_17 : decode cX0_get 17 = .ok (.ireturn, 1) := dk_172 (dk_at dksX0_get_0 17 rfl rfl)
theorem dX0_get_18 : decode cX0_get 18 = .ok (.iconst 0, 1) := dk_3 (dk_at dksX0_get_0 18 rfl rfl)
theorem dX0_get_19 : decode cX0_get 19 = .ok (.ireturn, 1) := dk_172 (dk_at dksX0_get_0 19 rfl rfl)
abbrev cX0_length : ByteArray := method_8_code
def yX0_length : MethodName := ⟨RX0, "length", "(LTwinrow;ILTwinrowLaw$Out;)I"⟩
def dkwX0_length_0 : List UInt8 := [44, 42, 27, 182, 0, 40, 133, 181, 0, 13, 167, 0, 6, 78, 4, 172, 3, 172]
abbrev dktX0_length_0 : List UInt8 := dkwX0_length_0 ++ []
theorem dksX0_length_0 : cX0_length.data.toList.drop 0 = dktX0_length_0 := by decide +kernel
theorem dX0_length_0 : decode cX0_length 0 = .ok (.aload_n 2, 1) := dk_44 (dk_at dksX0_length_0 0 rfl rfl)
theorem dX0_length_1 : decode cX0_length 1 = .ok (.aload_n 0, 1) := dk_42 (dk_at dksX0_length_0 1 rfl rfl)
theorem dX0_length_2 : decode cX0_length 2 = .ok (.iload_n 1, 1) := dk_27 (dk_at dksX0_length_0 2 rfl rfl)
theorem dX0_length_3 : decode cX0_length 3 = .ok (.invokevirtual 40, 3) := dk_182 0 40 (dk_at dksX0_length_0 3 rfl rfl)
theorem dX0_length_6 : decode cX0_length 6 = .ok (.i2l, 1) := dk_133 (dk_at dksX0_length_0 6 rfl rfl)
theorem dX0_length_7 : decode cX0_length 7 = .ok (.putfield 13, 3) := dk_181 0 13 (dk_at dksX0_length_0 7 rfl rfl)
theorem dX0_length_10 : decode cX0_length 10 = .ok (.goto 6, 3) := dk_167 0 6 (dk_at dksX0_length_0 10 rfl rfl)
theorem dX0_length_13 : decode cX0_length 13 = .ok (.astore_n 3, 1) := dk_78 (dk_at dksX0_length_0 13 rfl rfl)
theorem dX0_length_14 : decode cX0_length 14 = .ok (.iconst 1, 1) := dk_4 (dk_at dksX0_length_0 14 rfl rfl)
theorem dX0_length_15 : decode cX0_length 15 = .ok (.ireturn, 1) := dk_172 (dk_at dksX0_length_0 15 rfl rfl)
theorem dX0_length_16 : decode cX0_length 16 = .ok (.iconst 0, 1) := dk_3 (dk_at dksX0_length_0 16 rfl rfl)
theorem dX0_length_17 : decode cX0_length 17 = .ok (.ireturn, 1) := dk_172 (dk_at dksX0_length_0 17 rfl rfl)
abbrev cX0_isEmpty : ByteArray := method_9_code
def yX0_isEmpty : MethodName := ⟨RX0, "isEmpty", "(LTwinrow;ILTwinrowLaw$Out;)I"⟩
def dkwX0_isEmpty_1 : List UInt8 := [172]
abbrev dktX0_isEmpty_1 : List UInt8 := dkwX0_isEmpty_1 ++ []
def dkwX0_isEmpty_0 : List UInt8 := [44, 42, 27, 182, 0, 44, 153, 0, 7, 10, 167, 0, 4, 9, 181, 0, 13, 167, 0, 6, 78, 4, 172, 3]
abbrev dktX0_isEmpty_0 : List UInt8 := dkwX0_isEmpty_0 ++ dktX0_isEmpty_1
theorem dksX0_isEmpty_0 : cX0_isEmpty.data.toList.drop 0 = dktX0_isEmpty_0 := by decide +kernel
theorem dksX0_isEmpty_1 : cX0_isEmpty.data.toList.drop 24 = dktX0_isEmpty_1 := dk_seg dksX0_isEmpty_0 24 rfl rfl
theorem dX0_isEmpty_0 : decode cX0_isEmpty 0 = .ok (.aload_n 2, 1) := dk_44 (dk_at dksX0_isEmpty_0 0 rfl rfl)
theorem dX0_isEmpty_1 : decode cX0_isEmpty 1 = .ok (.aload_n 0, 1) := dk_42 (dk_at dksX0_isEmpty_0 1 rfl rfl)
theorem dX0_isEmpty_2 : decode cX0_isEmpty 2 = .ok (.iload_n 1, 1) := dk_27 (dk_at dksX0_isEmpty_0 2 rfl rfl)
theorem dX0_isEmpty_3 : decode cX0_isEmpty 3 = .ok (.invokevirtual 44, 3) := dk_182 0 44 (dk_at dksX0_isEmpty_0 3 rfl rfl)
theorem dX0_isEmpty_6 : decode cX0_isEmpty 6 = .ok (.ifCond .eq 7, 3) := dk_153 0 7 (dk_at dksX0_isEmpty_0 6 rfl rfl)
theorem dX0_isEmpty_9 : decode cX0_isEmpty 9 = .ok (.lconst 1, 1) := dk_10 (dk_at dksX0_isEmpty_0 9 rfl rfl)
theorem dX0_isEmpty_10 : decode cX0_isEmpty 10 = .ok (.goto 4, 3) := dk_167 0 4 (dk_at dksX0_isEmpty_0 10 rfl rfl)
theorem dX0_isEmpty_13 : decode cX0_isEmpty 13 = .ok (.lconst 0, 1) := dk_9 (dk_at dksX0_isEmpty_0 13 rfl rfl)
theorem dX0_isEmpty_14 : decode cX0_isEmpty 14 = .ok (.putfield 13, 3) := dk_181 0 13 (dk_at dksX0_isEmpty_0 14 rfl rfl)
theorem dX0_isEmpty_17 : decode cX0_isEmpty 17 = .ok (.goto 6, 3) := dk_167 0 6 (dk_at dksX0_isEmpty_0 17 rfl rfl)
theorem dX0_isEmpty_20 : decode cX0_isEmpty 20 = .ok (.astore_n 3, 1) := dk_78 (dk_at dksX0_isEmpty_0 20 rfl rfl)
theorem dX0_isEmpty_21 : decode cX0_isEmpty 21 = .ok (.iconst 1, 1) := dk_4 (dk_at dksX0_isEmpty_0 21 rfl rfl)
theorem dX0_isEmpty_22 : decode cX0_isEmpty 22 = .ok (.ireturn, 1) := dk_172 (dk_at dksX0_isEmpty_0 22 rfl rfl)
theorem dX0_isEmpty_23 : decode cX0_isEmpty 23 = .ok (.iconst 0, 1) := dk_3 (dk_at dksX0_isEmpty_0 23 rfl rfl)
theorem dX0_isEmpty_24 : decode cX0_isEmpty 24 = .ok (.ireturn, 1) := dk_172 (dk_at dksX0_isEmpty_1 0 rfl rfl)
abbrev cX0_text : ByteArray := method_10_code
def yX0_text : MethodName := ⟨RX0, "text", "(LTwinrow;ILTwinrowLaw$Out;)I"⟩
def dkwX0_text_0 : List UInt8 := [44, 42, 27, 182, 0, 48, 181, 0, 52, 167, 0, 6, 78, 4, 172, 3, 172]
abbrev dktX0_text_0 : List UInt8 := dkwX0_text_0 ++ []
theorem dksX0_text_0 : cX0_text.data.toList.drop 0 = dktX0_text_0 := by decide +kernel
theorem dX0_text_0 : decode cX0_text 0 = .ok (.aload_n 2, 1) := dk_44 (dk_at dksX0_text_0 0 rfl rfl)
theorem dX0_text_1 : decode cX0_text 1 = .ok (.aload_n 0, 1) := dk_42 (dk_at dksX0_text_0 1 rfl rfl)
theorem dX0_text_2 : decode cX0_text 2 = .ok (.iload_n 1, 1) := dk_27 (dk_at dksX0_text_0 2 rfl rfl)
theorem dX0_text_3 : decode cX0_text 3 = .ok (.invokevirtual 48, 3) := dk_182 0 48 (dk_at dksX0_text_0 3 rfl rfl)
theorem dX0_text_6 : decode cX0_text 6 = .ok (.putfield 52, 3) := dk_181 0 52 (dk_at dksX0_text_0 6 rfl rfl)
theorem dX0_text_9 : decode cX0_text 9 = .ok (.goto 6, 3) := dk_167 0 6 (dk_at dksX0_text_0 9 rfl rfl)
theorem dX0_text_12 : decode cX0_text 12 = .ok (.astore_n 3, 1) := dk_78 (dk_at dksX0_text_0 12 rfl rfl)
theorem dX0_text_13 : decode cX0_text 13 = .ok (.iconst 1, 1) := dk_4 (dk_at dksX0_text_0 13 rfl rfl)
theorem dX0_text_14 : decode cX0_text 14 = .ok (.ireturn, 1) := dk_172 (dk_at dksX0_text_0 14 rfl rfl)
theorem dX0_text_15 : decode cX0_text 15 = .ok (.iconst 0, 1) := dk_3 (dk_at dksX0_text_0 15 rfl rfl)
theorem dX0_text_16 : decode cX0_text 16 = .ok (.ireturn, 1) := dk_172 (dk_at dksX0_text_0 16 rfl rfl)
abbrev cX0_back : ByteArray := method_11_code
def yX0_back : MethodName := ⟨RX0, "back", "(LTwinrow;ILTwinrowLaw$Out;)I"⟩
def dkwX0_back_0 : List UInt8 := [44, 42, 27, 182, 0, 56, 181, 0, 52, 167, 0, 6, 78, 4, 172, 3, 172]
abbrev dktX0_back_0 : List UInt8 := dkwX0_back_0 ++ []
theorem dksX0_back_0 : cX0_back.data.toList.drop 0 = dktX0_back_0 := by decide +kernel
theorem dX0_back_0 : decode cX0_back 0 = .ok (.aload_n 2, 1) := dk_44 (dk_at dksX0_back_0 0 rfl rfl)
theorem dX0_back_1 : decode cX0_back 1 = .ok (.aload_n 0, 1) := dk_42 (dk_at dksX0_back_0 1 rfl rfl)
theorem dX0_back_2 : decode cX0_back 2 = .ok (.iload_n 1, 1) := dk_27 (dk_at dksX0_back_0 2 rfl rfl)
theorem dX0_back_3 : decode cX0_back 3 = .ok (.invokevirtual 56, 3) := dk_182 0 56 (dk_at dksX0_back_0 3 rfl rfl)
theorem dX0_back_6 : decode cX0_back 6 = .ok (.putfield 52, 3) := dk_181 0 52 (dk_at dksX0_back_0 6 rfl rfl)
theorem dX0_back_9 : decode cX0_back 9 = .ok (.goto 6, 3) := dk_167 0 6 (dk_at dksX0_back_0 9 rfl rfl)
theorem dX0_back_12 : decode cX0_back 12 = .ok (.astore_n 3, 1) := dk_78 (dk_at dksX0_back_0 12 rfl rfl)
theorem dX0_back_13 : decode cX0_back 13 = .ok (.iconst 1, 1) := dk_4 (dk_at dksX0_back_0 13 rfl rfl)
theorem dX0_back_14 : decode cX0_back 14 = .ok (.ireturn, 1) := dk_172 (dk_at dksX0_back_0 14 rfl rfl)
theorem dX0_back_15 : decode cX0_back 15 = .ok (.iconst 0, 1) := dk_3 (dk_at dksX0_back_0 15 rfl rfl)
theorem dX0_back_16 : decode cX0_back 16 = .ok (.ireturn, 1) := dk_172 (dk_at dksX0_back_0 16 rfl rfl)
abbrev cX0_indexOf : ByteArray := method_12_code
def yX0_indexOf : MethodName := ⟨RX0, "indexOf", "(LTwinrow;IILTwinrowLaw$Out;)I"⟩
def dkwX0_indexOf_0 : List UInt8 := [45, 42, 27, 28, 182, 0, 59, 133, 181, 0, 13, 167, 0, 11, 58, 4, 4, 172, 58, 4, 5, 172, 3, 172]
abbrev dktX0_indexOf_0 : List UInt8 := dkwX0_indexOf_0 ++ []
theorem dksX0_indexOf_0 : cX0_indexOf.data.toList.drop 0 = dktX0_indexOf_0 := by decide +kernel
theorem dX0_indexOf_0 : decode cX0_indexOf 0 = .ok (.aload_n 3, 1) := dk_45 (dk_at dksX0_indexOf_0 0 rfl rfl)
theorem dX0_indexOf_1 : decode cX0_indexOf 1 = .ok (.aload_n 0, 1) := dk_42 (dk_at dksX0_indexOf_0 1 rfl rfl)
theorem dX0_indexOf_2 : decode cX0_indexOf 2 = .ok (.iload_n 1, 1) := dk_27 (dk_at dksX0_indexOf_0 2 rfl rfl)
theorem dX0_indexOf_3 : decode cX0_indexOf 3 = .ok (.iload_n 2, 1) := dk_28 (dk_at dksX0_indexOf_0 3 rfl rfl)
theorem dX0_indexOf_4 : decode cX0_indexOf 4 = .ok (.invokevirtual 59, 3) := dk_182 0 59 (dk_at dksX0_indexOf_0 4 rfl rfl)
theorem dX0_indexOf_7 : decode cX0_indexOf 7 = .ok (.i2l, 1) := dk_133 (dk_at dksX0_indexOf_0 7 rfl rfl)
theorem dX0_indexOf_8 : decode cX0_indexOf 8 = .ok (.putfield 13, 3) := dk_181 0 13 (dk_at dksX0_indexOf_0 8 rfl rfl)
theorem dX0_indexOf_11 : decode cX0_indexOf 11 = .ok (.goto 11, 3) := dk_167 0 11 (dk_at dksX0_indexOf_0 11 rfl rfl)
theorem dX0_indexOf_14 : decode cX0_indexOf 14 = .ok (.astore 4, 2) := dk_58 4 (dk_at dksX0_indexOf_0 14 rfl rfl)
theorem dX0_indexOf_16 : decode cX0_indexOf 16 = .ok (.iconst 1, 1) := dk_4 (dk_at dksX0_indexOf_0 16 rfl rfl)
theorem dX0_indexOf_17 : decode cX0_indexOf 17 = .ok (.ireturn, 1) := dk_172 (dk_at dksX0_indexOf_0 17 rfl rfl)
theorem dX0_indexOf_18 : decode cX0_indexOf 18 = .ok (.astore 4, 2) := dk_58 4 (dk_at dksX0_indexOf_0 18 rfl rfl)
theorem dX0_indexOf_20 : decode cX0_indexOf 20 = .ok (.iconst 2, 1) := dk_5 (dk_at dksX0_indexOf_0 20 rfl rfl)
theorem dX0_indexOf_21 : decode cX0_indexOf 21 = .ok (.ireturn, 1) := dk_172 (dk_at dksX0_indexOf_0 21 rfl rfl)
theorem dX0_indexOf_22 : decode cX0_indexOf 22 = .ok (.iconst 0, 1) := dk_3 (dk_at dksX0_indexOf_0 22 rfl rfl)
theorem dX0_indexOf_23 : decode cX0_indexOf 23 = .ok (.ireturn, 1) := dk_172 (dk_at dksX0_indexOf_0 23 rfl rfl)
abbrev cX0_lastIndexOf : ByteArray := method_13_code
def yX0_lastIndexOf : MethodName := ⟨RX0, "lastIndexOf", "(LTwinrow;IILTwinrowLaw$Out;)I"⟩
def dkwX0_lastIndexOf_0 : List UInt8 := [45, 42, 27, 28, 182, 0, 62, 133, 181, 0, 13, 167, 0, 11, 58, 4, 4, 172, 58, 4, 5, 172, 3, 172]
abbrev dktX0_lastIndexOf_0 : List UInt8 := dkwX0_lastIndexOf_0 ++ []
theorem dksX0_lastIndexOf_0 : cX0_lastIndexOf.data.toList.drop 0 = dktX0_lastIndexOf_0 := by decide +kernel
theorem dX0_lastIndexOf_0 : decode cX0_lastIndexOf 0 = .ok (.aload_n 3, 1) := dk_45 (dk_at dksX0_lastIndexOf_0 0 rfl rfl)
theorem dX0_lastIndexOf_1 : decode cX0_lastIndexOf 1 = .ok (.aload_n 0, 1) := dk_42 (dk_at dksX0_lastIndexOf_0 1 rfl rfl)
theorem dX0_lastIndexOf_2 : decode cX0_lastIndexOf 2 = .ok (.iload_n 1, 1) := dk_27 (dk_at dksX0_lastIndexOf_0 2 rfl rfl)
theorem dX0_lastIndexOf_3 : decode cX0_lastIndexOf 3 = .ok (.iload_n 2, 1) := dk_28 (dk_at dksX0_lastIndexOf_0 3 rfl rfl)
theorem dX0_lastIndexOf_4 : decode cX0_lastIndexOf 4 = .ok (.invokevirtual 62, 3) := dk_182 0 62 (dk_at dksX0_lastIndexOf_0 4 rfl rfl)
theorem dX0_lastIndexOf_7 : decode cX0_lastIndexOf 7 = .ok (.i2l, 1) := dk_133 (dk_at dksX0_lastIndexOf_0 7 rfl rfl)
theorem dX0_lastIndexOf_8 : decode cX0_lastIndexOf 8 = .ok (.putfield 13, 3) := dk_181 0 13 (dk_at dksX0_lastIndexOf_0 8 rfl rfl)
theorem dX0_lastIndexOf_11 : decode cX0_lastIndexOf 11 = .ok (.goto 11, 3) := dk_167 0 11 (dk_at dksX0_lastIndexOf_0 11 rfl rfl)
theorem dX0_lastIndexOf_14 : decode cX0_lastIndexOf 14 = .ok (.astore 4, 2) := dk_58 4 (dk_at dksX0_lastIndexOf_0 14 rfl rfl)
theorem dX0_lastIndexOf_16 : decode cX0_lastIndexOf 16 = .ok (.iconst 1, 1) := dk_4 (dk_at dksX0_lastIndexOf_0 16 rfl rfl)
theorem dX0_lastIndexOf_17 : decode cX0_lastIndexOf 17 = .ok (.ireturn, 1) := dk_172 (dk_at dksX0_lastIndexOf_0 17 rfl rfl)
theorem dX0_lastIndexOf_18 : decode cX0_lastIndexOf 18 = .ok (.astore 4, 2) := dk_58 4 (dk_at dksX0_lastIndexOf_0 18 rfl rfl)
theorem dX0_lastIndexOf_20 : decode cX0_lastIndexOf 20 = .ok (.iconst 2, 1) := dk_5 (dk_at dksX0_lastIndexOf_0 20 rfl rfl)
theorem dX0_lastIndexOf_21 : decode cX0_lastIndexOf 21 = .ok (.ireturn, 1) := dk_172 (dk_at dksX0_lastIndexOf_0 21 rfl rfl)
theorem dX0_lastIndexOf_22 : decode cX0_lastIndexOf 22 = .ok (.iconst 0, 1) := dk_3 (dk_at dksX0_lastIndexOf_0 22 rfl rfl)
theorem dX0_lastIndexOf_23 : decode cX0_lastIndexOf 23 = .ok (.ireturn, 1) := dk_172 (dk_at dksX0_lastIndexOf_0 23 rfl rfl)
abbrev cX0_has : ByteArray := method_14_code
def yX0_has : MethodName := ⟨RX0, "has", "(LTwinrow;IILTwinrowLaw$Out;)I"⟩
def dkwX0_has_1 : List UInt8 := [172, 58, 4, 5, 172, 3, 172]
abbrev dktX0_has_1 : List UInt8 := dkwX0_has_1 ++ []
def dkwX0_has_0 : List UInt8 := [45, 42, 27, 28, 182, 0, 65, 153, 0, 7, 10, 167, 0, 4, 9, 181, 0, 13, 167, 0, 11, 58, 4, 4]
abbrev dktX0_has_0 : List UInt8 := dkwX0_has_0 ++ dktX0_has_1
theorem dksX0_has_0 : cX0_has.data.toList.drop 0 = dktX0_has_0 := by decide +kernel
theorem dksX0_has_1 : cX0_has.data.toList.drop 24 = dktX0_has_1 := dk_seg dksX0_has_0 24 rfl rfl
theorem dX0_has_0 : decode cX0_has 0 = .ok (.aload_n 3, 1) := dk_45 (dk_at dksX0_has_0 0 rfl rfl)
theorem dX0_has_1 : decode cX0_has 1 = .ok (.aload_n 0, 1) := dk_42 (dk_at dksX0_has_0 1 rfl rfl)
theorem dX0_has_2 : decode cX0_has 2 = .ok (.iload_n 1, 1) := dk_27 (dk_at dksX0_has_0 2 rfl rfl)
theorem dX0_has_3 : decode cX0_has 3 = .ok (.iload_n 2, 1) := dk_28 (dk_at dksX0_has_0 3 rfl rfl)
theorem dX0_has_4 : decode cX0_has 4 = .ok (.invokevirtual 65, 3) := dk_182 0 65 (dk_at dksX0_has_0 4 rfl rfl)
theorem dX0_has_7 : decode cX0_has 7 = .ok (.ifCond .eq 7, 3) := dk_153 0 7 (dk_at dksX0_has_0 7 rfl rfl)
theorem dX0_has_10 : decode cX0_has 10 = .ok (.lconst 1, 1) := dk_10 (dk_at dksX0_has_0 10 rfl rfl)
theorem dX0_has_11 : decode cX0_has 11 = .ok (.goto 4, 3) := dk_167 0 4 (dk_at dksX0_has_0 11 rfl rfl)
theorem dX0_has_14 : decode cX0_has 14 = .ok (.lconst 0, 1) := dk_9 (dk_at dksX0_has_0 14 rfl rfl)
theorem dX0_has_15 : decode cX0_has 15 = .ok (.putfield 13, 3) := dk_181 0 13 (dk_at dksX0_has_0 15 rfl rfl)
theorem dX0_has_18 : decode cX0_has 18 = .ok (.goto 11, 3) := dk_167 0 11 (dk_at dksX0_has_0 18 rfl rfl)
theorem dX0_has_21 : decode cX0_has 21 = .ok (.astore 4, 2) := dk_58 4 (dk_at dksX0_has_0 21 rfl rfl)
theorem dX0_has_23 : decode cX0_has 23 = .ok (.iconst 1, 1) := dk_4 (dk_at dksX0_has_0 23 rfl rfl)
theorem dX0_has_24 : decode cX0_has 24 = .ok (.ireturn, 1) := dk_172 (dk_at dksX0_has_1 0 rfl rfl)
theorem dX0_has_25 : decode cX0_has 25 = .ok (.astore 4, 2) := dk_58 4 (dk_at dksX0_has_1 1 rfl rfl)
theorem dX0_has_27 : decode cX0_has 27 = .ok (.iconst 2, 1) := dk_5 (dk_at dksX0_has_1 3 rfl rfl)
theorem dX0_has_28 : decode cX0_has 28 = .ok (.ireturn, 1) := dk_172 (dk_at dksX0_has_1 4 rfl rfl)
theorem dX0_has_29 : decode cX0_has 29 = .ok (.iconst 0, 1) := dk_3 (dk_at dksX0_has_1 5 rfl rfl)
theorem dX0_has_30 : decode cX0_has 30 = .ok (.ireturn, 1) := dk_172 (dk_at dksX0_has_1 6 rfl rfl)
abbrev cX0_often : ByteArray := method_15_code
def yX0_often : MethodName := ⟨RX0, "often", "(LTwinrow;IILTwinrowLaw$Out;)I"⟩
def dkwX0_often_0 : List UInt8 := [45, 42, 27, 28, 182, 0, 69, 133, 181, 0, 13, 167, 0, 11, 58, 4, 4, 172, 58, 4, 5, 172, 3, 172]
abbrev dktX0_often_0 : List UInt8 := dkwX0_often_0 ++ []
theorem dksX0_often_0 : cX0_often.data.toList.drop 0 = dktX0_often_0 := by decide +kernel
theorem dX0_often_0 : decode cX0_often 0 = .ok (.aload_n 3, 1) := dk_45 (dk_at dksX0_often_0 0 rfl rfl)
theorem dX0_often_1 : decode cX0_often 1 = .ok (.aload_n 0, 1) := dk_42 (dk_at dksX0_often_0 1 rfl rfl)
theorem dX0_often_2 : decode cX0_often 2 = .ok (.iload_n 1, 1) := dk_27 (dk_at dksX0_often_0 2 rfl rfl)
theorem dX0_often_3 : decode cX0_often 3 = .ok (.iload_n 2, 1) := dk_28 (dk_at dksX0_often_0 3 rfl rfl)
theorem dX0_often_4 : decode cX0_often 4 = .ok (.invokevirtual 69, 3) := dk_182 0 69 (dk_at dksX0_often_0 4 rfl rfl)
theorem dX0_often_7 : decode cX0_often 7 = .ok (.i2l, 1) := dk_133 (dk_at dksX0_often_0 7 rfl rfl)
theorem dX0_often_8 : decode cX0_often 8 = .ok (.putfield 13, 3) := dk_181 0 13 (dk_at dksX0_often_0 8 rfl rfl)
theorem dX0_often_11 : decode cX0_often 11 = .ok (.goto 11, 3) := dk_167 0 11 (dk_at dksX0_often_0 11 rfl rfl)
theorem dX0_often_14 : decode cX0_often 14 = .ok (.astore 4, 2) := dk_58 4 (dk_at dksX0_often_0 14 rfl rfl)
theorem dX0_often_16 : decode cX0_often 16 = .ok (.iconst 1, 1) := dk_4 (dk_at dksX0_often_0 16 rfl rfl)
theorem dX0_often_17 : decode cX0_often 17 = .ok (.ireturn, 1) := dk_172 (dk_at dksX0_often_0 17 rfl rfl)
theorem dX0_often_18 : decode cX0_often 18 = .ok (.astore 4, 2) := dk_58 4 (dk_at dksX0_often_0 18 rfl rfl)
theorem dX0_often_20 : decode cX0_often 20 = .ok (.iconst 2, 1) := dk_5 (dk_at dksX0_often_0 20 rfl rfl)
theorem dX0_often_21 : decode cX0_often 21 = .ok (.ireturn, 1) := dk_172 (dk_at dksX0_often_0 21 rfl rfl)
theorem dX0_often_22 : decode cX0_often 22 = .ok (.iconst 0, 1) := dk_3 (dk_at dksX0_often_0 22 rfl rfl)
theorem dX0_often_23 : decode cX0_often 23 = .ok (.ireturn, 1) := dk_172 (dk_at dksX0_often_0 23 rfl rfl)
abbrev cX0_hasAll : ByteArray := method_16_code
def yX0_hasAll : MethodName := ⟨RX0, "hasAll", "(LTwinrow;IILTwinrowLaw$Out;)I"⟩
def dkwX0_hasAll_1 : List UInt8 := [172, 3, 172]
abbrev dktX0_hasAll_1 : List UInt8 := dkwX0_hasAll_1 ++ []
def dkwX0_hasAll_0 : List UInt8 := [45, 42, 27, 28, 182, 0, 72, 153, 0, 7, 10, 167, 0, 4, 9, 181, 0, 13, 167, 0, 7, 58, 4, 4]
abbrev dktX0_hasAll_0 : List UInt8 := dkwX0_hasAll_0 ++ dktX0_hasAll_1
theorem dksX0_hasAll_0 : cX0_hasAll.data.toList.drop 0 = dktX0_hasAll_0 := by decide +kernel
theorem dksX0_hasAll_1 : cX0_hasAll.data.toList.drop 24 = dktX0_hasAll_1 := dk_seg dksX0_hasAll_0 24 rfl rfl
theorem dX0_hasAll_0 : decode cX0_hasAll 0 = .ok (.aload_n 3, 1) := dk_45 (dk_at dksX0_hasAll_0 0 rfl rfl)
theorem dX0_hasAll_1 : decode cX0_hasAll 1 = .ok (.aload_n 0, 1) := dk_42 (dk_at dksX0_hasAll_0 1 rfl rfl)
theorem dX0_hasAll_2 : decode cX0_hasAll 2 = .ok (.iload_n 1, 1) := dk_27 (dk_at dksX0_hasAll_0 2 rfl rfl)
theorem dX0_hasAll_3 : decode cX0_hasAll 3 = .ok (.iload_n 2, 1) := dk_28 (dk_at dksX0_hasAll_0 3 rfl rfl)
theorem dX0_hasAll_4 : decode cX0_hasAll 4 = .ok (.invokevirtual 72, 3) := dk_182 0 72 (dk_at dksX0_hasAll_0 4 rfl rfl)
theorem dX0_hasAll_7 : decode cX0_hasAll 7 = .ok (.ifCond .eq 7, 3) := dk_153 0 7 (dk_at dksX0_hasAll_0 7 rfl rfl)
theorem dX0_hasAll_10 : decode cX0_hasAll 10 = .ok (.lconst 1, 1) := dk_10 (dk_at dksX0_hasAll_0 10 rfl rfl)
theorem dX0_hasAll_11 : decode cX0_hasAll 11 = .ok (.goto 4, 3) := dk_167 0 4 (dk_at dksX0_hasAll_0 11 rfl rfl)
theorem dX0_hasAll_14 : decode cX0_hasAll 14 = .ok (.lconst 0, 1) := dk_9 (dk_at dksX0_hasAll_0 14 rfl rfl)
theorem dX0_hasAll_15 : decode cX0_hasAll 15 = .ok (.putfield 13, 3) := dk_181 0 13 (dk_at dksX0_hasAll_0 15 rfl rfl)
theorem dX0_hasAll_18 : decode cX0_hasAll 18 = .ok (.goto 7, 3) := dk_167 0 7 (dk_at dksX0_hasAll_0 18 rfl rfl)
theorem dX0_hasAll_21 : decode cX0_hasAll 21 = .ok (.astore 4, 2) := dk_58 4 (dk_at dksX0_hasAll_0 21 rfl rfl)
theorem dX0_hasAll_23 : decode cX0_hasAll 23 = .ok (.iconst 1, 1) := dk_4 (dk_at dksX0_hasAll_0 23 rfl rfl)
theorem dX0_hasAll_24 : decode cX0_hasAll 24 = .ok (.ireturn, 1) := dk_172 (dk_at dksX0_hasAll_1 0 rfl rfl)
theorem dX0_hasAll_25 : decode cX0_hasAll 25 = .ok (.iconst 0, 1) := dk_3 (dk_at dksX0_hasAll_1 1 rfl rfl)
theorem dX0_hasAll_26 : decode cX0_hasAll 26 = .ok (.ireturn, 1) := dk_172 (dk_at dksX0_hasAll_1 2 rfl rfl)
abbrev cX0_areApart : ByteArray := method_17_code
def yX0_areApart : MethodName := ⟨RX0, "areApart", "(LTwinrow;IILTwinrowLaw$Out;)I"⟩
def dkwX0_areApart_1 : List UInt8 := [172, 3, 172]
abbrev dktX0_areApart_1 : List UInt8 := dkwX0_areApart_1 ++ []
def dkwX0_areApart_0 : List UInt8 := [45, 42, 27, 28, 182, 0, 75, 153, 0, 7, 10, 167, 0, 4, 9, 181, 0, 13, 167, 0, 7, 58, 4, 4]
abbrev dktX0_areApart_0 : List UInt8 := dkwX0_areApart_0 ++ dktX0_areApart_1
theorem dksX0_areApart_0 : cX0_areApart.data.toList.drop 0 = dktX0_areApart_0 := by decide +kernel
theorem dksX0_areApart_1 : cX0_areApart.data.toList.drop 24 = dktX0_areApart_1 := dk_seg dksX0_areApart_0 24 rfl rfl
theorem dX0_areApart_0 : decode cX0_areApart 0 = .ok (.aload_n 3, 1) := dk_45 (dk_at dksX0_areApart_0 0 rfl rfl)
theorem dX0_areApart_1 : decode cX0_areApart 1 = .ok (.aload_n 0, 1) := dk_42 (dk_at dksX0_areApart_0 1 rfl rfl)
theorem dX0_areApart_2 : decode cX0_areApart 2 = .ok (.iload_n 1, 1) := dk_27 (dk_at dksX0_areApart_0 2 rfl rfl)
theorem dX0_areApart_3 : decode cX0_areApart 3 = .ok (.iload_n 2, 1) := dk_28 (dk_at dksX0_areApart_0 3 rfl rfl)
theorem dX0_areApart_4 : decode cX0_areApart 4 = .ok (.invokevirtual 75, 3) := dk_182 0 75 (dk_at dksX0_areApart_0 4 rfl rfl)
theorem dX0_areApart_7 : decode cX0_areApart 7 = .ok (.ifCond .eq 7, 3) := dk_153 0 7 (dk_at dksX0_areApart_0 7 rfl rfl)
theorem dX0_areApart_10 : decode cX0_areApart 10 = .ok (.lconst 1, 1) := dk_10 (dk_at dksX0_areApart_0 10 rfl rfl)
theorem dX0_areApart_11 : decode cX0_areApart 11 = .ok (.goto 4, 3) := dk_167 0 4 (dk_at dksX0_areApart_0 11 rfl rfl)
theorem dX0_areApart_14 : decode cX0_areApart 14 = .ok (.lconst 0, 1) := dk_9 (dk_at dksX0_areApart_0 14 rfl rfl)
theorem dX0_areApart_15 : decode cX0_areApart 15 = .ok (.putfield 13, 3) := dk_181 0 13 (dk_at dksX0_areApart_0 15 rfl rfl)
theorem dX0_areApart_18 : decode cX0_areApart 18 = .ok (.goto 7, 3) := dk_167 0 7 (dk_at dksX0_areApart_0 18 rfl rfl)
theorem dX0_areApart_21 : decode cX0_areApart 21 = .ok (.astore 4, 2) := dk_58 4 (dk_at dksX0_areApart_0 21 rfl rfl)
theorem dX0_areApart_23 : decode cX0_areApart 23 = .ok (.iconst 1, 1) := dk_4 (dk_at dksX0_areApart_0 23 rfl rfl)
theorem dX0_areApart_24 : decode cX0_areApart 24 = .ok (.ireturn, 1) := dk_172 (dk_at dksX0_areApart_1 0 rfl rfl)
theorem dX0_areApart_25 : decode cX0_areApart 25 = .ok (.iconst 0, 1) := dk_3 (dk_at dksX0_areApart_1 1 rfl rfl)
theorem dX0_areApart_26 : decode cX0_areApart 26 = .ok (.ireturn, 1) := dk_172 (dk_at dksX0_areApart_1 2 rfl rfl)
abbrev cX0_indexOfAll : ByteArray := method_18_code
def yX0_indexOfAll : MethodName := ⟨RX0, "indexOfAll", "(LTwinrow;IILTwinrowLaw$Out;)I"⟩
def dkwX0_indexOfAll_0 : List UInt8 := [45, 42, 27, 28, 182, 0, 78, 133, 181, 0, 13, 167, 0, 7, 58, 4, 4, 172, 3, 172]
abbrev dktX0_indexOfAll_0 : List UInt8 := dkwX0_indexOfAll_0 ++ []
theorem dksX0_indexOfAll_0 : cX0_indexOfAll.data.toList.drop 0 = dktX0_indexOfAll_0 := by decide +kernel
theorem dX0_indexOfAll_0 : decode cX0_indexOfAll 0 = .ok (.aload_n 3, 1) := dk_45 (dk_at dksX0_indexOfAll_0 0 rfl rfl)
theorem dX0_indexOfAll_1 : decode cX0_indexOfAll 1 = .ok (.aload_n 0, 1) := dk_42 (dk_at dksX0_indexOfAll_0 1 rfl rfl)
theorem dX0_indexOfAll_2 : decode cX0_indexOfAll 2 = .ok (.iload_n 1, 1) := dk_27 (dk_at dksX0_indexOfAll_0 2 rfl rfl)
theorem dX0_indexOfAll_3 : decode cX0_indexOfAll 3 = .ok (.iload_n 2, 1) := dk_28 (dk_at dksX0_indexOfAll_0 3 rfl rfl)
theorem dX0_indexOfAll_4 : decode cX0_indexOfAll 4 = .ok (.invokevirtual 78, 3) := dk_182 0 78 (dk_at dksX0_indexOfAll_0 4 rfl rfl)
theorem dX0_indexOfAll_7 : decode cX0_indexOfAll 7 = .ok (.i2l, 1) := dk_133 (dk_at dksX0_indexOfAll_0 7 rfl rfl)
theorem dX0_indexOfAll_8 : decode cX0_indexOfAll 8 = .ok (.putfield 13, 3) := dk_181 0 13 (dk_at dksX0_indexOfAll_0 8 rfl rfl)
theorem dX0_indexOfAll_11 : decode cX0_indexOfAll 11 = .ok (.goto 7, 3) := dk_167 0 7 (dk_at dksX0_indexOfAll_0 11 rfl rfl)
theorem dX0_indexOfAll_14 : decode cX0_indexOfAll 14 = .ok (.astore 4, 2) := dk_58 4 (dk_at dksX0_indexOfAll_0 14 rfl rfl)
theorem dX0_indexOfAll_16 : decode cX0_indexOfAll 16 = .ok (.iconst 1, 1) := dk_4 (dk_at dksX0_indexOfAll_0 16 rfl rfl)
theorem dX0_indexOfAll_17 : decode cX0_indexOfAll 17 = .ok (.ireturn, 1) := dk_172 (dk_at dksX0_indexOfAll_0 17 rfl rfl)
theorem dX0_indexOfAll_18 : decode cX0_indexOfAll 18 = .ok (.iconst 0, 1) := dk_3 (dk_at dksX0_indexOfAll_0 18 rfl rfl)
theorem dX0_indexOfAll_19 : decode cX0_indexOfAll 19 = .ok (.ireturn, 1) := dk_172 (dk_at dksX0_indexOfAll_0 19 rfl rfl)
abbrev cX0_areEqual : ByteArray := method_19_code
def yX0_areEqual : MethodName := ⟨RX0, "areEqual", "(LTwinrow;IILTwinrowLaw$Out;)I"⟩
def dkwX0_areEqual_1 : List UInt8 := [172, 3, 172]
abbrev dktX0_areEqual_1 : List UInt8 := dkwX0_areEqual_1 ++ []
def dkwX0_areEqual_0 : List UInt8 := [45, 42, 27, 28, 182, 0, 81, 153, 0, 7, 10, 167, 0, 4, 9, 181, 0, 13, 167, 0, 7, 58, 4, 4]
abbrev dktX0_areEqual_0 : List UInt8 := dkwX0_areEqual_0 ++ dktX0_areEqual_1
theorem dksX0_areEqual_0 : cX0_areEqual.data.toList.drop 0 = dktX0_areEqual_0 := by decide +kernel
theorem dksX0_areEqual_1 : cX0_areEqual.data.toList.drop 24 = dktX0_areEqual_1 := dk_seg dksX0_areEqual_0 24 rfl rfl
theorem dX0_areEqual_0 : decode cX0_areEqual 0 = .ok (.aload_n 3, 1) := dk_45 (dk_at dksX0_areEqual_0 0 rfl rfl)
theorem dX0_areEqual_1 : decode cX0_areEqual 1 = .ok (.aload_n 0, 1) := dk_42 (dk_at dksX0_areEqual_0 1 rfl rfl)
theorem dX0_areEqual_2 : decode cX0_areEqual 2 = .ok (.iload_n 1, 1) := dk_27 (dk_at dksX0_areEqual_0 2 rfl rfl)
theorem dX0_areEqual_3 : decode cX0_areEqual 3 = .ok (.iload_n 2, 1) := dk_28 (dk_at dksX0_areEqual_0 3 rfl rfl)
theorem dX0_areEqual_4 : decode cX0_areEqual 4 = .ok (.invokevirtual 81, 3) := dk_182 0 81 (dk_at dksX0_areEqual_0 4 rfl rfl)
theorem dX0_areEqual_7 : decode cX0_areEqual 7 = .ok (.ifCond .eq 7, 3) := dk_153 0 7 (dk_at dksX0_areEqual_0 7 rfl rfl)
theorem dX0_areEqual_10 : decode cX0_areEqual 10 = .ok (.lconst 1, 1) := dk_10 (dk_at dksX0_areEqual_0 10 rfl rfl)
theorem dX0_areEqual_11 : decode cX0_areEqual 11 = .ok (.goto 4, 3) := dk_167 0 4 (dk_at dksX0_areEqual_0 11 rfl rfl)
theorem dX0_areEqual_14 : decode cX0_areEqual 14 = .ok (.lconst 0, 1) := dk_9 (dk_at dksX0_areEqual_0 14 rfl rfl)
theorem dX0_areEqual_15 : decode cX0_areEqual 15 = .ok (.putfield 13, 3) := dk_181 0 13 (dk_at dksX0_areEqual_0 15 rfl rfl)
theorem dX0_areEqual_18 : decode cX0_areEqual 18 = .ok (.goto 7, 3) := dk_167 0 7 (dk_at dksX0_areEqual_0 18 rfl rfl)
theorem dX0_areEqual_21 : decode cX0_areEqual 21 = .ok (.astore 4, 2) := dk_58 4 (dk_at dksX0_areEqual_0 21 rfl rfl)
theorem dX0_areEqual_23 : decode cX0_areEqual 23 = .ok (.iconst 1, 1) := dk_4 (dk_at dksX0_areEqual_0 23 rfl rfl)
theorem dX0_areEqual_24 : decode cX0_areEqual 24 = .ok (.ireturn, 1) := dk_172 (dk_at dksX0_areEqual_1 0 rfl rfl)
theorem dX0_areEqual_25 : decode cX0_areEqual 25 = .ok (.iconst 0, 1) := dk_3 (dk_at dksX0_areEqual_1 1 rfl rfl)
theorem dX0_areEqual_26 : decode cX0_areEqual 26 = .ok (.ireturn, 1) := dk_172 (dk_at dksX0_areEqual_1 2 rfl rfl)
abbrev cX0_code : ByteArray := method_20_code
def yX0_code : MethodName := ⟨RX0, "code", "(LTwinrow;ILTwinrowLaw$Out;)I"⟩
def dkwX0_code_0 : List UInt8 := [44, 42, 27, 182, 0, 84, 133, 181, 0, 13, 167, 0, 6, 78, 4, 172, 3, 172]
abbrev dktX0_code_0 : List UInt8 := dkwX0_code_0 ++ []
theorem dksX0_code_0 : cX0_code.data.toList.drop 0 = dktX0_code_0 := by decide +kernel
theorem dX0_code_0 : decode cX0_code 0 = .ok (.aload_n 2, 1) := dk_44 (dk_at dksX0_code_0 0 rfl rfl)
theorem dX0_code_1 : decode cX0_code 1 = .ok (.aload_n 0, 1) := dk_42 (dk_at dksX0_code_0 1 rfl rfl)
theorem dX0_code_2 : decode cX0_code 2 = .ok (.iload_n 1, 1) := dk_27 (dk_at dksX0_code_0 2 rfl rfl)
theorem dX0_code_3 : decode cX0_code 3 = .ok (.invokevirtual 84, 3) := dk_182 0 84 (dk_at dksX0_code_0 3 rfl rfl)
theorem dX0_code_6 : decode cX0_code 6 = .ok (.i2l, 1) := dk_133 (dk_at dksX0_code_0 6 rfl rfl)
theorem dX0_code_7 : decode cX0_code 7 = .ok (.putfield 13, 3) := dk_181 0 13 (dk_at dksX0_code_0 7 rfl rfl)
theorem dX0_code_10 : decode cX0_code 10 = .ok (.goto 6, 3) := dk_167 0 6 (dk_at dksX0_code_0 10 rfl rfl)
theorem dX0_code_13 : decode cX0_code 13 = .ok (.astore_n 3, 1) := dk_78 (dk_at dksX0_code_0 13 rfl rfl)
theorem dX0_code_14 : decode cX0_code 14 = .ok (.iconst 1, 1) := dk_4 (dk_at dksX0_code_0 14 rfl rfl)
theorem dX0_code_15 : decode cX0_code 15 = .ok (.ireturn, 1) := dk_172 (dk_at dksX0_code_0 15 rfl rfl)
theorem dX0_code_16 : decode cX0_code 16 = .ok (.iconst 0, 1) := dk_3 (dk_at dksX0_code_0 16 rfl rfl)
theorem dX0_code_17 : decode cX0_code 17 = .ok (.ireturn, 1) := dk_172 (dk_at dksX0_code_0 17 rfl rfl)
abbrev cX0_walk : ByteArray := method_21_code
def yX0_walk : MethodName := ⟨RX0, "walk", "(LTwinrow;IIIZLTwinrowLaw$Out;)I"⟩
def dkwX0_walk_1 : List UInt8 := [172, 3, 172]
abbrev dktX0_walk_1 : List UInt8 := dkwX0_walk_1 ++ []
def dkwX0_walk_0 : List UInt8 := [25, 5, 42, 27, 28, 29, 21, 4, 182, 0, 87, 181, 0, 52, 167, 0, 11, 58, 6, 4, 172, 58, 6, 5]
abbrev dktX0_walk_0 : List UInt8 := dkwX0_walk_0 ++ dktX0_walk_1
theorem dksX0_walk_0 : cX0_walk.data.toList.drop 0 = dktX0_walk_0 := by decide +kernel
theorem dksX0_walk_1 : cX0_walk.data.toList.drop 24 = dktX0_walk_1 := dk_seg dksX0_walk_0 24 rfl rfl
theorem dX0_walk_0 : decode cX0_walk 0 = .ok (.aload 5, 2) := dk_25 5 (dk_at dksX0_walk_0 0 rfl rfl)
theorem dX0_walk_2 : decode cX0_walk 2 = .ok (.aload_n 0, 1) := dk_42 (dk_at dksX0_walk_0 2 rfl rfl)
theorem dX0_walk_3 : decode cX0_walk 3 = .ok (.iload_n 1, 1) := dk_27 (dk_at dksX0_walk_0 3 rfl rfl)
theorem dX0_walk_4 : decode cX0_walk 4 = .ok (.iload_n 2, 1) := dk_28 (dk_at dksX0_walk_0 4 rfl rfl)
theorem dX0_walk_5 : decode cX0_walk 5 = .ok (.iload_n 3, 1) := dk_29 (dk_at dksX0_walk_0 5 rfl rfl)
theorem dX0_walk_6 : decode cX0_walk 6 = .ok (.iload 4, 2) := dk_21 4 (dk_at dksX0_walk_0 6 rfl rfl)
theorem dX0_walk_8 : decode cX0_walk 8 = .ok (.invokevirtual 87, 3) := dk_182 0 87 (dk_at dksX0_walk_0 8 rfl rfl)
theorem dX0_walk_11 : decode cX0_walk 11 = .ok (.putfield 52, 3) := dk_181 0 52 (dk_at dksX0_walk_0 11 rfl rfl)
theorem dX0_walk_14 : decode cX0_walk 14 = .ok (.goto 11, 3) := dk_167 0 11 (dk_at dksX0_walk_0 14 rfl rfl)
theorem dX0_walk_17 : decode cX0_walk 17 = .ok (.astore 6, 2) := dk_58 6 (dk_at dksX0_walk_0 17 rfl rfl)
theorem dX0_walk_19 : decode cX0_walk 19 = .ok (.iconst 1, 1) := dk_4 (dk_at dksX0_walk_0 19 rfl rfl)
theorem dX0_walk_20 : decode cX0_walk 20 = .ok (.ireturn, 1) := dk_172 (dk_at dksX0_walk_0 20 rfl rfl)
theorem dX0_walk_21 : decode cX0_walk 21 = .ok (.astore 6, 2) := dk_58 6 (dk_at dksX0_walk_0 21 rfl rfl)
theorem dX0_walk_23 : decode cX0_walk 23 = .ok (.iconst 2, 1) := dk_5 (dk_at dksX0_walk_0 23 rfl rfl)
theorem dX0_walk_24 : decode cX0_walk 24 = .ok (.ireturn, 1) := dk_172 (dk_at dksX0_walk_1 0 rfl rfl)
theorem dX0_walk_25 : decode cX0_walk 25 = .ok (.iconst 0, 1) := dk_3 (dk_at dksX0_walk_1 1 rfl rfl)
theorem dX0_walk_26 : decode cX0_walk 26 = .ok (.ireturn, 1) := dk_172 (dk_at dksX0_walk_1 2 rfl rfl)
abbrev cX0_sum : ByteArray := method_22_code
def yX0_sum : MethodName := ⟨RX0, "sum", "(LTwinrow;ILTwinrowLaw$Out;)I"⟩
def dkwX0_sum_0 : List UInt8 := [44, 42, 27, 182, 0, 91, 133, 181, 0, 13, 167, 0, 6, 78, 4, 172, 3, 172]
abbrev dktX0_sum_0 : List UInt8 := dkwX0_sum_0 ++ []
theorem dksX0_sum_0 : cX0_sum.data.toList.drop 0 = dktX0_sum_0 := by decide +kernel
theorem dX0_sum_0 : decode cX0_sum 0 = .ok (.aload_n 2, 1) := dk_44 (dk_at dksX0_sum_0 0 rfl rfl)
theorem dX0_sum_1 : decode cX0_sum 1 = .ok (.aload_n 0, 1) := dk_42 (dk_at dksX0_sum_0 1 rfl rfl)
theorem dX0_sum_2 : decode cX0_sum 2 = .ok (.iload_n 1, 1) := dk_27 (dk_at dksX0_sum_0 2 rfl rfl)
theorem dX0_sum_3 : decode cX0_sum 3 = .ok (.invokevirtual 91, 3) := dk_182 0 91 (dk_at dksX0_sum_0 3 rfl rfl)
theorem dX0_sum_6 : decode cX0_sum 6 = .ok (.i2l, 1) := dk_133 (dk_at dksX0_sum_0 6 rfl rfl)
theorem dX0_sum_7 : decode cX0_sum 7 = .ok (.putfield 13, 3) := dk_181 0 13 (dk_at dksX0_sum_0 7 rfl rfl)
theorem dX0_sum_10 : decode cX0_sum 10 = .ok (.goto 6, 3) := dk_167 0 6 (dk_at dksX0_sum_0 10 rfl rfl)
theorem dX0_sum_13 : decode cX0_sum 13 = .ok (.astore_n 3, 1) := dk_78 (dk_at dksX0_sum_0 13 rfl rfl)
theorem dX0_sum_14 : decode cX0_sum 14 = .ok (.iconst 1, 1) := dk_4 (dk_at dksX0_sum_0 14 rfl rfl)
theorem dX0_sum_15 : decode cX0_sum 15 = .ok (.ireturn, 1) := dk_172 (dk_at dksX0_sum_0 15 rfl rfl)
theorem dX0_sum_16 : decode cX0_sum 16 = .ok (.iconst 0, 1) := dk_3 (dk_at dksX0_sum_0 16 rfl rfl)
theorem dX0_sum_17 : decode cX0_sum 17 = .ok (.ireturn, 1) := dk_172 (dk_at dksX0_sum_0 17 rfl rfl)
abbrev cX0_walkSet : ByteArray := method_23_code
def yX0_walkSet : MethodName := ⟨RX0, "walkSet", "(LTwinrow;IIIIZLTwinrowLaw$Out;)I"⟩
def dkwX0_walkSet_1 : List UInt8 := [58, 7, 5, 172, 3, 172]
abbrev dktX0_walkSet_1 : List UInt8 := dkwX0_walkSet_1 ++ []
def dkwX0_walkSet_0 : List UInt8 := [25, 6, 42, 27, 28, 29, 21, 4, 21, 5, 182, 0, 94, 133, 181, 0, 13, 167, 0, 11, 58, 7, 4, 172]
abbrev dktX0_walkSet_0 : List UInt8 := dkwX0_walkSet_0 ++ dktX0_walkSet_1
theorem dksX0_walkSet_0 : cX0_walkSet.data.toList.drop 0 = dktX0_walkSet_0 := by decide +kernel
theorem dksX0_walkSet_1 : cX0_walkSet.data.toList.drop 24 = dktX0_walkSet_1 := dk_seg dksX0_walkSet_0 24 rfl rfl
theorem dX0_walkSet_0 : decode cX0_walkSet 0 = .ok (.aload 6, 2) := dk_25 6 (dk_at dksX0_walkSet_0 0 rfl rfl)
theorem dX0_walkSet_2 : decode cX0_walkSet 2 = .ok (.aload_n 0, 1) := dk_42 (dk_at dksX0_walkSet_0 2 rfl rfl)
theorem dX0_walkSet_3 : decode cX0_walkSet 3 = .ok (.iload_n 1, 1) := dk_27 (dk_at dksX0_walkSet_0 3 rfl rfl)
theorem dX0_walkSet_4 : decode cX0_walkSet 4 = .ok (.iload_n 2, 1) := dk_28 (dk_at dksX0_walkSet_0 4 rfl rfl)
theorem dX0_walkSet_5 : decode cX0_walkSet 5 = .ok (.iload_n 3, 1) := dk_29 (dk_at dksX0_walkSet_0 5 rfl rfl)
theorem dX0_walkSet_6 : decode cX0_walkSet 6 = .ok (.iload 4, 2) := dk_21 4 (dk_at dksX0_walkSet_0 6 rfl rfl)
theorem dX0_walkSet_8 : decode cX0_walkSet 8 = .ok (.iload 5, 2) := dk_21 5 (dk_at dksX0_walkSet_0 8 rfl rfl)
theorem dX0_walkSet_10 : decode cX0_walkSet 10 = .ok (.invokevirtual 94, 3) := dk_182 0 94 (dk_at dksX0_walkSet_0 10 rfl rfl)
theorem dX0_walkSet_13 : decode cX0_walkSet 13 = .ok (.i2l, 1) := dk_133 (dk_at dksX0_walkSet_0 13 rfl rfl)
theorem dX0_walkSet_14 : decode cX0_walkSet 14 = .ok (.putfield 13, 3) := dk_181 0 13 (dk_at dksX0_walkSet_0 14 rfl rfl)
theorem dX0_walkSet_17 : decode cX0_walkSet 17 = .ok (.goto 11, 3) := dk_167 0 11 (dk_at dksX0_walkSet_0 17 rfl rfl)
theorem dX0_walkSet_20 : decode cX0_walkSet 20 = .ok (.astore 7, 2) := dk_58 7 (dk_at dksX0_walkSet_0 20 rfl rfl)
theorem dX0_walkSet_22 : decode cX0_walkSet 22 = .ok (.iconst 1, 1) := dk_4 (dk_at dksX0_walkSet_0 22 rfl rfl)
theorem dX0_walkSet_23 : decode cX0_walkSet 23 = .ok (.ireturn, 1) := dk_172 (dk_at dksX0_walkSet_0 23 rfl rfl)
theorem dX0_walkSet_24 : decode cX0_walkSet 24 = .ok (.astore 7, 2) := dk_58 7 (dk_at dksX0_walkSet_1 0 rfl rfl)
theorem dX0_walkSet_26 : decode cX0_walkSet 26 = .ok (.iconst 2, 1) := dk_5 (dk_at dksX0_walkSet_1 2 rfl rfl)
theorem dX0_walkSet_27 : decode cX0_walkSet 27 = .ok (.ireturn, 1) := dk_172 (dk_at dksX0_walkSet_1 3 rfl rfl)
theorem dX0_walkSet_28 : decode cX0_walkSet 28 = .ok (.iconst 0, 1) := dk_3 (dk_at dksX0_walkSet_1 4 rfl rfl)
theorem dX0_walkSet_29 : decode cX0_walkSet 29 = .ok (.ireturn, 1) := dk_172 (dk_at dksX0_walkSet_1 5 rfl rfl)
abbrev cX0_replaceAll : ByteArray := method_24_code
def yX0_replaceAll : MethodName := ⟨RX0, "replaceAll", "(LTwinrow;IIILTwinrowLaw$Out;)I"⟩
def dkwX0_replaceAll_1 : List UInt8 := [3, 172]
abbrev dktX0_replaceAll_1 : List UInt8 := dkwX0_replaceAll_1 ++ []
def dkwX0_replaceAll_0 : List UInt8 := [25, 4, 42, 27, 28, 29, 182, 0, 98, 133, 181, 0, 13, 167, 0, 11, 58, 5, 4, 172, 58, 5, 5, 172]
abbrev dktX0_replaceAll_0 : List UInt8 := dkwX0_replaceAll_0 ++ dktX0_replaceAll_1
theorem dksX0_replaceAll_0 : cX0_replaceAll.data.toList.drop 0 = dktX0_replaceAll_0 := by decide +kernel
theorem dksX0_replaceAll_1 : cX0_replaceAll.data.toList.drop 24 = dktX0_replaceAll_1 := dk_seg dksX0_replaceAll_0 24 rfl rfl
theorem dX0_replaceAll_0 : decode cX0_replaceAll 0 = .ok (.aload 4, 2) := dk_25 4 (dk_at dksX0_replaceAll_0 0 rfl rfl)
theorem dX0_replaceAll_2 : decode cX0_replaceAll 2 = .ok (.aload_n 0, 1) := dk_42 (dk_at dksX0_replaceAll_0 2 rfl rfl)
theorem dX0_replaceAll_3 : decode cX0_replaceAll 3 = .ok (.iload_n 1, 1) := dk_27 (dk_at dksX0_replaceAll_0 3 rfl rfl)
theorem dX0_replaceAll_4 : decode cX0_replaceAll 4 = .ok (.iload_n 2, 1) := dk_28 (dk_at dksX0_replaceAll_0 4 rfl rfl)
theorem dX0_replaceAll_5 : decode cX0_replaceAll 5 = .ok (.iload_n 3, 1) := dk_29 (dk_at dksX0_replaceAll_0 5 rfl rfl)
theorem dX0_replaceAll_6 : decode cX0_replaceAll 6 = .ok (.invokevirtual 98, 3) := dk_182 0 98 (dk_at dksX0_replaceAll_0 6 rfl rfl)
theorem dX0_replaceAll_9 : decode cX0_replaceAll 9 = .ok (.i2l, 1) := dk_133 (dk_at dksX0_replaceAll_0 9 rfl rfl)
theorem dX0_replaceAll_10 : decode cX0_replaceAll 10 = .ok (.putfield 13, 3) := dk_181 0 13 (dk_at dksX0_replaceAll_0 10 rfl rfl)
theorem dX0_replaceAll_13 : decode cX0_replaceAll 13 = .ok (.goto 11, 3) := dk_167 0 11 (dk_at dksX0_replaceAll_0 13 rfl rfl)
theorem dX0_replaceAll_16 : decode cX0_replaceAll 16 = .ok (.astore 5, 2) := dk_58 5 (dk_at dksX0_replaceAll_0 16 rfl rfl)
theorem dX0_replaceAll_18 : decode cX0_replaceAll 18 = .ok (.iconst 1, 1) := dk_4 (dk_at dksX0_replaceAll_0 18 rfl rfl)
theorem dX0_replaceAll_19 : decode cX0_replaceAll 19 = .ok (.ireturn, 1) := dk_172 (dk_at dksX0_replaceAll_0 19 rfl rfl)
theorem dX0_replaceAll_20 : decode cX0_replaceAll 20 = .ok (.astore 5, 2) := dk_58 5 (dk_at dksX0_replaceAll_0 20 rfl rfl)
theorem dX0_replaceAll_22 : decode cX0_replaceAll 22 = .ok (.iconst 2, 1) := dk_5 (dk_at dksX0_replaceAll_0 22 rfl rfl)
theorem dX0_replaceAll_23 : decode cX0_replaceAll 23 = .ok (.ireturn, 1) := dk_172 (dk_at dksX0_replaceAll_0 23 rfl rfl)
theorem dX0_replaceAll_24 : decode cX0_replaceAll 24 = .ok (.iconst 0, 1) := dk_3 (dk_at dksX0_replaceAll_1 0 rfl rfl)
theorem dX0_replaceAll_25 : decode cX0_replaceAll 25 = .ok (.ireturn, 1) := dk_172 (dk_at dksX0_replaceAll_1 1 rfl rfl)
abbrev cX0_replaceOld : ByteArray := method_25_code
def yX0_replaceOld : MethodName := ⟨RX0, "replaceOld", "(LTwinrow;IIILTwinrowLaw$Out;)I"⟩
def dkwX0_replaceOld_1 : List UInt8 := [3, 172]
abbrev dktX0_replaceOld_1 : List UInt8 := dkwX0_replaceOld_1 ++ []
def dkwX0_replaceOld_0 : List UInt8 := [25, 4, 42, 27, 28, 29, 182, 0, 101, 133, 181, 0, 13, 167, 0, 11, 58, 5, 4, 172, 58, 5, 5, 172]
abbrev dktX0_replaceOld_0 : List UInt8 := dkwX0_replaceOld_0 ++ dktX0_replaceOld_1
theorem dksX0_replaceOld_0 : cX0_replaceOld.data.toList.drop 0 = dktX0_replaceOld_0 := by decide +kernel
theorem dksX0_replaceOld_1 : cX0_replaceOld.data.toList.drop 24 = dktX0_replaceOld_1 := dk_seg dksX0_replaceOld_0 24 rfl rfl
theorem dX0_replaceOld_0 : decode cX0_replaceOld 0 = .ok (.aload 4, 2) := dk_25 4 (dk_at dksX0_replaceOld_0 0 rfl rfl)
theorem dX0_replaceOld_2 : decode cX0_replaceOld 2 = .ok (.aload_n 0, 1) := dk_42 (dk_at dksX0_replaceOld_0 2 rfl rfl)
theorem dX0_replaceOld_3 : decode cX0_replaceOld 3 = .ok (.iload_n 1, 1) := dk_27 (dk_at dksX0_replaceOld_0 3 rfl rfl)
theorem dX0_replaceOld_4 : decode cX0_replaceOld 4 = .ok (.iload_n 2, 1) := dk_28 (dk_at dksX0_replaceOld_0 4 rfl rfl)
theorem dX0_replaceOld_5 : decode cX0_replaceOld 5 = .ok (.iload_n 3, 1) := dk_29 (dk_at dksX0_replaceOld_0 5 rfl rfl)
theorem dX0_replaceOld_6 : decode cX0_replaceOld 6 = .ok (.invokevirtual 101, 3) := dk_182 0 101 (dk_at dksX0_replaceOld_0 6 rfl rfl)
theorem dX0_replaceOld_9 : decode cX0_replaceOld 9 = .ok (.i2l, 1) := dk_133 (dk_at dksX0_replaceOld_0 9 rfl rfl)
theorem dX0_replaceOld_10 : decode cX0_replaceOld 10 = .ok (.putfield 13, 3) := dk_181 0 13 (dk_at dksX0_replaceOld_0 10 rfl rfl)
theorem dX0_replaceOld_13 : decode cX0_replaceOld 13 = .ok (.goto 11, 3) := dk_167 0 11 (dk_at dksX0_replaceOld_0 13 rfl rfl)
theorem dX0_replaceOld_16 : decode cX0_replaceOld 16 = .ok (.astore 5, 2) := dk_58 5 (dk_at dksX0_replaceOld_0 16 rfl rfl)
theorem dX0_replaceOld_18 : decode cX0_replaceOld 18 = .ok (.iconst 1, 1) := dk_4 (dk_at dksX0_replaceOld_0 18 rfl rfl)
theorem dX0_replaceOld_19 : decode cX0_replaceOld 19 = .ok (.ireturn, 1) := dk_172 (dk_at dksX0_replaceOld_0 19 rfl rfl)
theorem dX0_replaceOld_20 : decode cX0_replaceOld 20 = .ok (.astore 5, 2) := dk_58 5 (dk_at dksX0_replaceOld_0 20 rfl rfl)
theorem dX0_replaceOld_22 : decode cX0_replaceOld 22 = .ok (.iconst 2, 1) := dk_5 (dk_at dksX0_replaceOld_0 22 rfl rfl)
theorem dX0_replaceOld_23 : decode cX0_replaceOld 23 = .ok (.ireturn, 1) := dk_172 (dk_at dksX0_replaceOld_0 23 rfl rfl)
theorem dX0_replaceOld_24 : decode cX0_replaceOld 24 = .ok (.iconst 0, 1) := dk_3 (dk_at dksX0_replaceOld_1 0 rfl rfl)
theorem dX0_replaceOld_25 : decode cX0_replaceOld 25 = .ok (.ireturn, 1) := dk_172 (dk_at dksX0_replaceOld_1 1 rfl rfl)
abbrev cX0_fill : ByteArray := method_26_code
def yX0_fill : MethodName := ⟨RX0, "fill", "(LTwinrow;IILTwinrowLaw$Out;)I"⟩
def dkwX0_fill_0 : List UInt8 := [45, 42, 27, 28, 182, 0, 104, 133, 181, 0, 13, 167, 0, 11, 58, 4, 4, 172, 58, 4, 5, 172, 3, 172]
abbrev dktX0_fill_0 : List UInt8 := dkwX0_fill_0 ++ []
theorem dksX0_fill_0 : cX0_fill.data.toList.drop 0 = dktX0_fill_0 := by decide +kernel
theorem dX0_fill_0 : decode cX0_fill 0 = .ok (.aload_n 3, 1) := dk_45 (dk_at dksX0_fill_0 0 rfl rfl)
theorem dX0_fill_1 : decode cX0_fill 1 = .ok (.aload_n 0, 1) := dk_42 (dk_at dksX0_fill_0 1 rfl rfl)
theorem dX0_fill_2 : decode cX0_fill 2 = .ok (.iload_n 1, 1) := dk_27 (dk_at dksX0_fill_0 2 rfl rfl)
theorem dX0_fill_3 : decode cX0_fill 3 = .ok (.iload_n 2, 1) := dk_28 (dk_at dksX0_fill_0 3 rfl rfl)
theorem dX0_fill_4 : decode cX0_fill 4 = .ok (.invokevirtual 104, 3) := dk_182 0 104 (dk_at dksX0_fill_0 4 rfl rfl)
theorem dX0_fill_7 : decode cX0_fill 7 = .ok (.i2l, 1) := dk_133 (dk_at dksX0_fill_0 7 rfl rfl)
theorem dX0_fill_8 : decode cX0_fill 8 = .ok (.putfield 13, 3) := dk_181 0 13 (dk_at dksX0_fill_0 8 rfl rfl)
theorem dX0_fill_11 : decode cX0_fill 11 = .ok (.goto 11, 3) := dk_167 0 11 (dk_at dksX0_fill_0 11 rfl rfl)
theorem dX0_fill_14 : decode cX0_fill 14 = .ok (.astore 4, 2) := dk_58 4 (dk_at dksX0_fill_0 14 rfl rfl)
theorem dX0_fill_16 : decode cX0_fill 16 = .ok (.iconst 1, 1) := dk_4 (dk_at dksX0_fill_0 16 rfl rfl)
theorem dX0_fill_17 : decode cX0_fill 17 = .ok (.ireturn, 1) := dk_172 (dk_at dksX0_fill_0 17 rfl rfl)
theorem dX0_fill_18 : decode cX0_fill 18 = .ok (.astore 4, 2) := dk_58 4 (dk_at dksX0_fill_0 18 rfl rfl)
theorem dX0_fill_20 : decode cX0_fill 20 = .ok (.iconst 2, 1) := dk_5 (dk_at dksX0_fill_0 20 rfl rfl)
theorem dX0_fill_21 : decode cX0_fill 21 = .ok (.ireturn, 1) := dk_172 (dk_at dksX0_fill_0 21 rfl rfl)
theorem dX0_fill_22 : decode cX0_fill 22 = .ok (.iconst 0, 1) := dk_3 (dk_at dksX0_fill_0 22 rfl rfl)
theorem dX0_fill_23 : decode cX0_fill 23 = .ok (.ireturn, 1) := dk_172 (dk_at dksX0_fill_0 23 rfl rfl)
abbrev cX0_sort : ByteArray := method_27_code
def yX0_sort : MethodName := ⟨RX0, "sort", "(LTwinrow;IZLTwinrowLaw$Out;)I"⟩
def dkwX0_sort_0 : List UInt8 := [45, 42, 27, 28, 182, 0, 107, 133, 181, 0, 13, 167, 0, 7, 58, 4, 4, 172, 3, 172]
abbrev dktX0_sort_0 : List UInt8 := dkwX0_sort_0 ++ []
theorem dksX0_sort_0 : cX0_sort.data.toList.drop 0 = dktX0_sort_0 := by decide +kernel
theorem dX0_sort_0 : decode cX0_sort 0 = .ok (.aload_n 3, 1) := dk_45 (dk_at dksX0_sort_0 0 rfl rfl)
theorem dX0_sort_1 : decode cX0_sort 1 = .ok (.aload_n 0, 1) := dk_42 (dk_at dksX0_sort_0 1 rfl rfl)
theorem dX0_sort_2 : decode cX0_sort 2 = .ok (.iload_n 1, 1) := dk_27 (dk_at dksX0_sort_0 2 rfl rfl)
theorem dX0_sort_3 : decode cX0_sort 3 = .ok (.iload_n 2, 1) := dk_28 (dk_at dksX0_sort_0 3 rfl rfl)
theorem dX0_sort_4 : decode cX0_sort 4 = .ok (.invokevirtual 107, 3) := dk_182 0 107 (dk_at dksX0_sort_0 4 rfl rfl)
theorem dX0_sort_7 : decode cX0_sort 7 = .ok (.i2l, 1) := dk_133 (dk_at dksX0_sort_0 7 rfl rfl)
theorem dX0_sort_8 : decode cX0_sort 8 = .ok (.putfield 13, 3) := dk_181 0 13 (dk_at dksX0_sort_0 8 rfl rfl)
theorem dX0_sort_11 : decode cX0_sort 11 = .ok (.goto 7, 3) := dk_167 0 7 (dk_at dksX0_sort_0 11 rfl rfl)
theorem dX0_sort_14 : decode cX0_sort 14 = .ok (.astore 4, 2) := dk_58 4 (dk_at dksX0_sort_0 14 rfl rfl)
theorem dX0_sort_16 : decode cX0_sort 16 = .ok (.iconst 1, 1) := dk_4 (dk_at dksX0_sort_0 16 rfl rfl)
theorem dX0_sort_17 : decode cX0_sort 17 = .ok (.ireturn, 1) := dk_172 (dk_at dksX0_sort_0 17 rfl rfl)
theorem dX0_sort_18 : decode cX0_sort 18 = .ok (.iconst 0, 1) := dk_3 (dk_at dksX0_sort_0 18 rfl rfl)
theorem dX0_sort_19 : decode cX0_sort 19 = .ok (.ireturn, 1) := dk_172 (dk_at dksX0_sort_0 19 rfl rfl)
abbrev cX0_reverse : ByteArray := method_28_code
def yX0_reverse : MethodName := ⟨RX0, "reverse", "(LTwinrow;ILTwinrowLaw$Out;)I"⟩
def dkwX0_reverse_0 : List UInt8 := [44, 42, 27, 182, 0, 111, 133, 181, 0, 13, 167, 0, 6, 78, 4, 172, 3, 172]
abbrev dktX0_reverse_0 : List UInt8 := dkwX0_reverse_0 ++ []
theorem dksX0_reverse_0 : cX0_reverse.data.toList.drop 0 = dktX0_reverse_0 := by decide +kernel
theorem dX0_reverse_0 : decode cX0_reverse 0 = .ok (.aload_n 2, 1) := dk_44 (dk_at dksX0_reverse_0 0 rfl rfl)
theorem dX0_reverse_1 : decode cX0_reverse 1 = .ok (.aload_n 0, 1) := dk_42 (dk_at dksX0_reverse_0 1 rfl rfl)
theorem dX0_reverse_2 : decode cX0_reverse 2 = .ok (.iload_n 1, 1) := dk_27 (dk_at dksX0_reverse_0 2 rfl rfl)
theorem dX0_reverse_3 : decode cX0_reverse 3 = .ok (.invokevirtual 111, 3) := dk_182 0 111 (dk_at dksX0_reverse_0 3 rfl rfl)
theorem dX0_reverse_6 : decode cX0_reverse 6 = .ok (.i2l, 1) := dk_133 (dk_at dksX0_reverse_0 6 rfl rfl)
theorem dX0_reverse_7 : decode cX0_reverse 7 = .ok (.putfield 13, 3) := dk_181 0 13 (dk_at dksX0_reverse_0 7 rfl rfl)
theorem dX0_reverse_10 : decode cX0_reverse 10 = .ok (.goto 6, 3) := dk_167 0 6 (dk_at dksX0_reverse_0 10 rfl rfl)
theorem dX0_reverse_13 : decode cX0_reverse 13 = .ok (.astore_n 3, 1) := dk_78 (dk_at dksX0_reverse_0 13 rfl rfl)
theorem dX0_reverse_14 : decode cX0_reverse 14 = .ok (.iconst 1, 1) := dk_4 (dk_at dksX0_reverse_0 14 rfl rfl)
theorem dX0_reverse_15 : decode cX0_reverse 15 = .ok (.ireturn, 1) := dk_172 (dk_at dksX0_reverse_0 15 rfl rfl)
theorem dX0_reverse_16 : decode cX0_reverse 16 = .ok (.iconst 0, 1) := dk_3 (dk_at dksX0_reverse_0 16 rfl rfl)
theorem dX0_reverse_17 : decode cX0_reverse 17 = .ok (.ireturn, 1) := dk_172 (dk_at dksX0_reverse_0 17 rfl rfl)
abbrev cX0_rotate : ByteArray := method_29_code
def yX0_rotate : MethodName := ⟨RX0, "rotate", "(LTwinrow;IILTwinrowLaw$Out;)I"⟩
def dkwX0_rotate_0 : List UInt8 := [45, 42, 27, 28, 182, 0, 114, 133, 181, 0, 13, 167, 0, 11, 58, 4, 4, 172, 58, 4, 5, 172, 3, 172]
abbrev dktX0_rotate_0 : List UInt8 := dkwX0_rotate_0 ++ []
theorem dksX0_rotate_0 : cX0_rotate.data.toList.drop 0 = dktX0_rotate_0 := by decide +kernel
theorem dX0_rotate_0 : decode cX0_rotate 0 = .ok (.aload_n 3, 1) := dk_45 (dk_at dksX0_rotate_0 0 rfl rfl)
theorem dX0_rotate_1 : decode cX0_rotate 1 = .ok (.aload_n 0, 1) := dk_42 (dk_at dksX0_rotate_0 1 rfl rfl)
theorem dX0_rotate_2 : decode cX0_rotate 2 = .ok (.iload_n 1, 1) := dk_27 (dk_at dksX0_rotate_0 2 rfl rfl)
theorem dX0_rotate_3 : decode cX0_rotate 3 = .ok (.iload_n 2, 1) := dk_28 (dk_at dksX0_rotate_0 3 rfl rfl)
theorem dX0_rotate_4 : decode cX0_rotate 4 = .ok (.invokevirtual 114, 3) := dk_182 0 114 (dk_at dksX0_rotate_0 4 rfl rfl)
theorem dX0_rotate_7 : decode cX0_rotate 7 = .ok (.i2l, 1) := dk_133 (dk_at dksX0_rotate_0 7 rfl rfl)
theorem dX0_rotate_8 : decode cX0_rotate 8 = .ok (.putfield 13, 3) := dk_181 0 13 (dk_at dksX0_rotate_0 8 rfl rfl)
theorem dX0_rotate_11 : decode cX0_rotate 11 = .ok (.goto 11, 3) := dk_167 0 11 (dk_at dksX0_rotate_0 11 rfl rfl)
theorem dX0_rotate_14 : decode cX0_rotate 14 = .ok (.astore 4, 2) := dk_58 4 (dk_at dksX0_rotate_0 14 rfl rfl)
theorem dX0_rotate_16 : decode cX0_rotate 16 = .ok (.iconst 1, 1) := dk_4 (dk_at dksX0_rotate_0 16 rfl rfl)
theorem dX0_rotate_17 : decode cX0_rotate 17 = .ok (.ireturn, 1) := dk_172 (dk_at dksX0_rotate_0 17 rfl rfl)
theorem dX0_rotate_18 : decode cX0_rotate 18 = .ok (.astore 4, 2) := dk_58 4 (dk_at dksX0_rotate_0 18 rfl rfl)
theorem dX0_rotate_20 : decode cX0_rotate 20 = .ok (.iconst 2, 1) := dk_5 (dk_at dksX0_rotate_0 20 rfl rfl)
theorem dX0_rotate_21 : decode cX0_rotate 21 = .ok (.ireturn, 1) := dk_172 (dk_at dksX0_rotate_0 21 rfl rfl)
theorem dX0_rotate_22 : decode cX0_rotate 22 = .ok (.iconst 0, 1) := dk_3 (dk_at dksX0_rotate_0 22 rfl rfl)
theorem dX0_rotate_23 : decode cX0_rotate 23 = .ok (.ireturn, 1) := dk_172 (dk_at dksX0_rotate_0 23 rfl rfl)
abbrev cX0_swap : ByteArray := method_30_code
def yX0_swap : MethodName := ⟨RX0, "swap", "(LTwinrow;IIILTwinrowLaw$Out;)I"⟩
def dkwX0_swap_0 : List UInt8 := [25, 4, 42, 27, 28, 29, 182, 0, 117, 133, 181, 0, 13, 167, 0, 7, 58, 5, 4, 172, 3, 172]
abbrev dktX0_swap_0 : List UInt8 := dkwX0_swap_0 ++ []
theorem dksX0_swap_0 : cX0_swap.data.toList.drop 0 = dktX0_swap_0 := by decide +kernel
theorem dX0_swap_0 : decode cX0_swap 0 = .ok (.aload 4, 2) := dk_25 4 (dk_at dksX0_swap_0 0 rfl rfl)
theorem dX0_swap_2 : decode cX0_swap 2 = .ok (.aload_n 0, 1) := dk_42 (dk_at dksX0_swap_0 2 rfl rfl)
theorem dX0_swap_3 : decode cX0_swap 3 = .ok (.iload_n 1, 1) := dk_27 (dk_at dksX0_swap_0 3 rfl rfl)
theorem dX0_swap_4 : decode cX0_swap 4 = .ok (.iload_n 2, 1) := dk_28 (dk_at dksX0_swap_0 4 rfl rfl)
theorem dX0_swap_5 : decode cX0_swap 5 = .ok (.iload_n 3, 1) := dk_29 (dk_at dksX0_swap_0 5 rfl rfl)
theorem dX0_swap_6 : decode cX0_swap 6 = .ok (.invokevirtual 117, 3) := dk_182 0 117 (dk_at dksX0_swap_0 6 rfl rfl)
theorem dX0_swap_9 : decode cX0_swap 9 = .ok (.i2l, 1) := dk_133 (dk_at dksX0_swap_0 9 rfl rfl)
theorem dX0_swap_10 : decode cX0_swap 10 = .ok (.putfield 13, 3) := dk_181 0 13 (dk_at dksX0_swap_0 10 rfl rfl)
theorem dX0_swap_13 : decode cX0_swap 13 = .ok (.goto 7, 3) := dk_167 0 7 (dk_at dksX0_swap_0 13 rfl rfl)
theorem dX0_swap_16 : decode cX0_swap 16 = .ok (.astore 5, 2) := dk_58 5 (dk_at dksX0_swap_0 16 rfl rfl)
theorem dX0_swap_18 : decode cX0_swap 18 = .ok (.iconst 1, 1) := dk_4 (dk_at dksX0_swap_0 18 rfl rfl)
theorem dX0_swap_19 : decode cX0_swap 19 = .ok (.ireturn, 1) := dk_172 (dk_at dksX0_swap_0 19 rfl rfl)
theorem dX0_swap_20 : decode cX0_swap 20 = .ok (.iconst 0, 1) := dk_3 (dk_at dksX0_swap_0 20 rfl rfl)
theorem dX0_swap_21 : decode cX0_swap 21 = .ok (.ireturn, 1) := dk_172 (dk_at dksX0_swap_0 21 rfl rfl)
abbrev cX0_add : ByteArray := method_31_code
def yX0_add : MethodName := ⟨RX0, "add", "(LTwinrow;IILTwinrowLaw$Out;)I"⟩
def dkwX0_add_0 : List UInt8 := [45, 42, 27, 28, 182, 0, 120, 133, 181, 0, 13, 167, 0, 11, 58, 4, 4, 172, 58, 4, 5, 172, 3, 172]
abbrev dktX0_add_0 : List UInt8 := dkwX0_add_0 ++ []
theorem dksX0_add_0 : cX0_add.data.toList.drop 0 = dktX0_add_0 := by decide +kernel
theorem dX0_add_0 : decode cX0_add 0 = .ok (.aload_n 3, 1) := dk_45 (dk_at dksX0_add_0 0 rfl rfl)
theorem dX0_add_1 : decode cX0_add 1 = .ok (.aload_n 0, 1) := dk_42 (dk_at dksX0_add_0 1 rfl rfl)
theorem dX0_add_2 : decode cX0_add 2 = .ok (.iload_n 1, 1) := dk_27 (dk_at dksX0_add_0 2 rfl rfl)
theorem dX0_add_3 : decode cX0_add 3 = .ok (.iload_n 2, 1) := dk_28 (dk_at dksX0_add_0 3 rfl rfl)
theorem dX0_add_4 : decode cX0_add 4 = .ok (.invokevirtual 120, 3) := dk_182 0 120 (dk_at dksX0_add_0 4 rfl rfl)
theorem dX0_add_7 : decode cX0_add 7 = .ok (.i2l, 1) := dk_133 (dk_at dksX0_add_0 7 rfl rfl)
theorem dX0_add_8 : decode cX0_add 8 = .ok (.putfield 13, 3) := dk_181 0 13 (dk_at dksX0_add_0 8 rfl rfl)
theorem dX0_add_11 : decode cX0_add 11 = .ok (.goto 11, 3) := dk_167 0 11 (dk_at dksX0_add_0 11 rfl rfl)
theorem dX0_add_14 : decode cX0_add 14 = .ok (.astore 4, 2) := dk_58 4 (dk_at dksX0_add_0 14 rfl rfl)
theorem dX0_add_16 : decode cX0_add 16 = .ok (.iconst 1, 1) := dk_4 (dk_at dksX0_add_0 16 rfl rfl)
theorem dX0_add_17 : decode cX0_add 17 = .ok (.ireturn, 1) := dk_172 (dk_at dksX0_add_0 17 rfl rfl)
theorem dX0_add_18 : decode cX0_add 18 = .ok (.astore 4, 2) := dk_58 4 (dk_at dksX0_add_0 18 rfl rfl)
theorem dX0_add_20 : decode cX0_add 20 = .ok (.iconst 2, 1) := dk_5 (dk_at dksX0_add_0 20 rfl rfl)
theorem dX0_add_21 : decode cX0_add 21 = .ok (.ireturn, 1) := dk_172 (dk_at dksX0_add_0 21 rfl rfl)
theorem dX0_add_22 : decode cX0_add 22 = .ok (.iconst 0, 1) := dk_3 (dk_at dksX0_add_0 22 rfl rfl)
theorem dX0_add_23 : decode cX0_add 23 = .ok (.ireturn, 1) := dk_172 (dk_at dksX0_add_0 23 rfl rfl)
abbrev cX0_addAt : ByteArray := method_32_code
def yX0_addAt : MethodName := ⟨RX0, "addAt", "(LTwinrow;IIILTwinrowLaw$Out;)I"⟩
def dkwX0_addAt_1 : List UInt8 := [3, 172]
abbrev dktX0_addAt_1 : List UInt8 := dkwX0_addAt_1 ++ []
def dkwX0_addAt_0 : List UInt8 := [25, 4, 42, 27, 28, 29, 182, 0, 123, 133, 181, 0, 13, 167, 0, 11, 58, 5, 4, 172, 58, 5, 5, 172]
abbrev dktX0_addAt_0 : List UInt8 := dkwX0_addAt_0 ++ dktX0_addAt_1
theorem dksX0_addAt_0 : cX0_addAt.data.toList.drop 0 = dktX0_addAt_0 := by decide +kernel
theorem dksX0_addAt_1 : cX0_addAt.data.toList.drop 24 = dktX0_addAt_1 := dk_seg dksX0_addAt_0 24 rfl rfl
theorem dX0_addAt_0 : decode cX0_addAt 0 = .ok (.aload 4, 2) := dk_25 4 (dk_at dksX0_addAt_0 0 rfl rfl)
theorem dX0_addAt_2 : decode cX0_addAt 2 = .ok (.aload_n 0, 1) := dk_42 (dk_at dksX0_addAt_0 2 rfl rfl)
theorem dX0_addAt_3 : decode cX0_addAt 3 = .ok (.iload_n 1, 1) := dk_27 (dk_at dksX0_addAt_0 3 rfl rfl)
theorem dX0_addAt_4 : decode cX0_addAt 4 = .ok (.iload_n 2, 1) := dk_28 (dk_at dksX0_addAt_0 4 rfl rfl)
theorem dX0_addAt_5 : decode cX0_addAt 5 = .ok (.iload_n 3, 1) := dk_29 (dk_at dksX0_addAt_0 5 rfl rfl)
theorem dX0_addAt_6 : decode cX0_addAt 6 = .ok (.invokevirtual 123, 3) := dk_182 0 123 (dk_at dksX0_addAt_0 6 rfl rfl)
theorem dX0_addAt_9 : decode cX0_addAt 9 = .ok (.i2l, 1) := dk_133 (dk_at dksX0_addAt_0 9 rfl rfl)
theorem dX0_addAt_10 : decode cX0_addAt 10 = .ok (.putfield 13, 3) := dk_181 0 13 (dk_at dksX0_addAt_0 10 rfl rfl)
theorem dX0_addAt_13 : decode cX0_addAt 13 = .ok (.goto 11, 3) := dk_167 0 11 (dk_at dksX0_addAt_0 13 rfl rfl)
theorem dX0_addAt_16 : decode cX0_addAt 16 = .ok (.astore 5, 2) := dk_58 5 (dk_at dksX0_addAt_0 16 rfl rfl)
theorem dX0_addAt_18 : decode cX0_addAt 18 = .ok (.iconst 1, 1) := dk_4 (dk_at dksX0_addAt_0 18 rfl rfl)
theorem dX0_addAt_19 : decode cX0_addAt 19 = .ok (.ireturn, 1) := dk_172 (dk_at dksX0_addAt_0 19 rfl rfl)
theorem dX0_addAt_20 : decode cX0_addAt 20 = .ok (.astore 5, 2) := dk_58 5 (dk_at dksX0_addAt_0 20 rfl rfl)
theorem dX0_addAt_22 : decode cX0_addAt 22 = .ok (.iconst 2, 1) := dk_5 (dk_at dksX0_addAt_0 22 rfl rfl)
theorem dX0_addAt_23 : decode cX0_addAt 23 = .ok (.ireturn, 1) := dk_172 (dk_at dksX0_addAt_0 23 rfl rfl)
theorem dX0_addAt_24 : decode cX0_addAt 24 = .ok (.iconst 0, 1) := dk_3 (dk_at dksX0_addAt_1 0 rfl rfl)
theorem dX0_addAt_25 : decode cX0_addAt 25 = .ok (.ireturn, 1) := dk_172 (dk_at dksX0_addAt_1 1 rfl rfl)
abbrev cX0_addAll : ByteArray := method_33_code
def yX0_addAll : MethodName := ⟨RX0, "addAll", "(LTwinrow;IILTwinrowLaw$Out;)I"⟩
def dkwX0_addAll_0 : List UInt8 := [45, 42, 27, 28, 182, 0, 126, 133, 181, 0, 13, 167, 0, 7, 58, 4, 4, 172, 3, 172]
abbrev dktX0_addAll_0 : List UInt8 := dkwX0_addAll_0 ++ []
theorem dksX0_addAll_0 : cX0_addAll.data.toList.drop 0 = dktX0_addAll_0 := by decide +kernel
theorem dX0_addAll_0 : decode cX0_addAll 0 = .ok (.aload_n 3, 1) := dk_45 (dk_at dksX0_addAll_0 0 rfl rfl)
theorem dX0_addAll_1 : decode cX0_addAll 1 = .ok (.aload_n 0, 1) := dk_42 (dk_at dksX0_addAll_0 1 rfl rfl)
theorem dX0_addAll_2 : decode cX0_addAll 2 = .ok (.iload_n 1, 1) := dk_27 (dk_at dksX0_addAll_0 2 rfl rfl)
theorem dX0_addAll_3 : decode cX0_addAll 3 = .ok (.iload_n 2, 1) := dk_28 (dk_at dksX0_addAll_0 3 rfl rfl)
theorem dX0_addAll_4 : decode cX0_addAll 4 = .ok (.invokevirtual 126, 3) := dk_182 0 126 (dk_at dksX0_addAll_0 4 rfl rfl)
theorem dX0_addAll_7 : decode cX0_addAll 7 = .ok (.i2l, 1) := dk_133 (dk_at dksX0_addAll_0 7 rfl rfl)
theorem dX0_addAll_8 : decode cX0_addAll 8 = .ok (.putfield 13, 3) := dk_181 0 13 (dk_at dksX0_addAll_0 8 rfl rfl)
theorem dX0_addAll_11 : decode cX0_addAll 11 = .ok (.goto 7, 3) := dk_167 0 7 (dk_at dksX0_addAll_0 11 rfl rfl)
theorem dX0_addAll_14 : decode cX0_addAll 14 = .ok (.astore 4, 2) := dk_58 4 (dk_at dksX0_addAll_0 14 rfl rfl)
theorem dX0_addAll_16 : decode cX0_addAll 16 = .ok (.iconst 1, 1) := dk_4 (dk_at dksX0_addAll_0 16 rfl rfl)
theorem dX0_addAll_17 : decode cX0_addAll 17 = .ok (.ireturn, 1) := dk_172 (dk_at dksX0_addAll_0 17 rfl rfl)
theorem dX0_addAll_18 : decode cX0_addAll 18 = .ok (.iconst 0, 1) := dk_3 (dk_at dksX0_addAll_0 18 rfl rfl)
theorem dX0_addAll_19 : decode cX0_addAll 19 = .ok (.ireturn, 1) := dk_172 (dk_at dksX0_addAll_0 19 rfl rfl)
abbrev cX0_remove : ByteArray := method_34_code
def yX0_remove : MethodName := ⟨RX0, "remove", "(LTwinrow;IILTwinrowLaw$Out;)I"⟩
def dkwX0_remove_0 : List UInt8 := [45, 42, 27, 28, 182, 0, 129, 133, 181, 0, 13, 167, 0, 7, 58, 4, 4, 172, 3, 172]
abbrev dktX0_remove_0 : List UInt8 := dkwX0_remove_0 ++ []
theorem dksX0_remove_0 : cX0_remove.data.toList.drop 0 = dktX0_remove_0 := by decide +kernel
theorem dX0_remove_0 : decode cX0_remove 0 = .ok (.aload_n 3, 1) := dk_45 (dk_at dksX0_remove_0 0 rfl rfl)
theorem dX0_remove_1 : decode cX0_remove 1 = .ok (.aload_n 0, 1) := dk_42 (dk_at dksX0_remove_0 1 rfl rfl)
theorem dX0_remove_2 : decode cX0_remove 2 = .ok (.iload_n 1, 1) := dk_27 (dk_at dksX0_remove_0 2 rfl rfl)
theorem dX0_remove_3 : decode cX0_remove 3 = .ok (.iload_n 2, 1) := dk_28 (dk_at dksX0_remove_0 3 rfl rfl)
theorem dX0_remove_4 : decode cX0_remove 4 = .ok (.invokevirtual 129, 3) := dk_182 0 129 (dk_at dksX0_remove_0 4 rfl rfl)
theorem dX0_remove_7 : decode cX0_remove 7 = .ok (.i2l, 1) := dk_133 (dk_at dksX0_remove_0 7 rfl rfl)
theorem dX0_remove_8 : decode cX0_remove 8 = .ok (.putfield 13, 3) := dk_181 0 13 (dk_at dksX0_remove_0 8 rfl rfl)
theorem dX0_remove_11 : decode cX0_remove 11 = .ok (.goto 7, 3) := dk_167 0 7 (dk_at dksX0_remove_0 11 rfl rfl)
theorem dX0_remove_14 : decode cX0_remove 14 = .ok (.astore 4, 2) := dk_58 4 (dk_at dksX0_remove_0 14 rfl rfl)
theorem dX0_remove_16 : decode cX0_remove 16 = .ok (.iconst 1, 1) := dk_4 (dk_at dksX0_remove_0 16 rfl rfl)
theorem dX0_remove_17 : decode cX0_remove 17 = .ok (.ireturn, 1) := dk_172 (dk_at dksX0_remove_0 17 rfl rfl)
theorem dX0_remove_18 : decode cX0_remove 18 = .ok (.iconst 0, 1) := dk_3 (dk_at dksX0_remove_0 18 rfl rfl)
theorem dX0_remove_19 : decode cX0_remove 19 = .ok (.ireturn, 1) := dk_172 (dk_at dksX0_remove_0 19 rfl rfl)
abbrev cX0_removeValue : ByteArray := method_35_code
def yX0_removeValue : MethodName := ⟨RX0, "removeValue", "(LTwinrow;IILTwinrowLaw$Out;)I"⟩
def dkwX0_removeValue_0 : List UInt8 := [45, 42, 27, 28, 182, 0, 132, 133, 181, 0, 13, 167, 0, 11, 58, 4, 4, 172, 58, 4, 5, 172, 3, 172]
abbrev dktX0_removeValue_0 : List UInt8 := dkwX0_removeValue_0 ++ []
theorem dksX0_removeValue_0 : cX0_removeValue.data.toList.drop 0 = dktX0_removeValue_0 := by decide +kernel
theorem dX0_removeValue_0 : decode cX0_removeValue 0 = .ok (.aload_n 3, 1) := dk_45 (dk_at dksX0_removeValue_0 0 rfl rfl)
theorem dX0_removeValue_1 : decode cX0_removeValue 1 = .ok (.aload_n 0, 1) := dk_42 (dk_at dksX0_removeValue_0 1 rfl rfl)
theorem dX0_removeValue_2 : decode cX0_removeValue 2 = .ok (.iload_n 1, 1) := dk_27 (dk_at dksX0_removeValue_0 2 rfl rfl)
theorem dX0_removeValue_3 : decode cX0_removeValue 3 = .ok (.iload_n 2, 1) := dk_28 (dk_at dksX0_removeValue_0 3 rfl rfl)
theorem dX0_removeValue_4 : decode cX0_removeValue 4 = .ok (.invokevirtual 132, 3) := dk_182 0 132 (dk_at dksX0_removeValue_0 4 rfl rfl)
theorem dX0_removeValue_7 : decode cX0_removeValue 7 = .ok (.i2l, 1) := dk_133 (dk_at dksX0_removeValue_0 7 rfl rfl)
theorem dX0_removeValue_8 : decode cX0_removeValue 8 = .ok (.putfield 13, 3) := dk_181 0 13 (dk_at dksX0_removeValue_0 8 rfl rfl)
theorem dX0_removeValue_11 : decode cX0_removeValue 11 = .ok (.goto 11, 3) := dk_167 0 11 (dk_at dksX0_removeValue_0 11 rfl rfl)
theorem dX0_removeValue_14 : decode cX0_removeValue 14 = .ok (.astore 4, 2) := dk_58 4 (dk_at dksX0_removeValue_0 14 rfl rfl)
theorem dX0_removeValue_16 : decode cX0_removeValue 16 = .ok (.iconst 1, 1) := dk_4 (dk_at dksX0_removeValue_0 16 rfl rfl)
theorem dX0_removeValue_17 : decode cX0_removeValue 17 = .ok (.ireturn, 1) := dk_172 (dk_at dksX0_removeValue_0 17 rfl rfl)
theorem dX0_removeValue_18 : decode cX0_removeValue 18 = .ok (.astore 4, 2) := dk_58 4 (dk_at dksX0_removeValue_0 18 rfl rfl)
theorem dX0_removeValue_20 : decode cX0_removeValue 20 = .ok (.iconst 2, 1) := dk_5 (dk_at dksX0_removeValue_0 20 rfl rfl)
theorem dX0_removeValue_21 : decode cX0_removeValue 21 = .ok (.ireturn, 1) := dk_172 (dk_at dksX0_removeValue_0 21 rfl rfl)
theorem dX0_removeValue_22 : decode cX0_removeValue 22 = .ok (.iconst 0, 1) := dk_3 (dk_at dksX0_removeValue_0 22 rfl rfl)
theorem dX0_removeValue_23 : decode cX0_removeValue 23 = .ok (.ireturn, 1) := dk_172 (dk_at dksX0_removeValue_0 23 rfl rfl)
abbrev cX0_removeAll : ByteArray := method_36_code
def yX0_removeAll : MethodName := ⟨RX0, "removeAll", "(LTwinrow;IILTwinrowLaw$Out;)I"⟩
def dkwX0_removeAll_0 : List UInt8 := [45, 42, 27, 28, 182, 0, 135, 133, 181, 0, 13, 167, 0, 7, 58, 4, 4, 172, 3, 172]
abbrev dktX0_removeAll_0 : List UInt8 := dkwX0_removeAll_0 ++ []
theorem dksX0_removeAll_0 : cX0_removeAll.data.toList.drop 0 = dktX0_removeAll_0 := by decide +kernel
theorem dX0_removeAll_0 : decode cX0_removeAll 0 = .ok (.aload_n 3, 1) := dk_45 (dk_at dksX0_removeAll_0 0 rfl rfl)
theorem dX0_removeAll_1 : decode cX0_removeAll 1 = .ok (.aload_n 0, 1) := dk_42 (dk_at dksX0_removeAll_0 1 rfl rfl)
theorem dX0_removeAll_2 : decode cX0_removeAll 2 = .ok (.iload_n 1, 1) := dk_27 (dk_at dksX0_removeAll_0 2 rfl rfl)
theorem dX0_removeAll_3 : decode cX0_removeAll 3 = .ok (.iload_n 2, 1) := dk_28 (dk_at dksX0_removeAll_0 3 rfl rfl)
theorem dX0_removeAll_4 : decode cX0_removeAll 4 = .ok (.invokevirtual 135, 3) := dk_182 0 135 (dk_at dksX0_removeAll_0 4 rfl rfl)
theorem dX0_removeAll_7 : decode cX0_removeAll 7 = .ok (.i2l, 1) := dk_133 (dk_at dksX0_removeAll_0 7 rfl rfl)
theorem dX0_removeAll_8 : decode cX0_removeAll 8 = .ok (.putfield 13, 3) := dk_181 0 13 (dk_at dksX0_removeAll_0 8 rfl rfl)
theorem dX0_removeAll_11 : decode cX0_removeAll 11 = .ok (.goto 7, 3) := dk_167 0 7 (dk_at dksX0_removeAll_0 11 rfl rfl)
theorem dX0_removeAll_14 : decode cX0_removeAll 14 = .ok (.astore 4, 2) := dk_58 4 (dk_at dksX0_removeAll_0 14 rfl rfl)
theorem dX0_removeAll_16 : decode cX0_removeAll 16 = .ok (.iconst 1, 1) := dk_4 (dk_at dksX0_removeAll_0 16 rfl rfl)
theorem dX0_removeAll_17 : decode cX0_removeAll 17 = .ok (.ireturn, 1) := dk_172 (dk_at dksX0_removeAll_0 17 rfl rfl)
theorem dX0_removeAll_18 : decode cX0_removeAll 18 = .ok (.iconst 0, 1) := dk_3 (dk_at dksX0_removeAll_0 18 rfl rfl)
theorem dX0_removeAll_19 : decode cX0_removeAll 19 = .ok (.ireturn, 1) := dk_172 (dk_at dksX0_removeAll_0 19 rfl rfl)
abbrev cX0_retainAll : ByteArray := method_37_code
def yX0_retainAll : MethodName := ⟨RX0, "retainAll", "(LTwinrow;IILTwinrowLaw$Out;)I"⟩
def dkwX0_retainAll_0 : List UInt8 := [45, 42, 27, 28, 182, 0, 138, 133, 181, 0, 13, 167, 0, 7, 58, 4, 4, 172, 3, 172]
abbrev dktX0_retainAll_0 : List UInt8 := dkwX0_retainAll_0 ++ []
theorem dksX0_retainAll_0 : cX0_retainAll.data.toList.drop 0 = dktX0_retainAll_0 := by decide +kernel
theorem dX0_retainAll_0 : decode cX0_retainAll 0 = .ok (.aload_n 3, 1) := dk_45 (dk_at dksX0_retainAll_0 0 rfl rfl)
theorem dX0_retainAll_1 : decode cX0_retainAll 1 = .ok (.aload_n 0, 1) := dk_42 (dk_at dksX0_retainAll_0 1 rfl rfl)
theorem dX0_retainAll_2 : decode cX0_retainAll 2 = .ok (.iload_n 1, 1) := dk_27 (dk_at dksX0_retainAll_0 2 rfl rfl)
theorem dX0_retainAll_3 : decode cX0_retainAll 3 = .ok (.iload_n 2, 1) := dk_28 (dk_at dksX0_retainAll_0 3 rfl rfl)
theorem dX0_retainAll_4 : decode cX0_retainAll 4 = .ok (.invokevirtual 138, 3) := dk_182 0 138 (dk_at dksX0_retainAll_0 4 rfl rfl)
theorem dX0_retainAll_7 : decode cX0_retainAll 7 = .ok (.i2l, 1) := dk_133 (dk_at dksX0_retainAll_0 7 rfl rfl)
theorem dX0_retainAll_8 : decode cX0_retainAll 8 = .ok (.putfield 13, 3) := dk_181 0 13 (dk_at dksX0_retainAll_0 8 rfl rfl)
theorem dX0_retainAll_11 : decode cX0_retainAll 11 = .ok (.goto 7, 3) := dk_167 0 7 (dk_at dksX0_retainAll_0 11 rfl rfl)
theorem dX0_retainAll_14 : decode cX0_retainAll 14 = .ok (.astore 4, 2) := dk_58 4 (dk_at dksX0_retainAll_0 14 rfl rfl)
theorem dX0_retainAll_16 : decode cX0_retainAll 16 = .ok (.iconst 1, 1) := dk_4 (dk_at dksX0_retainAll_0 16 rfl rfl)
theorem dX0_retainAll_17 : decode cX0_retainAll 17 = .ok (.ireturn, 1) := dk_172 (dk_at dksX0_retainAll_0 17 rfl rfl)
theorem dX0_retainAll_18 : decode cX0_retainAll 18 = .ok (.iconst 0, 1) := dk_3 (dk_at dksX0_retainAll_0 18 rfl rfl)
theorem dX0_retainAll_19 : decode cX0_retainAll 19 = .ok (.ireturn, 1) := dk_172 (dk_at dksX0_retainAll_0 19 rfl rfl)
abbrev cX0_removeIf : ByteArray := method_38_code
def yX0_removeIf : MethodName := ⟨RX0, "removeIf", "(LTwinrow;IIILTwinrowLaw$Out;)I"⟩
def dkwX0_removeIf_1 : List UInt8 := [3, 172]
abbrev dktX0_removeIf_1 : List UInt8 := dkwX0_removeIf_1 ++ []
def dkwX0_removeIf_0 : List UInt8 := [25, 4, 42, 27, 28, 29, 182, 0, 141, 133, 181, 0, 13, 167, 0, 11, 58, 5, 4, 172, 58, 5, 5, 172]
abbrev dktX0_removeIf_0 : List UInt8 := dkwX0_removeIf_0 ++ dktX0_removeIf_1
theorem dksX0_removeIf_0 : cX0_removeIf.data.toList.drop 0 = dktX0_removeIf_0 := by decide +kernel
theorem dksX0_removeIf_1 : cX0_removeIf.data.toList.drop 24 = dktX0_removeIf_1 := dk_seg dksX0_removeIf_0 24 rfl rfl
theorem dX0_removeIf_0 : decode cX0_removeIf 0 = .ok (.aload 4, 2) := dk_25 4 (dk_at dksX0_removeIf_0 0 rfl rfl)
theorem dX0_removeIf_2 : decode cX0_removeIf 2 = .ok (.aload_n 0, 1) := dk_42 (dk_at dksX0_removeIf_0 2 rfl rfl)
theorem dX0_removeIf_3 : decode cX0_removeIf 3 = .ok (.iload_n 1, 1) := dk_27 (dk_at dksX0_removeIf_0 3 rfl rfl)
theorem dX0_removeIf_4 : decode cX0_removeIf 4 = .ok (.iload_n 2, 1) := dk_28 (dk_at dksX0_removeIf_0 4 rfl rfl)
theorem dX0_removeIf_5 : decode cX0_removeIf 5 = .ok (.iload_n 3, 1) := dk_29 (dk_at dksX0_removeIf_0 5 rfl rfl)
theorem dX0_removeIf_6 : decode cX0_removeIf 6 = .ok (.invokevirtual 141, 3) := dk_182 0 141 (dk_at dksX0_removeIf_0 6 rfl rfl)
theorem dX0_removeIf_9 : decode cX0_removeIf 9 = .ok (.i2l, 1) := dk_133 (dk_at dksX0_removeIf_0 9 rfl rfl)
theorem dX0_removeIf_10 : decode cX0_removeIf 10 = .ok (.putfield 13, 3) := dk_181 0 13 (dk_at dksX0_removeIf_0 10 rfl rfl)
theorem dX0_removeIf_13 : decode cX0_removeIf 13 = .ok (.goto 11, 3) := dk_167 0 11 (dk_at dksX0_removeIf_0 13 rfl rfl)
theorem dX0_removeIf_16 : decode cX0_removeIf 16 = .ok (.astore 5, 2) := dk_58 5 (dk_at dksX0_removeIf_0 16 rfl rfl)
theorem dX0_removeIf_18 : decode cX0_removeIf 18 = .ok (.iconst 1, 1) := dk_4 (dk_at dksX0_removeIf_0 18 rfl rfl)
theorem dX0_removeIf_19 : decode cX0_removeIf 19 = .ok (.ireturn, 1) := dk_172 (dk_at dksX0_removeIf_0 19 rfl rfl)
theorem dX0_removeIf_20 : decode cX0_removeIf 20 = .ok (.astore 5, 2) := dk_58 5 (dk_at dksX0_removeIf_0 20 rfl rfl)
theorem dX0_removeIf_22 : decode cX0_removeIf 22 = .ok (.iconst 2, 1) := dk_5 (dk_at dksX0_removeIf_0 22 rfl rfl)
theorem dX0_removeIf_23 : decode cX0_removeIf 23 = .ok (.ireturn, 1) := dk_172 (dk_at dksX0_removeIf_0 23 rfl rfl)
theorem dX0_removeIf_24 : decode cX0_removeIf 24 = .ok (.iconst 0, 1) := dk_3 (dk_at dksX0_removeIf_1 0 rfl rfl)
theorem dX0_removeIf_25 : decode cX0_removeIf 25 = .ok (.ireturn, 1) := dk_172 (dk_at dksX0_removeIf_1 1 rfl rfl)
abbrev cX0_clear : ByteArray := method_39_code
def yX0_clear : MethodName := ⟨RX0, "clear", "(LTwinrow;ILTwinrowLaw$Out;)I"⟩
def dkwX0_clear_0 : List UInt8 := [44, 42, 27, 182, 0, 144, 133, 181, 0, 13, 167, 0, 6, 78, 4, 172, 3, 172]
abbrev dktX0_clear_0 : List UInt8 := dkwX0_clear_0 ++ []
theorem dksX0_clear_0 : cX0_clear.data.toList.drop 0 = dktX0_clear_0 := by decide +kernel
theorem dX0_clear_0 : decode cX0_clear 0 = .ok (.aload_n 2, 1) := dk_44 (dk_at dksX0_clear_0 0 rfl rfl)
theorem dX0_clear_1 : decode cX0_clear 1 = .ok (.aload_n 0, 1) := dk_42 (dk_at dksX0_clear_0 1 rfl rfl)
theorem dX0_clear_2 : decode cX0_clear 2 = .ok (.iload_n 1, 1) := dk_27 (dk_at dksX0_clear_0 2 rfl rfl)
theorem dX0_clear_3 : decode cX0_clear 3 = .ok (.invokevirtual 144, 3) := dk_182 0 144 (dk_at dksX0_clear_0 3 rfl rfl)
theorem dX0_clear_6 : decode cX0_clear 6 = .ok (.i2l, 1) := dk_133 (dk_at dksX0_clear_0 6 rfl rfl)
theorem dX0_clear_7 : decode cX0_clear 7 = .ok (.putfield 13, 3) := dk_181 0 13 (dk_at dksX0_clear_0 7 rfl rfl)
theorem dX0_clear_10 : decode cX0_clear 10 = .ok (.goto 6, 3) := dk_167 0 6 (dk_at dksX0_clear_0 10 rfl rfl)
theorem dX0_clear_13 : decode cX0_clear 13 = .ok (.astore_n 3, 1) := dk_78 (dk_at dksX0_clear_0 13 rfl rfl)
theorem dX0_clear_14 : decode cX0_clear 14 = .ok (.iconst 1, 1) := dk_4 (dk_at dksX0_clear_0 14 rfl rfl)
theorem dX0_clear_15 : decode cX0_clear 15 = .ok (.ireturn, 1) := dk_172 (dk_at dksX0_clear_0 15 rfl rfl)
theorem dX0_clear_16 : decode cX0_clear 16 = .ok (.iconst 0, 1) := dk_3 (dk_at dksX0_clear_0 16 rfl rfl)
theorem dX0_clear_17 : decode cX0_clear 17 = .ok (.ireturn, 1) := dk_172 (dk_at dksX0_clear_0 17 rfl rfl)
abbrev cX0_walkChange : ByteArray := method_40_code
def yX0_walkChange : MethodName := ⟨RX0, "walkChange", "(LTwinrow;IIILTwinrowLaw$Out;)I"⟩
def dkwX0_walkChange_1 : List UInt8 := [3, 172]
abbrev dktX0_walkChange_1 : List UInt8 := dkwX0_walkChange_1 ++ []
def dkwX0_walkChange_0 : List UInt8 := [25, 4, 42, 27, 28, 29, 182, 0, 147, 133, 181, 0, 13, 167, 0, 11, 58, 5, 4, 172, 58, 5, 5, 172]
abbrev dktX0_walkChange_0 : List UInt8 := dkwX0_walkChange_0 ++ dktX0_walkChange_1
theorem dksX0_walkChange_0 : cX0_walkChange.data.toList.drop 0 = dktX0_walkChange_0 := by decide +kernel
theorem dksX0_walkChange_1 : cX0_walkChange.data.toList.drop 24 = dktX0_walkChange_1 := dk_seg dksX0_walkChange_0 24 rfl rfl
theorem dX0_walkChange_0 : decode cX0_walkChange 0 = .ok (.aload 4, 2) := dk_25 4 (dk_at dksX0_walkChange_0 0 rfl rfl)
theorem dX0_walkChange_2 : decode cX0_walkChange 2 = .ok (.aload_n 0, 1) := dk_42 (dk_at dksX0_walkChange_0 2 rfl rfl)
theorem dX0_walkChange_3 : decode cX0_walkChange 3 = .ok (.iload_n 1, 1) := dk_27 (dk_at dksX0_walkChange_0 3 rfl rfl)
theorem dX0_walkChange_4 : decode cX0_walkChange 4 = .ok (.iload_n 2, 1) := dk_28 (dk_at dksX0_walkChange_0 4 rfl rfl)
theorem dX0_walkChange_5 : decode cX0_walkChange 5 = .ok (.iload_n 3, 1) := dk_29 (dk_at dksX0_walkChange_0 5 rfl rfl)
theorem dX0_walkChange_6 : decode cX0_walkChange 6 = .ok (.invokevirtual 147, 3) := dk_182 0 147 (dk_at dksX0_walkChange_0 6 rfl rfl)
theorem dX0_walkChange_9 : decode cX0_walkChange 9 = .ok (.i2l, 1) := dk_133 (dk_at dksX0_walkChange_0 9 rfl rfl)
theorem dX0_walkChange_10 : decode cX0_walkChange 10 = .ok (.putfield 13, 3) := dk_181 0 13 (dk_at dksX0_walkChange_0 10 rfl rfl)
theorem dX0_walkChange_13 : decode cX0_walkChange 13 = .ok (.goto 11, 3) := dk_167 0 11 (dk_at dksX0_walkChange_0 13 rfl rfl)
theorem dX0_walkChange_16 : decode cX0_walkChange 16 = .ok (.astore 5, 2) := dk_58 5 (dk_at dksX0_walkChange_0 16 rfl rfl)
theorem dX0_walkChange_18 : decode cX0_walkChange 18 = .ok (.iconst 1, 1) := dk_4 (dk_at dksX0_walkChange_0 18 rfl rfl)
theorem dX0_walkChange_19 : decode cX0_walkChange 19 = .ok (.ireturn, 1) := dk_172 (dk_at dksX0_walkChange_0 19 rfl rfl)
theorem dX0_walkChange_20 : decode cX0_walkChange 20 = .ok (.astore 5, 2) := dk_58 5 (dk_at dksX0_walkChange_0 20 rfl rfl)
theorem dX0_walkChange_22 : decode cX0_walkChange 22 = .ok (.iconst 2, 1) := dk_5 (dk_at dksX0_walkChange_0 22 rfl rfl)
theorem dX0_walkChange_23 : decode cX0_walkChange 23 = .ok (.ireturn, 1) := dk_172 (dk_at dksX0_walkChange_0 23 rfl rfl)
theorem dX0_walkChange_24 : decode cX0_walkChange 24 = .ok (.iconst 0, 1) := dk_3 (dk_at dksX0_walkChange_1 0 rfl rfl)
theorem dX0_walkChange_25 : decode cX0_walkChange 25 = .ok (.ireturn, 1) := dk_172 (dk_at dksX0_walkChange_1 1 rfl rfl)
abbrev cX0_house : ByteArray := method_41_code
def yX0_house : MethodName := ⟨RX0, "house", "(LTwinrow;ILTwinrowLaw$Out;)I"⟩
def dkwX0_house_0 : List UInt8 := [44, 42, 27, 182, 0, 150, 133, 181, 0, 13, 167, 0, 6, 78, 4, 172, 3, 172]
abbrev dktX0_house_0 : List UInt8 := dkwX0_house_0 ++ []
theorem dksX0_house_0 : cX0_house.data.toList.drop 0 = dktX0_house_0 := by decide +kernel
theorem dX0_house_0 : decode cX0_house 0 = .ok (.aload_n 2, 1) := dk_44 (dk_at dksX0_house_0 0 rfl rfl)
theorem dX0_house_1 : decode cX0_house 1 = .ok (.aload_n 0, 1) := dk_42 (dk_at dksX0_house_0 1 rfl rfl)
theorem dX0_house_2 : decode cX0_house 2 = .ok (.iload_n 1, 1) := dk_27 (dk_at dksX0_house_0 2 rfl rfl)
theorem dX0_house_3 : decode cX0_house 3 = .ok (.invokevirtual 150, 3) := dk_182 0 150 (dk_at dksX0_house_0 3 rfl rfl)
theorem dX0_house_6 : decode cX0_house 6 = .ok (.i2l, 1) := dk_133 (dk_at dksX0_house_0 6 rfl rfl)
theorem dX0_house_7 : decode cX0_house 7 = .ok (.putfield 13, 3) := dk_181 0 13 (dk_at dksX0_house_0 7 rfl rfl)
theorem dX0_house_10 : decode cX0_house 10 = .ok (.goto 6, 3) := dk_167 0 6 (dk_at dksX0_house_0 10 rfl rfl)
theorem dX0_house_13 : decode cX0_house 13 = .ok (.astore_n 3, 1) := dk_78 (dk_at dksX0_house_0 13 rfl rfl)
theorem dX0_house_14 : decode cX0_house 14 = .ok (.iconst 1, 1) := dk_4 (dk_at dksX0_house_0 14 rfl rfl)
theorem dX0_house_15 : decode cX0_house 15 = .ok (.ireturn, 1) := dk_172 (dk_at dksX0_house_0 15 rfl rfl)
theorem dX0_house_16 : decode cX0_house 16 = .ok (.iconst 0, 1) := dk_3 (dk_at dksX0_house_0 16 rfl rfl)
theorem dX0_house_17 : decode cX0_house 17 = .ok (.ireturn, 1) := dk_172 (dk_at dksX0_house_0 17 rfl rfl)
abbrev cX0_rowOf : ByteArray := method_42_code
def yX0_rowOf : MethodName := ⟨RX0, "rowOf", "(LTwinrow;ILTwinrowLaw$Out;)I"⟩
def dkwX0_rowOf_0 : List UInt8 := [44, 42, 27, 182, 0, 153, 133, 181, 0, 13, 167, 0, 6, 78, 4, 172, 3, 172]
abbrev dktX0_rowOf_0 : List UInt8 := dkwX0_rowOf_0 ++ []
theorem dksX0_rowOf_0 : cX0_rowOf.data.toList.drop 0 = dktX0_rowOf_0 := by decide +kernel
theorem dX0_rowOf_0 : decode cX0_rowOf 0 = .ok (.aload_n 2, 1) := dk_44 (dk_at dksX0_rowOf_0 0 rfl rfl)
theorem dX0_rowOf_1 : decode cX0_rowOf 1 = .ok (.aload_n 0, 1) := dk_42 (dk_at dksX0_rowOf_0 1 rfl rfl)
theorem dX0_rowOf_2 : decode cX0_rowOf 2 = .ok (.iload_n 1, 1) := dk_27 (dk_at dksX0_rowOf_0 2 rfl rfl)
theorem dX0_rowOf_3 : decode cX0_rowOf 3 = .ok (.invokevirtual 153, 3) := dk_182 0 153 (dk_at dksX0_rowOf_0 3 rfl rfl)
theorem dX0_rowOf_6 : decode cX0_rowOf 6 = .ok (.i2l, 1) := dk_133 (dk_at dksX0_rowOf_0 6 rfl rfl)
theorem dX0_rowOf_7 : decode cX0_rowOf 7 = .ok (.putfield 13, 3) := dk_181 0 13 (dk_at dksX0_rowOf_0 7 rfl rfl)
theorem dX0_rowOf_10 : decode cX0_rowOf 10 = .ok (.goto 6, 3) := dk_167 0 6 (dk_at dksX0_rowOf_0 10 rfl rfl)
theorem dX0_rowOf_13 : decode cX0_rowOf 13 = .ok (.astore_n 3, 1) := dk_78 (dk_at dksX0_rowOf_0 13 rfl rfl)
theorem dX0_rowOf_14 : decode cX0_rowOf 14 = .ok (.iconst 1, 1) := dk_4 (dk_at dksX0_rowOf_0 14 rfl rfl)
theorem dX0_rowOf_15 : decode cX0_rowOf 15 = .ok (.ireturn, 1) := dk_172 (dk_at dksX0_rowOf_0 15 rfl rfl)
theorem dX0_rowOf_16 : decode cX0_rowOf 16 = .ok (.iconst 0, 1) := dk_3 (dk_at dksX0_rowOf_0 16 rfl rfl)
theorem dX0_rowOf_17 : decode cX0_rowOf 17 = .ok (.ireturn, 1) := dk_172 (dk_at dksX0_rowOf_0 17 rfl rfl)
abbrev cX0_begin : ByteArray := method_43_code
def yX0_begin : MethodName := ⟨RX0, "begin", "(LTwinrow;ILTwinrowLaw$Out;)I"⟩
def dkwX0_begin_0 : List UInt8 := [44, 42, 27, 182, 0, 156, 133, 181, 0, 13, 167, 0, 6, 78, 4, 172, 3, 172]
abbrev dktX0_begin_0 : List UInt8 := dkwX0_begin_0 ++ []
theorem dksX0_begin_0 : cX0_begin.data.toList.drop 0 = dktX0_begin_0 := by decide +kernel
theorem dX0_begin_0 : decode cX0_begin 0 = .ok (.aload_n 2, 1) := dk_44 (dk_at dksX0_begin_0 0 rfl rfl)
theorem dX0_begin_1 : decode cX0_begin 1 = .ok (.aload_n 0, 1) := dk_42 (dk_at dksX0_begin_0 1 rfl rfl)
theorem dX0_begin_2 : decode cX0_begin 2 = .ok (.iload_n 1, 1) := dk_27 (dk_at dksX0_begin_0 2 rfl rfl)
theorem dX0_begin_3 : decode cX0_begin 3 = .ok (.invokevirtual 156, 3) := dk_182 0 156 (dk_at dksX0_begin_0 3 rfl rfl)
theorem dX0_begin_6 : decode cX0_begin 6 = .ok (.i2l, 1) := dk_133 (dk_at dksX0_begin_0 6 rfl rfl)
theorem dX0_begin_7 : decode cX0_begin 7 = .ok (.putfield 13, 3) := dk_181 0 13 (dk_at dksX0_begin_0 7 rfl rfl)
theorem dX0_begin_10 : decode cX0_begin 10 = .ok (.goto 6, 3) := dk_167 0 6 (dk_at dksX0_begin_0 10 rfl rfl)
theorem dX0_begin_13 : decode cX0_begin 13 = .ok (.astore_n 3, 1) := dk_78 (dk_at dksX0_begin_0 13 rfl rfl)
theorem dX0_begin_14 : decode cX0_begin 14 = .ok (.iconst 1, 1) := dk_4 (dk_at dksX0_begin_0 14 rfl rfl)
theorem dX0_begin_15 : decode cX0_begin 15 = .ok (.ireturn, 1) := dk_172 (dk_at dksX0_begin_0 15 rfl rfl)
theorem dX0_begin_16 : decode cX0_begin 16 = .ok (.iconst 0, 1) := dk_3 (dk_at dksX0_begin_0 16 rfl rfl)
theorem dX0_begin_17 : decode cX0_begin 17 = .ok (.ireturn, 1) := dk_172 (dk_at dksX0_begin_0 17 rfl rfl)
theorem q55 : (Jvm.Cond.initialized "TwinrowLaw") ∈ lw_all := lw_g (lw_at lw_m1 0 rfl) rfl
theorem q108 : (Jvm.Cond.classLink "TwinrowLaw" (8 : Nat) "Twinrow") ∈ lw_all := lw_g (lw_at lw_m1 53 rfl) rfl
theorem q110 : (Jvm.Cond.methodLink "TwinrowLaw" (159 : Nat) ({ cls := "Twinrow", name := "<init>", desc := "()V" } : Jvm.MethodName)) ∈ lw_all := lw_g (lw_at lw_m1 55 rfl) rfl
theorem q317 : (Jvm.Cond.methodLink "TwinrowLaw" (300 : Nat) ({ cls := "Twinrow", name := "knock", desc := "()I" } : Jvm.MethodName)) ∈ lw_all := lw_g (lw_at lw_m2 22 rfl) rfl
theorem q321 : (Jvm.Cond.methodLink "TwinrowLaw" (313 : Nat) ({ cls := "Twinrow", name := "isSound", desc := "()Z" } : Jvm.MethodName)) ∈ lw_all := lw_g (lw_at lw_m2 26 rfl) rfl
theorem q1869 : (Jvm.Cond.methodLink "TwinrowLaw" (318 : Nat) ({ cls := "Twinrow", name := "digest", desc := "()J" } : Jvm.MethodName)) ∈ lw_all := lw_g (lw_at lw_m8 134 rfl) rfl
theorem q1962 : (Jvm.Cond.classLink "TwinrowLaw" (14 : Nat) "TwinrowLaw$Out") ∈ lw_all := lw_g (lw_at lw_m8 227 rfl) rfl
theorem q1964 : (Jvm.Cond.methodLinkNest "TwinrowLaw" (163 : Nat) ({ cls := "TwinrowLaw$Out", name := "<init>", desc := "()V" } : Jvm.MethodName) "TwinrowLaw") ∈ lw_tbl := lw_at lw_m8 229 rfl
theorem q1968 : (Jvm.Cond.fieldLinkNest "TwinrowLaw" (13 : Nat) "TwinrowLaw$Out" "n" "J" "TwinrowLaw") ∈ lw_tbl := lw_at lw_m8 233 rfl
theorem q1969 : (Jvm.Cond.fieldLinkNest "TwinrowLaw" (52 : Nat) "TwinrowLaw$Out" "s" "Ljava/lang/String;" "TwinrowLaw") ∈ lw_tbl := lw_at lw_m8 234 rfl
theorem q1975 : (Jvm.Cond.methodLink "TwinrowLaw" (164 : Nat) ({ cls := "TwinrowLaw", name := "lay", desc := "(LTwinrow;IILTwinrowLaw$Out;)I" } : Jvm.MethodName)) ∈ lw_all := lw_g (lw_at lw_m9 0 rfl) rfl
theorem q1976 : (Jvm.Cond.static ({ cls := "TwinrowLaw", name := "lay", desc := "(LTwinrow;IILTwinrowLaw$Out;)I" } : Jvm.MethodName)) ∈ lw_all := lw_g (lw_at lw_m9 1 rfl) rfl
theorem q1977 : (Jvm.Cond.codeWith ({ cls := "TwinrowLaw", name := "lay", desc := "(LTwinrow;IILTwinrowLaw$Out;)I" } : Jvm.MethodName) method_2_code (5 : Nat) (Option.some Jvm.ClassFile.FieldType.int) [((0 : Nat), (11 : Nat), (14 : Nat), (19 : Nat)), ((0 : Nat), (11 : Nat), (18 : Nat), (21 : Nat))]) ∈ lw_all := lw_g (lw_at lw_m9 2 rfl) rfl
theorem q1978 : (Jvm.Cond.classLink "TwinrowLaw" (19 : Nat) "java/lang/IndexOutOfBoundsException") ∈ lw_all := lw_g (lw_at lw_m9 3 rfl) rfl
theorem q1994 : (Jvm.Cond.classLink "TwinrowLaw" (21 : Nat) "java/lang/IllegalArgumentException") ∈ lw_all := lw_g (lw_at lw_m9 19 rfl) rfl
theorem q1995 : (Jvm.Cond.methodLink "TwinrowLaw" (7 : Nat) ({ cls := "Twinrow", name := "lay", desc := "(II)I" } : Jvm.MethodName)) ∈ lw_all := lw_g (lw_at lw_m9 20 rfl) rfl
theorem q2019 : (Jvm.Cond.methodLink "TwinrowLaw" (174 : Nat) ({ cls := "TwinrowLaw", name := "put", desc := "(LTwinrow;IIILTwinrowLaw$Out;)I" } : Jvm.MethodName)) ∈ lw_all := lw_g (lw_at lw_m9 44 rfl) rfl
theorem q2020 : (Jvm.Cond.static ({ cls := "TwinrowLaw", name := "put", desc := "(LTwinrow;IIILTwinrowLaw$Out;)I" } : Jvm.MethodName)) ∈ lw_all := lw_g (lw_at lw_m9 45 rfl) rfl
theorem q2021 : (Jvm.Cond.codeWith ({ cls := "TwinrowLaw", name := "put", desc := "(LTwinrow;IIILTwinrowLaw$Out;)I" } : Jvm.MethodName) method_3_code (6 : Nat) (Option.some Jvm.ClassFile.FieldType.int) [((0 : Nat), (13 : Nat), (16 : Nat), (19 : Nat)), ((0 : Nat), (13 : Nat), (20 : Nat), (21 : Nat))]) ∈ lw_all := lw_g (lw_at lw_m9 46 rfl) rfl
theorem q2022 : (Jvm.Cond.methodLink "TwinrowLaw" (23 : Nat) ({ cls := "Twinrow", name := "put", desc := "(III)I" } : Jvm.MethodName)) ∈ lw_all := lw_g (lw_at lw_m9 47 rfl) rfl
theorem q2035 : (Jvm.Cond.methodLink "TwinrowLaw" (178 : Nat) ({ cls := "TwinrowLaw", name := "at", desc := "(LTwinrow;IILTwinrowLaw$Out;)I" } : Jvm.MethodName)) ∈ lw_all := lw_g (lw_at lw_m9 60 rfl) rfl
theorem q2036 : (Jvm.Cond.static ({ cls := "TwinrowLaw", name := "at", desc := "(LTwinrow;IILTwinrowLaw$Out;)I" } : Jvm.MethodName)) ∈ lw_all := lw_g (lw_at lw_m9 61 rfl) rfl
theorem q2037 : (Jvm.Cond.codeWith ({ cls := "TwinrowLaw", name := "at", desc := "(LTwinrow;IILTwinrowLaw$Out;)I" } : Jvm.MethodName) method_4_code (5 : Nat) (Option.some Jvm.ClassFile.FieldType.int) [((0 : Nat), (11 : Nat), (14 : Nat), (19 : Nat))]) ∈ lw_all := lw_g (lw_at lw_m9 62 rfl) rfl
theorem q2038 : (Jvm.Cond.methodLink "TwinrowLaw" (27 : Nat) ({ cls := "Twinrow", name := "at", desc := "(II)I" } : Jvm.MethodName)) ∈ lw_all := lw_g (lw_at lw_m9 63 rfl) rfl
theorem q2042 : (Jvm.Cond.methodLink "TwinrowLaw" (181 : Nat) ({ cls := "TwinrowLaw", name := "part", desc := "(LTwinrow;IIIILTwinrowLaw$Out;)I" } : Jvm.MethodName)) ∈ lw_all := lw_g (lw_at lw_m9 67 rfl) rfl
theorem q2043 : (Jvm.Cond.static ({ cls := "TwinrowLaw", name := "part", desc := "(LTwinrow;IIIILTwinrowLaw$Out;)I" } : Jvm.MethodName)) ∈ lw_all := lw_g (lw_at lw_m9 68 rfl) rfl
theorem q2044 : (Jvm.Cond.codeWith ({ cls := "TwinrowLaw", name := "part", desc := "(LTwinrow;IIIILTwinrowLaw$Out;)I" } : Jvm.MethodName) method_5_code (7 : Nat) (Option.some Jvm.ClassFile.FieldType.int) [((0 : Nat), (15 : Nat), (18 : Nat), (19 : Nat)), ((0 : Nat), (15 : Nat), (22 : Nat), (21 : Nat))]) ∈ lw_all := lw_g (lw_at lw_m9 69 rfl) rfl
theorem q2045 : (Jvm.Cond.methodLink "TwinrowLaw" (30 : Nat) ({ cls := "Twinrow", name := "part", desc := "(IIII)I" } : Jvm.MethodName)) ∈ lw_all := lw_g (lw_at lw_m9 70 rfl) rfl
theorem q2172 : (Jvm.Cond.methodLink "TwinrowLaw" (185 : Nat) ({ cls := "TwinrowLaw", name := "set", desc := "(LTwinrow;IIILTwinrowLaw$Out;)I" } : Jvm.MethodName)) ∈ lw_all := lw_g (lw_at lw_m9 197 rfl) rfl
theorem q2173 : (Jvm.Cond.static ({ cls := "TwinrowLaw", name := "set", desc := "(LTwinrow;IIILTwinrowLaw$Out;)I" } : Jvm.MethodName)) ∈ lw_all := lw_g (lw_at lw_m9 198 rfl) rfl
theorem q2174 : (Jvm.Cond.codeWith ({ cls := "TwinrowLaw", name := "set", desc := "(LTwinrow;IIILTwinrowLaw$Out;)I" } : Jvm.MethodName) method_6_code (6 : Nat) (Option.some Jvm.ClassFile.FieldType.int) [((0 : Nat), (13 : Nat), (16 : Nat), (19 : Nat)), ((0 : Nat), (13 : Nat), (20 : Nat), (21 : Nat))]) ∈ lw_all := lw_g (lw_at lw_m9 199 rfl) rfl
theorem q2175 : (Jvm.Cond.methodLink "TwinrowLaw" (34 : Nat) ({ cls := "Twinrow", name := "set", desc := "(III)I" } : Jvm.MethodName)) ∈ lw_all := lw_g (lw_at lw_m9 200 rfl) rfl
theorem q2216 : (Jvm.Cond.methodLink "TwinrowLaw" (188 : Nat) ({ cls := "TwinrowLaw", name := "get", desc := "(LTwinrow;IILTwinrowLaw$Out;)I" } : Jvm.MethodName)) ∈ lw_all := lw_g (lw_at lw_m10 1 rfl) rfl
theorem q2217 : (Jvm.Cond.static ({ cls := "TwinrowLaw", name := "get", desc := "(LTwinrow;IILTwinrowLaw$Out;)I" } : Jvm.MethodName)) ∈ lw_all := lw_g (lw_at lw_m10 2 rfl) rfl
theorem q2218 : (Jvm.Cond.codeWith ({ cls := "TwinrowLaw", name := "get", desc := "(LTwinrow;IILTwinrowLaw$Out;)I" } : Jvm.MethodName) method_7_code (5 : Nat) (Option.some Jvm.ClassFile.FieldType.int) [((0 : Nat), (11 : Nat), (14 : Nat), (19 : Nat))]) ∈ lw_all := lw_g (lw_at lw_m10 3 rfl) rfl
theorem q2219 : (Jvm.Cond.methodLink "TwinrowLaw" (37 : Nat) ({ cls := "Twinrow", name := "get", desc := "(II)I" } : Jvm.MethodName)) ∈ lw_all := lw_g (lw_at lw_m10 4 rfl) rfl
theorem q2223 : (Jvm.Cond.methodLink "TwinrowLaw" (191 : Nat) ({ cls := "TwinrowLaw", name := "length", desc := "(LTwinrow;ILTwinrowLaw$Out;)I" } : Jvm.MethodName)) ∈ lw_all := lw_g (lw_at lw_m10 8 rfl) rfl
theorem q2224 : (Jvm.Cond.static ({ cls := "TwinrowLaw", name := "length", desc := "(LTwinrow;ILTwinrowLaw$Out;)I" } : Jvm.MethodName)) ∈ lw_all := lw_g (lw_at lw_m10 9 rfl) rfl
theorem q2225 : (Jvm.Cond.codeWith ({ cls := "TwinrowLaw", name := "length", desc := "(LTwinrow;ILTwinrowLaw$Out;)I" } : Jvm.MethodName) method_8_code (4 : Nat) (Option.some Jvm.ClassFile.FieldType.int) [((0 : Nat), (10 : Nat), (13 : Nat), (19 : Nat))]) ∈ lw_all := lw_g (lw_at lw_m10 10 rfl) rfl
theorem q2226 : (Jvm.Cond.methodLink "TwinrowLaw" (40 : Nat) ({ cls := "Twinrow", name := "length", desc := "(I)I" } : Jvm.MethodName)) ∈ lw_all := lw_g (lw_at lw_m10 11 rfl) rfl
theorem q2230 : (Jvm.Cond.methodLink "TwinrowLaw" (195 : Nat) ({ cls := "TwinrowLaw", name := "isEmpty", desc := "(LTwinrow;ILTwinrowLaw$Out;)I" } : Jvm.MethodName)) ∈ lw_all := lw_g (lw_at lw_m10 15 rfl) rfl
theorem q2231 : (Jvm.Cond.static ({ cls := "TwinrowLaw", name := "isEmpty", desc := "(LTwinrow;ILTwinrowLaw$Out;)I" } : Jvm.MethodName)) ∈ lw_all := lw_g (lw_at lw_m10 16 rfl) rfl
theorem q2232 : (Jvm.Cond.codeWith ({ cls := "TwinrowLaw", name := "isEmpty", desc := "(LTwinrow;ILTwinrowLaw$Out;)I" } : Jvm.MethodName) method_9_code (4 : Nat) (Option.some Jvm.ClassFile.FieldType.int) [((0 : Nat), (17 : Nat), (20 : Nat), (19 : Nat))]) ∈ lw_all := lw_g (lw_at lw_m10 17 rfl) rfl
theorem q2233 : (Jvm.Cond.methodLink "TwinrowLaw" (44 : Nat) ({ cls := "Twinrow", name := "isEmpty", desc := "(I)Z" } : Jvm.MethodName)) ∈ lw_all := lw_g (lw_at lw_m10 18 rfl) rfl
theorem q2237 : (Jvm.Cond.methodLink "TwinrowLaw" (198 : Nat) ({ cls := "TwinrowLaw", name := "text", desc := "(LTwinrow;ILTwinrowLaw$Out;)I" } : Jvm.MethodName)) ∈ lw_all := lw_g (lw_at lw_m10 22 rfl) rfl
theorem q2238 : (Jvm.Cond.static ({ cls := "TwinrowLaw", name := "text", desc := "(LTwinrow;ILTwinrowLaw$Out;)I" } : Jvm.MethodName)) ∈ lw_all := lw_g (lw_at lw_m10 23 rfl) rfl
theorem q2239 : (Jvm.Cond.codeWith ({ cls := "TwinrowLaw", name := "text", desc := "(LTwinrow;ILTwinrowLaw$Out;)I" } : Jvm.MethodName) method_10_code (4 : Nat) (Option.some Jvm.ClassFile.FieldType.int) [((0 : Nat), (9 : Nat), (12 : Nat), (19 : Nat))]) ∈ lw_all := lw_g (lw_at lw_m10 24 rfl) rfl
theorem q2240 : (Jvm.Cond.methodLink "TwinrowLaw" (48 : Nat) ({ cls := "Twinrow", name := "text", desc := "(I)Ljava/lang/String;" } : Jvm.MethodName)) ∈ lw_all := lw_g (lw_at lw_m10 25 rfl) rfl
theorem q2244 : (Jvm.Cond.methodLink "TwinrowLaw" (207 : Nat) ({ cls := "TwinrowLaw", name := "back", desc := "(LTwinrow;ILTwinrowLaw$Out;)I" } : Jvm.MethodName)) ∈ lw_all := lw_g (lw_at lw_m10 29 rfl) rfl
theorem q2245 : (Jvm.Cond.static ({ cls := "TwinrowLaw", name := "back", desc := "(LTwinrow;ILTwinrowLaw$Out;)I" } : Jvm.MethodName)) ∈ lw_all := lw_g (lw_at lw_m10 30 rfl) rfl
theorem q2246 : (Jvm.Cond.codeWith ({ cls := "TwinrowLaw", name := "back", desc := "(LTwinrow;ILTwinrowLaw$Out;)I" } : Jvm.MethodName) method_11_code (4 : Nat) (Option.some Jvm.ClassFile.FieldType.int) [((0 : Nat), (9 : Nat), (12 : Nat), (19 : Nat))]) ∈ lw_all := lw_g (lw_at lw_m10 31 rfl) rfl
theorem q2247 : (Jvm.Cond.methodLink "TwinrowLaw" (56 : Nat) ({ cls := "Twinrow", name := "back", desc := "(I)Ljava/lang/String;" } : Jvm.MethodName)) ∈ lw_all := lw_g (lw_at lw_m10 32 rfl) rfl
theorem q2251 : (Jvm.Cond.methodLink "TwinrowLaw" (210 : Nat) ({ cls := "TwinrowLaw", name := "indexOf", desc := "(LTwinrow;IILTwinrowLaw$Out;)I" } : Jvm.MethodName)) ∈ lw_all := lw_g (lw_at lw_m10 36 rfl) rfl
theorem q2252 : (Jvm.Cond.static ({ cls := "TwinrowLaw", name := "indexOf", desc := "(LTwinrow;IILTwinrowLaw$Out;)I" } : Jvm.MethodName)) ∈ lw_all := lw_g (lw_at lw_m10 37 rfl) rfl
theorem q2253 : (Jvm.Cond.codeWith ({ cls := "TwinrowLaw", name := "indexOf", desc := "(LTwinrow;IILTwinrowLaw$Out;)I" } : Jvm.MethodName) method_12_code (5 : Nat) (Option.some Jvm.ClassFile.FieldType.int) [((0 : Nat), (11 : Nat), (14 : Nat), (19 : Nat)), ((0 : Nat), (11 : Nat), (18 : Nat), (21 : Nat))]) ∈ lw_all := lw_g (lw_at lw_m10 38 rfl) rfl
theorem q2254 : (Jvm.Cond.methodLink "TwinrowLaw" (59 : Nat) ({ cls := "Twinrow", name := "indexOf", desc := "(II)I" } : Jvm.MethodName)) ∈ lw_all := lw_g (lw_at lw_m10 39 rfl) rfl
theorem q2258 : (Jvm.Cond.methodLink "TwinrowLaw" (213 : Nat) ({ cls := "TwinrowLaw", name := "lastIndexOf", desc := "(LTwinrow;IILTwinrowLaw$Out;)I" } : Jvm.MethodName)) ∈ lw_all := lw_g (lw_at lw_m10 43 rfl) rfl
theorem q2259 : (Jvm.Cond.static ({ cls := "TwinrowLaw", name := "lastIndexOf", desc := "(LTwinrow;IILTwinrowLaw$Out;)I" } : Jvm.MethodName)) ∈ lw_all := lw_g (lw_at lw_m10 44 rfl) rfl
theorem q2260 : (Jvm.Cond.codeWith ({ cls := "TwinrowLaw", name := "lastIndexOf", desc := "(LTwinrow;IILTwinrowLaw$Out;)I" } : Jvm.MethodName) method_13_code (5 : Nat) (Option.some Jvm.ClassFile.FieldType.int) [((0 : Nat), (11 : Nat), (14 : Nat), (19 : Nat)), ((0 : Nat), (11 : Nat), (18 : Nat), (21 : Nat))]) ∈ lw_all := lw_g (lw_at lw_m10 45 rfl) rfl
theorem q2261 : (Jvm.Cond.methodLink "TwinrowLaw" (62 : Nat) ({ cls := "Twinrow", name := "lastIndexOf", desc := "(II)I" } : Jvm.MethodName)) ∈ lw_all := lw_g (lw_at lw_m10 46 rfl) rfl
theorem q2265 : (Jvm.Cond.methodLink "TwinrowLaw" (216 : Nat) ({ cls := "TwinrowLaw", name := "has", desc := "(LTwinrow;IILTwinrowLaw$Out;)I" } : Jvm.MethodName)) ∈ lw_all := lw_g (lw_at lw_m10 50 rfl) rfl
theorem q2266 : (Jvm.Cond.static ({ cls := "TwinrowLaw", name := "has", desc := "(LTwinrow;IILTwinrowLaw$Out;)I" } : Jvm.MethodName)) ∈ lw_all := lw_g (lw_at lw_m10 51 rfl) rfl
theorem q2267 : (Jvm.Cond.codeWith ({ cls := "TwinrowLaw", name := "has", desc := "(LTwinrow;IILTwinrowLaw$Out;)I" } : Jvm.MethodName) method_14_code (5 : Nat) (Option.some Jvm.ClassFile.FieldType.int) [((0 : Nat), (18 : Nat), (21 : Nat), (19 : Nat)), ((0 : Nat), (18 : Nat), (25 : Nat), (21 : Nat))]) ∈ lw_all := lw_g (lw_at lw_m10 52 rfl) rfl
theorem q2268 : (Jvm.Cond.methodLink "TwinrowLaw" (65 : Nat) ({ cls := "Twinrow", name := "has", desc := "(II)Z" } : Jvm.MethodName)) ∈ lw_all := lw_g (lw_at lw_m10 53 rfl) rfl
theorem q2314 : (Jvm.Cond.methodLink "TwinrowLaw" (219 : Nat) ({ cls := "TwinrowLaw", name := "often", desc := "(LTwinrow;IILTwinrowLaw$Out;)I" } : Jvm.MethodName)) ∈ lw_all := lw_g (lw_at lw_m10 99 rfl) rfl
theorem q2315 : (Jvm.Cond.static ({ cls := "TwinrowLaw", name := "often", desc := "(LTwinrow;IILTwinrowLaw$Out;)I" } : Jvm.MethodName)) ∈ lw_all := lw_g (lw_at lw_m10 100 rfl) rfl
theorem q2316 : (Jvm.Cond.codeWith ({ cls := "TwinrowLaw", name := "often", desc := "(LTwinrow;IILTwinrowLaw$Out;)I" } : Jvm.MethodName) method_15_code (5 : Nat) (Option.some Jvm.ClassFile.FieldType.int) [((0 : Nat), (11 : Nat), (14 : Nat), (19 : Nat)), ((0 : Nat), (11 : Nat), (18 : Nat), (21 : Nat))]) ∈ lw_all := lw_g (lw_at lw_m10 101 rfl) rfl
theorem q2317 : (Jvm.Cond.methodLink "TwinrowLaw" (69 : Nat) ({ cls := "Twinrow", name := "often", desc := "(II)I" } : Jvm.MethodName)) ∈ lw_all := lw_g (lw_at lw_m10 102 rfl) rfl
theorem q2343 : (Jvm.Cond.methodLink "TwinrowLaw" (222 : Nat) ({ cls := "TwinrowLaw", name := "hasAll", desc := "(LTwinrow;IILTwinrowLaw$Out;)I" } : Jvm.MethodName)) ∈ lw_all := lw_g (lw_at lw_m10 128 rfl) rfl
theorem q2344 : (Jvm.Cond.static ({ cls := "TwinrowLaw", name := "hasAll", desc := "(LTwinrow;IILTwinrowLaw$Out;)I" } : Jvm.MethodName)) ∈ lw_all := lw_g (lw_at lw_m10 129 rfl) rfl
theorem q2345 : (Jvm.Cond.codeWith ({ cls := "TwinrowLaw", name := "hasAll", desc := "(LTwinrow;IILTwinrowLaw$Out;)I" } : Jvm.MethodName) method_16_code (5 : Nat) (Option.some Jvm.ClassFile.FieldType.int) [((0 : Nat), (18 : Nat), (21 : Nat), (19 : Nat))]) ∈ lw_all := lw_g (lw_at lw_m10 130 rfl) rfl
theorem q2346 : (Jvm.Cond.methodLink "TwinrowLaw" (72 : Nat) ({ cls := "Twinrow", name := "hasAll", desc := "(II)Z" } : Jvm.MethodName)) ∈ lw_all := lw_g (lw_at lw_m10 131 rfl) rfl
theorem q2370 : (Jvm.Cond.methodLink "TwinrowLaw" (225 : Nat) ({ cls := "TwinrowLaw", name := "areApart", desc := "(LTwinrow;IILTwinrowLaw$Out;)I" } : Jvm.MethodName)) ∈ lw_all := lw_g (lw_at lw_m10 155 rfl) rfl
theorem q2371 : (Jvm.Cond.static ({ cls := "TwinrowLaw", name := "areApart", desc := "(LTwinrow;IILTwinrowLaw$Out;)I" } : Jvm.MethodName)) ∈ lw_all := lw_g (lw_at lw_m10 156 rfl) rfl
theorem q2372 : (Jvm.Cond.codeWith ({ cls := "TwinrowLaw", name := "areApart", desc := "(LTwinrow;IILTwinrowLaw$Out;)I" } : Jvm.MethodName) method_17_code (5 : Nat) (Option.some Jvm.ClassFile.FieldType.int) [((0 : Nat), (18 : Nat), (21 : Nat), (19 : Nat))]) ∈ lw_all := lw_g (lw_at lw_m10 157 rfl) rfl
theorem q2373 : (Jvm.Cond.methodLink "TwinrowLaw" (75 : Nat) ({ cls := "Twinrow", name := "areApart", desc := "(II)Z" } : Jvm.MethodName)) ∈ lw_all := lw_g (lw_at lw_m10 158 rfl) rfl
theorem q2399 : (Jvm.Cond.methodLink "TwinrowLaw" (228 : Nat) ({ cls := "TwinrowLaw", name := "indexOfAll", desc := "(LTwinrow;IILTwinrowLaw$Out;)I" } : Jvm.MethodName)) ∈ lw_all := lw_g (lw_at lw_m10 184 rfl) rfl
theorem q2400 : (Jvm.Cond.static ({ cls := "TwinrowLaw", name := "indexOfAll", desc := "(LTwinrow;IILTwinrowLaw$Out;)I" } : Jvm.MethodName)) ∈ lw_all := lw_g (lw_at lw_m10 185 rfl) rfl
theorem q2401 : (Jvm.Cond.codeWith ({ cls := "TwinrowLaw", name := "indexOfAll", desc := "(LTwinrow;IILTwinrowLaw$Out;)I" } : Jvm.MethodName) method_18_code (5 : Nat) (Option.some Jvm.ClassFile.FieldType.int) [((0 : Nat), (11 : Nat), (14 : Nat), (19 : Nat))]) ∈ lw_all := lw_g (lw_at lw_m10 186 rfl) rfl
theorem q2402 : (Jvm.Cond.methodLink "TwinrowLaw" (78 : Nat) ({ cls := "Twinrow", name := "indexOfAll", desc := "(II)I" } : Jvm.MethodName)) ∈ lw_all := lw_g (lw_at lw_m10 187 rfl) rfl
theorem q2423 : (Jvm.Cond.methodLink "TwinrowLaw" (231 : Nat) ({ cls := "TwinrowLaw", name := "areEqual", desc := "(LTwinrow;IILTwinrowLaw$Out;)I" } : Jvm.MethodName)) ∈ lw_all := lw_g (lw_at lw_m10 208 rfl) rfl
theorem q2424 : (Jvm.Cond.static ({ cls := "TwinrowLaw", name := "areEqual", desc := "(LTwinrow;IILTwinrowLaw$Out;)I" } : Jvm.MethodName)) ∈ lw_all := lw_g (lw_at lw_m10 209 rfl) rfl
theorem q2425 : (Jvm.Cond.codeWith ({ cls := "TwinrowLaw", name := "areEqual", desc := "(LTwinrow;IILTwinrowLaw$Out;)I" } : Jvm.MethodName) method_19_code (5 : Nat) (Option.some Jvm.ClassFile.FieldType.int) [((0 : Nat), (18 : Nat), (21 : Nat), (19 : Nat))]) ∈ lw_all := lw_g (lw_at lw_m10 210 rfl) rfl
theorem q2426 : (Jvm.Cond.methodLink "TwinrowLaw" (81 : Nat) ({ cls := "Twinrow", name := "areEqual", desc := "(II)Z" } : Jvm.MethodName)) ∈ lw_all := lw_g (lw_at lw_m10 211 rfl) rfl
theorem q2430 : (Jvm.Cond.methodLink "TwinrowLaw" (234 : Nat) ({ cls := "TwinrowLaw", name := "code", desc := "(LTwinrow;ILTwinrowLaw$Out;)I" } : Jvm.MethodName)) ∈ lw_all := lw_g (lw_at lw_m10 215 rfl) rfl
theorem q2431 : (Jvm.Cond.static ({ cls := "TwinrowLaw", name := "code", desc := "(LTwinrow;ILTwinrowLaw$Out;)I" } : Jvm.MethodName)) ∈ lw_all := lw_g (lw_at lw_m10 216 rfl) rfl
theorem q2432 : (Jvm.Cond.codeWith ({ cls := "TwinrowLaw", name := "code", desc := "(LTwinrow;ILTwinrowLaw$Out;)I" } : Jvm.MethodName) method_20_code (4 : Nat) (Option.some Jvm.ClassFile.FieldType.int) [((0 : Nat), (10 : Nat), (13 : Nat), (19 : Nat))]) ∈ lw_all := lw_g (lw_at lw_m10 217 rfl) rfl
theorem q2433 : (Jvm.Cond.methodLink "TwinrowLaw" (84 : Nat) ({ cls := "Twinrow", name := "code", desc := "(I)I" } : Jvm.MethodName)) ∈ lw_all := lw_g (lw_at lw_m10 218 rfl) rfl
theorem q2437 : (Jvm.Cond.methodLink "TwinrowLaw" (237 : Nat) ({ cls := "TwinrowLaw", name := "walk", desc := "(LTwinrow;IIIZLTwinrowLaw$Out;)I" } : Jvm.MethodName)) ∈ lw_all := lw_g (lw_at lw_m10 222 rfl) rfl
theorem q2438 : (Jvm.Cond.static ({ cls := "TwinrowLaw", name := "walk", desc := "(LTwinrow;IIIZLTwinrowLaw$Out;)I" } : Jvm.MethodName)) ∈ lw_all := lw_g (lw_at lw_m10 223 rfl) rfl
theorem q2439 : (Jvm.Cond.codeWith ({ cls := "TwinrowLaw", name := "walk", desc := "(LTwinrow;IIIZLTwinrowLaw$Out;)I" } : Jvm.MethodName) method_21_code (7 : Nat) (Option.some Jvm.ClassFile.FieldType.int) [((0 : Nat), (14 : Nat), (17 : Nat), (19 : Nat)), ((0 : Nat), (14 : Nat), (21 : Nat), (21 : Nat))]) ∈ lw_all := lw_g (lw_at lw_m10 224 rfl) rfl
theorem q2440 : (Jvm.Cond.methodLink "TwinrowLaw" (87 : Nat) ({ cls := "Twinrow", name := "walk", desc := "(IIIZ)Ljava/lang/String;" } : Jvm.MethodName)) ∈ lw_all := lw_g (lw_at lw_m10 225 rfl) rfl
theorem q2453 : (Jvm.Cond.methodLink "TwinrowLaw" (241 : Nat) ({ cls := "TwinrowLaw", name := "sum", desc := "(LTwinrow;ILTwinrowLaw$Out;)I" } : Jvm.MethodName)) ∈ lw_all := lw_g (lw_at lw_m10 238 rfl) rfl
theorem q2454 : (Jvm.Cond.static ({ cls := "TwinrowLaw", name := "sum", desc := "(LTwinrow;ILTwinrowLaw$Out;)I" } : Jvm.MethodName)) ∈ lw_all := lw_g (lw_at lw_m10 239 rfl) rfl
theorem q2455 : (Jvm.Cond.codeWith ({ cls := "TwinrowLaw", name := "sum", desc := "(LTwinrow;ILTwinrowLaw$Out;)I" } : Jvm.MethodName) method_22_code (4 : Nat) (Option.some Jvm.ClassFile.FieldType.int) [((0 : Nat), (10 : Nat), (13 : Nat), (19 : Nat))]) ∈ lw_all := lw_g (lw_at lw_m11 0 rfl) rfl
theorem q2456 : (Jvm.Cond.methodLink "TwinrowLaw" (91 : Nat) ({ cls := "Twinrow", name := "sum", desc := "(I)I" } : Jvm.MethodName)) ∈ lw_all := lw_g (lw_at lw_m11 1 rfl) rfl
theorem q2460 : (Jvm.Cond.methodLink "TwinrowLaw" (244 : Nat) ({ cls := "TwinrowLaw", name := "walkSet", desc := "(LTwinrow;IIIIZLTwinrowLaw$Out;)I" } : Jvm.MethodName)) ∈ lw_all := lw_g (lw_at lw_m11 5 rfl) rfl
theorem q2461 : (Jvm.Cond.static ({ cls := "TwinrowLaw", name := "walkSet", desc := "(LTwinrow;IIIIZLTwinrowLaw$Out;)I" } : Jvm.MethodName)) ∈ lw_all := lw_g (lw_at lw_m11 6 rfl) rfl
theorem q2462 : (Jvm.Cond.codeWith ({ cls := "TwinrowLaw", name := "walkSet", desc := "(LTwinrow;IIIIZLTwinrowLaw$Out;)I" } : Jvm.MethodName) method_23_code (8 : Nat) (Option.some Jvm.ClassFile.FieldType.int) [((0 : Nat), (17 : Nat), (20 : Nat), (19 : Nat)), ((0 : Nat), (17 : Nat), (24 : Nat), (21 : Nat))]) ∈ lw_all := lw_g (lw_at lw_m11 7 rfl) rfl
theorem q2463 : (Jvm.Cond.methodLink "TwinrowLaw" (94 : Nat) ({ cls := "Twinrow", name := "walkSet", desc := "(IIIIZ)I" } : Jvm.MethodName)) ∈ lw_all := lw_g (lw_at lw_m11 8 rfl) rfl
theorem q2531 : (Jvm.Cond.methodLink "TwinrowLaw" (248 : Nat) ({ cls := "TwinrowLaw", name := "replaceAll", desc := "(LTwinrow;IIILTwinrowLaw$Out;)I" } : Jvm.MethodName)) ∈ lw_all := lw_g (lw_at lw_m11 76 rfl) rfl
theorem q2532 : (Jvm.Cond.static ({ cls := "TwinrowLaw", name := "replaceAll", desc := "(LTwinrow;IIILTwinrowLaw$Out;)I" } : Jvm.MethodName)) ∈ lw_all := lw_g (lw_at lw_m11 77 rfl) rfl
theorem q2533 : (Jvm.Cond.codeWith ({ cls := "TwinrowLaw", name := "replaceAll", desc := "(LTwinrow;IIILTwinrowLaw$Out;)I" } : Jvm.MethodName) method_24_code (6 : Nat) (Option.some Jvm.ClassFile.FieldType.int) [((0 : Nat), (13 : Nat), (16 : Nat), (19 : Nat)), ((0 : Nat), (13 : Nat), (20 : Nat), (21 : Nat))]) ∈ lw_all := lw_g (lw_at lw_m11 78 rfl) rfl
theorem q2534 : (Jvm.Cond.methodLink "TwinrowLaw" (98 : Nat) ({ cls := "Twinrow", name := "replaceAll", desc := "(III)I" } : Jvm.MethodName)) ∈ lw_all := lw_g (lw_at lw_m11 79 rfl) rfl
theorem q2589 : (Jvm.Cond.methodLink "TwinrowLaw" (251 : Nat) ({ cls := "TwinrowLaw", name := "replaceOld", desc := "(LTwinrow;IIILTwinrowLaw$Out;)I" } : Jvm.MethodName)) ∈ lw_all := lw_g (lw_at lw_m11 134 rfl) rfl
theorem q2590 : (Jvm.Cond.static ({ cls := "TwinrowLaw", name := "replaceOld", desc := "(LTwinrow;IIILTwinrowLaw$Out;)I" } : Jvm.MethodName)) ∈ lw_all := lw_g (lw_at lw_m11 135 rfl) rfl
theorem q2591 : (Jvm.Cond.codeWith ({ cls := "TwinrowLaw", name := "replaceOld", desc := "(LTwinrow;IIILTwinrowLaw$Out;)I" } : Jvm.MethodName) method_25_code (6 : Nat) (Option.some Jvm.ClassFile.FieldType.int) [((0 : Nat), (13 : Nat), (16 : Nat), (19 : Nat)), ((0 : Nat), (13 : Nat), (20 : Nat), (21 : Nat))]) ∈ lw_all := lw_g (lw_at lw_m11 136 rfl) rfl
theorem q2592 : (Jvm.Cond.methodLink "TwinrowLaw" (101 : Nat) ({ cls := "Twinrow", name := "replaceOld", desc := "(III)I" } : Jvm.MethodName)) ∈ lw_all := lw_g (lw_at lw_m11 137 rfl) rfl
theorem q2603 : (Jvm.Cond.methodLink "TwinrowLaw" (254 : Nat) ({ cls := "TwinrowLaw", name := "fill", desc := "(LTwinrow;IILTwinrowLaw$Out;)I" } : Jvm.MethodName)) ∈ lw_all := lw_g (lw_at lw_m11 148 rfl) rfl
theorem q2604 : (Jvm.Cond.static ({ cls := "TwinrowLaw", name := "fill", desc := "(LTwinrow;IILTwinrowLaw$Out;)I" } : Jvm.MethodName)) ∈ lw_all := lw_g (lw_at lw_m11 149 rfl) rfl
theorem q2605 : (Jvm.Cond.codeWith ({ cls := "TwinrowLaw", name := "fill", desc := "(LTwinrow;IILTwinrowLaw$Out;)I" } : Jvm.MethodName) method_26_code (5 : Nat) (Option.some Jvm.ClassFile.FieldType.int) [((0 : Nat), (11 : Nat), (14 : Nat), (19 : Nat)), ((0 : Nat), (11 : Nat), (18 : Nat), (21 : Nat))]) ∈ lw_all := lw_g (lw_at lw_m11 150 rfl) rfl
theorem q2606 : (Jvm.Cond.methodLink "TwinrowLaw" (104 : Nat) ({ cls := "Twinrow", name := "fill", desc := "(II)I" } : Jvm.MethodName)) ∈ lw_all := lw_g (lw_at lw_m11 151 rfl) rfl
theorem q2613 : (Jvm.Cond.methodLink "TwinrowLaw" (257 : Nat) ({ cls := "TwinrowLaw", name := "sort", desc := "(LTwinrow;IZLTwinrowLaw$Out;)I" } : Jvm.MethodName)) ∈ lw_all := lw_g (lw_at lw_m11 158 rfl) rfl
theorem q2614 : (Jvm.Cond.static ({ cls := "TwinrowLaw", name := "sort", desc := "(LTwinrow;IZLTwinrowLaw$Out;)I" } : Jvm.MethodName)) ∈ lw_all := lw_g (lw_at lw_m11 159 rfl) rfl
theorem q2615 : (Jvm.Cond.codeWith ({ cls := "TwinrowLaw", name := "sort", desc := "(LTwinrow;IZLTwinrowLaw$Out;)I" } : Jvm.MethodName) method_27_code (5 : Nat) (Option.some Jvm.ClassFile.FieldType.int) [((0 : Nat), (11 : Nat), (14 : Nat), (19 : Nat))]) ∈ lw_all := lw_g (lw_at lw_m11 160 rfl) rfl
theorem q2616 : (Jvm.Cond.methodLink "TwinrowLaw" (107 : Nat) ({ cls := "Twinrow", name := "sort", desc := "(IZ)I" } : Jvm.MethodName)) ∈ lw_all := lw_g (lw_at lw_m11 161 rfl) rfl
theorem q3041 : (Jvm.Cond.methodLink "TwinrowLaw" (261 : Nat) ({ cls := "TwinrowLaw", name := "reverse", desc := "(LTwinrow;ILTwinrowLaw$Out;)I" } : Jvm.MethodName)) ∈ lw_all := lw_g (lw_at lw_m13 106 rfl) rfl
theorem q3042 : (Jvm.Cond.static ({ cls := "TwinrowLaw", name := "reverse", desc := "(LTwinrow;ILTwinrowLaw$Out;)I" } : Jvm.MethodName)) ∈ lw_all := lw_g (lw_at lw_m13 107 rfl) rfl
theorem q3043 : (Jvm.Cond.codeWith ({ cls := "TwinrowLaw", name := "reverse", desc := "(LTwinrow;ILTwinrowLaw$Out;)I" } : Jvm.MethodName) method_28_code (4 : Nat) (Option.some Jvm.ClassFile.FieldType.int) [((0 : Nat), (10 : Nat), (13 : Nat), (19 : Nat))]) ∈ lw_all := lw_g (lw_at lw_m13 108 rfl) rfl
theorem q3044 : (Jvm.Cond.methodLink "TwinrowLaw" (111 : Nat) ({ cls := "Twinrow", name := "reverse", desc := "(I)I" } : Jvm.MethodName)) ∈ lw_all := lw_g (lw_at lw_m13 109 rfl) rfl
theorem q3056 : (Jvm.Cond.methodLink "TwinrowLaw" (264 : Nat) ({ cls := "TwinrowLaw", name := "rotate", desc := "(LTwinrow;IILTwinrowLaw$Out;)I" } : Jvm.MethodName)) ∈ lw_all := lw_g (lw_at lw_m13 121 rfl) rfl
theorem q3057 : (Jvm.Cond.static ({ cls := "TwinrowLaw", name := "rotate", desc := "(LTwinrow;IILTwinrowLaw$Out;)I" } : Jvm.MethodName)) ∈ lw_all := lw_g (lw_at lw_m13 122 rfl) rfl
theorem q3058 : (Jvm.Cond.codeWith ({ cls := "TwinrowLaw", name := "rotate", desc := "(LTwinrow;IILTwinrowLaw$Out;)I" } : Jvm.MethodName) method_29_code (5 : Nat) (Option.some Jvm.ClassFile.FieldType.int) [((0 : Nat), (11 : Nat), (14 : Nat), (19 : Nat)), ((0 : Nat), (11 : Nat), (18 : Nat), (21 : Nat))]) ∈ lw_all := lw_g (lw_at lw_m13 123 rfl) rfl
theorem q3059 : (Jvm.Cond.methodLink "TwinrowLaw" (114 : Nat) ({ cls := "Twinrow", name := "rotate", desc := "(II)I" } : Jvm.MethodName)) ∈ lw_all := lw_g (lw_at lw_m13 124 rfl) rfl
theorem q3075 : (Jvm.Cond.methodLink "TwinrowLaw" (267 : Nat) ({ cls := "TwinrowLaw", name := "swap", desc := "(LTwinrow;IIILTwinrowLaw$Out;)I" } : Jvm.MethodName)) ∈ lw_all := lw_g (lw_at lw_m13 140 rfl) rfl
theorem q3076 : (Jvm.Cond.static ({ cls := "TwinrowLaw", name := "swap", desc := "(LTwinrow;IIILTwinrowLaw$Out;)I" } : Jvm.MethodName)) ∈ lw_all := lw_g (lw_at lw_m13 141 rfl) rfl
theorem q3077 : (Jvm.Cond.codeWith ({ cls := "TwinrowLaw", name := "swap", desc := "(LTwinrow;IIILTwinrowLaw$Out;)I" } : Jvm.MethodName) method_30_code (6 : Nat) (Option.some Jvm.ClassFile.FieldType.int) [((0 : Nat), (13 : Nat), (16 : Nat), (19 : Nat))]) ∈ lw_all := lw_g (lw_at lw_m13 142 rfl) rfl
theorem q3078 : (Jvm.Cond.methodLink "TwinrowLaw" (117 : Nat) ({ cls := "Twinrow", name := "swap", desc := "(III)I" } : Jvm.MethodName)) ∈ lw_all := lw_g (lw_at lw_m13 143 rfl) rfl
theorem q3083 : (Jvm.Cond.methodLink "TwinrowLaw" (270 : Nat) ({ cls := "TwinrowLaw", name := "add", desc := "(LTwinrow;IILTwinrowLaw$Out;)I" } : Jvm.MethodName)) ∈ lw_all := lw_g (lw_at lw_m13 148 rfl) rfl
theorem q3084 : (Jvm.Cond.static ({ cls := "TwinrowLaw", name := "add", desc := "(LTwinrow;IILTwinrowLaw$Out;)I" } : Jvm.MethodName)) ∈ lw_all := lw_g (lw_at lw_m13 149 rfl) rfl
theorem q3085 : (Jvm.Cond.codeWith ({ cls := "TwinrowLaw", name := "add", desc := "(LTwinrow;IILTwinrowLaw$Out;)I" } : Jvm.MethodName) method_31_code (5 : Nat) (Option.some Jvm.ClassFile.FieldType.int) [((0 : Nat), (11 : Nat), (14 : Nat), (19 : Nat)), ((0 : Nat), (11 : Nat), (18 : Nat), (21 : Nat))]) ∈ lw_all := lw_g (lw_at lw_m13 150 rfl) rfl
theorem q3086 : (Jvm.Cond.methodLink "TwinrowLaw" (120 : Nat) ({ cls := "Twinrow", name := "add", desc := "(II)I" } : Jvm.MethodName)) ∈ lw_all := lw_g (lw_at lw_m13 151 rfl) rfl
theorem q3094 : (Jvm.Cond.methodLink "TwinrowLaw" (273 : Nat) ({ cls := "TwinrowLaw", name := "addAt", desc := "(LTwinrow;IIILTwinrowLaw$Out;)I" } : Jvm.MethodName)) ∈ lw_all := lw_g (lw_at lw_m13 159 rfl) rfl
theorem q3095 : (Jvm.Cond.static ({ cls := "TwinrowLaw", name := "addAt", desc := "(LTwinrow;IIILTwinrowLaw$Out;)I" } : Jvm.MethodName)) ∈ lw_all := lw_g (lw_at lw_m13 160 rfl) rfl
theorem q3096 : (Jvm.Cond.codeWith ({ cls := "TwinrowLaw", name := "addAt", desc := "(LTwinrow;IIILTwinrowLaw$Out;)I" } : Jvm.MethodName) method_32_code (6 : Nat) (Option.some Jvm.ClassFile.FieldType.int) [((0 : Nat), (13 : Nat), (16 : Nat), (19 : Nat)), ((0 : Nat), (13 : Nat), (20 : Nat), (21 : Nat))]) ∈ lw_all := lw_g (lw_at lw_m13 161 rfl) rfl
theorem q3097 : (Jvm.Cond.methodLink "TwinrowLaw" (123 : Nat) ({ cls := "Twinrow", name := "addAt", desc := "(III)I" } : Jvm.MethodName)) ∈ lw_all := lw_g (lw_at lw_m13 162 rfl) rfl
theorem q3119 : (Jvm.Cond.methodLink "TwinrowLaw" (276 : Nat) ({ cls := "TwinrowLaw", name := "addAll", desc := "(LTwinrow;IILTwinrowLaw$Out;)I" } : Jvm.MethodName)) ∈ lw_all := lw_g (lw_at lw_m13 184 rfl) rfl
theorem q3120 : (Jvm.Cond.static ({ cls := "TwinrowLaw", name := "addAll", desc := "(LTwinrow;IILTwinrowLaw$Out;)I" } : Jvm.MethodName)) ∈ lw_all := lw_g (lw_at lw_m13 185 rfl) rfl
theorem q3121 : (Jvm.Cond.codeWith ({ cls := "TwinrowLaw", name := "addAll", desc := "(LTwinrow;IILTwinrowLaw$Out;)I" } : Jvm.MethodName) method_33_code (5 : Nat) (Option.some Jvm.ClassFile.FieldType.int) [((0 : Nat), (11 : Nat), (14 : Nat), (19 : Nat))]) ∈ lw_all := lw_g (lw_at lw_m13 186 rfl) rfl
theorem q3122 : (Jvm.Cond.methodLink "TwinrowLaw" (126 : Nat) ({ cls := "Twinrow", name := "addAll", desc := "(II)I" } : Jvm.MethodName)) ∈ lw_all := lw_g (lw_at lw_m13 187 rfl) rfl
theorem q3197 : (Jvm.Cond.methodLink "TwinrowLaw" (279 : Nat) ({ cls := "TwinrowLaw", name := "remove", desc := "(LTwinrow;IILTwinrowLaw$Out;)I" } : Jvm.MethodName)) ∈ lw_all := lw_g (lw_at lw_m14 22 rfl) rfl
theorem q3198 : (Jvm.Cond.static ({ cls := "TwinrowLaw", name := "remove", desc := "(LTwinrow;IILTwinrowLaw$Out;)I" } : Jvm.MethodName)) ∈ lw_all := lw_g (lw_at lw_m14 23 rfl) rfl
theorem q3199 : (Jvm.Cond.codeWith ({ cls := "TwinrowLaw", name := "remove", desc := "(LTwinrow;IILTwinrowLaw$Out;)I" } : Jvm.MethodName) method_34_code (5 : Nat) (Option.some Jvm.ClassFile.FieldType.int) [((0 : Nat), (11 : Nat), (14 : Nat), (19 : Nat))]) ∈ lw_all := lw_g (lw_at lw_m14 24 rfl) rfl
theorem q3200 : (Jvm.Cond.methodLink "TwinrowLaw" (129 : Nat) ({ cls := "Twinrow", name := "remove", desc := "(II)I" } : Jvm.MethodName)) ∈ lw_all := lw_g (lw_at lw_m14 25 rfl) rfl
theorem q3222 : (Jvm.Cond.methodLink "TwinrowLaw" (282 : Nat) ({ cls := "TwinrowLaw", name := "removeValue", desc := "(LTwinrow;IILTwinrowLaw$Out;)I" } : Jvm.MethodName)) ∈ lw_all := lw_g (lw_at lw_m14 47 rfl) rfl
theorem q3223 : (Jvm.Cond.static ({ cls := "TwinrowLaw", name := "removeValue", desc := "(LTwinrow;IILTwinrowLaw$Out;)I" } : Jvm.MethodName)) ∈ lw_all := lw_g (lw_at lw_m14 48 rfl) rfl
theorem q3224 : (Jvm.Cond.codeWith ({ cls := "TwinrowLaw", name := "removeValue", desc := "(LTwinrow;IILTwinrowLaw$Out;)I" } : Jvm.MethodName) method_35_code (5 : Nat) (Option.some Jvm.ClassFile.FieldType.int) [((0 : Nat), (11 : Nat), (14 : Nat), (19 : Nat)), ((0 : Nat), (11 : Nat), (18 : Nat), (21 : Nat))]) ∈ lw_all := lw_g (lw_at lw_m14 49 rfl) rfl
theorem q3225 : (Jvm.Cond.methodLink "TwinrowLaw" (132 : Nat) ({ cls := "Twinrow", name := "removeValue", desc := "(II)I" } : Jvm.MethodName)) ∈ lw_all := lw_g (lw_at lw_m14 50 rfl) rfl
theorem q3271 : (Jvm.Cond.methodLink "TwinrowLaw" (285 : Nat) ({ cls := "TwinrowLaw", name := "removeAll", desc := "(LTwinrow;IILTwinrowLaw$Out;)I" } : Jvm.MethodName)) ∈ lw_all := lw_g (lw_at lw_m14 96 rfl) rfl
theorem q3272 : (Jvm.Cond.static ({ cls := "TwinrowLaw", name := "removeAll", desc := "(LTwinrow;IILTwinrowLaw$Out;)I" } : Jvm.MethodName)) ∈ lw_all := lw_g (lw_at lw_m14 97 rfl) rfl
theorem q3273 : (Jvm.Cond.codeWith ({ cls := "TwinrowLaw", name := "removeAll", desc := "(LTwinrow;IILTwinrowLaw$Out;)I" } : Jvm.MethodName) method_36_code (5 : Nat) (Option.some Jvm.ClassFile.FieldType.int) [((0 : Nat), (11 : Nat), (14 : Nat), (19 : Nat))]) ∈ lw_all := lw_g (lw_at lw_m14 98 rfl) rfl
theorem q3274 : (Jvm.Cond.methodLink "TwinrowLaw" (135 : Nat) ({ cls := "Twinrow", name := "removeAll", desc := "(II)I" } : Jvm.MethodName)) ∈ lw_all := lw_g (lw_at lw_m14 99 rfl) rfl
theorem q3315 : (Jvm.Cond.methodLink "TwinrowLaw" (288 : Nat) ({ cls := "TwinrowLaw", name := "retainAll", desc := "(LTwinrow;IILTwinrowLaw$Out;)I" } : Jvm.MethodName)) ∈ lw_all := lw_g (lw_at lw_m14 140 rfl) rfl
theorem q3316 : (Jvm.Cond.static ({ cls := "TwinrowLaw", name := "retainAll", desc := "(LTwinrow;IILTwinrowLaw$Out;)I" } : Jvm.MethodName)) ∈ lw_all := lw_g (lw_at lw_m14 141 rfl) rfl
theorem q3317 : (Jvm.Cond.codeWith ({ cls := "TwinrowLaw", name := "retainAll", desc := "(LTwinrow;IILTwinrowLaw$Out;)I" } : Jvm.MethodName) method_37_code (5 : Nat) (Option.some Jvm.ClassFile.FieldType.int) [((0 : Nat), (11 : Nat), (14 : Nat), (19 : Nat))]) ∈ lw_all := lw_g (lw_at lw_m14 142 rfl) rfl
theorem q3318 : (Jvm.Cond.methodLink "TwinrowLaw" (138 : Nat) ({ cls := "Twinrow", name := "retainAll", desc := "(II)I" } : Jvm.MethodName)) ∈ lw_all := lw_g (lw_at lw_m14 143 rfl) rfl
theorem q3345 : (Jvm.Cond.methodLink "TwinrowLaw" (291 : Nat) ({ cls := "TwinrowLaw", name := "removeIf", desc := "(LTwinrow;IIILTwinrowLaw$Out;)I" } : Jvm.MethodName)) ∈ lw_all := lw_g (lw_at lw_m14 170 rfl) rfl
theorem q3346 : (Jvm.Cond.static ({ cls := "TwinrowLaw", name := "removeIf", desc := "(LTwinrow;IIILTwinrowLaw$Out;)I" } : Jvm.MethodName)) ∈ lw_all := lw_g (lw_at lw_m14 171 rfl) rfl
theorem q3347 : (Jvm.Cond.codeWith ({ cls := "TwinrowLaw", name := "removeIf", desc := "(LTwinrow;IIILTwinrowLaw$Out;)I" } : Jvm.MethodName) method_38_code (6 : Nat) (Option.some Jvm.ClassFile.FieldType.int) [((0 : Nat), (13 : Nat), (16 : Nat), (19 : Nat)), ((0 : Nat), (13 : Nat), (20 : Nat), (21 : Nat))]) ∈ lw_all := lw_g (lw_at lw_m14 172 rfl) rfl
theorem q3348 : (Jvm.Cond.methodLink "TwinrowLaw" (141 : Nat) ({ cls := "Twinrow", name := "removeIf", desc := "(III)I" } : Jvm.MethodName)) ∈ lw_all := lw_g (lw_at lw_m14 173 rfl) rfl
theorem q3427 : (Jvm.Cond.methodLink "TwinrowLaw" (294 : Nat) ({ cls := "TwinrowLaw", name := "clear", desc := "(LTwinrow;ILTwinrowLaw$Out;)I" } : Jvm.MethodName)) ∈ lw_all := lw_g (lw_at lw_m15 12 rfl) rfl
theorem q3428 : (Jvm.Cond.static ({ cls := "TwinrowLaw", name := "clear", desc := "(LTwinrow;ILTwinrowLaw$Out;)I" } : Jvm.MethodName)) ∈ lw_all := lw_g (lw_at lw_m15 13 rfl) rfl
theorem q3429 : (Jvm.Cond.codeWith ({ cls := "TwinrowLaw", name := "clear", desc := "(LTwinrow;ILTwinrowLaw$Out;)I" } : Jvm.MethodName) method_39_code (4 : Nat) (Option.some Jvm.ClassFile.FieldType.int) [((0 : Nat), (10 : Nat), (13 : Nat), (19 : Nat))]) ∈ lw_all := lw_g (lw_at lw_m15 14 rfl) rfl
theorem q3430 : (Jvm.Cond.methodLink "TwinrowLaw" (144 : Nat) ({ cls := "Twinrow", name := "clear", desc := "(I)I" } : Jvm.MethodName)) ∈ lw_all := lw_g (lw_at lw_m15 15 rfl) rfl
theorem q3434 : (Jvm.Cond.methodLink "TwinrowLaw" (297 : Nat) ({ cls := "TwinrowLaw", name := "walkChange", desc := "(LTwinrow;IIILTwinrowLaw$Out;)I" } : Jvm.MethodName)) ∈ lw_all := lw_g (lw_at lw_m15 19 rfl) rfl
theorem q3435 : (Jvm.Cond.static ({ cls := "TwinrowLaw", name := "walkChange", desc := "(LTwinrow;IIILTwinrowLaw$Out;)I" } : Jvm.MethodName)) ∈ lw_all := lw_g (lw_at lw_m15 20 rfl) rfl
theorem q3436 : (Jvm.Cond.codeWith ({ cls := "TwinrowLaw", name := "walkChange", desc := "(LTwinrow;IIILTwinrowLaw$Out;)I" } : Jvm.MethodName) method_40_code (6 : Nat) (Option.some Jvm.ClassFile.FieldType.int) [((0 : Nat), (13 : Nat), (16 : Nat), (19 : Nat)), ((0 : Nat), (13 : Nat), (20 : Nat), (21 : Nat))]) ∈ lw_all := lw_g (lw_at lw_m15 21 rfl) rfl
theorem q3437 : (Jvm.Cond.methodLink "TwinrowLaw" (147 : Nat) ({ cls := "Twinrow", name := "walkChange", desc := "(III)I" } : Jvm.MethodName)) ∈ lw_all := lw_g (lw_at lw_m15 22 rfl) rfl
theorem q3477 : (Jvm.Cond.methodLink "TwinrowLaw" (304 : Nat) ({ cls := "TwinrowLaw", name := "house", desc := "(LTwinrow;ILTwinrowLaw$Out;)I" } : Jvm.MethodName)) ∈ lw_all := lw_g (lw_at lw_m15 62 rfl) rfl
theorem q3478 : (Jvm.Cond.static ({ cls := "TwinrowLaw", name := "house", desc := "(LTwinrow;ILTwinrowLaw$Out;)I" } : Jvm.MethodName)) ∈ lw_all := lw_g (lw_at lw_m15 63 rfl) rfl
theorem q3479 : (Jvm.Cond.codeWith ({ cls := "TwinrowLaw", name := "house", desc := "(LTwinrow;ILTwinrowLaw$Out;)I" } : Jvm.MethodName) method_41_code (4 : Nat) (Option.some Jvm.ClassFile.FieldType.int) [((0 : Nat), (10 : Nat), (13 : Nat), (21 : Nat))]) ∈ lw_all := lw_g (lw_at lw_m15 64 rfl) rfl
theorem q3480 : (Jvm.Cond.methodLink "TwinrowLaw" (150 : Nat) ({ cls := "Twinrow", name := "house", desc := "(I)I" } : Jvm.MethodName)) ∈ lw_all := lw_g (lw_at lw_m15 65 rfl) rfl
theorem q3484 : (Jvm.Cond.methodLink "TwinrowLaw" (307 : Nat) ({ cls := "TwinrowLaw", name := "rowOf", desc := "(LTwinrow;ILTwinrowLaw$Out;)I" } : Jvm.MethodName)) ∈ lw_all := lw_g (lw_at lw_m15 69 rfl) rfl
theorem q3485 : (Jvm.Cond.static ({ cls := "TwinrowLaw", name := "rowOf", desc := "(LTwinrow;ILTwinrowLaw$Out;)I" } : Jvm.MethodName)) ∈ lw_all := lw_g (lw_at lw_m15 70 rfl) rfl
theorem q3486 : (Jvm.Cond.codeWith ({ cls := "TwinrowLaw", name := "rowOf", desc := "(LTwinrow;ILTwinrowLaw$Out;)I" } : Jvm.MethodName) method_42_code (4 : Nat) (Option.some Jvm.ClassFile.FieldType.int) [((0 : Nat), (10 : Nat), (13 : Nat), (21 : Nat))]) ∈ lw_all := lw_g (lw_at lw_m15 71 rfl) rfl
theorem q3487 : (Jvm.Cond.methodLink "TwinrowLaw" (153 : Nat) ({ cls := "Twinrow", name := "rowOf", desc := "(I)I" } : Jvm.MethodName)) ∈ lw_all := lw_g (lw_at lw_m15 72 rfl) rfl
theorem q3491 : (Jvm.Cond.methodLink "TwinrowLaw" (310 : Nat) ({ cls := "TwinrowLaw", name := "begin", desc := "(LTwinrow;ILTwinrowLaw$Out;)I" } : Jvm.MethodName)) ∈ lw_all := lw_g (lw_at lw_m15 76 rfl) rfl
theorem q3492 : (Jvm.Cond.static ({ cls := "TwinrowLaw", name := "begin", desc := "(LTwinrow;ILTwinrowLaw$Out;)I" } : Jvm.MethodName)) ∈ lw_all := lw_g (lw_at lw_m15 77 rfl) rfl
theorem q3493 : (Jvm.Cond.codeWith ({ cls := "TwinrowLaw", name := "begin", desc := "(LTwinrow;ILTwinrowLaw$Out;)I" } : Jvm.MethodName) method_43_code (4 : Nat) (Option.some Jvm.ClassFile.FieldType.int) [((0 : Nat), (10 : Nat), (13 : Nat), (21 : Nat))]) ∈ lw_all := lw_g (lw_at lw_m15 78 rfl) rfl
theorem q3494 : (Jvm.Cond.methodLink "TwinrowLaw" (156 : Nat) ({ cls := "Twinrow", name := "begin", desc := "(I)I" } : Jvm.MethodName)) ∈ lw_all := lw_g (lw_at lw_m15 79 rfl) rfl
theorem q3498 : (Jvm.Cond.classLink "TwinrowLaw" (160 : Nat) "TwinrowModel") ∈ lw_all := lw_g (lw_at lw_m15 83 rfl) rfl
theorem q3500 : (Jvm.Cond.methodLink "TwinrowLaw" (162 : Nat) ({ cls := "TwinrowModel", name := "<init>", desc := "()V" } : Jvm.MethodName)) ∈ lw_all := lw_g (lw_at lw_m15 85 rfl) rfl
theorem q3531 : (Jvm.Cond.methodLink "TwinrowLaw" (170 : Nat) ({ cls := "TwinrowModel", name := "thrown", desc := "()I" } : Jvm.MethodName)) ∈ lw_all := lw_g (lw_at lw_m15 116 rfl) rfl
theorem q3535 : (Jvm.Cond.methodLink "TwinrowLaw" (169 : Nat) ({ cls := "TwinrowModel", name := "lay", desc := "(II)I" } : Jvm.MethodName)) ∈ lw_all := lw_g (lw_at lw_m15 120 rfl) rfl
theorem q3546 : (Jvm.Cond.methodLink "TwinrowLaw" (177 : Nat) ({ cls := "TwinrowModel", name := "put", desc := "(III)I" } : Jvm.MethodName)) ∈ lw_all := lw_g (lw_at lw_m15 131 rfl) rfl
theorem q3557 : (Jvm.Cond.methodLink "TwinrowLaw" (180 : Nat) ({ cls := "TwinrowModel", name := "at", desc := "(II)I" } : Jvm.MethodName)) ∈ lw_all := lw_g (lw_at lw_m15 142 rfl) rfl
theorem q3561 : (Jvm.Cond.methodLink "TwinrowLaw" (184 : Nat) ({ cls := "TwinrowModel", name := "part", desc := "(IIII)I" } : Jvm.MethodName)) ∈ lw_all := lw_g (lw_at lw_m15 146 rfl) rfl
theorem q3569 : (Jvm.Cond.methodLink "TwinrowLaw" (187 : Nat) ({ cls := "TwinrowModel", name := "set", desc := "(III)I" } : Jvm.MethodName)) ∈ lw_all := lw_g (lw_at lw_m15 154 rfl) rfl
theorem q3585 : (Jvm.Cond.methodLink "TwinrowLaw" (190 : Nat) ({ cls := "TwinrowModel", name := "get", desc := "(II)I" } : Jvm.MethodName)) ∈ lw_all := lw_g (lw_at lw_m15 170 rfl) rfl
theorem q3589 : (Jvm.Cond.methodLink "TwinrowLaw" (194 : Nat) ({ cls := "TwinrowModel", name := "length", desc := "(I)I" } : Jvm.MethodName)) ∈ lw_all := lw_g (lw_at lw_m15 174 rfl) rfl
theorem q3593 : (Jvm.Cond.methodLink "TwinrowLaw" (197 : Nat) ({ cls := "TwinrowModel", name := "isEmpty", desc := "(I)Z" } : Jvm.MethodName)) ∈ lw_all := lw_g (lw_at lw_m15 178 rfl) rfl
theorem q3597 : (Jvm.Cond.methodLink "TwinrowLaw" (200 : Nat) ({ cls := "TwinrowModel", name := "text", desc := "(I)Ljava/lang/String;" } : Jvm.MethodName)) ∈ lw_all := lw_g (lw_at lw_m15 182 rfl) rfl
theorem q3624 : (Jvm.Cond.methodLink "TwinrowLaw" (209 : Nat) ({ cls := "TwinrowModel", name := "back", desc := "(I)Ljava/lang/String;" } : Jvm.MethodName)) ∈ lw_all := lw_g (lw_at lw_m15 209 rfl) rfl
theorem q3628 : (Jvm.Cond.methodLink "TwinrowLaw" (212 : Nat) ({ cls := "TwinrowModel", name := "indexOf", desc := "(II)I" } : Jvm.MethodName)) ∈ lw_all := lw_g (lw_at lw_m15 213 rfl) rfl
theorem q3635 : (Jvm.Cond.methodLink "TwinrowLaw" (215 : Nat) ({ cls := "TwinrowModel", name := "lastIndexOf", desc := "(II)I" } : Jvm.MethodName)) ∈ lw_all := lw_g (lw_at lw_m15 220 rfl) rfl
theorem q3639 : (Jvm.Cond.methodLink "TwinrowLaw" (218 : Nat) ({ cls := "TwinrowModel", name := "has", desc := "(II)Z" } : Jvm.MethodName)) ∈ lw_all := lw_g (lw_at lw_m15 224 rfl) rfl
theorem q3643 : (Jvm.Cond.methodLink "TwinrowLaw" (221 : Nat) ({ cls := "TwinrowModel", name := "often", desc := "(II)I" } : Jvm.MethodName)) ∈ lw_all := lw_g (lw_at lw_m15 228 rfl) rfl
theorem q3653 : (Jvm.Cond.methodLink "TwinrowLaw" (224 : Nat) ({ cls := "TwinrowModel", name := "hasAll", desc := "(II)Z" } : Jvm.MethodName)) ∈ lw_all := lw_g (lw_at lw_m15 238 rfl) rfl
theorem q3665 : (Jvm.Cond.methodLink "TwinrowLaw" (227 : Nat) ({ cls := "TwinrowModel", name := "areApart", desc := "(II)Z" } : Jvm.MethodName)) ∈ lw_all := lw_g (lw_at lw_m16 10 rfl) rfl
theorem q3669 : (Jvm.Cond.methodLink "TwinrowLaw" (230 : Nat) ({ cls := "TwinrowModel", name := "indexOfAll", desc := "(II)I" } : Jvm.MethodName)) ∈ lw_all := lw_g (lw_at lw_m16 14 rfl) rfl
theorem q3676 : (Jvm.Cond.methodLink "TwinrowLaw" (233 : Nat) ({ cls := "TwinrowModel", name := "areEqual", desc := "(II)Z" } : Jvm.MethodName)) ∈ lw_all := lw_g (lw_at lw_m16 21 rfl) rfl
theorem q3680 : (Jvm.Cond.methodLink "TwinrowLaw" (236 : Nat) ({ cls := "TwinrowModel", name := "code", desc := "(I)I" } : Jvm.MethodName)) ∈ lw_all := lw_g (lw_at lw_m16 25 rfl) rfl
theorem q3688 : (Jvm.Cond.methodLink "TwinrowLaw" (240 : Nat) ({ cls := "TwinrowModel", name := "walk", desc := "(IIIZ)Ljava/lang/String;" } : Jvm.MethodName)) ∈ lw_all := lw_g (lw_at lw_m16 33 rfl) rfl
theorem q3697 : (Jvm.Cond.methodLink "TwinrowLaw" (243 : Nat) ({ cls := "TwinrowModel", name := "sum", desc := "(I)I" } : Jvm.MethodName)) ∈ lw_all := lw_g (lw_at lw_m16 42 rfl) rfl
theorem q3705 : (Jvm.Cond.methodLink "TwinrowLaw" (247 : Nat) ({ cls := "TwinrowModel", name := "walkSet", desc := "(IIIIZ)I" } : Jvm.MethodName)) ∈ lw_all := lw_g (lw_at lw_m16 50 rfl) rfl
theorem q3724 : (Jvm.Cond.methodLink "TwinrowLaw" (250 : Nat) ({ cls := "TwinrowModel", name := "replaceAll", desc := "(III)I" } : Jvm.MethodName)) ∈ lw_all := lw_g (lw_at lw_m16 69 rfl) rfl
theorem q3728 : (Jvm.Cond.methodLink "TwinrowLaw" (253 : Nat) ({ cls := "TwinrowModel", name := "replaceOld", desc := "(III)I" } : Jvm.MethodName)) ∈ lw_all := lw_g (lw_at lw_m16 73 rfl) rfl
theorem q3736 : (Jvm.Cond.methodLink "TwinrowLaw" (256 : Nat) ({ cls := "TwinrowModel", name := "fill", desc := "(II)I" } : Jvm.MethodName)) ∈ lw_all := lw_g (lw_at lw_m16 81 rfl) rfl
theorem q3740 : (Jvm.Cond.methodLink "TwinrowLaw" (260 : Nat) ({ cls := "TwinrowModel", name := "sort", desc := "(IZ)I" } : Jvm.MethodName)) ∈ lw_all := lw_g (lw_at lw_m16 85 rfl) rfl
theorem q3744 : (Jvm.Cond.methodLink "TwinrowLaw" (263 : Nat) ({ cls := "TwinrowModel", name := "reverse", desc := "(I)I" } : Jvm.MethodName)) ∈ lw_all := lw_g (lw_at lw_m16 89 rfl) rfl
theorem q3748 : (Jvm.Cond.methodLink "TwinrowLaw" (266 : Nat) ({ cls := "TwinrowModel", name := "rotate", desc := "(II)I" } : Jvm.MethodName)) ∈ lw_all := lw_g (lw_at lw_m16 93 rfl) rfl
theorem q3752 : (Jvm.Cond.methodLink "TwinrowLaw" (269 : Nat) ({ cls := "TwinrowModel", name := "swap", desc := "(III)I" } : Jvm.MethodName)) ∈ lw_all := lw_g (lw_at lw_m16 97 rfl) rfl
theorem q3756 : (Jvm.Cond.methodLink "TwinrowLaw" (272 : Nat) ({ cls := "TwinrowModel", name := "add", desc := "(II)I" } : Jvm.MethodName)) ∈ lw_all := lw_g (lw_at lw_m16 101 rfl) rfl
theorem q3764 : (Jvm.Cond.methodLink "TwinrowLaw" (275 : Nat) ({ cls := "TwinrowModel", name := "addAt", desc := "(III)I" } : Jvm.MethodName)) ∈ lw_all := lw_g (lw_at lw_m16 109 rfl) rfl
theorem q3768 : (Jvm.Cond.methodLink "TwinrowLaw" (278 : Nat) ({ cls := "TwinrowModel", name := "addAll", desc := "(II)I" } : Jvm.MethodName)) ∈ lw_all := lw_g (lw_at lw_m16 113 rfl) rfl
theorem q3776 : (Jvm.Cond.methodLink "TwinrowLaw" (281 : Nat) ({ cls := "TwinrowModel", name := "remove", desc := "(II)I" } : Jvm.MethodName)) ∈ lw_all := lw_g (lw_at lw_m16 121 rfl) rfl
theorem q3780 : (Jvm.Cond.methodLink "TwinrowLaw" (284 : Nat) ({ cls := "TwinrowModel", name := "removeValue", desc := "(II)I" } : Jvm.MethodName)) ∈ lw_all := lw_g (lw_at lw_m16 125 rfl) rfl
theorem q3784 : (Jvm.Cond.methodLink "TwinrowLaw" (287 : Nat) ({ cls := "TwinrowModel", name := "removeAll", desc := "(II)I" } : Jvm.MethodName)) ∈ lw_all := lw_g (lw_at lw_m16 129 rfl) rfl
theorem q3788 : (Jvm.Cond.methodLink "TwinrowLaw" (290 : Nat) ({ cls := "TwinrowModel", name := "retainAll", desc := "(II)I" } : Jvm.MethodName)) ∈ lw_all := lw_g (lw_at lw_m16 133 rfl) rfl
theorem q3792 : (Jvm.Cond.methodLink "TwinrowLaw" (293 : Nat) ({ cls := "TwinrowModel", name := "removeIf", desc := "(III)I" } : Jvm.MethodName)) ∈ lw_all := lw_g (lw_at lw_m16 137 rfl) rfl
theorem q3799 : (Jvm.Cond.methodLink "TwinrowLaw" (296 : Nat) ({ cls := "TwinrowModel", name := "clear", desc := "(I)I" } : Jvm.MethodName)) ∈ lw_all := lw_g (lw_at lw_m16 144 rfl) rfl
theorem q3803 : (Jvm.Cond.methodLink "TwinrowLaw" (299 : Nat) ({ cls := "TwinrowModel", name := "walkChange", desc := "(III)I" } : Jvm.MethodName)) ∈ lw_all := lw_g (lw_at lw_m16 148 rfl) rfl
theorem q3807 : (Jvm.Cond.methodLink "TwinrowLaw" (303 : Nat) ({ cls := "TwinrowModel", name := "knock", desc := "()I" } : Jvm.MethodName)) ∈ lw_all := lw_g (lw_at lw_m16 152 rfl) rfl
theorem q3811 : (Jvm.Cond.methodLink "TwinrowLaw" (306 : Nat) ({ cls := "TwinrowModel", name := "house", desc := "(I)I" } : Jvm.MethodName)) ∈ lw_all := lw_g (lw_at lw_m16 156 rfl) rfl
theorem q3819 : (Jvm.Cond.methodLink "TwinrowLaw" (309 : Nat) ({ cls := "TwinrowModel", name := "rowOf", desc := "(I)I" } : Jvm.MethodName)) ∈ lw_all := lw_g (lw_at lw_m16 164 rfl) rfl
theorem q3823 : (Jvm.Cond.methodLink "TwinrowLaw" (312 : Nat) ({ cls := "TwinrowModel", name := "begin", desc := "(I)I" } : Jvm.MethodName)) ∈ lw_all := lw_g (lw_at lw_m16 168 rfl) rfl
theorem q3831 : (Jvm.Cond.methodLink "TwinrowLaw" (317 : Nat) ({ cls := "TwinrowModel", name := "isSound", desc := "()Z" } : Jvm.MethodName)) ∈ lw_all := lw_g (lw_at lw_m16 176 rfl) rfl
theorem q3835 : (Jvm.Cond.methodLink "TwinrowLaw" (322 : Nat) ({ cls := "TwinrowModel", name := "digest", desc := "()J" } : Jvm.MethodName)) ∈ lw_all := lw_g (lw_at lw_m16 180 rfl) rfl
theorem q3845 : (Jvm.Cond.methodLink "TwinrowLaw" (201 : Nat) ({ cls := "java/lang/String", name := "equals", desc := "(Ljava/lang/Object;)Z" } : Jvm.MethodName)) ∈ lw_all := lw_g (lw_at lw_m16 190 rfl) rfl

/-! Twinrow -/
set_option maxRecDepth 100000
def RX1 : String := "Twinrow"
def TX1 : u_T := fun k => match k with
  | 0 => ("Twinrow", "rows", "Ljava/util/ArrayList;", true)
  | 1 => ("Twinrow", "lists", "Ljava/util/ArrayList;", true)
  | 2 => ("Twinrow", "rowsOf", "[I", true)
  | 3 => ("Twinrow", "begins", "[I", true)
  | 4 => ("Twinrow", "knocks", "I", false)
  | _ => ("Twinrow", "refusals", "I", false)
def tyX1 : Nat → FieldType := fun k => match k with
  | 0 => .object "java/util/ArrayList"
  | 1 => .object "java/util/ArrayList"
  | 2 => .array .int
  | 3 => .array .int
  | 4 => .int
  | _ => .int
abbrev wsX10 : List Cond := u_ws RX1 TX1 6
theorem nmX1 : ∀ a, a < 6 → ∀ b, b < 6 → a ≠ b → (TX1 a).2.1 ≠ (TX1 b).2.1 := by decide +kernel
theorem tyX1_ok : ∀ k, k < 6 → parseFieldDescriptor (TX1 k).2.2.1 = some (tyX1 k) := by decide +kernel
abbrev cX1_init : ByteArray := prog_1_method_6_code
def yX1_init : MethodName := ⟨RX1, "<init>", "()V"⟩
def dkwX1_init_5 : List UInt8 := [27, 96, 2, 79, 42, 180, 0, 37, 6, 27, 96, 2, 79, 132, 1, 1, 167, 255, 221, 177]
abbrev dktX1_init_5 : List UInt8 := dkwX1_init_5 ++ []
def dkwX1_init_4 : List UInt8 := [167, 255, 207, 3, 60, 27, 7, 162, 0, 36, 42, 180, 0, 30, 1, 182, 0, 44, 87, 42, 180, 0, 33, 6]
abbrev dktX1_init_4 : List UInt8 := dkwX1_init_4 ++ dktX1_init_5
def dkwX1_init_3 : List UInt8 := [182, 0, 48, 192, 0, 52, 184, 0, 54, 182, 0, 44, 87, 42, 180, 0, 33, 27, 27, 79, 132, 1, 1]
abbrev dktX1_init_3 : List UInt8 := dkwX1_init_3 ++ dktX1_init_4
def dkwX1_init_2 : List UInt8 := [162, 0, 50, 42, 180, 0, 26, 7, 184, 0, 40, 182, 0, 44, 87, 42, 180, 0, 30, 42, 180, 0, 26, 27]
abbrev dktX1_init_2 : List UInt8 := dkwX1_init_2 ++ dktX1_init_3
def dkwX1_init_1 : List UInt8 := [181, 0, 30, 42, 16, 7, 188, 10, 181, 0, 33, 42, 16, 7, 188, 10, 181, 0, 37, 3, 60, 27, 6]
abbrev dktX1_init_1 : List UInt8 := dkwX1_init_1 ++ dktX1_init_2
def dkwX1_init_0 : List UInt8 := [42, 183, 0, 17, 42, 187, 0, 23, 89, 183, 0, 25, 181, 0, 26, 42, 187, 0, 23, 89, 183, 0, 25]
abbrev dktX1_init_0 : List UInt8 := dkwX1_init_0 ++ dktX1_init_1
theorem dksX1_init_0 : cX1_init.data.toList.drop 0 = dktX1_init_0 := by decide +kernel
theorem dksX1_init_1 : cX1_init.data.toList.drop 23 = dktX1_init_1 := dk_seg dksX1_init_0 23 rfl rfl
theorem dksX1_init_2 : cX1_init.data.toList.drop 46 = dktX1_init_2 := dk_seg dksX1_init_1 23 rfl rfl
theorem dksX1_init_3 : cX1_init.data.toList.drop 70 = dktX1_init_3 := dk_seg dksX1_init_2 24 rfl rfl
theorem dksX1_init_4 : cX1_init.data.toList.drop 93 = dktX1_init_4 := dk_seg dksX1_init_3 23 rfl rfl
theorem dksX1_init_5 : cX1_init.data.toList.drop 117 = dktX1_init_5 := dk_seg dksX1_init_4 24 rfl rfl
theorem dX1_init_0 : decode cX1_init 0 = .ok (.aload_n 0, 1) := dk_42 (dk_at dksX1_init_0 0 rfl rfl)
theorem dX1_init_1 : decode cX1_init 1 = .ok (.invokespecial 17, 3) := dk_183 0 17 (dk_at dksX1_init_0 1 rfl rfl)
theorem dX1_init_4 : decode cX1_init 4 = .ok (.aload_n 0, 1) := dk_42 (dk_at dksX1_init_0 4 rfl rfl)
theorem dX1_init_5 : decode cX1_init 5 = .ok (.new 23, 3) := dk_187 0 23 (dk_at dksX1_init_0 5 rfl rfl)
theorem dX1_init_8 : decode cX1_init 8 = .ok (.dup, 1) := dk_89 (dk_at dksX1_init_0 8 rfl rfl)
theorem dX1_init_9 : decode cX1_init 9 = .ok (.invokespecial 25, 3) := dk_183 0 25 (dk_at dksX1_init_0 9 rfl rfl)
theorem dX1_init_12 : decode cX1_init 12 = .ok (.putfield 26, 3) := dk_181 0 26 (dk_at dksX1_init_0 12 rfl rfl)
theorem dX1_init_15 : decode cX1_init 15 = .ok (.aload_n 0, 1) := dk_42 (dk_at dksX1_init_0 15 rfl rfl)
theorem dX1_init_16 : decode cX1_init 16 = .ok (.new 23, 3) := dk_187 0 23 (dk_at dksX1_init_0 16 rfl rfl)
theorem dX1_init_19 : decode cX1_init 19 = .ok (.dup, 1) := dk_89 (dk_at dksX1_init_0 19 rfl rfl)
theorem dX1_init_20 : decode cX1_init 20 = .ok (.invokespecial 25, 3) := dk_183 0 25 (dk_at dksX1_init_0 20 rfl rfl)
theorem dX1_init_23 : decode cX1_init 23 = .ok (.putfield 30, 3) := dk_181 0 30 (dk_at dksX1_init_1 0 rfl rfl)
theorem dX1_init_26 : decode cX1_init 26 = .ok (.aload_n 0, 1) := dk_42 (dk_at dksX1_init_1 3 rfl rfl)
theorem dX1_init_27 : decode cX1_init 27 = .ok (.bipush 7, 2) := dk_16 7 (dk_at dksX1_init_1 4 rfl rfl)
theorem dX1_init_29 : decode cX1_init 29 = .ok (.newarray .int, 2) := dk_188_10 (dk_at dksX1_init_1 6 rfl rfl)
theorem dX1_init_31 : decode cX1_init 31 = .ok (.putfield 33, 3) := dk_181 0 33 (dk_at dksX1_init_1 8 rfl rfl)
theorem dX1_init_34 : decode cX1_init 34 = .ok (.aload_n 0, 1) := dk_42 (dk_at dksX1_init_1 11 rfl rfl)
theorem dX1_init_35 : decode cX1_init 35 = .ok (.bipush 7, 2) := dk_16 7 (dk_at dksX1_init_1 12 rfl rfl)
theorem dX1_init_37 : decode cX1_init 37 = .ok (.newarray .int, 2) := dk_188_10 (dk_at dksX1_init_1 14 rfl rfl)
theorem dX1_init_39 : decode cX1_init 39 = .ok (.putfield 37, 3) := dk_181 0 37 (dk_at dksX1_init_1 16 rfl rfl)
theorem dX1_init_42 : decode cX1_init 42 = .ok (.iconst 0, 1) := dk_3 (dk_at dksX1_init_1 19 rfl rfl)
theorem dX1_init_43 : decode cX1_init 43 = .ok (.istore_n 1, 1) := dk_60 (dk_at dksX1_init_1 20 rfl rfl)
theorem dX1_init_44 : decode cX1_init 44 = .ok (.iload_n 1, 1) := dk_27 (dk_at dksX1_init_1 21 rfl rfl)
theorem dX1_init_45 : decode cX1_init 45 = .ok (.iconst 3, 1) := dk_6 (dk_at dksX1_init_1 22 rfl rfl)
theorem dX1_init_46 : decode cX1_init 46 = .ok (.if_icmp .ge 50, 3) := dk_162 0 50 (dk_at dksX1_init_2 0 rfl rfl)
theorem dX1_init_49 : decode cX1_init 49 = .ok (.aload_n 0, 1) := dk_42 (dk_at dksX1_init_2 3 rfl rfl)
theorem dX1_init_50 : decode cX1_init 50 = .ok (.getfield 26, 3) := dk_180 0 26 (dk_at dksX1_init_2 4 rfl rfl)
theorem dX1_init_53 : decode cX1_init 53 = .ok (.iconst 4, 1) := dk_7 (dk_at dksX1_init_2 7 rfl rfl)
theorem dX1_init_54 : decode cX1_init 54 = .ok (.invokestatic 40, 3) := dk_184 0 40 (dk_at dksX1_init_2 8 rfl rfl)
theorem dX1_init_57 : decode cX1_init 57 = .ok (.invokevirtual 44, 3) := dk_182 0 44 (dk_at dksX1_init_2 11 rfl rfl)
theorem dX1_init_60 : decode cX1_init 60 = .ok (.pop, 1) := dk_87 (dk_at dksX1_init_2 14 rfl rfl)
theorem dX1_init_61 : decode cX1_init 61 = .ok (.aload_n 0, 1) := dk_42 (dk_at dksX1_init_2 15 rfl rfl)
theorem dX1_init_62 : decode cX1_init 62 = .ok (.getfield 30, 3) := dk_180 0 30 (dk_at dksX1_init_2 16 rfl rfl)
theorem dX1_init_65 : decode cX1_init 65 = .ok (.aload_n 0, 1) := dk_42 (dk_at dksX1_init_2 19 rfl rfl)
theorem dX1_init_66 : decode cX1_init 66 = .ok (.getfield 26, 3) := dk_180 0 26 (dk_at dksX1_init_2 20 rfl rfl)
theorem dX1_init_69 : decode cX1_init 69 = .ok (.iload_n 1, 1) := dk_27 (dk_at dksX1_init_2 23 rfl rfl)
theorem dX1_init_70 : decode cX1_init 70 = .ok (.invokevirtual 48, 3) := dk_182 0 48 (dk_at dksX1_init_3 0 rfl rfl)
theorem dX1_init_73 : decode cX1_init 73 = .ok (.checkcast 52, 3) := dk_192 0 52 (dk_at dksX1_init_3 3 rfl rfl)
theorem dX1_init_76 : decode cX1_init 76 = .ok (.invokestatic 54, 3) := dk_184 0 54 (dk_at dksX1_init_3 6 rfl rfl)
theorem dX1_init_79 : decode cX1_init 79 = .ok (.invokevirtual 44, 3) := dk_182 0 44 (dk_at dksX1_init_3 9 rfl rfl)
theorem dX1_init_82 : decode cX1_init 82 = .ok (.pop, 1) := dk_87 (dk_at dksX1_init_3 12 rfl rfl)
theorem dX1_init_83 : decode cX1_init 83 = .ok (.aload_n 0, 1) := dk_42 (dk_at dksX1_init_3 13 rfl rfl)
theorem dX1_init_84 : decode cX1_init 84 = .ok (.getfield 33, 3) := dk_180 0 33 (dk_at dksX1_init_3 14 rfl rfl)
theorem dX1_init_87 : decode cX1_init 87 = .ok (.iload_n 1, 1) := dk_27 (dk_at dksX1_init_3 17 rfl rfl)
theorem dX1_init_88 : decode cX1_init 88 = .ok (.iload_n 1, 1) := dk_27 (dk_at dksX1_init_3 18 rfl rfl)
theorem dX1_init_89 : decode cX1_init 89 = .ok (.iastore, 1) := dk_79 (dk_at dksX1_init_3 19 rfl rfl)
theorem dX1_init_90 : decode cX1_init 90 = .ok (.iinc 1 1, 3) := dk_132 1 1 (dk_at dksX1_init_3 20 rfl rfl)
theorem dX1_init_93 : decode cX1_init 93 = .ok (.goto (-49), 3) := dk_167 255 207 (dk_at dksX1_init_4 0 rfl rfl)
theorem dX1_init_96 : decode cX1_init 96 = .ok (.iconst 0, 1) := dk_3 (dk_at dksX1_init_4 3 rfl rfl)
theorem dX1_init_97 : decode cX1_init 97 = .ok (.istore_n 1, 1) := dk_60 (dk_at dksX1_init_4 4 rfl rfl)
theorem dX1_init_98 : decode cX1_init 98 = .ok (.iload_n 1, 1) := dk_27 (dk_at dksX1_init_4 5 rfl rfl)
theorem dX1_init_99 : decode cX1_init 99 = .ok (.iconst 4, 1) := dk_7 (dk_at dksX1_init_4 6 rfl rfl)
theorem dX1_init_100 : decode cX1_init 100 = .ok (.if_icmp .ge 36, 3) := dk_162 0 36 (dk_at dksX1_init_4 7 rfl rfl)
theorem dX1_init_103 : decode cX1_init 103 = .ok (.aload_n 0, 1) := dk_42 (dk_at dksX1_init_4 10 rfl rfl)
theorem dX1_init_104 : decode cX1_init 104 = .ok (.getfield 30, 3) := dk_180 0 30 (dk_at dksX1_init_4 11 rfl rfl)
theorem dX1_init_107 : decode cX1_init 107 = .ok (.aconst_null, 1) := dk_1 (dk_at dksX1_init_4 14 rfl rfl)
theorem dX1_init_108 : decode cX1_init 108 = .ok (.invokevirtual 44, 3) := dk_182 0 44 (dk_at dksX1_init_4 15 rfl rfl)
theorem dX1_init_111 : decode cX1_init 111 = .ok (.pop, 1) := dk_87 (dk_at dksX1_init_4 18 rfl rfl)
theorem dX1_init_112 : decode cX1_init 112 = .ok (.aload_n 0, 1) := dk_42 (dk_at dksX1_init_4 19 rfl rfl)
theorem dX1_init_113 : decode cX1_init 113 = .ok (.getfield 33, 3) := dk_180 0 33 (dk_at dksX1_init_4 20 rfl rfl)
theorem dX1_init_116 : decode cX1_init 116 = .ok (.iconst 3, 1) := dk_6 (dk_at dksX1_init_4 23 rfl rfl)
theorem dX1_init_117 : decode cX1_init 117 = .ok (.iload_n 1, 1) := dk_27 (dk_at dksX1_init_5 0 rfl rfl)
theorem dX1_init_118 : decode cX1_init 118 = .ok (.iadd, 1) := dk_96 (dk_at dksX1_init_5 1 rfl rfl)
theorem dX1_init_119 : decode cX1_init 119 = .ok (.iconst (-1), 1) := dk_2 (dk_at dksX1_init_5 2 rfl rfl)
theorem dX1_init_120 : decode cX1_init 120 = .ok (.iastore, 1) := dk_79 (dk_at dksX1_init_5 3 rfl rfl)
theorem dX1_init_121 : decode cX1_init 121 = .ok (.aload_n 0, 1) := dk_42 (dk_at dksX1_init_5 4 rfl rfl)
theorem dX1_init_122 : decode cX1_init 122 = .ok (.getfield 37, 3) := dk_180 0 37 (dk_at dksX1_init_5 5 rfl rfl)
theorem dX1_init_125 : decode cX1_init 125 = .ok (.iconst 3, 1) := dk_6 (dk_at dksX1_init_5 8 rfl rfl)
theorem dX1_init_126 : decode cX1_init 126 = .ok (.iload_n 1, 1) := dk_27 (dk_at dksX1_init_5 9 rfl rfl)
theorem dX1_init_127 : decode cX1_init 127 = .ok (.iadd, 1) := dk_96 (dk_at dksX1_init_5 10 rfl rfl)
theorem dX1_init_128 : decode cX1_init 128 = .ok (.iconst (-1), 1) := dk_2 (dk_at dksX1_init_5 11 rfl rfl)
theorem dX1_init_129 : decode cX1_init 129 = .ok (.iastore, 1) := dk_79 (dk_at dksX1_init_5 12 rfl rfl)
theorem dX1_init_130 : decode cX1_init 130 = .ok (.iinc 1 1, 3) := dk_132 1 1 (dk_at dksX1_init_5 13 rfl rfl)
theorem dX1_init_133 : decode cX1_init 133 = .ok (.goto (-35), 3) := dk_167 255 221 (dk_at dksX1_init_5 16 rfl rfl)
theorem dX1_init_136 : decode cX1_init 136 = .ok (.return_, 1) := dk_177 (dk_at dksX1_init_5 19 rfl rfl)
abbrev cX1_zeros : ByteArray := prog_1_method_7_code
def yX1_zeros : MethodName := ⟨RX1, "zeros", "(I)[Ljava/lang/Integer;"⟩
def dkwX1_zeros_1 : List UInt8 := [167, 255, 241, 43, 176]
abbrev dktX1_zeros_1 : List UInt8 := dkwX1_zeros_1 ++ []
def dkwX1_zeros_0 : List UInt8 := [26, 189, 0, 8, 76, 3, 61, 28, 26, 162, 0, 16, 43, 28, 3, 184, 0, 7, 83, 132, 2, 1]
abbrev dktX1_zeros_0 : List UInt8 := dkwX1_zeros_0 ++ dktX1_zeros_1
theorem dksX1_zeros_0 : cX1_zeros.data.toList.drop 0 = dktX1_zeros_0 := by decide +kernel
theorem dksX1_zeros_1 : cX1_zeros.data.toList.drop 22 = dktX1_zeros_1 := dk_seg dksX1_zeros_0 22 rfl rfl
theorem dX1_zeros_0 : decode cX1_zeros 0 = .ok (.iload_n 0, 1) := dk_26 (dk_at dksX1_zeros_0 0 rfl rfl)
theorem dX1_zeros_1 : decode cX1_zeros 1 = .ok (.anewarray 8, 3) := dk_189 0 8 (dk_at dksX1_zeros_0 1 rfl rfl)
theorem dX1_zeros_4 : decode cX1_zeros 4 = .ok (.astore_n 1, 1) := dk_76 (dk_at dksX1_zeros_0 4 rfl rfl)
theorem dX1_zeros_5 : decode cX1_zeros 5 = .ok (.iconst 0, 1) := dk_3 (dk_at dksX1_zeros_0 5 rfl rfl)
theorem dX1_zeros_6 : decode cX1_zeros 6 = .ok (.istore_n 2, 1) := dk_61 (dk_at dksX1_zeros_0 6 rfl rfl)
theorem dX1_zeros_7 : decode cX1_zeros 7 = .ok (.iload_n 2, 1) := dk_28 (dk_at dksX1_zeros_0 7 rfl rfl)
theorem dX1_zeros_8 : decode cX1_zeros 8 = .ok (.iload_n 0, 1) := dk_26 (dk_at dksX1_zeros_0 8 rfl rfl)
theorem dX1_zeros_9 : decode cX1_zeros 9 = .ok (.if_icmp .ge 16, 3) := dk_162 0 16 (dk_at dksX1_zeros_0 9 rfl rfl)
theorem dX1_zeros_12 : decode cX1_zeros 12 = .ok (.aload_n 1, 1) := dk_43 (dk_at dksX1_zeros_0 12 rfl rfl)
theorem dX1_zeros_13 : decode cX1_zeros 13 = .ok (.iload_n 2, 1) := dk_28 (dk_at dksX1_zeros_0 13 rfl rfl)
theorem dX1_zeros_14 : decode cX1_zeros 14 = .ok (.iconst 0, 1) := dk_3 (dk_at dksX1_zeros_0 14 rfl rfl)
theorem dX1_zeros_15 : decode cX1_zeros 15 = .ok (.invokestatic 7, 3) := dk_184 0 7 (dk_at dksX1_zeros_0 15 rfl rfl)
theorem dX1_zeros_18 : decode cX1_zeros 18 = .ok (.aastore, 1) := dk_83 (dk_at dksX1_zeros_0 18 rfl rfl)
theorem dX1_zeros_19 : decode cX1_zeros 19 = .ok (.iinc 2 1, 3) := dk_132 2 1 (dk_at dksX1_zeros_0 19 rfl rfl)
theorem dX1_zeros_22 : decode cX1_zeros 22 = .ok (.goto (-15), 3) := dk_167 255 241 (dk_at dksX1_zeros_1 0 rfl rfl)
theorem dX1_zeros_25 : decode cX1_zeros 25 = .ok (.aload_n 1, 1) := dk_43 (dk_at dksX1_zeros_1 3 rfl rfl)
theorem dX1_zeros_26 : decode cX1_zeros 26 = .ok (.areturn, 1) := dk_176 (dk_at dksX1_zeros_1 4 rfl rfl)
abbrev cX1_knock : ByteArray := prog_1_method_68_code
def yX1_knock : MethodName := ⟨RX1, "knock", "()I"⟩
def dkwX1_knock_0 : List UInt8 := [42, 89, 180, 1, 78, 4, 96, 181, 1, 78, 42, 180, 1, 78, 172]
abbrev dktX1_knock_0 : List UInt8 := dkwX1_knock_0 ++ []
theorem dksX1_knock_0 : cX1_knock.data.toList.drop 0 = dktX1_knock_0 := by decide +kernel
theorem dX1_knock_0 : decode cX1_knock 0 = .ok (.aload_n 0, 1) := dk_42 (dk_at dksX1_knock_0 0 rfl rfl)
theorem dX1_knock_1 : decode cX1_knock 1 = .ok (.dup, 1) := dk_89 (dk_at dksX1_knock_0 1 rfl rfl)
theorem dX1_knock_2 : decode cX1_knock 2 = .ok (.getfield 334, 3) := dk_180 1 78 (dk_at dksX1_knock_0 2 rfl rfl)
theorem dX1_knock_5 : decode cX1_knock 5 = .ok (.iconst 1, 1) := dk_4 (dk_at dksX1_knock_0 5 rfl rfl)
theorem dX1_knock_6 : decode cX1_knock 6 = .ok (.iadd, 1) := dk_96 (dk_at dksX1_knock_0 6 rfl rfl)
theorem dX1_knock_7 : decode cX1_knock 7 = .ok (.putfield 334, 3) := dk_181 1 78 (dk_at dksX1_knock_0 7 rfl rfl)
theorem dX1_knock_10 : decode cX1_knock 10 = .ok (.aload_n 0, 1) := dk_42 (dk_at dksX1_knock_0 10 rfl rfl)
theorem dX1_knock_11 : decode cX1_knock 11 = .ok (.getfield 334, 3) := dk_180 1 78 (dk_at dksX1_knock_0 11 rfl rfl)
theorem dX1_knock_14 : decode cX1_knock 14 = .ok (.ireturn, 1) := dk_172 (dk_at dksX1_knock_0 14 rfl rfl)
abbrev cX1_isSound : ByteArray := prog_1_method_72_code
def yX1_isSound : MethodName := ⟨RX1, "isSound", "()Z"⟩
theorem dX1_isSound_0 : decode cX1_isSound 0 = .ok (.aload_n 0, 1) := by decide +kernel
theorem dX1_isSound_1 : decode cX1_isSound 1 = .ok (.invokevirtual 376, 3) := by decide +kernel
theorem dX1_isSound_4 : decode cX1_isSound 4 = .ok (.ireturn, 1) := by decide +kernel
abbrev cX1_isSoundNow : ByteArray := prog_1_method_66_code
def yX1_isSoundNow : MethodName := ⟨RX1, "isSoundNow", "()Z"⟩
def dkwX1_isSoundNow_1 : List UInt8 := [182, 1, 111, 153, 0, 7, 4, 167, 0, 4, 3, 60, 132, 2, 1, 167, 255, 221, 27, 172]
abbrev dktX1_isSoundNow_1 : List UInt8 := dkwX1_isSoundNow_1 ++ []
def dkwX1_isSoundNow_0 : List UInt8 := [4, 60, 3, 61, 28, 16, 7, 162, 0, 35, 27, 153, 0, 23, 42, 28, 182, 0, 66, 153, 0, 11, 42, 28]
abbrev dktX1_isSoundNow_0 : List UInt8 := dkwX1_isSoundNow_0 ++ dktX1_isSoundNow_1
theorem dksX1_isSoundNow_0 : cX1_isSoundNow.data.toList.drop 0 = dktX1_isSoundNow_0 := by decide +kernel
theorem dksX1_isSoundNow_1 : cX1_isSoundNow.data.toList.drop 24 = dktX1_isSoundNow_1 := dk_seg dksX1_isSoundNow_0 24 rfl rfl
theorem dX1_isSoundNow_0 : decode cX1_isSoundNow 0 = .ok (.iconst 1, 1) := dk_4 (dk_at dksX1_isSoundNow_0 0 rfl rfl)
theorem dX1_isSoundNow_1 : decode cX1_isSoundNow 1 = .ok (.istore_n 1, 1) := dk_60 (dk_at dksX1_isSoundNow_0 1 rfl rfl)
theorem dX1_isSoundNow_2 : decode cX1_isSoundNow 2 = .ok (.iconst 0, 1) := dk_3 (dk_at dksX1_isSoundNow_0 2 rfl rfl)
theorem dX1_isSoundNow_3 : decode cX1_isSoundNow 3 = .ok (.istore_n 2, 1) := dk_61 (dk_at dksX1_isSoundNow_0 3 rfl rfl)
theorem dX1_isSoundNow_4 : decode cX1_isSoundNow 4 = .ok (.iload_n 2, 1) := dk_28 (dk_at dksX1_isSoundNow_0 4 rfl rfl)
theorem dX1_isSoundNow_5 : decode cX1_isSoundNow 5 = .ok (.bipush 7, 2) := dk_16 7 (dk_at dksX1_isSoundNow_0 5 rfl rfl)
theorem dX1_isSoundNow_7 : decode cX1_isSoundNow 7 = .ok (.if_icmp .ge 35, 3) := dk_162 0 35 (dk_at dksX1_isSoundNow_0 7 rfl rfl)
theorem dX1_isSoundNow_10 : decode cX1_isSoundNow 10 = .ok (.iload_n 1, 1) := dk_27 (dk_at dksX1_isSoundNow_0 10 rfl rfl)
theorem dX1_isSoundNow_11 : decode cX1_isSoundNow 11 = .ok (.ifCond .eq 23, 3) := dk_153 0 23 (dk_at dksX1_isSoundNow_0 11 rfl rfl)
theorem dX1_isSoundNow_14 : decode cX1_isSoundNow 14 = .ok (.aload_n 0, 1) := dk_42 (dk_at dksX1_isSoundNow_0 14 rfl rfl)
theorem dX1_isSoundNow_15 : decode cX1_isSoundNow 15 = .ok (.iload_n 2, 1) := dk_28 (dk_at dksX1_isSoundNow_0 15 rfl rfl)
theorem dX1_isSoundNow_16 : decode cX1_isSoundNow 16 = .ok (.invokevirtual 66, 3) := dk_182 0 66 (dk_at dksX1_isSoundNow_0 16 rfl rfl)
theorem dX1_isSoundNow_19 : decode cX1_isSoundNow 19 = .ok (.ifCond .eq 11, 3) := dk_153 0 11 (dk_at dksX1_isSoundNow_0 19 rfl rfl)
theorem dX1_isSoundNow_22 : decode cX1_isSoundNow 22 = .ok (.aload_n 0, 1) := dk_42 (dk_at dksX1_isSoundNow_0 22 rfl rfl)
theorem dX1_isSoundNow_23 : decode cX1_isSoundNow 23 = .ok (.iload_n 2, 1) := dk_28 (dk_at dksX1_isSoundNow_0 23 rfl rfl)
theorem dX1_isSoundNow_24 : decode cX1_isSoundNow 24 = .ok (.invokevirtual 367, 3) := dk_182 1 111 (dk_at dksX1_isSoundNow_1 0 rfl rfl)
theorem dX1_isSoundNow_27 : decode cX1_isSoundNow 27 = .ok (.ifCond .eq 7, 3) := dk_153 0 7 (dk_at dksX1_isSoundNow_1 3 rfl rfl)
theorem dX1_isSoundNow_30 : decode cX1_isSoundNow 30 = .ok (.iconst 1, 1) := dk_4 (dk_at dksX1_isSoundNow_1 6 rfl rfl)
theorem dX1_isSoundNow_31 : decode cX1_isSoundNow 31 = .ok (.goto 4, 3) := dk_167 0 4 (dk_at dksX1_isSoundNow_1 7 rfl rfl)
theorem dX1_isSoundNow_34 : decode cX1_isSoundNow 34 = .ok (.iconst 0, 1) := dk_3 (dk_at dksX1_isSoundNow_1 10 rfl rfl)
theorem dX1_isSoundNow_35 : decode cX1_isSoundNow 35 = .ok (.istore_n 1, 1) := dk_60 (dk_at dksX1_isSoundNow_1 11 rfl rfl)
theorem dX1_isSoundNow_36 : decode cX1_isSoundNow 36 = .ok (.iinc 2 1, 3) := dk_132 2 1 (dk_at dksX1_isSoundNow_1 12 rfl rfl)
theorem dX1_isSoundNow_39 : decode cX1_isSoundNow 39 = .ok (.goto (-35), 3) := dk_167 255 221 (dk_at dksX1_isSoundNow_1 15 rfl rfl)
theorem dX1_isSoundNow_42 : decode cX1_isSoundNow 42 = .ok (.iload_n 1, 1) := dk_27 (dk_at dksX1_isSoundNow_1 18 rfl rfl)
theorem dX1_isSoundNow_43 : decode cX1_isSoundNow 43 = .ok (.ireturn, 1) := dk_172 (dk_at dksX1_isSoundNow_1 19 rfl rfl)
abbrev cX1_isList : ByteArray := prog_1_method_10_code
def yX1_isList : MethodName := ⟨RX1, "isList", "(I)Z"⟩
def dkwX1_isList_1 : List UInt8 := [167, 0, 4, 3, 172]
abbrev dktX1_isList_1 : List UInt8 := dkwX1_isList_1 ++ []
def dkwX1_isList_0 : List UInt8 := [27, 3, 16, 6, 184, 0, 3, 153, 0, 18, 42, 180, 0, 30, 27, 182, 0, 48, 198, 0, 7, 4]
abbrev dktX1_isList_0 : List UInt8 := dkwX1_isList_0 ++ dktX1_isList_1
theorem dksX1_isList_0 : cX1_isList.data.toList.drop 0 = dktX1_isList_0 := by decide +kernel
theorem dksX1_isList_1 : cX1_isList.data.toList.drop 22 = dktX1_isList_1 := dk_seg dksX1_isList_0 22 rfl rfl
theorem dX1_isList_0 : decode cX1_isList 0 = .ok (.iload_n 1, 1) := dk_27 (dk_at dksX1_isList_0 0 rfl rfl)
theorem dX1_isList_1 : decode cX1_isList 1 = .ok (.iconst 0, 1) := dk_3 (dk_at dksX1_isList_0 1 rfl rfl)
theorem dX1_isList_2 : decode cX1_isList 2 = .ok (.bipush 6, 2) := dk_16 6 (dk_at dksX1_isList_0 2 rfl rfl)
theorem dX1_isList_4 : decode cX1_isList 4 = .ok (.invokestatic 3, 3) := dk_184 0 3 (dk_at dksX1_isList_0 4 rfl rfl)
theorem dX1_isList_7 : decode cX1_isList 7 = .ok (.ifCond .eq 18, 3) := dk_153 0 18 (dk_at dksX1_isList_0 7 rfl rfl)
theorem dX1_isList_10 : decode cX1_isList 10 = .ok (.aload_n 0, 1) := dk_42 (dk_at dksX1_isList_0 10 rfl rfl)
theorem dX1_isList_11 : decode cX1_isList 11 = .ok (.getfield 30, 3) := dk_180 0 30 (dk_at dksX1_isList_0 11 rfl rfl)
theorem dX1_isList_14 : decode cX1_isList 14 = .ok (.iload_n 1, 1) := dk_27 (dk_at dksX1_isList_0 14 rfl rfl)
theorem dX1_isList_15 : decode cX1_isList 15 = .ok (.invokevirtual 48, 3) := dk_182 0 48 (dk_at dksX1_isList_0 15 rfl rfl)
theorem dX1_isList_18 : decode cX1_isList 18 = .ok (.ifnull 7, 3) := dk_198 0 7 (dk_at dksX1_isList_0 18 rfl rfl)
theorem dX1_isList_21 : decode cX1_isList 21 = .ok (.iconst 1, 1) := dk_4 (dk_at dksX1_isList_0 21 rfl rfl)
theorem dX1_isList_22 : decode cX1_isList 22 = .ok (.goto 4, 3) := dk_167 0 4 (dk_at dksX1_isList_1 0 rfl rfl)
theorem dX1_isList_25 : decode cX1_isList 25 = .ok (.iconst 0, 1) := dk_3 (dk_at dksX1_isList_1 3 rfl rfl)
theorem dX1_isList_26 : decode cX1_isList 26 = .ok (.ireturn, 1) := dk_172 (dk_at dksX1_isList_1 4 rfl rfl)
abbrev cX1_isIn : ByteArray := prog_1_method_1_code
def yX1_isIn : MethodName := ⟨RX1, "isIn", "(III)Z"⟩
def dkwX1_isIn_0 : List UInt8 := [26, 27, 161, 0, 12, 26, 28, 163, 0, 7, 4, 167, 0, 4, 3, 172]
abbrev dktX1_isIn_0 : List UInt8 := dkwX1_isIn_0 ++ []
theorem dksX1_isIn_0 : cX1_isIn.data.toList.drop 0 = dktX1_isIn_0 := by decide +kernel
theorem dX1_isIn_0 : decode cX1_isIn 0 = .ok (.iload_n 0, 1) := dk_26 (dk_at dksX1_isIn_0 0 rfl rfl)
theorem dX1_isIn_1 : decode cX1_isIn 1 = .ok (.iload_n 1, 1) := dk_27 (dk_at dksX1_isIn_0 1 rfl rfl)
theorem dX1_isIn_2 : decode cX1_isIn 2 = .ok (.if_icmp .lt 12, 3) := dk_161 0 12 (dk_at dksX1_isIn_0 2 rfl rfl)
theorem dX1_isIn_5 : decode cX1_isIn 5 = .ok (.iload_n 0, 1) := dk_26 (dk_at dksX1_isIn_0 5 rfl rfl)
theorem dX1_isIn_6 : decode cX1_isIn 6 = .ok (.iload_n 2, 1) := dk_28 (dk_at dksX1_isIn_0 6 rfl rfl)
theorem dX1_isIn_7 : decode cX1_isIn 7 = .ok (.if_icmp .gt 7, 3) := dk_163 0 7 (dk_at dksX1_isIn_0 7 rfl rfl)
theorem dX1_isIn_10 : decode cX1_isIn 10 = .ok (.iconst 1, 1) := dk_4 (dk_at dksX1_isIn_0 10 rfl rfl)
theorem dX1_isIn_11 : decode cX1_isIn 11 = .ok (.goto 4, 3) := dk_167 0 4 (dk_at dksX1_isIn_0 11 rfl rfl)
theorem dX1_isIn_14 : decode cX1_isIn 14 = .ok (.iconst 0, 1) := dk_3 (dk_at dksX1_isIn_0 14 rfl rfl)
theorem dX1_isIn_15 : decode cX1_isIn 15 = .ok (.ireturn, 1) := dk_172 (dk_at dksX1_isIn_0 15 rfl rfl)
abbrev cX1_isListSound : ByteArray := prog_1_method_65_code
def yX1_isListSound : MethodName := ⟨RX1, "isListSound", "(I)Z"⟩
def dkwX1_isListSound_7 : List UInt8 := [27, 182, 1, 91, 185, 0, 220, 2, 0, 153, 0, 7, 4, 167, 0, 4, 3, 172]
abbrev dktX1_isListSound_7 : List UInt8 := dkwX1_isListSound_7 ++ []
def dkwX1_isListSound_6 : List UInt8 := [153, 0, 14, 44, 184, 1, 107, 153, 0, 7, 4, 167, 0, 4, 3, 54, 5, 21, 5, 153, 0, 21, 44, 42]
abbrev dktX1_isListSound_6 : List UInt8 := dkwX1_isListSound_6 ++ dktX1_isListSound_7
def dkwX1_isListSound_5 : List UInt8 := [45, 184, 0, 185, 182, 1, 104, 153, 0, 29, 44, 184, 0, 189, 25, 4, 184, 0, 185, 182, 1, 104]
abbrev dktX1_isListSound_5 : List UInt8 := dkwX1_isListSound_5 ++ dktX1_isListSound_6
def dkwX1_isListSound_4 : List UInt8 := [44, 45, 184, 1, 100, 153, 0, 7, 4, 167, 0, 4, 3, 54, 5, 21, 5, 153, 0, 43, 44, 184, 0, 185]
abbrev dktX1_isListSound_4 : List UInt8 := dkwX1_isListSound_4 ++ dktX1_isListSound_5
def dkwX1_isListSound_3 : List UInt8 := [153, 0, 36, 45, 44, 182, 1, 95, 153, 0, 28, 44, 185, 0, 223, 1, 0, 45, 184, 1, 96, 160, 0, 15]
abbrev dktX1_isListSound_3 : List UInt8 := dkwX1_isListSound_3 ++ dktX1_isListSound_4
def dkwX1_isListSound_2 : List UInt8 := [182, 0, 48, 192, 0, 8, 182, 0, 44, 87, 132, 5, 255, 167, 255, 233, 44, 45, 185, 0, 220, 2, 0]
abbrev dktX1_isListSound_2 : List UInt8 := dkwX1_isListSound_2 ++ dktX1_isListSound_3
def dkwX1_isListSound_1 : List UInt8 := [183, 0, 25, 58, 4, 45, 182, 1, 81, 4, 100, 54, 5, 21, 5, 155, 0, 24, 25, 4, 45, 21, 5]
abbrev dktX1_isListSound_1 : List UInt8 := dkwX1_isListSound_1 ++ dktX1_isListSound_2
def dkwX1_isListSound_0 : List UInt8 := [42, 180, 0, 30, 27, 182, 0, 48, 192, 0, 74, 77, 42, 27, 182, 1, 91, 78, 187, 0, 23, 89]
abbrev dktX1_isListSound_0 : List UInt8 := dkwX1_isListSound_0 ++ dktX1_isListSound_1
theorem dksX1_isListSound_0 : cX1_isListSound.data.toList.drop 0 = dktX1_isListSound_0 := by decide +kernel
theorem dksX1_isListSound_1 : cX1_isListSound.data.toList.drop 22 = dktX1_isListSound_1 := dk_seg dksX1_isListSound_0 22 rfl rfl
theorem dksX1_isListSound_2 : cX1_isListSound.data.toList.drop 45 = dktX1_isListSound_2 := dk_seg dksX1_isListSound_1 23 rfl rfl
theorem dksX1_isListSound_3 : cX1_isListSound.data.toList.drop 68 = dktX1_isListSound_3 := dk_seg dksX1_isListSound_2 23 rfl rfl
theorem dksX1_isListSound_4 : cX1_isListSound.data.toList.drop 92 = dktX1_isListSound_4 := dk_seg dksX1_isListSound_3 24 rfl rfl
theorem dksX1_isListSound_5 : cX1_isListSound.data.toList.drop 116 = dktX1_isListSound_5 := dk_seg dksX1_isListSound_4 24 rfl rfl
theorem dksX1_isListSound_6 : cX1_isListSound.data.toList.drop 138 = dktX1_isListSound_6 := dk_seg dksX1_isListSound_5 22 rfl rfl
theorem dksX1_isListSound_7 : cX1_isListSound.data.toList.drop 162 = dktX1_isListSound_7 := dk_seg dksX1_isListSound_6 24 rfl rfl
theorem dX1_isListSound_0 : decode cX1_isListSound 0 = .ok (.aload_n 0, 1) := dk_42 (dk_at dksX1_isListSound_0 0 rfl rfl)
theorem dX1_isListSound_1 : decode cX1_isListSound 1 = .ok (.getfield 30, 3) := dk_180 0 30 (dk_at dksX1_isListSound_0 1 rfl rfl)
theorem dX1_isListSound_4 : decode cX1_isListSound 4 = .ok (.iload_n 1, 1) := dk_27 (dk_at dksX1_isListSound_0 4 rfl rfl)
theorem dX1_isListSound_5 : decode cX1_isListSound 5 = .ok (.invokevirtual 48, 3) := dk_182 0 48 (dk_at dksX1_isListSound_0 5 rfl rfl)
theorem dX1_isListSound_8 : decode cX1_isListSound 8 = .ok (.checkcast 74, 3) := dk_192 0 74 (dk_at dksX1_isListSound_0 8 rfl rfl)
theorem dX1_isListSound_11 : decode cX1_isListSound 11 = .ok (.astore_n 2, 1) := dk_77 (dk_at dksX1_isListSound_0 11 rfl rfl)
theorem dX1_isListSound_12 : decode cX1_isListSound 12 = .ok (.aload_n 0, 1) := dk_42 (dk_at dksX1_isListSound_0 12 rfl rfl)
theorem dX1_isListSound_13 : decode cX1_isListSound 13 = .ok (.iload_n 1, 1) := dk_27 (dk_at dksX1_isListSound_0 13 rfl rfl)
theorem dX1_isListSound_14 : decode cX1_isListSound 14 = .ok (.invokevirtual 347, 3) := dk_182 1 91 (dk_at dksX1_isListSound_0 14 rfl rfl)
theorem dX1_isListSound_17 : decode cX1_isListSound 17 = .ok (.astore_n 3, 1) := dk_78 (dk_at dksX1_isListSound_0 17 rfl rfl)
theorem dX1_isListSound_18 : decode cX1_isListSound 18 = .ok (.new 23, 3) := dk_187 0 23 (dk_at dksX1_isListSound_0 18 rfl rfl)
theorem dX1_isListSound_21 : decode cX1_isListSound 21 = .ok (.dup, 1) := dk_89 (dk_at dksX1_isListSound_0 21 rfl rfl)
theorem dX1_isListSound_22 : decode cX1_isListSound 22 = .ok (.invokespecial 25, 3) := dk_183 0 25 (dk_at dksX1_isListSound_1 0 rfl rfl)
theorem dX1_isListSound_25 : decode cX1_isListSound 25 = .ok (.astore 4, 2) := dk_58 4 (dk_at dksX1_isListSound_1 3 rfl rfl)
theorem dX1_isListSound_27 : decode cX1_isListSound 27 = .ok (.aload_n 3, 1) := dk_45 (dk_at dksX1_isListSound_1 5 rfl rfl)
theorem dX1_isListSound_28 : decode cX1_isListSound 28 = .ok (.invokevirtual 337, 3) := dk_182 1 81 (dk_at dksX1_isListSound_1 6 rfl rfl)
theorem dX1_isListSound_31 : decode cX1_isListSound 31 = .ok (.iconst 1, 1) := dk_4 (dk_at dksX1_isListSound_1 9 rfl rfl)
theorem dX1_isListSound_32 : decode cX1_isListSound 32 = .ok (.isub, 1) := dk_100 (dk_at dksX1_isListSound_1 10 rfl rfl)
theorem dX1_isListSound_33 : decode cX1_isListSound 33 = .ok (.istore 5, 2) := dk_54 5 (dk_at dksX1_isListSound_1 11 rfl rfl)
theorem dX1_isListSound_35 : decode cX1_isListSound 35 = .ok (.iload 5, 2) := dk_21 5 (dk_at dksX1_isListSound_1 13 rfl rfl)
theorem dX1_isListSound_37 : decode cX1_isListSound 37 = .ok (.ifCond .lt 24, 3) := dk_155 0 24 (dk_at dksX1_isListSound_1 15 rfl rfl)
theorem dX1_isListSound_40 : decode cX1_isListSound 40 = .ok (.aload 4, 2) := dk_25 4 (dk_at dksX1_isListSound_1 18 rfl rfl)
theorem dX1_isListSound_42 : decode cX1_isListSound 42 = .ok (.aload_n 3, 1) := dk_45 (dk_at dksX1_isListSound_1 20 rfl rfl)
theorem dX1_isListSound_43 : decode cX1_isListSound 43 = .ok (.iload 5, 2) := dk_21 5 (dk_at dksX1_isListSound_1 21 rfl rfl)
theorem dX1_isListSound_45 : decode cX1_isListSound 45 = .ok (.invokevirtual 48, 3) := dk_182 0 48 (dk_at dksX1_isListSound_2 0 rfl rfl)
theorem dX1_isListSound_48 : decode cX1_isListSound 48 = .ok (.checkcast 8, 3) := dk_192 0 8 (dk_at dksX1_isListSound_2 3 rfl rfl)
theorem dX1_isListSound_51 : decode cX1_isListSound 51 = .ok (.invokevirtual 44, 3) := dk_182 0 44 (dk_at dksX1_isListSound_2 6 rfl rfl)
theorem dX1_isListSound_54 : decode cX1_isListSound 54 = .ok (.pop, 1) := dk_87 (dk_at dksX1_isListSound_2 9 rfl rfl)
theorem dX1_isListSound_55 : decode cX1_isListSound 55 = .ok (.iinc 5 (-1), 3) := dk_132 5 255 (dk_at dksX1_isListSound_2 10 rfl rfl)
theorem dX1_isListSound_58 : decode cX1_isListSound 58 = .ok (.goto (-23), 3) := dk_167 255 233 (dk_at dksX1_isListSound_2 13 rfl rfl)
theorem dX1_isListSound_61 : decode cX1_isListSound 61 = .ok (.aload_n 2, 1) := dk_44 (dk_at dksX1_isListSound_2 16 rfl rfl)
theorem dX1_isListSound_62 : decode cX1_isListSound 62 = .ok (.aload_n 3, 1) := dk_45 (dk_at dksX1_isListSound_2 17 rfl rfl)
theorem dX1_isListSound_63 : decode cX1_isListSound 63 = .ok (.invokeinterface 220 2, 5) := by decide +kernel
theorem dX1_isListSound_68 : decode cX1_isListSound 68 = .ok (.ifCond .eq 36, 3) := dk_153 0 36 (dk_at dksX1_isListSound_3 0 rfl rfl)
theorem dX1_isListSound_71 : decode cX1_isListSound 71 = .ok (.aload_n 3, 1) := dk_45 (dk_at dksX1_isListSound_3 3 rfl rfl)
theorem dX1_isListSound_72 : decode cX1_isListSound 72 = .ok (.aload_n 2, 1) := dk_44 (dk_at dksX1_isListSound_3 4 rfl rfl)
theorem dX1_isListSound_73 : decode cX1_isListSound 73 = .ok (.invokevirtual 351, 3) := dk_182 1 95 (dk_at dksX1_isListSound_3 5 rfl rfl)
theorem dX1_isListSound_76 : decode cX1_isListSound 76 = .ok (.ifCond .eq 28, 3) := dk_153 0 28 (dk_at dksX1_isListSound_3 8 rfl rfl)
theorem dX1_isListSound_79 : decode cX1_isListSound 79 = .ok (.aload_n 2, 1) := dk_44 (dk_at dksX1_isListSound_3 11 rfl rfl)
theorem dX1_isListSound_80 : decode cX1_isListSound 80 = .ok (.invokeinterface 223 1, 5) := by decide +kernel
theorem dX1_isListSound_85 : decode cX1_isListSound 85 = .ok (.aload_n 3, 1) := dk_45 (dk_at dksX1_isListSound_3 17 rfl rfl)
theorem dX1_isListSound_86 : decode cX1_isListSound 86 = .ok (.invokestatic 352, 3) := dk_184 1 96 (dk_at dksX1_isListSound_3 18 rfl rfl)
theorem dX1_isListSound_89 : decode cX1_isListSound 89 = .ok (.if_icmp .ne 15, 3) := dk_160 0 15 (dk_at dksX1_isListSound_3 21 rfl rfl)
theorem dX1_isListSound_92 : decode cX1_isListSound 92 = .ok (.aload_n 2, 1) := dk_44 (dk_at dksX1_isListSound_4 0 rfl rfl)
theorem dX1_isListSound_93 : decode cX1_isListSound 93 = .ok (.aload_n 3, 1) := dk_45 (dk_at dksX1_isListSound_4 1 rfl rfl)
theorem dX1_isListSound_94 : decode cX1_isListSound 94 = .ok (.invokestatic 356, 3) := dk_184 1 100 (dk_at dksX1_isListSound_4 2 rfl rfl)
theorem dX1_isListSound_97 : decode cX1_isListSound 97 = .ok (.ifCond .eq 7, 3) := dk_153 0 7 (dk_at dksX1_isListSound_4 5 rfl rfl)
theorem dX1_isListSound_100 : decode cX1_isListSound 100 = .ok (.iconst 1, 1) := dk_4 (dk_at dksX1_isListSound_4 8 rfl rfl)
theorem dX1_isListSound_101 : decode cX1_isListSound 101 = .ok (.goto 4, 3) := dk_167 0 4 (dk_at dksX1_isListSound_4 9 rfl rfl)
theorem dX1_isListSound_104 : decode cX1_isListSound 104 = .ok (.iconst 0, 1) := dk_3 (dk_at dksX1_isListSound_4 12 rfl rfl)
theorem dX1_isListSound_105 : decode cX1_isListSound 105 = .ok (.istore 5, 2) := dk_54 5 (dk_at dksX1_isListSound_4 13 rfl rfl)
theorem dX1_isListSound_107 : decode cX1_isListSound 107 = .ok (.iload 5, 2) := dk_21 5 (dk_at dksX1_isListSound_4 15 rfl rfl)
theorem dX1_isListSound_109 : decode cX1_isListSound 109 = .ok (.ifCond .eq 43, 3) := dk_153 0 43 (dk_at dksX1_isListSound_4 17 rfl rfl)
theorem dX1_isListSound_112 : decode cX1_isListSound 112 = .ok (.aload_n 2, 1) := dk_44 (dk_at dksX1_isListSound_4 20 rfl rfl)
theorem dX1_isListSound_113 : decode cX1_isListSound 113 = .ok (.invokestatic 185, 3) := dk_184 0 185 (dk_at dksX1_isListSound_4 21 rfl rfl)
theorem dX1_isListSound_116 : decode cX1_isListSound 116 = .ok (.aload_n 3, 1) := dk_45 (dk_at dksX1_isListSound_5 0 rfl rfl)
theorem dX1_isListSound_117 : decode cX1_isListSound 117 = .ok (.invokestatic 185, 3) := dk_184 0 185 (dk_at dksX1_isListSound_5 1 rfl rfl)
theorem dX1_isListSound_120 : decode cX1_isListSound 120 = .ok (.invokevirtual 360, 3) := dk_182 1 104 (dk_at dksX1_isListSound_5 4 rfl rfl)
theorem dX1_isListSound_123 : decode cX1_isListSound 123 = .ok (.ifCond .eq 29, 3) := dk_153 0 29 (dk_at dksX1_isListSound_5 7 rfl rfl)
theorem dX1_isListSound_126 : decode cX1_isListSound 126 = .ok (.aload_n 2, 1) := dk_44 (dk_at dksX1_isListSound_5 10 rfl rfl)
theorem dX1_isListSound_127 : decode cX1_isListSound 127 = .ok (.invokestatic 189, 3) := dk_184 0 189 (dk_at dksX1_isListSound_5 11 rfl rfl)
theorem dX1_isListSound_130 : decode cX1_isListSound 130 = .ok (.aload 4, 2) := dk_25 4 (dk_at dksX1_isListSound_5 14 rfl rfl)
theorem dX1_isListSound_132 : decode cX1_isListSound 132 = .ok (.invokestatic 185, 3) := dk_184 0 185 (dk_at dksX1_isListSound_5 16 rfl rfl)
theorem dX1_isListSound_135 : decode cX1_isListSound 135 = .ok (.invokevirtual 360, 3) := dk_182 1 104 (dk_at dksX1_isListSound_5 19 rfl rfl)
theorem dX1_isListSound_138 : decode cX1_isListSound 138 = .ok (.ifCond .eq 14, 3) := dk_153 0 14 (dk_at dksX1_isListSound_6 0 rfl rfl)
theorem dX1_isListSound_141 : decode cX1_isListSound 141 = .ok (.aload_n 2, 1) := dk_44 (dk_at dksX1_isListSound_6 3 rfl rfl)
theorem dX1_isListSound_142 : decode cX1_isListSound 142 = .ok (.invokestatic 363, 3) := dk_184 1 107 (dk_at dksX1_isListSound_6 4 rfl rfl)
theorem dX1_isListSound_145 : decode cX1_isListSound 145 = .ok (.ifCond .eq 7, 3) := dk_153 0 7 (dk_at dksX1_isListSound_6 7 rfl rfl)
theorem dX1_isListSound_148 : decode cX1_isListSound 148 = .ok (.iconst 1, 1) := dk_4 (dk_at dksX1_isListSound_6 10 rfl rfl)
theorem dX1_isListSound_149 : decode cX1_isListSound 149 = .ok (.goto 4, 3) := dk_167 0 4 (dk_at dksX1_isListSound_6 11 rfl rfl)
theorem dX1_isListSound_152 : decode cX1_isListSound 152 = .ok (.iconst 0, 1) := dk_3 (dk_at dksX1_isListSound_6 14 rfl rfl)
theorem dX1_isListSound_153 : decode cX1_isListSound 153 = .ok (.istore 5, 2) := dk_54 5 (dk_at dksX1_isListSound_6 15 rfl rfl)
theorem dX1_isListSound_155 : decode cX1_isListSound 155 = .ok (.iload 5, 2) := dk_21 5 (dk_at dksX1_isListSound_6 17 rfl rfl)
theorem dX1_isListSound_157 : decode cX1_isListSound 157 = .ok (.ifCond .eq 21, 3) := dk_153 0 21 (dk_at dksX1_isListSound_6 19 rfl rfl)
theorem dX1_isListSound_160 : decode cX1_isListSound 160 = .ok (.aload_n 2, 1) := dk_44 (dk_at dksX1_isListSound_6 22 rfl rfl)
theorem dX1_isListSound_161 : decode cX1_isListSound 161 = .ok (.aload_n 0, 1) := dk_42 (dk_at dksX1_isListSound_6 23 rfl rfl)
theorem dX1_isListSound_162 : decode cX1_isListSound 162 = .ok (.iload_n 1, 1) := dk_27 (dk_at dksX1_isListSound_7 0 rfl rfl)
theorem dX1_isListSound_163 : decode cX1_isListSound 163 = .ok (.invokevirtual 347, 3) := dk_182 1 91 (dk_at dksX1_isListSound_7 1 rfl rfl)
theorem dX1_isListSound_166 : decode cX1_isListSound 166 = .ok (.invokeinterface 220 2, 5) := by decide +kernel
theorem dX1_isListSound_171 : decode cX1_isListSound 171 = .ok (.ifCond .eq 7, 3) := dk_153 0 7 (dk_at dksX1_isListSound_7 9 rfl rfl)
theorem dX1_isListSound_174 : decode cX1_isListSound 174 = .ok (.iconst 1, 1) := dk_4 (dk_at dksX1_isListSound_7 12 rfl rfl)
theorem dX1_isListSound_175 : decode cX1_isListSound 175 = .ok (.goto 4, 3) := dk_167 0 4 (dk_at dksX1_isListSound_7 13 rfl rfl)
theorem dX1_isListSound_178 : decode cX1_isListSound 178 = .ok (.iconst 0, 1) := dk_3 (dk_at dksX1_isListSound_7 16 rfl rfl)
theorem dX1_isListSound_179 : decode cX1_isListSound 179 = .ok (.ireturn, 1) := dk_172 (dk_at dksX1_isListSound_7 17 rfl rfl)
abbrev cX1_own : ByteArray := prog_1_method_61_code
def yX1_own : MethodName := ⟨RX1, "own", "(I)Ljava/util/ArrayList;"⟩
def dkwX1_own_2 : List UInt8 := [192, 0, 52, 42, 180, 0, 37, 27, 46, 29, 96, 50, 182, 0, 44, 87, 132, 3, 1, 167, 255, 203, 44, 176]
abbrev dktX1_own_2 : List UInt8 := dkwX1_own_2 ++ []
def dkwX1_own_1 : List UInt8 := [185, 0, 80, 1, 0, 162, 0, 39, 44, 42, 180, 0, 26, 42, 180, 0, 33, 27, 46, 182, 0, 48]
abbrev dktX1_own_1 : List UInt8 := dkwX1_own_1 ++ dktX1_own_2
def dkwX1_own_0 : List UInt8 := [187, 0, 23, 89, 183, 0, 25, 77, 3, 62, 29, 42, 180, 0, 30, 27, 182, 0, 48, 192, 0, 74]
abbrev dktX1_own_0 : List UInt8 := dkwX1_own_0 ++ dktX1_own_1
theorem dksX1_own_0 : cX1_own.data.toList.drop 0 = dktX1_own_0 := by decide +kernel
theorem dksX1_own_1 : cX1_own.data.toList.drop 22 = dktX1_own_1 := dk_seg dksX1_own_0 22 rfl rfl
theorem dksX1_own_2 : cX1_own.data.toList.drop 44 = dktX1_own_2 := dk_seg dksX1_own_1 22 rfl rfl
theorem dX1_own_0 : decode cX1_own 0 = .ok (.new 23, 3) := dk_187 0 23 (dk_at dksX1_own_0 0 rfl rfl)
theorem dX1_own_3 : decode cX1_own 3 = .ok (.dup, 1) := dk_89 (dk_at dksX1_own_0 3 rfl rfl)
theorem dX1_own_4 : decode cX1_own 4 = .ok (.invokespecial 25, 3) := dk_183 0 25 (dk_at dksX1_own_0 4 rfl rfl)
theorem dX1_own_7 : decode cX1_own 7 = .ok (.astore_n 2, 1) := dk_77 (dk_at dksX1_own_0 7 rfl rfl)
theorem dX1_own_8 : decode cX1_own 8 = .ok (.iconst 0, 1) := dk_3 (dk_at dksX1_own_0 8 rfl rfl)
theorem dX1_own_9 : decode cX1_own 9 = .ok (.istore_n 3, 1) := dk_62 (dk_at dksX1_own_0 9 rfl rfl)
theorem dX1_own_10 : decode cX1_own 10 = .ok (.iload_n 3, 1) := dk_29 (dk_at dksX1_own_0 10 rfl rfl)
theorem dX1_own_11 : decode cX1_own 11 = .ok (.aload_n 0, 1) := dk_42 (dk_at dksX1_own_0 11 rfl rfl)
theorem dX1_own_12 : decode cX1_own 12 = .ok (.getfield 30, 3) := dk_180 0 30 (dk_at dksX1_own_0 12 rfl rfl)
theorem dX1_own_15 : decode cX1_own 15 = .ok (.iload_n 1, 1) := dk_27 (dk_at dksX1_own_0 15 rfl rfl)
theorem dX1_own_16 : decode cX1_own 16 = .ok (.invokevirtual 48, 3) := dk_182 0 48 (dk_at dksX1_own_0 16 rfl rfl)
theorem dX1_own_19 : decode cX1_own 19 = .ok (.checkcast 74, 3) := dk_192 0 74 (dk_at dksX1_own_0 19 rfl rfl)
theorem dX1_own_22 : decode cX1_own 22 = .ok (.invokeinterface 80 1, 5) := by decide +kernel
theorem dX1_own_27 : decode cX1_own 27 = .ok (.if_icmp .ge 39, 3) := dk_162 0 39 (dk_at dksX1_own_1 5 rfl rfl)
theorem dX1_own_30 : decode cX1_own 30 = .ok (.aload_n 2, 1) := dk_44 (dk_at dksX1_own_1 8 rfl rfl)
theorem dX1_own_31 : decode cX1_own 31 = .ok (.aload_n 0, 1) := dk_42 (dk_at dksX1_own_1 9 rfl rfl)
theorem dX1_own_32 : decode cX1_own 32 = .ok (.getfield 26, 3) := dk_180 0 26 (dk_at dksX1_own_1 10 rfl rfl)
theorem dX1_own_35 : decode cX1_own 35 = .ok (.aload_n 0, 1) := dk_42 (dk_at dksX1_own_1 13 rfl rfl)
theorem dX1_own_36 : decode cX1_own 36 = .ok (.getfield 33, 3) := dk_180 0 33 (dk_at dksX1_own_1 14 rfl rfl)
theorem dX1_own_39 : decode cX1_own 39 = .ok (.iload_n 1, 1) := dk_27 (dk_at dksX1_own_1 17 rfl rfl)
theorem dX1_own_40 : decode cX1_own 40 = .ok (.iaload, 1) := dk_46 (dk_at dksX1_own_1 18 rfl rfl)
theorem dX1_own_41 : decode cX1_own 41 = .ok (.invokevirtual 48, 3) := dk_182 0 48 (dk_at dksX1_own_1 19 rfl rfl)
theorem dX1_own_44 : decode cX1_own 44 = .ok (.checkcast 52, 3) := dk_192 0 52 (dk_at dksX1_own_2 0 rfl rfl)
theorem dX1_own_47 : decode cX1_own 47 = .ok (.aload_n 0, 1) := dk_42 (dk_at dksX1_own_2 3 rfl rfl)
theorem dX1_own_48 : decode cX1_own 48 = .ok (.getfield 37, 3) := dk_180 0 37 (dk_at dksX1_own_2 4 rfl rfl)
theorem dX1_own_51 : decode cX1_own 51 = .ok (.iload_n 1, 1) := dk_27 (dk_at dksX1_own_2 7 rfl rfl)
theorem dX1_own_52 : decode cX1_own 52 = .ok (.iaload, 1) := dk_46 (dk_at dksX1_own_2 8 rfl rfl)
theorem dX1_own_53 : decode cX1_own 53 = .ok (.iload_n 3, 1) := dk_29 (dk_at dksX1_own_2 9 rfl rfl)
theorem dX1_own_54 : decode cX1_own 54 = .ok (.iadd, 1) := dk_96 (dk_at dksX1_own_2 10 rfl rfl)
theorem dX1_own_55 : decode cX1_own 55 = .ok (.aaload, 1) := dk_50 (dk_at dksX1_own_2 11 rfl rfl)
theorem dX1_own_56 : decode cX1_own 56 = .ok (.invokevirtual 44, 3) := dk_182 0 44 (dk_at dksX1_own_2 12 rfl rfl)
theorem dX1_own_59 : decode cX1_own 59 = .ok (.pop, 1) := dk_87 (dk_at dksX1_own_2 15 rfl rfl)
theorem dX1_own_60 : decode cX1_own 60 = .ok (.iinc 3 1, 3) := dk_132 3 1 (dk_at dksX1_own_2 16 rfl rfl)
theorem dX1_own_63 : decode cX1_own 63 = .ok (.goto (-53), 3) := dk_167 255 203 (dk_at dksX1_own_2 19 rfl rfl)
theorem dX1_own_66 : decode cX1_own 66 = .ok (.aload_n 2, 1) := dk_44 (dk_at dksX1_own_2 22 rfl rfl)
theorem dX1_own_67 : decode cX1_own 67 = .ok (.areturn, 1) := dk_176 (dk_at dksX1_own_2 23 rfl rfl)
abbrev cX1_codeOf : ByteArray := prog_1_method_62_code
def yX1_codeOf : MethodName := ⟨RX1, "codeOf", "(Ljava/util/ArrayList;)I"⟩
def dkwX1_codeOf_2 : List UInt8 := [167, 255, 219, 27, 172]
abbrev dktX1_codeOf_2 : List UInt8 := dkwX1_codeOf_2 ++ []
def dkwX1_codeOf_1 : List UInt8 := [192, 0, 8, 78, 16, 31, 27, 104, 45, 199, 0, 7, 3, 167, 0, 7, 45, 182, 0, 13, 96, 60]
abbrev dktX1_codeOf_1 : List UInt8 := dkwX1_codeOf_1 ++ dktX1_codeOf_2
def dkwX1_codeOf_0 : List UInt8 := [4, 60, 42, 182, 1, 77, 77, 44, 185, 0, 136, 1, 0, 153, 0, 34, 44, 185, 0, 142, 1, 0]
abbrev dktX1_codeOf_0 : List UInt8 := dkwX1_codeOf_0 ++ dktX1_codeOf_1
theorem dksX1_codeOf_0 : cX1_codeOf.data.toList.drop 0 = dktX1_codeOf_0 := by decide +kernel
theorem dksX1_codeOf_1 : cX1_codeOf.data.toList.drop 22 = dktX1_codeOf_1 := dk_seg dksX1_codeOf_0 22 rfl rfl
theorem dksX1_codeOf_2 : cX1_codeOf.data.toList.drop 44 = dktX1_codeOf_2 := dk_seg dksX1_codeOf_1 22 rfl rfl
theorem dX1_codeOf_0 : decode cX1_codeOf 0 = .ok (.iconst 1, 1) := dk_4 (dk_at dksX1_codeOf_0 0 rfl rfl)
theorem dX1_codeOf_1 : decode cX1_codeOf 1 = .ok (.istore_n 1, 1) := dk_60 (dk_at dksX1_codeOf_0 1 rfl rfl)
theorem dX1_codeOf_2 : decode cX1_codeOf 2 = .ok (.aload_n 0, 1) := dk_42 (dk_at dksX1_codeOf_0 2 rfl rfl)
theorem dX1_codeOf_3 : decode cX1_codeOf 3 = .ok (.invokevirtual 333, 3) := dk_182 1 77 (dk_at dksX1_codeOf_0 3 rfl rfl)
theorem dX1_codeOf_6 : decode cX1_codeOf 6 = .ok (.astore_n 2, 1) := dk_77 (dk_at dksX1_codeOf_0 6 rfl rfl)
theorem dX1_codeOf_7 : decode cX1_codeOf 7 = .ok (.aload_n 2, 1) := dk_44 (dk_at dksX1_codeOf_0 7 rfl rfl)
theorem dX1_codeOf_8 : decode cX1_codeOf 8 = .ok (.invokeinterface 136 1, 5) := by decide +kernel
theorem dX1_codeOf_13 : decode cX1_codeOf 13 = .ok (.ifCond .eq 34, 3) := dk_153 0 34 (dk_at dksX1_codeOf_0 13 rfl rfl)
theorem dX1_codeOf_16 : decode cX1_codeOf 16 = .ok (.aload_n 2, 1) := dk_44 (dk_at dksX1_codeOf_0 16 rfl rfl)
theorem dX1_codeOf_17 : decode cX1_codeOf 17 = .ok (.invokeinterface 142 1, 5) := by decide +kernel
theorem dX1_codeOf_22 : decode cX1_codeOf 22 = .ok (.checkcast 8, 3) := dk_192 0 8 (dk_at dksX1_codeOf_1 0 rfl rfl)
theorem dX1_codeOf_25 : decode cX1_codeOf 25 = .ok (.astore_n 3, 1) := dk_78 (dk_at dksX1_codeOf_1 3 rfl rfl)
theorem dX1_codeOf_26 : decode cX1_codeOf 26 = .ok (.bipush 31, 2) := dk_16 31 (dk_at dksX1_codeOf_1 4 rfl rfl)
theorem dX1_codeOf_28 : decode cX1_codeOf 28 = .ok (.iload_n 1, 1) := dk_27 (dk_at dksX1_codeOf_1 6 rfl rfl)
theorem dX1_codeOf_29 : decode cX1_codeOf 29 = .ok (.imul, 1) := dk_104 (dk_at dksX1_codeOf_1 7 rfl rfl)
theorem dX1_codeOf_30 : decode cX1_codeOf 30 = .ok (.aload_n 3, 1) := dk_45 (dk_at dksX1_codeOf_1 8 rfl rfl)
theorem dX1_codeOf_31 : decode cX1_codeOf 31 = .ok (.ifnonnull 7, 3) := dk_199 0 7 (dk_at dksX1_codeOf_1 9 rfl rfl)
theorem dX1_codeOf_34 : decode cX1_codeOf 34 = .ok (.iconst 0, 1) := dk_3 (dk_at dksX1_codeOf_1 12 rfl rfl)
theorem dX1_codeOf_35 : decode cX1_codeOf 35 = .ok (.goto 7, 3) := dk_167 0 7 (dk_at dksX1_codeOf_1 13 rfl rfl)
theorem dX1_codeOf_38 : decode cX1_codeOf 38 = .ok (.aload_n 3, 1) := dk_45 (dk_at dksX1_codeOf_1 16 rfl rfl)
theorem dX1_codeOf_39 : decode cX1_codeOf 39 = .ok (.invokevirtual 13, 3) := dk_182 0 13 (dk_at dksX1_codeOf_1 17 rfl rfl)
theorem dX1_codeOf_42 : decode cX1_codeOf 42 = .ok (.iadd, 1) := dk_96 (dk_at dksX1_codeOf_1 20 rfl rfl)
theorem dX1_codeOf_43 : decode cX1_codeOf 43 = .ok (.istore_n 1, 1) := dk_60 (dk_at dksX1_codeOf_1 21 rfl rfl)
theorem dX1_codeOf_44 : decode cX1_codeOf 44 = .ok (.goto (-37), 3) := dk_167 255 219 (dk_at dksX1_codeOf_2 0 rfl rfl)
theorem dX1_codeOf_47 : decode cX1_codeOf 47 = .ok (.iload_n 1, 1) := dk_27 (dk_at dksX1_codeOf_2 3 rfl rfl)
theorem dX1_codeOf_48 : decode cX1_codeOf 48 = .ok (.ireturn, 1) := dk_172 (dk_at dksX1_codeOf_2 4 rfl rfl)
abbrev cX1_arePlacesRight : ByteArray := prog_1_method_63_code
def yX1_arePlacesRight : MethodName := ⟨RX1, "arePlacesRight", "(Ljava/util/List;Ljava/util/ArrayList;)Z"⟩
def dkwX1_arePlacesRight_6 : List UInt8 := [184, 0, 120, 160, 0, 7, 4, 167, 0, 4, 3, 61, 132, 3, 1, 167, 255, 108, 28, 172]
abbrev dktX1_arePlacesRight_6 : List UInt8 := dkwX1_arePlacesRight_6 ++ []
def dkwX1_arePlacesRight_5 : List UInt8 := [160, 0, 34, 42, 29, 185, 0, 181, 2, 0, 192, 0, 8, 184, 0, 120, 43, 29, 182, 0, 48, 192, 0, 8]
abbrev dktX1_arePlacesRight_5 : List UInt8 := dkwX1_arePlacesRight_5 ++ dktX1_arePlacesRight_6
def dkwX1_arePlacesRight_4 : List UInt8 := [185, 0, 192, 2, 0, 21, 4, 160, 0, 50, 42, 43, 29, 182, 0, 48, 185, 0, 196, 2, 0, 21, 5]
abbrev dktX1_arePlacesRight_4 : List UInt8 := dkwX1_arePlacesRight_4 ++ dktX1_arePlacesRight_5
def dkwX1_arePlacesRight_3 : List UInt8 := [184, 1, 88, 54, 5, 132, 6, 1, 167, 255, 200, 28, 153, 0, 66, 42, 43, 29, 182, 0, 48]
abbrev dktX1_arePlacesRight_3 : List UInt8 := dkwX1_arePlacesRight_3 ++ dktX1_arePlacesRight_4
def dkwX1_arePlacesRight_2 : List UInt8 := [192, 0, 8, 184, 0, 120, 160, 0, 21, 21, 4, 21, 6, 184, 1, 82, 54, 4, 21, 5, 21, 6]
abbrev dktX1_arePlacesRight_2 : List UInt8 := dkwX1_arePlacesRight_2 ++ dktX1_arePlacesRight_3
def dkwX1_arePlacesRight_1 : List UInt8 := [182, 1, 81, 162, 0, 53, 43, 21, 6, 182, 0, 48, 192, 0, 8, 184, 0, 120, 43, 29, 182, 0, 48]
abbrev dktX1_arePlacesRight_1 : List UInt8 := dkwX1_arePlacesRight_1 ++ dktX1_arePlacesRight_2
def dkwX1_arePlacesRight_0 : List UInt8 := [4, 61, 3, 62, 29, 43, 182, 1, 81, 162, 0, 146, 29, 54, 4, 29, 54, 5, 3, 54, 6, 21, 6, 43]
abbrev dktX1_arePlacesRight_0 : List UInt8 := dkwX1_arePlacesRight_0 ++ dktX1_arePlacesRight_1
theorem dksX1_arePlacesRight_0 : cX1_arePlacesRight.data.toList.drop 0 = dktX1_arePlacesRight_0 := by decide +kernel
theorem dksX1_arePlacesRight_1 : cX1_arePlacesRight.data.toList.drop 24 = dktX1_arePlacesRight_1 := dk_seg dksX1_arePlacesRight_0 24 rfl rfl
theorem dksX1_arePlacesRight_2 : cX1_arePlacesRight.data.toList.drop 47 = dktX1_arePlacesRight_2 := dk_seg dksX1_arePlacesRight_1 23 rfl rfl
theorem dksX1_arePlacesRight_3 : cX1_arePlacesRight.data.toList.drop 69 = dktX1_arePlacesRight_3 := dk_seg dksX1_arePlacesRight_2 22 rfl rfl
theorem dksX1_arePlacesRight_4 : cX1_arePlacesRight.data.toList.drop 90 = dktX1_arePlacesRight_4 := dk_seg dksX1_arePlacesRight_3 21 rfl rfl
theorem dksX1_arePlacesRight_5 : cX1_arePlacesRight.data.toList.drop 113 = dktX1_arePlacesRight_5 := dk_seg dksX1_arePlacesRight_4 23 rfl rfl
theorem dksX1_arePlacesRight_6 : cX1_arePlacesRight.data.toList.drop 137 = dktX1_arePlacesRight_6 := dk_seg dksX1_arePlacesRight_5 24 rfl rfl
theorem dX1_arePlacesRight_0 : decode cX1_arePlacesRight 0 = .ok (.iconst 1, 1) := dk_4 (dk_at dksX1_arePlacesRight_0 0 rfl rfl)
theorem dX1_arePlacesRight_1 : decode cX1_arePlacesRight 1 = .ok (.istore_n 2, 1) := dk_61 (dk_at dksX1_arePlacesRight_0 1 rfl rfl)
theorem dX1_arePlacesRight_2 : decode cX1_arePlacesRight 2 = .ok (.iconst 0, 1) := dk_3 (dk_at dksX1_arePlacesRight_0 2 rfl rfl)
theorem dX1_arePlacesRight_3 : decode cX1_arePlacesRight 3 = .ok (.istore_n 3, 1) := dk_62 (dk_at dksX1_arePlacesRight_0 3 rfl rfl)
theorem dX1_arePlacesRight_4 : decode cX1_arePlacesRight 4 = .ok (.iload_n 3, 1) := dk_29 (dk_at dksX1_arePlacesRight_0 4 rfl rfl)
theorem dX1_arePlacesRight_5 : decode cX1_arePlacesRight 5 = .ok (.aload_n 1, 1) := dk_43 (dk_at dksX1_arePlacesRight_0 5 rfl rfl)
theorem dX1_arePlacesRight_6 : decode cX1_arePlacesRight 6 = .ok (.invokevirtual 337, 3) := dk_182 1 81 (dk_at dksX1_arePlacesRight_0 6 rfl rfl)
theorem dX1_arePlacesRight_9 : decode cX1_arePlacesRight 9 = .ok (.if_icmp .ge 146, 3) := dk_162 0 146 (dk_at dksX1_arePlacesRight_0 9 rfl rfl)
theorem dX1_arePlacesRight_12 : decode cX1_arePlacesRight 12 = .ok (.iload_n 3, 1) := dk_29 (dk_at dksX1_arePlacesRight_0 12 rfl rfl)
theorem dX1_arePlacesRight_13 : decode cX1_arePlacesRight 13 = .ok (.istore 4, 2) := dk_54 4 (dk_at dksX1_arePlacesRight_0 13 rfl rfl)
theorem dX1_arePlacesRight_15 : decode cX1_arePlacesRight 15 = .ok (.iload_n 3, 1) := dk_29 (dk_at dksX1_arePlacesRight_0 15 rfl rfl)
theorem dX1_arePlacesRight_16 : decode cX1_arePlacesRight 16 = .ok (.istore 5, 2) := dk_54 5 (dk_at dksX1_arePlacesRight_0 16 rfl rfl)
theorem dX1_arePlacesRight_18 : decode cX1_arePlacesRight 18 = .ok (.iconst 0, 1) := dk_3 (dk_at dksX1_arePlacesRight_0 18 rfl rfl)
theorem dX1_arePlacesRight_19 : decode cX1_arePlacesRight 19 = .ok (.istore 6, 2) := dk_54 6 (dk_at dksX1_arePlacesRight_0 19 rfl rfl)
theorem dX1_arePlacesRight_21 : decode cX1_arePlacesRight 21 = .ok (.iload 6, 2) := dk_21 6 (dk_at dksX1_arePlacesRight_0 21 rfl rfl)
theorem dX1_arePlacesRight_23 : decode cX1_arePlacesRight 23 = .ok (.aload_n 1, 1) := dk_43 (dk_at dksX1_arePlacesRight_0 23 rfl rfl)
theorem dX1_arePlacesRight_24 : decode cX1_arePlacesRight 24 = .ok (.invokevirtual 337, 3) := dk_182 1 81 (dk_at dksX1_arePlacesRight_1 0 rfl rfl)
theorem dX1_arePlacesRight_27 : decode cX1_arePlacesRight 27 = .ok (.if_icmp .ge 53, 3) := dk_162 0 53 (dk_at dksX1_arePlacesRight_1 3 rfl rfl)
theorem dX1_arePlacesRight_30 : decode cX1_arePlacesRight 30 = .ok (.aload_n 1, 1) := dk_43 (dk_at dksX1_arePlacesRight_1 6 rfl rfl)
theorem dX1_arePlacesRight_31 : decode cX1_arePlacesRight 31 = .ok (.iload 6, 2) := dk_21 6 (dk_at dksX1_arePlacesRight_1 7 rfl rfl)
theorem dX1_arePlacesRight_33 : decode cX1_arePlacesRight 33 = .ok (.invokevirtual 48, 3) := dk_182 0 48 (dk_at dksX1_arePlacesRight_1 9 rfl rfl)
theorem dX1_arePlacesRight_36 : decode cX1_arePlacesRight 36 = .ok (.checkcast 8, 3) := dk_192 0 8 (dk_at dksX1_arePlacesRight_1 12 rfl rfl)
theorem dX1_arePlacesRight_39 : decode cX1_arePlacesRight 39 = .ok (.invokestatic 120, 3) := dk_184 0 120 (dk_at dksX1_arePlacesRight_1 15 rfl rfl)
theorem dX1_arePlacesRight_42 : decode cX1_arePlacesRight 42 = .ok (.aload_n 1, 1) := dk_43 (dk_at dksX1_arePlacesRight_1 18 rfl rfl)
theorem dX1_arePlacesRight_43 : decode cX1_arePlacesRight 43 = .ok (.iload_n 3, 1) := dk_29 (dk_at dksX1_arePlacesRight_1 19 rfl rfl)
theorem dX1_arePlacesRight_44 : decode cX1_arePlacesRight 44 = .ok (.invokevirtual 48, 3) := dk_182 0 48 (dk_at dksX1_arePlacesRight_1 20 rfl rfl)
theorem dX1_arePlacesRight_47 : decode cX1_arePlacesRight 47 = .ok (.checkcast 8, 3) := dk_192 0 8 (dk_at dksX1_arePlacesRight_2 0 rfl rfl)
theorem dX1_arePlacesRight_50 : decode cX1_arePlacesRight 50 = .ok (.invokestatic 120, 3) := dk_184 0 120 (dk_at dksX1_arePlacesRight_2 3 rfl rfl)
theorem dX1_arePlacesRight_53 : decode cX1_arePlacesRight 53 = .ok (.if_icmp .ne 21, 3) := dk_160 0 21 (dk_at dksX1_arePlacesRight_2 6 rfl rfl)
theorem dX1_arePlacesRight_56 : decode cX1_arePlacesRight 56 = .ok (.iload 4, 2) := dk_21 4 (dk_at dksX1_arePlacesRight_2 9 rfl rfl)
theorem dX1_arePlacesRight_58 : decode cX1_arePlacesRight 58 = .ok (.iload 6, 2) := dk_21 6 (dk_at dksX1_arePlacesRight_2 11 rfl rfl)
theorem dX1_arePlacesRight_60 : decode cX1_arePlacesRight 60 = .ok (.invokestatic 338, 3) := dk_184 1 82 (dk_at dksX1_arePlacesRight_2 13 rfl rfl)
theorem dX1_arePlacesRight_63 : decode cX1_arePlacesRight 63 = .ok (.istore 4, 2) := dk_54 4 (dk_at dksX1_arePlacesRight_2 16 rfl rfl)
theorem dX1_arePlacesRight_65 : decode cX1_arePlacesRight 65 = .ok (.iload 5, 2) := dk_21 5 (dk_at dksX1_arePlacesRight_2 18 rfl rfl)
theorem dX1_arePlacesRight_67 : decode cX1_arePlacesRight 67 = .ok (.iload 6, 2) := dk_21 6 (dk_at dksX1_arePlacesRight_2 20 rfl rfl)
theorem dX1_arePlacesRight_69 : decode cX1_arePlacesRight 69 = .ok (.invokestatic 344, 3) := dk_184 1 88 (dk_at dksX1_arePlacesRight_3 0 rfl rfl)
theorem dX1_arePlacesRight_72 : decode cX1_arePlacesRight 72 = .ok (.istore 5, 2) := dk_54 5 (dk_at dksX1_arePlacesRight_3 3 rfl rfl)
theorem dX1_arePlacesRight_74 : decode cX1_arePlacesRight 74 = .ok (.iinc 6 1, 3) := dk_132 6 1 (dk_at dksX1_arePlacesRight_3 5 rfl rfl)
theorem dX1_arePlacesRight_77 : decode cX1_arePlacesRight 77 = .ok (.goto (-56), 3) := dk_167 255 200 (dk_at dksX1_arePlacesRight_3 8 rfl rfl)
theorem dX1_arePlacesRight_80 : decode cX1_arePlacesRight 80 = .ok (.iload_n 2, 1) := dk_28 (dk_at dksX1_arePlacesRight_3 11 rfl rfl)
theorem dX1_arePlacesRight_81 : decode cX1_arePlacesRight 81 = .ok (.ifCond .eq 66, 3) := dk_153 0 66 (dk_at dksX1_arePlacesRight_3 12 rfl rfl)
theorem dX1_arePlacesRight_84 : decode cX1_arePlacesRight 84 = .ok (.aload_n 0, 1) := dk_42 (dk_at dksX1_arePlacesRight_3 15 rfl rfl)
theorem dX1_arePlacesRight_85 : decode cX1_arePlacesRight 85 = .ok (.aload_n 1, 1) := dk_43 (dk_at dksX1_arePlacesRight_3 16 rfl rfl)
theorem dX1_arePlacesRight_86 : decode cX1_arePlacesRight 86 = .ok (.iload_n 3, 1) := dk_29 (dk_at dksX1_arePlacesRight_3 17 rfl rfl)
theorem dX1_arePlacesRight_87 : decode cX1_arePlacesRight 87 = .ok (.invokevirtual 48, 3) := dk_182 0 48 (dk_at dksX1_arePlacesRight_3 18 rfl rfl)
theorem dX1_arePlacesRight_90 : decode cX1_arePlacesRight 90 = .ok (.invokeinterface 192 2, 5) := by decide +kernel
theorem dX1_arePlacesRight_95 : decode cX1_arePlacesRight 95 = .ok (.iload 4, 2) := dk_21 4 (dk_at dksX1_arePlacesRight_4 5 rfl rfl)
theorem dX1_arePlacesRight_97 : decode cX1_arePlacesRight 97 = .ok (.if_icmp .ne 50, 3) := dk_160 0 50 (dk_at dksX1_arePlacesRight_4 7 rfl rfl)
theorem dX1_arePlacesRight_100 : decode cX1_arePlacesRight 100 = .ok (.aload_n 0, 1) := dk_42 (dk_at dksX1_arePlacesRight_4 10 rfl rfl)
theorem dX1_arePlacesRight_101 : decode cX1_arePlacesRight 101 = .ok (.aload_n 1, 1) := dk_43 (dk_at dksX1_arePlacesRight_4 11 rfl rfl)
theorem dX1_arePlacesRight_102 : decode cX1_arePlacesRight 102 = .ok (.iload_n 3, 1) := dk_29 (dk_at dksX1_arePlacesRight_4 12 rfl rfl)
theorem dX1_arePlacesRight_103 : decode cX1_arePlacesRight 103 = .ok (.invokevirtual 48, 3) := dk_182 0 48 (dk_at dksX1_arePlacesRight_4 13 rfl rfl)
theorem dX1_arePlacesRight_106 : decode cX1_arePlacesRight 106 = .ok (.invokeinterface 196 2, 5) := by decide +kernel
theorem dX1_arePlacesRight_111 : decode cX1_arePlacesRight 111 = .ok (.iload 5, 2) := dk_21 5 (dk_at dksX1_arePlacesRight_4 21 rfl rfl)
theorem dX1_arePlacesRight_113 : decode cX1_arePlacesRight 113 = .ok (.if_icmp .ne 34, 3) := dk_160 0 34 (dk_at dksX1_arePlacesRight_5 0 rfl rfl)
theorem dX1_arePlacesRight_116 : decode cX1_arePlacesRight 116 = .ok (.aload_n 0, 1) := dk_42 (dk_at dksX1_arePlacesRight_5 3 rfl rfl)
theorem dX1_arePlacesRight_117 : decode cX1_arePlacesRight 117 = .ok (.iload_n 3, 1) := dk_29 (dk_at dksX1_arePlacesRight_5 4 rfl rfl)
theorem dX1_arePlacesRight_118 : decode cX1_arePlacesRight 118 = .ok (.invokeinterface 181 2, 5) := by decide +kernel
theorem dX1_arePlacesRight_123 : decode cX1_arePlacesRight 123 = .ok (.checkcast 8, 3) := dk_192 0 8 (dk_at dksX1_arePlacesRight_5 10 rfl rfl)
theorem dX1_arePlacesRight_126 : decode cX1_arePlacesRight 126 = .ok (.invokestatic 120, 3) := dk_184 0 120 (dk_at dksX1_arePlacesRight_5 13 rfl rfl)
theorem dX1_arePlacesRight_129 : decode cX1_arePlacesRight 129 = .ok (.aload_n 1, 1) := dk_43 (dk_at dksX1_arePlacesRight_5 16 rfl rfl)
theorem dX1_arePlacesRight_130 : decode cX1_arePlacesRight 130 = .ok (.iload_n 3, 1) := dk_29 (dk_at dksX1_arePlacesRight_5 17 rfl rfl)
theorem dX1_arePlacesRight_131 : decode cX1_arePlacesRight 131 = .ok (.invokevirtual 48, 3) := dk_182 0 48 (dk_at dksX1_arePlacesRight_5 18 rfl rfl)
theorem dX1_arePlacesRight_134 : decode cX1_arePlacesRight 134 = .ok (.checkcast 8, 3) := dk_192 0 8 (dk_at dksX1_arePlacesRight_5 21 rfl rfl)
theorem dX1_arePlacesRight_137 : decode cX1_arePlacesRight 137 = .ok (.invokestatic 120, 3) := dk_184 0 120 (dk_at dksX1_arePlacesRight_6 0 rfl rfl)
theorem dX1_arePlacesRight_140 : decode cX1_arePlacesRight 140 = .ok (.if_icmp .ne 7, 3) := dk_160 0 7 (dk_at dksX1_arePlacesRight_6 3 rfl rfl)
theorem dX1_arePlacesRight_143 : decode cX1_arePlacesRight 143 = .ok (.iconst 1, 1) := dk_4 (dk_at dksX1_arePlacesRight_6 6 rfl rfl)
theorem dX1_arePlacesRight_144 : decode cX1_arePlacesRight 144 = .ok (.goto 4, 3) := dk_167 0 4 (dk_at dksX1_arePlacesRight_6 7 rfl rfl)
theorem dX1_arePlacesRight_147 : decode cX1_arePlacesRight 147 = .ok (.iconst 0, 1) := dk_3 (dk_at dksX1_arePlacesRight_6 10 rfl rfl)
theorem dX1_arePlacesRight_148 : decode cX1_arePlacesRight 148 = .ok (.istore_n 2, 1) := dk_61 (dk_at dksX1_arePlacesRight_6 11 rfl rfl)
theorem dX1_arePlacesRight_149 : decode cX1_arePlacesRight 149 = .ok (.iinc 3 1, 3) := dk_132 3 1 (dk_at dksX1_arePlacesRight_6 12 rfl rfl)
theorem dX1_arePlacesRight_152 : decode cX1_arePlacesRight 152 = .ok (.goto (-148), 3) := dk_167 255 108 (dk_at dksX1_arePlacesRight_6 15 rfl rfl)
theorem dX1_arePlacesRight_155 : decode cX1_arePlacesRight 155 = .ok (.iload_n 2, 1) := dk_28 (dk_at dksX1_arePlacesRight_6 18 rfl rfl)
theorem dX1_arePlacesRight_156 : decode cX1_arePlacesRight 156 = .ok (.ireturn, 1) := dk_172 (dk_at dksX1_arePlacesRight_6 19 rfl rfl)
abbrev cX1_told : ByteArray := prog_1_method_5_code
def yX1_told : MethodName := ⟨RX1, "told", "(Ljava/lang/Integer;)I"⟩
def dkwX1_told_0 : List UInt8 := [42, 199, 0, 9, 17, 252, 24, 167, 0, 7, 42, 182, 0, 13, 172]
abbrev dktX1_told_0 : List UInt8 := dkwX1_told_0 ++ []
theorem dksX1_told_0 : cX1_told.data.toList.drop 0 = dktX1_told_0 := by decide +kernel
theorem dX1_told_0 : decode cX1_told 0 = .ok (.aload_n 0, 1) := dk_42 (dk_at dksX1_told_0 0 rfl rfl)
theorem dX1_told_1 : decode cX1_told 1 = .ok (.ifnonnull 9, 3) := dk_199 0 9 (dk_at dksX1_told_0 1 rfl rfl)
theorem dX1_told_4 : decode cX1_told 4 = .ok (.sipush (-1000), 3) := dk_17 252 24 (dk_at dksX1_told_0 4 rfl rfl)
theorem dX1_told_7 : decode cX1_told 7 = .ok (.goto 7, 3) := dk_167 0 7 (dk_at dksX1_told_0 7 rfl rfl)
theorem dX1_told_10 : decode cX1_told 10 = .ok (.aload_n 0, 1) := dk_42 (dk_at dksX1_told_0 10 rfl rfl)
theorem dX1_told_11 : decode cX1_told 11 = .ok (.invokevirtual 13, 3) := dk_182 0 13 (dk_at dksX1_told_0 11 rfl rfl)
theorem dX1_told_14 : decode cX1_told 14 = .ok (.ireturn, 1) := dk_172 (dk_at dksX1_told_0 14 rfl rfl)
abbrev cX1_forth : ByteArray := prog_1_method_21_code
def yX1_forth : MethodName := ⟨RX1, "forth", "(Ljava/util/List;)Ljava/lang/String;"⟩
def dkwX1_forth_1 : List UInt8 := [43, 44, 185, 0, 142, 1, 0, 192, 0, 8, 184, 0, 146, 167, 255, 234, 43, 182, 0, 149, 176]
abbrev dktX1_forth_1 : List UInt8 := dkwX1_forth_1 ++ []
def dkwX1_forth_0 : List UInt8 := [187, 0, 94, 89, 183, 0, 131, 76, 42, 185, 0, 132, 1, 0, 77, 44, 185, 0, 136, 1, 0, 153, 0, 19]
abbrev dktX1_forth_0 : List UInt8 := dkwX1_forth_0 ++ dktX1_forth_1
theorem dksX1_forth_0 : cX1_forth.data.toList.drop 0 = dktX1_forth_0 := by decide +kernel
theorem dksX1_forth_1 : cX1_forth.data.toList.drop 24 = dktX1_forth_1 := dk_seg dksX1_forth_0 24 rfl rfl
theorem dX1_forth_0 : decode cX1_forth 0 = .ok (.new 94, 3) := dk_187 0 94 (dk_at dksX1_forth_0 0 rfl rfl)
theorem dX1_forth_3 : decode cX1_forth 3 = .ok (.dup, 1) := dk_89 (dk_at dksX1_forth_0 3 rfl rfl)
theorem dX1_forth_4 : decode cX1_forth 4 = .ok (.invokespecial 131, 3) := dk_183 0 131 (dk_at dksX1_forth_0 4 rfl rfl)
theorem dX1_forth_7 : decode cX1_forth 7 = .ok (.astore_n 1, 1) := dk_76 (dk_at dksX1_forth_0 7 rfl rfl)
theorem dX1_forth_8 : decode cX1_forth 8 = .ok (.aload_n 0, 1) := dk_42 (dk_at dksX1_forth_0 8 rfl rfl)
theorem dX1_forth_9 : decode cX1_forth 9 = .ok (.invokeinterface 132 1, 5) := by decide +kernel
theorem dX1_forth_14 : decode cX1_forth 14 = .ok (.astore_n 2, 1) := dk_77 (dk_at dksX1_forth_0 14 rfl rfl)
theorem dX1_forth_15 : decode cX1_forth 15 = .ok (.aload_n 2, 1) := dk_44 (dk_at dksX1_forth_0 15 rfl rfl)
theorem dX1_forth_16 : decode cX1_forth 16 = .ok (.invokeinterface 136 1, 5) := by decide +kernel
theorem dX1_forth_21 : decode cX1_forth 21 = .ok (.ifCond .eq 19, 3) := dk_153 0 19 (dk_at dksX1_forth_0 21 rfl rfl)
theorem dX1_forth_24 : decode cX1_forth 24 = .ok (.aload_n 1, 1) := dk_43 (dk_at dksX1_forth_1 0 rfl rfl)
theorem dX1_forth_25 : decode cX1_forth 25 = .ok (.aload_n 2, 1) := dk_44 (dk_at dksX1_forth_1 1 rfl rfl)
theorem dX1_forth_26 : decode cX1_forth 26 = .ok (.invokeinterface 142 1, 5) := by decide +kernel
theorem dX1_forth_31 : decode cX1_forth 31 = .ok (.checkcast 8, 3) := dk_192 0 8 (dk_at dksX1_forth_1 7 rfl rfl)
theorem dX1_forth_34 : decode cX1_forth 34 = .ok (.invokestatic 146, 3) := dk_184 0 146 (dk_at dksX1_forth_1 10 rfl rfl)
theorem dX1_forth_37 : decode cX1_forth 37 = .ok (.goto (-22), 3) := dk_167 255 234 (dk_at dksX1_forth_1 13 rfl rfl)
theorem dX1_forth_40 : decode cX1_forth 40 = .ok (.aload_n 1, 1) := dk_43 (dk_at dksX1_forth_1 16 rfl rfl)
theorem dX1_forth_41 : decode cX1_forth 41 = .ok (.invokevirtual 149, 3) := dk_182 0 149 (dk_at dksX1_forth_1 17 rfl rfl)
theorem dX1_forth_44 : decode cX1_forth 44 = .ok (.areturn, 1) := dk_176 (dk_at dksX1_forth_1 20 rfl rfl)
abbrev cX1_add : ByteArray := prog_1_method_16_code
def yX1_add : MethodName := ⟨RX1, "add", "(Ljava/lang/StringBuilder;Ljava/lang/Integer;)V"⟩
def dkwX1_add_1 : List UInt8 := [16, 45, 182, 0, 106, 87, 167, 0, 12, 42, 43, 182, 0, 13, 182, 0, 109, 87, 177]
abbrev dktX1_add_1 : List UInt8 := dkwX1_add_1 ++ []
def dkwX1_add_0 : List UInt8 := [42, 42, 182, 0, 93, 154, 0, 8, 18, 98, 167, 0, 5, 18, 100, 182, 0, 102, 87, 43, 199, 0, 13, 42]
abbrev dktX1_add_0 : List UInt8 := dkwX1_add_0 ++ dktX1_add_1
theorem dksX1_add_0 : cX1_add.data.toList.drop 0 = dktX1_add_0 := by decide +kernel
theorem dksX1_add_1 : cX1_add.data.toList.drop 24 = dktX1_add_1 := dk_seg dksX1_add_0 24 rfl rfl
theorem dX1_add_0 : decode cX1_add 0 = .ok (.aload_n 0, 1) := dk_42 (dk_at dksX1_add_0 0 rfl rfl)
theorem dX1_add_1 : decode cX1_add 1 = .ok (.aload_n 0, 1) := dk_42 (dk_at dksX1_add_0 1 rfl rfl)
theorem dX1_add_2 : decode cX1_add 2 = .ok (.invokevirtual 93, 3) := dk_182 0 93 (dk_at dksX1_add_0 2 rfl rfl)
theorem dX1_add_5 : decode cX1_add 5 = .ok (.ifCond .ne 8, 3) := dk_154 0 8 (dk_at dksX1_add_0 5 rfl rfl)
theorem dX1_add_8 : decode cX1_add 8 = .ok (.ldc 98, 2) := dk_18 98 (dk_at dksX1_add_0 8 rfl rfl)
theorem dX1_add_10 : decode cX1_add 10 = .ok (.goto 5, 3) := dk_167 0 5 (dk_at dksX1_add_0 10 rfl rfl)
theorem dX1_add_13 : decode cX1_add 13 = .ok (.ldc 100, 2) := dk_18 100 (dk_at dksX1_add_0 13 rfl rfl)
theorem dX1_add_15 : decode cX1_add 15 = .ok (.invokevirtual 102, 3) := dk_182 0 102 (dk_at dksX1_add_0 15 rfl rfl)
theorem dX1_add_18 : decode cX1_add 18 = .ok (.pop, 1) := dk_87 (dk_at dksX1_add_0 18 rfl rfl)
theorem dX1_add_19 : decode cX1_add 19 = .ok (.aload_n 1, 1) := dk_43 (dk_at dksX1_add_0 19 rfl rfl)
theorem dX1_add_20 : decode cX1_add 20 = .ok (.ifnonnull 13, 3) := dk_199 0 13 (dk_at dksX1_add_0 20 rfl rfl)
theorem dX1_add_23 : decode cX1_add 23 = .ok (.aload_n 0, 1) := dk_42 (dk_at dksX1_add_0 23 rfl rfl)
theorem dX1_add_24 : decode cX1_add 24 = .ok (.bipush 45, 2) := dk_16 45 (dk_at dksX1_add_1 0 rfl rfl)
theorem dX1_add_26 : decode cX1_add 26 = .ok (.invokevirtual 106, 3) := dk_182 0 106 (dk_at dksX1_add_1 2 rfl rfl)
theorem dX1_add_29 : decode cX1_add 29 = .ok (.pop, 1) := dk_87 (dk_at dksX1_add_1 5 rfl rfl)
theorem dX1_add_30 : decode cX1_add 30 = .ok (.goto 12, 3) := dk_167 0 12 (dk_at dksX1_add_1 6 rfl rfl)
theorem dX1_add_33 : decode cX1_add 33 = .ok (.aload_n 0, 1) := dk_42 (dk_at dksX1_add_1 9 rfl rfl)
theorem dX1_add_34 : decode cX1_add 34 = .ok (.aload_n 1, 1) := dk_43 (dk_at dksX1_add_1 10 rfl rfl)
theorem dX1_add_35 : decode cX1_add 35 = .ok (.invokevirtual 13, 3) := dk_182 0 13 (dk_at dksX1_add_1 11 rfl rfl)
theorem dX1_add_38 : decode cX1_add 38 = .ok (.invokevirtual 109, 3) := dk_182 0 109 (dk_at dksX1_add_1 14 rfl rfl)
theorem dX1_add_41 : decode cX1_add 41 = .ok (.pop, 1) := dk_87 (dk_at dksX1_add_1 17 rfl rfl)
theorem dX1_add_42 : decode cX1_add 42 = .ok (.return_, 1) := dk_177 (dk_at dksX1_add_1 18 rfl rfl)
abbrev cX1_backward : ByteArray := prog_1_method_22_code
def yX1_backward : MethodName := ⟨RX1, "backward", "(Ljava/util/List;)Ljava/lang/String;"⟩
def dkwX1_backward_2 : List UInt8 := [43, 182, 0, 149, 176]
abbrev dktX1_backward_2 : List UInt8 := dkwX1_backward_2 ++ []
def dkwX1_backward_1 : List UInt8 := [185, 0, 157, 1, 0, 153, 0, 19, 43, 44, 185, 0, 162, 1, 0, 192, 0, 8, 184, 0, 146, 167, 255, 234]
abbrev dktX1_backward_1 : List UInt8 := dkwX1_backward_1 ++ dktX1_backward_2
def dkwX1_backward_0 : List UInt8 := [187, 0, 94, 89, 183, 0, 131, 76, 42, 42, 185, 0, 80, 1, 0, 185, 0, 153, 2, 0, 77, 44]
abbrev dktX1_backward_0 : List UInt8 := dkwX1_backward_0 ++ dktX1_backward_1
theorem dksX1_backward_0 : cX1_backward.data.toList.drop 0 = dktX1_backward_0 := by decide +kernel
theorem dksX1_backward_1 : cX1_backward.data.toList.drop 22 = dktX1_backward_1 := dk_seg dksX1_backward_0 22 rfl rfl
theorem dksX1_backward_2 : cX1_backward.data.toList.drop 46 = dktX1_backward_2 := dk_seg dksX1_backward_1 24 rfl rfl
theorem dX1_backward_0 : decode cX1_backward 0 = .ok (.new 94, 3) := dk_187 0 94 (dk_at dksX1_backward_0 0 rfl rfl)
theorem dX1_backward_3 : decode cX1_backward 3 = .ok (.dup, 1) := dk_89 (dk_at dksX1_backward_0 3 rfl rfl)
theorem dX1_backward_4 : decode cX1_backward 4 = .ok (.invokespecial 131, 3) := dk_183 0 131 (dk_at dksX1_backward_0 4 rfl rfl)
theorem dX1_backward_7 : decode cX1_backward 7 = .ok (.astore_n 1, 1) := dk_76 (dk_at dksX1_backward_0 7 rfl rfl)
theorem dX1_backward_8 : decode cX1_backward 8 = .ok (.aload_n 0, 1) := dk_42 (dk_at dksX1_backward_0 8 rfl rfl)
theorem dX1_backward_9 : decode cX1_backward 9 = .ok (.aload_n 0, 1) := dk_42 (dk_at dksX1_backward_0 9 rfl rfl)
theorem dX1_backward_10 : decode cX1_backward 10 = .ok (.invokeinterface 80 1, 5) := by decide +kernel
theorem dX1_backward_15 : decode cX1_backward 15 = .ok (.invokeinterface 153 2, 5) := by decide +kernel
theorem dX1_backward_20 : decode cX1_backward 20 = .ok (.astore_n 2, 1) := dk_77 (dk_at dksX1_backward_0 20 rfl rfl)
theorem dX1_backward_21 : decode cX1_backward 21 = .ok (.aload_n 2, 1) := dk_44 (dk_at dksX1_backward_0 21 rfl rfl)
theorem dX1_backward_22 : decode cX1_backward 22 = .ok (.invokeinterface 157 1, 5) := by decide +kernel
theorem dX1_backward_27 : decode cX1_backward 27 = .ok (.ifCond .eq 19, 3) := dk_153 0 19 (dk_at dksX1_backward_1 5 rfl rfl)
theorem dX1_backward_30 : decode cX1_backward 30 = .ok (.aload_n 1, 1) := dk_43 (dk_at dksX1_backward_1 8 rfl rfl)
theorem dX1_backward_31 : decode cX1_backward 31 = .ok (.aload_n 2, 1) := dk_44 (dk_at dksX1_backward_1 9 rfl rfl)
theorem dX1_backward_32 : decode cX1_backward 32 = .ok (.invokeinterface 162 1, 5) := by decide +kernel
theorem dX1_backward_37 : decode cX1_backward 37 = .ok (.checkcast 8, 3) := dk_192 0 8 (dk_at dksX1_backward_1 15 rfl rfl)
theorem dX1_backward_40 : decode cX1_backward 40 = .ok (.invokestatic 146, 3) := dk_184 0 146 (dk_at dksX1_backward_1 18 rfl rfl)
theorem dX1_backward_43 : decode cX1_backward 43 = .ok (.goto (-22), 3) := dk_167 255 234 (dk_at dksX1_backward_1 21 rfl rfl)
theorem dX1_backward_46 : decode cX1_backward 46 = .ok (.aload_n 1, 1) := dk_43 (dk_at dksX1_backward_2 0 rfl rfl)
theorem dX1_backward_47 : decode cX1_backward 47 = .ok (.invokevirtual 149, 3) := dk_182 0 149 (dk_at dksX1_backward_2 1 rfl rfl)
theorem dX1_backward_50 : decode cX1_backward 50 = .ok (.areturn, 1) := dk_176 (dk_at dksX1_backward_2 4 rfl rfl)
abbrev cX1_isStiff : ByteArray := prog_1_method_64_code
def yX1_isStiff : MethodName := ⟨RX1, "isStiff", "(Ljava/util/List;)Z"⟩
def dkwX1_isStiff_2 : List UInt8 := [42, 185, 0, 182, 1, 0, 154, 0, 7, 4, 167, 0, 4, 3, 172]
abbrev dktX1_isStiff_2 : List UInt8 := dkwX1_isStiff_2 ++ []
def dkwX1_isStiff_1 : List UInt8 := [27, 153, 0, 16, 42, 185, 0, 182, 1, 0, 153, 0, 7, 4, 167, 0, 4, 3, 172, 77, 27, 153, 0, 16]
abbrev dktX1_isStiff_1 : List UInt8 := dkwX1_isStiff_1 ++ dktX1_isStiff_2
def dkwX1_isStiff_0 : List UInt8 := [4, 60, 42, 1, 185, 1, 40, 2, 0, 87, 3, 60, 167, 0, 6, 77, 4, 60, 42, 185, 1, 71, 1, 0]
abbrev dktX1_isStiff_0 : List UInt8 := dkwX1_isStiff_0 ++ dktX1_isStiff_1
theorem dksX1_isStiff_0 : cX1_isStiff.data.toList.drop 0 = dktX1_isStiff_0 := by decide +kernel
theorem dksX1_isStiff_1 : cX1_isStiff.data.toList.drop 24 = dktX1_isStiff_1 := dk_seg dksX1_isStiff_0 24 rfl rfl
theorem dksX1_isStiff_2 : cX1_isStiff.data.toList.drop 48 = dktX1_isStiff_2 := dk_seg dksX1_isStiff_1 24 rfl rfl
theorem dX1_isStiff_0 : decode cX1_isStiff 0 = .ok (.iconst 1, 1) := dk_4 (dk_at dksX1_isStiff_0 0 rfl rfl)
theorem dX1_isStiff_1 : decode cX1_isStiff 1 = .ok (.istore_n 1, 1) := dk_60 (dk_at dksX1_isStiff_0 1 rfl rfl)
theorem dX1_isStiff_2 : decode cX1_isStiff 2 = .ok (.aload_n 0, 1) := dk_42 (dk_at dksX1_isStiff_0 2 rfl rfl)
theorem dX1_isStiff_3 : decode cX1_isStiff 3 = .ok (.aconst_null, 1) := dk_1 (dk_at dksX1_isStiff_0 3 rfl rfl)
theorem dX1_isStiff_4 : decode cX1_isStiff 4 = .ok (.invokeinterface 296 2, 5) := by decide +kernel
theorem dX1_isStiff_9 : decode cX1_isStiff 9 = .ok (.pop, 1) := dk_87 (dk_at dksX1_isStiff_0 9 rfl rfl)
theorem dX1_isStiff_10 : decode cX1_isStiff 10 = .ok (.iconst 0, 1) := dk_3 (dk_at dksX1_isStiff_0 10 rfl rfl)
theorem dX1_isStiff_11 : decode cX1_isStiff 11 = .ok (.istore_n 1, 1) := dk_60 (dk_at dksX1_isStiff_0 11 rfl rfl)
theorem dX1_isStiff_12 : decode cX1_isStiff 12 = .ok (.goto 6, 3) := dk_167 0 6 (dk_at dksX1_isStiff_0 12 rfl rfl)
theorem dX1_isStiff_15 : decode cX1_isStiff 15 = .ok (.astore_n 2, 1) := dk_77 (dk_at dksX1_isStiff_0 15 rfl rfl)
theorem dX1_isStiff_16 : decode cX1_isStiff 16 = .ok (.iconst 1, 1) := dk_4 (dk_at dksX1_isStiff_0 16 rfl rfl)
theorem dX1_isStiff_17 : decode cX1_isStiff 17 = .ok (.istore_n 1, 1) := dk_60 (dk_at dksX1_isStiff_0 17 rfl rfl)
theorem dX1_isStiff_18 : decode cX1_isStiff 18 = .ok (.aload_n 0, 1) := dk_42 (dk_at dksX1_isStiff_0 18 rfl rfl)
theorem dX1_isStiff_19 : decode cX1_isStiff 19 = .ok (.invokeinterface 327 1, 5) := by decide +kernel
theorem dX1_isStiff_24 : decode cX1_isStiff 24 = .ok (.iload_n 1, 1) := dk_27 (dk_at dksX1_isStiff_1 0 rfl rfl)
theorem dX1_isStiff_25 : decode cX1_isStiff 25 = .ok (.ifCond .eq 16, 3) := dk_153 0 16 (dk_at dksX1_isStiff_1 1 rfl rfl)
theorem dX1_isStiff_28 : decode cX1_isStiff 28 = .ok (.aload_n 0, 1) := dk_42 (dk_at dksX1_isStiff_1 4 rfl rfl)
theorem dX1_isStiff_29 : decode cX1_isStiff 29 = .ok (.invokeinterface 182 1, 5) := by decide +kernel
theorem dX1_isStiff_34 : decode cX1_isStiff 34 = .ok (.ifCond .eq 7, 3) := dk_153 0 7 (dk_at dksX1_isStiff_1 10 rfl rfl)
theorem dX1_isStiff_37 : decode cX1_isStiff 37 = .ok (.iconst 1, 1) := dk_4 (dk_at dksX1_isStiff_1 13 rfl rfl)
theorem dX1_isStiff_38 : decode cX1_isStiff 38 = .ok (.goto 4, 3) := dk_167 0 4 (dk_at dksX1_isStiff_1 14 rfl rfl)
theorem dX1_isStiff_41 : decode cX1_isStiff 41 = .ok (.iconst 0, 1) := dk_3 (dk_at dksX1_isStiff_1 17 rfl rfl)
theorem dX1_isStiff_42 : decode cX1_isStiff 42 = .ok (.ireturn, 1) := dk_172 (dk_at dksX1_isStiff_1 18 rfl rfl)
theorem dX1_isStiff_43 : decode cX1_isStiff 43 = .ok (.astore_n 2, 1) := dk_77 (dk_at dksX1_isStiff_1 19 rfl rfl)
theorem dX1_isStiff_44 : decode cX1_isStiff 44 = .ok (.iload_n 1, 1) := dk_27 (dk_at dksX1_isStiff_1 20 rfl rfl)
theorem dX1_isStiff_45 : decode cX1_isStiff 45 = .ok (.ifCond .eq 16, 3) := dk_153 0 16 (dk_at dksX1_isStiff_1 21 rfl rfl)
theorem dX1_isStiff_48 : decode cX1_isStiff 48 = .ok (.aload_n 0, 1) := dk_42 (dk_at dksX1_isStiff_2 0 rfl rfl)
theorem dX1_isStiff_49 : decode cX1_isStiff 49 = .ok (.invokeinterface 182 1, 5) := by decide +kernel
theorem dX1_isStiff_54 : decode cX1_isStiff 54 = .ok (.ifCond .ne 7, 3) := dk_154 0 7 (dk_at dksX1_isStiff_2 6 rfl rfl)
theorem dX1_isStiff_57 : decode cX1_isStiff 57 = .ok (.iconst 1, 1) := dk_4 (dk_at dksX1_isStiff_2 9 rfl rfl)
theorem dX1_isStiff_58 : decode cX1_isStiff 58 = .ok (.goto 4, 3) := dk_167 0 4 (dk_at dksX1_isStiff_2 10 rfl rfl)
theorem dX1_isStiff_61 : decode cX1_isStiff 61 = .ok (.iconst 0, 1) := dk_3 (dk_at dksX1_isStiff_2 13 rfl rfl)
theorem dX1_isStiff_62 : decode cX1_isStiff 62 = .ok (.ireturn, 1) := dk_172 (dk_at dksX1_isStiff_2 14 rfl rfl)
abbrev cX1_digest : ByteArray := prog_1_method_73_code
def yX1_digest : MethodName := ⟨RX1, "digest", "()J"⟩
def dkwX1_digest_9 : List UInt8 := [184, 1, 125, 173]
abbrev dktX1_digest_9 : List UInt8 := dkwX1_digest_9 ++ []
def dkwX1_digest_8 : List UInt8 := [184, 0, 236, 133, 184, 1, 125, 64, 132, 3, 1, 167, 255, 171, 31, 42, 182, 1, 120, 184, 1, 6, 133]
abbrev dktX1_digest_8 : List UInt8 := dkwX1_digest_8 ++ dktX1_digest_9
def dkwX1_digest_7 : List UInt8 := [25, 4, 185, 0, 80, 1, 0, 133, 184, 1, 125, 25, 4, 185, 0, 223, 1, 0, 133, 184, 1, 125, 25, 4]
abbrev dktX1_digest_7 : List UInt8 := dkwX1_digest_7 ++ dktX1_digest_8
def dkwX1_digest_6 : List UInt8 := [64, 42, 29, 182, 0, 66, 153, 0, 49, 42, 180, 0, 30, 29, 182, 0, 48, 192, 0, 74, 58, 4, 31]
abbrev dktX1_digest_6 : List UInt8 := dkwX1_digest_6 ++ dktX1_digest_7
def dkwX1_digest_5 : List UInt8 := [162, 0, 85, 31, 42, 180, 0, 33, 29, 46, 133, 184, 1, 125, 42, 180, 0, 37, 29, 46, 133, 184, 1, 125]
abbrev dktX1_digest_5 : List UInt8 := dkwX1_digest_5 ++ dktX1_digest_6
def dkwX1_digest_4 : List UInt8 := [25, 8, 184, 0, 120, 133, 184, 1, 125, 64, 132, 7, 1, 167, 255, 228, 167, 255, 184, 3, 62, 29, 16, 7]
abbrev dktX1_digest_4 : List UInt8 := dkwX1_digest_4 ++ dktX1_digest_5
def dkwX1_digest_3 : List UInt8 := [25, 5, 190, 54, 6, 3, 54, 7, 21, 7, 21, 6, 162, 0, 27, 25, 5, 21, 7, 50, 58, 8, 31]
abbrev dktX1_digest_3 : List UInt8 := dkwX1_digest_3 ++ dktX1_digest_4
def dkwX1_digest_2 : List UInt8 := [185, 0, 142, 1, 0, 192, 0, 52, 58, 4, 31, 25, 4, 190, 133, 184, 1, 125, 64, 25, 4, 58, 5]
abbrev dktX1_digest_2 : List UInt8 := dkwX1_digest_2 ++ dktX1_digest_3
def dkwX1_digest_1 : List UInt8 := [132, 3, 1, 167, 255, 237, 42, 180, 0, 26, 182, 1, 77, 78, 45, 185, 0, 136, 1, 0, 153, 0, 69, 45]
abbrev dktX1_digest_1 : List UInt8 := dkwX1_digest_1 ++ dktX1_digest_2
def dkwX1_digest_0 : List UInt8 := [20, 1, 123, 64, 3, 62, 29, 6, 163, 0, 20, 31, 42, 29, 182, 1, 116, 133, 184, 1, 125, 64]
abbrev dktX1_digest_0 : List UInt8 := dkwX1_digest_0 ++ dktX1_digest_1
theorem dksX1_digest_0 : cX1_digest.data.toList.drop 0 = dktX1_digest_0 := by decide +kernel
theorem dksX1_digest_1 : cX1_digest.data.toList.drop 22 = dktX1_digest_1 := dk_seg dksX1_digest_0 22 rfl rfl
theorem dksX1_digest_2 : cX1_digest.data.toList.drop 46 = dktX1_digest_2 := dk_seg dksX1_digest_1 24 rfl rfl
theorem dksX1_digest_3 : cX1_digest.data.toList.drop 69 = dktX1_digest_3 := dk_seg dksX1_digest_2 23 rfl rfl
theorem dksX1_digest_4 : cX1_digest.data.toList.drop 92 = dktX1_digest_4 := dk_seg dksX1_digest_3 23 rfl rfl
theorem dksX1_digest_5 : cX1_digest.data.toList.drop 116 = dktX1_digest_5 := dk_seg dksX1_digest_4 24 rfl rfl
theorem dksX1_digest_6 : cX1_digest.data.toList.drop 140 = dktX1_digest_6 := dk_seg dksX1_digest_5 24 rfl rfl
theorem dksX1_digest_7 : cX1_digest.data.toList.drop 163 = dktX1_digest_7 := dk_seg dksX1_digest_6 23 rfl rfl
theorem dksX1_digest_8 : cX1_digest.data.toList.drop 187 = dktX1_digest_8 := dk_seg dksX1_digest_7 24 rfl rfl
theorem dksX1_digest_9 : cX1_digest.data.toList.drop 210 = dktX1_digest_9 := dk_seg dksX1_digest_8 23 rfl rfl
theorem dX1_digest_0 : decode cX1_digest 0 = .ok (.ldc2_w 379, 3) := dk_20 1 123 (dk_at dksX1_digest_0 0 rfl rfl)
theorem dX1_digest_3 : decode cX1_digest 3 = .ok (.lstore_n 1, 1) := dk_64 (dk_at dksX1_digest_0 3 rfl rfl)
theorem dX1_digest_4 : decode cX1_digest 4 = .ok (.iconst 0, 1) := dk_3 (dk_at dksX1_digest_0 4 rfl rfl)
theorem dX1_digest_5 : decode cX1_digest 5 = .ok (.istore_n 3, 1) := dk_62 (dk_at dksX1_digest_0 5 rfl rfl)
theorem dX1_digest_6 : decode cX1_digest 6 = .ok (.iload_n 3, 1) := dk_29 (dk_at dksX1_digest_0 6 rfl rfl)
theorem dX1_digest_7 : decode cX1_digest 7 = .ok (.iconst 3, 1) := dk_6 (dk_at dksX1_digest_0 7 rfl rfl)
theorem dX1_digest_8 : decode cX1_digest 8 = .ok (.if_icmp .gt 20, 3) := dk_163 0 20 (dk_at dksX1_digest_0 8 rfl rfl)
theorem dX1_digest_11 : decode cX1_digest 11 = .ok (.lload_n 1, 1) := dk_31 (dk_at dksX1_digest_0 11 rfl rfl)
theorem dX1_digest_12 : decode cX1_digest 12 = .ok (.aload_n 0, 1) := dk_42 (dk_at dksX1_digest_0 12 rfl rfl)
theorem dX1_digest_13 : decode cX1_digest 13 = .ok (.iload_n 3, 1) := dk_29 (dk_at dksX1_digest_0 13 rfl rfl)
theorem dX1_digest_14 : decode cX1_digest 14 = .ok (.invokevirtual 372, 3) := dk_182 1 116 (dk_at dksX1_digest_0 14 rfl rfl)
theorem dX1_digest_17 : decode cX1_digest 17 = .ok (.i2l, 1) := dk_133 (dk_at dksX1_digest_0 17 rfl rfl)
theorem dX1_digest_18 : decode cX1_digest 18 = .ok (.invokestatic 381, 3) := dk_184 1 125 (dk_at dksX1_digest_0 18 rfl rfl)
theorem dX1_digest_21 : decode cX1_digest 21 = .ok (.lstore_n 1, 1) := dk_64 (dk_at dksX1_digest_0 21 rfl rfl)
theorem dX1_digest_22 : decode cX1_digest 22 = .ok (.iinc 3 1, 3) := dk_132 3 1 (dk_at dksX1_digest_1 0 rfl rfl)
theorem dX1_digest_25 : decode cX1_digest 25 = .ok (.goto (-19), 3) := dk_167 255 237 (dk_at dksX1_digest_1 3 rfl rfl)
theorem dX1_digest_28 : decode cX1_digest 28 = .ok (.aload_n 0, 1) := dk_42 (dk_at dksX1_digest_1 6 rfl rfl)
theorem dX1_digest_29 : decode cX1_digest 29 = .ok (.getfield 26, 3) := dk_180 0 26 (dk_at dksX1_digest_1 7 rfl rfl)
theorem dX1_digest_32 : decode cX1_digest 32 = .ok (.invokevirtual 333, 3) := dk_182 1 77 (dk_at dksX1_digest_1 10 rfl rfl)
theorem dX1_digest_35 : decode cX1_digest 35 = .ok (.astore_n 3, 1) := dk_78 (dk_at dksX1_digest_1 13 rfl rfl)
theorem dX1_digest_36 : decode cX1_digest 36 = .ok (.aload_n 3, 1) := dk_45 (dk_at dksX1_digest_1 14 rfl rfl)
theorem dX1_digest_37 : decode cX1_digest 37 = .ok (.invokeinterface 136 1, 5) := by decide +kernel
theorem dX1_digest_42 : decode cX1_digest 42 = .ok (.ifCond .eq 69, 3) := dk_153 0 69 (dk_at dksX1_digest_1 20 rfl rfl)
theorem dX1_digest_45 : decode cX1_digest 45 = .ok (.aload_n 3, 1) := dk_45 (dk_at dksX1_digest_1 23 rfl rfl)
theorem dX1_digest_46 : decode cX1_digest 46 = .ok (.invokeinterface 142 1, 5) := by decide +kernel
theorem dX1_digest_51 : decode cX1_digest 51 = .ok (.checkcast 52, 3) := dk_192 0 52 (dk_at dksX1_digest_2 5 rfl rfl)
theorem dX1_digest_54 : decode cX1_digest 54 = .ok (.astore 4, 2) := dk_58 4 (dk_at dksX1_digest_2 8 rfl rfl)
theorem dX1_digest_56 : decode cX1_digest 56 = .ok (.lload_n 1, 1) := dk_31 (dk_at dksX1_digest_2 10 rfl rfl)
theorem dX1_digest_57 : decode cX1_digest 57 = .ok (.aload 4, 2) := dk_25 4 (dk_at dksX1_digest_2 11 rfl rfl)
theorem dX1_digest_59 : decode cX1_digest 59 = .ok (.arraylength, 1) := dk_190 (dk_at dksX1_digest_2 13 rfl rfl)
theorem dX1_digest_60 : decode cX1_digest 60 = .ok (.i2l, 1) := dk_133 (dk_at dksX1_digest_2 14 rfl rfl)
theorem dX1_digest_61 : decode cX1_digest 61 = .ok (.invokestatic 381, 3) := dk_184 1 125 (dk_at dksX1_digest_2 15 rfl rfl)
theorem dX1_digest_64 : decode cX1_digest 64 = .ok (.lstore_n 1, 1) := dk_64 (dk_at dksX1_digest_2 18 rfl rfl)
theorem dX1_digest_65 : decode cX1_digest 65 = .ok (.aload 4, 2) := dk_25 4 (dk_at dksX1_digest_2 19 rfl rfl)
theorem dX1_digest_67 : decode cX1_digest 67 = .ok (.astore 5, 2) := dk_58 5 (dk_at dksX1_digest_2 21 rfl rfl)
theorem dX1_digest_69 : decode cX1_digest 69 = .ok (.aload 5, 2) := dk_25 5 (dk_at dksX1_digest_3 0 rfl rfl)
theorem dX1_digest_71 : decode cX1_digest 71 = .ok (.arraylength, 1) := dk_190 (dk_at dksX1_digest_3 2 rfl rfl)
theorem dX1_digest_72 : decode cX1_digest 72 = .ok (.istore 6, 2) := dk_54 6 (dk_at dksX1_digest_3 3 rfl rfl)
theorem dX1_digest_74 : decode cX1_digest 74 = .ok (.iconst 0, 1) := dk_3 (dk_at dksX1_digest_3 5 rfl rfl)
theorem dX1_digest_75 : decode cX1_digest 75 = .ok (.istore 7, 2) := dk_54 7 (dk_at dksX1_digest_3 6 rfl rfl)
theorem dX1_digest_77 : decode cX1_digest 77 = .ok (.iload 7, 2) := dk_21 7 (dk_at dksX1_digest_3 8 rfl rfl)
theorem dX1_digest_79 : decode cX1_digest 79 = .ok (.iload 6, 2) := dk_21 6 (dk_at dksX1_digest_3 10 rfl rfl)
theorem dX1_digest_81 : decode cX1_digest 81 = .ok (.if_icmp .ge 27, 3) := dk_162 0 27 (dk_at dksX1_digest_3 12 rfl rfl)
theorem dX1_digest_84 : decode cX1_digest 84 = .ok (.aload 5, 2) := dk_25 5 (dk_at dksX1_digest_3 15 rfl rfl)
theorem dX1_digest_86 : decode cX1_digest 86 = .ok (.iload 7, 2) := dk_21 7 (dk_at dksX1_digest_3 17 rfl rfl)
theorem dX1_digest_88 : decode cX1_digest 88 = .ok (.aaload, 1) := dk_50 (dk_at dksX1_digest_3 19 rfl rfl)
theorem dX1_digest_89 : decode cX1_digest 89 = .ok (.astore 8, 2) := dk_58 8 (dk_at dksX1_digest_3 20 rfl rfl)
theorem dX1_digest_91 : decode cX1_digest 91 = .ok (.lload_n 1, 1) := dk_31 (dk_at dksX1_digest_3 22 rfl rfl)
theorem dX1_digest_92 : decode cX1_digest 92 = .ok (.aload 8, 2) := dk_25 8 (dk_at dksX1_digest_4 0 rfl rfl)
theorem dX1_digest_94 : decode cX1_digest 94 = .ok (.invokestatic 120, 3) := dk_184 0 120 (dk_at dksX1_digest_4 2 rfl rfl)
theorem dX1_digest_97 : decode cX1_digest 97 = .ok (.i2l, 1) := dk_133 (dk_at dksX1_digest_4 5 rfl rfl)
theorem dX1_digest_98 : decode cX1_digest 98 = .ok (.invokestatic 381, 3) := dk_184 1 125 (dk_at dksX1_digest_4 6 rfl rfl)
theorem dX1_digest_101 : decode cX1_digest 101 = .ok (.lstore_n 1, 1) := dk_64 (dk_at dksX1_digest_4 9 rfl rfl)
theorem dX1_digest_102 : decode cX1_digest 102 = .ok (.iinc 7 1, 3) := dk_132 7 1 (dk_at dksX1_digest_4 10 rfl rfl)
theorem dX1_digest_105 : decode cX1_digest 105 = .ok (.goto (-28), 3) := dk_167 255 228 (dk_at dksX1_digest_4 13 rfl rfl)
theorem dX1_digest_108 : decode cX1_digest 108 = .ok (.goto (-72), 3) := dk_167 255 184 (dk_at dksX1_digest_4 16 rfl rfl)
theorem dX1_digest_111 : decode cX1_digest 111 = .ok (.iconst 0, 1) := dk_3 (dk_at dksX1_digest_4 19 rfl rfl)
theorem dX1_digest_112 : decode cX1_digest 112 = .ok (.istore_n 3, 1) := dk_62 (dk_at dksX1_digest_4 20 rfl rfl)
theorem dX1_digest_113 : decode cX1_digest 113 = .ok (.iload_n 3, 1) := dk_29 (dk_at dksX1_digest_4 21 rfl rfl)
theorem dX1_digest_114 : decode cX1_digest 114 = .ok (.bipush 7, 2) := dk_16 7 (dk_at dksX1_digest_4 22 rfl rfl)
theorem dX1_digest_116 : decode cX1_digest 116 = .ok (.if_icmp .ge 85, 3) := dk_162 0 85 (dk_at dksX1_digest_5 0 rfl rfl)
theorem dX1_digest_119 : decode cX1_digest 119 = .ok (.lload_n 1, 1) := dk_31 (dk_at dksX1_digest_5 3 rfl rfl)
theorem dX1_digest_120 : decode cX1_digest 120 = .ok (.aload_n 0, 1) := dk_42 (dk_at dksX1_digest_5 4 rfl rfl)
theorem dX1_digest_121 : decode cX1_digest 121 = .ok (.getfield 33, 3) := dk_180 0 33 (dk_at dksX1_digest_5 5 rfl rfl)
theorem dX1_digest_124 : decode cX1_digest 124 = .ok (.iload_n 3, 1) := dk_29 (dk_at dksX1_digest_5 8 rfl rfl)
theorem dX1_digest_125 : decode cX1_digest 125 = .ok (.iaload, 1) := dk_46 (dk_at dksX1_digest_5 9 rfl rfl)
theorem dX1_digest_126 : decode cX1_digest 126 = .ok (.i2l, 1) := dk_133 (dk_at dksX1_digest_5 10 rfl rfl)
theorem dX1_digest_127 : decode cX1_digest 127 = .ok (.invokestatic 381, 3) := dk_184 1 125 (dk_at dksX1_digest_5 11 rfl rfl)
theorem dX1_digest_130 : decode cX1_digest 130 = .ok (.aload_n 0, 1) := dk_42 (dk_at dksX1_digest_5 14 rfl rfl)
theorem dX1_digest_131 : decode cX1_digest 131 = .ok (.getfield 37, 3) := dk_180 0 37 (dk_at dksX1_digest_5 15 rfl rfl)
theorem dX1_digest_134 : decode cX1_digest 134 = .ok (.iload_n 3, 1) := dk_29 (dk_at dksX1_digest_5 18 rfl rfl)
theorem dX1_digest_135 : decode cX1_digest 135 = .ok (.iaload, 1) := dk_46 (dk_at dksX1_digest_5 19 rfl rfl)
theorem dX1_digest_136 : decode cX1_digest 136 = .ok (.i2l, 1) := dk_133 (dk_at dksX1_digest_5 20 rfl rfl)
theorem dX1_digest_137 : decode cX1_digest 137 = .ok (.invokestatic 381, 3) := dk_184 1 125 (dk_at dksX1_digest_5 21 rfl rfl)
theorem dX1_digest_140 : decode cX1_digest 140 = .ok (.lstore_n 1, 1) := dk_64 (dk_at dksX1_digest_6 0 rfl rfl)
theorem dX1_digest_141 : decode cX1_digest 141 = .ok (.aload_n 0, 1) := dk_42 (dk_at dksX1_digest_6 1 rfl rfl)
theorem dX1_digest_142 : decode cX1_digest 142 = .ok (.iload_n 3, 1) := dk_29 (dk_at dksX1_digest_6 2 rfl rfl)
theorem dX1_digest_143 : decode cX1_digest 143 = .ok (.invokevirtual 66, 3) := dk_182 0 66 (dk_at dksX1_digest_6 3 rfl rfl)
theorem dX1_digest_146 : decode cX1_digest 146 = .ok (.ifCond .eq 49, 3) := dk_153 0 49 (dk_at dksX1_digest_6 6 rfl rfl)
theorem dX1_digest_149 : decode cX1_digest 149 = .ok (.aload_n 0, 1) := dk_42 (dk_at dksX1_digest_6 9 rfl rfl)
theorem dX1_digest_150 : decode cX1_digest 150 = .ok (.getfield 30, 3) := dk_180 0 30 (dk_at dksX1_digest_6 10 rfl rfl)
theorem dX1_digest_153 : decode cX1_digest 153 = .ok (.iload_n 3, 1) := dk_29 (dk_at dksX1_digest_6 13 rfl rfl)
theorem dX1_digest_154 : decode cX1_digest 154 = .ok (.invokevirtual 48, 3) := dk_182 0 48 (dk_at dksX1_digest_6 14 rfl rfl)
theorem dX1_digest_157 : decode cX1_digest 157 = .ok (.checkcast 74, 3) := dk_192 0 74 (dk_at dksX1_digest_6 17 rfl rfl)
theorem dX1_digest_160 : decode cX1_digest 160 = .ok (.astore 4, 2) := dk_58 4 (dk_at dksX1_digest_6 20 rfl rfl)
theorem dX1_digest_162 : decode cX1_digest 162 = .ok (.lload_n 1, 1) := dk_31 (dk_at dksX1_digest_6 22 rfl rfl)
theorem dX1_digest_163 : decode cX1_digest 163 = .ok (.aload 4, 2) := dk_25 4 (dk_at dksX1_digest_7 0 rfl rfl)
theorem dX1_digest_165 : decode cX1_digest 165 = .ok (.invokeinterface 80 1, 5) := by decide +kernel
theorem dX1_digest_170 : decode cX1_digest 170 = .ok (.i2l, 1) := dk_133 (dk_at dksX1_digest_7 7 rfl rfl)
theorem dX1_digest_171 : decode cX1_digest 171 = .ok (.invokestatic 381, 3) := dk_184 1 125 (dk_at dksX1_digest_7 8 rfl rfl)
theorem dX1_digest_174 : decode cX1_digest 174 = .ok (.aload 4, 2) := dk_25 4 (dk_at dksX1_digest_7 11 rfl rfl)
theorem dX1_digest_176 : decode cX1_digest 176 = .ok (.invokeinterface 223 1, 5) := by decide +kernel
theorem dX1_digest_181 : decode cX1_digest 181 = .ok (.i2l, 1) := dk_133 (dk_at dksX1_digest_7 18 rfl rfl)
theorem dX1_digest_182 : decode cX1_digest 182 = .ok (.invokestatic 381, 3) := dk_184 1 125 (dk_at dksX1_digest_7 19 rfl rfl)
theorem dX1_digest_185 : decode cX1_digest 185 = .ok (.aload 4, 2) := dk_25 4 (dk_at dksX1_digest_7 22 rfl rfl)
theorem dX1_digest_187 : decode cX1_digest 187 = .ok (.invokestatic 236, 3) := dk_184 0 236 (dk_at dksX1_digest_8 0 rfl rfl)
theorem dX1_digest_190 : decode cX1_digest 190 = .ok (.i2l, 1) := dk_133 (dk_at dksX1_digest_8 3 rfl rfl)
theorem dX1_digest_191 : decode cX1_digest 191 = .ok (.invokestatic 381, 3) := dk_184 1 125 (dk_at dksX1_digest_8 4 rfl rfl)
theorem dX1_digest_194 : decode cX1_digest 194 = .ok (.lstore_n 1, 1) := dk_64 (dk_at dksX1_digest_8 7 rfl rfl)
theorem dX1_digest_195 : decode cX1_digest 195 = .ok (.iinc 3 1, 3) := dk_132 3 1 (dk_at dksX1_digest_8 8 rfl rfl)
theorem dX1_digest_198 : decode cX1_digest 198 = .ok (.goto (-85), 3) := dk_167 255 171 (dk_at dksX1_digest_8 11 rfl rfl)
theorem dX1_digest_201 : decode cX1_digest 201 = .ok (.lload_n 1, 1) := dk_31 (dk_at dksX1_digest_8 14 rfl rfl)
theorem dX1_digest_202 : decode cX1_digest 202 = .ok (.aload_n 0, 1) := dk_42 (dk_at dksX1_digest_8 15 rfl rfl)
theorem dX1_digest_203 : decode cX1_digest 203 = .ok (.invokevirtual 376, 3) := dk_182 1 120 (dk_at dksX1_digest_8 16 rfl rfl)
theorem dX1_digest_206 : decode cX1_digest 206 = .ok (.invokestatic 262, 3) := dk_184 1 6 (dk_at dksX1_digest_8 19 rfl rfl)
theorem dX1_digest_209 : decode cX1_digest 209 = .ok (.i2l, 1) := dk_133 (dk_at dksX1_digest_8 22 rfl rfl)
theorem dX1_digest_210 : decode cX1_digest 210 = .ok (.invokestatic 381, 3) := dk_184 1 125 (dk_at dksX1_digest_9 0 rfl rfl)
theorem dX1_digest_213 : decode cX1_digest 213 = .ok (.lreturn, 1) := dk_173 (dk_at dksX1_digest_9 3 rfl rfl)
abbrev cX1_houseNow : ByteArray := prog_1_method_60_code
def yX1_houseNow : MethodName := ⟨RX1, "houseNow", "(I)I"⟩
def dkwX1_houseNow_4 : List UInt8 := [160, 0, 7, 28, 167, 0, 4, 29, 172]
abbrev dktX1_houseNow_4 : List UInt8 := dkwX1_houseNow_4 ++ []
def dkwX1_houseNow_3 : List UInt8 := [154, 0, 10, 42, 180, 1, 78, 167, 0, 25, 27, 4, 160, 0, 10, 42, 180, 0, 89, 167, 0, 13, 27, 5]
abbrev dktX1_houseNow_3 : List UInt8 := dkwX1_houseNow_3 ++ dktX1_houseNow_4
def dkwX1_houseNow_2 : List UInt8 := [25, 4, 185, 0, 142, 1, 0, 192, 0, 52, 58, 5, 29, 25, 5, 190, 96, 62, 167, 255, 228, 27]
abbrev dktX1_houseNow_2 : List UInt8 := dkwX1_houseNow_2 ++ dktX1_houseNow_3
def dkwX1_houseNow_1 : List UInt8 := [167, 255, 236, 3, 62, 42, 180, 0, 26, 182, 1, 77, 58, 4, 25, 4, 185, 0, 136, 1, 0, 153, 0, 24]
abbrev dktX1_houseNow_1 : List UInt8 := dkwX1_houseNow_1 ++ dktX1_houseNow_2
def dkwX1_houseNow_0 : List UInt8 := [3, 61, 6, 62, 29, 16, 7, 162, 0, 20, 28, 42, 29, 182, 0, 66, 184, 1, 6, 96, 61, 132, 3, 1]
abbrev dktX1_houseNow_0 : List UInt8 := dkwX1_houseNow_0 ++ dktX1_houseNow_1
theorem dksX1_houseNow_0 : cX1_houseNow.data.toList.drop 0 = dktX1_houseNow_0 := by decide +kernel
theorem dksX1_houseNow_1 : cX1_houseNow.data.toList.drop 24 = dktX1_houseNow_1 := dk_seg dksX1_houseNow_0 24 rfl rfl
theorem dksX1_houseNow_2 : cX1_houseNow.data.toList.drop 48 = dktX1_houseNow_2 := dk_seg dksX1_houseNow_1 24 rfl rfl
theorem dksX1_houseNow_3 : cX1_houseNow.data.toList.drop 70 = dktX1_houseNow_3 := dk_seg dksX1_houseNow_2 22 rfl rfl
theorem dksX1_houseNow_4 : cX1_houseNow.data.toList.drop 94 = dktX1_houseNow_4 := dk_seg dksX1_houseNow_3 24 rfl rfl
theorem dX1_houseNow_0 : decode cX1_houseNow 0 = .ok (.iconst 0, 1) := dk_3 (dk_at dksX1_houseNow_0 0 rfl rfl)
theorem dX1_houseNow_1 : decode cX1_houseNow 1 = .ok (.istore_n 2, 1) := dk_61 (dk_at dksX1_houseNow_0 1 rfl rfl)
theorem dX1_houseNow_2 : decode cX1_houseNow 2 = .ok (.iconst 3, 1) := dk_6 (dk_at dksX1_houseNow_0 2 rfl rfl)
theorem dX1_houseNow_3 : decode cX1_houseNow 3 = .ok (.istore_n 3, 1) := dk_62 (dk_at dksX1_houseNow_0 3 rfl rfl)
theorem dX1_houseNow_4 : decode cX1_houseNow 4 = .ok (.iload_n 3, 1) := dk_29 (dk_at dksX1_houseNow_0 4 rfl rfl)
theorem dX1_houseNow_5 : decode cX1_houseNow 5 = .ok (.bipush 7, 2) := dk_16 7 (dk_at dksX1_houseNow_0 5 rfl rfl)
theorem dX1_houseNow_7 : decode cX1_houseNow 7 = .ok (.if_icmp .ge 20, 3) := dk_162 0 20 (dk_at dksX1_houseNow_0 7 rfl rfl)
theorem dX1_houseNow_10 : decode cX1_houseNow 10 = .ok (.iload_n 2, 1) := dk_28 (dk_at dksX1_houseNow_0 10 rfl rfl)
theorem dX1_houseNow_11 : decode cX1_houseNow 11 = .ok (.aload_n 0, 1) := dk_42 (dk_at dksX1_houseNow_0 11 rfl rfl)
theorem dX1_houseNow_12 : decode cX1_houseNow 12 = .ok (.iload_n 3, 1) := dk_29 (dk_at dksX1_houseNow_0 12 rfl rfl)
theorem dX1_houseNow_13 : decode cX1_houseNow 13 = .ok (.invokevirtual 66, 3) := dk_182 0 66 (dk_at dksX1_houseNow_0 13 rfl rfl)
theorem dX1_houseNow_16 : decode cX1_houseNow 16 = .ok (.invokestatic 262, 3) := dk_184 1 6 (dk_at dksX1_houseNow_0 16 rfl rfl)
theorem dX1_houseNow_19 : decode cX1_houseNow 19 = .ok (.iadd, 1) := dk_96 (dk_at dksX1_houseNow_0 19 rfl rfl)
theorem dX1_houseNow_20 : decode cX1_houseNow 20 = .ok (.istore_n 2, 1) := dk_61 (dk_at dksX1_houseNow_0 20 rfl rfl)
theorem dX1_houseNow_21 : decode cX1_houseNow 21 = .ok (.iinc 3 1, 3) := dk_132 3 1 (dk_at dksX1_houseNow_0 21 rfl rfl)
theorem dX1_houseNow_24 : decode cX1_houseNow 24 = .ok (.goto (-20), 3) := dk_167 255 236 (dk_at dksX1_houseNow_1 0 rfl rfl)
theorem dX1_houseNow_27 : decode cX1_houseNow 27 = .ok (.iconst 0, 1) := dk_3 (dk_at dksX1_houseNow_1 3 rfl rfl)
theorem dX1_houseNow_28 : decode cX1_houseNow 28 = .ok (.istore_n 3, 1) := dk_62 (dk_at dksX1_houseNow_1 4 rfl rfl)
theorem dX1_houseNow_29 : decode cX1_houseNow 29 = .ok (.aload_n 0, 1) := dk_42 (dk_at dksX1_houseNow_1 5 rfl rfl)
theorem dX1_houseNow_30 : decode cX1_houseNow 30 = .ok (.getfield 26, 3) := dk_180 0 26 (dk_at dksX1_houseNow_1 6 rfl rfl)
theorem dX1_houseNow_33 : decode cX1_houseNow 33 = .ok (.invokevirtual 333, 3) := dk_182 1 77 (dk_at dksX1_houseNow_1 9 rfl rfl)
theorem dX1_houseNow_36 : decode cX1_houseNow 36 = .ok (.astore 4, 2) := dk_58 4 (dk_at dksX1_houseNow_1 12 rfl rfl)
theorem dX1_houseNow_38 : decode cX1_houseNow 38 = .ok (.aload 4, 2) := dk_25 4 (dk_at dksX1_houseNow_1 14 rfl rfl)
theorem dX1_houseNow_40 : decode cX1_houseNow 40 = .ok (.invokeinterface 136 1, 5) := by decide +kernel
theorem dX1_houseNow_45 : decode cX1_houseNow 45 = .ok (.ifCond .eq 24, 3) := dk_153 0 24 (dk_at dksX1_houseNow_1 21 rfl rfl)
theorem dX1_houseNow_48 : decode cX1_houseNow 48 = .ok (.aload 4, 2) := dk_25 4 (dk_at dksX1_houseNow_2 0 rfl rfl)
theorem dX1_houseNow_50 : decode cX1_houseNow 50 = .ok (.invokeinterface 142 1, 5) := by decide +kernel
theorem dX1_houseNow_55 : decode cX1_houseNow 55 = .ok (.checkcast 52, 3) := dk_192 0 52 (dk_at dksX1_houseNow_2 7 rfl rfl)
theorem dX1_houseNow_58 : decode cX1_houseNow 58 = .ok (.astore 5, 2) := dk_58 5 (dk_at dksX1_houseNow_2 10 rfl rfl)
theorem dX1_houseNow_60 : decode cX1_houseNow 60 = .ok (.iload_n 3, 1) := dk_29 (dk_at dksX1_houseNow_2 12 rfl rfl)
theorem dX1_houseNow_61 : decode cX1_houseNow 61 = .ok (.aload 5, 2) := dk_25 5 (dk_at dksX1_houseNow_2 13 rfl rfl)
theorem dX1_houseNow_63 : decode cX1_houseNow 63 = .ok (.arraylength, 1) := dk_190 (dk_at dksX1_houseNow_2 15 rfl rfl)
theorem dX1_houseNow_64 : decode cX1_houseNow 64 = .ok (.iadd, 1) := dk_96 (dk_at dksX1_houseNow_2 16 rfl rfl)
theorem dX1_houseNow_65 : decode cX1_houseNow 65 = .ok (.istore_n 3, 1) := dk_62 (dk_at dksX1_houseNow_2 17 rfl rfl)
theorem dX1_houseNow_66 : decode cX1_houseNow 66 = .ok (.goto (-28), 3) := dk_167 255 228 (dk_at dksX1_houseNow_2 18 rfl rfl)
theorem dX1_houseNow_69 : decode cX1_houseNow 69 = .ok (.iload_n 1, 1) := dk_27 (dk_at dksX1_houseNow_2 21 rfl rfl)
theorem dX1_houseNow_70 : decode cX1_houseNow 70 = .ok (.ifCond .ne 10, 3) := dk_154 0 10 (dk_at dksX1_houseNow_3 0 rfl rfl)
theorem dX1_houseNow_73 : decode cX1_houseNow 73 = .ok (.aload_n 0, 1) := dk_42 (dk_at dksX1_houseNow_3 3 rfl rfl)
theorem dX1_houseNow_74 : decode cX1_houseNow 74 = .ok (.getfield 334, 3) := dk_180 1 78 (dk_at dksX1_houseNow_3 4 rfl rfl)
theorem dX1_houseNow_77 : decode cX1_houseNow 77 = .ok (.goto 25, 3) := dk_167 0 25 (dk_at dksX1_houseNow_3 7 rfl rfl)
theorem dX1_houseNow_80 : decode cX1_houseNow 80 = .ok (.iload_n 1, 1) := dk_27 (dk_at dksX1_houseNow_3 10 rfl rfl)
theorem dX1_houseNow_81 : decode cX1_houseNow 81 = .ok (.iconst 1, 1) := dk_4 (dk_at dksX1_houseNow_3 11 rfl rfl)
theorem dX1_houseNow_82 : decode cX1_houseNow 82 = .ok (.if_icmp .ne 10, 3) := dk_160 0 10 (dk_at dksX1_houseNow_3 12 rfl rfl)
theorem dX1_houseNow_85 : decode cX1_houseNow 85 = .ok (.aload_n 0, 1) := dk_42 (dk_at dksX1_houseNow_3 15 rfl rfl)
theorem dX1_houseNow_86 : decode cX1_houseNow 86 = .ok (.getfield 89, 3) := dk_180 0 89 (dk_at dksX1_houseNow_3 16 rfl rfl)
theorem dX1_houseNow_89 : decode cX1_houseNow 89 = .ok (.goto 13, 3) := dk_167 0 13 (dk_at dksX1_houseNow_3 19 rfl rfl)
theorem dX1_houseNow_92 : decode cX1_houseNow 92 = .ok (.iload_n 1, 1) := dk_27 (dk_at dksX1_houseNow_3 22 rfl rfl)
theorem dX1_houseNow_93 : decode cX1_houseNow 93 = .ok (.iconst 2, 1) := dk_5 (dk_at dksX1_houseNow_3 23 rfl rfl)
theorem dX1_houseNow_94 : decode cX1_houseNow 94 = .ok (.if_icmp .ne 7, 3) := dk_160 0 7 (dk_at dksX1_houseNow_4 0 rfl rfl)
theorem dX1_houseNow_97 : decode cX1_houseNow 97 = .ok (.iload_n 2, 1) := dk_28 (dk_at dksX1_houseNow_4 3 rfl rfl)
theorem dX1_houseNow_98 : decode cX1_houseNow 98 = .ok (.goto 4, 3) := dk_167 0 4 (dk_at dksX1_houseNow_4 4 rfl rfl)
theorem dX1_houseNow_101 : decode cX1_houseNow 101 = .ok (.iload_n 3, 1) := dk_29 (dk_at dksX1_houseNow_4 7 rfl rfl)
theorem dX1_houseNow_102 : decode cX1_houseNow 102 = .ok (.ireturn, 1) := dk_172 (dk_at dksX1_houseNow_4 8 rfl rfl)
abbrev cX1_bit : ByteArray := prog_1_method_2_code
def yX1_bit : MethodName := ⟨RX1, "bit", "(Z)I"⟩
def dkwX1_bit_0 : List UInt8 := [26, 153, 0, 7, 4, 167, 0, 4, 3, 172]
abbrev dktX1_bit_0 : List UInt8 := dkwX1_bit_0 ++ []
theorem dksX1_bit_0 : cX1_bit.data.toList.drop 0 = dktX1_bit_0 := by decide +kernel
theorem dX1_bit_0 : decode cX1_bit 0 = .ok (.iload_n 0, 1) := dk_26 (dk_at dksX1_bit_0 0 rfl rfl)
theorem dX1_bit_1 : decode cX1_bit 1 = .ok (.ifCond .eq 7, 3) := dk_153 0 7 (dk_at dksX1_bit_0 1 rfl rfl)
theorem dX1_bit_4 : decode cX1_bit 4 = .ok (.iconst 1, 1) := dk_4 (dk_at dksX1_bit_0 4 rfl rfl)
theorem dX1_bit_5 : decode cX1_bit 5 = .ok (.goto 4, 3) := dk_167 0 4 (dk_at dksX1_bit_0 5 rfl rfl)
theorem dX1_bit_8 : decode cX1_bit 8 = .ok (.iconst 0, 1) := dk_3 (dk_at dksX1_bit_0 8 rfl rfl)
theorem dX1_bit_9 : decode cX1_bit 9 = .ok (.ireturn, 1) := dk_172 (dk_at dksX1_bit_0 9 rfl rfl)
abbrev cX1_add_2 : ByteArray := prog_1_method_67_code
def yX1_add_2 : MethodName := ⟨RX1, "add", "(JJ)J"⟩
def dkwX1_add_2_0 : List UInt8 := [30, 20, 1, 114, 105, 32, 97, 173]
abbrev dktX1_add_2_0 : List UInt8 := dkwX1_add_2_0 ++ []
theorem dksX1_add_2_0 : cX1_add_2.data.toList.drop 0 = dktX1_add_2_0 := by decide +kernel
theorem dX1_add_2_0 : decode cX1_add_2 0 = .ok (.lload_n 0, 1) := dk_30 (dk_at dksX1_add_2_0 0 rfl rfl)
theorem dX1_add_2_1 : decode cX1_add_2 1 = .ok (.ldc2_w 370, 3) := dk_20 1 114 (dk_at dksX1_add_2_0 1 rfl rfl)
theorem dX1_add_2_4 : decode cX1_add_2 4 = .ok (.lmul, 1) := dk_105 (dk_at dksX1_add_2_0 4 rfl rfl)
theorem dX1_add_2_5 : decode cX1_add_2 5 = .ok (.lload_n 2, 1) := dk_32 (dk_at dksX1_add_2_0 5 rfl rfl)
theorem dX1_add_2_6 : decode cX1_add_2 6 = .ok (.ladd, 1) := dk_97 (dk_at dksX1_add_2_0 6 rfl rfl)
theorem dX1_add_2_7 : decode cX1_add_2 7 = .ok (.lreturn, 1) := dk_173 (dk_at dksX1_add_2_0 7 rfl rfl)
abbrev cX1_sumOf : ByteArray := prog_1_method_23_code
def yX1_sumOf : MethodName := ⟨RX1, "sumOf", "(Ljava/util/List;)I"⟩
def dkwX1_sumOf_0 : List UInt8 := [187, 0, 165, 89, 183, 0, 167, 76, 42, 77, 44, 43, 185, 0, 168, 2, 0, 43, 180, 0, 174, 172]
abbrev dktX1_sumOf_0 : List UInt8 := dkwX1_sumOf_0 ++ []
theorem dksX1_sumOf_0 : cX1_sumOf.data.toList.drop 0 = dktX1_sumOf_0 := by decide +kernel
theorem dX1_sumOf_0 : decode cX1_sumOf 0 = .ok (.new 165, 3) := dk_187 0 165 (dk_at dksX1_sumOf_0 0 rfl rfl)
theorem dX1_sumOf_3 : decode cX1_sumOf 3 = .ok (.dup, 1) := dk_89 (dk_at dksX1_sumOf_0 3 rfl rfl)
theorem dX1_sumOf_4 : decode cX1_sumOf 4 = .ok (.invokespecial 167, 3) := dk_183 0 167 (dk_at dksX1_sumOf_0 4 rfl rfl)
theorem dX1_sumOf_7 : decode cX1_sumOf 7 = .ok (.astore_n 1, 1) := dk_76 (dk_at dksX1_sumOf_0 7 rfl rfl)
theorem dX1_sumOf_8 : decode cX1_sumOf 8 = .ok (.aload_n 0, 1) := dk_42 (dk_at dksX1_sumOf_0 8 rfl rfl)
theorem dX1_sumOf_9 : decode cX1_sumOf 9 = .ok (.astore_n 2, 1) := dk_77 (dk_at dksX1_sumOf_0 9 rfl rfl)
theorem dX1_sumOf_10 : decode cX1_sumOf 10 = .ok (.aload_n 2, 1) := dk_44 (dk_at dksX1_sumOf_0 10 rfl rfl)
theorem dX1_sumOf_11 : decode cX1_sumOf 11 = .ok (.aload_n 1, 1) := dk_43 (dk_at dksX1_sumOf_0 11 rfl rfl)
theorem dX1_sumOf_12 : decode cX1_sumOf 12 = .ok (.invokeinterface 168 2, 5) := by decide +kernel
theorem dX1_sumOf_17 : decode cX1_sumOf 17 = .ok (.aload_n 1, 1) := dk_43 (dk_at dksX1_sumOf_0 17 rfl rfl)
theorem dX1_sumOf_18 : decode cX1_sumOf 18 = .ok (.getfield 174, 3) := dk_180 0 174 (dk_at dksX1_sumOf_0 18 rfl rfl)
theorem dX1_sumOf_21 : decode cX1_sumOf 21 = .ok (.ireturn, 1) := dk_172 (dk_at dksX1_sumOf_0 21 rfl rfl)
abbrev cX1_lay : ByteArray := prog_1_method_17_code
def yX1_lay : MethodName := ⟨RX1, "lay", "(II)I"⟩
def dkwX1_lay_4 : List UInt8 := [42, 180, 0, 26, 27, 182, 0, 48, 192, 0, 52, 184, 0, 54, 182, 0, 112, 87, 29, 172]
abbrev dktX1_lay_4 : List UInt8 := dkwX1_lay_4 ++ []
def dkwX1_lay_3 : List UInt8 := [132, 4, 1, 167, 255, 205, 42, 180, 0, 26, 27, 28, 184, 0, 40, 182, 0, 112, 87, 42, 180, 0, 30, 27]
abbrev dktX1_lay_3 : List UInt8 := dkwX1_lay_3 ++ dktX1_lay_4
def dkwX1_lay_2 : List UInt8 := [1, 182, 0, 112, 87, 42, 180, 0, 33, 21, 4, 2, 79, 42, 180, 0, 37, 21, 4, 2, 79, 132, 3, 1]
abbrev dktX1_lay_2 : List UInt8 := dkwX1_lay_2 ++ dktX1_lay_3
def dkwX1_lay_1 : List UInt8 := [21, 4, 16, 7, 162, 0, 50, 42, 180, 0, 33, 21, 4, 46, 27, 160, 0, 33, 42, 180, 0, 30, 21, 4]
abbrev dktX1_lay_1 : List UInt8 := dkwX1_lay_1 ++ dktX1_lay_2
def dkwX1_lay_0 : List UInt8 := [27, 3, 5, 184, 0, 3, 184, 0, 70, 28, 3, 16, 12, 184, 0, 3, 184, 0, 86, 3, 62, 6, 54, 4]
abbrev dktX1_lay_0 : List UInt8 := dkwX1_lay_0 ++ dktX1_lay_1
theorem dksX1_lay_0 : cX1_lay.data.toList.drop 0 = dktX1_lay_0 := by decide +kernel
theorem dksX1_lay_1 : cX1_lay.data.toList.drop 24 = dktX1_lay_1 := dk_seg dksX1_lay_0 24 rfl rfl
theorem dksX1_lay_2 : cX1_lay.data.toList.drop 48 = dktX1_lay_2 := dk_seg dksX1_lay_1 24 rfl rfl
theorem dksX1_lay_3 : cX1_lay.data.toList.drop 72 = dktX1_lay_3 := dk_seg dksX1_lay_2 24 rfl rfl
theorem dksX1_lay_4 : cX1_lay.data.toList.drop 96 = dktX1_lay_4 := dk_seg dksX1_lay_3 24 rfl rfl
theorem dX1_lay_0 : decode cX1_lay 0 = .ok (.iload_n 1, 1) := dk_27 (dk_at dksX1_lay_0 0 rfl rfl)
theorem dX1_lay_1 : decode cX1_lay 1 = .ok (.iconst 0, 1) := dk_3 (dk_at dksX1_lay_0 1 rfl rfl)
theorem dX1_lay_2 : decode cX1_lay 2 = .ok (.iconst 2, 1) := dk_5 (dk_at dksX1_lay_0 2 rfl rfl)
theorem dX1_lay_3 : decode cX1_lay 3 = .ok (.invokestatic 3, 3) := dk_184 0 3 (dk_at dksX1_lay_0 3 rfl rfl)
theorem dX1_lay_6 : decode cX1_lay 6 = .ok (.invokestatic 70, 3) := dk_184 0 70 (dk_at dksX1_lay_0 6 rfl rfl)
theorem dX1_lay_9 : decode cX1_lay 9 = .ok (.iload_n 2, 1) := dk_28 (dk_at dksX1_lay_0 9 rfl rfl)
theorem dX1_lay_10 : decode cX1_lay 10 = .ok (.iconst 0, 1) := dk_3 (dk_at dksX1_lay_0 10 rfl rfl)
theorem dX1_lay_11 : decode cX1_lay 11 = .ok (.bipush 12, 2) := dk_16 12 (dk_at dksX1_lay_0 11 rfl rfl)
theorem dX1_lay_13 : decode cX1_lay 13 = .ok (.invokestatic 3, 3) := dk_184 0 3 (dk_at dksX1_lay_0 13 rfl rfl)
theorem dX1_lay_16 : decode cX1_lay 16 = .ok (.invokestatic 86, 3) := dk_184 0 86 (dk_at dksX1_lay_0 16 rfl rfl)
theorem dX1_lay_19 : decode cX1_lay 19 = .ok (.iconst 0, 1) := dk_3 (dk_at dksX1_lay_0 19 rfl rfl)
theorem dX1_lay_20 : decode cX1_lay 20 = .ok (.istore_n 3, 1) := dk_62 (dk_at dksX1_lay_0 20 rfl rfl)
theorem dX1_lay_21 : decode cX1_lay 21 = .ok (.iconst 3, 1) := dk_6 (dk_at dksX1_lay_0 21 rfl rfl)
theorem dX1_lay_22 : decode cX1_lay 22 = .ok (.istore 4, 2) := dk_54 4 (dk_at dksX1_lay_0 22 rfl rfl)
theorem dX1_lay_24 : decode cX1_lay 24 = .ok (.iload 4, 2) := dk_21 4 (dk_at dksX1_lay_1 0 rfl rfl)
theorem dX1_lay_26 : decode cX1_lay 26 = .ok (.bipush 7, 2) := dk_16 7 (dk_at dksX1_lay_1 2 rfl rfl)
theorem dX1_lay_28 : decode cX1_lay 28 = .ok (.if_icmp .ge 50, 3) := dk_162 0 50 (dk_at dksX1_lay_1 4 rfl rfl)
theorem dX1_lay_31 : decode cX1_lay 31 = .ok (.aload_n 0, 1) := dk_42 (dk_at dksX1_lay_1 7 rfl rfl)
theorem dX1_lay_32 : decode cX1_lay 32 = .ok (.getfield 33, 3) := dk_180 0 33 (dk_at dksX1_lay_1 8 rfl rfl)
theorem dX1_lay_35 : decode cX1_lay 35 = .ok (.iload 4, 2) := dk_21 4 (dk_at dksX1_lay_1 11 rfl rfl)
theorem dX1_lay_37 : decode cX1_lay 37 = .ok (.iaload, 1) := dk_46 (dk_at dksX1_lay_1 13 rfl rfl)
theorem dX1_lay_38 : decode cX1_lay 38 = .ok (.iload_n 1, 1) := dk_27 (dk_at dksX1_lay_1 14 rfl rfl)
theorem dX1_lay_39 : decode cX1_lay 39 = .ok (.if_icmp .ne 33, 3) := dk_160 0 33 (dk_at dksX1_lay_1 15 rfl rfl)
theorem dX1_lay_42 : decode cX1_lay 42 = .ok (.aload_n 0, 1) := dk_42 (dk_at dksX1_lay_1 18 rfl rfl)
theorem dX1_lay_43 : decode cX1_lay 43 = .ok (.getfield 30, 3) := dk_180 0 30 (dk_at dksX1_lay_1 19 rfl rfl)
theorem dX1_lay_46 : decode cX1_lay 46 = .ok (.iload 4, 2) := dk_21 4 (dk_at dksX1_lay_1 22 rfl rfl)
theorem dX1_lay_48 : decode cX1_lay 48 = .ok (.aconst_null, 1) := dk_1 (dk_at dksX1_lay_2 0 rfl rfl)
theorem dX1_lay_49 : decode cX1_lay 49 = .ok (.invokevirtual 112, 3) := dk_182 0 112 (dk_at dksX1_lay_2 1 rfl rfl)
theorem dX1_lay_52 : decode cX1_lay 52 = .ok (.pop, 1) := dk_87 (dk_at dksX1_lay_2 4 rfl rfl)
theorem dX1_lay_53 : decode cX1_lay 53 = .ok (.aload_n 0, 1) := dk_42 (dk_at dksX1_lay_2 5 rfl rfl)
theorem dX1_lay_54 : decode cX1_lay 54 = .ok (.getfield 33, 3) := dk_180 0 33 (dk_at dksX1_lay_2 6 rfl rfl)
theorem dX1_lay_57 : decode cX1_lay 57 = .ok (.iload 4, 2) := dk_21 4 (dk_at dksX1_lay_2 9 rfl rfl)
theorem dX1_lay_59 : decode cX1_lay 59 = .ok (.iconst (-1), 1) := dk_2 (dk_at dksX1_lay_2 11 rfl rfl)
theorem dX1_lay_60 : decode cX1_lay 60 = .ok (.iastore, 1) := dk_79 (dk_at dksX1_lay_2 12 rfl rfl)
theorem dX1_lay_61 : decode cX1_lay 61 = .ok (.aload_n 0, 1) := dk_42 (dk_at dksX1_lay_2 13 rfl rfl)
theorem dX1_lay_62 : decode cX1_lay 62 = .ok (.getfield 37, 3) := dk_180 0 37 (dk_at dksX1_lay_2 14 rfl rfl)
theorem dX1_lay_65 : decode cX1_lay 65 = .ok (.iload 4, 2) := dk_21 4 (dk_at dksX1_lay_2 17 rfl rfl)
theorem dX1_lay_67 : decode cX1_lay 67 = .ok (.iconst (-1), 1) := dk_2 (dk_at dksX1_lay_2 19 rfl rfl)
theorem dX1_lay_68 : decode cX1_lay 68 = .ok (.iastore, 1) := dk_79 (dk_at dksX1_lay_2 20 rfl rfl)
theorem dX1_lay_69 : decode cX1_lay 69 = .ok (.iinc 3 1, 3) := dk_132 3 1 (dk_at dksX1_lay_2 21 rfl rfl)
theorem dX1_lay_72 : decode cX1_lay 72 = .ok (.iinc 4 1, 3) := dk_132 4 1 (dk_at dksX1_lay_3 0 rfl rfl)
theorem dX1_lay_75 : decode cX1_lay 75 = .ok (.goto (-51), 3) := dk_167 255 205 (dk_at dksX1_lay_3 3 rfl rfl)
theorem dX1_lay_78 : decode cX1_lay 78 = .ok (.aload_n 0, 1) := dk_42 (dk_at dksX1_lay_3 6 rfl rfl)
theorem dX1_lay_79 : decode cX1_lay 79 = .ok (.getfield 26, 3) := dk_180 0 26 (dk_at dksX1_lay_3 7 rfl rfl)
theorem dX1_lay_82 : decode cX1_lay 82 = .ok (.iload_n 1, 1) := dk_27 (dk_at dksX1_lay_3 10 rfl rfl)
theorem dX1_lay_83 : decode cX1_lay 83 = .ok (.iload_n 2, 1) := dk_28 (dk_at dksX1_lay_3 11 rfl rfl)
theorem dX1_lay_84 : decode cX1_lay 84 = .ok (.invokestatic 40, 3) := dk_184 0 40 (dk_at dksX1_lay_3 12 rfl rfl)
theorem dX1_lay_87 : decode cX1_lay 87 = .ok (.invokevirtual 112, 3) := dk_182 0 112 (dk_at dksX1_lay_3 15 rfl rfl)
theorem dX1_lay_90 : decode cX1_lay 90 = .ok (.pop, 1) := dk_87 (dk_at dksX1_lay_3 18 rfl rfl)
theorem dX1_lay_91 : decode cX1_lay 91 = .ok (.aload_n 0, 1) := dk_42 (dk_at dksX1_lay_3 19 rfl rfl)
theorem dX1_lay_92 : decode cX1_lay 92 = .ok (.getfield 30, 3) := dk_180 0 30 (dk_at dksX1_lay_3 20 rfl rfl)
theorem dX1_lay_95 : decode cX1_lay 95 = .ok (.iload_n 1, 1) := dk_27 (dk_at dksX1_lay_3 23 rfl rfl)
theorem dX1_lay_96 : decode cX1_lay 96 = .ok (.aload_n 0, 1) := dk_42 (dk_at dksX1_lay_4 0 rfl rfl)
theorem dX1_lay_97 : decode cX1_lay 97 = .ok (.getfield 26, 3) := dk_180 0 26 (dk_at dksX1_lay_4 1 rfl rfl)
theorem dX1_lay_100 : decode cX1_lay 100 = .ok (.iload_n 1, 1) := dk_27 (dk_at dksX1_lay_4 4 rfl rfl)
theorem dX1_lay_101 : decode cX1_lay 101 = .ok (.invokevirtual 48, 3) := dk_182 0 48 (dk_at dksX1_lay_4 5 rfl rfl)
theorem dX1_lay_104 : decode cX1_lay 104 = .ok (.checkcast 52, 3) := dk_192 0 52 (dk_at dksX1_lay_4 8 rfl rfl)
theorem dX1_lay_107 : decode cX1_lay 107 = .ok (.invokestatic 54, 3) := dk_184 0 54 (dk_at dksX1_lay_4 11 rfl rfl)
theorem dX1_lay_110 : decode cX1_lay 110 = .ok (.invokevirtual 112, 3) := dk_182 0 112 (dk_at dksX1_lay_4 14 rfl rfl)
theorem dX1_lay_113 : decode cX1_lay 113 = .ok (.pop, 1) := dk_87 (dk_at dksX1_lay_4 17 rfl rfl)
theorem dX1_lay_114 : decode cX1_lay 114 = .ok (.iload_n 3, 1) := dk_29 (dk_at dksX1_lay_4 18 rfl rfl)
theorem dX1_lay_115 : decode cX1_lay 115 = .ok (.ireturn, 1) := dk_172 (dk_at dksX1_lay_4 19 rfl rfl)
abbrev cX1_mustBe : ByteArray := prog_1_method_8_code
def yX1_mustBe : MethodName := ⟨RX1, "mustBe", "(Z)V"⟩
def dkwX1_mustBe_0 : List UInt8 := [26, 154, 0, 11, 187, 0, 60, 89, 183, 0, 62, 191, 177]
abbrev dktX1_mustBe_0 : List UInt8 := dkwX1_mustBe_0 ++ []
theorem dksX1_mustBe_0 : cX1_mustBe.data.toList.drop 0 = dktX1_mustBe_0 := by decide +kernel
theorem dX1_mustBe_0 : decode cX1_mustBe 0 = .ok (.iload_n 0, 1) := dk_26 (dk_at dksX1_mustBe_0 0 rfl rfl)
theorem dX1_mustBe_1 : decode cX1_mustBe 1 = .ok (.ifCond .ne 11, 3) := dk_154 0 11 (dk_at dksX1_mustBe_0 1 rfl rfl)
theorem dX1_mustBe_4 : decode cX1_mustBe 4 = .ok (.new 60, 3) := dk_187 0 60 (dk_at dksX1_mustBe_0 4 rfl rfl)
theorem dX1_mustBe_7 : decode cX1_mustBe 7 = .ok (.dup, 1) := dk_89 (dk_at dksX1_mustBe_0 7 rfl rfl)
theorem dX1_mustBe_8 : decode cX1_mustBe 8 = .ok (.invokespecial 62, 3) := dk_183 0 62 (dk_at dksX1_mustBe_0 8 rfl rfl)
theorem dX1_mustBe_11 : decode cX1_mustBe 11 = .ok (.athrow, 1) := dk_191 (dk_at dksX1_mustBe_0 11 rfl rfl)
theorem dX1_mustBe_12 : decode cX1_mustBe 12 = .ok (.return_, 1) := dk_177 (dk_at dksX1_mustBe_0 12 rfl rfl)
abbrev cX1_mustFit : ByteArray := prog_1_method_9_code
def yX1_mustFit : MethodName := ⟨RX1, "mustFit", "(Z)V"⟩
def dkwX1_mustFit_0 : List UInt8 := [26, 154, 0, 11, 187, 0, 63, 89, 183, 0, 65, 191, 177]
abbrev dktX1_mustFit_0 : List UInt8 := dkwX1_mustFit_0 ++ []
theorem dksX1_mustFit_0 : cX1_mustFit.data.toList.drop 0 = dktX1_mustFit_0 := by decide +kernel
theorem dX1_mustFit_0 : decode cX1_mustFit 0 = .ok (.iload_n 0, 1) := dk_26 (dk_at dksX1_mustFit_0 0 rfl rfl)
theorem dX1_mustFit_1 : decode cX1_mustFit 1 = .ok (.ifCond .ne 11, 3) := dk_154 0 11 (dk_at dksX1_mustFit_0 1 rfl rfl)
theorem dX1_mustFit_4 : decode cX1_mustFit 4 = .ok (.new 63, 3) := dk_187 0 63 (dk_at dksX1_mustFit_0 4 rfl rfl)
theorem dX1_mustFit_7 : decode cX1_mustFit 7 = .ok (.dup, 1) := dk_89 (dk_at dksX1_mustFit_0 7 rfl rfl)
theorem dX1_mustFit_8 : decode cX1_mustFit 8 = .ok (.invokespecial 65, 3) := dk_183 0 65 (dk_at dksX1_mustFit_0 8 rfl rfl)
theorem dX1_mustFit_11 : decode cX1_mustFit 11 = .ok (.athrow, 1) := dk_191 (dk_at dksX1_mustFit_0 11 rfl rfl)
theorem dX1_mustFit_12 : decode cX1_mustFit 12 = .ok (.return_, 1) := dk_177 (dk_at dksX1_mustFit_0 12 rfl rfl)
abbrev cX1_put : ByteArray := prog_1_method_18_code
def yX1_put : MethodName := ⟨RX1, "put", "(III)I"⟩
def dkwX1_put_3 : List UInt8 := [28, 29, 184, 0, 124, 83, 21, 4, 172]
abbrev dktX1_put_3 : List UInt8 := dkwX1_put_3 ++ []
def dkwX1_put_2 : List UInt8 := [182, 0, 48, 192, 0, 52, 28, 50, 184, 0, 120, 54, 4, 42, 180, 0, 26, 27, 182, 0, 48, 192, 0, 52]
abbrev dktX1_put_2 : List UInt8 := dkwX1_put_2 ++ dktX1_put_3
def dkwX1_put_1 : List UInt8 := [100, 184, 0, 3, 153, 0, 7, 4, 167, 0, 4, 3, 184, 0, 70, 29, 184, 0, 116, 42, 180, 0, 26, 27]
abbrev dktX1_put_1 : List UInt8 := dkwX1_put_1 ++ dktX1_put_2
def dkwX1_put_0 : List UInt8 := [27, 3, 5, 184, 0, 3, 153, 0, 29, 28, 3, 42, 180, 0, 26, 27, 182, 0, 48, 192, 0, 52, 190, 4]
abbrev dktX1_put_0 : List UInt8 := dkwX1_put_0 ++ dktX1_put_1
theorem dksX1_put_0 : cX1_put.data.toList.drop 0 = dktX1_put_0 := by decide +kernel
theorem dksX1_put_1 : cX1_put.data.toList.drop 24 = dktX1_put_1 := dk_seg dksX1_put_0 24 rfl rfl
theorem dksX1_put_2 : cX1_put.data.toList.drop 48 = dktX1_put_2 := dk_seg dksX1_put_1 24 rfl rfl
theorem dksX1_put_3 : cX1_put.data.toList.drop 72 = dktX1_put_3 := dk_seg dksX1_put_2 24 rfl rfl
theorem dX1_put_0 : decode cX1_put 0 = .ok (.iload_n 1, 1) := dk_27 (dk_at dksX1_put_0 0 rfl rfl)
theorem dX1_put_1 : decode cX1_put 1 = .ok (.iconst 0, 1) := dk_3 (dk_at dksX1_put_0 1 rfl rfl)
theorem dX1_put_2 : decode cX1_put 2 = .ok (.iconst 2, 1) := dk_5 (dk_at dksX1_put_0 2 rfl rfl)
theorem dX1_put_3 : decode cX1_put 3 = .ok (.invokestatic 3, 3) := dk_184 0 3 (dk_at dksX1_put_0 3 rfl rfl)
theorem dX1_put_6 : decode cX1_put 6 = .ok (.ifCond .eq 29, 3) := dk_153 0 29 (dk_at dksX1_put_0 6 rfl rfl)
theorem dX1_put_9 : decode cX1_put 9 = .ok (.iload_n 2, 1) := dk_28 (dk_at dksX1_put_0 9 rfl rfl)
theorem dX1_put_10 : decode cX1_put 10 = .ok (.iconst 0, 1) := dk_3 (dk_at dksX1_put_0 10 rfl rfl)
theorem dX1_put_11 : decode cX1_put 11 = .ok (.aload_n 0, 1) := dk_42 (dk_at dksX1_put_0 11 rfl rfl)
theorem dX1_put_12 : decode cX1_put 12 = .ok (.getfield 26, 3) := dk_180 0 26 (dk_at dksX1_put_0 12 rfl rfl)
theorem dX1_put_15 : decode cX1_put 15 = .ok (.iload_n 1, 1) := dk_27 (dk_at dksX1_put_0 15 rfl rfl)
theorem dX1_put_16 : decode cX1_put 16 = .ok (.invokevirtual 48, 3) := dk_182 0 48 (dk_at dksX1_put_0 16 rfl rfl)
theorem dX1_put_19 : decode cX1_put 19 = .ok (.checkcast 52, 3) := dk_192 0 52 (dk_at dksX1_put_0 19 rfl rfl)
theorem dX1_put_22 : decode cX1_put 22 = .ok (.arraylength, 1) := dk_190 (dk_at dksX1_put_0 22 rfl rfl)
theorem dX1_put_23 : decode cX1_put 23 = .ok (.iconst 1, 1) := dk_4 (dk_at dksX1_put_0 23 rfl rfl)
theorem dX1_put_24 : decode cX1_put 24 = .ok (.isub, 1) := dk_100 (dk_at dksX1_put_1 0 rfl rfl)
theorem dX1_put_25 : decode cX1_put 25 = .ok (.invokestatic 3, 3) := dk_184 0 3 (dk_at dksX1_put_1 1 rfl rfl)
theorem dX1_put_28 : decode cX1_put 28 = .ok (.ifCond .eq 7, 3) := dk_153 0 7 (dk_at dksX1_put_1 4 rfl rfl)
theorem dX1_put_31 : decode cX1_put 31 = .ok (.iconst 1, 1) := dk_4 (dk_at dksX1_put_1 7 rfl rfl)
theorem dX1_put_32 : decode cX1_put 32 = .ok (.goto 4, 3) := dk_167 0 4 (dk_at dksX1_put_1 8 rfl rfl)
theorem dX1_put_35 : decode cX1_put 35 = .ok (.iconst 0, 1) := dk_3 (dk_at dksX1_put_1 11 rfl rfl)
theorem dX1_put_36 : decode cX1_put 36 = .ok (.invokestatic 70, 3) := dk_184 0 70 (dk_at dksX1_put_1 12 rfl rfl)
theorem dX1_put_39 : decode cX1_put 39 = .ok (.iload_n 3, 1) := dk_29 (dk_at dksX1_put_1 15 rfl rfl)
theorem dX1_put_40 : decode cX1_put 40 = .ok (.invokestatic 116, 3) := dk_184 0 116 (dk_at dksX1_put_1 16 rfl rfl)
theorem dX1_put_43 : decode cX1_put 43 = .ok (.aload_n 0, 1) := dk_42 (dk_at dksX1_put_1 19 rfl rfl)
theorem dX1_put_44 : decode cX1_put 44 = .ok (.getfield 26, 3) := dk_180 0 26 (dk_at dksX1_put_1 20 rfl rfl)
theorem dX1_put_47 : decode cX1_put 47 = .ok (.iload_n 1, 1) := dk_27 (dk_at dksX1_put_1 23 rfl rfl)
theorem dX1_put_48 : decode cX1_put 48 = .ok (.invokevirtual 48, 3) := dk_182 0 48 (dk_at dksX1_put_2 0 rfl rfl)
theorem dX1_put_51 : decode cX1_put 51 = .ok (.checkcast 52, 3) := dk_192 0 52 (dk_at dksX1_put_2 3 rfl rfl)
theorem dX1_put_54 : decode cX1_put 54 = .ok (.iload_n 2, 1) := dk_28 (dk_at dksX1_put_2 6 rfl rfl)
theorem dX1_put_55 : decode cX1_put 55 = .ok (.aaload, 1) := dk_50 (dk_at dksX1_put_2 7 rfl rfl)
theorem dX1_put_56 : decode cX1_put 56 = .ok (.invokestatic 120, 3) := dk_184 0 120 (dk_at dksX1_put_2 8 rfl rfl)
theorem dX1_put_59 : decode cX1_put 59 = .ok (.istore 4, 2) := dk_54 4 (dk_at dksX1_put_2 11 rfl rfl)
theorem dX1_put_61 : decode cX1_put 61 = .ok (.aload_n 0, 1) := dk_42 (dk_at dksX1_put_2 13 rfl rfl)
theorem dX1_put_62 : decode cX1_put 62 = .ok (.getfield 26, 3) := dk_180 0 26 (dk_at dksX1_put_2 14 rfl rfl)
theorem dX1_put_65 : decode cX1_put 65 = .ok (.iload_n 1, 1) := dk_27 (dk_at dksX1_put_2 17 rfl rfl)
theorem dX1_put_66 : decode cX1_put 66 = .ok (.invokevirtual 48, 3) := dk_182 0 48 (dk_at dksX1_put_2 18 rfl rfl)
theorem dX1_put_69 : decode cX1_put 69 = .ok (.checkcast 52, 3) := dk_192 0 52 (dk_at dksX1_put_2 21 rfl rfl)
theorem dX1_put_72 : decode cX1_put 72 = .ok (.iload_n 2, 1) := dk_28 (dk_at dksX1_put_3 0 rfl rfl)
theorem dX1_put_73 : decode cX1_put 73 = .ok (.iload_n 3, 1) := dk_29 (dk_at dksX1_put_3 1 rfl rfl)
theorem dX1_put_74 : decode cX1_put 74 = .ok (.invokestatic 124, 3) := dk_184 0 124 (dk_at dksX1_put_3 2 rfl rfl)
theorem dX1_put_77 : decode cX1_put 77 = .ok (.aastore, 1) := dk_83 (dk_at dksX1_put_3 5 rfl rfl)
theorem dX1_put_78 : decode cX1_put 78 = .ok (.iload 4, 2) := dk_21 4 (dk_at dksX1_put_3 6 rfl rfl)
theorem dX1_put_80 : decode cX1_put 80 = .ok (.ireturn, 1) := dk_172 (dk_at dksX1_put_3 8 rfl rfl)
abbrev cX1_mustBeValue : ByteArray := prog_1_method_13_code
def yX1_mustBeValue : MethodName := ⟨RX1, "mustBeValue", "(I)V"⟩
def dkwX1_mustBeValue_0 : List UInt8 := [26, 184, 0, 83, 184, 0, 86, 177]
abbrev dktX1_mustBeValue_0 : List UInt8 := dkwX1_mustBeValue_0 ++ []
theorem dksX1_mustBeValue_0 : cX1_mustBeValue.data.toList.drop 0 = dktX1_mustBeValue_0 := by decide +kernel
theorem dX1_mustBeValue_0 : decode cX1_mustBeValue 0 = .ok (.iload_n 0, 1) := dk_26 (dk_at dksX1_mustBeValue_0 0 rfl rfl)
theorem dX1_mustBeValue_1 : decode cX1_mustBeValue 1 = .ok (.invokestatic 83, 3) := dk_184 0 83 (dk_at dksX1_mustBeValue_0 1 rfl rfl)
theorem dX1_mustBeValue_4 : decode cX1_mustBeValue 4 = .ok (.invokestatic 86, 3) := dk_184 0 86 (dk_at dksX1_mustBeValue_0 4 rfl rfl)
theorem dX1_mustBeValue_7 : decode cX1_mustBeValue 7 = .ok (.return_, 1) := dk_177 (dk_at dksX1_mustBeValue_0 7 rfl rfl)
abbrev cX1_isValue : ByteArray := prog_1_method_3_code
def yX1_isValue : MethodName := ⟨RX1, "isValue", "(I)Z"⟩
def dkwX1_isValue_0 : List UInt8 := [26, 17, 252, 24, 159, 0, 14, 26, 16, 157, 16, 99, 184, 0, 3, 153, 0, 7, 4, 167, 0, 4, 3, 172]
abbrev dktX1_isValue_0 : List UInt8 := dkwX1_isValue_0 ++ []
theorem dksX1_isValue_0 : cX1_isValue.data.toList.drop 0 = dktX1_isValue_0 := by decide +kernel
theorem dX1_isValue_0 : decode cX1_isValue 0 = .ok (.iload_n 0, 1) := dk_26 (dk_at dksX1_isValue_0 0 rfl rfl)
theorem dX1_isValue_1 : decode cX1_isValue 1 = .ok (.sipush (-1000), 3) := dk_17 252 24 (dk_at dksX1_isValue_0 1 rfl rfl)
theorem dX1_isValue_4 : decode cX1_isValue 4 = .ok (.if_icmp .eq 14, 3) := dk_159 0 14 (dk_at dksX1_isValue_0 4 rfl rfl)
theorem dX1_isValue_7 : decode cX1_isValue 7 = .ok (.iload_n 0, 1) := dk_26 (dk_at dksX1_isValue_0 7 rfl rfl)
theorem dX1_isValue_8 : decode cX1_isValue 8 = .ok (.bipush (-99), 2) := dk_16 157 (dk_at dksX1_isValue_0 8 rfl rfl)
theorem dX1_isValue_10 : decode cX1_isValue 10 = .ok (.bipush 99, 2) := dk_16 99 (dk_at dksX1_isValue_0 10 rfl rfl)
theorem dX1_isValue_12 : decode cX1_isValue 12 = .ok (.invokestatic 3, 3) := dk_184 0 3 (dk_at dksX1_isValue_0 12 rfl rfl)
theorem dX1_isValue_15 : decode cX1_isValue 15 = .ok (.ifCond .eq 7, 3) := dk_153 0 7 (dk_at dksX1_isValue_0 15 rfl rfl)
theorem dX1_isValue_18 : decode cX1_isValue 18 = .ok (.iconst 1, 1) := dk_4 (dk_at dksX1_isValue_0 18 rfl rfl)
theorem dX1_isValue_19 : decode cX1_isValue 19 = .ok (.goto 4, 3) := dk_167 0 4 (dk_at dksX1_isValue_0 19 rfl rfl)
theorem dX1_isValue_22 : decode cX1_isValue 22 = .ok (.iconst 0, 1) := dk_3 (dk_at dksX1_isValue_0 22 rfl rfl)
theorem dX1_isValue_23 : decode cX1_isValue 23 = .ok (.ireturn, 1) := dk_172 (dk_at dksX1_isValue_0 23 rfl rfl)
abbrev cX1_kept : ByteArray := prog_1_method_4_code
def yX1_kept : MethodName := ⟨RX1, "kept", "(I)Ljava/lang/Integer;"⟩
def dkwX1_kept_0 : List UInt8 := [26, 17, 252, 24, 160, 0, 7, 1, 167, 0, 7, 26, 184, 0, 7, 176]
abbrev dktX1_kept_0 : List UInt8 := dkwX1_kept_0 ++ []
theorem dksX1_kept_0 : cX1_kept.data.toList.drop 0 = dktX1_kept_0 := by decide +kernel
theorem dX1_kept_0 : decode cX1_kept 0 = .ok (.iload_n 0, 1) := dk_26 (dk_at dksX1_kept_0 0 rfl rfl)
theorem dX1_kept_1 : decode cX1_kept 1 = .ok (.sipush (-1000), 3) := dk_17 252 24 (dk_at dksX1_kept_0 1 rfl rfl)
theorem dX1_kept_4 : decode cX1_kept 4 = .ok (.if_icmp .ne 7, 3) := dk_160 0 7 (dk_at dksX1_kept_0 4 rfl rfl)
theorem dX1_kept_7 : decode cX1_kept 7 = .ok (.aconst_null, 1) := dk_1 (dk_at dksX1_kept_0 7 rfl rfl)
theorem dX1_kept_8 : decode cX1_kept 8 = .ok (.goto 7, 3) := dk_167 0 7 (dk_at dksX1_kept_0 8 rfl rfl)
theorem dX1_kept_11 : decode cX1_kept 11 = .ok (.iload_n 0, 1) := dk_26 (dk_at dksX1_kept_0 11 rfl rfl)
theorem dX1_kept_12 : decode cX1_kept 12 = .ok (.invokestatic 7, 3) := dk_184 0 7 (dk_at dksX1_kept_0 12 rfl rfl)
theorem dX1_kept_15 : decode cX1_kept 15 = .ok (.areturn, 1) := dk_176 (dk_at dksX1_kept_0 15 rfl rfl)
abbrev cX1_at : ByteArray := prog_1_method_19_code
def yX1_at : MethodName := ⟨RX1, "at", "(II)I"⟩
def dkwX1_at_2 : List UInt8 := [192, 0, 52, 28, 50, 184, 0, 120, 172]
abbrev dktX1_at_2 : List UInt8 := dkwX1_at_2 ++ []
def dkwX1_at_1 : List UInt8 := [100, 184, 0, 3, 153, 0, 7, 4, 167, 0, 4, 3, 184, 0, 70, 42, 180, 0, 26, 27, 182, 0, 48]
abbrev dktX1_at_1 : List UInt8 := dkwX1_at_1 ++ dktX1_at_2
def dkwX1_at_0 : List UInt8 := [27, 3, 5, 184, 0, 3, 153, 0, 29, 28, 3, 42, 180, 0, 26, 27, 182, 0, 48, 192, 0, 52, 190, 4]
abbrev dktX1_at_0 : List UInt8 := dkwX1_at_0 ++ dktX1_at_1
theorem dksX1_at_0 : cX1_at.data.toList.drop 0 = dktX1_at_0 := by decide +kernel
theorem dksX1_at_1 : cX1_at.data.toList.drop 24 = dktX1_at_1 := dk_seg dksX1_at_0 24 rfl rfl
theorem dksX1_at_2 : cX1_at.data.toList.drop 47 = dktX1_at_2 := dk_seg dksX1_at_1 23 rfl rfl
theorem dX1_at_0 : decode cX1_at 0 = .ok (.iload_n 1, 1) := dk_27 (dk_at dksX1_at_0 0 rfl rfl)
theorem dX1_at_1 : decode cX1_at 1 = .ok (.iconst 0, 1) := dk_3 (dk_at dksX1_at_0 1 rfl rfl)
theorem dX1_at_2 : decode cX1_at 2 = .ok (.iconst 2, 1) := dk_5 (dk_at dksX1_at_0 2 rfl rfl)
theorem dX1_at_3 : decode cX1_at 3 = .ok (.invokestatic 3, 3) := dk_184 0 3 (dk_at dksX1_at_0 3 rfl rfl)
theorem dX1_at_6 : decode cX1_at 6 = .ok (.ifCond .eq 29, 3) := dk_153 0 29 (dk_at dksX1_at_0 6 rfl rfl)
theorem dX1_at_9 : decode cX1_at 9 = .ok (.iload_n 2, 1) := dk_28 (dk_at dksX1_at_0 9 rfl rfl)
theorem dX1_at_10 : decode cX1_at 10 = .ok (.iconst 0, 1) := dk_3 (dk_at dksX1_at_0 10 rfl rfl)
theorem dX1_at_11 : decode cX1_at 11 = .ok (.aload_n 0, 1) := dk_42 (dk_at dksX1_at_0 11 rfl rfl)
theorem dX1_at_12 : decode cX1_at 12 = .ok (.getfield 26, 3) := dk_180 0 26 (dk_at dksX1_at_0 12 rfl rfl)
theorem dX1_at_15 : decode cX1_at 15 = .ok (.iload_n 1, 1) := dk_27 (dk_at dksX1_at_0 15 rfl rfl)
theorem dX1_at_16 : decode cX1_at 16 = .ok (.invokevirtual 48, 3) := dk_182 0 48 (dk_at dksX1_at_0 16 rfl rfl)
theorem dX1_at_19 : decode cX1_at 19 = .ok (.checkcast 52, 3) := dk_192 0 52 (dk_at dksX1_at_0 19 rfl rfl)
theorem dX1_at_22 : decode cX1_at 22 = .ok (.arraylength, 1) := dk_190 (dk_at dksX1_at_0 22 rfl rfl)
theorem dX1_at_23 : decode cX1_at 23 = .ok (.iconst 1, 1) := dk_4 (dk_at dksX1_at_0 23 rfl rfl)
theorem dX1_at_24 : decode cX1_at 24 = .ok (.isub, 1) := dk_100 (dk_at dksX1_at_1 0 rfl rfl)
theorem dX1_at_25 : decode cX1_at 25 = .ok (.invokestatic 3, 3) := dk_184 0 3 (dk_at dksX1_at_1 1 rfl rfl)
theorem dX1_at_28 : decode cX1_at 28 = .ok (.ifCond .eq 7, 3) := dk_153 0 7 (dk_at dksX1_at_1 4 rfl rfl)
theorem dX1_at_31 : decode cX1_at 31 = .ok (.iconst 1, 1) := dk_4 (dk_at dksX1_at_1 7 rfl rfl)
theorem dX1_at_32 : decode cX1_at 32 = .ok (.goto 4, 3) := dk_167 0 4 (dk_at dksX1_at_1 8 rfl rfl)
theorem dX1_at_35 : decode cX1_at 35 = .ok (.iconst 0, 1) := dk_3 (dk_at dksX1_at_1 11 rfl rfl)
theorem dX1_at_36 : decode cX1_at 36 = .ok (.invokestatic 70, 3) := dk_184 0 70 (dk_at dksX1_at_1 12 rfl rfl)
theorem dX1_at_39 : decode cX1_at 39 = .ok (.aload_n 0, 1) := dk_42 (dk_at dksX1_at_1 15 rfl rfl)
theorem dX1_at_40 : decode cX1_at 40 = .ok (.getfield 26, 3) := dk_180 0 26 (dk_at dksX1_at_1 16 rfl rfl)
theorem dX1_at_43 : decode cX1_at 43 = .ok (.iload_n 1, 1) := dk_27 (dk_at dksX1_at_1 19 rfl rfl)
theorem dX1_at_44 : decode cX1_at 44 = .ok (.invokevirtual 48, 3) := dk_182 0 48 (dk_at dksX1_at_1 20 rfl rfl)
theorem dX1_at_47 : decode cX1_at 47 = .ok (.checkcast 52, 3) := dk_192 0 52 (dk_at dksX1_at_2 0 rfl rfl)
theorem dX1_at_50 : decode cX1_at 50 = .ok (.iload_n 2, 1) := dk_28 (dk_at dksX1_at_2 3 rfl rfl)
theorem dX1_at_51 : decode cX1_at 51 = .ok (.aaload, 1) := dk_50 (dk_at dksX1_at_2 4 rfl rfl)
theorem dX1_at_52 : decode cX1_at 52 = .ok (.invokestatic 120, 3) := dk_184 0 120 (dk_at dksX1_at_2 5 rfl rfl)
theorem dX1_at_55 : decode cX1_at 55 = .ok (.ireturn, 1) := dk_172 (dk_at dksX1_at_2 8 rfl rfl)
abbrev cX1_part : ByteArray := prog_1_method_20_code
def yX1_part : MethodName := ⟨RX1, "part", "(IIII)I"⟩
def dkwX1_part_5 : List UInt8 := [79, 21, 4, 29, 100, 172]
abbrev dktX1_part_5 : List UInt8 := dkwX1_part_5 ++ []
def dkwX1_part_4 : List UInt8 := [185, 0, 127, 3, 0, 182, 0, 112, 87, 42, 180, 0, 33, 27, 21, 6, 79, 42, 180, 0, 37, 27, 21, 7]
abbrev dktX1_part_4 : List UInt8 := dkwX1_part_4 ++ dktX1_part_5
def dkwX1_part_3 : List UInt8 := [54, 6, 42, 180, 0, 37, 28, 46, 29, 96, 54, 7, 42, 180, 0, 30, 27, 25, 5, 29, 21, 4]
abbrev dktX1_part_3 : List UInt8 := dkwX1_part_3 ++ dktX1_part_4
def dkwX1_part_2 : List UInt8 := [153, 0, 13, 29, 21, 4, 163, 0, 7, 4, 167, 0, 4, 3, 184, 0, 86, 42, 180, 0, 33, 28, 46]
abbrev dktX1_part_2 : List UInt8 := dkwX1_part_2 ++ dktX1_part_3
def dkwX1_part_1 : List UInt8 := [185, 0, 80, 1, 0, 184, 0, 3, 153, 0, 29, 21, 4, 3, 25, 5, 185, 0, 80, 1, 0, 184, 0, 3]
abbrev dktX1_part_1 : List UInt8 := dkwX1_part_1 ++ dktX1_part_2
def dkwX1_part_0 : List UInt8 := [27, 6, 16, 6, 184, 0, 3, 184, 0, 70, 42, 28, 182, 0, 76, 58, 5, 29, 3, 25, 5]
abbrev dktX1_part_0 : List UInt8 := dkwX1_part_0 ++ dktX1_part_1
theorem dksX1_part_0 : cX1_part.data.toList.drop 0 = dktX1_part_0 := by decide +kernel
theorem dksX1_part_1 : cX1_part.data.toList.drop 21 = dktX1_part_1 := dk_seg dksX1_part_0 21 rfl rfl
theorem dksX1_part_2 : cX1_part.data.toList.drop 45 = dktX1_part_2 := dk_seg dksX1_part_1 24 rfl rfl
theorem dksX1_part_3 : cX1_part.data.toList.drop 68 = dktX1_part_3 := dk_seg dksX1_part_2 23 rfl rfl
theorem dksX1_part_4 : cX1_part.data.toList.drop 90 = dktX1_part_4 := dk_seg dksX1_part_3 22 rfl rfl
theorem dksX1_part_5 : cX1_part.data.toList.drop 114 = dktX1_part_5 := dk_seg dksX1_part_4 24 rfl rfl
theorem dX1_part_0 : decode cX1_part 0 = .ok (.iload_n 1, 1) := dk_27 (dk_at dksX1_part_0 0 rfl rfl)
theorem dX1_part_1 : decode cX1_part 1 = .ok (.iconst 3, 1) := dk_6 (dk_at dksX1_part_0 1 rfl rfl)
theorem dX1_part_2 : decode cX1_part 2 = .ok (.bipush 6, 2) := dk_16 6 (dk_at dksX1_part_0 2 rfl rfl)
theorem dX1_part_4 : decode cX1_part 4 = .ok (.invokestatic 3, 3) := dk_184 0 3 (dk_at dksX1_part_0 4 rfl rfl)
theorem dX1_part_7 : decode cX1_part 7 = .ok (.invokestatic 70, 3) := dk_184 0 70 (dk_at dksX1_part_0 7 rfl rfl)
theorem dX1_part_10 : decode cX1_part 10 = .ok (.aload_n 0, 1) := dk_42 (dk_at dksX1_part_0 10 rfl rfl)
theorem dX1_part_11 : decode cX1_part 11 = .ok (.iload_n 2, 1) := dk_28 (dk_at dksX1_part_0 11 rfl rfl)
theorem dX1_part_12 : decode cX1_part 12 = .ok (.invokevirtual 76, 3) := dk_182 0 76 (dk_at dksX1_part_0 12 rfl rfl)
theorem dX1_part_15 : decode cX1_part 15 = .ok (.astore 5, 2) := dk_58 5 (dk_at dksX1_part_0 15 rfl rfl)
theorem dX1_part_17 : decode cX1_part 17 = .ok (.iload_n 3, 1) := dk_29 (dk_at dksX1_part_0 17 rfl rfl)
theorem dX1_part_18 : decode cX1_part 18 = .ok (.iconst 0, 1) := dk_3 (dk_at dksX1_part_0 18 rfl rfl)
theorem dX1_part_19 : decode cX1_part 19 = .ok (.aload 5, 2) := dk_25 5 (dk_at dksX1_part_0 19 rfl rfl)
theorem dX1_part_21 : decode cX1_part 21 = .ok (.invokeinterface 80 1, 5) := by decide +kernel
theorem dX1_part_26 : decode cX1_part 26 = .ok (.invokestatic 3, 3) := dk_184 0 3 (dk_at dksX1_part_1 5 rfl rfl)
theorem dX1_part_29 : decode cX1_part 29 = .ok (.ifCond .eq 29, 3) := dk_153 0 29 (dk_at dksX1_part_1 8 rfl rfl)
theorem dX1_part_32 : decode cX1_part 32 = .ok (.iload 4, 2) := dk_21 4 (dk_at dksX1_part_1 11 rfl rfl)
theorem dX1_part_34 : decode cX1_part 34 = .ok (.iconst 0, 1) := dk_3 (dk_at dksX1_part_1 13 rfl rfl)
theorem dX1_part_35 : decode cX1_part 35 = .ok (.aload 5, 2) := dk_25 5 (dk_at dksX1_part_1 14 rfl rfl)
theorem dX1_part_37 : decode cX1_part 37 = .ok (.invokeinterface 80 1, 5) := by decide +kernel
theorem dX1_part_42 : decode cX1_part 42 = .ok (.invokestatic 3, 3) := dk_184 0 3 (dk_at dksX1_part_1 21 rfl rfl)
theorem dX1_part_45 : decode cX1_part 45 = .ok (.ifCond .eq 13, 3) := dk_153 0 13 (dk_at dksX1_part_2 0 rfl rfl)
theorem dX1_part_48 : decode cX1_part 48 = .ok (.iload_n 3, 1) := dk_29 (dk_at dksX1_part_2 3 rfl rfl)
theorem dX1_part_49 : decode cX1_part 49 = .ok (.iload 4, 2) := dk_21 4 (dk_at dksX1_part_2 4 rfl rfl)
theorem dX1_part_51 : decode cX1_part 51 = .ok (.if_icmp .gt 7, 3) := dk_163 0 7 (dk_at dksX1_part_2 6 rfl rfl)
theorem dX1_part_54 : decode cX1_part 54 = .ok (.iconst 1, 1) := dk_4 (dk_at dksX1_part_2 9 rfl rfl)
theorem dX1_part_55 : decode cX1_part 55 = .ok (.goto 4, 3) := dk_167 0 4 (dk_at dksX1_part_2 10 rfl rfl)
theorem dX1_part_58 : decode cX1_part 58 = .ok (.iconst 0, 1) := dk_3 (dk_at dksX1_part_2 13 rfl rfl)
theorem dX1_part_59 : decode cX1_part 59 = .ok (.invokestatic 86, 3) := dk_184 0 86 (dk_at dksX1_part_2 14 rfl rfl)
theorem dX1_part_62 : decode cX1_part 62 = .ok (.aload_n 0, 1) := dk_42 (dk_at dksX1_part_2 17 rfl rfl)
theorem dX1_part_63 : decode cX1_part 63 = .ok (.getfield 33, 3) := dk_180 0 33 (dk_at dksX1_part_2 18 rfl rfl)
theorem dX1_part_66 : decode cX1_part 66 = .ok (.iload_n 2, 1) := dk_28 (dk_at dksX1_part_2 21 rfl rfl)
theorem dX1_part_67 : decode cX1_part 67 = .ok (.iaload, 1) := dk_46 (dk_at dksX1_part_2 22 rfl rfl)
theorem dX1_part_68 : decode cX1_part 68 = .ok (.istore 6, 2) := dk_54 6 (dk_at dksX1_part_3 0 rfl rfl)
theorem dX1_part_70 : decode cX1_part 70 = .ok (.aload_n 0, 1) := dk_42 (dk_at dksX1_part_3 2 rfl rfl)
theorem dX1_part_71 : decode cX1_part 71 = .ok (.getfield 37, 3) := dk_180 0 37 (dk_at dksX1_part_3 3 rfl rfl)
theorem dX1_part_74 : decode cX1_part 74 = .ok (.iload_n 2, 1) := dk_28 (dk_at dksX1_part_3 6 rfl rfl)
theorem dX1_part_75 : decode cX1_part 75 = .ok (.iaload, 1) := dk_46 (dk_at dksX1_part_3 7 rfl rfl)
theorem dX1_part_76 : decode cX1_part 76 = .ok (.iload_n 3, 1) := dk_29 (dk_at dksX1_part_3 8 rfl rfl)
theorem dX1_part_77 : decode cX1_part 77 = .ok (.iadd, 1) := dk_96 (dk_at dksX1_part_3 9 rfl rfl)
theorem dX1_part_78 : decode cX1_part 78 = .ok (.istore 7, 2) := dk_54 7 (dk_at dksX1_part_3 10 rfl rfl)
theorem dX1_part_80 : decode cX1_part 80 = .ok (.aload_n 0, 1) := dk_42 (dk_at dksX1_part_3 12 rfl rfl)
theorem dX1_part_81 : decode cX1_part 81 = .ok (.getfield 30, 3) := dk_180 0 30 (dk_at dksX1_part_3 13 rfl rfl)
theorem dX1_part_84 : decode cX1_part 84 = .ok (.iload_n 1, 1) := dk_27 (dk_at dksX1_part_3 16 rfl rfl)
theorem dX1_part_85 : decode cX1_part 85 = .ok (.aload 5, 2) := dk_25 5 (dk_at dksX1_part_3 17 rfl rfl)
theorem dX1_part_87 : decode cX1_part 87 = .ok (.iload_n 3, 1) := dk_29 (dk_at dksX1_part_3 19 rfl rfl)
theorem dX1_part_88 : decode cX1_part 88 = .ok (.iload 4, 2) := dk_21 4 (dk_at dksX1_part_3 20 rfl rfl)
theorem dX1_part_90 : decode cX1_part 90 = .ok (.invokeinterface 127 3, 5) := by decide +kernel
theorem dX1_part_95 : decode cX1_part 95 = .ok (.invokevirtual 112, 3) := dk_182 0 112 (dk_at dksX1_part_4 5 rfl rfl)
theorem dX1_part_98 : decode cX1_part 98 = .ok (.pop, 1) := dk_87 (dk_at dksX1_part_4 8 rfl rfl)
theorem dX1_part_99 : decode cX1_part 99 = .ok (.aload_n 0, 1) := dk_42 (dk_at dksX1_part_4 9 rfl rfl)
theorem dX1_part_100 : decode cX1_part 100 = .ok (.getfield 33, 3) := dk_180 0 33 (dk_at dksX1_part_4 10 rfl rfl)
theorem dX1_part_103 : decode cX1_part 103 = .ok (.iload_n 1, 1) := dk_27 (dk_at dksX1_part_4 13 rfl rfl)
theorem dX1_part_104 : decode cX1_part 104 = .ok (.iload 6, 2) := dk_21 6 (dk_at dksX1_part_4 14 rfl rfl)
theorem dX1_part_106 : decode cX1_part 106 = .ok (.iastore, 1) := dk_79 (dk_at dksX1_part_4 16 rfl rfl)
theorem dX1_part_107 : decode cX1_part 107 = .ok (.aload_n 0, 1) := dk_42 (dk_at dksX1_part_4 17 rfl rfl)
theorem dX1_part_108 : decode cX1_part 108 = .ok (.getfield 37, 3) := dk_180 0 37 (dk_at dksX1_part_4 18 rfl rfl)
theorem dX1_part_111 : decode cX1_part 111 = .ok (.iload_n 1, 1) := dk_27 (dk_at dksX1_part_4 21 rfl rfl)
theorem dX1_part_112 : decode cX1_part 112 = .ok (.iload 7, 2) := dk_21 7 (dk_at dksX1_part_4 22 rfl rfl)
theorem dX1_part_114 : decode cX1_part 114 = .ok (.iastore, 1) := dk_79 (dk_at dksX1_part_5 0 rfl rfl)
theorem dX1_part_115 : decode cX1_part 115 = .ok (.iload 4, 2) := dk_21 4 (dk_at dksX1_part_5 1 rfl rfl)
theorem dX1_part_117 : decode cX1_part 117 = .ok (.iload_n 3, 1) := dk_29 (dk_at dksX1_part_5 3 rfl rfl)
theorem dX1_part_118 : decode cX1_part 118 = .ok (.isub, 1) := dk_100 (dk_at dksX1_part_5 4 rfl rfl)
theorem dX1_part_119 : decode cX1_part 119 = .ok (.ireturn, 1) := dk_172 (dk_at dksX1_part_5 5 rfl rfl)
abbrev cX1_mustBeList : ByteArray := prog_1_method_11_code
def yX1_mustBeList : MethodName := ⟨RX1, "mustBeList", "(I)Ljava/util/List;"⟩
def dkwX1_mustBeList_0 : List UInt8 := [42, 27, 182, 0, 66, 184, 0, 70, 42, 180, 0, 30, 27, 182, 0, 48, 192, 0, 74, 176]
abbrev dktX1_mustBeList_0 : List UInt8 := dkwX1_mustBeList_0 ++ []
theorem dksX1_mustBeList_0 : cX1_mustBeList.data.toList.drop 0 = dktX1_mustBeList_0 := by decide +kernel
theorem dX1_mustBeList_0 : decode cX1_mustBeList 0 = .ok (.aload_n 0, 1) := dk_42 (dk_at dksX1_mustBeList_0 0 rfl rfl)
theorem dX1_mustBeList_1 : decode cX1_mustBeList 1 = .ok (.iload_n 1, 1) := dk_27 (dk_at dksX1_mustBeList_0 1 rfl rfl)
theorem dX1_mustBeList_2 : decode cX1_mustBeList 2 = .ok (.invokevirtual 66, 3) := dk_182 0 66 (dk_at dksX1_mustBeList_0 2 rfl rfl)
theorem dX1_mustBeList_5 : decode cX1_mustBeList 5 = .ok (.invokestatic 70, 3) := dk_184 0 70 (dk_at dksX1_mustBeList_0 5 rfl rfl)
theorem dX1_mustBeList_8 : decode cX1_mustBeList 8 = .ok (.aload_n 0, 1) := dk_42 (dk_at dksX1_mustBeList_0 8 rfl rfl)
theorem dX1_mustBeList_9 : decode cX1_mustBeList 9 = .ok (.getfield 30, 3) := dk_180 0 30 (dk_at dksX1_mustBeList_0 9 rfl rfl)
theorem dX1_mustBeList_12 : decode cX1_mustBeList 12 = .ok (.iload_n 1, 1) := dk_27 (dk_at dksX1_mustBeList_0 12 rfl rfl)
theorem dX1_mustBeList_13 : decode cX1_mustBeList 13 = .ok (.invokevirtual 48, 3) := dk_182 0 48 (dk_at dksX1_mustBeList_0 13 rfl rfl)
theorem dX1_mustBeList_16 : decode cX1_mustBeList 16 = .ok (.checkcast 74, 3) := dk_192 0 74 (dk_at dksX1_mustBeList_0 16 rfl rfl)
theorem dX1_mustBeList_19 : decode cX1_mustBeList 19 = .ok (.areturn, 1) := dk_176 (dk_at dksX1_mustBeList_0 19 rfl rfl)
abbrev cX1_set : ByteArray := prog_1_method_24_code
def yX1_set : MethodName := ⟨RX1, "set", "(III)I"⟩
def dkwX1_set_1 : List UInt8 := [192, 0, 8, 184, 0, 120, 172]
abbrev dktX1_set_1 : List UInt8 := dkwX1_set_1 ++ []
def dkwX1_set_0 : List UInt8 := [42, 27, 28, 182, 0, 177, 58, 4, 29, 184, 0, 116, 25, 4, 28, 29, 184, 0, 124, 185, 0, 180, 3, 0]
abbrev dktX1_set_0 : List UInt8 := dkwX1_set_0 ++ dktX1_set_1
theorem dksX1_set_0 : cX1_set.data.toList.drop 0 = dktX1_set_0 := by decide +kernel
theorem dksX1_set_1 : cX1_set.data.toList.drop 24 = dktX1_set_1 := dk_seg dksX1_set_0 24 rfl rfl
theorem dX1_set_0 : decode cX1_set 0 = .ok (.aload_n 0, 1) := dk_42 (dk_at dksX1_set_0 0 rfl rfl)
theorem dX1_set_1 : decode cX1_set 1 = .ok (.iload_n 1, 1) := dk_27 (dk_at dksX1_set_0 1 rfl rfl)
theorem dX1_set_2 : decode cX1_set 2 = .ok (.iload_n 2, 1) := dk_28 (dk_at dksX1_set_0 2 rfl rfl)
theorem dX1_set_3 : decode cX1_set 3 = .ok (.invokevirtual 177, 3) := dk_182 0 177 (dk_at dksX1_set_0 3 rfl rfl)
theorem dX1_set_6 : decode cX1_set 6 = .ok (.astore 4, 2) := dk_58 4 (dk_at dksX1_set_0 6 rfl rfl)
theorem dX1_set_8 : decode cX1_set 8 = .ok (.iload_n 3, 1) := dk_29 (dk_at dksX1_set_0 8 rfl rfl)
theorem dX1_set_9 : decode cX1_set 9 = .ok (.invokestatic 116, 3) := dk_184 0 116 (dk_at dksX1_set_0 9 rfl rfl)
theorem dX1_set_12 : decode cX1_set 12 = .ok (.aload 4, 2) := dk_25 4 (dk_at dksX1_set_0 12 rfl rfl)
theorem dX1_set_14 : decode cX1_set 14 = .ok (.iload_n 2, 1) := dk_28 (dk_at dksX1_set_0 14 rfl rfl)
theorem dX1_set_15 : decode cX1_set 15 = .ok (.iload_n 3, 1) := dk_29 (dk_at dksX1_set_0 15 rfl rfl)
theorem dX1_set_16 : decode cX1_set 16 = .ok (.invokestatic 124, 3) := dk_184 0 124 (dk_at dksX1_set_0 16 rfl rfl)
theorem dX1_set_19 : decode cX1_set 19 = .ok (.invokeinterface 180 3, 5) := by decide +kernel
theorem dX1_set_24 : decode cX1_set 24 = .ok (.checkcast 8, 3) := dk_192 0 8 (dk_at dksX1_set_1 0 rfl rfl)
theorem dX1_set_27 : decode cX1_set 27 = .ok (.invokestatic 120, 3) := dk_184 0 120 (dk_at dksX1_set_1 3 rfl rfl)
theorem dX1_set_30 : decode cX1_set 30 = .ok (.ireturn, 1) := dk_172 (dk_at dksX1_set_1 6 rfl rfl)
abbrev cX1_mustBePlace : ByteArray := prog_1_method_12_code
def yX1_mustBePlace : MethodName := ⟨RX1, "mustBePlace", "(II)Ljava/util/List;"⟩
def dkwX1_mustBePlace_0 : List UInt8 := [42, 27, 182, 0, 76, 78, 28, 3, 45, 185, 0, 80, 1, 0, 4, 100, 184, 0, 3, 184, 0, 70, 45, 176]
abbrev dktX1_mustBePlace_0 : List UInt8 := dkwX1_mustBePlace_0 ++ []
theorem dksX1_mustBePlace_0 : cX1_mustBePlace.data.toList.drop 0 = dktX1_mustBePlace_0 := by decide +kernel
theorem dX1_mustBePlace_0 : decode cX1_mustBePlace 0 = .ok (.aload_n 0, 1) := dk_42 (dk_at dksX1_mustBePlace_0 0 rfl rfl)
theorem dX1_mustBePlace_1 : decode cX1_mustBePlace 1 = .ok (.iload_n 1, 1) := dk_27 (dk_at dksX1_mustBePlace_0 1 rfl rfl)
theorem dX1_mustBePlace_2 : decode cX1_mustBePlace 2 = .ok (.invokevirtual 76, 3) := dk_182 0 76 (dk_at dksX1_mustBePlace_0 2 rfl rfl)
theorem dX1_mustBePlace_5 : decode cX1_mustBePlace 5 = .ok (.astore_n 3, 1) := dk_78 (dk_at dksX1_mustBePlace_0 5 rfl rfl)
theorem dX1_mustBePlace_6 : decode cX1_mustBePlace 6 = .ok (.iload_n 2, 1) := dk_28 (dk_at dksX1_mustBePlace_0 6 rfl rfl)
theorem dX1_mustBePlace_7 : decode cX1_mustBePlace 7 = .ok (.iconst 0, 1) := dk_3 (dk_at dksX1_mustBePlace_0 7 rfl rfl)
theorem dX1_mustBePlace_8 : decode cX1_mustBePlace 8 = .ok (.aload_n 3, 1) := dk_45 (dk_at dksX1_mustBePlace_0 8 rfl rfl)
theorem dX1_mustBePlace_9 : decode cX1_mustBePlace 9 = .ok (.invokeinterface 80 1, 5) := by decide +kernel
theorem dX1_mustBePlace_14 : decode cX1_mustBePlace 14 = .ok (.iconst 1, 1) := dk_4 (dk_at dksX1_mustBePlace_0 14 rfl rfl)
theorem dX1_mustBePlace_15 : decode cX1_mustBePlace 15 = .ok (.isub, 1) := dk_100 (dk_at dksX1_mustBePlace_0 15 rfl rfl)
theorem dX1_mustBePlace_16 : decode cX1_mustBePlace 16 = .ok (.invokestatic 3, 3) := dk_184 0 3 (dk_at dksX1_mustBePlace_0 16 rfl rfl)
theorem dX1_mustBePlace_19 : decode cX1_mustBePlace 19 = .ok (.invokestatic 70, 3) := dk_184 0 70 (dk_at dksX1_mustBePlace_0 19 rfl rfl)
theorem dX1_mustBePlace_22 : decode cX1_mustBePlace 22 = .ok (.aload_n 3, 1) := dk_45 (dk_at dksX1_mustBePlace_0 22 rfl rfl)
theorem dX1_mustBePlace_23 : decode cX1_mustBePlace 23 = .ok (.areturn, 1) := dk_176 (dk_at dksX1_mustBePlace_0 23 rfl rfl)
abbrev cX1_get : ByteArray := prog_1_method_25_code
def yX1_get : MethodName := ⟨RX1, "get", "(II)I"⟩
def dkwX1_get_0 : List UInt8 := [42, 27, 28, 182, 0, 177, 28, 185, 0, 181, 2, 0, 192, 0, 8, 184, 0, 120, 172]
abbrev dktX1_get_0 : List UInt8 := dkwX1_get_0 ++ []
theorem dksX1_get_0 : cX1_get.data.toList.drop 0 = dktX1_get_0 := by decide +kernel
theorem dX1_get_0 : decode cX1_get 0 = .ok (.aload_n 0, 1) := dk_42 (dk_at dksX1_get_0 0 rfl rfl)
theorem dX1_get_1 : decode cX1_get 1 = .ok (.iload_n 1, 1) := dk_27 (dk_at dksX1_get_0 1 rfl rfl)
theorem dX1_get_2 : decode cX1_get 2 = .ok (.iload_n 2, 1) := dk_28 (dk_at dksX1_get_0 2 rfl rfl)
theorem dX1_get_3 : decode cX1_get 3 = .ok (.invokevirtual 177, 3) := dk_182 0 177 (dk_at dksX1_get_0 3 rfl rfl)
theorem dX1_get_6 : decode cX1_get 6 = .ok (.iload_n 2, 1) := dk_28 (dk_at dksX1_get_0 6 rfl rfl)
theorem dX1_get_7 : decode cX1_get 7 = .ok (.invokeinterface 181 2, 5) := by decide +kernel
theorem dX1_get_12 : decode cX1_get 12 = .ok (.checkcast 8, 3) := dk_192 0 8 (dk_at dksX1_get_0 12 rfl rfl)
theorem dX1_get_15 : decode cX1_get 15 = .ok (.invokestatic 120, 3) := dk_184 0 120 (dk_at dksX1_get_0 15 rfl rfl)
theorem dX1_get_18 : decode cX1_get 18 = .ok (.ireturn, 1) := dk_172 (dk_at dksX1_get_0 18 rfl rfl)
abbrev cX1_length : ByteArray := prog_1_method_26_code
def yX1_length : MethodName := ⟨RX1, "length", "(I)I"⟩
def dkwX1_length_0 : List UInt8 := [42, 27, 182, 0, 76, 185, 0, 80, 1, 0, 172]
abbrev dktX1_length_0 : List UInt8 := dkwX1_length_0 ++ []
theorem dksX1_length_0 : cX1_length.data.toList.drop 0 = dktX1_length_0 := by decide +kernel
theorem dX1_length_0 : decode cX1_length 0 = .ok (.aload_n 0, 1) := dk_42 (dk_at dksX1_length_0 0 rfl rfl)
theorem dX1_length_1 : decode cX1_length 1 = .ok (.iload_n 1, 1) := dk_27 (dk_at dksX1_length_0 1 rfl rfl)
theorem dX1_length_2 : decode cX1_length 2 = .ok (.invokevirtual 76, 3) := dk_182 0 76 (dk_at dksX1_length_0 2 rfl rfl)
theorem dX1_length_5 : decode cX1_length 5 = .ok (.invokeinterface 80 1, 5) := by decide +kernel
theorem dX1_length_10 : decode cX1_length 10 = .ok (.ireturn, 1) := dk_172 (dk_at dksX1_length_0 10 rfl rfl)
abbrev cX1_isEmpty : ByteArray := prog_1_method_27_code
def yX1_isEmpty : MethodName := ⟨RX1, "isEmpty", "(I)Z"⟩
def dkwX1_isEmpty_0 : List UInt8 := [42, 27, 182, 0, 76, 185, 0, 182, 1, 0, 172]
abbrev dktX1_isEmpty_0 : List UInt8 := dkwX1_isEmpty_0 ++ []
theorem dksX1_isEmpty_0 : cX1_isEmpty.data.toList.drop 0 = dktX1_isEmpty_0 := by decide +kernel
theorem dX1_isEmpty_0 : decode cX1_isEmpty 0 = .ok (.aload_n 0, 1) := dk_42 (dk_at dksX1_isEmpty_0 0 rfl rfl)
theorem dX1_isEmpty_1 : decode cX1_isEmpty 1 = .ok (.iload_n 1, 1) := dk_27 (dk_at dksX1_isEmpty_0 1 rfl rfl)
theorem dX1_isEmpty_2 : decode cX1_isEmpty 2 = .ok (.invokevirtual 76, 3) := dk_182 0 76 (dk_at dksX1_isEmpty_0 2 rfl rfl)
theorem dX1_isEmpty_5 : decode cX1_isEmpty 5 = .ok (.invokeinterface 182 1, 5) := by decide +kernel
theorem dX1_isEmpty_10 : decode cX1_isEmpty 10 = .ok (.ireturn, 1) := dk_172 (dk_at dksX1_isEmpty_0 10 rfl rfl)
abbrev cX1_text : ByteArray := prog_1_method_28_code
def yX1_text : MethodName := ⟨RX1, "text", "(I)Ljava/lang/String;"⟩
def dkwX1_text_0 : List UInt8 := [42, 27, 182, 0, 76, 184, 0, 185, 176]
abbrev dktX1_text_0 : List UInt8 := dkwX1_text_0 ++ []
theorem dksX1_text_0 : cX1_text.data.toList.drop 0 = dktX1_text_0 := by decide +kernel
theorem dX1_text_0 : decode cX1_text 0 = .ok (.aload_n 0, 1) := dk_42 (dk_at dksX1_text_0 0 rfl rfl)
theorem dX1_text_1 : decode cX1_text 1 = .ok (.iload_n 1, 1) := dk_27 (dk_at dksX1_text_0 1 rfl rfl)
theorem dX1_text_2 : decode cX1_text 2 = .ok (.invokevirtual 76, 3) := dk_182 0 76 (dk_at dksX1_text_0 2 rfl rfl)
theorem dX1_text_5 : decode cX1_text 5 = .ok (.invokestatic 185, 3) := dk_184 0 185 (dk_at dksX1_text_0 5 rfl rfl)
theorem dX1_text_8 : decode cX1_text 8 = .ok (.areturn, 1) := dk_176 (dk_at dksX1_text_0 8 rfl rfl)
abbrev cX1_back : ByteArray := prog_1_method_29_code
def yX1_back : MethodName := ⟨RX1, "back", "(I)Ljava/lang/String;"⟩
def dkwX1_back_0 : List UInt8 := [42, 27, 182, 0, 76, 184, 0, 189, 176]
abbrev dktX1_back_0 : List UInt8 := dkwX1_back_0 ++ []
theorem dksX1_back_0 : cX1_back.data.toList.drop 0 = dktX1_back_0 := by decide +kernel
theorem dX1_back_0 : decode cX1_back 0 = .ok (.aload_n 0, 1) := dk_42 (dk_at dksX1_back_0 0 rfl rfl)
theorem dX1_back_1 : decode cX1_back 1 = .ok (.iload_n 1, 1) := dk_27 (dk_at dksX1_back_0 1 rfl rfl)
theorem dX1_back_2 : decode cX1_back 2 = .ok (.invokevirtual 76, 3) := dk_182 0 76 (dk_at dksX1_back_0 2 rfl rfl)
theorem dX1_back_5 : decode cX1_back 5 = .ok (.invokestatic 189, 3) := dk_184 0 189 (dk_at dksX1_back_0 5 rfl rfl)
theorem dX1_back_8 : decode cX1_back 8 = .ok (.areturn, 1) := dk_176 (dk_at dksX1_back_0 8 rfl rfl)
abbrev cX1_indexOf : ByteArray := prog_1_method_30_code
def yX1_indexOf : MethodName := ⟨RX1, "indexOf", "(II)I"⟩
def dkwX1_indexOf_0 : List UInt8 := [42, 27, 182, 0, 76, 78, 28, 184, 0, 116, 45, 28, 184, 0, 124, 185, 0, 192, 2, 0, 172]
abbrev dktX1_indexOf_0 : List UInt8 := dkwX1_indexOf_0 ++ []
theorem dksX1_indexOf_0 : cX1_indexOf.data.toList.drop 0 = dktX1_indexOf_0 := by decide +kernel
theorem dX1_indexOf_0 : decode cX1_indexOf 0 = .ok (.aload_n 0, 1) := dk_42 (dk_at dksX1_indexOf_0 0 rfl rfl)
theorem dX1_indexOf_1 : decode cX1_indexOf 1 = .ok (.iload_n 1, 1) := dk_27 (dk_at dksX1_indexOf_0 1 rfl rfl)
theorem dX1_indexOf_2 : decode cX1_indexOf 2 = .ok (.invokevirtual 76, 3) := dk_182 0 76 (dk_at dksX1_indexOf_0 2 rfl rfl)
theorem dX1_indexOf_5 : decode cX1_indexOf 5 = .ok (.astore_n 3, 1) := dk_78 (dk_at dksX1_indexOf_0 5 rfl rfl)
theorem dX1_indexOf_6 : decode cX1_indexOf 6 = .ok (.iload_n 2, 1) := dk_28 (dk_at dksX1_indexOf_0 6 rfl rfl)
theorem dX1_indexOf_7 : decode cX1_indexOf 7 = .ok (.invokestatic 116, 3) := dk_184 0 116 (dk_at dksX1_indexOf_0 7 rfl rfl)
theorem dX1_indexOf_10 : decode cX1_indexOf 10 = .ok (.aload_n 3, 1) := dk_45 (dk_at dksX1_indexOf_0 10 rfl rfl)
theorem dX1_indexOf_11 : decode cX1_indexOf 11 = .ok (.iload_n 2, 1) := dk_28 (dk_at dksX1_indexOf_0 11 rfl rfl)
theorem dX1_indexOf_12 : decode cX1_indexOf 12 = .ok (.invokestatic 124, 3) := dk_184 0 124 (dk_at dksX1_indexOf_0 12 rfl rfl)
theorem dX1_indexOf_15 : decode cX1_indexOf 15 = .ok (.invokeinterface 192 2, 5) := by decide +kernel
theorem dX1_indexOf_20 : decode cX1_indexOf 20 = .ok (.ireturn, 1) := dk_172 (dk_at dksX1_indexOf_0 20 rfl rfl)
abbrev cX1_lastIndexOf : ByteArray := prog_1_method_31_code
def yX1_lastIndexOf : MethodName := ⟨RX1, "lastIndexOf", "(II)I"⟩
def dkwX1_lastIndexOf_0 : List UInt8 := [42, 27, 182, 0, 76, 78, 28, 184, 0, 116, 45, 28, 184, 0, 124, 185, 0, 196, 2, 0, 172]
abbrev dktX1_lastIndexOf_0 : List UInt8 := dkwX1_lastIndexOf_0 ++ []
theorem dksX1_lastIndexOf_0 : cX1_lastIndexOf.data.toList.drop 0 = dktX1_lastIndexOf_0 := by decide +kernel
theorem dX1_lastIndexOf_0 : decode cX1_lastIndexOf 0 = .ok (.aload_n 0, 1) := dk_42 (dk_at dksX1_lastIndexOf_0 0 rfl rfl)
theorem dX1_lastIndexOf_1 : decode cX1_lastIndexOf 1 = .ok (.iload_n 1, 1) := dk_27 (dk_at dksX1_lastIndexOf_0 1 rfl rfl)
theorem dX1_lastIndexOf_2 : decode cX1_lastIndexOf 2 = .ok (.invokevirtual 76, 3) := dk_182 0 76 (dk_at dksX1_lastIndexOf_0 2 rfl rfl)
theorem dX1_lastIndexOf_5 : decode cX1_lastIndexOf 5 = .ok (.astore_n 3, 1) := dk_78 (dk_at dksX1_lastIndexOf_0 5 rfl rfl)
theorem dX1_lastIndexOf_6 : decode cX1_lastIndexOf 6 = .ok (.iload_n 2, 1) := dk_28 (dk_at dksX1_lastIndexOf_0 6 rfl rfl)
theorem dX1_lastIndexOf_7 : decode cX1_lastIndexOf 7 = .ok (.invokestatic 116, 3) := dk_184 0 116 (dk_at dksX1_lastIndexOf_0 7 rfl rfl)
theorem dX1_lastIndexOf_10 : decode cX1_lastIndexOf 10 = .ok (.aload_n 3, 1) := dk_45 (dk_at dksX1_lastIndexOf_0 10 rfl rfl)
theorem dX1_lastIndexOf_11 : decode cX1_lastIndexOf 11 = .ok (.iload_n 2, 1) := dk_28 (dk_at dksX1_lastIndexOf_0 11 rfl rfl)
theorem dX1_lastIndexOf_12 : decode cX1_lastIndexOf 12 = .ok (.invokestatic 124, 3) := dk_184 0 124 (dk_at dksX1_lastIndexOf_0 12 rfl rfl)
theorem dX1_lastIndexOf_15 : decode cX1_lastIndexOf 15 = .ok (.invokeinterface 196 2, 5) := by decide +kernel
theorem dX1_lastIndexOf_20 : decode cX1_lastIndexOf 20 = .ok (.ireturn, 1) := dk_172 (dk_at dksX1_lastIndexOf_0 20 rfl rfl)
abbrev cX1_has : ByteArray := prog_1_method_32_code
def yX1_has : MethodName := ⟨RX1, "has", "(II)Z"⟩
def dkwX1_has_0 : List UInt8 := [42, 27, 182, 0, 76, 78, 28, 184, 0, 116, 45, 28, 184, 0, 124, 185, 0, 199, 2, 0, 172]
abbrev dktX1_has_0 : List UInt8 := dkwX1_has_0 ++ []
theorem dksX1_has_0 : cX1_has.data.toList.drop 0 = dktX1_has_0 := by decide +kernel
theorem dX1_has_0 : decode cX1_has 0 = .ok (.aload_n 0, 1) := dk_42 (dk_at dksX1_has_0 0 rfl rfl)
theorem dX1_has_1 : decode cX1_has 1 = .ok (.iload_n 1, 1) := dk_27 (dk_at dksX1_has_0 1 rfl rfl)
theorem dX1_has_2 : decode cX1_has 2 = .ok (.invokevirtual 76, 3) := dk_182 0 76 (dk_at dksX1_has_0 2 rfl rfl)
theorem dX1_has_5 : decode cX1_has 5 = .ok (.astore_n 3, 1) := dk_78 (dk_at dksX1_has_0 5 rfl rfl)
theorem dX1_has_6 : decode cX1_has 6 = .ok (.iload_n 2, 1) := dk_28 (dk_at dksX1_has_0 6 rfl rfl)
theorem dX1_has_7 : decode cX1_has 7 = .ok (.invokestatic 116, 3) := dk_184 0 116 (dk_at dksX1_has_0 7 rfl rfl)
theorem dX1_has_10 : decode cX1_has 10 = .ok (.aload_n 3, 1) := dk_45 (dk_at dksX1_has_0 10 rfl rfl)
theorem dX1_has_11 : decode cX1_has 11 = .ok (.iload_n 2, 1) := dk_28 (dk_at dksX1_has_0 11 rfl rfl)
theorem dX1_has_12 : decode cX1_has 12 = .ok (.invokestatic 124, 3) := dk_184 0 124 (dk_at dksX1_has_0 12 rfl rfl)
theorem dX1_has_15 : decode cX1_has 15 = .ok (.invokeinterface 199 2, 5) := by decide +kernel
theorem dX1_has_20 : decode cX1_has 20 = .ok (.ireturn, 1) := dk_172 (dk_at dksX1_has_0 20 rfl rfl)
abbrev cX1_often : ByteArray := prog_1_method_33_code
def yX1_often : MethodName := ⟨RX1, "often", "(II)I"⟩
def dkwX1_often_0 : List UInt8 := [42, 27, 182, 0, 76, 78, 28, 184, 0, 116, 45, 28, 184, 0, 124, 184, 0, 202, 172]
abbrev dktX1_often_0 : List UInt8 := dkwX1_often_0 ++ []
theorem dksX1_often_0 : cX1_often.data.toList.drop 0 = dktX1_often_0 := by decide +kernel
theorem dX1_often_0 : decode cX1_often 0 = .ok (.aload_n 0, 1) := dk_42 (dk_at dksX1_often_0 0 rfl rfl)
theorem dX1_often_1 : decode cX1_often 1 = .ok (.iload_n 1, 1) := dk_27 (dk_at dksX1_often_0 1 rfl rfl)
theorem dX1_often_2 : decode cX1_often 2 = .ok (.invokevirtual 76, 3) := dk_182 0 76 (dk_at dksX1_often_0 2 rfl rfl)
theorem dX1_often_5 : decode cX1_often 5 = .ok (.astore_n 3, 1) := dk_78 (dk_at dksX1_often_0 5 rfl rfl)
theorem dX1_often_6 : decode cX1_often 6 = .ok (.iload_n 2, 1) := dk_28 (dk_at dksX1_often_0 6 rfl rfl)
theorem dX1_often_7 : decode cX1_often 7 = .ok (.invokestatic 116, 3) := dk_184 0 116 (dk_at dksX1_often_0 7 rfl rfl)
theorem dX1_often_10 : decode cX1_often 10 = .ok (.aload_n 3, 1) := dk_45 (dk_at dksX1_often_0 10 rfl rfl)
theorem dX1_often_11 : decode cX1_often 11 = .ok (.iload_n 2, 1) := dk_28 (dk_at dksX1_often_0 11 rfl rfl)
theorem dX1_often_12 : decode cX1_often 12 = .ok (.invokestatic 124, 3) := dk_184 0 124 (dk_at dksX1_often_0 12 rfl rfl)
theorem dX1_often_15 : decode cX1_often 15 = .ok (.invokestatic 202, 3) := dk_184 0 202 (dk_at dksX1_often_0 15 rfl rfl)
theorem dX1_often_18 : decode cX1_often 18 = .ok (.ireturn, 1) := dk_172 (dk_at dksX1_often_0 18 rfl rfl)
abbrev cX1_hasAll : ByteArray := prog_1_method_34_code
def yX1_hasAll : MethodName := ⟨RX1, "hasAll", "(II)Z"⟩
def dkwX1_hasAll_0 : List UInt8 := [42, 27, 182, 0, 76, 78, 42, 28, 182, 0, 76, 58, 4, 45, 25, 4, 185, 0, 208, 2, 0, 172]
abbrev dktX1_hasAll_0 : List UInt8 := dkwX1_hasAll_0 ++ []
theorem dksX1_hasAll_0 : cX1_hasAll.data.toList.drop 0 = dktX1_hasAll_0 := by decide +kernel
theorem dX1_hasAll_0 : decode cX1_hasAll 0 = .ok (.aload_n 0, 1) := dk_42 (dk_at dksX1_hasAll_0 0 rfl rfl)
theorem dX1_hasAll_1 : decode cX1_hasAll 1 = .ok (.iload_n 1, 1) := dk_27 (dk_at dksX1_hasAll_0 1 rfl rfl)
theorem dX1_hasAll_2 : decode cX1_hasAll 2 = .ok (.invokevirtual 76, 3) := dk_182 0 76 (dk_at dksX1_hasAll_0 2 rfl rfl)
theorem dX1_hasAll_5 : decode cX1_hasAll 5 = .ok (.astore_n 3, 1) := dk_78 (dk_at dksX1_hasAll_0 5 rfl rfl)
theorem dX1_hasAll_6 : decode cX1_hasAll 6 = .ok (.aload_n 0, 1) := dk_42 (dk_at dksX1_hasAll_0 6 rfl rfl)
theorem dX1_hasAll_7 : decode cX1_hasAll 7 = .ok (.iload_n 2, 1) := dk_28 (dk_at dksX1_hasAll_0 7 rfl rfl)
theorem dX1_hasAll_8 : decode cX1_hasAll 8 = .ok (.invokevirtual 76, 3) := dk_182 0 76 (dk_at dksX1_hasAll_0 8 rfl rfl)
theorem dX1_hasAll_11 : decode cX1_hasAll 11 = .ok (.astore 4, 2) := dk_58 4 (dk_at dksX1_hasAll_0 11 rfl rfl)
theorem dX1_hasAll_13 : decode cX1_hasAll 13 = .ok (.aload_n 3, 1) := dk_45 (dk_at dksX1_hasAll_0 13 rfl rfl)
theorem dX1_hasAll_14 : decode cX1_hasAll 14 = .ok (.aload 4, 2) := dk_25 4 (dk_at dksX1_hasAll_0 14 rfl rfl)
theorem dX1_hasAll_16 : decode cX1_hasAll 16 = .ok (.invokeinterface 208 2, 5) := by decide +kernel
theorem dX1_hasAll_21 : decode cX1_hasAll 21 = .ok (.ireturn, 1) := dk_172 (dk_at dksX1_hasAll_0 21 rfl rfl)
abbrev cX1_areApart : ByteArray := prog_1_method_35_code
def yX1_areApart : MethodName := ⟨RX1, "areApart", "(II)Z"⟩
def dkwX1_areApart_0 : List UInt8 := [42, 27, 182, 0, 76, 78, 42, 28, 182, 0, 76, 58, 4, 45, 25, 4, 184, 0, 212, 172]
abbrev dktX1_areApart_0 : List UInt8 := dkwX1_areApart_0 ++ []
theorem dksX1_areApart_0 : cX1_areApart.data.toList.drop 0 = dktX1_areApart_0 := by decide +kernel
theorem dX1_areApart_0 : decode cX1_areApart 0 = .ok (.aload_n 0, 1) := dk_42 (dk_at dksX1_areApart_0 0 rfl rfl)
theorem dX1_areApart_1 : decode cX1_areApart 1 = .ok (.iload_n 1, 1) := dk_27 (dk_at dksX1_areApart_0 1 rfl rfl)
theorem dX1_areApart_2 : decode cX1_areApart 2 = .ok (.invokevirtual 76, 3) := dk_182 0 76 (dk_at dksX1_areApart_0 2 rfl rfl)
theorem dX1_areApart_5 : decode cX1_areApart 5 = .ok (.astore_n 3, 1) := dk_78 (dk_at dksX1_areApart_0 5 rfl rfl)
theorem dX1_areApart_6 : decode cX1_areApart 6 = .ok (.aload_n 0, 1) := dk_42 (dk_at dksX1_areApart_0 6 rfl rfl)
theorem dX1_areApart_7 : decode cX1_areApart 7 = .ok (.iload_n 2, 1) := dk_28 (dk_at dksX1_areApart_0 7 rfl rfl)
theorem dX1_areApart_8 : decode cX1_areApart 8 = .ok (.invokevirtual 76, 3) := dk_182 0 76 (dk_at dksX1_areApart_0 8 rfl rfl)
theorem dX1_areApart_11 : decode cX1_areApart 11 = .ok (.astore 4, 2) := dk_58 4 (dk_at dksX1_areApart_0 11 rfl rfl)
theorem dX1_areApart_13 : decode cX1_areApart 13 = .ok (.aload_n 3, 1) := dk_45 (dk_at dksX1_areApart_0 13 rfl rfl)
theorem dX1_areApart_14 : decode cX1_areApart 14 = .ok (.aload 4, 2) := dk_25 4 (dk_at dksX1_areApart_0 14 rfl rfl)
theorem dX1_areApart_16 : decode cX1_areApart 16 = .ok (.invokestatic 212, 3) := dk_184 0 212 (dk_at dksX1_areApart_0 16 rfl rfl)
theorem dX1_areApart_19 : decode cX1_areApart 19 = .ok (.ireturn, 1) := dk_172 (dk_at dksX1_areApart_0 19 rfl rfl)
abbrev cX1_indexOfAll : ByteArray := prog_1_method_36_code
def yX1_indexOfAll : MethodName := ⟨RX1, "indexOfAll", "(II)I"⟩
def dkwX1_indexOfAll_0 : List UInt8 := [42, 27, 182, 0, 76, 78, 42, 28, 182, 0, 76, 58, 4, 45, 25, 4, 184, 0, 216, 172]
abbrev dktX1_indexOfAll_0 : List UInt8 := dkwX1_indexOfAll_0 ++ []
theorem dksX1_indexOfAll_0 : cX1_indexOfAll.data.toList.drop 0 = dktX1_indexOfAll_0 := by decide +kernel
theorem dX1_indexOfAll_0 : decode cX1_indexOfAll 0 = .ok (.aload_n 0, 1) := dk_42 (dk_at dksX1_indexOfAll_0 0 rfl rfl)
theorem dX1_indexOfAll_1 : decode cX1_indexOfAll 1 = .ok (.iload_n 1, 1) := dk_27 (dk_at dksX1_indexOfAll_0 1 rfl rfl)
theorem dX1_indexOfAll_2 : decode cX1_indexOfAll 2 = .ok (.invokevirtual 76, 3) := dk_182 0 76 (dk_at dksX1_indexOfAll_0 2 rfl rfl)
theorem dX1_indexOfAll_5 : decode cX1_indexOfAll 5 = .ok (.astore_n 3, 1) := dk_78 (dk_at dksX1_indexOfAll_0 5 rfl rfl)
theorem dX1_indexOfAll_6 : decode cX1_indexOfAll 6 = .ok (.aload_n 0, 1) := dk_42 (dk_at dksX1_indexOfAll_0 6 rfl rfl)
theorem dX1_indexOfAll_7 : decode cX1_indexOfAll 7 = .ok (.iload_n 2, 1) := dk_28 (dk_at dksX1_indexOfAll_0 7 rfl rfl)
theorem dX1_indexOfAll_8 : decode cX1_indexOfAll 8 = .ok (.invokevirtual 76, 3) := dk_182 0 76 (dk_at dksX1_indexOfAll_0 8 rfl rfl)
theorem dX1_indexOfAll_11 : decode cX1_indexOfAll 11 = .ok (.astore 4, 2) := dk_58 4 (dk_at dksX1_indexOfAll_0 11 rfl rfl)
theorem dX1_indexOfAll_13 : decode cX1_indexOfAll 13 = .ok (.aload_n 3, 1) := dk_45 (dk_at dksX1_indexOfAll_0 13 rfl rfl)
theorem dX1_indexOfAll_14 : decode cX1_indexOfAll 14 = .ok (.aload 4, 2) := dk_25 4 (dk_at dksX1_indexOfAll_0 14 rfl rfl)
theorem dX1_indexOfAll_16 : decode cX1_indexOfAll 16 = .ok (.invokestatic 216, 3) := dk_184 0 216 (dk_at dksX1_indexOfAll_0 16 rfl rfl)
theorem dX1_indexOfAll_19 : decode cX1_indexOfAll 19 = .ok (.ireturn, 1) := dk_172 (dk_at dksX1_indexOfAll_0 19 rfl rfl)
abbrev cX1_areEqual : ByteArray := prog_1_method_37_code
def yX1_areEqual : MethodName := ⟨RX1, "areEqual", "(II)Z"⟩
def dkwX1_areEqual_0 : List UInt8 := [42, 27, 182, 0, 76, 78, 42, 28, 182, 0, 76, 58, 4, 45, 25, 4, 185, 0, 220, 2, 0, 172]
abbrev dktX1_areEqual_0 : List UInt8 := dkwX1_areEqual_0 ++ []
theorem dksX1_areEqual_0 : cX1_areEqual.data.toList.drop 0 = dktX1_areEqual_0 := by decide +kernel
theorem dX1_areEqual_0 : decode cX1_areEqual 0 = .ok (.aload_n 0, 1) := dk_42 (dk_at dksX1_areEqual_0 0 rfl rfl)
theorem dX1_areEqual_1 : decode cX1_areEqual 1 = .ok (.iload_n 1, 1) := dk_27 (dk_at dksX1_areEqual_0 1 rfl rfl)
theorem dX1_areEqual_2 : decode cX1_areEqual 2 = .ok (.invokevirtual 76, 3) := dk_182 0 76 (dk_at dksX1_areEqual_0 2 rfl rfl)
theorem dX1_areEqual_5 : decode cX1_areEqual 5 = .ok (.astore_n 3, 1) := dk_78 (dk_at dksX1_areEqual_0 5 rfl rfl)
theorem dX1_areEqual_6 : decode cX1_areEqual 6 = .ok (.aload_n 0, 1) := dk_42 (dk_at dksX1_areEqual_0 6 rfl rfl)
theorem dX1_areEqual_7 : decode cX1_areEqual 7 = .ok (.iload_n 2, 1) := dk_28 (dk_at dksX1_areEqual_0 7 rfl rfl)
theorem dX1_areEqual_8 : decode cX1_areEqual 8 = .ok (.invokevirtual 76, 3) := dk_182 0 76 (dk_at dksX1_areEqual_0 8 rfl rfl)
theorem dX1_areEqual_11 : decode cX1_areEqual 11 = .ok (.astore 4, 2) := dk_58 4 (dk_at dksX1_areEqual_0 11 rfl rfl)
theorem dX1_areEqual_13 : decode cX1_areEqual 13 = .ok (.aload_n 3, 1) := dk_45 (dk_at dksX1_areEqual_0 13 rfl rfl)
theorem dX1_areEqual_14 : decode cX1_areEqual 14 = .ok (.aload 4, 2) := dk_25 4 (dk_at dksX1_areEqual_0 14 rfl rfl)
theorem dX1_areEqual_16 : decode cX1_areEqual 16 = .ok (.invokeinterface 220 2, 5) := by decide +kernel
theorem dX1_areEqual_21 : decode cX1_areEqual 21 = .ok (.ireturn, 1) := dk_172 (dk_at dksX1_areEqual_0 21 rfl rfl)
abbrev cX1_code : ByteArray := prog_1_method_38_code
def yX1_code : MethodName := ⟨RX1, "code", "(I)I"⟩
def dkwX1_code_0 : List UInt8 := [42, 27, 182, 0, 76, 185, 0, 223, 1, 0, 172]
abbrev dktX1_code_0 : List UInt8 := dkwX1_code_0 ++ []
theorem dksX1_code_0 : cX1_code.data.toList.drop 0 = dktX1_code_0 := by decide +kernel
theorem dX1_code_0 : decode cX1_code 0 = .ok (.aload_n 0, 1) := dk_42 (dk_at dksX1_code_0 0 rfl rfl)
theorem dX1_code_1 : decode cX1_code 1 = .ok (.iload_n 1, 1) := dk_27 (dk_at dksX1_code_0 1 rfl rfl)
theorem dX1_code_2 : decode cX1_code 2 = .ok (.invokevirtual 76, 3) := dk_182 0 76 (dk_at dksX1_code_0 2 rfl rfl)
theorem dX1_code_5 : decode cX1_code 5 = .ok (.invokeinterface 223 1, 5) := by decide +kernel
theorem dX1_code_10 : decode cX1_code 10 = .ok (.ireturn, 1) := dk_172 (dk_at dksX1_code_0 10 rfl rfl)
abbrev cX1_walk : ByteArray := prog_1_method_39_code
def yX1_walk : MethodName := ⟨RX1, "walk", "(IIIZ)Ljava/lang/String;"⟩
def dkwX1_walk_9 : List UInt8 := [182, 0, 102, 87, 132, 8, 1, 167, 255, 102, 25, 7, 182, 0, 149, 176]
abbrev dktX1_walk_9 : List UInt8 := dkwX1_walk_9 ++ []
def dkwX1_walk_8 : List UInt8 := [187, 0, 94, 89, 183, 0, 131, 18, 98, 182, 0, 102, 25, 9, 182, 0, 13, 182, 0, 109, 182, 0, 149]
abbrev dktX1_walk_8 : List UInt8 := dkwX1_walk_8 ++ dktX1_walk_9
def dkwX1_walk_7 : List UInt8 := [25, 6, 185, 0, 233, 1, 0, 192, 0, 8, 58, 9, 25, 7, 25, 9, 199, 0, 8, 18, 234, 167, 0, 26]
abbrev dktX1_walk_7 : List UInt8 := dkwX1_walk_7 ++ dktX1_walk_8
def dkwX1_walk_6 : List UInt8 := [16, 58, 182, 0, 106, 87, 21, 4, 153, 0, 16, 25, 6, 185, 0, 162, 1, 0, 192, 0, 8, 167, 0, 13]
abbrev dktX1_walk_6 : List UInt8 := dkwX1_walk_6 ++ dktX1_walk_7
def dkwX1_walk_5 : List UInt8 := [153, 0, 13, 25, 6, 185, 0, 227, 1, 0, 167, 0, 10, 25, 6, 185, 0, 230, 1, 0, 182, 0, 109]
abbrev dktX1_walk_5 : List UInt8 := dkwX1_walk_5 ++ dktX1_walk_6
def dkwX1_walk_4 : List UInt8 := [153, 0, 126, 25, 7, 21, 8, 154, 0, 8, 18, 98, 167, 0, 5, 18, 100, 182, 0, 102, 21, 4]
abbrev dktX1_walk_4 : List UInt8 := dkwX1_walk_4 ++ dktX1_walk_5
def dkwX1_walk_3 : List UInt8 := [153, 0, 16, 25, 6, 185, 0, 157, 1, 0, 153, 0, 139, 167, 0, 13, 25, 6, 185, 0, 226, 1, 0]
abbrev dktX1_walk_3 : List UInt8 := dkwX1_walk_3 ++ dktX1_walk_4
def dkwX1_walk_2 : List UInt8 := [58, 6, 187, 0, 94, 89, 183, 0, 131, 58, 7, 3, 54, 8, 21, 8, 29, 162, 0, 154, 21, 4]
abbrev dktX1_walk_2 : List UInt8 := dkwX1_walk_2 ++ dktX1_walk_3
def dkwX1_walk_1 : List UInt8 := [16, 12, 184, 0, 3, 153, 0, 7, 4, 167, 0, 4, 3, 184, 0, 86, 25, 5, 28, 185, 0, 153, 2, 0]
abbrev dktX1_walk_1 : List UInt8 := dkwX1_walk_1 ++ dktX1_walk_2
def dkwX1_walk_0 : List UInt8 := [42, 27, 182, 0, 76, 58, 5, 28, 3, 25, 5, 185, 0, 80, 1, 0, 184, 0, 3, 153, 0, 17, 29, 3]
abbrev dktX1_walk_0 : List UInt8 := dkwX1_walk_0 ++ dktX1_walk_1
theorem dksX1_walk_0 : cX1_walk.data.toList.drop 0 = dktX1_walk_0 := by decide +kernel
theorem dksX1_walk_1 : cX1_walk.data.toList.drop 24 = dktX1_walk_1 := dk_seg dksX1_walk_0 24 rfl rfl
theorem dksX1_walk_2 : cX1_walk.data.toList.drop 48 = dktX1_walk_2 := dk_seg dksX1_walk_1 24 rfl rfl
theorem dksX1_walk_3 : cX1_walk.data.toList.drop 70 = dktX1_walk_3 := dk_seg dksX1_walk_2 22 rfl rfl
theorem dksX1_walk_4 : cX1_walk.data.toList.drop 93 = dktX1_walk_4 := dk_seg dksX1_walk_3 23 rfl rfl
theorem dksX1_walk_5 : cX1_walk.data.toList.drop 115 = dktX1_walk_5 := dk_seg dksX1_walk_4 22 rfl rfl
theorem dksX1_walk_6 : cX1_walk.data.toList.drop 138 = dktX1_walk_6 := dk_seg dksX1_walk_5 23 rfl rfl
theorem dksX1_walk_7 : cX1_walk.data.toList.drop 162 = dktX1_walk_7 := dk_seg dksX1_walk_6 24 rfl rfl
theorem dksX1_walk_8 : cX1_walk.data.toList.drop 186 = dktX1_walk_8 := dk_seg dksX1_walk_7 24 rfl rfl
theorem dksX1_walk_9 : cX1_walk.data.toList.drop 209 = dktX1_walk_9 := dk_seg dksX1_walk_8 23 rfl rfl
theorem dX1_walk_0 : decode cX1_walk 0 = .ok (.aload_n 0, 1) := dk_42 (dk_at dksX1_walk_0 0 rfl rfl)
theorem dX1_walk_1 : decode cX1_walk 1 = .ok (.iload_n 1, 1) := dk_27 (dk_at dksX1_walk_0 1 rfl rfl)
theorem dX1_walk_2 : decode cX1_walk 2 = .ok (.invokevirtual 76, 3) := dk_182 0 76 (dk_at dksX1_walk_0 2 rfl rfl)
theorem dX1_walk_5 : decode cX1_walk 5 = .ok (.astore 5, 2) := dk_58 5 (dk_at dksX1_walk_0 5 rfl rfl)
theorem dX1_walk_7 : decode cX1_walk 7 = .ok (.iload_n 2, 1) := dk_28 (dk_at dksX1_walk_0 7 rfl rfl)
theorem dX1_walk_8 : decode cX1_walk 8 = .ok (.iconst 0, 1) := dk_3 (dk_at dksX1_walk_0 8 rfl rfl)
theorem dX1_walk_9 : decode cX1_walk 9 = .ok (.aload 5, 2) := dk_25 5 (dk_at dksX1_walk_0 9 rfl rfl)
theorem dX1_walk_11 : decode cX1_walk 11 = .ok (.invokeinterface 80 1, 5) := by decide +kernel
theorem dX1_walk_16 : decode cX1_walk 16 = .ok (.invokestatic 3, 3) := dk_184 0 3 (dk_at dksX1_walk_0 16 rfl rfl)
theorem dX1_walk_19 : decode cX1_walk 19 = .ok (.ifCond .eq 17, 3) := dk_153 0 17 (dk_at dksX1_walk_0 19 rfl rfl)
theorem dX1_walk_22 : decode cX1_walk 22 = .ok (.iload_n 3, 1) := dk_29 (dk_at dksX1_walk_0 22 rfl rfl)
theorem dX1_walk_23 : decode cX1_walk 23 = .ok (.iconst 0, 1) := dk_3 (dk_at dksX1_walk_0 23 rfl rfl)
theorem dX1_walk_24 : decode cX1_walk 24 = .ok (.bipush 12, 2) := dk_16 12 (dk_at dksX1_walk_1 0 rfl rfl)
theorem dX1_walk_26 : decode cX1_walk 26 = .ok (.invokestatic 3, 3) := dk_184 0 3 (dk_at dksX1_walk_1 2 rfl rfl)
theorem dX1_walk_29 : decode cX1_walk 29 = .ok (.ifCond .eq 7, 3) := dk_153 0 7 (dk_at dksX1_walk_1 5 rfl rfl)
theorem dX1_walk_32 : decode cX1_walk 32 = .ok (.iconst 1, 1) := dk_4 (dk_at dksX1_walk_1 8 rfl rfl)
theorem dX1_walk_33 : decode cX1_walk 33 = .ok (.goto 4, 3) := dk_167 0 4 (dk_at dksX1_walk_1 9 rfl rfl)
theorem dX1_walk_36 : decode cX1_walk 36 = .ok (.iconst 0, 1) := dk_3 (dk_at dksX1_walk_1 12 rfl rfl)
theorem dX1_walk_37 : decode cX1_walk 37 = .ok (.invokestatic 86, 3) := dk_184 0 86 (dk_at dksX1_walk_1 13 rfl rfl)
theorem dX1_walk_40 : decode cX1_walk 40 = .ok (.aload 5, 2) := dk_25 5 (dk_at dksX1_walk_1 16 rfl rfl)
theorem dX1_walk_42 : decode cX1_walk 42 = .ok (.iload_n 2, 1) := dk_28 (dk_at dksX1_walk_1 18 rfl rfl)
theorem dX1_walk_43 : decode cX1_walk 43 = .ok (.invokeinterface 153 2, 5) := by decide +kernel
theorem dX1_walk_48 : decode cX1_walk 48 = .ok (.astore 6, 2) := dk_58 6 (dk_at dksX1_walk_2 0 rfl rfl)
theorem dX1_walk_50 : decode cX1_walk 50 = .ok (.new 94, 3) := dk_187 0 94 (dk_at dksX1_walk_2 2 rfl rfl)
theorem dX1_walk_53 : decode cX1_walk 53 = .ok (.dup, 1) := dk_89 (dk_at dksX1_walk_2 5 rfl rfl)
theorem dX1_walk_54 : decode cX1_walk 54 = .ok (.invokespecial 131, 3) := dk_183 0 131 (dk_at dksX1_walk_2 6 rfl rfl)
theorem dX1_walk_57 : decode cX1_walk 57 = .ok (.astore 7, 2) := dk_58 7 (dk_at dksX1_walk_2 9 rfl rfl)
theorem dX1_walk_59 : decode cX1_walk 59 = .ok (.iconst 0, 1) := dk_3 (dk_at dksX1_walk_2 11 rfl rfl)
theorem dX1_walk_60 : decode cX1_walk 60 = .ok (.istore 8, 2) := dk_54 8 (dk_at dksX1_walk_2 12 rfl rfl)
theorem dX1_walk_62 : decode cX1_walk 62 = .ok (.iload 8, 2) := dk_21 8 (dk_at dksX1_walk_2 14 rfl rfl)
theorem dX1_walk_64 : decode cX1_walk 64 = .ok (.iload_n 3, 1) := dk_29 (dk_at dksX1_walk_2 16 rfl rfl)
theorem dX1_walk_65 : decode cX1_walk 65 = .ok (.if_icmp .ge 154, 3) := dk_162 0 154 (dk_at dksX1_walk_2 17 rfl rfl)
theorem dX1_walk_68 : decode cX1_walk 68 = .ok (.iload 4, 2) := dk_21 4 (dk_at dksX1_walk_2 20 rfl rfl)
theorem dX1_walk_70 : decode cX1_walk 70 = .ok (.ifCond .eq 16, 3) := dk_153 0 16 (dk_at dksX1_walk_3 0 rfl rfl)
theorem dX1_walk_73 : decode cX1_walk 73 = .ok (.aload 6, 2) := dk_25 6 (dk_at dksX1_walk_3 3 rfl rfl)
theorem dX1_walk_75 : decode cX1_walk 75 = .ok (.invokeinterface 157 1, 5) := by decide +kernel
theorem dX1_walk_80 : decode cX1_walk 80 = .ok (.ifCond .eq 139, 3) := dk_153 0 139 (dk_at dksX1_walk_3 10 rfl rfl)
theorem dX1_walk_83 : decode cX1_walk 83 = .ok (.goto 13, 3) := dk_167 0 13 (dk_at dksX1_walk_3 13 rfl rfl)
theorem dX1_walk_86 : decode cX1_walk 86 = .ok (.aload 6, 2) := dk_25 6 (dk_at dksX1_walk_3 16 rfl rfl)
theorem dX1_walk_88 : decode cX1_walk 88 = .ok (.invokeinterface 226 1, 5) := by decide +kernel
theorem dX1_walk_93 : decode cX1_walk 93 = .ok (.ifCond .eq 126, 3) := dk_153 0 126 (dk_at dksX1_walk_4 0 rfl rfl)
theorem dX1_walk_96 : decode cX1_walk 96 = .ok (.aload 7, 2) := dk_25 7 (dk_at dksX1_walk_4 3 rfl rfl)
theorem dX1_walk_98 : decode cX1_walk 98 = .ok (.iload 8, 2) := dk_21 8 (dk_at dksX1_walk_4 5 rfl rfl)
theorem dX1_walk_100 : decode cX1_walk 100 = .ok (.ifCond .ne 8, 3) := dk_154 0 8 (dk_at dksX1_walk_4 7 rfl rfl)
theorem dX1_walk_103 : decode cX1_walk 103 = .ok (.ldc 98, 2) := dk_18 98 (dk_at dksX1_walk_4 10 rfl rfl)
theorem dX1_walk_105 : decode cX1_walk 105 = .ok (.goto 5, 3) := dk_167 0 5 (dk_at dksX1_walk_4 12 rfl rfl)
theorem dX1_walk_108 : decode cX1_walk 108 = .ok (.ldc 100, 2) := dk_18 100 (dk_at dksX1_walk_4 15 rfl rfl)
theorem dX1_walk_110 : decode cX1_walk 110 = .ok (.invokevirtual 102, 3) := dk_182 0 102 (dk_at dksX1_walk_4 17 rfl rfl)
theorem dX1_walk_113 : decode cX1_walk 113 = .ok (.iload 4, 2) := dk_21 4 (dk_at dksX1_walk_4 20 rfl rfl)
theorem dX1_walk_115 : decode cX1_walk 115 = .ok (.ifCond .eq 13, 3) := dk_153 0 13 (dk_at dksX1_walk_5 0 rfl rfl)
theorem dX1_walk_118 : decode cX1_walk 118 = .ok (.aload 6, 2) := dk_25 6 (dk_at dksX1_walk_5 3 rfl rfl)
theorem dX1_walk_120 : decode cX1_walk 120 = .ok (.invokeinterface 227 1, 5) := by decide +kernel
theorem dX1_walk_125 : decode cX1_walk 125 = .ok (.goto 10, 3) := dk_167 0 10 (dk_at dksX1_walk_5 10 rfl rfl)
theorem dX1_walk_128 : decode cX1_walk 128 = .ok (.aload 6, 2) := dk_25 6 (dk_at dksX1_walk_5 13 rfl rfl)
theorem dX1_walk_130 : decode cX1_walk 130 = .ok (.invokeinterface 230 1, 5) := by decide +kernel
theorem dX1_walk_135 : decode cX1_walk 135 = .ok (.invokevirtual 109, 3) := dk_182 0 109 (dk_at dksX1_walk_5 20 rfl rfl)
theorem dX1_walk_138 : decode cX1_walk 138 = .ok (.bipush 58, 2) := dk_16 58 (dk_at dksX1_walk_6 0 rfl rfl)
theorem dX1_walk_140 : decode cX1_walk 140 = .ok (.invokevirtual 106, 3) := dk_182 0 106 (dk_at dksX1_walk_6 2 rfl rfl)
theorem dX1_walk_143 : decode cX1_walk 143 = .ok (.pop, 1) := dk_87 (dk_at dksX1_walk_6 5 rfl rfl)
theorem dX1_walk_144 : decode cX1_walk 144 = .ok (.iload 4, 2) := dk_21 4 (dk_at dksX1_walk_6 6 rfl rfl)
theorem dX1_walk_146 : decode cX1_walk 146 = .ok (.ifCond .eq 16, 3) := dk_153 0 16 (dk_at dksX1_walk_6 8 rfl rfl)
theorem dX1_walk_149 : decode cX1_walk 149 = .ok (.aload 6, 2) := dk_25 6 (dk_at dksX1_walk_6 11 rfl rfl)
theorem dX1_walk_151 : decode cX1_walk 151 = .ok (.invokeinterface 162 1, 5) := by decide +kernel
theorem dX1_walk_156 : decode cX1_walk 156 = .ok (.checkcast 8, 3) := dk_192 0 8 (dk_at dksX1_walk_6 18 rfl rfl)
theorem dX1_walk_159 : decode cX1_walk 159 = .ok (.goto 13, 3) := dk_167 0 13 (dk_at dksX1_walk_6 21 rfl rfl)
theorem dX1_walk_162 : decode cX1_walk 162 = .ok (.aload 6, 2) := dk_25 6 (dk_at dksX1_walk_7 0 rfl rfl)
theorem dX1_walk_164 : decode cX1_walk 164 = .ok (.invokeinterface 233 1, 5) := by decide +kernel
theorem dX1_walk_169 : decode cX1_walk 169 = .ok (.checkcast 8, 3) := dk_192 0 8 (dk_at dksX1_walk_7 7 rfl rfl)
theorem dX1_walk_172 : decode cX1_walk 172 = .ok (.astore 9, 2) := dk_58 9 (dk_at dksX1_walk_7 10 rfl rfl)
theorem dX1_walk_174 : decode cX1_walk 174 = .ok (.aload 7, 2) := dk_25 7 (dk_at dksX1_walk_7 12 rfl rfl)
theorem dX1_walk_176 : decode cX1_walk 176 = .ok (.aload 9, 2) := dk_25 9 (dk_at dksX1_walk_7 14 rfl rfl)
theorem dX1_walk_178 : decode cX1_walk 178 = .ok (.ifnonnull 8, 3) := dk_199 0 8 (dk_at dksX1_walk_7 16 rfl rfl)
theorem dX1_walk_181 : decode cX1_walk 181 = .ok (.ldc 234, 2) := dk_18 234 (dk_at dksX1_walk_7 19 rfl rfl)
theorem dX1_walk_183 : decode cX1_walk 183 = .ok (.goto 26, 3) := dk_167 0 26 (dk_at dksX1_walk_7 21 rfl rfl)
theorem dX1_walk_186 : decode cX1_walk 186 = .ok (.new 94, 3) := dk_187 0 94 (dk_at dksX1_walk_8 0 rfl rfl)
theorem dX1_walk_189 : decode cX1_walk 189 = .ok (.dup, 1) := dk_89 (dk_at dksX1_walk_8 3 rfl rfl)
theorem dX1_walk_190 : decode cX1_walk 190 = .ok (.invokespecial 131, 3) := dk_183 0 131 (dk_at dksX1_walk_8 4 rfl rfl)
theorem dX1_walk_193 : decode cX1_walk 193 = .ok (.ldc 98, 2) := dk_18 98 (dk_at dksX1_walk_8 7 rfl rfl)
theorem dX1_walk_195 : decode cX1_walk 195 = .ok (.invokevirtual 102, 3) := dk_182 0 102 (dk_at dksX1_walk_8 9 rfl rfl)
theorem dX1_walk_198 : decode cX1_walk 198 = .ok (.aload 9, 2) := dk_25 9 (dk_at dksX1_walk_8 12 rfl rfl)
theorem dX1_walk_200 : decode cX1_walk 200 = .ok (.invokevirtual 13, 3) := dk_182 0 13 (dk_at dksX1_walk_8 14 rfl rfl)
theorem dX1_walk_203 : decode cX1_walk 203 = .ok (.invokevirtual 109, 3) := dk_182 0 109 (dk_at dksX1_walk_8 17 rfl rfl)
theorem dX1_walk_206 : decode cX1_walk 206 = .ok (.invokevirtual 149, 3) := dk_182 0 149 (dk_at dksX1_walk_8 20 rfl rfl)
theorem dX1_walk_209 : decode cX1_walk 209 = .ok (.invokevirtual 102, 3) := dk_182 0 102 (dk_at dksX1_walk_9 0 rfl rfl)
theorem dX1_walk_212 : decode cX1_walk 212 = .ok (.pop, 1) := dk_87 (dk_at dksX1_walk_9 3 rfl rfl)
theorem dX1_walk_213 : decode cX1_walk 213 = .ok (.iinc 8 1, 3) := dk_132 8 1 (dk_at dksX1_walk_9 4 rfl rfl)
theorem dX1_walk_216 : decode cX1_walk 216 = .ok (.goto (-154), 3) := dk_167 255 102 (dk_at dksX1_walk_9 7 rfl rfl)
theorem dX1_walk_219 : decode cX1_walk 219 = .ok (.aload 7, 2) := dk_25 7 (dk_at dksX1_walk_9 10 rfl rfl)
theorem dX1_walk_221 : decode cX1_walk 221 = .ok (.invokevirtual 149, 3) := dk_182 0 149 (dk_at dksX1_walk_9 12 rfl rfl)
theorem dX1_walk_224 : decode cX1_walk 224 = .ok (.areturn, 1) := dk_176 (dk_at dksX1_walk_9 15 rfl rfl)
abbrev cX1_sum : ByteArray := prog_1_method_40_code
def yX1_sum : MethodName := ⟨RX1, "sum", "(I)I"⟩
def dkwX1_sum_0 : List UInt8 := [42, 27, 182, 0, 76, 184, 0, 236, 172]
abbrev dktX1_sum_0 : List UInt8 := dkwX1_sum_0 ++ []
theorem dksX1_sum_0 : cX1_sum.data.toList.drop 0 = dktX1_sum_0 := by decide +kernel
theorem dX1_sum_0 : decode cX1_sum 0 = .ok (.aload_n 0, 1) := dk_42 (dk_at dksX1_sum_0 0 rfl rfl)
theorem dX1_sum_1 : decode cX1_sum 1 = .ok (.iload_n 1, 1) := dk_27 (dk_at dksX1_sum_0 1 rfl rfl)
theorem dX1_sum_2 : decode cX1_sum 2 = .ok (.invokevirtual 76, 3) := dk_182 0 76 (dk_at dksX1_sum_0 2 rfl rfl)
theorem dX1_sum_5 : decode cX1_sum 5 = .ok (.invokestatic 236, 3) := dk_184 0 236 (dk_at dksX1_sum_0 5 rfl rfl)
theorem dX1_sum_8 : decode cX1_sum 8 = .ok (.ireturn, 1) := dk_172 (dk_at dksX1_sum_0 8 rfl rfl)
abbrev cX1_walkSet : ByteArray := prog_1_method_41_code
def yX1_walkSet : MethodName := ⟨RX1, "walkSet", "(IIIIZ)I"⟩
def dkwX1_walkSet_5 : List UInt8 := [25, 8, 25, 7, 25, 10, 182, 0, 248, 185, 0, 252, 2, 0, 132, 9, 1, 167, 255, 181, 21, 9, 172]
abbrev dktX1_walkSet_5 : List UInt8 := dkwX1_walkSet_5 ++ []
def dkwX1_walkSet_4 : List UInt8 := [185, 0, 162, 1, 0, 192, 0, 8, 167, 0, 13, 25, 8, 185, 0, 233, 1, 0, 192, 0, 8, 58, 10]
abbrev dktX1_walkSet_4 : List UInt8 := dkwX1_walkSet_4 ++ dktX1_walkSet_5
def dkwX1_walkSet_3 : List UInt8 := [153, 0, 66, 167, 0, 13, 25, 8, 185, 0, 226, 1, 0, 153, 0, 53, 21, 5, 153, 0, 16, 25, 8]
abbrev dktX1_walkSet_3 : List UInt8 := dkwX1_walkSet_3 ++ dktX1_walkSet_4
def dkwX1_walkSet_2 : List UInt8 := [185, 0, 153, 2, 0, 58, 8, 3, 54, 9, 21, 5, 153, 0, 16, 25, 8, 185, 0, 157, 1, 0]
abbrev dktX1_walkSet_2 : List UInt8 := dkwX1_walkSet_2 ++ dktX1_walkSet_3
def dkwX1_walkSet_1 : List UInt8 := [21, 4, 184, 0, 240, 187, 0, 244, 89, 29, 21, 4, 183, 0, 246, 58, 7, 25, 6, 28]
abbrev dktX1_walkSet_1 : List UInt8 := dkwX1_walkSet_1 ++ dktX1_walkSet_2
def dkwX1_walkSet_0 : List UInt8 := [42, 27, 182, 0, 76, 58, 6, 28, 3, 25, 6, 185, 0, 80, 1, 0, 184, 0, 3, 184, 0, 86, 29]
abbrev dktX1_walkSet_0 : List UInt8 := dkwX1_walkSet_0 ++ dktX1_walkSet_1
theorem dksX1_walkSet_0 : cX1_walkSet.data.toList.drop 0 = dktX1_walkSet_0 := by decide +kernel
theorem dksX1_walkSet_1 : cX1_walkSet.data.toList.drop 23 = dktX1_walkSet_1 := dk_seg dksX1_walkSet_0 23 rfl rfl
theorem dksX1_walkSet_2 : cX1_walkSet.data.toList.drop 43 = dktX1_walkSet_2 := dk_seg dksX1_walkSet_1 20 rfl rfl
theorem dksX1_walkSet_3 : cX1_walkSet.data.toList.drop 65 = dktX1_walkSet_3 := dk_seg dksX1_walkSet_2 22 rfl rfl
theorem dksX1_walkSet_4 : cX1_walkSet.data.toList.drop 88 = dktX1_walkSet_4 := dk_seg dksX1_walkSet_3 23 rfl rfl
theorem dksX1_walkSet_5 : cX1_walkSet.data.toList.drop 111 = dktX1_walkSet_5 := dk_seg dksX1_walkSet_4 23 rfl rfl
theorem dX1_walkSet_0 : decode cX1_walkSet 0 = .ok (.aload_n 0, 1) := dk_42 (dk_at dksX1_walkSet_0 0 rfl rfl)
theorem dX1_walkSet_1 : decode cX1_walkSet 1 = .ok (.iload_n 1, 1) := dk_27 (dk_at dksX1_walkSet_0 1 rfl rfl)
theorem dX1_walkSet_2 : decode cX1_walkSet 2 = .ok (.invokevirtual 76, 3) := dk_182 0 76 (dk_at dksX1_walkSet_0 2 rfl rfl)
theorem dX1_walkSet_5 : decode cX1_walkSet 5 = .ok (.astore 6, 2) := dk_58 6 (dk_at dksX1_walkSet_0 5 rfl rfl)
theorem dX1_walkSet_7 : decode cX1_walkSet 7 = .ok (.iload_n 2, 1) := dk_28 (dk_at dksX1_walkSet_0 7 rfl rfl)
theorem dX1_walkSet_8 : decode cX1_walkSet 8 = .ok (.iconst 0, 1) := dk_3 (dk_at dksX1_walkSet_0 8 rfl rfl)
theorem dX1_walkSet_9 : decode cX1_walkSet 9 = .ok (.aload 6, 2) := dk_25 6 (dk_at dksX1_walkSet_0 9 rfl rfl)
theorem dX1_walkSet_11 : decode cX1_walkSet 11 = .ok (.invokeinterface 80 1, 5) := by decide +kernel
theorem dX1_walkSet_16 : decode cX1_walkSet 16 = .ok (.invokestatic 3, 3) := dk_184 0 3 (dk_at dksX1_walkSet_0 16 rfl rfl)
theorem dX1_walkSet_19 : decode cX1_walkSet 19 = .ok (.invokestatic 86, 3) := dk_184 0 86 (dk_at dksX1_walkSet_0 19 rfl rfl)
theorem dX1_walkSet_22 : decode cX1_walkSet 22 = .ok (.iload_n 3, 1) := dk_29 (dk_at dksX1_walkSet_0 22 rfl rfl)
theorem dX1_walkSet_23 : decode cX1_walkSet 23 = .ok (.iload 4, 2) := dk_21 4 (dk_at dksX1_walkSet_1 0 rfl rfl)
theorem dX1_walkSet_25 : decode cX1_walkSet 25 = .ok (.invokestatic 240, 3) := dk_184 0 240 (dk_at dksX1_walkSet_1 2 rfl rfl)
theorem dX1_walkSet_28 : decode cX1_walkSet 28 = .ok (.new 244, 3) := dk_187 0 244 (dk_at dksX1_walkSet_1 5 rfl rfl)
theorem dX1_walkSet_31 : decode cX1_walkSet 31 = .ok (.dup, 1) := dk_89 (dk_at dksX1_walkSet_1 8 rfl rfl)
theorem dX1_walkSet_32 : decode cX1_walkSet 32 = .ok (.iload_n 3, 1) := dk_29 (dk_at dksX1_walkSet_1 9 rfl rfl)
theorem dX1_walkSet_33 : decode cX1_walkSet 33 = .ok (.iload 4, 2) := dk_21 4 (dk_at dksX1_walkSet_1 10 rfl rfl)
theorem dX1_walkSet_35 : decode cX1_walkSet 35 = .ok (.invokespecial 246, 3) := dk_183 0 246 (dk_at dksX1_walkSet_1 12 rfl rfl)
theorem dX1_walkSet_38 : decode cX1_walkSet 38 = .ok (.astore 7, 2) := dk_58 7 (dk_at dksX1_walkSet_1 15 rfl rfl)
theorem dX1_walkSet_40 : decode cX1_walkSet 40 = .ok (.aload 6, 2) := dk_25 6 (dk_at dksX1_walkSet_1 17 rfl rfl)
theorem dX1_walkSet_42 : decode cX1_walkSet 42 = .ok (.iload_n 2, 1) := dk_28 (dk_at dksX1_walkSet_1 19 rfl rfl)
theorem dX1_walkSet_43 : decode cX1_walkSet 43 = .ok (.invokeinterface 153 2, 5) := by decide +kernel
theorem dX1_walkSet_48 : decode cX1_walkSet 48 = .ok (.astore 8, 2) := dk_58 8 (dk_at dksX1_walkSet_2 5 rfl rfl)
theorem dX1_walkSet_50 : decode cX1_walkSet 50 = .ok (.iconst 0, 1) := dk_3 (dk_at dksX1_walkSet_2 7 rfl rfl)
theorem dX1_walkSet_51 : decode cX1_walkSet 51 = .ok (.istore 9, 2) := dk_54 9 (dk_at dksX1_walkSet_2 8 rfl rfl)
theorem dX1_walkSet_53 : decode cX1_walkSet 53 = .ok (.iload 5, 2) := dk_21 5 (dk_at dksX1_walkSet_2 10 rfl rfl)
theorem dX1_walkSet_55 : decode cX1_walkSet 55 = .ok (.ifCond .eq 16, 3) := dk_153 0 16 (dk_at dksX1_walkSet_2 12 rfl rfl)
theorem dX1_walkSet_58 : decode cX1_walkSet 58 = .ok (.aload 8, 2) := dk_25 8 (dk_at dksX1_walkSet_2 15 rfl rfl)
theorem dX1_walkSet_60 : decode cX1_walkSet 60 = .ok (.invokeinterface 157 1, 5) := by decide +kernel
theorem dX1_walkSet_65 : decode cX1_walkSet 65 = .ok (.ifCond .eq 66, 3) := dk_153 0 66 (dk_at dksX1_walkSet_3 0 rfl rfl)
theorem dX1_walkSet_68 : decode cX1_walkSet 68 = .ok (.goto 13, 3) := dk_167 0 13 (dk_at dksX1_walkSet_3 3 rfl rfl)
theorem dX1_walkSet_71 : decode cX1_walkSet 71 = .ok (.aload 8, 2) := dk_25 8 (dk_at dksX1_walkSet_3 6 rfl rfl)
theorem dX1_walkSet_73 : decode cX1_walkSet 73 = .ok (.invokeinterface 226 1, 5) := by decide +kernel
theorem dX1_walkSet_78 : decode cX1_walkSet 78 = .ok (.ifCond .eq 53, 3) := dk_153 0 53 (dk_at dksX1_walkSet_3 13 rfl rfl)
theorem dX1_walkSet_81 : decode cX1_walkSet 81 = .ok (.iload 5, 2) := dk_21 5 (dk_at dksX1_walkSet_3 16 rfl rfl)
theorem dX1_walkSet_83 : decode cX1_walkSet 83 = .ok (.ifCond .eq 16, 3) := dk_153 0 16 (dk_at dksX1_walkSet_3 18 rfl rfl)
theorem dX1_walkSet_86 : decode cX1_walkSet 86 = .ok (.aload 8, 2) := dk_25 8 (dk_at dksX1_walkSet_3 21 rfl rfl)
theorem dX1_walkSet_88 : decode cX1_walkSet 88 = .ok (.invokeinterface 162 1, 5) := by decide +kernel
theorem dX1_walkSet_93 : decode cX1_walkSet 93 = .ok (.checkcast 8, 3) := dk_192 0 8 (dk_at dksX1_walkSet_4 5 rfl rfl)
theorem dX1_walkSet_96 : decode cX1_walkSet 96 = .ok (.goto 13, 3) := dk_167 0 13 (dk_at dksX1_walkSet_4 8 rfl rfl)
theorem dX1_walkSet_99 : decode cX1_walkSet 99 = .ok (.aload 8, 2) := dk_25 8 (dk_at dksX1_walkSet_4 11 rfl rfl)
theorem dX1_walkSet_101 : decode cX1_walkSet 101 = .ok (.invokeinterface 233 1, 5) := by decide +kernel
theorem dX1_walkSet_106 : decode cX1_walkSet 106 = .ok (.checkcast 8, 3) := dk_192 0 8 (dk_at dksX1_walkSet_4 18 rfl rfl)
theorem dX1_walkSet_109 : decode cX1_walkSet 109 = .ok (.astore 10, 2) := dk_58 10 (dk_at dksX1_walkSet_4 21 rfl rfl)
theorem dX1_walkSet_111 : decode cX1_walkSet 111 = .ok (.aload 8, 2) := dk_25 8 (dk_at dksX1_walkSet_5 0 rfl rfl)
theorem dX1_walkSet_113 : decode cX1_walkSet 113 = .ok (.aload 7, 2) := dk_25 7 (dk_at dksX1_walkSet_5 2 rfl rfl)
theorem dX1_walkSet_115 : decode cX1_walkSet 115 = .ok (.aload 10, 2) := dk_25 10 (dk_at dksX1_walkSet_5 4 rfl rfl)
theorem dX1_walkSet_117 : decode cX1_walkSet 117 = .ok (.invokevirtual 248, 3) := dk_182 0 248 (dk_at dksX1_walkSet_5 6 rfl rfl)
theorem dX1_walkSet_120 : decode cX1_walkSet 120 = .ok (.invokeinterface 252 2, 5) := by decide +kernel
theorem dX1_walkSet_125 : decode cX1_walkSet 125 = .ok (.iinc 9 1, 3) := dk_132 9 1 (dk_at dksX1_walkSet_5 14 rfl rfl)
theorem dX1_walkSet_128 : decode cX1_walkSet 128 = .ok (.goto (-75), 3) := dk_167 255 181 (dk_at dksX1_walkSet_5 17 rfl rfl)
theorem dX1_walkSet_131 : decode cX1_walkSet 131 = .ok (.iload 9, 2) := dk_21 9 (dk_at dksX1_walkSet_5 20 rfl rfl)
theorem dX1_walkSet_133 : decode cX1_walkSet 133 = .ok (.ireturn, 1) := dk_172 (dk_at dksX1_walkSet_5 22 rfl rfl)
abbrev cX1_mustBeRule : ByteArray := prog_1_method_14_code
def yX1_mustBeRule : MethodName := ⟨RX1, "mustBeRule", "(II)V"⟩
def dkwX1_mustBeRule_1 : List UInt8 := [3, 184, 0, 86, 177]
abbrev dktX1_mustBeRule_1 : List UInt8 := dkwX1_mustBeRule_1 ++ []
def dkwX1_mustBeRule_0 : List UInt8 := [26, 3, 6, 184, 0, 3, 153, 0, 18, 27, 16, 157, 16, 99, 184, 0, 3, 153, 0, 7, 4, 167, 0, 4]
abbrev dktX1_mustBeRule_0 : List UInt8 := dkwX1_mustBeRule_0 ++ dktX1_mustBeRule_1
theorem dksX1_mustBeRule_0 : cX1_mustBeRule.data.toList.drop 0 = dktX1_mustBeRule_0 := by decide +kernel
theorem dksX1_mustBeRule_1 : cX1_mustBeRule.data.toList.drop 24 = dktX1_mustBeRule_1 := dk_seg dksX1_mustBeRule_0 24 rfl rfl
theorem dX1_mustBeRule_0 : decode cX1_mustBeRule 0 = .ok (.iload_n 0, 1) := dk_26 (dk_at dksX1_mustBeRule_0 0 rfl rfl)
theorem dX1_mustBeRule_1 : decode cX1_mustBeRule 1 = .ok (.iconst 0, 1) := dk_3 (dk_at dksX1_mustBeRule_0 1 rfl rfl)
theorem dX1_mustBeRule_2 : decode cX1_mustBeRule 2 = .ok (.iconst 3, 1) := dk_6 (dk_at dksX1_mustBeRule_0 2 rfl rfl)
theorem dX1_mustBeRule_3 : decode cX1_mustBeRule 3 = .ok (.invokestatic 3, 3) := dk_184 0 3 (dk_at dksX1_mustBeRule_0 3 rfl rfl)
theorem dX1_mustBeRule_6 : decode cX1_mustBeRule 6 = .ok (.ifCond .eq 18, 3) := dk_153 0 18 (dk_at dksX1_mustBeRule_0 6 rfl rfl)
theorem dX1_mustBeRule_9 : decode cX1_mustBeRule 9 = .ok (.iload_n 1, 1) := dk_27 (dk_at dksX1_mustBeRule_0 9 rfl rfl)
theorem dX1_mustBeRule_10 : decode cX1_mustBeRule 10 = .ok (.bipush (-99), 2) := dk_16 157 (dk_at dksX1_mustBeRule_0 10 rfl rfl)
theorem dX1_mustBeRule_12 : decode cX1_mustBeRule 12 = .ok (.bipush 99, 2) := dk_16 99 (dk_at dksX1_mustBeRule_0 12 rfl rfl)
theorem dX1_mustBeRule_14 : decode cX1_mustBeRule 14 = .ok (.invokestatic 3, 3) := dk_184 0 3 (dk_at dksX1_mustBeRule_0 14 rfl rfl)
theorem dX1_mustBeRule_17 : decode cX1_mustBeRule 17 = .ok (.ifCond .eq 7, 3) := dk_153 0 7 (dk_at dksX1_mustBeRule_0 17 rfl rfl)
theorem dX1_mustBeRule_20 : decode cX1_mustBeRule 20 = .ok (.iconst 1, 1) := dk_4 (dk_at dksX1_mustBeRule_0 20 rfl rfl)
theorem dX1_mustBeRule_21 : decode cX1_mustBeRule 21 = .ok (.goto 4, 3) := dk_167 0 4 (dk_at dksX1_mustBeRule_0 21 rfl rfl)
theorem dX1_mustBeRule_24 : decode cX1_mustBeRule 24 = .ok (.iconst 0, 1) := dk_3 (dk_at dksX1_mustBeRule_1 0 rfl rfl)
theorem dX1_mustBeRule_25 : decode cX1_mustBeRule 25 = .ok (.invokestatic 86, 3) := dk_184 0 86 (dk_at dksX1_mustBeRule_1 1 rfl rfl)
theorem dX1_mustBeRule_28 : decode cX1_mustBeRule 28 = .ok (.return_, 1) := dk_177 (dk_at dksX1_mustBeRule_1 4 rfl rfl)
abbrev cX1_replaceAll : ByteArray := prog_1_method_42_code
def yX1_replaceAll : MethodName := ⟨RX1, "replaceAll", "(III)I"⟩
def dkwX1_replaceAll_1 : List UInt8 := [185, 0, 255, 2, 0, 25, 4, 185, 0, 80, 1, 0, 172]
abbrev dktX1_replaceAll_1 : List UInt8 := dkwX1_replaceAll_1 ++ []
def dkwX1_replaceAll_0 : List UInt8 := [42, 27, 182, 0, 76, 58, 4, 28, 29, 184, 0, 240, 25, 4, 187, 0, 244, 89, 28, 29, 183, 0, 246]
abbrev dktX1_replaceAll_0 : List UInt8 := dkwX1_replaceAll_0 ++ dktX1_replaceAll_1
theorem dksX1_replaceAll_0 : cX1_replaceAll.data.toList.drop 0 = dktX1_replaceAll_0 := by decide +kernel
theorem dksX1_replaceAll_1 : cX1_replaceAll.data.toList.drop 23 = dktX1_replaceAll_1 := dk_seg dksX1_replaceAll_0 23 rfl rfl
theorem dX1_replaceAll_0 : decode cX1_replaceAll 0 = .ok (.aload_n 0, 1) := dk_42 (dk_at dksX1_replaceAll_0 0 rfl rfl)
theorem dX1_replaceAll_1 : decode cX1_replaceAll 1 = .ok (.iload_n 1, 1) := dk_27 (dk_at dksX1_replaceAll_0 1 rfl rfl)
theorem dX1_replaceAll_2 : decode cX1_replaceAll 2 = .ok (.invokevirtual 76, 3) := dk_182 0 76 (dk_at dksX1_replaceAll_0 2 rfl rfl)
theorem dX1_replaceAll_5 : decode cX1_replaceAll 5 = .ok (.astore 4, 2) := dk_58 4 (dk_at dksX1_replaceAll_0 5 rfl rfl)
theorem dX1_replaceAll_7 : decode cX1_replaceAll 7 = .ok (.iload_n 2, 1) := dk_28 (dk_at dksX1_replaceAll_0 7 rfl rfl)
theorem dX1_replaceAll_8 : decode cX1_replaceAll 8 = .ok (.iload_n 3, 1) := dk_29 (dk_at dksX1_replaceAll_0 8 rfl rfl)
theorem dX1_replaceAll_9 : decode cX1_replaceAll 9 = .ok (.invokestatic 240, 3) := dk_184 0 240 (dk_at dksX1_replaceAll_0 9 rfl rfl)
theorem dX1_replaceAll_12 : decode cX1_replaceAll 12 = .ok (.aload 4, 2) := dk_25 4 (dk_at dksX1_replaceAll_0 12 rfl rfl)
theorem dX1_replaceAll_14 : decode cX1_replaceAll 14 = .ok (.new 244, 3) := dk_187 0 244 (dk_at dksX1_replaceAll_0 14 rfl rfl)
theorem dX1_replaceAll_17 : decode cX1_replaceAll 17 = .ok (.dup, 1) := dk_89 (dk_at dksX1_replaceAll_0 17 rfl rfl)
theorem dX1_replaceAll_18 : decode cX1_replaceAll 18 = .ok (.iload_n 2, 1) := dk_28 (dk_at dksX1_replaceAll_0 18 rfl rfl)
theorem dX1_replaceAll_19 : decode cX1_replaceAll 19 = .ok (.iload_n 3, 1) := dk_29 (dk_at dksX1_replaceAll_0 19 rfl rfl)
theorem dX1_replaceAll_20 : decode cX1_replaceAll 20 = .ok (.invokespecial 246, 3) := dk_183 0 246 (dk_at dksX1_replaceAll_0 20 rfl rfl)
theorem dX1_replaceAll_23 : decode cX1_replaceAll 23 = .ok (.invokeinterface 255 2, 5) := by decide +kernel
theorem dX1_replaceAll_28 : decode cX1_replaceAll 28 = .ok (.aload 4, 2) := dk_25 4 (dk_at dksX1_replaceAll_1 5 rfl rfl)
theorem dX1_replaceAll_30 : decode cX1_replaceAll 30 = .ok (.invokeinterface 80 1, 5) := by decide +kernel
theorem dX1_replaceAll_35 : decode cX1_replaceAll 35 = .ok (.ireturn, 1) := dk_172 (dk_at dksX1_replaceAll_1 12 rfl rfl)
abbrev cX1_replaceOld : ByteArray := prog_1_method_43_code
def yX1_replaceOld : MethodName := ⟨RX1, "replaceOld", "(III)I"⟩
def dkwX1_replaceOld_1 : List UInt8 := [167, 0, 4, 3, 184, 0, 86, 25, 4, 28, 184, 0, 124, 29, 184, 0, 124, 184, 1, 3, 184, 1, 6, 172]
abbrev dktX1_replaceOld_1 : List UInt8 := dkwX1_replaceOld_1 ++ []
def dkwX1_replaceOld_0 : List UInt8 := [42, 27, 182, 0, 76, 58, 4, 28, 184, 0, 83, 153, 0, 14, 29, 184, 0, 83, 153, 0, 7, 4]
abbrev dktX1_replaceOld_0 : List UInt8 := dkwX1_replaceOld_0 ++ dktX1_replaceOld_1
theorem dksX1_replaceOld_0 : cX1_replaceOld.data.toList.drop 0 = dktX1_replaceOld_0 := by decide +kernel
theorem dksX1_replaceOld_1 : cX1_replaceOld.data.toList.drop 22 = dktX1_replaceOld_1 := dk_seg dksX1_replaceOld_0 22 rfl rfl
theorem dX1_replaceOld_0 : decode cX1_replaceOld 0 = .ok (.aload_n 0, 1) := dk_42 (dk_at dksX1_replaceOld_0 0 rfl rfl)
theorem dX1_replaceOld_1 : decode cX1_replaceOld 1 = .ok (.iload_n 1, 1) := dk_27 (dk_at dksX1_replaceOld_0 1 rfl rfl)
theorem dX1_replaceOld_2 : decode cX1_replaceOld 2 = .ok (.invokevirtual 76, 3) := dk_182 0 76 (dk_at dksX1_replaceOld_0 2 rfl rfl)
theorem dX1_replaceOld_5 : decode cX1_replaceOld 5 = .ok (.astore 4, 2) := dk_58 4 (dk_at dksX1_replaceOld_0 5 rfl rfl)
theorem dX1_replaceOld_7 : decode cX1_replaceOld 7 = .ok (.iload_n 2, 1) := dk_28 (dk_at dksX1_replaceOld_0 7 rfl rfl)
theorem dX1_replaceOld_8 : decode cX1_replaceOld 8 = .ok (.invokestatic 83, 3) := dk_184 0 83 (dk_at dksX1_replaceOld_0 8 rfl rfl)
theorem dX1_replaceOld_11 : decode cX1_replaceOld 11 = .ok (.ifCond .eq 14, 3) := dk_153 0 14 (dk_at dksX1_replaceOld_0 11 rfl rfl)
theorem dX1_replaceOld_14 : decode cX1_replaceOld 14 = .ok (.iload_n 3, 1) := dk_29 (dk_at dksX1_replaceOld_0 14 rfl rfl)
theorem dX1_replaceOld_15 : decode cX1_replaceOld 15 = .ok (.invokestatic 83, 3) := dk_184 0 83 (dk_at dksX1_replaceOld_0 15 rfl rfl)
theorem dX1_replaceOld_18 : decode cX1_replaceOld 18 = .ok (.ifCond .eq 7, 3) := dk_153 0 7 (dk_at dksX1_replaceOld_0 18 rfl rfl)
theorem dX1_replaceOld_21 : decode cX1_replaceOld 21 = .ok (.iconst 1, 1) := dk_4 (dk_at dksX1_replaceOld_0 21 rfl rfl)
theorem dX1_replaceOld_22 : decode cX1_replaceOld 22 = .ok (.goto 4, 3) := dk_167 0 4 (dk_at dksX1_replaceOld_1 0 rfl rfl)
theorem dX1_replaceOld_25 : decode cX1_replaceOld 25 = .ok (.iconst 0, 1) := dk_3 (dk_at dksX1_replaceOld_1 3 rfl rfl)
theorem dX1_replaceOld_26 : decode cX1_replaceOld 26 = .ok (.invokestatic 86, 3) := dk_184 0 86 (dk_at dksX1_replaceOld_1 4 rfl rfl)
theorem dX1_replaceOld_29 : decode cX1_replaceOld 29 = .ok (.aload 4, 2) := dk_25 4 (dk_at dksX1_replaceOld_1 7 rfl rfl)
theorem dX1_replaceOld_31 : decode cX1_replaceOld 31 = .ok (.iload_n 2, 1) := dk_28 (dk_at dksX1_replaceOld_1 9 rfl rfl)
theorem dX1_replaceOld_32 : decode cX1_replaceOld 32 = .ok (.invokestatic 124, 3) := dk_184 0 124 (dk_at dksX1_replaceOld_1 10 rfl rfl)
theorem dX1_replaceOld_35 : decode cX1_replaceOld 35 = .ok (.iload_n 3, 1) := dk_29 (dk_at dksX1_replaceOld_1 13 rfl rfl)
theorem dX1_replaceOld_36 : decode cX1_replaceOld 36 = .ok (.invokestatic 124, 3) := dk_184 0 124 (dk_at dksX1_replaceOld_1 14 rfl rfl)
theorem dX1_replaceOld_39 : decode cX1_replaceOld 39 = .ok (.invokestatic 259, 3) := dk_184 1 3 (dk_at dksX1_replaceOld_1 17 rfl rfl)
theorem dX1_replaceOld_42 : decode cX1_replaceOld 42 = .ok (.invokestatic 262, 3) := dk_184 1 6 (dk_at dksX1_replaceOld_1 20 rfl rfl)
theorem dX1_replaceOld_45 : decode cX1_replaceOld 45 = .ok (.ireturn, 1) := dk_172 (dk_at dksX1_replaceOld_1 23 rfl rfl)
abbrev cX1_fill : ByteArray := prog_1_method_44_code
def yX1_fill : MethodName := ⟨RX1, "fill", "(II)I"⟩
def dkwX1_fill_1 : List UInt8 := [172]
abbrev dktX1_fill_1 : List UInt8 := dkwX1_fill_1 ++ []
def dkwX1_fill_0 : List UInt8 := [42, 27, 182, 0, 76, 78, 28, 184, 0, 116, 45, 28, 184, 0, 124, 184, 1, 10, 45, 185, 0, 80, 1, 0]
abbrev dktX1_fill_0 : List UInt8 := dkwX1_fill_0 ++ dktX1_fill_1
theorem dksX1_fill_0 : cX1_fill.data.toList.drop 0 = dktX1_fill_0 := by decide +kernel
theorem dksX1_fill_1 : cX1_fill.data.toList.drop 24 = dktX1_fill_1 := dk_seg dksX1_fill_0 24 rfl rfl
theorem dX1_fill_0 : decode cX1_fill 0 = .ok (.aload_n 0, 1) := dk_42 (dk_at dksX1_fill_0 0 rfl rfl)
theorem dX1_fill_1 : decode cX1_fill 1 = .ok (.iload_n 1, 1) := dk_27 (dk_at dksX1_fill_0 1 rfl rfl)
theorem dX1_fill_2 : decode cX1_fill 2 = .ok (.invokevirtual 76, 3) := dk_182 0 76 (dk_at dksX1_fill_0 2 rfl rfl)
theorem dX1_fill_5 : decode cX1_fill 5 = .ok (.astore_n 3, 1) := dk_78 (dk_at dksX1_fill_0 5 rfl rfl)
theorem dX1_fill_6 : decode cX1_fill 6 = .ok (.iload_n 2, 1) := dk_28 (dk_at dksX1_fill_0 6 rfl rfl)
theorem dX1_fill_7 : decode cX1_fill 7 = .ok (.invokestatic 116, 3) := dk_184 0 116 (dk_at dksX1_fill_0 7 rfl rfl)
theorem dX1_fill_10 : decode cX1_fill 10 = .ok (.aload_n 3, 1) := dk_45 (dk_at dksX1_fill_0 10 rfl rfl)
theorem dX1_fill_11 : decode cX1_fill 11 = .ok (.iload_n 2, 1) := dk_28 (dk_at dksX1_fill_0 11 rfl rfl)
theorem dX1_fill_12 : decode cX1_fill 12 = .ok (.invokestatic 124, 3) := dk_184 0 124 (dk_at dksX1_fill_0 12 rfl rfl)
theorem dX1_fill_15 : decode cX1_fill 15 = .ok (.invokestatic 266, 3) := dk_184 1 10 (dk_at dksX1_fill_0 15 rfl rfl)
theorem dX1_fill_18 : decode cX1_fill 18 = .ok (.aload_n 3, 1) := dk_45 (dk_at dksX1_fill_0 18 rfl rfl)
theorem dX1_fill_19 : decode cX1_fill 19 = .ok (.invokeinterface 80 1, 5) := by decide +kernel
theorem dX1_fill_24 : decode cX1_fill 24 = .ok (.ireturn, 1) := dk_172 (dk_at dksX1_fill_1 0 rfl rfl)
abbrev cX1_sort : ByteArray := prog_1_method_45_code
def yX1_sort : MethodName := ⟨RX1, "sort", "(IZ)I"⟩
def dkwX1_sort_1 : List UInt8 := [187, 1, 14, 89, 28, 183, 1, 16, 185, 1, 18, 2, 0, 45, 185, 0, 80, 1, 0, 172]
abbrev dktX1_sort_1 : List UInt8 := dkwX1_sort_1 ++ []
def dkwX1_sort_0 : List UInt8 := [27, 3, 5, 184, 0, 3, 184, 0, 70, 42, 180, 0, 30, 27, 182, 0, 48, 192, 0, 74, 78, 45]
abbrev dktX1_sort_0 : List UInt8 := dkwX1_sort_0 ++ dktX1_sort_1
theorem dksX1_sort_0 : cX1_sort.data.toList.drop 0 = dktX1_sort_0 := by decide +kernel
theorem dksX1_sort_1 : cX1_sort.data.toList.drop 22 = dktX1_sort_1 := dk_seg dksX1_sort_0 22 rfl rfl
theorem dX1_sort_0 : decode cX1_sort 0 = .ok (.iload_n 1, 1) := dk_27 (dk_at dksX1_sort_0 0 rfl rfl)
theorem dX1_sort_1 : decode cX1_sort 1 = .ok (.iconst 0, 1) := dk_3 (dk_at dksX1_sort_0 1 rfl rfl)
theorem dX1_sort_2 : decode cX1_sort 2 = .ok (.iconst 2, 1) := dk_5 (dk_at dksX1_sort_0 2 rfl rfl)
theorem dX1_sort_3 : decode cX1_sort 3 = .ok (.invokestatic 3, 3) := dk_184 0 3 (dk_at dksX1_sort_0 3 rfl rfl)
theorem dX1_sort_6 : decode cX1_sort 6 = .ok (.invokestatic 70, 3) := dk_184 0 70 (dk_at dksX1_sort_0 6 rfl rfl)
theorem dX1_sort_9 : decode cX1_sort 9 = .ok (.aload_n 0, 1) := dk_42 (dk_at dksX1_sort_0 9 rfl rfl)
theorem dX1_sort_10 : decode cX1_sort 10 = .ok (.getfield 30, 3) := dk_180 0 30 (dk_at dksX1_sort_0 10 rfl rfl)
theorem dX1_sort_13 : decode cX1_sort 13 = .ok (.iload_n 1, 1) := dk_27 (dk_at dksX1_sort_0 13 rfl rfl)
theorem dX1_sort_14 : decode cX1_sort 14 = .ok (.invokevirtual 48, 3) := dk_182 0 48 (dk_at dksX1_sort_0 14 rfl rfl)
theorem dX1_sort_17 : decode cX1_sort 17 = .ok (.checkcast 74, 3) := dk_192 0 74 (dk_at dksX1_sort_0 17 rfl rfl)
theorem dX1_sort_20 : decode cX1_sort 20 = .ok (.astore_n 3, 1) := dk_78 (dk_at dksX1_sort_0 20 rfl rfl)
theorem dX1_sort_21 : decode cX1_sort 21 = .ok (.aload_n 3, 1) := dk_45 (dk_at dksX1_sort_0 21 rfl rfl)
theorem dX1_sort_22 : decode cX1_sort 22 = .ok (.new 270, 3) := dk_187 1 14 (dk_at dksX1_sort_1 0 rfl rfl)
theorem dX1_sort_25 : decode cX1_sort 25 = .ok (.dup, 1) := dk_89 (dk_at dksX1_sort_1 3 rfl rfl)
theorem dX1_sort_26 : decode cX1_sort 26 = .ok (.iload_n 2, 1) := dk_28 (dk_at dksX1_sort_1 4 rfl rfl)
theorem dX1_sort_27 : decode cX1_sort 27 = .ok (.invokespecial 272, 3) := dk_183 1 16 (dk_at dksX1_sort_1 5 rfl rfl)
theorem dX1_sort_30 : decode cX1_sort 30 = .ok (.invokeinterface 274 2, 5) := by decide +kernel
theorem dX1_sort_35 : decode cX1_sort 35 = .ok (.aload_n 3, 1) := dk_45 (dk_at dksX1_sort_1 13 rfl rfl)
theorem dX1_sort_36 : decode cX1_sort 36 = .ok (.invokeinterface 80 1, 5) := by decide +kernel
theorem dX1_sort_41 : decode cX1_sort 41 = .ok (.ireturn, 1) := dk_172 (dk_at dksX1_sort_1 19 rfl rfl)
abbrev cX1_reverse : ByteArray := prog_1_method_46_code
def yX1_reverse : MethodName := ⟨RX1, "reverse", "(I)I"⟩
def dkwX1_reverse_0 : List UInt8 := [42, 27, 182, 0, 76, 77, 44, 184, 1, 22, 44, 185, 0, 80, 1, 0, 172]
abbrev dktX1_reverse_0 : List UInt8 := dkwX1_reverse_0 ++ []
theorem dksX1_reverse_0 : cX1_reverse.data.toList.drop 0 = dktX1_reverse_0 := by decide +kernel
theorem dX1_reverse_0 : decode cX1_reverse 0 = .ok (.aload_n 0, 1) := dk_42 (dk_at dksX1_reverse_0 0 rfl rfl)
theorem dX1_reverse_1 : decode cX1_reverse 1 = .ok (.iload_n 1, 1) := dk_27 (dk_at dksX1_reverse_0 1 rfl rfl)
theorem dX1_reverse_2 : decode cX1_reverse 2 = .ok (.invokevirtual 76, 3) := dk_182 0 76 (dk_at dksX1_reverse_0 2 rfl rfl)
theorem dX1_reverse_5 : decode cX1_reverse 5 = .ok (.astore_n 2, 1) := dk_77 (dk_at dksX1_reverse_0 5 rfl rfl)
theorem dX1_reverse_6 : decode cX1_reverse 6 = .ok (.aload_n 2, 1) := dk_44 (dk_at dksX1_reverse_0 6 rfl rfl)
theorem dX1_reverse_7 : decode cX1_reverse 7 = .ok (.invokestatic 278, 3) := dk_184 1 22 (dk_at dksX1_reverse_0 7 rfl rfl)
theorem dX1_reverse_10 : decode cX1_reverse 10 = .ok (.aload_n 2, 1) := dk_44 (dk_at dksX1_reverse_0 10 rfl rfl)
theorem dX1_reverse_11 : decode cX1_reverse 11 = .ok (.invokeinterface 80 1, 5) := by decide +kernel
theorem dX1_reverse_16 : decode cX1_reverse 16 = .ok (.ireturn, 1) := dk_172 (dk_at dksX1_reverse_0 16 rfl rfl)
abbrev cX1_rotate : ByteArray := prog_1_method_47_code
def yX1_rotate : MethodName := ⟨RX1, "rotate", "(II)I"⟩
def dkwX1_rotate_1 : List UInt8 := [185, 0, 80, 1, 0, 172]
abbrev dktX1_rotate_1 : List UInt8 := dkwX1_rotate_1 ++ []
def dkwX1_rotate_0 : List UInt8 := [42, 27, 182, 0, 76, 78, 28, 16, 157, 16, 99, 184, 0, 3, 184, 0, 86, 45, 28, 184, 1, 26, 45]
abbrev dktX1_rotate_0 : List UInt8 := dkwX1_rotate_0 ++ dktX1_rotate_1
theorem dksX1_rotate_0 : cX1_rotate.data.toList.drop 0 = dktX1_rotate_0 := by decide +kernel
theorem dksX1_rotate_1 : cX1_rotate.data.toList.drop 23 = dktX1_rotate_1 := dk_seg dksX1_rotate_0 23 rfl rfl
theorem dX1_rotate_0 : decode cX1_rotate 0 = .ok (.aload_n 0, 1) := dk_42 (dk_at dksX1_rotate_0 0 rfl rfl)
theorem dX1_rotate_1 : decode cX1_rotate 1 = .ok (.iload_n 1, 1) := dk_27 (dk_at dksX1_rotate_0 1 rfl rfl)
theorem dX1_rotate_2 : decode cX1_rotate 2 = .ok (.invokevirtual 76, 3) := dk_182 0 76 (dk_at dksX1_rotate_0 2 rfl rfl)
theorem dX1_rotate_5 : decode cX1_rotate 5 = .ok (.astore_n 3, 1) := dk_78 (dk_at dksX1_rotate_0 5 rfl rfl)
theorem dX1_rotate_6 : decode cX1_rotate 6 = .ok (.iload_n 2, 1) := dk_28 (dk_at dksX1_rotate_0 6 rfl rfl)
theorem dX1_rotate_7 : decode cX1_rotate 7 = .ok (.bipush (-99), 2) := dk_16 157 (dk_at dksX1_rotate_0 7 rfl rfl)
theorem dX1_rotate_9 : decode cX1_rotate 9 = .ok (.bipush 99, 2) := dk_16 99 (dk_at dksX1_rotate_0 9 rfl rfl)
theorem dX1_rotate_11 : decode cX1_rotate 11 = .ok (.invokestatic 3, 3) := dk_184 0 3 (dk_at dksX1_rotate_0 11 rfl rfl)
theorem dX1_rotate_14 : decode cX1_rotate 14 = .ok (.invokestatic 86, 3) := dk_184 0 86 (dk_at dksX1_rotate_0 14 rfl rfl)
theorem dX1_rotate_17 : decode cX1_rotate 17 = .ok (.aload_n 3, 1) := dk_45 (dk_at dksX1_rotate_0 17 rfl rfl)
theorem dX1_rotate_18 : decode cX1_rotate 18 = .ok (.iload_n 2, 1) := dk_28 (dk_at dksX1_rotate_0 18 rfl rfl)
theorem dX1_rotate_19 : decode cX1_rotate 19 = .ok (.invokestatic 282, 3) := dk_184 1 26 (dk_at dksX1_rotate_0 19 rfl rfl)
theorem dX1_rotate_22 : decode cX1_rotate 22 = .ok (.aload_n 3, 1) := dk_45 (dk_at dksX1_rotate_0 22 rfl rfl)
theorem dX1_rotate_23 : decode cX1_rotate 23 = .ok (.invokeinterface 80 1, 5) := by decide +kernel
theorem dX1_rotate_28 : decode cX1_rotate 28 = .ok (.ireturn, 1) := dk_172 (dk_at dksX1_rotate_1 5 rfl rfl)
abbrev cX1_swap : ByteArray := prog_1_method_48_code
def yX1_swap : MethodName := ⟨RX1, "swap", "(III)I"⟩
def dkwX1_swap_2 : List UInt8 := [167, 0, 4, 3, 54, 5, 25, 4, 28, 29, 184, 1, 30, 21, 5, 184, 1, 6, 172]
abbrev dktX1_swap_2 : List UInt8 := dkwX1_swap_2 ++ []
def dkwX1_swap_1 : List UInt8 := [192, 0, 8, 184, 0, 120, 25, 4, 29, 185, 0, 181, 2, 0, 192, 0, 8, 184, 0, 120, 159, 0, 7, 4]
abbrev dktX1_swap_1 : List UInt8 := dkwX1_swap_1 ++ dktX1_swap_2
def dkwX1_swap_0 : List UInt8 := [42, 27, 28, 182, 0, 177, 58, 4, 42, 27, 29, 182, 0, 177, 87, 25, 4, 28, 185, 0, 181, 2, 0]
abbrev dktX1_swap_0 : List UInt8 := dkwX1_swap_0 ++ dktX1_swap_1
theorem dksX1_swap_0 : cX1_swap.data.toList.drop 0 = dktX1_swap_0 := by decide +kernel
theorem dksX1_swap_1 : cX1_swap.data.toList.drop 23 = dktX1_swap_1 := dk_seg dksX1_swap_0 23 rfl rfl
theorem dksX1_swap_2 : cX1_swap.data.toList.drop 47 = dktX1_swap_2 := dk_seg dksX1_swap_1 24 rfl rfl
theorem dX1_swap_0 : decode cX1_swap 0 = .ok (.aload_n 0, 1) := dk_42 (dk_at dksX1_swap_0 0 rfl rfl)
theorem dX1_swap_1 : decode cX1_swap 1 = .ok (.iload_n 1, 1) := dk_27 (dk_at dksX1_swap_0 1 rfl rfl)
theorem dX1_swap_2 : decode cX1_swap 2 = .ok (.iload_n 2, 1) := dk_28 (dk_at dksX1_swap_0 2 rfl rfl)
theorem dX1_swap_3 : decode cX1_swap 3 = .ok (.invokevirtual 177, 3) := dk_182 0 177 (dk_at dksX1_swap_0 3 rfl rfl)
theorem dX1_swap_6 : decode cX1_swap 6 = .ok (.astore 4, 2) := dk_58 4 (dk_at dksX1_swap_0 6 rfl rfl)
theorem dX1_swap_8 : decode cX1_swap 8 = .ok (.aload_n 0, 1) := dk_42 (dk_at dksX1_swap_0 8 rfl rfl)
theorem dX1_swap_9 : decode cX1_swap 9 = .ok (.iload_n 1, 1) := dk_27 (dk_at dksX1_swap_0 9 rfl rfl)
theorem dX1_swap_10 : decode cX1_swap 10 = .ok (.iload_n 3, 1) := dk_29 (dk_at dksX1_swap_0 10 rfl rfl)
theorem dX1_swap_11 : decode cX1_swap 11 = .ok (.invokevirtual 177, 3) := dk_182 0 177 (dk_at dksX1_swap_0 11 rfl rfl)
theorem dX1_swap_14 : decode cX1_swap 14 = .ok (.pop, 1) := dk_87 (dk_at dksX1_swap_0 14 rfl rfl)
theorem dX1_swap_15 : decode cX1_swap 15 = .ok (.aload 4, 2) := dk_25 4 (dk_at dksX1_swap_0 15 rfl rfl)
theorem dX1_swap_17 : decode cX1_swap 17 = .ok (.iload_n 2, 1) := dk_28 (dk_at dksX1_swap_0 17 rfl rfl)
theorem dX1_swap_18 : decode cX1_swap 18 = .ok (.invokeinterface 181 2, 5) := by decide +kernel
theorem dX1_swap_23 : decode cX1_swap 23 = .ok (.checkcast 8, 3) := dk_192 0 8 (dk_at dksX1_swap_1 0 rfl rfl)
theorem dX1_swap_26 : decode cX1_swap 26 = .ok (.invokestatic 120, 3) := dk_184 0 120 (dk_at dksX1_swap_1 3 rfl rfl)
theorem dX1_swap_29 : decode cX1_swap 29 = .ok (.aload 4, 2) := dk_25 4 (dk_at dksX1_swap_1 6 rfl rfl)
theorem dX1_swap_31 : decode cX1_swap 31 = .ok (.iload_n 3, 1) := dk_29 (dk_at dksX1_swap_1 8 rfl rfl)
theorem dX1_swap_32 : decode cX1_swap 32 = .ok (.invokeinterface 181 2, 5) := by decide +kernel
theorem dX1_swap_37 : decode cX1_swap 37 = .ok (.checkcast 8, 3) := dk_192 0 8 (dk_at dksX1_swap_1 14 rfl rfl)
theorem dX1_swap_40 : decode cX1_swap 40 = .ok (.invokestatic 120, 3) := dk_184 0 120 (dk_at dksX1_swap_1 17 rfl rfl)
theorem dX1_swap_43 : decode cX1_swap 43 = .ok (.if_icmp .eq 7, 3) := dk_159 0 7 (dk_at dksX1_swap_1 20 rfl rfl)
theorem dX1_swap_46 : decode cX1_swap 46 = .ok (.iconst 1, 1) := dk_4 (dk_at dksX1_swap_1 23 rfl rfl)
theorem dX1_swap_47 : decode cX1_swap 47 = .ok (.goto 4, 3) := dk_167 0 4 (dk_at dksX1_swap_2 0 rfl rfl)
theorem dX1_swap_50 : decode cX1_swap 50 = .ok (.iconst 0, 1) := dk_3 (dk_at dksX1_swap_2 3 rfl rfl)
theorem dX1_swap_51 : decode cX1_swap 51 = .ok (.istore 5, 2) := dk_54 5 (dk_at dksX1_swap_2 4 rfl rfl)
theorem dX1_swap_53 : decode cX1_swap 53 = .ok (.aload 4, 2) := dk_25 4 (dk_at dksX1_swap_2 6 rfl rfl)
theorem dX1_swap_55 : decode cX1_swap 55 = .ok (.iload_n 2, 1) := dk_28 (dk_at dksX1_swap_2 8 rfl rfl)
theorem dX1_swap_56 : decode cX1_swap 56 = .ok (.iload_n 3, 1) := dk_29 (dk_at dksX1_swap_2 9 rfl rfl)
theorem dX1_swap_57 : decode cX1_swap 57 = .ok (.invokestatic 286, 3) := dk_184 1 30 (dk_at dksX1_swap_2 10 rfl rfl)
theorem dX1_swap_60 : decode cX1_swap 60 = .ok (.iload 5, 2) := dk_21 5 (dk_at dksX1_swap_2 13 rfl rfl)
theorem dX1_swap_62 : decode cX1_swap 62 = .ok (.invokestatic 262, 3) := dk_184 1 6 (dk_at dksX1_swap_2 15 rfl rfl)
theorem dX1_swap_65 : decode cX1_swap 65 = .ok (.ireturn, 1) := dk_172 (dk_at dksX1_swap_2 18 rfl rfl)
abbrev cX1_add_3 : ByteArray := prog_1_method_50_code
def yX1_add_3 : MethodName := ⟨RX1, "add", "(II)I"⟩
def dkwX1_add_3_1 : List UInt8 := [58, 4, 42, 182, 1, 43, 172]
abbrev dktX1_add_3_1 : List UInt8 := dkwX1_add_3_1 ++ []
def dkwX1_add_3_0 : List UInt8 := [42, 27, 182, 0, 76, 78, 28, 184, 0, 116, 45, 28, 184, 0, 124, 185, 1, 40, 2, 0, 184, 1, 6, 172]
abbrev dktX1_add_3_0 : List UInt8 := dkwX1_add_3_0 ++ dktX1_add_3_1
theorem dksX1_add_3_0 : cX1_add_3.data.toList.drop 0 = dktX1_add_3_0 := by decide +kernel
theorem dksX1_add_3_1 : cX1_add_3.data.toList.drop 24 = dktX1_add_3_1 := dk_seg dksX1_add_3_0 24 rfl rfl
theorem dX1_add_3_0 : decode cX1_add_3 0 = .ok (.aload_n 0, 1) := dk_42 (dk_at dksX1_add_3_0 0 rfl rfl)
theorem dX1_add_3_1 : decode cX1_add_3 1 = .ok (.iload_n 1, 1) := dk_27 (dk_at dksX1_add_3_0 1 rfl rfl)
theorem dX1_add_3_2 : decode cX1_add_3 2 = .ok (.invokevirtual 76, 3) := dk_182 0 76 (dk_at dksX1_add_3_0 2 rfl rfl)
theorem dX1_add_3_5 : decode cX1_add_3 5 = .ok (.astore_n 3, 1) := dk_78 (dk_at dksX1_add_3_0 5 rfl rfl)
theorem dX1_add_3_6 : decode cX1_add_3 6 = .ok (.iload_n 2, 1) := dk_28 (dk_at dksX1_add_3_0 6 rfl rfl)
theorem dX1_add_3_7 : decode cX1_add_3 7 = .ok (.invokestatic 116, 3) := dk_184 0 116 (dk_at dksX1_add_3_0 7 rfl rfl)
theorem dX1_add_3_10 : decode cX1_add_3 10 = .ok (.aload_n 3, 1) := dk_45 (dk_at dksX1_add_3_0 10 rfl rfl)
theorem dX1_add_3_11 : decode cX1_add_3 11 = .ok (.iload_n 2, 1) := dk_28 (dk_at dksX1_add_3_0 11 rfl rfl)
theorem dX1_add_3_12 : decode cX1_add_3 12 = .ok (.invokestatic 124, 3) := dk_184 0 124 (dk_at dksX1_add_3_0 12 rfl rfl)
theorem dX1_add_3_15 : decode cX1_add_3 15 = .ok (.invokeinterface 296 2, 5) := by decide +kernel
theorem dX1_add_3_20 : decode cX1_add_3 20 = .ok (.invokestatic 262, 3) := dk_184 1 6 (dk_at dksX1_add_3_0 20 rfl rfl)
theorem dX1_add_3_23 : decode cX1_add_3 23 = .ok (.ireturn, 1) := dk_172 (dk_at dksX1_add_3_0 23 rfl rfl)
theorem dX1_add_3_24 : decode cX1_add_3 24 = .ok (.astore 4, 2) := dk_58 4 (dk_at dksX1_add_3_1 0 rfl rfl)
theorem dX1_add_3_26 : decode cX1_add_3 26 = .ok (.aload_n 0, 1) := dk_42 (dk_at dksX1_add_3_1 2 rfl rfl)
theorem dX1_add_3_27 : decode cX1_add_3 27 = .ok (.invokevirtual 299, 3) := dk_182 1 43 (dk_at dksX1_add_3_1 3 rfl rfl)
theorem dX1_add_3_30 : decode cX1_add_3 30 = .ok (.ireturn, 1) := dk_172 (dk_at dksX1_add_3_1 6 rfl rfl)
abbrev cX1_refuse : ByteArray := prog_1_method_15_code
def yX1_refuse : MethodName := ⟨RX1, "refuse", "()I"⟩
def dkwX1_refuse_0 : List UInt8 := [42, 89, 180, 0, 89, 4, 96, 181, 0, 89, 16, 247, 172]
abbrev dktX1_refuse_0 : List UInt8 := dkwX1_refuse_0 ++ []
theorem dksX1_refuse_0 : cX1_refuse.data.toList.drop 0 = dktX1_refuse_0 := by decide +kernel
theorem dX1_refuse_0 : decode cX1_refuse 0 = .ok (.aload_n 0, 1) := dk_42 (dk_at dksX1_refuse_0 0 rfl rfl)
theorem dX1_refuse_1 : decode cX1_refuse 1 = .ok (.dup, 1) := dk_89 (dk_at dksX1_refuse_0 1 rfl rfl)
theorem dX1_refuse_2 : decode cX1_refuse 2 = .ok (.getfield 89, 3) := dk_180 0 89 (dk_at dksX1_refuse_0 2 rfl rfl)
theorem dX1_refuse_5 : decode cX1_refuse 5 = .ok (.iconst 1, 1) := dk_4 (dk_at dksX1_refuse_0 5 rfl rfl)
theorem dX1_refuse_6 : decode cX1_refuse 6 = .ok (.iadd, 1) := dk_96 (dk_at dksX1_refuse_0 6 rfl rfl)
theorem dX1_refuse_7 : decode cX1_refuse 7 = .ok (.putfield 89, 3) := dk_181 0 89 (dk_at dksX1_refuse_0 7 rfl rfl)
theorem dX1_refuse_10 : decode cX1_refuse 10 = .ok (.bipush (-9), 2) := dk_16 247 (dk_at dksX1_refuse_0 10 rfl rfl)
theorem dX1_refuse_12 : decode cX1_refuse 12 = .ok (.ireturn, 1) := dk_172 (dk_at dksX1_refuse_0 12 rfl rfl)
abbrev cX1_addAt : ByteArray := prog_1_method_51_code
def yX1_addAt : MethodName := ⟨RX1, "addAt", "(III)I"⟩
def dkwX1_addAt_2 : List UInt8 := [185, 1, 46, 3, 0, 3, 172, 58, 5, 42, 182, 1, 43, 172]
abbrev dktX1_addAt_2 : List UInt8 := dkwX1_addAt_2 ++ []
def dkwX1_addAt_1 : List UInt8 := [184, 0, 83, 153, 0, 7, 4, 167, 0, 4, 3, 184, 0, 86, 25, 4, 28, 29, 184, 0, 124]
abbrev dktX1_addAt_1 : List UInt8 := dkwX1_addAt_1 ++ dktX1_addAt_2
def dkwX1_addAt_0 : List UInt8 := [42, 27, 182, 0, 76, 58, 4, 28, 3, 25, 4, 185, 0, 80, 1, 0, 184, 0, 3, 153, 0, 14, 29]
abbrev dktX1_addAt_0 : List UInt8 := dkwX1_addAt_0 ++ dktX1_addAt_1
theorem dksX1_addAt_0 : cX1_addAt.data.toList.drop 0 = dktX1_addAt_0 := by decide +kernel
theorem dksX1_addAt_1 : cX1_addAt.data.toList.drop 23 = dktX1_addAt_1 := dk_seg dksX1_addAt_0 23 rfl rfl
theorem dksX1_addAt_2 : cX1_addAt.data.toList.drop 44 = dktX1_addAt_2 := dk_seg dksX1_addAt_1 21 rfl rfl
theorem dX1_addAt_0 : decode cX1_addAt 0 = .ok (.aload_n 0, 1) := dk_42 (dk_at dksX1_addAt_0 0 rfl rfl)
theorem dX1_addAt_1 : decode cX1_addAt 1 = .ok (.iload_n 1, 1) := dk_27 (dk_at dksX1_addAt_0 1 rfl rfl)
theorem dX1_addAt_2 : decode cX1_addAt 2 = .ok (.invokevirtual 76, 3) := dk_182 0 76 (dk_at dksX1_addAt_0 2 rfl rfl)
theorem dX1_addAt_5 : decode cX1_addAt 5 = .ok (.astore 4, 2) := dk_58 4 (dk_at dksX1_addAt_0 5 rfl rfl)
theorem dX1_addAt_7 : decode cX1_addAt 7 = .ok (.iload_n 2, 1) := dk_28 (dk_at dksX1_addAt_0 7 rfl rfl)
theorem dX1_addAt_8 : decode cX1_addAt 8 = .ok (.iconst 0, 1) := dk_3 (dk_at dksX1_addAt_0 8 rfl rfl)
theorem dX1_addAt_9 : decode cX1_addAt 9 = .ok (.aload 4, 2) := dk_25 4 (dk_at dksX1_addAt_0 9 rfl rfl)
theorem dX1_addAt_11 : decode cX1_addAt 11 = .ok (.invokeinterface 80 1, 5) := by decide +kernel
theorem dX1_addAt_16 : decode cX1_addAt 16 = .ok (.invokestatic 3, 3) := dk_184 0 3 (dk_at dksX1_addAt_0 16 rfl rfl)
theorem dX1_addAt_19 : decode cX1_addAt 19 = .ok (.ifCond .eq 14, 3) := dk_153 0 14 (dk_at dksX1_addAt_0 19 rfl rfl)
theorem dX1_addAt_22 : decode cX1_addAt 22 = .ok (.iload_n 3, 1) := dk_29 (dk_at dksX1_addAt_0 22 rfl rfl)
theorem dX1_addAt_23 : decode cX1_addAt 23 = .ok (.invokestatic 83, 3) := dk_184 0 83 (dk_at dksX1_addAt_1 0 rfl rfl)
theorem dX1_addAt_26 : decode cX1_addAt 26 = .ok (.ifCond .eq 7, 3) := dk_153 0 7 (dk_at dksX1_addAt_1 3 rfl rfl)
theorem dX1_addAt_29 : decode cX1_addAt 29 = .ok (.iconst 1, 1) := dk_4 (dk_at dksX1_addAt_1 6 rfl rfl)
theorem dX1_addAt_30 : decode cX1_addAt 30 = .ok (.goto 4, 3) := dk_167 0 4 (dk_at dksX1_addAt_1 7 rfl rfl)
theorem dX1_addAt_33 : decode cX1_addAt 33 = .ok (.iconst 0, 1) := dk_3 (dk_at dksX1_addAt_1 10 rfl rfl)
theorem dX1_addAt_34 : decode cX1_addAt 34 = .ok (.invokestatic 86, 3) := dk_184 0 86 (dk_at dksX1_addAt_1 11 rfl rfl)
theorem dX1_addAt_37 : decode cX1_addAt 37 = .ok (.aload 4, 2) := dk_25 4 (dk_at dksX1_addAt_1 14 rfl rfl)
theorem dX1_addAt_39 : decode cX1_addAt 39 = .ok (.iload_n 2, 1) := dk_28 (dk_at dksX1_addAt_1 16 rfl rfl)
theorem dX1_addAt_40 : decode cX1_addAt 40 = .ok (.iload_n 3, 1) := dk_29 (dk_at dksX1_addAt_1 17 rfl rfl)
theorem dX1_addAt_41 : decode cX1_addAt 41 = .ok (.invokestatic 124, 3) := dk_184 0 124 (dk_at dksX1_addAt_1 18 rfl rfl)
theorem dX1_addAt_44 : decode cX1_addAt 44 = .ok (.invokeinterface 302 3, 5) := by decide +kernel
theorem dX1_addAt_49 : decode cX1_addAt 49 = .ok (.iconst 0, 1) := dk_3 (dk_at dksX1_addAt_2 5 rfl rfl)
theorem dX1_addAt_50 : decode cX1_addAt 50 = .ok (.ireturn, 1) := dk_172 (dk_at dksX1_addAt_2 6 rfl rfl)
theorem dX1_addAt_51 : decode cX1_addAt 51 = .ok (.astore 5, 2) := dk_58 5 (dk_at dksX1_addAt_2 7 rfl rfl)
theorem dX1_addAt_53 : decode cX1_addAt 53 = .ok (.aload_n 0, 1) := dk_42 (dk_at dksX1_addAt_2 9 rfl rfl)
theorem dX1_addAt_54 : decode cX1_addAt 54 = .ok (.invokevirtual 299, 3) := dk_182 1 43 (dk_at dksX1_addAt_2 10 rfl rfl)
theorem dX1_addAt_57 : decode cX1_addAt 57 = .ok (.ireturn, 1) := dk_172 (dk_at dksX1_addAt_2 13 rfl rfl)
abbrev cX1_addAll : ByteArray := prog_1_method_52_code
def yX1_addAll : MethodName := ⟨RX1, "addAll", "(II)I"⟩
def dkwX1_addAll_1 : List UInt8 := [172, 58, 5, 42, 182, 1, 43, 172]
abbrev dktX1_addAll_1 : List UInt8 := dkwX1_addAll_1 ++ []
def dkwX1_addAll_0 : List UInt8 := [42, 27, 182, 0, 76, 78, 42, 28, 182, 0, 76, 58, 4, 45, 25, 4, 185, 1, 49, 2, 0, 184, 1, 6]
abbrev dktX1_addAll_0 : List UInt8 := dkwX1_addAll_0 ++ dktX1_addAll_1
theorem dksX1_addAll_0 : cX1_addAll.data.toList.drop 0 = dktX1_addAll_0 := by decide +kernel
theorem dksX1_addAll_1 : cX1_addAll.data.toList.drop 24 = dktX1_addAll_1 := dk_seg dksX1_addAll_0 24 rfl rfl
theorem dX1_addAll_0 : decode cX1_addAll 0 = .ok (.aload_n 0, 1) := dk_42 (dk_at dksX1_addAll_0 0 rfl rfl)
theorem dX1_addAll_1 : decode cX1_addAll 1 = .ok (.iload_n 1, 1) := dk_27 (dk_at dksX1_addAll_0 1 rfl rfl)
theorem dX1_addAll_2 : decode cX1_addAll 2 = .ok (.invokevirtual 76, 3) := dk_182 0 76 (dk_at dksX1_addAll_0 2 rfl rfl)
theorem dX1_addAll_5 : decode cX1_addAll 5 = .ok (.astore_n 3, 1) := dk_78 (dk_at dksX1_addAll_0 5 rfl rfl)
theorem dX1_addAll_6 : decode cX1_addAll 6 = .ok (.aload_n 0, 1) := dk_42 (dk_at dksX1_addAll_0 6 rfl rfl)
theorem dX1_addAll_7 : decode cX1_addAll 7 = .ok (.iload_n 2, 1) := dk_28 (dk_at dksX1_addAll_0 7 rfl rfl)
theorem dX1_addAll_8 : decode cX1_addAll 8 = .ok (.invokevirtual 76, 3) := dk_182 0 76 (dk_at dksX1_addAll_0 8 rfl rfl)
theorem dX1_addAll_11 : decode cX1_addAll 11 = .ok (.astore 4, 2) := dk_58 4 (dk_at dksX1_addAll_0 11 rfl rfl)
theorem dX1_addAll_13 : decode cX1_addAll 13 = .ok (.aload_n 3, 1) := dk_45 (dk_at dksX1_addAll_0 13 rfl rfl)
theorem dX1_addAll_14 : decode cX1_addAll 14 = .ok (.aload 4, 2) := dk_25 4 (dk_at dksX1_addAll_0 14 rfl rfl)
theorem dX1_addAll_16 : decode cX1_addAll 16 = .ok (.invokeinterface 305 2, 5) := by decide +kernel
theorem dX1_addAll_21 : decode cX1_addAll 21 = .ok (.invokestatic 262, 3) := dk_184 1 6 (dk_at dksX1_addAll_0 21 rfl rfl)
theorem dX1_addAll_24 : decode cX1_addAll 24 = .ok (.ireturn, 1) := dk_172 (dk_at dksX1_addAll_1 0 rfl rfl)
theorem dX1_addAll_25 : decode cX1_addAll 25 = .ok (.astore 5, 2) := dk_58 5 (dk_at dksX1_addAll_1 1 rfl rfl)
theorem dX1_addAll_27 : decode cX1_addAll 27 = .ok (.aload_n 0, 1) := dk_42 (dk_at dksX1_addAll_1 3 rfl rfl)
theorem dX1_addAll_28 : decode cX1_addAll 28 = .ok (.invokevirtual 299, 3) := dk_182 1 43 (dk_at dksX1_addAll_1 4 rfl rfl)
theorem dX1_addAll_31 : decode cX1_addAll 31 = .ok (.ireturn, 1) := dk_172 (dk_at dksX1_addAll_1 7 rfl rfl)
abbrev cX1_remove : ByteArray := prog_1_method_53_code
def yX1_remove : MethodName := ⟨RX1, "remove", "(II)I"⟩
def dkwX1_remove_1 : List UInt8 := [182, 1, 43, 172]
abbrev dktX1_remove_1 : List UInt8 := dkwX1_remove_1 ++ []
def dkwX1_remove_0 : List UInt8 := [42, 27, 28, 182, 0, 177, 78, 45, 28, 185, 1, 52, 2, 0, 192, 0, 8, 184, 0, 120, 172, 58, 4, 42]
abbrev dktX1_remove_0 : List UInt8 := dkwX1_remove_0 ++ dktX1_remove_1
theorem dksX1_remove_0 : cX1_remove.data.toList.drop 0 = dktX1_remove_0 := by decide +kernel
theorem dksX1_remove_1 : cX1_remove.data.toList.drop 24 = dktX1_remove_1 := dk_seg dksX1_remove_0 24 rfl rfl
theorem dX1_remove_0 : decode cX1_remove 0 = .ok (.aload_n 0, 1) := dk_42 (dk_at dksX1_remove_0 0 rfl rfl)
theorem dX1_remove_1 : decode cX1_remove 1 = .ok (.iload_n 1, 1) := dk_27 (dk_at dksX1_remove_0 1 rfl rfl)
theorem dX1_remove_2 : decode cX1_remove 2 = .ok (.iload_n 2, 1) := dk_28 (dk_at dksX1_remove_0 2 rfl rfl)
theorem dX1_remove_3 : decode cX1_remove 3 = .ok (.invokevirtual 177, 3) := dk_182 0 177 (dk_at dksX1_remove_0 3 rfl rfl)
theorem dX1_remove_6 : decode cX1_remove 6 = .ok (.astore_n 3, 1) := dk_78 (dk_at dksX1_remove_0 6 rfl rfl)
theorem dX1_remove_7 : decode cX1_remove 7 = .ok (.aload_n 3, 1) := dk_45 (dk_at dksX1_remove_0 7 rfl rfl)
theorem dX1_remove_8 : decode cX1_remove 8 = .ok (.iload_n 2, 1) := dk_28 (dk_at dksX1_remove_0 8 rfl rfl)
theorem dX1_remove_9 : decode cX1_remove 9 = .ok (.invokeinterface 308 2, 5) := by decide +kernel
theorem dX1_remove_14 : decode cX1_remove 14 = .ok (.checkcast 8, 3) := dk_192 0 8 (dk_at dksX1_remove_0 14 rfl rfl)
theorem dX1_remove_17 : decode cX1_remove 17 = .ok (.invokestatic 120, 3) := dk_184 0 120 (dk_at dksX1_remove_0 17 rfl rfl)
theorem dX1_remove_20 : decode cX1_remove 20 = .ok (.ireturn, 1) := dk_172 (dk_at dksX1_remove_0 20 rfl rfl)
theorem dX1_remove_21 : decode cX1_remove 21 = .ok (.astore 4, 2) := dk_58 4 (dk_at dksX1_remove_0 21 rfl rfl)
theorem dX1_remove_23 : decode cX1_remove 23 = .ok (.aload_n 0, 1) := dk_42 (dk_at dksX1_remove_0 23 rfl rfl)
theorem dX1_remove_24 : decode cX1_remove 24 = .ok (.invokevirtual 299, 3) := dk_182 1 43 (dk_at dksX1_remove_1 0 rfl rfl)
theorem dX1_remove_27 : decode cX1_remove 27 = .ok (.ireturn, 1) := dk_172 (dk_at dksX1_remove_1 3 rfl rfl)
abbrev cX1_removeValue : ByteArray := prog_1_method_54_code
def yX1_removeValue : MethodName := ⟨RX1, "removeValue", "(II)I"⟩
def dkwX1_removeValue_1 : List UInt8 := [58, 4, 42, 182, 1, 43, 172]
abbrev dktX1_removeValue_1 : List UInt8 := dkwX1_removeValue_1 ++ []
def dkwX1_removeValue_0 : List UInt8 := [42, 27, 182, 0, 76, 78, 28, 184, 0, 116, 45, 28, 184, 0, 124, 185, 1, 54, 2, 0, 184, 1, 6, 172]
abbrev dktX1_removeValue_0 : List UInt8 := dkwX1_removeValue_0 ++ dktX1_removeValue_1
theorem dksX1_removeValue_0 : cX1_removeValue.data.toList.drop 0 = dktX1_removeValue_0 := by decide +kernel
theorem dksX1_removeValue_1 : cX1_removeValue.data.toList.drop 24 = dktX1_removeValue_1 := dk_seg dksX1_removeValue_0 24 rfl rfl
theorem dX1_removeValue_0 : decode cX1_removeValue 0 = .ok (.aload_n 0, 1) := dk_42 (dk_at dksX1_removeValue_0 0 rfl rfl)
theorem dX1_removeValue_1 : decode cX1_removeValue 1 = .ok (.iload_n 1, 1) := dk_27 (dk_at dksX1_removeValue_0 1 rfl rfl)
theorem dX1_removeValue_2 : decode cX1_removeValue 2 = .ok (.invokevirtual 76, 3) := dk_182 0 76 (dk_at dksX1_removeValue_0 2 rfl rfl)
theorem dX1_removeValue_5 : decode cX1_removeValue 5 = .ok (.astore_n 3, 1) := dk_78 (dk_at dksX1_removeValue_0 5 rfl rfl)
theorem dX1_removeValue_6 : decode cX1_removeValue 6 = .ok (.iload_n 2, 1) := dk_28 (dk_at dksX1_removeValue_0 6 rfl rfl)
theorem dX1_removeValue_7 : decode cX1_removeValue 7 = .ok (.invokestatic 116, 3) := dk_184 0 116 (dk_at dksX1_removeValue_0 7 rfl rfl)
theorem dX1_removeValue_10 : decode cX1_removeValue 10 = .ok (.aload_n 3, 1) := dk_45 (dk_at dksX1_removeValue_0 10 rfl rfl)
theorem dX1_removeValue_11 : decode cX1_removeValue 11 = .ok (.iload_n 2, 1) := dk_28 (dk_at dksX1_removeValue_0 11 rfl rfl)
theorem dX1_removeValue_12 : decode cX1_removeValue 12 = .ok (.invokestatic 124, 3) := dk_184 0 124 (dk_at dksX1_removeValue_0 12 rfl rfl)
theorem dX1_removeValue_15 : decode cX1_removeValue 15 = .ok (.invokeinterface 310 2, 5) := by decide +kernel
theorem dX1_removeValue_20 : decode cX1_removeValue 20 = .ok (.invokestatic 262, 3) := dk_184 1 6 (dk_at dksX1_removeValue_0 20 rfl rfl)
theorem dX1_removeValue_23 : decode cX1_removeValue 23 = .ok (.ireturn, 1) := dk_172 (dk_at dksX1_removeValue_0 23 rfl rfl)
theorem dX1_removeValue_24 : decode cX1_removeValue 24 = .ok (.astore 4, 2) := dk_58 4 (dk_at dksX1_removeValue_1 0 rfl rfl)
theorem dX1_removeValue_26 : decode cX1_removeValue 26 = .ok (.aload_n 0, 1) := dk_42 (dk_at dksX1_removeValue_1 2 rfl rfl)
theorem dX1_removeValue_27 : decode cX1_removeValue 27 = .ok (.invokevirtual 299, 3) := dk_182 1 43 (dk_at dksX1_removeValue_1 3 rfl rfl)
theorem dX1_removeValue_30 : decode cX1_removeValue 30 = .ok (.ireturn, 1) := dk_172 (dk_at dksX1_removeValue_1 6 rfl rfl)
abbrev cX1_removeAll : ByteArray := prog_1_method_55_code
def yX1_removeAll : MethodName := ⟨RX1, "removeAll", "(II)I"⟩
def dkwX1_removeAll_1 : List UInt8 := [172, 58, 5, 42, 182, 1, 43, 172]
abbrev dktX1_removeAll_1 : List UInt8 := dkwX1_removeAll_1 ++ []
def dkwX1_removeAll_0 : List UInt8 := [42, 27, 182, 0, 76, 78, 42, 28, 182, 0, 76, 58, 4, 45, 25, 4, 185, 1, 56, 2, 0, 184, 1, 6]
abbrev dktX1_removeAll_0 : List UInt8 := dkwX1_removeAll_0 ++ dktX1_removeAll_1
theorem dksX1_removeAll_0 : cX1_removeAll.data.toList.drop 0 = dktX1_removeAll_0 := by decide +kernel
theorem dksX1_removeAll_1 : cX1_removeAll.data.toList.drop 24 = dktX1_removeAll_1 := dk_seg dksX1_removeAll_0 24 rfl rfl
theorem dX1_removeAll_0 : decode cX1_removeAll 0 = .ok (.aload_n 0, 1) := dk_42 (dk_at dksX1_removeAll_0 0 rfl rfl)
theorem dX1_removeAll_1 : decode cX1_removeAll 1 = .ok (.iload_n 1, 1) := dk_27 (dk_at dksX1_removeAll_0 1 rfl rfl)
theorem dX1_removeAll_2 : decode cX1_removeAll 2 = .ok (.invokevirtual 76, 3) := dk_182 0 76 (dk_at dksX1_removeAll_0 2 rfl rfl)
theorem dX1_removeAll_5 : decode cX1_removeAll 5 = .ok (.astore_n 3, 1) := dk_78 (dk_at dksX1_removeAll_0 5 rfl rfl)
theorem dX1_removeAll_6 : decode cX1_removeAll 6 = .ok (.aload_n 0, 1) := dk_42 (dk_at dksX1_removeAll_0 6 rfl rfl)
theorem dX1_removeAll_7 : decode cX1_removeAll 7 = .ok (.iload_n 2, 1) := dk_28 (dk_at dksX1_removeAll_0 7 rfl rfl)
theorem dX1_removeAll_8 : decode cX1_removeAll 8 = .ok (.invokevirtual 76, 3) := dk_182 0 76 (dk_at dksX1_removeAll_0 8 rfl rfl)
theorem dX1_removeAll_11 : decode cX1_removeAll 11 = .ok (.astore 4, 2) := dk_58 4 (dk_at dksX1_removeAll_0 11 rfl rfl)
theorem dX1_removeAll_13 : decode cX1_removeAll 13 = .ok (.aload_n 3, 1) := dk_45 (dk_at dksX1_removeAll_0 13 rfl rfl)
theorem dX1_removeAll_14 : decode cX1_removeAll 14 = .ok (.aload 4, 2) := dk_25 4 (dk_at dksX1_removeAll_0 14 rfl rfl)
theorem dX1_removeAll_16 : decode cX1_removeAll 16 = .ok (.invokeinterface 312 2, 5) := by decide +kernel
theorem dX1_removeAll_21 : decode cX1_removeAll 21 = .ok (.invokestatic 262, 3) := dk_184 1 6 (dk_at dksX1_removeAll_0 21 rfl rfl)
theorem dX1_removeAll_24 : decode cX1_removeAll 24 = .ok (.ireturn, 1) := dk_172 (dk_at dksX1_removeAll_1 0 rfl rfl)
theorem dX1_removeAll_25 : decode cX1_removeAll 25 = .ok (.astore 5, 2) := dk_58 5 (dk_at dksX1_removeAll_1 1 rfl rfl)
theorem dX1_removeAll_27 : decode cX1_removeAll 27 = .ok (.aload_n 0, 1) := dk_42 (dk_at dksX1_removeAll_1 3 rfl rfl)
theorem dX1_removeAll_28 : decode cX1_removeAll 28 = .ok (.invokevirtual 299, 3) := dk_182 1 43 (dk_at dksX1_removeAll_1 4 rfl rfl)
theorem dX1_removeAll_31 : decode cX1_removeAll 31 = .ok (.ireturn, 1) := dk_172 (dk_at dksX1_removeAll_1 7 rfl rfl)
abbrev cX1_retainAll : ByteArray := prog_1_method_56_code
def yX1_retainAll : MethodName := ⟨RX1, "retainAll", "(II)I"⟩
def dkwX1_retainAll_1 : List UInt8 := [172, 58, 5, 42, 182, 1, 43, 172]
abbrev dktX1_retainAll_1 : List UInt8 := dkwX1_retainAll_1 ++ []
def dkwX1_retainAll_0 : List UInt8 := [42, 27, 182, 0, 76, 78, 42, 28, 182, 0, 76, 58, 4, 45, 25, 4, 185, 1, 59, 2, 0, 184, 1, 6]
abbrev dktX1_retainAll_0 : List UInt8 := dkwX1_retainAll_0 ++ dktX1_retainAll_1
theorem dksX1_retainAll_0 : cX1_retainAll.data.toList.drop 0 = dktX1_retainAll_0 := by decide +kernel
theorem dksX1_retainAll_1 : cX1_retainAll.data.toList.drop 24 = dktX1_retainAll_1 := dk_seg dksX1_retainAll_0 24 rfl rfl
theorem dX1_retainAll_0 : decode cX1_retainAll 0 = .ok (.aload_n 0, 1) := dk_42 (dk_at dksX1_retainAll_0 0 rfl rfl)
theorem dX1_retainAll_1 : decode cX1_retainAll 1 = .ok (.iload_n 1, 1) := dk_27 (dk_at dksX1_retainAll_0 1 rfl rfl)
theorem dX1_retainAll_2 : decode cX1_retainAll 2 = .ok (.invokevirtual 76, 3) := dk_182 0 76 (dk_at dksX1_retainAll_0 2 rfl rfl)
theorem dX1_retainAll_5 : decode cX1_retainAll 5 = .ok (.astore_n 3, 1) := dk_78 (dk_at dksX1_retainAll_0 5 rfl rfl)
theorem dX1_retainAll_6 : decode cX1_retainAll 6 = .ok (.aload_n 0, 1) := dk_42 (dk_at dksX1_retainAll_0 6 rfl rfl)
theorem dX1_retainAll_7 : decode cX1_retainAll 7 = .ok (.iload_n 2, 1) := dk_28 (dk_at dksX1_retainAll_0 7 rfl rfl)
theorem dX1_retainAll_8 : decode cX1_retainAll 8 = .ok (.invokevirtual 76, 3) := dk_182 0 76 (dk_at dksX1_retainAll_0 8 rfl rfl)
theorem dX1_retainAll_11 : decode cX1_retainAll 11 = .ok (.astore 4, 2) := dk_58 4 (dk_at dksX1_retainAll_0 11 rfl rfl)
theorem dX1_retainAll_13 : decode cX1_retainAll 13 = .ok (.aload_n 3, 1) := dk_45 (dk_at dksX1_retainAll_0 13 rfl rfl)
theorem dX1_retainAll_14 : decode cX1_retainAll 14 = .ok (.aload 4, 2) := dk_25 4 (dk_at dksX1_retainAll_0 14 rfl rfl)
theorem dX1_retainAll_16 : decode cX1_retainAll 16 = .ok (.invokeinterface 315 2, 5) := by decide +kernel
theorem dX1_retainAll_21 : decode cX1_retainAll 21 = .ok (.invokestatic 262, 3) := dk_184 1 6 (dk_at dksX1_retainAll_0 21 rfl rfl)
theorem dX1_retainAll_24 : decode cX1_retainAll 24 = .ok (.ireturn, 1) := dk_172 (dk_at dksX1_retainAll_1 0 rfl rfl)
theorem dX1_retainAll_25 : decode cX1_retainAll 25 = .ok (.astore 5, 2) := dk_58 5 (dk_at dksX1_retainAll_1 1 rfl rfl)
theorem dX1_retainAll_27 : decode cX1_retainAll 27 = .ok (.aload_n 0, 1) := dk_42 (dk_at dksX1_retainAll_1 3 rfl rfl)
theorem dX1_retainAll_28 : decode cX1_retainAll 28 = .ok (.invokevirtual 299, 3) := dk_182 1 43 (dk_at dksX1_retainAll_1 4 rfl rfl)
theorem dX1_retainAll_31 : decode cX1_retainAll 31 = .ok (.ireturn, 1) := dk_172 (dk_at dksX1_retainAll_1 7 rfl rfl)
abbrev cX1_removeIf : ByteArray := prog_1_method_57_code
def yX1_removeIf : MethodName := ⟨RX1, "removeIf", "(III)I"⟩
def dkwX1_removeIf_2 : List UInt8 := [183, 1, 64, 185, 1, 65, 2, 0, 184, 1, 6, 172, 58, 6, 42, 182, 1, 43, 172]
abbrev dktX1_removeIf_2 : List UInt8 := dkwX1_removeIf_2 ++ []
def dkwX1_removeIf_1 : List UInt8 := [153, 0, 7, 4, 167, 0, 4, 3, 184, 0, 86, 25, 4, 58, 5, 25, 5, 187, 1, 62, 89, 28, 29]
abbrev dktX1_removeIf_1 : List UInt8 := dkwX1_removeIf_1 ++ dktX1_removeIf_2
def dkwX1_removeIf_0 : List UInt8 := [42, 27, 182, 0, 76, 58, 4, 28, 3, 5, 184, 0, 3, 153, 0, 18, 29, 16, 157, 16, 99, 184, 0, 3]
abbrev dktX1_removeIf_0 : List UInt8 := dkwX1_removeIf_0 ++ dktX1_removeIf_1
theorem dksX1_removeIf_0 : cX1_removeIf.data.toList.drop 0 = dktX1_removeIf_0 := by decide +kernel
theorem dksX1_removeIf_1 : cX1_removeIf.data.toList.drop 24 = dktX1_removeIf_1 := dk_seg dksX1_removeIf_0 24 rfl rfl
theorem dksX1_removeIf_2 : cX1_removeIf.data.toList.drop 47 = dktX1_removeIf_2 := dk_seg dksX1_removeIf_1 23 rfl rfl
theorem dX1_removeIf_0 : decode cX1_removeIf 0 = .ok (.aload_n 0, 1) := dk_42 (dk_at dksX1_removeIf_0 0 rfl rfl)
theorem dX1_removeIf_1 : decode cX1_removeIf 1 = .ok (.iload_n 1, 1) := dk_27 (dk_at dksX1_removeIf_0 1 rfl rfl)
theorem dX1_removeIf_2 : decode cX1_removeIf 2 = .ok (.invokevirtual 76, 3) := dk_182 0 76 (dk_at dksX1_removeIf_0 2 rfl rfl)
theorem dX1_removeIf_5 : decode cX1_removeIf 5 = .ok (.astore 4, 2) := dk_58 4 (dk_at dksX1_removeIf_0 5 rfl rfl)
theorem dX1_removeIf_7 : decode cX1_removeIf 7 = .ok (.iload_n 2, 1) := dk_28 (dk_at dksX1_removeIf_0 7 rfl rfl)
theorem dX1_removeIf_8 : decode cX1_removeIf 8 = .ok (.iconst 0, 1) := dk_3 (dk_at dksX1_removeIf_0 8 rfl rfl)
theorem dX1_removeIf_9 : decode cX1_removeIf 9 = .ok (.iconst 2, 1) := dk_5 (dk_at dksX1_removeIf_0 9 rfl rfl)
theorem dX1_removeIf_10 : decode cX1_removeIf 10 = .ok (.invokestatic 3, 3) := dk_184 0 3 (dk_at dksX1_removeIf_0 10 rfl rfl)
theorem dX1_removeIf_13 : decode cX1_removeIf 13 = .ok (.ifCond .eq 18, 3) := dk_153 0 18 (dk_at dksX1_removeIf_0 13 rfl rfl)
theorem dX1_removeIf_16 : decode cX1_removeIf 16 = .ok (.iload_n 3, 1) := dk_29 (dk_at dksX1_removeIf_0 16 rfl rfl)
theorem dX1_removeIf_17 : decode cX1_removeIf 17 = .ok (.bipush (-99), 2) := dk_16 157 (dk_at dksX1_removeIf_0 17 rfl rfl)
theorem dX1_removeIf_19 : decode cX1_removeIf 19 = .ok (.bipush 99, 2) := dk_16 99 (dk_at dksX1_removeIf_0 19 rfl rfl)
theorem dX1_removeIf_21 : decode cX1_removeIf 21 = .ok (.invokestatic 3, 3) := dk_184 0 3 (dk_at dksX1_removeIf_0 21 rfl rfl)
theorem dX1_removeIf_24 : decode cX1_removeIf 24 = .ok (.ifCond .eq 7, 3) := dk_153 0 7 (dk_at dksX1_removeIf_1 0 rfl rfl)
theorem dX1_removeIf_27 : decode cX1_removeIf 27 = .ok (.iconst 1, 1) := dk_4 (dk_at dksX1_removeIf_1 3 rfl rfl)
theorem dX1_removeIf_28 : decode cX1_removeIf 28 = .ok (.goto 4, 3) := dk_167 0 4 (dk_at dksX1_removeIf_1 4 rfl rfl)
theorem dX1_removeIf_31 : decode cX1_removeIf 31 = .ok (.iconst 0, 1) := dk_3 (dk_at dksX1_removeIf_1 7 rfl rfl)
theorem dX1_removeIf_32 : decode cX1_removeIf 32 = .ok (.invokestatic 86, 3) := dk_184 0 86 (dk_at dksX1_removeIf_1 8 rfl rfl)
theorem dX1_removeIf_35 : decode cX1_removeIf 35 = .ok (.aload 4, 2) := dk_25 4 (dk_at dksX1_removeIf_1 11 rfl rfl)
theorem dX1_removeIf_37 : decode cX1_removeIf 37 = .ok (.astore 5, 2) := dk_58 5 (dk_at dksX1_removeIf_1 13 rfl rfl)
theorem dX1_removeIf_39 : decode cX1_removeIf 39 = .ok (.aload 5, 2) := dk_25 5 (dk_at dksX1_removeIf_1 15 rfl rfl)
theorem dX1_removeIf_41 : decode cX1_removeIf 41 = .ok (.new 318, 3) := dk_187 1 62 (dk_at dksX1_removeIf_1 17 rfl rfl)
theorem dX1_removeIf_44 : decode cX1_removeIf 44 = .ok (.dup, 1) := dk_89 (dk_at dksX1_removeIf_1 20 rfl rfl)
theorem dX1_removeIf_45 : decode cX1_removeIf 45 = .ok (.iload_n 2, 1) := dk_28 (dk_at dksX1_removeIf_1 21 rfl rfl)
theorem dX1_removeIf_46 : decode cX1_removeIf 46 = .ok (.iload_n 3, 1) := dk_29 (dk_at dksX1_removeIf_1 22 rfl rfl)
theorem dX1_removeIf_47 : decode cX1_removeIf 47 = .ok (.invokespecial 320, 3) := dk_183 1 64 (dk_at dksX1_removeIf_2 0 rfl rfl)
theorem dX1_removeIf_50 : decode cX1_removeIf 50 = .ok (.invokeinterface 321 2, 5) := by decide +kernel
theorem dX1_removeIf_55 : decode cX1_removeIf 55 = .ok (.invokestatic 262, 3) := dk_184 1 6 (dk_at dksX1_removeIf_2 8 rfl rfl)
theorem dX1_removeIf_58 : decode cX1_removeIf 58 = .ok (.ireturn, 1) := dk_172 (dk_at dksX1_removeIf_2 11 rfl rfl)
theorem dX1_removeIf_59 : decode cX1_removeIf 59 = .ok (.astore 6, 2) := dk_58 6 (dk_at dksX1_removeIf_2 12 rfl rfl)
theorem dX1_removeIf_61 : decode cX1_removeIf 61 = .ok (.aload_n 0, 1) := dk_42 (dk_at dksX1_removeIf_2 14 rfl rfl)
theorem dX1_removeIf_62 : decode cX1_removeIf 62 = .ok (.invokevirtual 299, 3) := dk_182 1 43 (dk_at dksX1_removeIf_2 15 rfl rfl)
theorem dX1_removeIf_65 : decode cX1_removeIf 65 = .ok (.ireturn, 1) := dk_172 (dk_at dksX1_removeIf_2 18 rfl rfl)
abbrev cX1_clear : ByteArray := prog_1_method_58_code
def yX1_clear : MethodName := ⟨RX1, "clear", "(I)I"⟩
def dkwX1_clear_0 : List UInt8 := [42, 27, 182, 0, 76, 77, 44, 185, 1, 71, 1, 0, 3, 172, 78, 42, 182, 1, 43, 172]
abbrev dktX1_clear_0 : List UInt8 := dkwX1_clear_0 ++ []
theorem dksX1_clear_0 : cX1_clear.data.toList.drop 0 = dktX1_clear_0 := by decide +kernel
theorem dX1_clear_0 : decode cX1_clear 0 = .ok (.aload_n 0, 1) := dk_42 (dk_at dksX1_clear_0 0 rfl rfl)
theorem dX1_clear_1 : decode cX1_clear 1 = .ok (.iload_n 1, 1) := dk_27 (dk_at dksX1_clear_0 1 rfl rfl)
theorem dX1_clear_2 : decode cX1_clear 2 = .ok (.invokevirtual 76, 3) := dk_182 0 76 (dk_at dksX1_clear_0 2 rfl rfl)
theorem dX1_clear_5 : decode cX1_clear 5 = .ok (.astore_n 2, 1) := dk_77 (dk_at dksX1_clear_0 5 rfl rfl)
theorem dX1_clear_6 : decode cX1_clear 6 = .ok (.aload_n 2, 1) := dk_44 (dk_at dksX1_clear_0 6 rfl rfl)
theorem dX1_clear_7 : decode cX1_clear 7 = .ok (.invokeinterface 327 1, 5) := by decide +kernel
theorem dX1_clear_12 : decode cX1_clear 12 = .ok (.iconst 0, 1) := dk_3 (dk_at dksX1_clear_0 12 rfl rfl)
theorem dX1_clear_13 : decode cX1_clear 13 = .ok (.ireturn, 1) := dk_172 (dk_at dksX1_clear_0 13 rfl rfl)
theorem dX1_clear_14 : decode cX1_clear 14 = .ok (.astore_n 3, 1) := dk_78 (dk_at dksX1_clear_0 14 rfl rfl)
theorem dX1_clear_15 : decode cX1_clear 15 = .ok (.aload_n 0, 1) := dk_42 (dk_at dksX1_clear_0 15 rfl rfl)
theorem dX1_clear_16 : decode cX1_clear 16 = .ok (.invokevirtual 299, 3) := dk_182 1 43 (dk_at dksX1_clear_0 16 rfl rfl)
theorem dX1_clear_19 : decode cX1_clear 19 = .ok (.ireturn, 1) := dk_172 (dk_at dksX1_clear_0 19 rfl rfl)
abbrev cX1_walkChange : ByteArray := prog_1_method_59_code
def yX1_walkChange : MethodName := ⟨RX1, "walkChange", "(III)I"⟩
def dkwX1_walkChange_1 : List UInt8 := [3, 172, 58, 5, 42, 182, 1, 43, 172]
abbrev dktX1_walkChange_1 : List UInt8 := dkwX1_walkChange_1 ++ []
def dkwX1_walkChange_0 : List UInt8 := [42, 27, 28, 182, 0, 177, 58, 4, 29, 3, 5, 184, 0, 3, 184, 0, 86, 25, 4, 28, 29, 184, 1, 74]
abbrev dktX1_walkChange_0 : List UInt8 := dkwX1_walkChange_0 ++ dktX1_walkChange_1
theorem dksX1_walkChange_0 : cX1_walkChange.data.toList.drop 0 = dktX1_walkChange_0 := by decide +kernel
theorem dksX1_walkChange_1 : cX1_walkChange.data.toList.drop 24 = dktX1_walkChange_1 := dk_seg dksX1_walkChange_0 24 rfl rfl
theorem dX1_walkChange_0 : decode cX1_walkChange 0 = .ok (.aload_n 0, 1) := dk_42 (dk_at dksX1_walkChange_0 0 rfl rfl)
theorem dX1_walkChange_1 : decode cX1_walkChange 1 = .ok (.iload_n 1, 1) := dk_27 (dk_at dksX1_walkChange_0 1 rfl rfl)
theorem dX1_walkChange_2 : decode cX1_walkChange 2 = .ok (.iload_n 2, 1) := dk_28 (dk_at dksX1_walkChange_0 2 rfl rfl)
theorem dX1_walkChange_3 : decode cX1_walkChange 3 = .ok (.invokevirtual 177, 3) := dk_182 0 177 (dk_at dksX1_walkChange_0 3 rfl rfl)
theorem dX1_walkChange_6 : decode cX1_walkChange 6 = .ok (.astore 4, 2) := dk_58 4 (dk_at dksX1_walkChange_0 6 rfl rfl)
theorem dX1_walkChange_8 : decode cX1_walkChange 8 = .ok (.iload_n 3, 1) := dk_29 (dk_at dksX1_walkChange_0 8 rfl rfl)
theorem dX1_walkChange_9 : decode cX1_walkChange 9 = .ok (.iconst 0, 1) := dk_3 (dk_at dksX1_walkChange_0 9 rfl rfl)
theorem dX1_walkChange_10 : decode cX1_walkChange 10 = .ok (.iconst 2, 1) := dk_5 (dk_at dksX1_walkChange_0 10 rfl rfl)
theorem dX1_walkChange_11 : decode cX1_walkChange 11 = .ok (.invokestatic 3, 3) := dk_184 0 3 (dk_at dksX1_walkChange_0 11 rfl rfl)
theorem dX1_walkChange_14 : decode cX1_walkChange 14 = .ok (.invokestatic 86, 3) := dk_184 0 86 (dk_at dksX1_walkChange_0 14 rfl rfl)
theorem dX1_walkChange_17 : decode cX1_walkChange 17 = .ok (.aload 4, 2) := dk_25 4 (dk_at dksX1_walkChange_0 17 rfl rfl)
theorem dX1_walkChange_19 : decode cX1_walkChange 19 = .ok (.iload_n 2, 1) := dk_28 (dk_at dksX1_walkChange_0 19 rfl rfl)
theorem dX1_walkChange_20 : decode cX1_walkChange 20 = .ok (.iload_n 3, 1) := dk_29 (dk_at dksX1_walkChange_0 20 rfl rfl)
theorem dX1_walkChange_21 : decode cX1_walkChange 21 = .ok (.invokestatic 330, 3) := dk_184 1 74 (dk_at dksX1_walkChange_0 21 rfl rfl)
theorem dX1_walkChange_24 : decode cX1_walkChange 24 = .ok (.iconst 0, 1) := dk_3 (dk_at dksX1_walkChange_1 0 rfl rfl)
theorem dX1_walkChange_25 : decode cX1_walkChange 25 = .ok (.ireturn, 1) := dk_172 (dk_at dksX1_walkChange_1 1 rfl rfl)
theorem dX1_walkChange_26 : decode cX1_walkChange 26 = .ok (.astore 5, 2) := dk_58 5 (dk_at dksX1_walkChange_1 2 rfl rfl)
theorem dX1_walkChange_28 : decode cX1_walkChange 28 = .ok (.aload_n 0, 1) := dk_42 (dk_at dksX1_walkChange_1 4 rfl rfl)
theorem dX1_walkChange_29 : decode cX1_walkChange 29 = .ok (.invokevirtual 299, 3) := dk_182 1 43 (dk_at dksX1_walkChange_1 5 rfl rfl)
theorem dX1_walkChange_32 : decode cX1_walkChange 32 = .ok (.ireturn, 1) := dk_172 (dk_at dksX1_walkChange_1 8 rfl rfl)
abbrev cX1_change : ByteArray := prog_1_method_49_code
def yX1_change : MethodName := ⟨RX1, "change", "(Ljava/util/List;II)V"⟩
def dkwX1_change_3 : List UInt8 := [167, 0, 13, 45, 3, 184, 0, 7, 185, 1, 38, 2, 0, 177]
abbrev dktX1_change_3 : List UInt8 := dkwX1_change_3 ++ []
def dkwX1_change_2 : List UInt8 := [185, 0, 153, 2, 0, 78, 45, 185, 0, 233, 1, 0, 87, 28, 4, 160, 0, 12, 45, 185, 1, 37, 1, 0]
abbrev dktX1_change_2 : List UInt8 := dkwX1_change_2 ++ dktX1_change_3
def dkwX1_change_1 : List UInt8 := [185, 0, 142, 1, 0, 87, 132, 4, 1, 167, 255, 240, 45, 185, 1, 34, 1, 0, 177, 42, 27]
abbrev dktX1_change_1 : List UInt8 := dkwX1_change_1 ++ dktX1_change_2
def dkwX1_change_0 : List UInt8 := [28, 154, 0, 39, 42, 185, 0, 132, 1, 0, 78, 3, 54, 4, 21, 4, 27, 163, 0, 16, 45]
abbrev dktX1_change_0 : List UInt8 := dkwX1_change_0 ++ dktX1_change_1
theorem dksX1_change_0 : cX1_change.data.toList.drop 0 = dktX1_change_0 := by decide +kernel
theorem dksX1_change_1 : cX1_change.data.toList.drop 21 = dktX1_change_1 := dk_seg dksX1_change_0 21 rfl rfl
theorem dksX1_change_2 : cX1_change.data.toList.drop 42 = dktX1_change_2 := dk_seg dksX1_change_1 21 rfl rfl
theorem dksX1_change_3 : cX1_change.data.toList.drop 66 = dktX1_change_3 := dk_seg dksX1_change_2 24 rfl rfl
theorem dX1_change_0 : decode cX1_change 0 = .ok (.iload_n 2, 1) := dk_28 (dk_at dksX1_change_0 0 rfl rfl)
theorem dX1_change_1 : decode cX1_change 1 = .ok (.ifCond .ne 39, 3) := dk_154 0 39 (dk_at dksX1_change_0 1 rfl rfl)
theorem dX1_change_4 : decode cX1_change 4 = .ok (.aload_n 0, 1) := dk_42 (dk_at dksX1_change_0 4 rfl rfl)
theorem dX1_change_5 : decode cX1_change 5 = .ok (.invokeinterface 132 1, 5) := by decide +kernel
theorem dX1_change_10 : decode cX1_change 10 = .ok (.astore_n 3, 1) := dk_78 (dk_at dksX1_change_0 10 rfl rfl)
theorem dX1_change_11 : decode cX1_change 11 = .ok (.iconst 0, 1) := dk_3 (dk_at dksX1_change_0 11 rfl rfl)
theorem dX1_change_12 : decode cX1_change 12 = .ok (.istore 4, 2) := dk_54 4 (dk_at dksX1_change_0 12 rfl rfl)
theorem dX1_change_14 : decode cX1_change 14 = .ok (.iload 4, 2) := dk_21 4 (dk_at dksX1_change_0 14 rfl rfl)
theorem dX1_change_16 : decode cX1_change 16 = .ok (.iload_n 1, 1) := dk_27 (dk_at dksX1_change_0 16 rfl rfl)
theorem dX1_change_17 : decode cX1_change 17 = .ok (.if_icmp .gt 16, 3) := dk_163 0 16 (dk_at dksX1_change_0 17 rfl rfl)
theorem dX1_change_20 : decode cX1_change 20 = .ok (.aload_n 3, 1) := dk_45 (dk_at dksX1_change_0 20 rfl rfl)
theorem dX1_change_21 : decode cX1_change 21 = .ok (.invokeinterface 142 1, 5) := by decide +kernel
theorem dX1_change_26 : decode cX1_change 26 = .ok (.pop, 1) := dk_87 (dk_at dksX1_change_1 5 rfl rfl)
theorem dX1_change_27 : decode cX1_change 27 = .ok (.iinc 4 1, 3) := dk_132 4 1 (dk_at dksX1_change_1 6 rfl rfl)
theorem dX1_change_30 : decode cX1_change 30 = .ok (.goto (-16), 3) := dk_167 255 240 (dk_at dksX1_change_1 9 rfl rfl)
theorem dX1_change_33 : decode cX1_change 33 = .ok (.aload_n 3, 1) := dk_45 (dk_at dksX1_change_1 12 rfl rfl)
theorem dX1_change_34 : decode cX1_change 34 = .ok (.invokeinterface 290 1, 5) := by decide +kernel
theorem dX1_change_39 : decode cX1_change 39 = .ok (.return_, 1) := dk_177 (dk_at dksX1_change_1 18 rfl rfl)
theorem dX1_change_40 : decode cX1_change 40 = .ok (.aload_n 0, 1) := dk_42 (dk_at dksX1_change_1 19 rfl rfl)
theorem dX1_change_41 : decode cX1_change 41 = .ok (.iload_n 1, 1) := dk_27 (dk_at dksX1_change_1 20 rfl rfl)
theorem dX1_change_42 : decode cX1_change 42 = .ok (.invokeinterface 153 2, 5) := by decide +kernel
theorem dX1_change_47 : decode cX1_change 47 = .ok (.astore_n 3, 1) := dk_78 (dk_at dksX1_change_2 5 rfl rfl)
theorem dX1_change_48 : decode cX1_change 48 = .ok (.aload_n 3, 1) := dk_45 (dk_at dksX1_change_2 6 rfl rfl)
theorem dX1_change_49 : decode cX1_change 49 = .ok (.invokeinterface 233 1, 5) := by decide +kernel
theorem dX1_change_54 : decode cX1_change 54 = .ok (.pop, 1) := dk_87 (dk_at dksX1_change_2 12 rfl rfl)
theorem dX1_change_55 : decode cX1_change 55 = .ok (.iload_n 2, 1) := dk_28 (dk_at dksX1_change_2 13 rfl rfl)
theorem dX1_change_56 : decode cX1_change 56 = .ok (.iconst 1, 1) := dk_4 (dk_at dksX1_change_2 14 rfl rfl)
theorem dX1_change_57 : decode cX1_change 57 = .ok (.if_icmp .ne 12, 3) := dk_160 0 12 (dk_at dksX1_change_2 15 rfl rfl)
theorem dX1_change_60 : decode cX1_change 60 = .ok (.aload_n 3, 1) := dk_45 (dk_at dksX1_change_2 18 rfl rfl)
theorem dX1_change_61 : decode cX1_change 61 = .ok (.invokeinterface 293 1, 5) := by decide +kernel
theorem dX1_change_66 : decode cX1_change 66 = .ok (.goto 13, 3) := dk_167 0 13 (dk_at dksX1_change_3 0 rfl rfl)
theorem dX1_change_69 : decode cX1_change 69 = .ok (.aload_n 3, 1) := dk_45 (dk_at dksX1_change_3 3 rfl rfl)
theorem dX1_change_70 : decode cX1_change 70 = .ok (.iconst 0, 1) := dk_3 (dk_at dksX1_change_3 4 rfl rfl)
theorem dX1_change_71 : decode cX1_change 71 = .ok (.invokestatic 7, 3) := dk_184 0 7 (dk_at dksX1_change_3 5 rfl rfl)
theorem dX1_change_74 : decode cX1_change 74 = .ok (.invokeinterface 294 2, 5) := by decide +kernel
theorem dX1_change_79 : decode cX1_change 79 = .ok (.return_, 1) := dk_177 (dk_at dksX1_change_3 13 rfl rfl)
abbrev cX1_house : ByteArray := prog_1_method_69_code
def yX1_house : MethodName := ⟨RX1, "house", "(I)I"⟩
def dkwX1_house_0 : List UInt8 := [27, 3, 6, 184, 0, 3, 184, 0, 86, 42, 27, 182, 1, 116, 172]
abbrev dktX1_house_0 : List UInt8 := dkwX1_house_0 ++ []
theorem dksX1_house_0 : cX1_house.data.toList.drop 0 = dktX1_house_0 := by decide +kernel
theorem dX1_house_0 : decode cX1_house 0 = .ok (.iload_n 1, 1) := dk_27 (dk_at dksX1_house_0 0 rfl rfl)
theorem dX1_house_1 : decode cX1_house 1 = .ok (.iconst 0, 1) := dk_3 (dk_at dksX1_house_0 1 rfl rfl)
theorem dX1_house_2 : decode cX1_house 2 = .ok (.iconst 3, 1) := dk_6 (dk_at dksX1_house_0 2 rfl rfl)
theorem dX1_house_3 : decode cX1_house 3 = .ok (.invokestatic 3, 3) := dk_184 0 3 (dk_at dksX1_house_0 3 rfl rfl)
theorem dX1_house_6 : decode cX1_house 6 = .ok (.invokestatic 86, 3) := dk_184 0 86 (dk_at dksX1_house_0 6 rfl rfl)
theorem dX1_house_9 : decode cX1_house 9 = .ok (.aload_n 0, 1) := dk_42 (dk_at dksX1_house_0 9 rfl rfl)
theorem dX1_house_10 : decode cX1_house 10 = .ok (.iload_n 1, 1) := dk_27 (dk_at dksX1_house_0 10 rfl rfl)
theorem dX1_house_11 : decode cX1_house 11 = .ok (.invokevirtual 372, 3) := dk_182 1 116 (dk_at dksX1_house_0 11 rfl rfl)
theorem dX1_house_14 : decode cX1_house 14 = .ok (.ireturn, 1) := dk_172 (dk_at dksX1_house_0 14 rfl rfl)
abbrev cX1_rowOf : ByteArray := prog_1_method_70_code
def yX1_rowOf : MethodName := ⟨RX1, "rowOf", "(I)I"⟩
def dkwX1_rowOf_0 : List UInt8 := [27, 3, 16, 6, 184, 0, 3, 184, 0, 86, 42, 180, 0, 33, 27, 46, 172]
abbrev dktX1_rowOf_0 : List UInt8 := dkwX1_rowOf_0 ++ []
theorem dksX1_rowOf_0 : cX1_rowOf.data.toList.drop 0 = dktX1_rowOf_0 := by decide +kernel
theorem dX1_rowOf_0 : decode cX1_rowOf 0 = .ok (.iload_n 1, 1) := dk_27 (dk_at dksX1_rowOf_0 0 rfl rfl)
theorem dX1_rowOf_1 : decode cX1_rowOf 1 = .ok (.iconst 0, 1) := dk_3 (dk_at dksX1_rowOf_0 1 rfl rfl)
theorem dX1_rowOf_2 : decode cX1_rowOf 2 = .ok (.bipush 6, 2) := dk_16 6 (dk_at dksX1_rowOf_0 2 rfl rfl)
theorem dX1_rowOf_4 : decode cX1_rowOf 4 = .ok (.invokestatic 3, 3) := dk_184 0 3 (dk_at dksX1_rowOf_0 4 rfl rfl)
theorem dX1_rowOf_7 : decode cX1_rowOf 7 = .ok (.invokestatic 86, 3) := dk_184 0 86 (dk_at dksX1_rowOf_0 7 rfl rfl)
theorem dX1_rowOf_10 : decode cX1_rowOf 10 = .ok (.aload_n 0, 1) := dk_42 (dk_at dksX1_rowOf_0 10 rfl rfl)
theorem dX1_rowOf_11 : decode cX1_rowOf 11 = .ok (.getfield 33, 3) := dk_180 0 33 (dk_at dksX1_rowOf_0 11 rfl rfl)
theorem dX1_rowOf_14 : decode cX1_rowOf 14 = .ok (.iload_n 1, 1) := dk_27 (dk_at dksX1_rowOf_0 14 rfl rfl)
theorem dX1_rowOf_15 : decode cX1_rowOf 15 = .ok (.iaload, 1) := dk_46 (dk_at dksX1_rowOf_0 15 rfl rfl)
theorem dX1_rowOf_16 : decode cX1_rowOf 16 = .ok (.ireturn, 1) := dk_172 (dk_at dksX1_rowOf_0 16 rfl rfl)
abbrev cX1_begin : ByteArray := prog_1_method_71_code
def yX1_begin : MethodName := ⟨RX1, "begin", "(I)I"⟩
def dkwX1_begin_0 : List UInt8 := [27, 3, 16, 6, 184, 0, 3, 184, 0, 86, 42, 180, 0, 37, 27, 46, 172]
abbrev dktX1_begin_0 : List UInt8 := dkwX1_begin_0 ++ []
theorem dksX1_begin_0 : cX1_begin.data.toList.drop 0 = dktX1_begin_0 := by decide +kernel
theorem dX1_begin_0 : decode cX1_begin 0 = .ok (.iload_n 1, 1) := dk_27 (dk_at dksX1_begin_0 0 rfl rfl)
theorem dX1_begin_1 : decode cX1_begin 1 = .ok (.iconst 0, 1) := dk_3 (dk_at dksX1_begin_0 1 rfl rfl)
theorem dX1_begin_2 : decode cX1_begin 2 = .ok (.bipush 6, 2) := dk_16 6 (dk_at dksX1_begin_0 2 rfl rfl)
theorem dX1_begin_4 : decode cX1_begin 4 = .ok (.invokestatic 3, 3) := dk_184 0 3 (dk_at dksX1_begin_0 4 rfl rfl)
theorem dX1_begin_7 : decode cX1_begin 7 = .ok (.invokestatic 86, 3) := dk_184 0 86 (dk_at dksX1_begin_0 7 rfl rfl)
theorem dX1_begin_10 : decode cX1_begin 10 = .ok (.aload_n 0, 1) := dk_42 (dk_at dksX1_begin_0 10 rfl rfl)
theorem dX1_begin_11 : decode cX1_begin 11 = .ok (.getfield 37, 3) := dk_180 0 37 (dk_at dksX1_begin_0 11 rfl rfl)
theorem dX1_begin_14 : decode cX1_begin 14 = .ok (.iload_n 1, 1) := dk_27 (dk_at dksX1_begin_0 14 rfl rfl)
theorem dX1_begin_15 : decode cX1_begin 15 = .ok (.iaload, 1) := dk_46 (dk_at dksX1_begin_0 15 rfl rfl)
theorem dX1_begin_16 : decode cX1_begin 16 = .ok (.ireturn, 1) := dk_172 (dk_at dksX1_begin_0 16 rfl rfl)
theorem q56 : (Jvm.Cond.initialized "Twinrow") ∈ lw_all := lw_g (lw_at lw_m1 1 rfl) rfl
theorem q109 : (Jvm.Cond.instantiable "Twinrow" (6 : Nat)) ∈ lw_all := lw_g (lw_at lw_m1 54 rfl) rfl
theorem q111 : (Jvm.Cond.instanceMethod ({ cls := "Twinrow", name := "<init>", desc := "()V" } : Jvm.MethodName)) ∈ lw_all := lw_g (lw_at lw_m1 56 rfl) rfl
theorem q112 : (Jvm.Cond.code ({ cls := "Twinrow", name := "<init>", desc := "()V" } : Jvm.MethodName) prog_1_method_6_code (2 : Nat) (Option.none : Option Jvm.ClassFile.FieldType)) ∈ lw_all := lw_g (lw_at lw_m1 57 rfl) rfl
theorem q113 : (Jvm.Cond.methodLink "Twinrow" (17 : Nat) ({ cls := "java/lang/Object", name := "<init>", desc := "()V" } : Jvm.MethodName)) ∈ lw_all := lw_g (lw_at lw_m1 58 rfl) rfl
theorem q116 : (Jvm.Cond.classLink "Twinrow" (23 : Nat) "java/util/ArrayList") ∈ lw_all := lw_g (lw_at lw_m1 61 rfl) rfl
theorem q118 : (Jvm.Cond.methodLink "Twinrow" (25 : Nat) ({ cls := "java/util/ArrayList", name := "<init>", desc := "()V" } : Jvm.MethodName)) ∈ lw_all := lw_g (lw_at lw_m1 63 rfl) rfl
theorem q160 : (Jvm.Cond.methodLink "Twinrow" (40 : Nat) ({ cls := "Twinrow", name := "zeros", desc := "(I)[Ljava/lang/Integer;" } : Jvm.MethodName)) ∈ lw_all := lw_g (lw_at lw_m1 105 rfl) rfl
theorem q161 : (Jvm.Cond.static ({ cls := "Twinrow", name := "zeros", desc := "(I)[Ljava/lang/Integer;" } : Jvm.MethodName)) ∈ lw_all := lw_g (lw_at lw_m1 106 rfl) rfl
theorem q162 : (Jvm.Cond.code ({ cls := "Twinrow", name := "zeros", desc := "(I)[Ljava/lang/Integer;" } : Jvm.MethodName) prog_1_method_7_code (3 : Nat) (Option.some (Jvm.ClassFile.FieldType.array (Jvm.ClassFile.FieldType.object "java/lang/Integer")))) ∈ lw_all := lw_g (lw_at lw_m1 107 rfl) rfl
theorem q163 : (Jvm.Cond.classLink "Twinrow" (8 : Nat) "java/lang/Integer") ∈ lw_all := lw_g (lw_at lw_m1 108 rfl) rfl
theorem q165 : (Jvm.Cond.methodLink "Twinrow" (7 : Nat) ({ cls := "java/lang/Integer", name := "valueOf", desc := "(I)Ljava/lang/Integer;" } : Jvm.MethodName)) ∈ lw_all := lw_g (lw_at lw_m1 110 rfl) rfl
theorem q186 : (Jvm.Cond.methodLink "Twinrow" (44 : Nat) ({ cls := "java/util/ArrayList", name := "add", desc := "(Ljava/lang/Object;)Z" } : Jvm.MethodName)) ∈ lw_all := lw_g (lw_at lw_m1 131 rfl) rfl
theorem q218 : (Jvm.Cond.selects "Twinrow" ({ cls := "java/lang/Object", name := "getClass", desc := "()Ljava/lang/Class;" } : Jvm.MethodName) ({ cls := "java/lang/Object", name := "getClass", desc := "()Ljava/lang/Class;" } : Jvm.MethodName)) ∈ lw_all := lw_g (lw_at lw_m1 163 rfl) rfl
theorem q265 : (Jvm.Cond.methodLink "Twinrow" (48 : Nat) ({ cls := "java/util/ArrayList", name := "get", desc := "(I)Ljava/lang/Object;" } : Jvm.MethodName)) ∈ lw_all := lw_g (lw_at lw_m1 210 rfl) rfl
theorem q279 : (Jvm.Cond.classLink "Twinrow" (52 : Nat) "[Ljava/lang/Integer;") ∈ lw_all := lw_g (lw_at lw_m1 224 rfl) rfl
theorem q280 : (Jvm.Cond.methodLink "Twinrow" (54 : Nat) ({ cls := "java/util/Arrays", name := "asList", desc := "([Ljava/lang/Object;)Ljava/util/List;" } : Jvm.MethodName)) ∈ lw_all := lw_g (lw_at lw_m1 225 rfl) rfl
theorem q298 : (Jvm.Cond.fieldLink "Twinrow" (26 : Nat) "Twinrow" "rows" "Ljava/util/ArrayList;") ∈ lw_all := lw_g (lw_at lw_m2 3 rfl) rfl
theorem q299 : (Jvm.Cond.fieldLink "Twinrow" (30 : Nat) "Twinrow" "lists" "Ljava/util/ArrayList;") ∈ lw_all := lw_g (lw_at lw_m2 4 rfl) rfl
theorem q300 : (Jvm.Cond.fieldLink "Twinrow" (33 : Nat) "Twinrow" "rowsOf" "[I") ∈ lw_all := lw_g (lw_at lw_m2 5 rfl) rfl
theorem q301 : (Jvm.Cond.fieldLink "Twinrow" (37 : Nat) "Twinrow" "begins" "[I") ∈ lw_all := lw_g (lw_at lw_m2 6 rfl) rfl
theorem q302 : (Jvm.Cond.fieldLink "Twinrow" (334 : Nat) "Twinrow" "knocks" "I") ∈ lw_all := lw_g (lw_at lw_m2 7 rfl) rfl
theorem q303 : (Jvm.Cond.fieldLink "Twinrow" (89 : Nat) "Twinrow" "refusals" "I") ∈ lw_all := lw_g (lw_at lw_m2 8 rfl) rfl
theorem q304 : (Jvm.Cond.laysFinal "Twinrow" "Twinrow" "rows" "Ljava/util/ArrayList;") ∈ lw_all := lw_g (lw_at lw_m2 9 rfl) rfl
theorem q305 : (Jvm.Cond.soleField "Twinrow" "rows") ∈ lw_all := lw_g (lw_at lw_m2 10 rfl) rfl
theorem q306 : (Jvm.Cond.laysFinal "Twinrow" "Twinrow" "lists" "Ljava/util/ArrayList;") ∈ lw_all := lw_g (lw_at lw_m2 11 rfl) rfl
theorem q307 : (Jvm.Cond.soleField "Twinrow" "lists") ∈ lw_all := lw_g (lw_at lw_m2 12 rfl) rfl
theorem q308 : (Jvm.Cond.laysFinal "Twinrow" "Twinrow" "rowsOf" "[I") ∈ lw_all := lw_g (lw_at lw_m2 13 rfl) rfl
theorem q309 : (Jvm.Cond.soleField "Twinrow" "rowsOf") ∈ lw_all := lw_g (lw_at lw_m2 14 rfl) rfl
theorem q310 : (Jvm.Cond.laysFinal "Twinrow" "Twinrow" "begins" "[I") ∈ lw_all := lw_g (lw_at lw_m2 15 rfl) rfl
theorem q311 : (Jvm.Cond.soleField "Twinrow" "begins") ∈ lw_all := lw_g (lw_at lw_m2 16 rfl) rfl
theorem q312 : (Jvm.Cond.lays "Twinrow" "Twinrow" "knocks" "I") ∈ lw_all := lw_g (lw_at lw_m2 17 rfl) rfl
theorem q313 : (Jvm.Cond.soleField "Twinrow" "knocks") ∈ lw_all := lw_g (lw_at lw_m2 18 rfl) rfl
theorem q314 : (Jvm.Cond.lays "Twinrow" "Twinrow" "refusals" "I") ∈ lw_all := lw_g (lw_at lw_m2 19 rfl) rfl
theorem q315 : (Jvm.Cond.soleField "Twinrow" "refusals") ∈ lw_all := lw_g (lw_at lw_m2 20 rfl) rfl
theorem q316 : (Jvm.Cond.superclass "Twinrow" "java/lang/Object") ∈ lw_all := lw_g (lw_at lw_m2 21 rfl) rfl
theorem q318 : (Jvm.Cond.instanceMethod ({ cls := "Twinrow", name := "knock", desc := "()I" } : Jvm.MethodName)) ∈ lw_all := lw_g (lw_at lw_m2 23 rfl) rfl
theorem q319 : (Jvm.Cond.selects "Twinrow" ({ cls := "Twinrow", name := "knock", desc := "()I" } : Jvm.MethodName) ({ cls := "Twinrow", name := "knock", desc := "()I" } : Jvm.MethodName)) ∈ lw_all := lw_g (lw_at lw_m2 24 rfl) rfl
theorem q320 : (Jvm.Cond.code ({ cls := "Twinrow", name := "knock", desc := "()I" } : Jvm.MethodName) prog_1_method_68_code (1 : Nat) (Option.some Jvm.ClassFile.FieldType.int)) ∈ lw_all := lw_g (lw_at lw_m2 25 rfl) rfl
theorem q322 : (Jvm.Cond.instanceMethod ({ cls := "Twinrow", name := "isSound", desc := "()Z" } : Jvm.MethodName)) ∈ lw_all := lw_g (lw_at lw_m2 27 rfl) rfl
theorem q323 : (Jvm.Cond.selects "Twinrow" ({ cls := "Twinrow", name := "isSound", desc := "()Z" } : Jvm.MethodName) ({ cls := "Twinrow", name := "isSound", desc := "()Z" } : Jvm.MethodName)) ∈ lw_all := lw_g (lw_at lw_m2 28 rfl) rfl
theorem q324 : (Jvm.Cond.code ({ cls := "Twinrow", name := "isSound", desc := "()Z" } : Jvm.MethodName) prog_1_method_72_code (1 : Nat) (Option.some Jvm.ClassFile.FieldType.boolean)) ∈ lw_all := lw_g (lw_at lw_m2 29 rfl) rfl
theorem q325 : (Jvm.Cond.methodLink "Twinrow" (376 : Nat) ({ cls := "Twinrow", name := "isSoundNow", desc := "()Z" } : Jvm.MethodName)) ∈ lw_all := lw_g (lw_at lw_m2 30 rfl) rfl
theorem q326 : (Jvm.Cond.privateMethod ({ cls := "Twinrow", name := "isSoundNow", desc := "()Z" } : Jvm.MethodName)) ∈ lw_tbl := lw_at lw_m2 31 rfl
theorem q327 : (Jvm.Cond.instanceMethod ({ cls := "Twinrow", name := "isSoundNow", desc := "()Z" } : Jvm.MethodName)) ∈ lw_all := lw_g (lw_at lw_m2 32 rfl) rfl
theorem q328 : (Jvm.Cond.code ({ cls := "Twinrow", name := "isSoundNow", desc := "()Z" } : Jvm.MethodName) prog_1_method_66_code (3 : Nat) (Option.some Jvm.ClassFile.FieldType.boolean)) ∈ lw_all := lw_g (lw_at lw_m2 33 rfl) rfl
theorem q329 : (Jvm.Cond.methodLink "Twinrow" (66 : Nat) ({ cls := "Twinrow", name := "isList", desc := "(I)Z" } : Jvm.MethodName)) ∈ lw_all := lw_g (lw_at lw_m2 34 rfl) rfl
theorem q330 : (Jvm.Cond.privateMethod ({ cls := "Twinrow", name := "isList", desc := "(I)Z" } : Jvm.MethodName)) ∈ lw_tbl := lw_at lw_m2 35 rfl
theorem q331 : (Jvm.Cond.instanceMethod ({ cls := "Twinrow", name := "isList", desc := "(I)Z" } : Jvm.MethodName)) ∈ lw_all := lw_g (lw_at lw_m2 36 rfl) rfl
theorem q332 : (Jvm.Cond.code ({ cls := "Twinrow", name := "isList", desc := "(I)Z" } : Jvm.MethodName) prog_1_method_10_code (2 : Nat) (Option.some Jvm.ClassFile.FieldType.boolean)) ∈ lw_all := lw_g (lw_at lw_m2 37 rfl) rfl
theorem q333 : (Jvm.Cond.methodLink "Twinrow" (3 : Nat) ({ cls := "Twinrow", name := "isIn", desc := "(III)Z" } : Jvm.MethodName)) ∈ lw_all := lw_g (lw_at lw_m2 38 rfl) rfl
theorem q334 : (Jvm.Cond.static ({ cls := "Twinrow", name := "isIn", desc := "(III)Z" } : Jvm.MethodName)) ∈ lw_all := lw_g (lw_at lw_m2 39 rfl) rfl
theorem q335 : (Jvm.Cond.code ({ cls := "Twinrow", name := "isIn", desc := "(III)Z" } : Jvm.MethodName) prog_1_method_1_code (3 : Nat) (Option.some Jvm.ClassFile.FieldType.boolean)) ∈ lw_all := lw_g (lw_at lw_m2 40 rfl) rfl
theorem q336 : (Jvm.Cond.methodLink "Twinrow" (367 : Nat) ({ cls := "Twinrow", name := "isListSound", desc := "(I)Z" } : Jvm.MethodName)) ∈ lw_all := lw_g (lw_at lw_m2 41 rfl) rfl
theorem q337 : (Jvm.Cond.privateMethod ({ cls := "Twinrow", name := "isListSound", desc := "(I)Z" } : Jvm.MethodName)) ∈ lw_tbl := lw_at lw_m2 42 rfl
theorem q338 : (Jvm.Cond.instanceMethod ({ cls := "Twinrow", name := "isListSound", desc := "(I)Z" } : Jvm.MethodName)) ∈ lw_all := lw_g (lw_at lw_m2 43 rfl) rfl
theorem q339 : (Jvm.Cond.code ({ cls := "Twinrow", name := "isListSound", desc := "(I)Z" } : Jvm.MethodName) prog_1_method_65_code (6 : Nat) (Option.some Jvm.ClassFile.FieldType.boolean)) ∈ lw_all := lw_g (lw_at lw_m2 44 rfl) rfl
theorem q340 : (Jvm.Cond.classLink "Twinrow" (74 : Nat) "java/util/List") ∈ lw_all := lw_g (lw_at lw_m2 45 rfl) rfl
theorem q341 : (Jvm.Cond.methodLink "Twinrow" (347 : Nat) ({ cls := "Twinrow", name := "own", desc := "(I)Ljava/util/ArrayList;" } : Jvm.MethodName)) ∈ lw_all := lw_g (lw_at lw_m2 46 rfl) rfl
theorem q342 : (Jvm.Cond.privateMethod ({ cls := "Twinrow", name := "own", desc := "(I)Ljava/util/ArrayList;" } : Jvm.MethodName)) ∈ lw_tbl := lw_at lw_m2 47 rfl
theorem q343 : (Jvm.Cond.instanceMethod ({ cls := "Twinrow", name := "own", desc := "(I)Ljava/util/ArrayList;" } : Jvm.MethodName)) ∈ lw_all := lw_g (lw_at lw_m2 48 rfl) rfl
theorem q344 : (Jvm.Cond.code ({ cls := "Twinrow", name := "own", desc := "(I)Ljava/util/ArrayList;" } : Jvm.MethodName) prog_1_method_61_code (4 : Nat) (Option.some (Jvm.ClassFile.FieldType.object "java/util/ArrayList"))) ∈ lw_all := lw_g (lw_at lw_m2 49 rfl) rfl
theorem q345 : (Jvm.Cond.interfaceEntry "Twinrow" (80 : Nat)) ∈ lw_tbl := lw_at lw_m2 50 rfl
theorem q346 : (Jvm.Cond.methodLink "Twinrow" (80 : Nat) ({ cls := "java/util/List", name := "size", desc := "()I" } : Jvm.MethodName)) ∈ lw_all := lw_g (lw_at lw_m2 51 rfl) rfl
theorem q386 : (Jvm.Cond.methodLink "Twinrow" (337 : Nat) ({ cls := "java/util/ArrayList", name := "size", desc := "()I" } : Jvm.MethodName)) ∈ lw_all := lw_g (lw_at lw_m2 91 rfl) rfl
theorem q387 : (Jvm.Cond.interfaceEntry "Twinrow" (220 : Nat)) ∈ lw_tbl := lw_at lw_m2 92 rfl
theorem q388 : (Jvm.Cond.methodLink "Twinrow" (220 : Nat) ({ cls := "java/util/List", name := "equals", desc := "(Ljava/lang/Object;)Z" } : Jvm.MethodName)) ∈ lw_all := lw_g (lw_at lw_m2 93 rfl) rfl
theorem q1106 : (Jvm.Cond.selects "Twinrow" ({ cls := "java/lang/Object", name := "equals", desc := "(Ljava/lang/Object;)Z" } : Jvm.MethodName) ({ cls := "java/lang/Object", name := "equals", desc := "(Ljava/lang/Object;)Z" } : Jvm.MethodName)) ∈ lw_all := lw_g (lw_at lw_m5 91 rfl) rfl
theorem q1267 : (Jvm.Cond.methodLink "Twinrow" (351 : Nat) ({ cls := "java/util/ArrayList", name := "equals", desc := "(Ljava/lang/Object;)Z" } : Jvm.MethodName)) ∈ lw_all := lw_g (lw_at lw_m6 12 rfl) rfl
theorem q1268 : (Jvm.Cond.interfaceEntry "Twinrow" (223 : Nat)) ∈ lw_tbl := lw_at lw_m6 13 rfl
theorem q1269 : (Jvm.Cond.methodLink "Twinrow" (223 : Nat) ({ cls := "java/util/List", name := "hashCode", desc := "()I" } : Jvm.MethodName)) ∈ lw_all := lw_g (lw_at lw_m6 14 rfl) rfl
theorem q1294 : (Jvm.Cond.selects "Twinrow" ({ cls := "java/lang/Object", name := "hashCode", desc := "()I" } : Jvm.MethodName) ({ cls := "java/lang/Object", name := "hashCode", desc := "()I" } : Jvm.MethodName)) ∈ lw_all := lw_g (lw_at lw_m6 39 rfl) rfl
theorem q1396 : (Jvm.Cond.methodLink "Twinrow" (352 : Nat) ({ cls := "Twinrow", name := "codeOf", desc := "(Ljava/util/ArrayList;)I" } : Jvm.MethodName)) ∈ lw_all := lw_g (lw_at lw_m6 141 rfl) rfl
theorem q1397 : (Jvm.Cond.static ({ cls := "Twinrow", name := "codeOf", desc := "(Ljava/util/ArrayList;)I" } : Jvm.MethodName)) ∈ lw_all := lw_g (lw_at lw_m6 142 rfl) rfl
theorem q1398 : (Jvm.Cond.code ({ cls := "Twinrow", name := "codeOf", desc := "(Ljava/util/ArrayList;)I" } : Jvm.MethodName) prog_1_method_62_code (4 : Nat) (Option.some Jvm.ClassFile.FieldType.int)) ∈ lw_all := lw_g (lw_at lw_m6 143 rfl) rfl
theorem q1399 : (Jvm.Cond.methodLink "Twinrow" (333 : Nat) ({ cls := "java/util/ArrayList", name := "iterator", desc := "()Ljava/util/Iterator;" } : Jvm.MethodName)) ∈ lw_all := lw_g (lw_at lw_m6 144 rfl) rfl
theorem q1400 : (Jvm.Cond.interfaceEntry "Twinrow" (136 : Nat)) ∈ lw_tbl := lw_at lw_m6 145 rfl
theorem q1401 : (Jvm.Cond.methodLink "Twinrow" (136 : Nat) ({ cls := "java/util/Iterator", name := "hasNext", desc := "()Z" } : Jvm.MethodName)) ∈ lw_all := lw_g (lw_at lw_m6 146 rfl) rfl
theorem q1402 : (Jvm.Cond.interfaceEntry "Twinrow" (142 : Nat)) ∈ lw_tbl := lw_at lw_m6 147 rfl
theorem q1403 : (Jvm.Cond.methodLink "Twinrow" (142 : Nat) ({ cls := "java/util/Iterator", name := "next", desc := "()Ljava/lang/Object;" } : Jvm.MethodName)) ∈ lw_all := lw_g (lw_at lw_m6 148 rfl) rfl
theorem q1404 : (Jvm.Cond.methodLink "Twinrow" (13 : Nat) ({ cls := "java/lang/Integer", name := "intValue", desc := "()I" } : Jvm.MethodName)) ∈ lw_all := lw_g (lw_at lw_m6 149 rfl) rfl
theorem q1405 : (Jvm.Cond.methodLink "Twinrow" (356 : Nat) ({ cls := "Twinrow", name := "arePlacesRight", desc := "(Ljava/util/List;Ljava/util/ArrayList;)Z" } : Jvm.MethodName)) ∈ lw_all := lw_g (lw_at lw_m6 150 rfl) rfl
theorem q1406 : (Jvm.Cond.static ({ cls := "Twinrow", name := "arePlacesRight", desc := "(Ljava/util/List;Ljava/util/ArrayList;)Z" } : Jvm.MethodName)) ∈ lw_all := lw_g (lw_at lw_m6 151 rfl) rfl
theorem q1407 : (Jvm.Cond.code ({ cls := "Twinrow", name := "arePlacesRight", desc := "(Ljava/util/List;Ljava/util/ArrayList;)Z" } : Jvm.MethodName) prog_1_method_63_code (7 : Nat) (Option.some Jvm.ClassFile.FieldType.boolean)) ∈ lw_all := lw_g (lw_at lw_m6 152 rfl) rfl
theorem q1408 : (Jvm.Cond.methodLink "Twinrow" (120 : Nat) ({ cls := "Twinrow", name := "told", desc := "(Ljava/lang/Integer;)I" } : Jvm.MethodName)) ∈ lw_all := lw_g (lw_at lw_m6 153 rfl) rfl
theorem q1409 : (Jvm.Cond.static ({ cls := "Twinrow", name := "told", desc := "(Ljava/lang/Integer;)I" } : Jvm.MethodName)) ∈ lw_all := lw_g (lw_at lw_m6 154 rfl) rfl
theorem q1410 : (Jvm.Cond.code ({ cls := "Twinrow", name := "told", desc := "(Ljava/lang/Integer;)I" } : Jvm.MethodName) prog_1_method_5_code (1 : Nat) (Option.some Jvm.ClassFile.FieldType.int)) ∈ lw_all := lw_g (lw_at lw_m6 155 rfl) rfl
theorem q1411 : (Jvm.Cond.methodLink "Twinrow" (338 : Nat) ({ cls := "java/lang/Math", name := "min", desc := "(II)I" } : Jvm.MethodName)) ∈ lw_all := lw_g (lw_at lw_m6 156 rfl) rfl
theorem q1412 : (Jvm.Cond.methodLink "Twinrow" (344 : Nat) ({ cls := "java/lang/Math", name := "max", desc := "(II)I" } : Jvm.MethodName)) ∈ lw_all := lw_g (lw_at lw_m6 157 rfl) rfl
theorem q1413 : (Jvm.Cond.interfaceEntry "Twinrow" (192 : Nat)) ∈ lw_tbl := lw_at lw_m6 158 rfl
theorem q1414 : (Jvm.Cond.methodLink "Twinrow" (192 : Nat) ({ cls := "java/util/List", name := "indexOf", desc := "(Ljava/lang/Object;)I" } : Jvm.MethodName)) ∈ lw_all := lw_g (lw_at lw_m6 159 rfl) rfl
theorem q1472 : (Jvm.Cond.interfaceEntry "Twinrow" (196 : Nat)) ∈ lw_tbl := lw_at lw_m6 217 rfl
theorem q1473 : (Jvm.Cond.methodLink "Twinrow" (196 : Nat) ({ cls := "java/util/List", name := "lastIndexOf", desc := "(Ljava/lang/Object;)I" } : Jvm.MethodName)) ∈ lw_all := lw_g (lw_at lw_m6 218 rfl) rfl
theorem q1565 : (Jvm.Cond.interfaceEntry "Twinrow" (181 : Nat)) ∈ lw_tbl := lw_at lw_m7 70 rfl
theorem q1566 : (Jvm.Cond.methodLink "Twinrow" (181 : Nat) ({ cls := "java/util/List", name := "get", desc := "(I)Ljava/lang/Object;" } : Jvm.MethodName)) ∈ lw_all := lw_g (lw_at lw_m7 71 rfl) rfl
theorem q1583 : (Jvm.Cond.methodLink "Twinrow" (185 : Nat) ({ cls := "Twinrow", name := "forth", desc := "(Ljava/util/List;)Ljava/lang/String;" } : Jvm.MethodName)) ∈ lw_all := lw_g (lw_at lw_m7 88 rfl) rfl
theorem q1584 : (Jvm.Cond.static ({ cls := "Twinrow", name := "forth", desc := "(Ljava/util/List;)Ljava/lang/String;" } : Jvm.MethodName)) ∈ lw_all := lw_g (lw_at lw_m7 89 rfl) rfl
theorem q1585 : (Jvm.Cond.code ({ cls := "Twinrow", name := "forth", desc := "(Ljava/util/List;)Ljava/lang/String;" } : Jvm.MethodName) prog_1_method_21_code (3 : Nat) (Option.some (Jvm.ClassFile.FieldType.object "java/lang/String"))) ∈ lw_all := lw_g (lw_at lw_m7 90 rfl) rfl
theorem q1586 : (Jvm.Cond.classLink "Twinrow" (94 : Nat) "java/lang/StringBuilder") ∈ lw_all := lw_g (lw_at lw_m7 91 rfl) rfl
theorem q1587 : (Jvm.Cond.methodLink "Twinrow" (131 : Nat) ({ cls := "java/lang/StringBuilder", name := "<init>", desc := "()V" } : Jvm.MethodName)) ∈ lw_all := lw_g (lw_at lw_m7 92 rfl) rfl
theorem q1588 : (Jvm.Cond.interfaceEntry "Twinrow" (132 : Nat)) ∈ lw_tbl := lw_at lw_m7 93 rfl
theorem q1589 : (Jvm.Cond.methodLink "Twinrow" (132 : Nat) ({ cls := "java/util/List", name := "iterator", desc := "()Ljava/util/Iterator;" } : Jvm.MethodName)) ∈ lw_all := lw_g (lw_at lw_m7 94 rfl) rfl
theorem q1590 : (Jvm.Cond.methodLink "Twinrow" (146 : Nat) ({ cls := "Twinrow", name := "add", desc := "(Ljava/lang/StringBuilder;Ljava/lang/Integer;)V" } : Jvm.MethodName)) ∈ lw_all := lw_g (lw_at lw_m7 95 rfl) rfl
theorem q1591 : (Jvm.Cond.static ({ cls := "Twinrow", name := "add", desc := "(Ljava/lang/StringBuilder;Ljava/lang/Integer;)V" } : Jvm.MethodName)) ∈ lw_all := lw_g (lw_at lw_m7 96 rfl) rfl
theorem q1592 : (Jvm.Cond.code ({ cls := "Twinrow", name := "add", desc := "(Ljava/lang/StringBuilder;Ljava/lang/Integer;)V" } : Jvm.MethodName) prog_1_method_16_code (2 : Nat) (Option.none : Option Jvm.ClassFile.FieldType)) ∈ lw_all := lw_g (lw_at lw_m7 97 rfl) rfl
theorem q1593 : (Jvm.Cond.methodLink "Twinrow" (93 : Nat) ({ cls := "java/lang/StringBuilder", name := "length", desc := "()I" } : Jvm.MethodName)) ∈ lw_all := lw_g (lw_at lw_m7 98 rfl) rfl
theorem q1594 : (Jvm.Cond.stringRef "Twinrow" (98 : Nat) "") ∈ lw_tbl := lw_at lw_m7 99 rfl
theorem q1595 : (Jvm.Cond.stringRef "Twinrow" (100 : Nat) " ") ∈ lw_tbl := lw_at lw_m7 100 rfl
theorem q1596 : (Jvm.Cond.methodLink "Twinrow" (102 : Nat) ({ cls := "java/lang/StringBuilder", name := "append", desc := "(Ljava/lang/String;)Ljava/lang/StringBuilder;" } : Jvm.MethodName)) ∈ lw_all := lw_g (lw_at lw_m7 101 rfl) rfl
theorem q1597 : (Jvm.Cond.methodLink "Twinrow" (106 : Nat) ({ cls := "java/lang/StringBuilder", name := "append", desc := "(C)Ljava/lang/StringBuilder;" } : Jvm.MethodName)) ∈ lw_all := lw_g (lw_at lw_m7 102 rfl) rfl
theorem q1617 : (Jvm.Cond.methodLink "Twinrow" (109 : Nat) ({ cls := "java/lang/StringBuilder", name := "append", desc := "(I)Ljava/lang/StringBuilder;" } : Jvm.MethodName)) ∈ lw_all := lw_g (lw_at lw_m7 122 rfl) rfl
theorem q1618 : (Jvm.Cond.methodLink "Twinrow" (149 : Nat) ({ cls := "java/lang/StringBuilder", name := "toString", desc := "()Ljava/lang/String;" } : Jvm.MethodName)) ∈ lw_all := lw_g (lw_at lw_m7 123 rfl) rfl
theorem q1619 : (Jvm.Cond.methodLink "Twinrow" (360 : Nat) ({ cls := "java/lang/String", name := "equals", desc := "(Ljava/lang/Object;)Z" } : Jvm.MethodName)) ∈ lw_all := lw_g (lw_at lw_m7 124 rfl) rfl
theorem q1620 : (Jvm.Cond.methodLink "Twinrow" (189 : Nat) ({ cls := "Twinrow", name := "backward", desc := "(Ljava/util/List;)Ljava/lang/String;" } : Jvm.MethodName)) ∈ lw_all := lw_g (lw_at lw_m7 125 rfl) rfl
theorem q1621 : (Jvm.Cond.static ({ cls := "Twinrow", name := "backward", desc := "(Ljava/util/List;)Ljava/lang/String;" } : Jvm.MethodName)) ∈ lw_all := lw_g (lw_at lw_m7 126 rfl) rfl
theorem q1622 : (Jvm.Cond.code ({ cls := "Twinrow", name := "backward", desc := "(Ljava/util/List;)Ljava/lang/String;" } : Jvm.MethodName) prog_1_method_22_code (3 : Nat) (Option.some (Jvm.ClassFile.FieldType.object "java/lang/String"))) ∈ lw_all := lw_g (lw_at lw_m7 127 rfl) rfl
theorem q1623 : (Jvm.Cond.interfaceEntry "Twinrow" (153 : Nat)) ∈ lw_tbl := lw_at lw_m7 128 rfl
theorem q1624 : (Jvm.Cond.methodLink "Twinrow" (153 : Nat) ({ cls := "java/util/List", name := "listIterator", desc := "(I)Ljava/util/ListIterator;" } : Jvm.MethodName)) ∈ lw_all := lw_g (lw_at lw_m7 129 rfl) rfl
theorem q1641 : (Jvm.Cond.interfaceEntry "Twinrow" (157 : Nat)) ∈ lw_tbl := lw_at lw_m7 146 rfl
theorem q1642 : (Jvm.Cond.methodLink "Twinrow" (157 : Nat) ({ cls := "java/util/ListIterator", name := "hasPrevious", desc := "()Z" } : Jvm.MethodName)) ∈ lw_all := lw_g (lw_at lw_m7 147 rfl) rfl
theorem q1643 : (Jvm.Cond.interfaceEntry "Twinrow" (162 : Nat)) ∈ lw_tbl := lw_at lw_m7 148 rfl
theorem q1644 : (Jvm.Cond.methodLink "Twinrow" (162 : Nat) ({ cls := "java/util/ListIterator", name := "previous", desc := "()Ljava/lang/Object;" } : Jvm.MethodName)) ∈ lw_all := lw_g (lw_at lw_m7 149 rfl) rfl
theorem q1645 : (Jvm.Cond.methodLink "Twinrow" (363 : Nat) ({ cls := "Twinrow", name := "isStiff", desc := "(Ljava/util/List;)Z" } : Jvm.MethodName)) ∈ lw_all := lw_g (lw_at lw_m7 150 rfl) rfl
theorem q1646 : (Jvm.Cond.static ({ cls := "Twinrow", name := "isStiff", desc := "(Ljava/util/List;)Z" } : Jvm.MethodName)) ∈ lw_all := lw_g (lw_at lw_m7 151 rfl) rfl
theorem q1647 : (Jvm.Cond.codeWith ({ cls := "Twinrow", name := "isStiff", desc := "(Ljava/util/List;)Z" } : Jvm.MethodName) prog_1_method_64_code (3 : Nat) (Option.some Jvm.ClassFile.FieldType.boolean) [((2 : Nat), (12 : Nat), (15 : Nat), (297 : Nat)), ((18 : Nat), (42 : Nat), (43 : Nat), (297 : Nat))]) ∈ lw_all := lw_g (lw_at lw_m7 152 rfl) rfl
theorem q1648 : (Jvm.Cond.classLink "Twinrow" (297 : Nat) "java/lang/UnsupportedOperationException") ∈ lw_all := lw_g (lw_at lw_m7 153 rfl) rfl
theorem q1649 : (Jvm.Cond.interfaceEntry "Twinrow" (296 : Nat)) ∈ lw_tbl := lw_at lw_m7 154 rfl
theorem q1650 : (Jvm.Cond.methodLink "Twinrow" (296 : Nat) ({ cls := "java/util/List", name := "add", desc := "(Ljava/lang/Object;)Z" } : Jvm.MethodName)) ∈ lw_all := lw_g (lw_at lw_m7 155 rfl) rfl
theorem q1714 : (Jvm.Cond.interfaceEntry "Twinrow" (327 : Nat)) ∈ lw_tbl := lw_at lw_m7 219 rfl
theorem q1715 : (Jvm.Cond.methodLink "Twinrow" (327 : Nat) ({ cls := "java/util/List", name := "clear", desc := "()V" } : Jvm.MethodName)) ∈ lw_all := lw_g (lw_at lw_m7 220 rfl) rfl
theorem q1848 : (Jvm.Cond.interfaceEntry "Twinrow" (182 : Nat)) ∈ lw_tbl := lw_at lw_m8 113 rfl
theorem q1849 : (Jvm.Cond.methodLink "Twinrow" (182 : Nat) ({ cls := "java/util/List", name := "isEmpty", desc := "()Z" } : Jvm.MethodName)) ∈ lw_all := lw_g (lw_at lw_m8 114 rfl) rfl
theorem q1870 : (Jvm.Cond.instanceMethod ({ cls := "Twinrow", name := "digest", desc := "()J" } : Jvm.MethodName)) ∈ lw_all := lw_g (lw_at lw_m8 135 rfl) rfl
theorem q1871 : (Jvm.Cond.selects "Twinrow" ({ cls := "Twinrow", name := "digest", desc := "()J" } : Jvm.MethodName) ({ cls := "Twinrow", name := "digest", desc := "()J" } : Jvm.MethodName)) ∈ lw_all := lw_g (lw_at lw_m8 136 rfl) rfl
theorem q1872 : (Jvm.Cond.code ({ cls := "Twinrow", name := "digest", desc := "()J" } : Jvm.MethodName) prog_1_method_73_code (9 : Nat) (Option.some Jvm.ClassFile.FieldType.long)) ∈ lw_all := lw_g (lw_at lw_m8 137 rfl) rfl
theorem q1873 : (Jvm.Cond.constantLong "Twinrow" (379 : Nat) (7778 : Int64)) ∈ lw_all := lw_g (lw_at lw_m8 138 rfl) rfl
theorem q1874 : (Jvm.Cond.methodLink "Twinrow" (372 : Nat) ({ cls := "Twinrow", name := "houseNow", desc := "(I)I" } : Jvm.MethodName)) ∈ lw_all := lw_g (lw_at lw_m8 139 rfl) rfl
theorem q1875 : (Jvm.Cond.privateMethod ({ cls := "Twinrow", name := "houseNow", desc := "(I)I" } : Jvm.MethodName)) ∈ lw_tbl := lw_at lw_m8 140 rfl
theorem q1876 : (Jvm.Cond.instanceMethod ({ cls := "Twinrow", name := "houseNow", desc := "(I)I" } : Jvm.MethodName)) ∈ lw_all := lw_g (lw_at lw_m8 141 rfl) rfl
theorem q1877 : (Jvm.Cond.code ({ cls := "Twinrow", name := "houseNow", desc := "(I)I" } : Jvm.MethodName) prog_1_method_60_code (6 : Nat) (Option.some Jvm.ClassFile.FieldType.int)) ∈ lw_all := lw_g (lw_at lw_m8 142 rfl) rfl
theorem q1878 : (Jvm.Cond.methodLink "Twinrow" (262 : Nat) ({ cls := "Twinrow", name := "bit", desc := "(Z)I" } : Jvm.MethodName)) ∈ lw_all := lw_g (lw_at lw_m8 143 rfl) rfl
theorem q1879 : (Jvm.Cond.static ({ cls := "Twinrow", name := "bit", desc := "(Z)I" } : Jvm.MethodName)) ∈ lw_all := lw_g (lw_at lw_m8 144 rfl) rfl
theorem q1880 : (Jvm.Cond.code ({ cls := "Twinrow", name := "bit", desc := "(Z)I" } : Jvm.MethodName) prog_1_method_2_code (1 : Nat) (Option.some Jvm.ClassFile.FieldType.int)) ∈ lw_all := lw_g (lw_at lw_m8 145 rfl) rfl
theorem q1881 : (Jvm.Cond.methodLink "Twinrow" (381 : Nat) ({ cls := "Twinrow", name := "add", desc := "(JJ)J" } : Jvm.MethodName)) ∈ lw_all := lw_g (lw_at lw_m8 146 rfl) rfl
theorem q1882 : (Jvm.Cond.static ({ cls := "Twinrow", name := "add", desc := "(JJ)J" } : Jvm.MethodName)) ∈ lw_all := lw_g (lw_at lw_m8 147 rfl) rfl
theorem q1883 : (Jvm.Cond.code ({ cls := "Twinrow", name := "add", desc := "(JJ)J" } : Jvm.MethodName) prog_1_method_67_code (4 : Nat) (Option.some Jvm.ClassFile.FieldType.long)) ∈ lw_all := lw_g (lw_at lw_m8 148 rfl) rfl
theorem q1884 : (Jvm.Cond.constantLong "Twinrow" (370 : Nat) (31 : Int64)) ∈ lw_all := lw_g (lw_at lw_m8 149 rfl) rfl
theorem q1885 : (Jvm.Cond.methodLink "Twinrow" (236 : Nat) ({ cls := "Twinrow", name := "sumOf", desc := "(Ljava/util/List;)I" } : Jvm.MethodName)) ∈ lw_all := lw_g (lw_at lw_m8 150 rfl) rfl
theorem q1886 : (Jvm.Cond.static ({ cls := "Twinrow", name := "sumOf", desc := "(Ljava/util/List;)I" } : Jvm.MethodName)) ∈ lw_all := lw_g (lw_at lw_m8 151 rfl) rfl
theorem q1887 : (Jvm.Cond.code ({ cls := "Twinrow", name := "sumOf", desc := "(Ljava/util/List;)I" } : Jvm.MethodName) prog_1_method_23_code (3 : Nat) (Option.some Jvm.ClassFile.FieldType.int)) ∈ lw_all := lw_g (lw_at lw_m8 152 rfl) rfl
theorem q1888 : (Jvm.Cond.classLink "Twinrow" (165 : Nat) "Twinrow$Sum") ∈ lw_all := lw_g (lw_at lw_m8 153 rfl) rfl
theorem q1890 : (Jvm.Cond.methodLinkNest "Twinrow" (167 : Nat) ({ cls := "Twinrow$Sum", name := "<init>", desc := "()V" } : Jvm.MethodName) "Twinrow") ∈ lw_tbl := lw_at lw_m8 155 rfl
theorem q1895 : (Jvm.Cond.fieldLinkNest "Twinrow" (174 : Nat) "Twinrow$Sum" "sum" "I" "Twinrow") ∈ lw_tbl := lw_at lw_m8 160 rfl
theorem q1899 : (Jvm.Cond.interfaceEntry "Twinrow" (168 : Nat)) ∈ lw_tbl := lw_at lw_m8 164 rfl
theorem q1900 : (Jvm.Cond.methodLink "Twinrow" (168 : Nat) ({ cls := "java/lang/Iterable", name := "forEach", desc := "(Ljava/util/function/Consumer;)V" } : Jvm.MethodName)) ∈ lw_all := lw_g (lw_at lw_m8 165 rfl) rfl
theorem q1996 : (Jvm.Cond.instanceMethod ({ cls := "Twinrow", name := "lay", desc := "(II)I" } : Jvm.MethodName)) ∈ lw_all := lw_g (lw_at lw_m9 21 rfl) rfl
theorem q1997 : (Jvm.Cond.selects "Twinrow" ({ cls := "Twinrow", name := "lay", desc := "(II)I" } : Jvm.MethodName) ({ cls := "Twinrow", name := "lay", desc := "(II)I" } : Jvm.MethodName)) ∈ lw_all := lw_g (lw_at lw_m9 22 rfl) rfl
theorem q1998 : (Jvm.Cond.code ({ cls := "Twinrow", name := "lay", desc := "(II)I" } : Jvm.MethodName) prog_1_method_17_code (5 : Nat) (Option.some Jvm.ClassFile.FieldType.int)) ∈ lw_all := lw_g (lw_at lw_m9 23 rfl) rfl
theorem q1999 : (Jvm.Cond.methodLink "Twinrow" (70 : Nat) ({ cls := "Twinrow", name := "mustBe", desc := "(Z)V" } : Jvm.MethodName)) ∈ lw_all := lw_g (lw_at lw_m9 24 rfl) rfl
theorem q2000 : (Jvm.Cond.static ({ cls := "Twinrow", name := "mustBe", desc := "(Z)V" } : Jvm.MethodName)) ∈ lw_all := lw_g (lw_at lw_m9 25 rfl) rfl
theorem q2001 : (Jvm.Cond.code ({ cls := "Twinrow", name := "mustBe", desc := "(Z)V" } : Jvm.MethodName) prog_1_method_8_code (1 : Nat) (Option.none : Option Jvm.ClassFile.FieldType)) ∈ lw_all := lw_g (lw_at lw_m9 26 rfl) rfl
theorem q2002 : (Jvm.Cond.classLink "Twinrow" (60 : Nat) "java/lang/IndexOutOfBoundsException") ∈ lw_all := lw_g (lw_at lw_m9 27 rfl) rfl
theorem q2003 : (Jvm.Cond.methodLink "Twinrow" (62 : Nat) ({ cls := "java/lang/IndexOutOfBoundsException", name := "<init>", desc := "()V" } : Jvm.MethodName)) ∈ lw_all := lw_g (lw_at lw_m9 28 rfl) rfl
theorem q2007 : (Jvm.Cond.methodLink "Twinrow" (86 : Nat) ({ cls := "Twinrow", name := "mustFit", desc := "(Z)V" } : Jvm.MethodName)) ∈ lw_all := lw_g (lw_at lw_m9 32 rfl) rfl
theorem q2008 : (Jvm.Cond.static ({ cls := "Twinrow", name := "mustFit", desc := "(Z)V" } : Jvm.MethodName)) ∈ lw_all := lw_g (lw_at lw_m9 33 rfl) rfl
theorem q2009 : (Jvm.Cond.code ({ cls := "Twinrow", name := "mustFit", desc := "(Z)V" } : Jvm.MethodName) prog_1_method_9_code (1 : Nat) (Option.none : Option Jvm.ClassFile.FieldType)) ∈ lw_all := lw_g (lw_at lw_m9 34 rfl) rfl
theorem q2010 : (Jvm.Cond.classLink "Twinrow" (63 : Nat) "java/lang/IllegalArgumentException") ∈ lw_all := lw_g (lw_at lw_m9 35 rfl) rfl
theorem q2011 : (Jvm.Cond.methodLink "Twinrow" (65 : Nat) ({ cls := "java/lang/IllegalArgumentException", name := "<init>", desc := "()V" } : Jvm.MethodName)) ∈ lw_all := lw_g (lw_at lw_m9 36 rfl) rfl
theorem q2015 : (Jvm.Cond.methodLink "Twinrow" (112 : Nat) ({ cls := "java/util/ArrayList", name := "set", desc := "(ILjava/lang/Object;)Ljava/lang/Object;" } : Jvm.MethodName)) ∈ lw_all := lw_g (lw_at lw_m9 40 rfl) rfl
theorem q2023 : (Jvm.Cond.instanceMethod ({ cls := "Twinrow", name := "put", desc := "(III)I" } : Jvm.MethodName)) ∈ lw_all := lw_g (lw_at lw_m9 48 rfl) rfl
theorem q2024 : (Jvm.Cond.selects "Twinrow" ({ cls := "Twinrow", name := "put", desc := "(III)I" } : Jvm.MethodName) ({ cls := "Twinrow", name := "put", desc := "(III)I" } : Jvm.MethodName)) ∈ lw_all := lw_g (lw_at lw_m9 49 rfl) rfl
theorem q2025 : (Jvm.Cond.code ({ cls := "Twinrow", name := "put", desc := "(III)I" } : Jvm.MethodName) prog_1_method_18_code (5 : Nat) (Option.some Jvm.ClassFile.FieldType.int)) ∈ lw_all := lw_g (lw_at lw_m9 50 rfl) rfl
theorem q2026 : (Jvm.Cond.methodLink "Twinrow" (116 : Nat) ({ cls := "Twinrow", name := "mustBeValue", desc := "(I)V" } : Jvm.MethodName)) ∈ lw_all := lw_g (lw_at lw_m9 51 rfl) rfl
theorem q2027 : (Jvm.Cond.static ({ cls := "Twinrow", name := "mustBeValue", desc := "(I)V" } : Jvm.MethodName)) ∈ lw_all := lw_g (lw_at lw_m9 52 rfl) rfl
theorem q2028 : (Jvm.Cond.code ({ cls := "Twinrow", name := "mustBeValue", desc := "(I)V" } : Jvm.MethodName) prog_1_method_13_code (1 : Nat) (Option.none : Option Jvm.ClassFile.FieldType)) ∈ lw_all := lw_g (lw_at lw_m9 53 rfl) rfl
theorem q2029 : (Jvm.Cond.methodLink "Twinrow" (83 : Nat) ({ cls := "Twinrow", name := "isValue", desc := "(I)Z" } : Jvm.MethodName)) ∈ lw_all := lw_g (lw_at lw_m9 54 rfl) rfl
theorem q2030 : (Jvm.Cond.static ({ cls := "Twinrow", name := "isValue", desc := "(I)Z" } : Jvm.MethodName)) ∈ lw_all := lw_g (lw_at lw_m9 55 rfl) rfl
theorem q2031 : (Jvm.Cond.code ({ cls := "Twinrow", name := "isValue", desc := "(I)Z" } : Jvm.MethodName) prog_1_method_3_code (1 : Nat) (Option.some Jvm.ClassFile.FieldType.boolean)) ∈ lw_all := lw_g (lw_at lw_m9 56 rfl) rfl
theorem q2032 : (Jvm.Cond.methodLink "Twinrow" (124 : Nat) ({ cls := "Twinrow", name := "kept", desc := "(I)Ljava/lang/Integer;" } : Jvm.MethodName)) ∈ lw_all := lw_g (lw_at lw_m9 57 rfl) rfl
theorem q2033 : (Jvm.Cond.static ({ cls := "Twinrow", name := "kept", desc := "(I)Ljava/lang/Integer;" } : Jvm.MethodName)) ∈ lw_all := lw_g (lw_at lw_m9 58 rfl) rfl
theorem q2034 : (Jvm.Cond.code ({ cls := "Twinrow", name := "kept", desc := "(I)Ljava/lang/Integer;" } : Jvm.MethodName) prog_1_method_4_code (1 : Nat) (Option.some (Jvm.ClassFile.FieldType.object "java/lang/Integer"))) ∈ lw_all := lw_g (lw_at lw_m9 59 rfl) rfl
theorem q2039 : (Jvm.Cond.instanceMethod ({ cls := "Twinrow", name := "at", desc := "(II)I" } : Jvm.MethodName)) ∈ lw_all := lw_g (lw_at lw_m9 64 rfl) rfl
theorem q2040 : (Jvm.Cond.selects "Twinrow" ({ cls := "Twinrow", name := "at", desc := "(II)I" } : Jvm.MethodName) ({ cls := "Twinrow", name := "at", desc := "(II)I" } : Jvm.MethodName)) ∈ lw_all := lw_g (lw_at lw_m9 65 rfl) rfl
theorem q2041 : (Jvm.Cond.code ({ cls := "Twinrow", name := "at", desc := "(II)I" } : Jvm.MethodName) prog_1_method_19_code (3 : Nat) (Option.some Jvm.ClassFile.FieldType.int)) ∈ lw_all := lw_g (lw_at lw_m9 66 rfl) rfl
theorem q2046 : (Jvm.Cond.instanceMethod ({ cls := "Twinrow", name := "part", desc := "(IIII)I" } : Jvm.MethodName)) ∈ lw_all := lw_g (lw_at lw_m9 71 rfl) rfl
theorem q2047 : (Jvm.Cond.selects "Twinrow" ({ cls := "Twinrow", name := "part", desc := "(IIII)I" } : Jvm.MethodName) ({ cls := "Twinrow", name := "part", desc := "(IIII)I" } : Jvm.MethodName)) ∈ lw_all := lw_g (lw_at lw_m9 72 rfl) rfl
theorem q2048 : (Jvm.Cond.code ({ cls := "Twinrow", name := "part", desc := "(IIII)I" } : Jvm.MethodName) prog_1_method_20_code (8 : Nat) (Option.some Jvm.ClassFile.FieldType.int)) ∈ lw_all := lw_g (lw_at lw_m9 73 rfl) rfl
theorem q2049 : (Jvm.Cond.methodLink "Twinrow" (76 : Nat) ({ cls := "Twinrow", name := "mustBeList", desc := "(I)Ljava/util/List;" } : Jvm.MethodName)) ∈ lw_all := lw_g (lw_at lw_m9 74 rfl) rfl
theorem q2050 : (Jvm.Cond.privateMethod ({ cls := "Twinrow", name := "mustBeList", desc := "(I)Ljava/util/List;" } : Jvm.MethodName)) ∈ lw_tbl := lw_at lw_m9 75 rfl
theorem q2051 : (Jvm.Cond.instanceMethod ({ cls := "Twinrow", name := "mustBeList", desc := "(I)Ljava/util/List;" } : Jvm.MethodName)) ∈ lw_all := lw_g (lw_at lw_m9 76 rfl) rfl
theorem q2052 : (Jvm.Cond.code ({ cls := "Twinrow", name := "mustBeList", desc := "(I)Ljava/util/List;" } : Jvm.MethodName) prog_1_method_11_code (2 : Nat) (Option.some (Jvm.ClassFile.FieldType.object "java/util/List"))) ∈ lw_all := lw_g (lw_at lw_m9 77 rfl) rfl
theorem q2053 : (Jvm.Cond.interfaceEntry "Twinrow" (127 : Nat)) ∈ lw_tbl := lw_at lw_m9 78 rfl
theorem q2054 : (Jvm.Cond.methodLink "Twinrow" (127 : Nat) ({ cls := "java/util/List", name := "subList", desc := "(II)Ljava/util/List;" } : Jvm.MethodName)) ∈ lw_all := lw_g (lw_at lw_m9 79 rfl) rfl
theorem q2176 : (Jvm.Cond.instanceMethod ({ cls := "Twinrow", name := "set", desc := "(III)I" } : Jvm.MethodName)) ∈ lw_all := lw_g (lw_at lw_m9 201 rfl) rfl
theorem q2177 : (Jvm.Cond.selects "Twinrow" ({ cls := "Twinrow", name := "set", desc := "(III)I" } : Jvm.MethodName) ({ cls := "Twinrow", name := "set", desc := "(III)I" } : Jvm.MethodName)) ∈ lw_all := lw_g (lw_at lw_m9 202 rfl) rfl
theorem q2178 : (Jvm.Cond.code ({ cls := "Twinrow", name := "set", desc := "(III)I" } : Jvm.MethodName) prog_1_method_24_code (5 : Nat) (Option.some Jvm.ClassFile.FieldType.int)) ∈ lw_all := lw_g (lw_at lw_m9 203 rfl) rfl
theorem q2179 : (Jvm.Cond.methodLink "Twinrow" (177 : Nat) ({ cls := "Twinrow", name := "mustBePlace", desc := "(II)Ljava/util/List;" } : Jvm.MethodName)) ∈ lw_all := lw_g (lw_at lw_m9 204 rfl) rfl
theorem q2180 : (Jvm.Cond.privateMethod ({ cls := "Twinrow", name := "mustBePlace", desc := "(II)Ljava/util/List;" } : Jvm.MethodName)) ∈ lw_tbl := lw_at lw_m9 205 rfl
theorem q2181 : (Jvm.Cond.instanceMethod ({ cls := "Twinrow", name := "mustBePlace", desc := "(II)Ljava/util/List;" } : Jvm.MethodName)) ∈ lw_all := lw_g (lw_at lw_m9 206 rfl) rfl
theorem q2182 : (Jvm.Cond.code ({ cls := "Twinrow", name := "mustBePlace", desc := "(II)Ljava/util/List;" } : Jvm.MethodName) prog_1_method_12_code (4 : Nat) (Option.some (Jvm.ClassFile.FieldType.object "java/util/List"))) ∈ lw_all := lw_g (lw_at lw_m9 207 rfl) rfl
theorem q2183 : (Jvm.Cond.interfaceEntry "Twinrow" (180 : Nat)) ∈ lw_tbl := lw_at lw_m9 208 rfl
theorem q2184 : (Jvm.Cond.methodLink "Twinrow" (180 : Nat) ({ cls := "java/util/List", name := "set", desc := "(ILjava/lang/Object;)Ljava/lang/Object;" } : Jvm.MethodName)) ∈ lw_all := lw_g (lw_at lw_m9 209 rfl) rfl
theorem q2220 : (Jvm.Cond.instanceMethod ({ cls := "Twinrow", name := "get", desc := "(II)I" } : Jvm.MethodName)) ∈ lw_all := lw_g (lw_at lw_m10 5 rfl) rfl
theorem q2221 : (Jvm.Cond.selects "Twinrow" ({ cls := "Twinrow", name := "get", desc := "(II)I" } : Jvm.MethodName) ({ cls := "Twinrow", name := "get", desc := "(II)I" } : Jvm.MethodName)) ∈ lw_all := lw_g (lw_at lw_m10 6 rfl) rfl
theorem q2222 : (Jvm.Cond.code ({ cls := "Twinrow", name := "get", desc := "(II)I" } : Jvm.MethodName) prog_1_method_25_code (3 : Nat) (Option.some Jvm.ClassFile.FieldType.int)) ∈ lw_all := lw_g (lw_at lw_m10 7 rfl) rfl
theorem q2227 : (Jvm.Cond.instanceMethod ({ cls := "Twinrow", name := "length", desc := "(I)I" } : Jvm.MethodName)) ∈ lw_all := lw_g (lw_at lw_m10 12 rfl) rfl
theorem q2228 : (Jvm.Cond.selects "Twinrow" ({ cls := "Twinrow", name := "length", desc := "(I)I" } : Jvm.MethodName) ({ cls := "Twinrow", name := "length", desc := "(I)I" } : Jvm.MethodName)) ∈ lw_all := lw_g (lw_at lw_m10 13 rfl) rfl
theorem q2229 : (Jvm.Cond.code ({ cls := "Twinrow", name := "length", desc := "(I)I" } : Jvm.MethodName) prog_1_method_26_code (2 : Nat) (Option.some Jvm.ClassFile.FieldType.int)) ∈ lw_all := lw_g (lw_at lw_m10 14 rfl) rfl
theorem q2234 : (Jvm.Cond.instanceMethod ({ cls := "Twinrow", name := "isEmpty", desc := "(I)Z" } : Jvm.MethodName)) ∈ lw_all := lw_g (lw_at lw_m10 19 rfl) rfl
theorem q2235 : (Jvm.Cond.selects "Twinrow" ({ cls := "Twinrow", name := "isEmpty", desc := "(I)Z" } : Jvm.MethodName) ({ cls := "Twinrow", name := "isEmpty", desc := "(I)Z" } : Jvm.MethodName)) ∈ lw_all := lw_g (lw_at lw_m10 20 rfl) rfl
theorem q2236 : (Jvm.Cond.code ({ cls := "Twinrow", name := "isEmpty", desc := "(I)Z" } : Jvm.MethodName) prog_1_method_27_code (2 : Nat) (Option.some Jvm.ClassFile.FieldType.boolean)) ∈ lw_all := lw_g (lw_at lw_m10 21 rfl) rfl
theorem q2241 : (Jvm.Cond.instanceMethod ({ cls := "Twinrow", name := "text", desc := "(I)Ljava/lang/String;" } : Jvm.MethodName)) ∈ lw_all := lw_g (lw_at lw_m10 26 rfl) rfl
theorem q2242 : (Jvm.Cond.selects "Twinrow" ({ cls := "Twinrow", name := "text", desc := "(I)Ljava/lang/String;" } : Jvm.MethodName) ({ cls := "Twinrow", name := "text", desc := "(I)Ljava/lang/String;" } : Jvm.MethodName)) ∈ lw_all := lw_g (lw_at lw_m10 27 rfl) rfl
theorem q2243 : (Jvm.Cond.code ({ cls := "Twinrow", name := "text", desc := "(I)Ljava/lang/String;" } : Jvm.MethodName) prog_1_method_28_code (2 : Nat) (Option.some (Jvm.ClassFile.FieldType.object "java/lang/String"))) ∈ lw_all := lw_g (lw_at lw_m10 28 rfl) rfl
theorem q2248 : (Jvm.Cond.instanceMethod ({ cls := "Twinrow", name := "back", desc := "(I)Ljava/lang/String;" } : Jvm.MethodName)) ∈ lw_all := lw_g (lw_at lw_m10 33 rfl) rfl
theorem q2249 : (Jvm.Cond.selects "Twinrow" ({ cls := "Twinrow", name := "back", desc := "(I)Ljava/lang/String;" } : Jvm.MethodName) ({ cls := "Twinrow", name := "back", desc := "(I)Ljava/lang/String;" } : Jvm.MethodName)) ∈ lw_all := lw_g (lw_at lw_m10 34 rfl) rfl
theorem q2250 : (Jvm.Cond.code ({ cls := "Twinrow", name := "back", desc := "(I)Ljava/lang/String;" } : Jvm.MethodName) prog_1_method_29_code (2 : Nat) (Option.some (Jvm.ClassFile.FieldType.object "java/lang/String"))) ∈ lw_all := lw_g (lw_at lw_m10 35 rfl) rfl
theorem q2255 : (Jvm.Cond.instanceMethod ({ cls := "Twinrow", name := "indexOf", desc := "(II)I" } : Jvm.MethodName)) ∈ lw_all := lw_g (lw_at lw_m10 40 rfl) rfl
theorem q2256 : (Jvm.Cond.selects "Twinrow" ({ cls := "Twinrow", name := "indexOf", desc := "(II)I" } : Jvm.MethodName) ({ cls := "Twinrow", name := "indexOf", desc := "(II)I" } : Jvm.MethodName)) ∈ lw_all := lw_g (lw_at lw_m10 41 rfl) rfl
theorem q2257 : (Jvm.Cond.code ({ cls := "Twinrow", name := "indexOf", desc := "(II)I" } : Jvm.MethodName) prog_1_method_30_code (4 : Nat) (Option.some Jvm.ClassFile.FieldType.int)) ∈ lw_all := lw_g (lw_at lw_m10 42 rfl) rfl
theorem q2262 : (Jvm.Cond.instanceMethod ({ cls := "Twinrow", name := "lastIndexOf", desc := "(II)I" } : Jvm.MethodName)) ∈ lw_all := lw_g (lw_at lw_m10 47 rfl) rfl
theorem q2263 : (Jvm.Cond.selects "Twinrow" ({ cls := "Twinrow", name := "lastIndexOf", desc := "(II)I" } : Jvm.MethodName) ({ cls := "Twinrow", name := "lastIndexOf", desc := "(II)I" } : Jvm.MethodName)) ∈ lw_all := lw_g (lw_at lw_m10 48 rfl) rfl
theorem q2264 : (Jvm.Cond.code ({ cls := "Twinrow", name := "lastIndexOf", desc := "(II)I" } : Jvm.MethodName) prog_1_method_31_code (4 : Nat) (Option.some Jvm.ClassFile.FieldType.int)) ∈ lw_all := lw_g (lw_at lw_m10 49 rfl) rfl
theorem q2269 : (Jvm.Cond.instanceMethod ({ cls := "Twinrow", name := "has", desc := "(II)Z" } : Jvm.MethodName)) ∈ lw_all := lw_g (lw_at lw_m10 54 rfl) rfl
theorem q2270 : (Jvm.Cond.selects "Twinrow" ({ cls := "Twinrow", name := "has", desc := "(II)Z" } : Jvm.MethodName) ({ cls := "Twinrow", name := "has", desc := "(II)Z" } : Jvm.MethodName)) ∈ lw_all := lw_g (lw_at lw_m10 55 rfl) rfl
theorem q2271 : (Jvm.Cond.code ({ cls := "Twinrow", name := "has", desc := "(II)Z" } : Jvm.MethodName) prog_1_method_32_code (4 : Nat) (Option.some Jvm.ClassFile.FieldType.boolean)) ∈ lw_all := lw_g (lw_at lw_m10 56 rfl) rfl
theorem q2272 : (Jvm.Cond.interfaceEntry "Twinrow" (199 : Nat)) ∈ lw_tbl := lw_at lw_m10 57 rfl
theorem q2273 : (Jvm.Cond.methodLink "Twinrow" (199 : Nat) ({ cls := "java/util/List", name := "contains", desc := "(Ljava/lang/Object;)Z" } : Jvm.MethodName)) ∈ lw_all := lw_g (lw_at lw_m10 58 rfl) rfl
theorem q2318 : (Jvm.Cond.instanceMethod ({ cls := "Twinrow", name := "often", desc := "(II)I" } : Jvm.MethodName)) ∈ lw_all := lw_g (lw_at lw_m10 103 rfl) rfl
theorem q2319 : (Jvm.Cond.selects "Twinrow" ({ cls := "Twinrow", name := "often", desc := "(II)I" } : Jvm.MethodName) ({ cls := "Twinrow", name := "often", desc := "(II)I" } : Jvm.MethodName)) ∈ lw_all := lw_g (lw_at lw_m10 104 rfl) rfl
theorem q2320 : (Jvm.Cond.code ({ cls := "Twinrow", name := "often", desc := "(II)I" } : Jvm.MethodName) prog_1_method_33_code (4 : Nat) (Option.some Jvm.ClassFile.FieldType.int)) ∈ lw_all := lw_g (lw_at lw_m10 105 rfl) rfl
theorem q2321 : (Jvm.Cond.methodLink "Twinrow" (202 : Nat) ({ cls := "java/util/Collections", name := "frequency", desc := "(Ljava/util/Collection;Ljava/lang/Object;)I" } : Jvm.MethodName)) ∈ lw_all := lw_g (lw_at lw_m10 106 rfl) rfl
theorem q2347 : (Jvm.Cond.instanceMethod ({ cls := "Twinrow", name := "hasAll", desc := "(II)Z" } : Jvm.MethodName)) ∈ lw_all := lw_g (lw_at lw_m10 132 rfl) rfl
theorem q2348 : (Jvm.Cond.selects "Twinrow" ({ cls := "Twinrow", name := "hasAll", desc := "(II)Z" } : Jvm.MethodName) ({ cls := "Twinrow", name := "hasAll", desc := "(II)Z" } : Jvm.MethodName)) ∈ lw_all := lw_g (lw_at lw_m10 133 rfl) rfl
theorem q2349 : (Jvm.Cond.code ({ cls := "Twinrow", name := "hasAll", desc := "(II)Z" } : Jvm.MethodName) prog_1_method_34_code (5 : Nat) (Option.some Jvm.ClassFile.FieldType.boolean)) ∈ lw_all := lw_g (lw_at lw_m10 134 rfl) rfl
theorem q2350 : (Jvm.Cond.interfaceEntry "Twinrow" (208 : Nat)) ∈ lw_tbl := lw_at lw_m10 135 rfl
theorem q2351 : (Jvm.Cond.methodLink "Twinrow" (208 : Nat) ({ cls := "java/util/List", name := "containsAll", desc := "(Ljava/util/Collection;)Z" } : Jvm.MethodName)) ∈ lw_all := lw_g (lw_at lw_m10 136 rfl) rfl
theorem q2374 : (Jvm.Cond.instanceMethod ({ cls := "Twinrow", name := "areApart", desc := "(II)Z" } : Jvm.MethodName)) ∈ lw_all := lw_g (lw_at lw_m10 159 rfl) rfl
theorem q2375 : (Jvm.Cond.selects "Twinrow" ({ cls := "Twinrow", name := "areApart", desc := "(II)Z" } : Jvm.MethodName) ({ cls := "Twinrow", name := "areApart", desc := "(II)Z" } : Jvm.MethodName)) ∈ lw_all := lw_g (lw_at lw_m10 160 rfl) rfl
theorem q2376 : (Jvm.Cond.code ({ cls := "Twinrow", name := "areApart", desc := "(II)Z" } : Jvm.MethodName) prog_1_method_35_code (5 : Nat) (Option.some Jvm.ClassFile.FieldType.boolean)) ∈ lw_all := lw_g (lw_at lw_m10 161 rfl) rfl
theorem q2377 : (Jvm.Cond.methodLink "Twinrow" (212 : Nat) ({ cls := "java/util/Collections", name := "disjoint", desc := "(Ljava/util/Collection;Ljava/util/Collection;)Z" } : Jvm.MethodName)) ∈ lw_all := lw_g (lw_at lw_m10 162 rfl) rfl
theorem q2403 : (Jvm.Cond.instanceMethod ({ cls := "Twinrow", name := "indexOfAll", desc := "(II)I" } : Jvm.MethodName)) ∈ lw_all := lw_g (lw_at lw_m10 188 rfl) rfl
theorem q2404 : (Jvm.Cond.selects "Twinrow" ({ cls := "Twinrow", name := "indexOfAll", desc := "(II)I" } : Jvm.MethodName) ({ cls := "Twinrow", name := "indexOfAll", desc := "(II)I" } : Jvm.MethodName)) ∈ lw_all := lw_g (lw_at lw_m10 189 rfl) rfl
theorem q2405 : (Jvm.Cond.code ({ cls := "Twinrow", name := "indexOfAll", desc := "(II)I" } : Jvm.MethodName) prog_1_method_36_code (5 : Nat) (Option.some Jvm.ClassFile.FieldType.int)) ∈ lw_all := lw_g (lw_at lw_m10 190 rfl) rfl
theorem q2406 : (Jvm.Cond.methodLink "Twinrow" (216 : Nat) ({ cls := "java/util/Collections", name := "indexOfSubList", desc := "(Ljava/util/List;Ljava/util/List;)I" } : Jvm.MethodName)) ∈ lw_all := lw_g (lw_at lw_m10 191 rfl) rfl
theorem q2427 : (Jvm.Cond.instanceMethod ({ cls := "Twinrow", name := "areEqual", desc := "(II)Z" } : Jvm.MethodName)) ∈ lw_all := lw_g (lw_at lw_m10 212 rfl) rfl
theorem q2428 : (Jvm.Cond.selects "Twinrow" ({ cls := "Twinrow", name := "areEqual", desc := "(II)Z" } : Jvm.MethodName) ({ cls := "Twinrow", name := "areEqual", desc := "(II)Z" } : Jvm.MethodName)) ∈ lw_all := lw_g (lw_at lw_m10 213 rfl) rfl
theorem q2429 : (Jvm.Cond.code ({ cls := "Twinrow", name := "areEqual", desc := "(II)Z" } : Jvm.MethodName) prog_1_method_37_code (5 : Nat) (Option.some Jvm.ClassFile.FieldType.boolean)) ∈ lw_all := lw_g (lw_at lw_m10 214 rfl) rfl
theorem q2434 : (Jvm.Cond.instanceMethod ({ cls := "Twinrow", name := "code", desc := "(I)I" } : Jvm.MethodName)) ∈ lw_all := lw_g (lw_at lw_m10 219 rfl) rfl
theorem q2435 : (Jvm.Cond.selects "Twinrow" ({ cls := "Twinrow", name := "code", desc := "(I)I" } : Jvm.MethodName) ({ cls := "Twinrow", name := "code", desc := "(I)I" } : Jvm.MethodName)) ∈ lw_all := lw_g (lw_at lw_m10 220 rfl) rfl
theorem q2436 : (Jvm.Cond.code ({ cls := "Twinrow", name := "code", desc := "(I)I" } : Jvm.MethodName) prog_1_method_38_code (2 : Nat) (Option.some Jvm.ClassFile.FieldType.int)) ∈ lw_all := lw_g (lw_at lw_m10 221 rfl) rfl
theorem q2441 : (Jvm.Cond.instanceMethod ({ cls := "Twinrow", name := "walk", desc := "(IIIZ)Ljava/lang/String;" } : Jvm.MethodName)) ∈ lw_all := lw_g (lw_at lw_m10 226 rfl) rfl
theorem q2442 : (Jvm.Cond.selects "Twinrow" ({ cls := "Twinrow", name := "walk", desc := "(IIIZ)Ljava/lang/String;" } : Jvm.MethodName) ({ cls := "Twinrow", name := "walk", desc := "(IIIZ)Ljava/lang/String;" } : Jvm.MethodName)) ∈ lw_all := lw_g (lw_at lw_m10 227 rfl) rfl
theorem q2443 : (Jvm.Cond.code ({ cls := "Twinrow", name := "walk", desc := "(IIIZ)Ljava/lang/String;" } : Jvm.MethodName) prog_1_method_39_code (10 : Nat) (Option.some (Jvm.ClassFile.FieldType.object "java/lang/String"))) ∈ lw_all := lw_g (lw_at lw_m10 228 rfl) rfl
theorem q2444 : (Jvm.Cond.interfaceEntry "Twinrow" (226 : Nat)) ∈ lw_tbl := lw_at lw_m10 229 rfl
theorem q2445 : (Jvm.Cond.methodLink "Twinrow" (226 : Nat) ({ cls := "java/util/ListIterator", name := "hasNext", desc := "()Z" } : Jvm.MethodName)) ∈ lw_all := lw_g (lw_at lw_m10 230 rfl) rfl
theorem q2446 : (Jvm.Cond.interfaceEntry "Twinrow" (227 : Nat)) ∈ lw_tbl := lw_at lw_m10 231 rfl
theorem q2447 : (Jvm.Cond.methodLink "Twinrow" (227 : Nat) ({ cls := "java/util/ListIterator", name := "previousIndex", desc := "()I" } : Jvm.MethodName)) ∈ lw_all := lw_g (lw_at lw_m10 232 rfl) rfl
theorem q2448 : (Jvm.Cond.interfaceEntry "Twinrow" (230 : Nat)) ∈ lw_tbl := lw_at lw_m10 233 rfl
theorem q2449 : (Jvm.Cond.methodLink "Twinrow" (230 : Nat) ({ cls := "java/util/ListIterator", name := "nextIndex", desc := "()I" } : Jvm.MethodName)) ∈ lw_all := lw_g (lw_at lw_m10 234 rfl) rfl
theorem q2450 : (Jvm.Cond.interfaceEntry "Twinrow" (233 : Nat)) ∈ lw_tbl := lw_at lw_m10 235 rfl
theorem q2451 : (Jvm.Cond.methodLink "Twinrow" (233 : Nat) ({ cls := "java/util/ListIterator", name := "next", desc := "()Ljava/lang/Object;" } : Jvm.MethodName)) ∈ lw_all := lw_g (lw_at lw_m10 236 rfl) rfl
theorem q2452 : (Jvm.Cond.stringRef "Twinrow" (234 : Nat) "-") ∈ lw_tbl := lw_at lw_m10 237 rfl
theorem q2457 : (Jvm.Cond.instanceMethod ({ cls := "Twinrow", name := "sum", desc := "(I)I" } : Jvm.MethodName)) ∈ lw_all := lw_g (lw_at lw_m11 2 rfl) rfl
theorem q2458 : (Jvm.Cond.selects "Twinrow" ({ cls := "Twinrow", name := "sum", desc := "(I)I" } : Jvm.MethodName) ({ cls := "Twinrow", name := "sum", desc := "(I)I" } : Jvm.MethodName)) ∈ lw_all := lw_g (lw_at lw_m11 3 rfl) rfl
theorem q2459 : (Jvm.Cond.code ({ cls := "Twinrow", name := "sum", desc := "(I)I" } : Jvm.MethodName) prog_1_method_40_code (2 : Nat) (Option.some Jvm.ClassFile.FieldType.int)) ∈ lw_all := lw_g (lw_at lw_m11 4 rfl) rfl
theorem q2464 : (Jvm.Cond.instanceMethod ({ cls := "Twinrow", name := "walkSet", desc := "(IIIIZ)I" } : Jvm.MethodName)) ∈ lw_all := lw_g (lw_at lw_m11 9 rfl) rfl
theorem q2465 : (Jvm.Cond.selects "Twinrow" ({ cls := "Twinrow", name := "walkSet", desc := "(IIIIZ)I" } : Jvm.MethodName) ({ cls := "Twinrow", name := "walkSet", desc := "(IIIIZ)I" } : Jvm.MethodName)) ∈ lw_all := lw_g (lw_at lw_m11 10 rfl) rfl
theorem q2466 : (Jvm.Cond.code ({ cls := "Twinrow", name := "walkSet", desc := "(IIIIZ)I" } : Jvm.MethodName) prog_1_method_41_code (11 : Nat) (Option.some Jvm.ClassFile.FieldType.int)) ∈ lw_all := lw_g (lw_at lw_m11 11 rfl) rfl
theorem q2467 : (Jvm.Cond.methodLink "Twinrow" (240 : Nat) ({ cls := "Twinrow", name := "mustBeRule", desc := "(II)V" } : Jvm.MethodName)) ∈ lw_all := lw_g (lw_at lw_m11 12 rfl) rfl
theorem q2468 : (Jvm.Cond.static ({ cls := "Twinrow", name := "mustBeRule", desc := "(II)V" } : Jvm.MethodName)) ∈ lw_all := lw_g (lw_at lw_m11 13 rfl) rfl
theorem q2469 : (Jvm.Cond.code ({ cls := "Twinrow", name := "mustBeRule", desc := "(II)V" } : Jvm.MethodName) prog_1_method_14_code (2 : Nat) (Option.none : Option Jvm.ClassFile.FieldType)) ∈ lw_all := lw_g (lw_at lw_m11 14 rfl) rfl
theorem q2470 : (Jvm.Cond.classLink "Twinrow" (244 : Nat) "Twinrow$Rule") ∈ lw_all := lw_g (lw_at lw_m11 15 rfl) rfl
theorem q2472 : (Jvm.Cond.methodLink "Twinrow" (246 : Nat) ({ cls := "Twinrow$Rule", name := "<init>", desc := "(II)V" } : Jvm.MethodName)) ∈ lw_all := lw_g (lw_at lw_m11 17 rfl) rfl
theorem q2483 : (Jvm.Cond.methodLink "Twinrow" (248 : Nat) ({ cls := "Twinrow$Rule", name := "apply", desc := "(Ljava/lang/Integer;)Ljava/lang/Integer;" } : Jvm.MethodName)) ∈ lw_all := lw_g (lw_at lw_m11 28 rfl) rfl
theorem q2494 : (Jvm.Cond.interfaceEntry "Twinrow" (252 : Nat)) ∈ lw_tbl := lw_at lw_m11 39 rfl
theorem q2495 : (Jvm.Cond.methodLink "Twinrow" (252 : Nat) ({ cls := "java/util/ListIterator", name := "set", desc := "(Ljava/lang/Object;)V" } : Jvm.MethodName)) ∈ lw_all := lw_g (lw_at lw_m11 40 rfl) rfl
theorem q2535 : (Jvm.Cond.instanceMethod ({ cls := "Twinrow", name := "replaceAll", desc := "(III)I" } : Jvm.MethodName)) ∈ lw_all := lw_g (lw_at lw_m11 80 rfl) rfl
theorem q2536 : (Jvm.Cond.selects "Twinrow" ({ cls := "Twinrow", name := "replaceAll", desc := "(III)I" } : Jvm.MethodName) ({ cls := "Twinrow", name := "replaceAll", desc := "(III)I" } : Jvm.MethodName)) ∈ lw_all := lw_g (lw_at lw_m11 81 rfl) rfl
theorem q2537 : (Jvm.Cond.code ({ cls := "Twinrow", name := "replaceAll", desc := "(III)I" } : Jvm.MethodName) prog_1_method_42_code (5 : Nat) (Option.some Jvm.ClassFile.FieldType.int)) ∈ lw_all := lw_g (lw_at lw_m11 82 rfl) rfl
theorem q2538 : (Jvm.Cond.interfaceEntry "Twinrow" (255 : Nat)) ∈ lw_tbl := lw_at lw_m11 83 rfl
theorem q2539 : (Jvm.Cond.methodLink "Twinrow" (255 : Nat) ({ cls := "java/util/List", name := "replaceAll", desc := "(Ljava/util/function/UnaryOperator;)V" } : Jvm.MethodName)) ∈ lw_all := lw_g (lw_at lw_m11 84 rfl) rfl
theorem q2593 : (Jvm.Cond.instanceMethod ({ cls := "Twinrow", name := "replaceOld", desc := "(III)I" } : Jvm.MethodName)) ∈ lw_all := lw_g (lw_at lw_m11 138 rfl) rfl
theorem q2594 : (Jvm.Cond.selects "Twinrow" ({ cls := "Twinrow", name := "replaceOld", desc := "(III)I" } : Jvm.MethodName) ({ cls := "Twinrow", name := "replaceOld", desc := "(III)I" } : Jvm.MethodName)) ∈ lw_all := lw_g (lw_at lw_m11 139 rfl) rfl
theorem q2595 : (Jvm.Cond.code ({ cls := "Twinrow", name := "replaceOld", desc := "(III)I" } : Jvm.MethodName) prog_1_method_43_code (5 : Nat) (Option.some Jvm.ClassFile.FieldType.int)) ∈ lw_all := lw_g (lw_at lw_m11 140 rfl) rfl
theorem q2596 : (Jvm.Cond.methodLink "Twinrow" (259 : Nat) ({ cls := "java/util/Collections", name := "replaceAll", desc := "(Ljava/util/List;Ljava/lang/Object;Ljava/lang/Object;)Z" } : Jvm.MethodName)) ∈ lw_all := lw_g (lw_at lw_m11 141 rfl) rfl
theorem q2607 : (Jvm.Cond.instanceMethod ({ cls := "Twinrow", name := "fill", desc := "(II)I" } : Jvm.MethodName)) ∈ lw_all := lw_g (lw_at lw_m11 152 rfl) rfl
theorem q2608 : (Jvm.Cond.selects "Twinrow" ({ cls := "Twinrow", name := "fill", desc := "(II)I" } : Jvm.MethodName) ({ cls := "Twinrow", name := "fill", desc := "(II)I" } : Jvm.MethodName)) ∈ lw_all := lw_g (lw_at lw_m11 153 rfl) rfl
theorem q2609 : (Jvm.Cond.code ({ cls := "Twinrow", name := "fill", desc := "(II)I" } : Jvm.MethodName) prog_1_method_44_code (4 : Nat) (Option.some Jvm.ClassFile.FieldType.int)) ∈ lw_all := lw_g (lw_at lw_m11 154 rfl) rfl
theorem q2610 : (Jvm.Cond.methodLink "Twinrow" (266 : Nat) ({ cls := "java/util/Collections", name := "fill", desc := "(Ljava/util/List;Ljava/lang/Object;)V" } : Jvm.MethodName)) ∈ lw_all := lw_g (lw_at lw_m11 155 rfl) rfl
theorem q2617 : (Jvm.Cond.instanceMethod ({ cls := "Twinrow", name := "sort", desc := "(IZ)I" } : Jvm.MethodName)) ∈ lw_all := lw_g (lw_at lw_m11 162 rfl) rfl
theorem q2618 : (Jvm.Cond.selects "Twinrow" ({ cls := "Twinrow", name := "sort", desc := "(IZ)I" } : Jvm.MethodName) ({ cls := "Twinrow", name := "sort", desc := "(IZ)I" } : Jvm.MethodName)) ∈ lw_all := lw_g (lw_at lw_m11 163 rfl) rfl
theorem q2619 : (Jvm.Cond.code ({ cls := "Twinrow", name := "sort", desc := "(IZ)I" } : Jvm.MethodName) prog_1_method_45_code (4 : Nat) (Option.some Jvm.ClassFile.FieldType.int)) ∈ lw_all := lw_g (lw_at lw_m11 164 rfl) rfl
theorem q2620 : (Jvm.Cond.classLink "Twinrow" (270 : Nat) "Twinrow$Order") ∈ lw_all := lw_g (lw_at lw_m11 165 rfl) rfl
theorem q2622 : (Jvm.Cond.methodLink "Twinrow" (272 : Nat) ({ cls := "Twinrow$Order", name := "<init>", desc := "(Z)V" } : Jvm.MethodName)) ∈ lw_all := lw_g (lw_at lw_m11 167 rfl) rfl
theorem q2630 : (Jvm.Cond.interfaceEntry "Twinrow" (274 : Nat)) ∈ lw_tbl := lw_at lw_m11 175 rfl
theorem q2631 : (Jvm.Cond.methodLink "Twinrow" (274 : Nat) ({ cls := "java/util/List", name := "sort", desc := "(Ljava/util/Comparator;)V" } : Jvm.MethodName)) ∈ lw_all := lw_g (lw_at lw_m11 176 rfl) rfl
theorem q3045 : (Jvm.Cond.instanceMethod ({ cls := "Twinrow", name := "reverse", desc := "(I)I" } : Jvm.MethodName)) ∈ lw_all := lw_g (lw_at lw_m13 110 rfl) rfl
theorem q3046 : (Jvm.Cond.selects "Twinrow" ({ cls := "Twinrow", name := "reverse", desc := "(I)I" } : Jvm.MethodName) ({ cls := "Twinrow", name := "reverse", desc := "(I)I" } : Jvm.MethodName)) ∈ lw_all := lw_g (lw_at lw_m13 111 rfl) rfl
theorem q3047 : (Jvm.Cond.code ({ cls := "Twinrow", name := "reverse", desc := "(I)I" } : Jvm.MethodName) prog_1_method_46_code (3 : Nat) (Option.some Jvm.ClassFile.FieldType.int)) ∈ lw_all := lw_g (lw_at lw_m13 112 rfl) rfl
theorem q3048 : (Jvm.Cond.methodLink "Twinrow" (278 : Nat) ({ cls := "java/util/Collections", name := "reverse", desc := "(Ljava/util/List;)V" } : Jvm.MethodName)) ∈ lw_all := lw_g (lw_at lw_m13 113 rfl) rfl
theorem q3060 : (Jvm.Cond.instanceMethod ({ cls := "Twinrow", name := "rotate", desc := "(II)I" } : Jvm.MethodName)) ∈ lw_all := lw_g (lw_at lw_m13 125 rfl) rfl
theorem q3061 : (Jvm.Cond.selects "Twinrow" ({ cls := "Twinrow", name := "rotate", desc := "(II)I" } : Jvm.MethodName) ({ cls := "Twinrow", name := "rotate", desc := "(II)I" } : Jvm.MethodName)) ∈ lw_all := lw_g (lw_at lw_m13 126 rfl) rfl
theorem q3062 : (Jvm.Cond.code ({ cls := "Twinrow", name := "rotate", desc := "(II)I" } : Jvm.MethodName) prog_1_method_47_code (4 : Nat) (Option.some Jvm.ClassFile.FieldType.int)) ∈ lw_all := lw_g (lw_at lw_m13 127 rfl) rfl
theorem q3063 : (Jvm.Cond.methodLink "Twinrow" (282 : Nat) ({ cls := "java/util/Collections", name := "rotate", desc := "(Ljava/util/List;I)V" } : Jvm.MethodName)) ∈ lw_all := lw_g (lw_at lw_m13 128 rfl) rfl
theorem q3079 : (Jvm.Cond.instanceMethod ({ cls := "Twinrow", name := "swap", desc := "(III)I" } : Jvm.MethodName)) ∈ lw_all := lw_g (lw_at lw_m13 144 rfl) rfl
theorem q3080 : (Jvm.Cond.selects "Twinrow" ({ cls := "Twinrow", name := "swap", desc := "(III)I" } : Jvm.MethodName) ({ cls := "Twinrow", name := "swap", desc := "(III)I" } : Jvm.MethodName)) ∈ lw_all := lw_g (lw_at lw_m13 145 rfl) rfl
theorem q3081 : (Jvm.Cond.code ({ cls := "Twinrow", name := "swap", desc := "(III)I" } : Jvm.MethodName) prog_1_method_48_code (6 : Nat) (Option.some Jvm.ClassFile.FieldType.int)) ∈ lw_all := lw_g (lw_at lw_m13 146 rfl) rfl
theorem q3082 : (Jvm.Cond.methodLink "Twinrow" (286 : Nat) ({ cls := "java/util/Collections", name := "swap", desc := "(Ljava/util/List;II)V" } : Jvm.MethodName)) ∈ lw_all := lw_g (lw_at lw_m13 147 rfl) rfl
theorem q3087 : (Jvm.Cond.instanceMethod ({ cls := "Twinrow", name := "add", desc := "(II)I" } : Jvm.MethodName)) ∈ lw_all := lw_g (lw_at lw_m13 152 rfl) rfl
theorem q3088 : (Jvm.Cond.selects "Twinrow" ({ cls := "Twinrow", name := "add", desc := "(II)I" } : Jvm.MethodName) ({ cls := "Twinrow", name := "add", desc := "(II)I" } : Jvm.MethodName)) ∈ lw_all := lw_g (lw_at lw_m13 153 rfl) rfl
theorem q3089 : (Jvm.Cond.codeWith ({ cls := "Twinrow", name := "add", desc := "(II)I" } : Jvm.MethodName) prog_1_method_50_code (5 : Nat) (Option.some Jvm.ClassFile.FieldType.int) [((10 : Nat), (23 : Nat), (24 : Nat), (297 : Nat))]) ∈ lw_all := lw_g (lw_at lw_m13 154 rfl) rfl
theorem q3090 : (Jvm.Cond.methodLink "Twinrow" (299 : Nat) ({ cls := "Twinrow", name := "refuse", desc := "()I" } : Jvm.MethodName)) ∈ lw_all := lw_g (lw_at lw_m13 155 rfl) rfl
theorem q3091 : (Jvm.Cond.privateMethod ({ cls := "Twinrow", name := "refuse", desc := "()I" } : Jvm.MethodName)) ∈ lw_tbl := lw_at lw_m13 156 rfl
theorem q3092 : (Jvm.Cond.instanceMethod ({ cls := "Twinrow", name := "refuse", desc := "()I" } : Jvm.MethodName)) ∈ lw_all := lw_g (lw_at lw_m13 157 rfl) rfl
theorem q3093 : (Jvm.Cond.code ({ cls := "Twinrow", name := "refuse", desc := "()I" } : Jvm.MethodName) prog_1_method_15_code (1 : Nat) (Option.some Jvm.ClassFile.FieldType.int)) ∈ lw_all := lw_g (lw_at lw_m13 158 rfl) rfl
theorem q3098 : (Jvm.Cond.instanceMethod ({ cls := "Twinrow", name := "addAt", desc := "(III)I" } : Jvm.MethodName)) ∈ lw_all := lw_g (lw_at lw_m13 163 rfl) rfl
theorem q3099 : (Jvm.Cond.selects "Twinrow" ({ cls := "Twinrow", name := "addAt", desc := "(III)I" } : Jvm.MethodName) ({ cls := "Twinrow", name := "addAt", desc := "(III)I" } : Jvm.MethodName)) ∈ lw_all := lw_g (lw_at lw_m13 164 rfl) rfl
theorem q3100 : (Jvm.Cond.codeWith ({ cls := "Twinrow", name := "addAt", desc := "(III)I" } : Jvm.MethodName) prog_1_method_51_code (6 : Nat) (Option.some Jvm.ClassFile.FieldType.int) [((37 : Nat), (50 : Nat), (51 : Nat), (297 : Nat))]) ∈ lw_all := lw_g (lw_at lw_m13 165 rfl) rfl
theorem q3101 : (Jvm.Cond.interfaceEntry "Twinrow" (302 : Nat)) ∈ lw_tbl := lw_at lw_m13 166 rfl
theorem q3102 : (Jvm.Cond.methodLink "Twinrow" (302 : Nat) ({ cls := "java/util/List", name := "add", desc := "(ILjava/lang/Object;)V" } : Jvm.MethodName)) ∈ lw_all := lw_g (lw_at lw_m13 167 rfl) rfl
theorem q3123 : (Jvm.Cond.instanceMethod ({ cls := "Twinrow", name := "addAll", desc := "(II)I" } : Jvm.MethodName)) ∈ lw_all := lw_g (lw_at lw_m13 188 rfl) rfl
theorem q3124 : (Jvm.Cond.selects "Twinrow" ({ cls := "Twinrow", name := "addAll", desc := "(II)I" } : Jvm.MethodName) ({ cls := "Twinrow", name := "addAll", desc := "(II)I" } : Jvm.MethodName)) ∈ lw_all := lw_g (lw_at lw_m13 189 rfl) rfl
theorem q3125 : (Jvm.Cond.codeWith ({ cls := "Twinrow", name := "addAll", desc := "(II)I" } : Jvm.MethodName) prog_1_method_52_code (6 : Nat) (Option.some Jvm.ClassFile.FieldType.int) [((13 : Nat), (24 : Nat), (25 : Nat), (297 : Nat))]) ∈ lw_all := lw_g (lw_at lw_m13 190 rfl) rfl
theorem q3126 : (Jvm.Cond.interfaceEntry "Twinrow" (305 : Nat)) ∈ lw_tbl := lw_at lw_m13 191 rfl
theorem q3127 : (Jvm.Cond.methodLink "Twinrow" (305 : Nat) ({ cls := "java/util/List", name := "addAll", desc := "(Ljava/util/Collection;)Z" } : Jvm.MethodName)) ∈ lw_all := lw_g (lw_at lw_m13 192 rfl) rfl
theorem q3201 : (Jvm.Cond.instanceMethod ({ cls := "Twinrow", name := "remove", desc := "(II)I" } : Jvm.MethodName)) ∈ lw_all := lw_g (lw_at lw_m14 26 rfl) rfl
theorem q3202 : (Jvm.Cond.selects "Twinrow" ({ cls := "Twinrow", name := "remove", desc := "(II)I" } : Jvm.MethodName) ({ cls := "Twinrow", name := "remove", desc := "(II)I" } : Jvm.MethodName)) ∈ lw_all := lw_g (lw_at lw_m14 27 rfl) rfl
theorem q3203 : (Jvm.Cond.codeWith ({ cls := "Twinrow", name := "remove", desc := "(II)I" } : Jvm.MethodName) prog_1_method_53_code (5 : Nat) (Option.some Jvm.ClassFile.FieldType.int) [((7 : Nat), (20 : Nat), (21 : Nat), (297 : Nat))]) ∈ lw_all := lw_g (lw_at lw_m14 28 rfl) rfl
theorem q3204 : (Jvm.Cond.interfaceEntry "Twinrow" (308 : Nat)) ∈ lw_tbl := lw_at lw_m14 29 rfl
theorem q3205 : (Jvm.Cond.methodLink "Twinrow" (308 : Nat) ({ cls := "java/util/List", name := "remove", desc := "(I)Ljava/lang/Object;" } : Jvm.MethodName)) ∈ lw_all := lw_g (lw_at lw_m14 30 rfl) rfl
theorem q3226 : (Jvm.Cond.instanceMethod ({ cls := "Twinrow", name := "removeValue", desc := "(II)I" } : Jvm.MethodName)) ∈ lw_all := lw_g (lw_at lw_m14 51 rfl) rfl
theorem q3227 : (Jvm.Cond.selects "Twinrow" ({ cls := "Twinrow", name := "removeValue", desc := "(II)I" } : Jvm.MethodName) ({ cls := "Twinrow", name := "removeValue", desc := "(II)I" } : Jvm.MethodName)) ∈ lw_all := lw_g (lw_at lw_m14 52 rfl) rfl
theorem q3228 : (Jvm.Cond.codeWith ({ cls := "Twinrow", name := "removeValue", desc := "(II)I" } : Jvm.MethodName) prog_1_method_54_code (5 : Nat) (Option.some Jvm.ClassFile.FieldType.int) [((10 : Nat), (23 : Nat), (24 : Nat), (297 : Nat))]) ∈ lw_all := lw_g (lw_at lw_m14 53 rfl) rfl
theorem q3229 : (Jvm.Cond.interfaceEntry "Twinrow" (310 : Nat)) ∈ lw_tbl := lw_at lw_m14 54 rfl
theorem q3230 : (Jvm.Cond.methodLink "Twinrow" (310 : Nat) ({ cls := "java/util/List", name := "remove", desc := "(Ljava/lang/Object;)Z" } : Jvm.MethodName)) ∈ lw_all := lw_g (lw_at lw_m14 55 rfl) rfl
theorem q3275 : (Jvm.Cond.instanceMethod ({ cls := "Twinrow", name := "removeAll", desc := "(II)I" } : Jvm.MethodName)) ∈ lw_all := lw_g (lw_at lw_m14 100 rfl) rfl
theorem q3276 : (Jvm.Cond.selects "Twinrow" ({ cls := "Twinrow", name := "removeAll", desc := "(II)I" } : Jvm.MethodName) ({ cls := "Twinrow", name := "removeAll", desc := "(II)I" } : Jvm.MethodName)) ∈ lw_all := lw_g (lw_at lw_m14 101 rfl) rfl
theorem q3277 : (Jvm.Cond.codeWith ({ cls := "Twinrow", name := "removeAll", desc := "(II)I" } : Jvm.MethodName) prog_1_method_55_code (6 : Nat) (Option.some Jvm.ClassFile.FieldType.int) [((13 : Nat), (24 : Nat), (25 : Nat), (297 : Nat))]) ∈ lw_all := lw_g (lw_at lw_m14 102 rfl) rfl
theorem q3278 : (Jvm.Cond.interfaceEntry "Twinrow" (312 : Nat)) ∈ lw_tbl := lw_at lw_m14 103 rfl
theorem q3279 : (Jvm.Cond.methodLink "Twinrow" (312 : Nat) ({ cls := "java/util/List", name := "removeAll", desc := "(Ljava/util/Collection;)Z" } : Jvm.MethodName)) ∈ lw_all := lw_g (lw_at lw_m14 104 rfl) rfl
theorem q3319 : (Jvm.Cond.instanceMethod ({ cls := "Twinrow", name := "retainAll", desc := "(II)I" } : Jvm.MethodName)) ∈ lw_all := lw_g (lw_at lw_m14 144 rfl) rfl
theorem q3320 : (Jvm.Cond.selects "Twinrow" ({ cls := "Twinrow", name := "retainAll", desc := "(II)I" } : Jvm.MethodName) ({ cls := "Twinrow", name := "retainAll", desc := "(II)I" } : Jvm.MethodName)) ∈ lw_all := lw_g (lw_at lw_m14 145 rfl) rfl
theorem q3321 : (Jvm.Cond.codeWith ({ cls := "Twinrow", name := "retainAll", desc := "(II)I" } : Jvm.MethodName) prog_1_method_56_code (6 : Nat) (Option.some Jvm.ClassFile.FieldType.int) [((13 : Nat), (24 : Nat), (25 : Nat), (297 : Nat))]) ∈ lw_all := lw_g (lw_at lw_m14 146 rfl) rfl
theorem q3322 : (Jvm.Cond.interfaceEntry "Twinrow" (315 : Nat)) ∈ lw_tbl := lw_at lw_m14 147 rfl
theorem q3323 : (Jvm.Cond.methodLink "Twinrow" (315 : Nat) ({ cls := "java/util/List", name := "retainAll", desc := "(Ljava/util/Collection;)Z" } : Jvm.MethodName)) ∈ lw_all := lw_g (lw_at lw_m14 148 rfl) rfl
theorem q3349 : (Jvm.Cond.instanceMethod ({ cls := "Twinrow", name := "removeIf", desc := "(III)I" } : Jvm.MethodName)) ∈ lw_all := lw_g (lw_at lw_m14 174 rfl) rfl
theorem q3350 : (Jvm.Cond.selects "Twinrow" ({ cls := "Twinrow", name := "removeIf", desc := "(III)I" } : Jvm.MethodName) ({ cls := "Twinrow", name := "removeIf", desc := "(III)I" } : Jvm.MethodName)) ∈ lw_all := lw_g (lw_at lw_m14 175 rfl) rfl
theorem q3351 : (Jvm.Cond.codeWith ({ cls := "Twinrow", name := "removeIf", desc := "(III)I" } : Jvm.MethodName) prog_1_method_57_code (7 : Nat) (Option.some Jvm.ClassFile.FieldType.int) [((39 : Nat), (58 : Nat), (59 : Nat), (297 : Nat))]) ∈ lw_all := lw_g (lw_at lw_m14 176 rfl) rfl
theorem q3352 : (Jvm.Cond.classLink "Twinrow" (318 : Nat) "Twinrow$Test") ∈ lw_all := lw_g (lw_at lw_m14 177 rfl) rfl
theorem q3354 : (Jvm.Cond.methodLink "Twinrow" (320 : Nat) ({ cls := "Twinrow$Test", name := "<init>", desc := "(II)V" } : Jvm.MethodName)) ∈ lw_all := lw_g (lw_at lw_m14 179 rfl) rfl
theorem q3365 : (Jvm.Cond.interfaceEntry "Twinrow" (321 : Nat)) ∈ lw_tbl := lw_at lw_m14 190 rfl
theorem q3366 : (Jvm.Cond.methodLink "Twinrow" (321 : Nat) ({ cls := "java/util/Collection", name := "removeIf", desc := "(Ljava/util/function/Predicate;)Z" } : Jvm.MethodName)) ∈ lw_all := lw_g (lw_at lw_m14 191 rfl) rfl
theorem q3431 : (Jvm.Cond.instanceMethod ({ cls := "Twinrow", name := "clear", desc := "(I)I" } : Jvm.MethodName)) ∈ lw_all := lw_g (lw_at lw_m15 16 rfl) rfl
theorem q3432 : (Jvm.Cond.selects "Twinrow" ({ cls := "Twinrow", name := "clear", desc := "(I)I" } : Jvm.MethodName) ({ cls := "Twinrow", name := "clear", desc := "(I)I" } : Jvm.MethodName)) ∈ lw_all := lw_g (lw_at lw_m15 17 rfl) rfl
theorem q3433 : (Jvm.Cond.codeWith ({ cls := "Twinrow", name := "clear", desc := "(I)I" } : Jvm.MethodName) prog_1_method_58_code (4 : Nat) (Option.some Jvm.ClassFile.FieldType.int) [((6 : Nat), (13 : Nat), (14 : Nat), (297 : Nat))]) ∈ lw_all := lw_g (lw_at lw_m15 18 rfl) rfl
theorem q3438 : (Jvm.Cond.instanceMethod ({ cls := "Twinrow", name := "walkChange", desc := "(III)I" } : Jvm.MethodName)) ∈ lw_all := lw_g (lw_at lw_m15 23 rfl) rfl
theorem q3439 : (Jvm.Cond.selects "Twinrow" ({ cls := "Twinrow", name := "walkChange", desc := "(III)I" } : Jvm.MethodName) ({ cls := "Twinrow", name := "walkChange", desc := "(III)I" } : Jvm.MethodName)) ∈ lw_all := lw_g (lw_at lw_m15 24 rfl) rfl
theorem q3440 : (Jvm.Cond.codeWith ({ cls := "Twinrow", name := "walkChange", desc := "(III)I" } : Jvm.MethodName) prog_1_method_59_code (6 : Nat) (Option.some Jvm.ClassFile.FieldType.int) [((17 : Nat), (25 : Nat), (26 : Nat), (297 : Nat))]) ∈ lw_all := lw_g (lw_at lw_m15 25 rfl) rfl
theorem q3441 : (Jvm.Cond.methodLink "Twinrow" (330 : Nat) ({ cls := "Twinrow", name := "change", desc := "(Ljava/util/List;II)V" } : Jvm.MethodName)) ∈ lw_all := lw_g (lw_at lw_m15 26 rfl) rfl
theorem q3442 : (Jvm.Cond.static ({ cls := "Twinrow", name := "change", desc := "(Ljava/util/List;II)V" } : Jvm.MethodName)) ∈ lw_all := lw_g (lw_at lw_m15 27 rfl) rfl
theorem q3443 : (Jvm.Cond.code ({ cls := "Twinrow", name := "change", desc := "(Ljava/util/List;II)V" } : Jvm.MethodName) prog_1_method_49_code (5 : Nat) (Option.none : Option Jvm.ClassFile.FieldType)) ∈ lw_all := lw_g (lw_at lw_m15 28 rfl) rfl
theorem q3444 : (Jvm.Cond.interfaceEntry "Twinrow" (290 : Nat)) ∈ lw_tbl := lw_at lw_m15 29 rfl
theorem q3445 : (Jvm.Cond.methodLink "Twinrow" (290 : Nat) ({ cls := "java/util/Iterator", name := "remove", desc := "()V" } : Jvm.MethodName)) ∈ lw_all := lw_g (lw_at lw_m15 30 rfl) rfl
theorem q3446 : (Jvm.Cond.interfaceEntry "Twinrow" (293 : Nat)) ∈ lw_tbl := lw_at lw_m15 31 rfl
theorem q3447 : (Jvm.Cond.methodLink "Twinrow" (293 : Nat) ({ cls := "java/util/ListIterator", name := "remove", desc := "()V" } : Jvm.MethodName)) ∈ lw_all := lw_g (lw_at lw_m15 32 rfl) rfl
theorem q3448 : (Jvm.Cond.interfaceEntry "Twinrow" (294 : Nat)) ∈ lw_tbl := lw_at lw_m15 33 rfl
theorem q3449 : (Jvm.Cond.methodLink "Twinrow" (294 : Nat) ({ cls := "java/util/ListIterator", name := "add", desc := "(Ljava/lang/Object;)V" } : Jvm.MethodName)) ∈ lw_all := lw_g (lw_at lw_m15 34 rfl) rfl
theorem q3481 : (Jvm.Cond.instanceMethod ({ cls := "Twinrow", name := "house", desc := "(I)I" } : Jvm.MethodName)) ∈ lw_all := lw_g (lw_at lw_m15 66 rfl) rfl
theorem q3482 : (Jvm.Cond.selects "Twinrow" ({ cls := "Twinrow", name := "house", desc := "(I)I" } : Jvm.MethodName) ({ cls := "Twinrow", name := "house", desc := "(I)I" } : Jvm.MethodName)) ∈ lw_all := lw_g (lw_at lw_m15 67 rfl) rfl
theorem q3483 : (Jvm.Cond.code ({ cls := "Twinrow", name := "house", desc := "(I)I" } : Jvm.MethodName) prog_1_method_69_code (2 : Nat) (Option.some Jvm.ClassFile.FieldType.int)) ∈ lw_all := lw_g (lw_at lw_m15 68 rfl) rfl
theorem q3488 : (Jvm.Cond.instanceMethod ({ cls := "Twinrow", name := "rowOf", desc := "(I)I" } : Jvm.MethodName)) ∈ lw_all := lw_g (lw_at lw_m15 73 rfl) rfl
theorem q3489 : (Jvm.Cond.selects "Twinrow" ({ cls := "Twinrow", name := "rowOf", desc := "(I)I" } : Jvm.MethodName) ({ cls := "Twinrow", name := "rowOf", desc := "(I)I" } : Jvm.MethodName)) ∈ lw_all := lw_g (lw_at lw_m15 74 rfl) rfl
theorem q3490 : (Jvm.Cond.code ({ cls := "Twinrow", name := "rowOf", desc := "(I)I" } : Jvm.MethodName) prog_1_method_70_code (2 : Nat) (Option.some Jvm.ClassFile.FieldType.int)) ∈ lw_all := lw_g (lw_at lw_m15 75 rfl) rfl
theorem q3495 : (Jvm.Cond.instanceMethod ({ cls := "Twinrow", name := "begin", desc := "(I)I" } : Jvm.MethodName)) ∈ lw_all := lw_g (lw_at lw_m15 80 rfl) rfl
theorem q3496 : (Jvm.Cond.selects "Twinrow" ({ cls := "Twinrow", name := "begin", desc := "(I)I" } : Jvm.MethodName) ({ cls := "Twinrow", name := "begin", desc := "(I)I" } : Jvm.MethodName)) ∈ lw_all := lw_g (lw_at lw_m15 81 rfl) rfl
theorem q3497 : (Jvm.Cond.code ({ cls := "Twinrow", name := "begin", desc := "(I)I" } : Jvm.MethodName) prog_1_method_71_code (2 : Nat) (Option.some Jvm.ClassFile.FieldType.int)) ∈ lw_all := lw_g (lw_at lw_m15 82 rfl) rfl
theorem q3900 : (Jvm.Cond.castable "Twinrow" "java/lang/Object") ∈ lw_tbl := lw_at lw_m17 5 rfl
theorem in_X1 : ∀ w ∈ wsX10, w ∈ lw_all := lw_in wsX10 [304, 306, 308, 310, 312, 314] (by decide +kernel) (by decide +kernel)

/-! TwinrowLaw$Out -/
set_option maxRecDepth 100000
def RX3 : String := "TwinrowLaw$Out"
def TX3 : u_T := fun k => match k with
  | 0 => ("TwinrowLaw$Out", "n", "J", false)
  | _ => ("TwinrowLaw$Out", "s", "Ljava/lang/String;", false)
def tyX3 : Nat → FieldType := fun k => match k with
  | 0 => .long
  | _ => .object "java/lang/String"
abbrev wsX30 : List Cond := u_ws RX3 TX3 2
theorem nmX3 : ∀ a, a < 2 → ∀ b, b < 2 → a ≠ b → (TX3 a).2.1 ≠ (TX3 b).2.1 := by decide +kernel
theorem tyX3_ok : ∀ k, k < 2 → parseFieldDescriptor (TX3 k).2.2.1 = some (tyX3 k) := by decide +kernel
abbrev cX3_init : ByteArray := prog_7_method_1_code
def yX3_init : MethodName := ⟨RX3, "<init>", "()V"⟩
theorem dX3_init_0 : decode cX3_init 0 = .ok (.aload_n 0, 1) := by decide +kernel
theorem dX3_init_1 : decode cX3_init 1 = .ok (.invokespecial 1, 3) := by decide +kernel
theorem dX3_init_4 : decode cX3_init 4 = .ok (.return_, 1) := by decide +kernel
theorem q71 : (Jvm.Cond.initialized "TwinrowLaw$Out") ∈ lw_all := lw_g (lw_at lw_m1 16 rfl) rfl
theorem q223 : (Jvm.Cond.selects "TwinrowLaw$Out" ({ cls := "java/lang/Object", name := "getClass", desc := "()Ljava/lang/Class;" } : Jvm.MethodName) ({ cls := "java/lang/Object", name := "getClass", desc := "()Ljava/lang/Class;" } : Jvm.MethodName)) ∈ lw_all := lw_g (lw_at lw_m1 168 rfl) rfl
theorem q1111 : (Jvm.Cond.selects "TwinrowLaw$Out" ({ cls := "java/lang/Object", name := "equals", desc := "(Ljava/lang/Object;)Z" } : Jvm.MethodName) ({ cls := "java/lang/Object", name := "equals", desc := "(Ljava/lang/Object;)Z" } : Jvm.MethodName)) ∈ lw_all := lw_g (lw_at lw_m5 96 rfl) rfl
theorem q1299 : (Jvm.Cond.selects "TwinrowLaw$Out" ({ cls := "java/lang/Object", name := "hashCode", desc := "()I" } : Jvm.MethodName) ({ cls := "java/lang/Object", name := "hashCode", desc := "()I" } : Jvm.MethodName)) ∈ lw_all := lw_g (lw_at lw_m6 44 rfl) rfl
theorem q1963 : (Jvm.Cond.instantiable "TwinrowLaw$Out" (2 : Nat)) ∈ lw_all := lw_g (lw_at lw_m8 228 rfl) rfl
theorem q1965 : (Jvm.Cond.instanceMethod ({ cls := "TwinrowLaw$Out", name := "<init>", desc := "()V" } : Jvm.MethodName)) ∈ lw_all := lw_g (lw_at lw_m8 230 rfl) rfl
theorem q1966 : (Jvm.Cond.code ({ cls := "TwinrowLaw$Out", name := "<init>", desc := "()V" } : Jvm.MethodName) prog_7_method_1_code (1 : Nat) (Option.none : Option Jvm.ClassFile.FieldType)) ∈ lw_all := lw_g (lw_at lw_m8 231 rfl) rfl
theorem q1967 : (Jvm.Cond.methodLink "TwinrowLaw$Out" (1 : Nat) ({ cls := "java/lang/Object", name := "<init>", desc := "()V" } : Jvm.MethodName)) ∈ lw_all := lw_g (lw_at lw_m8 232 rfl) rfl
theorem q1970 : (Jvm.Cond.lays "TwinrowLaw$Out" "TwinrowLaw$Out" "n" "J") ∈ lw_all := lw_g (lw_at lw_m8 235 rfl) rfl
theorem q1971 : (Jvm.Cond.soleField "TwinrowLaw$Out" "n") ∈ lw_all := lw_g (lw_at lw_m8 236 rfl) rfl
theorem q1972 : (Jvm.Cond.lays "TwinrowLaw$Out" "TwinrowLaw$Out" "s" "Ljava/lang/String;") ∈ lw_all := lw_g (lw_at lw_m8 237 rfl) rfl
theorem q1973 : (Jvm.Cond.soleField "TwinrowLaw$Out" "s") ∈ lw_all := lw_g (lw_at lw_m8 238 rfl) rfl
theorem q1974 : (Jvm.Cond.superclass "TwinrowLaw$Out" "java/lang/Object") ∈ lw_all := lw_g (lw_at lw_m8 239 rfl) rfl
theorem q3904 : (Jvm.Cond.castable "TwinrowLaw$Out" "java/lang/Object") ∈ lw_tbl := lw_at lw_m17 9 rfl
theorem in_X3 : ∀ w ∈ wsX30, w ∈ lw_all := lw_in wsX30 [1970, 1972] (by decide +kernel) (by decide +kernel)

/-! Twinrow$Sum -/
set_option maxRecDepth 100000
def RX4 : String := "Twinrow$Sum"
def TX4 : u_T := fun k => match k with
  | _ => ("Twinrow$Sum", "sum", "I", false)
def tyX4 : Nat → FieldType := fun k => match k with
  | _ => .int
abbrev wsX40 : List Cond := u_ws RX4 TX4 1
theorem nmX4 : ∀ a, a < 1 → ∀ b, b < 1 → a ≠ b → (TX4 a).2.1 ≠ (TX4 b).2.1 := by decide +kernel
theorem tyX4_ok : ∀ k, k < 1 → parseFieldDescriptor (TX4 k).2.2.1 = some (tyX4 k) := by decide +kernel
abbrev cX4_init : ByteArray := prog_4_method_1_code
def yX4_init : MethodName := ⟨RX4, "<init>", "()V"⟩
theorem dX4_init_0 : decode cX4_init 0 = .ok (.aload_n 0, 1) := by decide +kernel
theorem dX4_init_1 : decode cX4_init 1 = .ok (.invokespecial 1, 3) := by decide +kernel
theorem dX4_init_4 : decode cX4_init 4 = .ok (.return_, 1) := by decide +kernel
abbrev cX4_accept : ByteArray := prog_4_method_3_code
def yX4_accept : MethodName := ⟨RX4, "accept", "(Ljava/lang/Object;)V"⟩
def dkwX4_accept_0 : List UInt8 := [42, 43, 192, 0, 14, 182, 0, 19, 177]
abbrev dktX4_accept_0 : List UInt8 := dkwX4_accept_0 ++ []
theorem dksX4_accept_0 : cX4_accept.data.toList.drop 0 = dktX4_accept_0 := by decide +kernel
theorem dX4_accept_0 : decode cX4_accept 0 = .ok (.aload_n 0, 1) := dk_42 (dk_at dksX4_accept_0 0 rfl rfl)
theorem dX4_accept_1 : decode cX4_accept 1 = .ok (.aload_n 1, 1) := dk_43 (dk_at dksX4_accept_0 1 rfl rfl)
theorem dX4_accept_2 : decode cX4_accept 2 = .ok (.checkcast 14, 3) := dk_192 0 14 (dk_at dksX4_accept_0 2 rfl rfl)
theorem dX4_accept_5 : decode cX4_accept 5 = .ok (.invokevirtual 19, 3) := dk_182 0 19 (dk_at dksX4_accept_0 5 rfl rfl)
theorem dX4_accept_8 : decode cX4_accept 8 = .ok (.return_, 1) := dk_177 (dk_at dksX4_accept_0 8 rfl rfl)
abbrev cX4_accept_2 : ByteArray := prog_4_method_2_code
def yX4_accept_2 : MethodName := ⟨RX4, "accept", "(Ljava/lang/Integer;)V"⟩
def dkwX4_accept_2_0 : List UInt8 := [42, 89, 180, 0, 7, 43, 199, 0, 7, 3, 167, 0, 7, 43, 182, 0, 13, 96, 181, 0, 7, 177]
abbrev dktX4_accept_2_0 : List UInt8 := dkwX4_accept_2_0 ++ []
theorem dksX4_accept_2_0 : cX4_accept_2.data.toList.drop 0 = dktX4_accept_2_0 := by decide +kernel
theorem dX4_accept_2_0 : decode cX4_accept_2 0 = .ok (.aload_n 0, 1) := dk_42 (dk_at dksX4_accept_2_0 0 rfl rfl)
theorem dX4_accept_2_1 : decode cX4_accept_2 1 = .ok (.dup, 1) := dk_89 (dk_at dksX4_accept_2_0 1 rfl rfl)
theorem dX4_accept_2_2 : decode cX4_accept_2 2 = .ok (.getfield 7, 3) := dk_180 0 7 (dk_at dksX4_accept_2_0 2 rfl rfl)
theorem dX4_accept_2_5 : decode cX4_accept_2 5 = .ok (.aload_n 1, 1) := dk_43 (dk_at dksX4_accept_2_0 5 rfl rfl)
theorem dX4_accept_2_6 : decode cX4_accept_2 6 = .ok (.ifnonnull 7, 3) := dk_199 0 7 (dk_at dksX4_accept_2_0 6 rfl rfl)
theorem dX4_accept_2_9 : decode cX4_accept_2 9 = .ok (.iconst 0, 1) := dk_3 (dk_at dksX4_accept_2_0 9 rfl rfl)
theorem dX4_accept_2_10 : decode cX4_accept_2 10 = .ok (.goto 7, 3) := dk_167 0 7 (dk_at dksX4_accept_2_0 10 rfl rfl)
theorem dX4_accept_2_13 : decode cX4_accept_2 13 = .ok (.aload_n 1, 1) := dk_43 (dk_at dksX4_accept_2_0 13 rfl rfl)
theorem dX4_accept_2_14 : decode cX4_accept_2 14 = .ok (.invokevirtual 13, 3) := dk_182 0 13 (dk_at dksX4_accept_2_0 14 rfl rfl)
theorem dX4_accept_2_17 : decode cX4_accept_2 17 = .ok (.iadd, 1) := dk_96 (dk_at dksX4_accept_2_0 17 rfl rfl)
theorem dX4_accept_2_18 : decode cX4_accept_2 18 = .ok (.putfield 7, 3) := dk_181 0 7 (dk_at dksX4_accept_2_0 18 rfl rfl)
theorem dX4_accept_2_21 : decode cX4_accept_2 21 = .ok (.return_, 1) := dk_177 (dk_at dksX4_accept_2_0 21 rfl rfl)
theorem q96 : (Jvm.Cond.initialized "Twinrow$Sum") ∈ lw_all := lw_g (lw_at lw_m1 41 rfl) rfl
theorem q221 : (Jvm.Cond.selects "Twinrow$Sum" ({ cls := "java/lang/Object", name := "getClass", desc := "()Ljava/lang/Class;" } : Jvm.MethodName) ({ cls := "java/lang/Object", name := "getClass", desc := "()Ljava/lang/Class;" } : Jvm.MethodName)) ∈ lw_all := lw_g (lw_at lw_m1 166 rfl) rfl
theorem q1109 : (Jvm.Cond.selects "Twinrow$Sum" ({ cls := "java/lang/Object", name := "equals", desc := "(Ljava/lang/Object;)Z" } : Jvm.MethodName) ({ cls := "java/lang/Object", name := "equals", desc := "(Ljava/lang/Object;)Z" } : Jvm.MethodName)) ∈ lw_all := lw_g (lw_at lw_m5 94 rfl) rfl
theorem q1297 : (Jvm.Cond.selects "Twinrow$Sum" ({ cls := "java/lang/Object", name := "hashCode", desc := "()I" } : Jvm.MethodName) ({ cls := "java/lang/Object", name := "hashCode", desc := "()I" } : Jvm.MethodName)) ∈ lw_all := lw_g (lw_at lw_m6 42 rfl) rfl
theorem q1889 : (Jvm.Cond.instantiable "Twinrow$Sum" (1 : Nat)) ∈ lw_all := lw_g (lw_at lw_m8 154 rfl) rfl
theorem q1891 : (Jvm.Cond.instanceMethod ({ cls := "Twinrow$Sum", name := "<init>", desc := "()V" } : Jvm.MethodName)) ∈ lw_all := lw_g (lw_at lw_m8 156 rfl) rfl
theorem q1892 : (Jvm.Cond.code ({ cls := "Twinrow$Sum", name := "<init>", desc := "()V" } : Jvm.MethodName) prog_4_method_1_code (1 : Nat) (Option.none : Option Jvm.ClassFile.FieldType)) ∈ lw_all := lw_g (lw_at lw_m8 157 rfl) rfl
theorem q1893 : (Jvm.Cond.methodLink "Twinrow$Sum" (1 : Nat) ({ cls := "java/lang/Object", name := "<init>", desc := "()V" } : Jvm.MethodName)) ∈ lw_all := lw_g (lw_at lw_m8 158 rfl) rfl
theorem q1894 : (Jvm.Cond.fieldLink "Twinrow$Sum" (7 : Nat) "Twinrow$Sum" "sum" "I") ∈ lw_all := lw_g (lw_at lw_m8 159 rfl) rfl
theorem q1896 : (Jvm.Cond.lays "Twinrow$Sum" "Twinrow$Sum" "sum" "I") ∈ lw_all := lw_g (lw_at lw_m8 161 rfl) rfl
theorem q1897 : (Jvm.Cond.soleField "Twinrow$Sum" "sum") ∈ lw_all := lw_g (lw_at lw_m8 162 rfl) rfl
theorem q1898 : (Jvm.Cond.superclass "Twinrow$Sum" "java/lang/Object") ∈ lw_all := lw_g (lw_at lw_m8 163 rfl) rfl
theorem q1930 : (Jvm.Cond.castable "Twinrow$Sum" "java/util/function/Consumer") ∈ lw_tbl := lw_at lw_m8 195 rfl
theorem q1931 : (Jvm.Cond.selects "Twinrow$Sum" ({ cls := "java/util/function/Consumer", name := "accept", desc := "(Ljava/lang/Object;)V" } : Jvm.MethodName) ({ cls := "Twinrow$Sum", name := "accept", desc := "(Ljava/lang/Object;)V" } : Jvm.MethodName)) ∈ lw_all := lw_g (lw_at lw_m8 196 rfl) rfl
theorem q1932 : (Jvm.Cond.unhidden "Twinrow$Sum" "accept" "(Ljava/lang/Object;)V") ∈ lw_tbl := lw_at lw_m8 197 rfl
theorem q1933 : (Jvm.Cond.instanceMethod ({ cls := "Twinrow$Sum", name := "accept", desc := "(Ljava/lang/Object;)V" } : Jvm.MethodName)) ∈ lw_all := lw_g (lw_at lw_m8 198 rfl) rfl
theorem q1934 : (Jvm.Cond.publicMethod ({ cls := "Twinrow$Sum", name := "accept", desc := "(Ljava/lang/Object;)V" } : Jvm.MethodName)) ∈ lw_tbl := lw_at lw_m8 199 rfl
theorem q1935 : (Jvm.Cond.code ({ cls := "Twinrow$Sum", name := "accept", desc := "(Ljava/lang/Object;)V" } : Jvm.MethodName) prog_4_method_3_code (2 : Nat) (Option.none : Option Jvm.ClassFile.FieldType)) ∈ lw_all := lw_g (lw_at lw_m8 200 rfl) rfl
theorem q1936 : (Jvm.Cond.classLink "Twinrow$Sum" (14 : Nat) "java/lang/Integer") ∈ lw_all := lw_g (lw_at lw_m8 201 rfl) rfl
theorem q1937 : (Jvm.Cond.methodLink "Twinrow$Sum" (19 : Nat) ({ cls := "Twinrow$Sum", name := "accept", desc := "(Ljava/lang/Integer;)V" } : Jvm.MethodName)) ∈ lw_all := lw_g (lw_at lw_m8 202 rfl) rfl
theorem q1938 : (Jvm.Cond.instanceMethod ({ cls := "Twinrow$Sum", name := "accept", desc := "(Ljava/lang/Integer;)V" } : Jvm.MethodName)) ∈ lw_all := lw_g (lw_at lw_m8 203 rfl) rfl
theorem q1939 : (Jvm.Cond.selects "Twinrow$Sum" ({ cls := "Twinrow$Sum", name := "accept", desc := "(Ljava/lang/Integer;)V" } : Jvm.MethodName) ({ cls := "Twinrow$Sum", name := "accept", desc := "(Ljava/lang/Integer;)V" } : Jvm.MethodName)) ∈ lw_all := lw_g (lw_at lw_m8 204 rfl) rfl
theorem q1940 : (Jvm.Cond.code ({ cls := "Twinrow$Sum", name := "accept", desc := "(Ljava/lang/Integer;)V" } : Jvm.MethodName) prog_4_method_2_code (2 : Nat) (Option.none : Option Jvm.ClassFile.FieldType)) ∈ lw_all := lw_g (lw_at lw_m8 205 rfl) rfl
theorem q1941 : (Jvm.Cond.methodLink "Twinrow$Sum" (13 : Nat) ({ cls := "java/lang/Integer", name := "intValue", desc := "()I" } : Jvm.MethodName)) ∈ lw_all := lw_g (lw_at lw_m8 206 rfl) rfl
theorem q3923 : (Jvm.Cond.castable "Twinrow$Sum" "java/lang/Object") ∈ lw_tbl := lw_at lw_m17 28 rfl
theorem in_X4 : ∀ w ∈ wsX40, w ∈ lw_all := lw_in wsX40 [1896] (by decide +kernel) (by decide +kernel)

/-! Twinrow$Rule -/
set_option maxRecDepth 100000
def RX5 : String := "Twinrow$Rule"
def TX5 : u_T := fun k => match k with
  | 0 => ("Twinrow$Rule", "rule", "I", true)
  | _ => ("Twinrow$Rule", "number", "I", true)
def tyX5 : Nat → FieldType := fun k => match k with
  | 0 => .int
  | _ => .int
abbrev wsX50 : List Cond := u_ws RX5 TX5 2
theorem nmX5 : ∀ a, a < 2 → ∀ b, b < 2 → a ≠ b → (TX5 a).2.1 ≠ (TX5 b).2.1 := by decide +kernel
theorem tyX5_ok : ∀ k, k < 2 → parseFieldDescriptor (TX5 k).2.2.1 = some (tyX5 k) := by decide +kernel
abbrev cX5_init : ByteArray := prog_3_method_1_code
def yX5_init : MethodName := ⟨RX5, "<init>", "(II)V"⟩
def dkwX5_init_0 : List UInt8 := [42, 183, 0, 3, 42, 27, 181, 0, 9, 42, 28, 181, 0, 15, 177]
abbrev dktX5_init_0 : List UInt8 := dkwX5_init_0 ++ []
theorem dksX5_init_0 : cX5_init.data.toList.drop 0 = dktX5_init_0 := by decide +kernel
theorem dX5_init_0 : decode cX5_init 0 = .ok (.aload_n 0, 1) := dk_42 (dk_at dksX5_init_0 0 rfl rfl)
theorem dX5_init_1 : decode cX5_init 1 = .ok (.invokespecial 3, 3) := dk_183 0 3 (dk_at dksX5_init_0 1 rfl rfl)
theorem dX5_init_4 : decode cX5_init 4 = .ok (.aload_n 0, 1) := dk_42 (dk_at dksX5_init_0 4 rfl rfl)
theorem dX5_init_5 : decode cX5_init 5 = .ok (.iload_n 1, 1) := dk_27 (dk_at dksX5_init_0 5 rfl rfl)
theorem dX5_init_6 : decode cX5_init 6 = .ok (.putfield 9, 3) := dk_181 0 9 (dk_at dksX5_init_0 6 rfl rfl)
theorem dX5_init_9 : decode cX5_init 9 = .ok (.aload_n 0, 1) := dk_42 (dk_at dksX5_init_0 9 rfl rfl)
theorem dX5_init_10 : decode cX5_init 10 = .ok (.iload_n 2, 1) := dk_28 (dk_at dksX5_init_0 10 rfl rfl)
theorem dX5_init_11 : decode cX5_init 11 = .ok (.putfield 15, 3) := dk_181 0 15 (dk_at dksX5_init_0 11 rfl rfl)
theorem dX5_init_14 : decode cX5_init 14 = .ok (.return_, 1) := dk_177 (dk_at dksX5_init_0 14 rfl rfl)
abbrev cX5_apply : ByteArray := prog_3_method_3_code
def yX5_apply : MethodName := ⟨RX5, "apply", "(Ljava/lang/Integer;)Ljava/lang/Integer;"⟩
def dkwX5_apply_4 : List UInt8 := [167, 0, 7, 28, 184, 0, 37, 176]
abbrev dktX5_apply_4 : List UInt8 := dkwX5_apply_4 ++ []
def dkwX5_apply_3 : List UInt8 := [176, 28, 42, 180, 0, 15, 104, 184, 0, 33, 184, 0, 37, 176, 28, 42, 180, 0, 15, 160, 0, 7, 1]
abbrev dktX5_apply_3 : List UInt8 := dkwX5_apply_3 ++ dktX5_apply_4
def dkwX5_apply_2 : List UInt8 := [28, 42, 180, 0, 15, 96, 184, 0, 33, 184, 0, 37, 176, 28, 42, 180, 0, 15, 184, 0, 24, 184, 0, 37]
abbrev dktX5_apply_2 : List UInt8 := dkwX5_apply_2 ++ dktX5_apply_3
def dkwX5_apply_1 : List UInt8 := [170, 0, 0, 0, 0, 0, 65, 0, 0, 0, 0, 0, 0, 0, 2, 0, 0, 0, 27, 0, 0, 0, 40, 0, 0, 0, 52]
abbrev dktX5_apply_1 : List UInt8 := dkwX5_apply_1 ++ dktX5_apply_2
def dkwX5_apply_0 : List UInt8 := [43, 199, 0, 7, 3, 167, 0, 7, 43, 182, 0, 27, 61, 42, 180, 0, 9]
abbrev dktX5_apply_0 : List UInt8 := dkwX5_apply_0 ++ dktX5_apply_1
theorem dksX5_apply_0 : cX5_apply.data.toList.drop 0 = dktX5_apply_0 := by decide +kernel
theorem dksX5_apply_1 : cX5_apply.data.toList.drop 17 = dktX5_apply_1 := dk_seg dksX5_apply_0 17 rfl rfl
theorem dksX5_apply_2 : cX5_apply.data.toList.drop 44 = dktX5_apply_2 := dk_seg dksX5_apply_1 27 rfl rfl
theorem dksX5_apply_3 : cX5_apply.data.toList.drop 68 = dktX5_apply_3 := dk_seg dksX5_apply_2 24 rfl rfl
theorem dksX5_apply_4 : cX5_apply.data.toList.drop 91 = dktX5_apply_4 := dk_seg dksX5_apply_3 23 rfl rfl
theorem dX5_apply_0 : decode cX5_apply 0 = .ok (.aload_n 1, 1) := dk_43 (dk_at dksX5_apply_0 0 rfl rfl)
theorem dX5_apply_1 : decode cX5_apply 1 = .ok (.ifnonnull 7, 3) := dk_199 0 7 (dk_at dksX5_apply_0 1 rfl rfl)
theorem dX5_apply_4 : decode cX5_apply 4 = .ok (.iconst 0, 1) := dk_3 (dk_at dksX5_apply_0 4 rfl rfl)
theorem dX5_apply_5 : decode cX5_apply 5 = .ok (.goto 7, 3) := dk_167 0 7 (dk_at dksX5_apply_0 5 rfl rfl)
theorem dX5_apply_8 : decode cX5_apply 8 = .ok (.aload_n 1, 1) := dk_43 (dk_at dksX5_apply_0 8 rfl rfl)
theorem dX5_apply_9 : decode cX5_apply 9 = .ok (.invokevirtual 27, 3) := dk_182 0 27 (dk_at dksX5_apply_0 9 rfl rfl)
theorem dX5_apply_12 : decode cX5_apply 12 = .ok (.istore_n 2, 1) := dk_61 (dk_at dksX5_apply_0 12 rfl rfl)
theorem dX5_apply_13 : decode cX5_apply 13 = .ok (.aload_n 0, 1) := dk_42 (dk_at dksX5_apply_0 13 rfl rfl)
theorem dX5_apply_14 : decode cX5_apply 14 = .ok (.getfield 9, 3) := dk_180 0 9 (dk_at dksX5_apply_0 14 rfl rfl)
theorem dX5_apply_17 : decode cX5_apply 17 = .ok (.tableswitch 65 0 2 #[27, 40, 52], 27) := by decide +kernel
theorem dX5_apply_44 : decode cX5_apply 44 = .ok (.iload_n 2, 1) := dk_28 (dk_at dksX5_apply_2 0 rfl rfl)
theorem dX5_apply_45 : decode cX5_apply 45 = .ok (.aload_n 0, 1) := dk_42 (dk_at dksX5_apply_2 1 rfl rfl)
theorem dX5_apply_46 : decode cX5_apply 46 = .ok (.getfield 15, 3) := dk_180 0 15 (dk_at dksX5_apply_2 2 rfl rfl)
theorem dX5_apply_49 : decode cX5_apply 49 = .ok (.iadd, 1) := dk_96 (dk_at dksX5_apply_2 5 rfl rfl)
theorem dX5_apply_50 : decode cX5_apply 50 = .ok (.invokestatic 33, 3) := dk_184 0 33 (dk_at dksX5_apply_2 6 rfl rfl)
theorem dX5_apply_53 : decode cX5_apply 53 = .ok (.invokestatic 37, 3) := dk_184 0 37 (dk_at dksX5_apply_2 9 rfl rfl)
theorem dX5_apply_56 : decode cX5_apply 56 = .ok (.areturn, 1) := dk_176 (dk_at dksX5_apply_2 12 rfl rfl)
theorem dX5_apply_57 : decode cX5_apply 57 = .ok (.iload_n 2, 1) := dk_28 (dk_at dksX5_apply_2 13 rfl rfl)
theorem dX5_apply_58 : decode cX5_apply 58 = .ok (.aload_n 0, 1) := dk_42 (dk_at dksX5_apply_2 14 rfl rfl)
theorem dX5_apply_59 : decode cX5_apply 59 = .ok (.getfield 15, 3) := dk_180 0 15 (dk_at dksX5_apply_2 15 rfl rfl)
theorem dX5_apply_62 : decode cX5_apply 62 = .ok (.invokestatic 24, 3) := dk_184 0 24 (dk_at dksX5_apply_2 18 rfl rfl)
theorem dX5_apply_65 : decode cX5_apply 65 = .ok (.invokestatic 37, 3) := dk_184 0 37 (dk_at dksX5_apply_2 21 rfl rfl)
theorem dX5_apply_68 : decode cX5_apply 68 = .ok (.areturn, 1) := dk_176 (dk_at dksX5_apply_3 0 rfl rfl)
theorem dX5_apply_69 : decode cX5_apply 69 = .ok (.iload_n 2, 1) := dk_28 (dk_at dksX5_apply_3 1 rfl rfl)
theorem dX5_apply_70 : decode cX5_apply 70 = .ok (.aload_n 0, 1) := dk_42 (dk_at dksX5_apply_3 2 rfl rfl)
theorem dX5_apply_71 : decode cX5_apply 71 = .ok (.getfield 15, 3) := dk_180 0 15 (dk_at dksX5_apply_3 3 rfl rfl)
theorem dX5_apply_74 : decode cX5_apply 74 = .ok (.imul, 1) := dk_104 (dk_at dksX5_apply_3 6 rfl rfl)
theorem dX5_apply_75 : decode cX5_apply 75 = .ok (.invokestatic 33, 3) := dk_184 0 33 (dk_at dksX5_apply_3 7 rfl rfl)
theorem dX5_apply_78 : decode cX5_apply 78 = .ok (.invokestatic 37, 3) := dk_184 0 37 (dk_at dksX5_apply_3 10 rfl rfl)
theorem dX5_apply_81 : decode cX5_apply 81 = .ok (.areturn, 1) := dk_176 (dk_at dksX5_apply_3 13 rfl rfl)
theorem dX5_apply_82 : decode cX5_apply 82 = .ok (.iload_n 2, 1) := dk_28 (dk_at dksX5_apply_3 14 rfl rfl)
theorem dX5_apply_83 : decode cX5_apply 83 = .ok (.aload_n 0, 1) := dk_42 (dk_at dksX5_apply_3 15 rfl rfl)
theorem dX5_apply_84 : decode cX5_apply 84 = .ok (.getfield 15, 3) := dk_180 0 15 (dk_at dksX5_apply_3 16 rfl rfl)
theorem dX5_apply_87 : decode cX5_apply 87 = .ok (.if_icmp .ne 7, 3) := dk_160 0 7 (dk_at dksX5_apply_3 19 rfl rfl)
theorem dX5_apply_90 : decode cX5_apply 90 = .ok (.aconst_null, 1) := dk_1 (dk_at dksX5_apply_3 22 rfl rfl)
theorem dX5_apply_91 : decode cX5_apply 91 = .ok (.goto 7, 3) := dk_167 0 7 (dk_at dksX5_apply_4 0 rfl rfl)
theorem dX5_apply_94 : decode cX5_apply 94 = .ok (.iload_n 2, 1) := dk_28 (dk_at dksX5_apply_4 3 rfl rfl)
theorem dX5_apply_95 : decode cX5_apply 95 = .ok (.invokestatic 37, 3) := dk_184 0 37 (dk_at dksX5_apply_4 4 rfl rfl)
theorem dX5_apply_98 : decode cX5_apply 98 = .ok (.areturn, 1) := dk_176 (dk_at dksX5_apply_4 7 rfl rfl)
abbrev cX5_bounded : ByteArray := prog_3_method_2_code
def yX5_bounded : MethodName := ⟨RX5, "bounded", "(I)I"⟩
def dkwX5_bounded_0 : List UInt8 := [16, 157, 16, 99, 26, 184, 0, 18, 184, 0, 24, 172]
abbrev dktX5_bounded_0 : List UInt8 := dkwX5_bounded_0 ++ []
theorem dksX5_bounded_0 : cX5_bounded.data.toList.drop 0 = dktX5_bounded_0 := by decide +kernel
theorem dX5_bounded_0 : decode cX5_bounded 0 = .ok (.bipush (-99), 2) := dk_16 157 (dk_at dksX5_bounded_0 0 rfl rfl)
theorem dX5_bounded_2 : decode cX5_bounded 2 = .ok (.bipush 99, 2) := dk_16 99 (dk_at dksX5_bounded_0 2 rfl rfl)
theorem dX5_bounded_4 : decode cX5_bounded 4 = .ok (.iload_n 0, 1) := dk_26 (dk_at dksX5_bounded_0 4 rfl rfl)
theorem dX5_bounded_5 : decode cX5_bounded 5 = .ok (.invokestatic 18, 3) := dk_184 0 18 (dk_at dksX5_bounded_0 5 rfl rfl)
theorem dX5_bounded_8 : decode cX5_bounded 8 = .ok (.invokestatic 24, 3) := dk_184 0 24 (dk_at dksX5_bounded_0 8 rfl rfl)
theorem dX5_bounded_11 : decode cX5_bounded 11 = .ok (.ireturn, 1) := dk_172 (dk_at dksX5_bounded_0 11 rfl rfl)
abbrev cX5_apply_2 : ByteArray := prog_3_method_4_code
def yX5_apply_2 : MethodName := ⟨RX5, "apply", "(Ljava/lang/Object;)Ljava/lang/Object;"⟩
def dkwX5_apply_2_0 : List UInt8 := [42, 43, 192, 0, 28, 182, 0, 41, 176]
abbrev dktX5_apply_2_0 : List UInt8 := dkwX5_apply_2_0 ++ []
theorem dksX5_apply_2_0 : cX5_apply_2.data.toList.drop 0 = dktX5_apply_2_0 := by decide +kernel
theorem dX5_apply_2_0 : decode cX5_apply_2 0 = .ok (.aload_n 0, 1) := dk_42 (dk_at dksX5_apply_2_0 0 rfl rfl)
theorem dX5_apply_2_1 : decode cX5_apply_2 1 = .ok (.aload_n 1, 1) := dk_43 (dk_at dksX5_apply_2_0 1 rfl rfl)
theorem dX5_apply_2_2 : decode cX5_apply_2 2 = .ok (.checkcast 28, 3) := dk_192 0 28 (dk_at dksX5_apply_2_0 2 rfl rfl)
theorem dX5_apply_2_5 : decode cX5_apply_2 5 = .ok (.invokevirtual 41, 3) := dk_182 0 41 (dk_at dksX5_apply_2_0 5 rfl rfl)
theorem dX5_apply_2_8 : decode cX5_apply_2 8 = .ok (.areturn, 1) := dk_176 (dk_at dksX5_apply_2_0 8 rfl rfl)
theorem q97 : (Jvm.Cond.initialized "Twinrow$Rule") ∈ lw_all := lw_g (lw_at lw_m1 42 rfl) rfl
theorem q220 : (Jvm.Cond.selects "Twinrow$Rule" ({ cls := "java/lang/Object", name := "getClass", desc := "()Ljava/lang/Class;" } : Jvm.MethodName) ({ cls := "java/lang/Object", name := "getClass", desc := "()Ljava/lang/Class;" } : Jvm.MethodName)) ∈ lw_all := lw_g (lw_at lw_m1 165 rfl) rfl
theorem q1108 : (Jvm.Cond.selects "Twinrow$Rule" ({ cls := "java/lang/Object", name := "equals", desc := "(Ljava/lang/Object;)Z" } : Jvm.MethodName) ({ cls := "java/lang/Object", name := "equals", desc := "(Ljava/lang/Object;)Z" } : Jvm.MethodName)) ∈ lw_all := lw_g (lw_at lw_m5 93 rfl) rfl
theorem q1296 : (Jvm.Cond.selects "Twinrow$Rule" ({ cls := "java/lang/Object", name := "hashCode", desc := "()I" } : Jvm.MethodName) ({ cls := "java/lang/Object", name := "hashCode", desc := "()I" } : Jvm.MethodName)) ∈ lw_all := lw_g (lw_at lw_m6 41 rfl) rfl
theorem q2471 : (Jvm.Cond.instantiable "Twinrow$Rule" (2 : Nat)) ∈ lw_all := lw_g (lw_at lw_m11 16 rfl) rfl
theorem q2473 : (Jvm.Cond.instanceMethod ({ cls := "Twinrow$Rule", name := "<init>", desc := "(II)V" } : Jvm.MethodName)) ∈ lw_all := lw_g (lw_at lw_m11 18 rfl) rfl
theorem q2474 : (Jvm.Cond.code ({ cls := "Twinrow$Rule", name := "<init>", desc := "(II)V" } : Jvm.MethodName) prog_3_method_1_code (3 : Nat) (Option.none : Option Jvm.ClassFile.FieldType)) ∈ lw_all := lw_g (lw_at lw_m11 19 rfl) rfl
theorem q2475 : (Jvm.Cond.methodLink "Twinrow$Rule" (3 : Nat) ({ cls := "java/lang/Object", name := "<init>", desc := "()V" } : Jvm.MethodName)) ∈ lw_all := lw_g (lw_at lw_m11 20 rfl) rfl
theorem q2476 : (Jvm.Cond.fieldLink "Twinrow$Rule" (9 : Nat) "Twinrow$Rule" "rule" "I") ∈ lw_all := lw_g (lw_at lw_m11 21 rfl) rfl
theorem q2477 : (Jvm.Cond.fieldLink "Twinrow$Rule" (15 : Nat) "Twinrow$Rule" "number" "I") ∈ lw_all := lw_g (lw_at lw_m11 22 rfl) rfl
theorem q2478 : (Jvm.Cond.laysFinal "Twinrow$Rule" "Twinrow$Rule" "rule" "I") ∈ lw_all := lw_g (lw_at lw_m11 23 rfl) rfl
theorem q2479 : (Jvm.Cond.soleField "Twinrow$Rule" "rule") ∈ lw_all := lw_g (lw_at lw_m11 24 rfl) rfl
theorem q2480 : (Jvm.Cond.laysFinal "Twinrow$Rule" "Twinrow$Rule" "number" "I") ∈ lw_all := lw_g (lw_at lw_m11 25 rfl) rfl
theorem q2481 : (Jvm.Cond.soleField "Twinrow$Rule" "number") ∈ lw_all := lw_g (lw_at lw_m11 26 rfl) rfl
theorem q2482 : (Jvm.Cond.superclass "Twinrow$Rule" "java/lang/Object") ∈ lw_all := lw_g (lw_at lw_m11 27 rfl) rfl
theorem q2484 : (Jvm.Cond.instanceMethod ({ cls := "Twinrow$Rule", name := "apply", desc := "(Ljava/lang/Integer;)Ljava/lang/Integer;" } : Jvm.MethodName)) ∈ lw_all := lw_g (lw_at lw_m11 29 rfl) rfl
theorem q2485 : (Jvm.Cond.selects "Twinrow$Rule" ({ cls := "Twinrow$Rule", name := "apply", desc := "(Ljava/lang/Integer;)Ljava/lang/Integer;" } : Jvm.MethodName) ({ cls := "Twinrow$Rule", name := "apply", desc := "(Ljava/lang/Integer;)Ljava/lang/Integer;" } : Jvm.MethodName)) ∈ lw_all := lw_g (lw_at lw_m11 30 rfl) rfl
theorem q2486 : (Jvm.Cond.code ({ cls := "Twinrow$Rule", name := "apply", desc := "(Ljava/lang/Integer;)Ljava/lang/Integer;" } : Jvm.MethodName) prog_3_method_3_code (3 : Nat) (Option.some (Jvm.ClassFile.FieldType.object "java/lang/Integer"))) ∈ lw_all := lw_g (lw_at lw_m11 31 rfl) rfl
theorem q2487 : (Jvm.Cond.methodLink "Twinrow$Rule" (27 : Nat) ({ cls := "java/lang/Integer", name := "intValue", desc := "()I" } : Jvm.MethodName)) ∈ lw_all := lw_g (lw_at lw_m11 32 rfl) rfl
theorem q2488 : (Jvm.Cond.methodLink "Twinrow$Rule" (33 : Nat) ({ cls := "Twinrow$Rule", name := "bounded", desc := "(I)I" } : Jvm.MethodName)) ∈ lw_all := lw_g (lw_at lw_m11 33 rfl) rfl
theorem q2489 : (Jvm.Cond.static ({ cls := "Twinrow$Rule", name := "bounded", desc := "(I)I" } : Jvm.MethodName)) ∈ lw_all := lw_g (lw_at lw_m11 34 rfl) rfl
theorem q2490 : (Jvm.Cond.code ({ cls := "Twinrow$Rule", name := "bounded", desc := "(I)I" } : Jvm.MethodName) prog_3_method_2_code (1 : Nat) (Option.some Jvm.ClassFile.FieldType.int)) ∈ lw_all := lw_g (lw_at lw_m11 35 rfl) rfl
theorem q2491 : (Jvm.Cond.methodLink "Twinrow$Rule" (18 : Nat) ({ cls := "java/lang/Math", name := "min", desc := "(II)I" } : Jvm.MethodName)) ∈ lw_all := lw_g (lw_at lw_m11 36 rfl) rfl
theorem q2492 : (Jvm.Cond.methodLink "Twinrow$Rule" (24 : Nat) ({ cls := "java/lang/Math", name := "max", desc := "(II)I" } : Jvm.MethodName)) ∈ lw_all := lw_g (lw_at lw_m11 37 rfl) rfl
theorem q2493 : (Jvm.Cond.methodLink "Twinrow$Rule" (37 : Nat) ({ cls := "java/lang/Integer", name := "valueOf", desc := "(I)Ljava/lang/Integer;" } : Jvm.MethodName)) ∈ lw_all := lw_g (lw_at lw_m11 38 rfl) rfl
theorem q2556 : (Jvm.Cond.castable "Twinrow$Rule" "java/util/function/UnaryOperator") ∈ lw_tbl := lw_at lw_m11 101 rfl
theorem q2557 : (Jvm.Cond.selects "Twinrow$Rule" ({ cls := "java/util/function/Function", name := "apply", desc := "(Ljava/lang/Object;)Ljava/lang/Object;" } : Jvm.MethodName) ({ cls := "Twinrow$Rule", name := "apply", desc := "(Ljava/lang/Object;)Ljava/lang/Object;" } : Jvm.MethodName)) ∈ lw_all := lw_g (lw_at lw_m11 102 rfl) rfl
theorem q2558 : (Jvm.Cond.unhidden "Twinrow$Rule" "apply" "(Ljava/lang/Object;)Ljava/lang/Object;") ∈ lw_tbl := lw_at lw_m11 103 rfl
theorem q2559 : (Jvm.Cond.instanceMethod ({ cls := "Twinrow$Rule", name := "apply", desc := "(Ljava/lang/Object;)Ljava/lang/Object;" } : Jvm.MethodName)) ∈ lw_all := lw_g (lw_at lw_m11 104 rfl) rfl
theorem q2560 : (Jvm.Cond.publicMethod ({ cls := "Twinrow$Rule", name := "apply", desc := "(Ljava/lang/Object;)Ljava/lang/Object;" } : Jvm.MethodName)) ∈ lw_tbl := lw_at lw_m11 105 rfl
theorem q2561 : (Jvm.Cond.code ({ cls := "Twinrow$Rule", name := "apply", desc := "(Ljava/lang/Object;)Ljava/lang/Object;" } : Jvm.MethodName) prog_3_method_4_code (2 : Nat) (Option.some (Jvm.ClassFile.FieldType.object "java/lang/Object"))) ∈ lw_all := lw_g (lw_at lw_m11 106 rfl) rfl
theorem q2562 : (Jvm.Cond.classLink "Twinrow$Rule" (28 : Nat) "java/lang/Integer") ∈ lw_all := lw_g (lw_at lw_m11 107 rfl) rfl
theorem q2563 : (Jvm.Cond.methodLink "Twinrow$Rule" (41 : Nat) ({ cls := "Twinrow$Rule", name := "apply", desc := "(Ljava/lang/Integer;)Ljava/lang/Integer;" } : Jvm.MethodName)) ∈ lw_all := lw_g (lw_at lw_m11 108 rfl) rfl
theorem q3924 : (Jvm.Cond.castable "Twinrow$Rule" "java/lang/Object") ∈ lw_tbl := lw_at lw_m17 29 rfl
theorem in_X5 : ∀ w ∈ wsX50, w ∈ lw_all := lw_in wsX50 [2478, 2480] (by decide +kernel) (by decide +kernel)

/-! Twinrow$Order -/
set_option maxRecDepth 100000
def RX6 : String := "Twinrow$Order"
def TX6 : u_T := fun k => match k with
  | _ => ("Twinrow$Order", "isFalling", "Z", true)
def tyX6 : Nat → FieldType := fun k => match k with
  | _ => .boolean
abbrev wsX60 : List Cond := u_ws RX6 TX6 1
theorem nmX6 : ∀ a, a < 1 → ∀ b, b < 1 → a ≠ b → (TX6 a).2.1 ≠ (TX6 b).2.1 := by decide +kernel
theorem tyX6_ok : ∀ k, k < 1 → parseFieldDescriptor (TX6 k).2.2.1 = some (tyX6 k) := by decide +kernel
abbrev cX6_init : ByteArray := prog_2_method_1_code
def yX6_init : MethodName := ⟨RX6, "<init>", "(Z)V"⟩
def dkwX6_init_0 : List UInt8 := [42, 183, 0, 1, 42, 27, 181, 0, 7, 177]
abbrev dktX6_init_0 : List UInt8 := dkwX6_init_0 ++ []
theorem dksX6_init_0 : cX6_init.data.toList.drop 0 = dktX6_init_0 := by decide +kernel
theorem dX6_init_0 : decode cX6_init 0 = .ok (.aload_n 0, 1) := dk_42 (dk_at dksX6_init_0 0 rfl rfl)
theorem dX6_init_1 : decode cX6_init 1 = .ok (.invokespecial 1, 3) := dk_183 0 1 (dk_at dksX6_init_0 1 rfl rfl)
theorem dX6_init_4 : decode cX6_init 4 = .ok (.aload_n 0, 1) := dk_42 (dk_at dksX6_init_0 4 rfl rfl)
theorem dX6_init_5 : decode cX6_init 5 = .ok (.iload_n 1, 1) := dk_27 (dk_at dksX6_init_0 5 rfl rfl)
theorem dX6_init_6 : decode cX6_init 6 = .ok (.putfield 7, 3) := dk_181 0 7 (dk_at dksX6_init_0 6 rfl rfl)
theorem dX6_init_9 : decode cX6_init 9 = .ok (.return_, 1) := dk_177 (dk_at dksX6_init_0 9 rfl rfl)
abbrev cX6_compare : ByteArray := prog_2_method_4_code
def yX6_compare : MethodName := ⟨RX6, "compare", "(Ljava/lang/Object;Ljava/lang/Object;)I"⟩
def dkwX6_compare_0 : List UInt8 := [42, 43, 192, 0, 14, 44, 192, 0, 14, 182, 0, 27, 172]
abbrev dktX6_compare_0 : List UInt8 := dkwX6_compare_0 ++ []
theorem dksX6_compare_0 : cX6_compare.data.toList.drop 0 = dktX6_compare_0 := by decide +kernel
theorem dX6_compare_0 : decode cX6_compare 0 = .ok (.aload_n 0, 1) := dk_42 (dk_at dksX6_compare_0 0 rfl rfl)
theorem dX6_compare_1 : decode cX6_compare 1 = .ok (.aload_n 1, 1) := dk_43 (dk_at dksX6_compare_0 1 rfl rfl)
theorem dX6_compare_2 : decode cX6_compare 2 = .ok (.checkcast 14, 3) := dk_192 0 14 (dk_at dksX6_compare_0 2 rfl rfl)
theorem dX6_compare_5 : decode cX6_compare 5 = .ok (.aload_n 2, 1) := dk_44 (dk_at dksX6_compare_0 5 rfl rfl)
theorem dX6_compare_6 : decode cX6_compare 6 = .ok (.checkcast 14, 3) := dk_192 0 14 (dk_at dksX6_compare_0 6 rfl rfl)
theorem dX6_compare_9 : decode cX6_compare 9 = .ok (.invokevirtual 27, 3) := dk_182 0 27 (dk_at dksX6_compare_0 9 rfl rfl)
theorem dX6_compare_12 : decode cX6_compare 12 = .ok (.ireturn, 1) := dk_172 (dk_at dksX6_compare_0 12 rfl rfl)
abbrev cX6_compare_2 : ByteArray := prog_2_method_3_code
def yX6_compare_2 : MethodName := ⟨RX6, "compare", "(Ljava/lang/Integer;Ljava/lang/Integer;)I"⟩
def dkwX6_compare_2_0 : List UInt8 := [42, 180, 0, 7, 153, 0, 11, 44, 43, 184, 0, 23, 167, 0, 8, 43, 44, 184, 0, 23, 172]
abbrev dktX6_compare_2_0 : List UInt8 := dkwX6_compare_2_0 ++ []
theorem dksX6_compare_2_0 : cX6_compare_2.data.toList.drop 0 = dktX6_compare_2_0 := by decide +kernel
theorem dX6_compare_2_0 : decode cX6_compare_2 0 = .ok (.aload_n 0, 1) := dk_42 (dk_at dksX6_compare_2_0 0 rfl rfl)
theorem dX6_compare_2_1 : decode cX6_compare_2 1 = .ok (.getfield 7, 3) := dk_180 0 7 (dk_at dksX6_compare_2_0 1 rfl rfl)
theorem dX6_compare_2_4 : decode cX6_compare_2 4 = .ok (.ifCond .eq 11, 3) := dk_153 0 11 (dk_at dksX6_compare_2_0 4 rfl rfl)
theorem dX6_compare_2_7 : decode cX6_compare_2 7 = .ok (.aload_n 2, 1) := dk_44 (dk_at dksX6_compare_2_0 7 rfl rfl)
theorem dX6_compare_2_8 : decode cX6_compare_2 8 = .ok (.aload_n 1, 1) := dk_43 (dk_at dksX6_compare_2_0 8 rfl rfl)
theorem dX6_compare_2_9 : decode cX6_compare_2 9 = .ok (.invokestatic 23, 3) := dk_184 0 23 (dk_at dksX6_compare_2_0 9 rfl rfl)
theorem dX6_compare_2_12 : decode cX6_compare_2 12 = .ok (.goto 8, 3) := dk_167 0 8 (dk_at dksX6_compare_2_0 12 rfl rfl)
theorem dX6_compare_2_15 : decode cX6_compare_2 15 = .ok (.aload_n 1, 1) := dk_43 (dk_at dksX6_compare_2_0 15 rfl rfl)
theorem dX6_compare_2_16 : decode cX6_compare_2 16 = .ok (.aload_n 2, 1) := dk_44 (dk_at dksX6_compare_2_0 16 rfl rfl)
theorem dX6_compare_2_17 : decode cX6_compare_2 17 = .ok (.invokestatic 23, 3) := dk_184 0 23 (dk_at dksX6_compare_2_0 17 rfl rfl)
theorem dX6_compare_2_20 : decode cX6_compare_2 20 = .ok (.ireturn, 1) := dk_172 (dk_at dksX6_compare_2_0 20 rfl rfl)
abbrev cX6_rising : ByteArray := prog_2_method_2_code
def yX6_rising : MethodName := ⟨RX6, "rising", "(Ljava/lang/Integer;Ljava/lang/Integer;)I"⟩
def dkwX6_rising_1 : List UInt8 := [167, 0, 4, 4, 172, 42, 182, 0, 13, 43, 182, 0, 13, 184, 0, 19, 172]
abbrev dktX6_rising_1 : List UInt8 := dkwX6_rising_1 ++ []
def dkwX6_rising_0 : List UInt8 := [42, 198, 0, 7, 43, 199, 0, 22, 42, 43, 166, 0, 7, 3, 167, 0, 12, 42, 199, 0, 7, 2]
abbrev dktX6_rising_0 : List UInt8 := dkwX6_rising_0 ++ dktX6_rising_1
theorem dksX6_rising_0 : cX6_rising.data.toList.drop 0 = dktX6_rising_0 := by decide +kernel
theorem dksX6_rising_1 : cX6_rising.data.toList.drop 22 = dktX6_rising_1 := dk_seg dksX6_rising_0 22 rfl rfl
theorem dX6_rising_0 : decode cX6_rising 0 = .ok (.aload_n 0, 1) := dk_42 (dk_at dksX6_rising_0 0 rfl rfl)
theorem dX6_rising_1 : decode cX6_rising 1 = .ok (.ifnull 7, 3) := dk_198 0 7 (dk_at dksX6_rising_0 1 rfl rfl)
theorem dX6_rising_4 : decode cX6_rising 4 = .ok (.aload_n 1, 1) := dk_43 (dk_at dksX6_rising_0 4 rfl rfl)
theorem dX6_rising_5 : decode cX6_rising 5 = .ok (.ifnonnull 22, 3) := dk_199 0 22 (dk_at dksX6_rising_0 5 rfl rfl)
theorem dX6_rising_8 : decode cX6_rising 8 = .ok (.aload_n 0, 1) := dk_42 (dk_at dksX6_rising_0 8 rfl rfl)
theorem dX6_rising_9 : decode cX6_rising 9 = .ok (.aload_n 1, 1) := dk_43 (dk_at dksX6_rising_0 9 rfl rfl)
theorem dX6_rising_10 : decode cX6_rising 10 = .ok (.if_acmp .ne 7, 3) := dk_166 0 7 (dk_at dksX6_rising_0 10 rfl rfl)
theorem dX6_rising_13 : decode cX6_rising 13 = .ok (.iconst 0, 1) := dk_3 (dk_at dksX6_rising_0 13 rfl rfl)
theorem dX6_rising_14 : decode cX6_rising 14 = .ok (.goto 12, 3) := dk_167 0 12 (dk_at dksX6_rising_0 14 rfl rfl)
theorem dX6_rising_17 : decode cX6_rising 17 = .ok (.aload_n 0, 1) := dk_42 (dk_at dksX6_rising_0 17 rfl rfl)
theorem dX6_rising_18 : decode cX6_rising 18 = .ok (.ifnonnull 7, 3) := dk_199 0 7 (dk_at dksX6_rising_0 18 rfl rfl)
theorem dX6_rising_21 : decode cX6_rising 21 = .ok (.iconst (-1), 1) := dk_2 (dk_at dksX6_rising_0 21 rfl rfl)
theorem dX6_rising_22 : decode cX6_rising 22 = .ok (.goto 4, 3) := dk_167 0 4 (dk_at dksX6_rising_1 0 rfl rfl)
theorem dX6_rising_25 : decode cX6_rising 25 = .ok (.iconst 1, 1) := dk_4 (dk_at dksX6_rising_1 3 rfl rfl)
theorem dX6_rising_26 : decode cX6_rising 26 = .ok (.ireturn, 1) := dk_172 (dk_at dksX6_rising_1 4 rfl rfl)
theorem dX6_rising_27 : decode cX6_rising 27 = .ok (.aload_n 0, 1) := dk_42 (dk_at dksX6_rising_1 5 rfl rfl)
theorem dX6_rising_28 : decode cX6_rising 28 = .ok (.invokevirtual 13, 3) := dk_182 0 13 (dk_at dksX6_rising_1 6 rfl rfl)
theorem dX6_rising_31 : decode cX6_rising 31 = .ok (.aload_n 1, 1) := dk_43 (dk_at dksX6_rising_1 9 rfl rfl)
theorem dX6_rising_32 : decode cX6_rising 32 = .ok (.invokevirtual 13, 3) := dk_182 0 13 (dk_at dksX6_rising_1 10 rfl rfl)
theorem dX6_rising_35 : decode cX6_rising 35 = .ok (.invokestatic 19, 3) := dk_184 0 19 (dk_at dksX6_rising_1 13 rfl rfl)
theorem dX6_rising_38 : decode cX6_rising 38 = .ok (.ireturn, 1) := dk_172 (dk_at dksX6_rising_1 16 rfl rfl)
theorem q100 : (Jvm.Cond.initialized "Twinrow$Order") ∈ lw_all := lw_g (lw_at lw_m1 45 rfl) rfl
theorem q219 : (Jvm.Cond.selects "Twinrow$Order" ({ cls := "java/lang/Object", name := "getClass", desc := "()Ljava/lang/Class;" } : Jvm.MethodName) ({ cls := "java/lang/Object", name := "getClass", desc := "()Ljava/lang/Class;" } : Jvm.MethodName)) ∈ lw_all := lw_g (lw_at lw_m1 164 rfl) rfl
theorem q1107 : (Jvm.Cond.selects "Twinrow$Order" ({ cls := "java/lang/Object", name := "equals", desc := "(Ljava/lang/Object;)Z" } : Jvm.MethodName) ({ cls := "java/lang/Object", name := "equals", desc := "(Ljava/lang/Object;)Z" } : Jvm.MethodName)) ∈ lw_all := lw_g (lw_at lw_m5 92 rfl) rfl
theorem q1295 : (Jvm.Cond.selects "Twinrow$Order" ({ cls := "java/lang/Object", name := "hashCode", desc := "()I" } : Jvm.MethodName) ({ cls := "java/lang/Object", name := "hashCode", desc := "()I" } : Jvm.MethodName)) ∈ lw_all := lw_g (lw_at lw_m6 40 rfl) rfl
theorem q2621 : (Jvm.Cond.instantiable "Twinrow$Order" (1 : Nat)) ∈ lw_all := lw_g (lw_at lw_m11 166 rfl) rfl
theorem q2623 : (Jvm.Cond.instanceMethod ({ cls := "Twinrow$Order", name := "<init>", desc := "(Z)V" } : Jvm.MethodName)) ∈ lw_all := lw_g (lw_at lw_m11 168 rfl) rfl
theorem q2624 : (Jvm.Cond.code ({ cls := "Twinrow$Order", name := "<init>", desc := "(Z)V" } : Jvm.MethodName) prog_2_method_1_code (2 : Nat) (Option.none : Option Jvm.ClassFile.FieldType)) ∈ lw_all := lw_g (lw_at lw_m11 169 rfl) rfl
theorem q2625 : (Jvm.Cond.methodLink "Twinrow$Order" (1 : Nat) ({ cls := "java/lang/Object", name := "<init>", desc := "()V" } : Jvm.MethodName)) ∈ lw_all := lw_g (lw_at lw_m11 170 rfl) rfl
theorem q2626 : (Jvm.Cond.fieldLink "Twinrow$Order" (7 : Nat) "Twinrow$Order" "isFalling" "Z") ∈ lw_all := lw_g (lw_at lw_m11 171 rfl) rfl
theorem q2627 : (Jvm.Cond.laysFinal "Twinrow$Order" "Twinrow$Order" "isFalling" "Z") ∈ lw_all := lw_g (lw_at lw_m11 172 rfl) rfl
theorem q2628 : (Jvm.Cond.soleField "Twinrow$Order" "isFalling") ∈ lw_all := lw_g (lw_at lw_m11 173 rfl) rfl
theorem q2629 : (Jvm.Cond.superclass "Twinrow$Order" "java/lang/Object") ∈ lw_all := lw_g (lw_at lw_m11 174 rfl) rfl
theorem q2983 : (Jvm.Cond.castable "Twinrow$Order" "java/util/Comparator") ∈ lw_tbl := lw_at lw_m13 48 rfl
theorem q2984 : (Jvm.Cond.selects "Twinrow$Order" ({ cls := "java/util/Comparator", name := "compare", desc := "(Ljava/lang/Object;Ljava/lang/Object;)I" } : Jvm.MethodName) ({ cls := "Twinrow$Order", name := "compare", desc := "(Ljava/lang/Object;Ljava/lang/Object;)I" } : Jvm.MethodName)) ∈ lw_all := lw_g (lw_at lw_m13 49 rfl) rfl
theorem q2985 : (Jvm.Cond.unhidden "Twinrow$Order" "compare" "(Ljava/lang/Object;Ljava/lang/Object;)I") ∈ lw_tbl := lw_at lw_m13 50 rfl
theorem q2986 : (Jvm.Cond.instanceMethod ({ cls := "Twinrow$Order", name := "compare", desc := "(Ljava/lang/Object;Ljava/lang/Object;)I" } : Jvm.MethodName)) ∈ lw_all := lw_g (lw_at lw_m13 51 rfl) rfl
theorem q2987 : (Jvm.Cond.publicMethod ({ cls := "Twinrow$Order", name := "compare", desc := "(Ljava/lang/Object;Ljava/lang/Object;)I" } : Jvm.MethodName)) ∈ lw_tbl := lw_at lw_m13 52 rfl
theorem q2988 : (Jvm.Cond.code ({ cls := "Twinrow$Order", name := "compare", desc := "(Ljava/lang/Object;Ljava/lang/Object;)I" } : Jvm.MethodName) prog_2_method_4_code (3 : Nat) (Option.some Jvm.ClassFile.FieldType.int)) ∈ lw_all := lw_g (lw_at lw_m13 53 rfl) rfl
theorem q2989 : (Jvm.Cond.classLink "Twinrow$Order" (14 : Nat) "java/lang/Integer") ∈ lw_all := lw_g (lw_at lw_m13 54 rfl) rfl
theorem q2990 : (Jvm.Cond.methodLink "Twinrow$Order" (27 : Nat) ({ cls := "Twinrow$Order", name := "compare", desc := "(Ljava/lang/Integer;Ljava/lang/Integer;)I" } : Jvm.MethodName)) ∈ lw_all := lw_g (lw_at lw_m13 55 rfl) rfl
theorem q2991 : (Jvm.Cond.instanceMethod ({ cls := "Twinrow$Order", name := "compare", desc := "(Ljava/lang/Integer;Ljava/lang/Integer;)I" } : Jvm.MethodName)) ∈ lw_all := lw_g (lw_at lw_m13 56 rfl) rfl
theorem q2992 : (Jvm.Cond.selects "Twinrow$Order" ({ cls := "Twinrow$Order", name := "compare", desc := "(Ljava/lang/Integer;Ljava/lang/Integer;)I" } : Jvm.MethodName) ({ cls := "Twinrow$Order", name := "compare", desc := "(Ljava/lang/Integer;Ljava/lang/Integer;)I" } : Jvm.MethodName)) ∈ lw_all := lw_g (lw_at lw_m13 57 rfl) rfl
theorem q2993 : (Jvm.Cond.code ({ cls := "Twinrow$Order", name := "compare", desc := "(Ljava/lang/Integer;Ljava/lang/Integer;)I" } : Jvm.MethodName) prog_2_method_3_code (3 : Nat) (Option.some Jvm.ClassFile.FieldType.int)) ∈ lw_all := lw_g (lw_at lw_m13 58 rfl) rfl
theorem q2994 : (Jvm.Cond.methodLink "Twinrow$Order" (23 : Nat) ({ cls := "Twinrow$Order", name := "rising", desc := "(Ljava/lang/Integer;Ljava/lang/Integer;)I" } : Jvm.MethodName)) ∈ lw_all := lw_g (lw_at lw_m13 59 rfl) rfl
theorem q2995 : (Jvm.Cond.static ({ cls := "Twinrow$Order", name := "rising", desc := "(Ljava/lang/Integer;Ljava/lang/Integer;)I" } : Jvm.MethodName)) ∈ lw_all := lw_g (lw_at lw_m13 60 rfl) rfl
theorem q2996 : (Jvm.Cond.code ({ cls := "Twinrow$Order", name := "rising", desc := "(Ljava/lang/Integer;Ljava/lang/Integer;)I" } : Jvm.MethodName) prog_2_method_2_code (2 : Nat) (Option.some Jvm.ClassFile.FieldType.int)) ∈ lw_all := lw_g (lw_at lw_m13 61 rfl) rfl
theorem q2997 : (Jvm.Cond.methodLink "Twinrow$Order" (13 : Nat) ({ cls := "java/lang/Integer", name := "intValue", desc := "()I" } : Jvm.MethodName)) ∈ lw_all := lw_g (lw_at lw_m13 62 rfl) rfl
theorem q2998 : (Jvm.Cond.methodLink "Twinrow$Order" (19 : Nat) ({ cls := "java/lang/Integer", name := "compare", desc := "(II)I" } : Jvm.MethodName)) ∈ lw_all := lw_g (lw_at lw_m13 63 rfl) rfl
theorem q3927 : (Jvm.Cond.castable "Twinrow$Order" "java/lang/Object") ∈ lw_tbl := lw_at lw_m17 32 rfl
theorem in_X6 : ∀ w ∈ wsX60, w ∈ lw_all := lw_in wsX60 [2627] (by decide +kernel) (by decide +kernel)

/-! Twinrow$Test -/
set_option maxRecDepth 100000
def RX7 : String := "Twinrow$Test"
def TX7 : u_T := fun k => match k with
  | 0 => ("Twinrow$Test", "test", "I", true)
  | _ => ("Twinrow$Test", "number", "I", true)
def tyX7 : Nat → FieldType := fun k => match k with
  | 0 => .int
  | _ => .int
abbrev wsX70 : List Cond := u_ws RX7 TX7 2
theorem nmX7 : ∀ a, a < 2 → ∀ b, b < 2 → a ≠ b → (TX7 a).2.1 ≠ (TX7 b).2.1 := by decide +kernel
theorem tyX7_ok : ∀ k, k < 2 → parseFieldDescriptor (TX7 k).2.2.1 = some (tyX7 k) := by decide +kernel
abbrev cX7_init : ByteArray := prog_5_method_1_code
def yX7_init : MethodName := ⟨RX7, "<init>", "(II)V"⟩
def dkwX7_init_0 : List UInt8 := [42, 183, 0, 1, 42, 27, 181, 0, 7, 42, 28, 181, 0, 13, 177]
abbrev dktX7_init_0 : List UInt8 := dkwX7_init_0 ++ []
theorem dksX7_init_0 : cX7_init.data.toList.drop 0 = dktX7_init_0 := by decide +kernel
theorem dX7_init_0 : decode cX7_init 0 = .ok (.aload_n 0, 1) := dk_42 (dk_at dksX7_init_0 0 rfl rfl)
theorem dX7_init_1 : decode cX7_init 1 = .ok (.invokespecial 1, 3) := dk_183 0 1 (dk_at dksX7_init_0 1 rfl rfl)
theorem dX7_init_4 : decode cX7_init 4 = .ok (.aload_n 0, 1) := dk_42 (dk_at dksX7_init_0 4 rfl rfl)
theorem dX7_init_5 : decode cX7_init 5 = .ok (.iload_n 1, 1) := dk_27 (dk_at dksX7_init_0 5 rfl rfl)
theorem dX7_init_6 : decode cX7_init 6 = .ok (.putfield 7, 3) := dk_181 0 7 (dk_at dksX7_init_0 6 rfl rfl)
theorem dX7_init_9 : decode cX7_init 9 = .ok (.aload_n 0, 1) := dk_42 (dk_at dksX7_init_0 9 rfl rfl)
theorem dX7_init_10 : decode cX7_init 10 = .ok (.iload_n 2, 1) := dk_28 (dk_at dksX7_init_0 10 rfl rfl)
theorem dX7_init_11 : decode cX7_init 11 = .ok (.putfield 13, 3) := dk_181 0 13 (dk_at dksX7_init_0 11 rfl rfl)
theorem dX7_init_14 : decode cX7_init 14 = .ok (.return_, 1) := dk_177 (dk_at dksX7_init_0 14 rfl rfl)
abbrev cX7_test : ByteArray := prog_5_method_3_code
def yX7_test : MethodName := ⟨RX7, "test", "(Ljava/lang/Object;)Z"⟩
def dkwX7_test_0 : List UInt8 := [42, 43, 192, 0, 17, 182, 0, 22, 172]
abbrev dktX7_test_0 : List UInt8 := dkwX7_test_0 ++ []
theorem dksX7_test_0 : cX7_test.data.toList.drop 0 = dktX7_test_0 := by decide +kernel
theorem dX7_test_0 : decode cX7_test 0 = .ok (.aload_n 0, 1) := dk_42 (dk_at dksX7_test_0 0 rfl rfl)
theorem dX7_test_1 : decode cX7_test 1 = .ok (.aload_n 1, 1) := dk_43 (dk_at dksX7_test_0 1 rfl rfl)
theorem dX7_test_2 : decode cX7_test 2 = .ok (.checkcast 17, 3) := dk_192 0 17 (dk_at dksX7_test_0 2 rfl rfl)
theorem dX7_test_5 : decode cX7_test 5 = .ok (.invokevirtual 22, 3) := dk_182 0 22 (dk_at dksX7_test_0 5 rfl rfl)
theorem dX7_test_8 : decode cX7_test 8 = .ok (.ireturn, 1) := dk_172 (dk_at dksX7_test_0 8 rfl rfl)
abbrev cX7_test_2 : ByteArray := prog_5_method_2_code
def yX7_test_2 : MethodName := ⟨RX7, "test", "(Ljava/lang/Integer;)Z"⟩
def dkwX7_test_2_4 : List UInt8 := [4, 167, 0, 4, 3, 172]
abbrev dktX7_test_2_4 : List UInt8 := dkwX7_test_2_4 ++ []
def dkwX7_test_2_3 : List UInt8 := [160, 0, 7, 4, 167, 0, 4, 3, 172, 43, 198, 0, 18, 43, 182, 0, 16, 42, 180, 0, 13, 162, 0, 7]
abbrev dktX7_test_2_3 : List UInt8 := dkwX7_test_2_3 ++ dktX7_test_2_4
def dkwX7_test_2_2 : List UInt8 := [43, 199, 0, 7, 4, 167, 0, 4, 3, 172, 43, 198, 0, 18, 43, 182, 0, 16, 42, 180, 0, 13]
abbrev dktX7_test_2_2 : List UInt8 := dkwX7_test_2_2 ++ dktX7_test_2_3
def dkwX7_test_2_1 : List UInt8 := [171, 0, 0, 0, 0, 0, 0, 59, 0, 0, 0, 2, 0, 0, 0, 0, 0, 0, 0, 28, 0, 0, 0, 1, 0, 0, 0, 38]
abbrev dktX7_test_2_1 : List UInt8 := dkwX7_test_2_1 ++ dktX7_test_2_2
def dkwX7_test_2_0 : List UInt8 := [42, 180, 0, 7]
abbrev dktX7_test_2_0 : List UInt8 := dkwX7_test_2_0 ++ dktX7_test_2_1
theorem dksX7_test_2_0 : cX7_test_2.data.toList.drop 0 = dktX7_test_2_0 := by decide +kernel
theorem dksX7_test_2_1 : cX7_test_2.data.toList.drop 4 = dktX7_test_2_1 := dk_seg dksX7_test_2_0 4 rfl rfl
theorem dksX7_test_2_2 : cX7_test_2.data.toList.drop 32 = dktX7_test_2_2 := dk_seg dksX7_test_2_1 28 rfl rfl
theorem dksX7_test_2_3 : cX7_test_2.data.toList.drop 54 = dktX7_test_2_3 := dk_seg dksX7_test_2_2 22 rfl rfl
theorem dksX7_test_2_4 : cX7_test_2.data.toList.drop 78 = dktX7_test_2_4 := dk_seg dksX7_test_2_3 24 rfl rfl
theorem dX7_test_2_0 : decode cX7_test_2 0 = .ok (.aload_n 0, 1) := dk_42 (dk_at dksX7_test_2_0 0 rfl rfl)
theorem dX7_test_2_1 : decode cX7_test_2 1 = .ok (.getfield 7, 3) := dk_180 0 7 (dk_at dksX7_test_2_0 1 rfl rfl)
theorem dX7_test_2_4 : decode cX7_test_2 4 = .ok (.lookupswitch 59 #[(0, 28), (1, 38)], 28) := by decide +kernel
theorem dX7_test_2_32 : decode cX7_test_2 32 = .ok (.aload_n 1, 1) := dk_43 (dk_at dksX7_test_2_2 0 rfl rfl)
theorem dX7_test_2_33 : decode cX7_test_2 33 = .ok (.ifnonnull 7, 3) := dk_199 0 7 (dk_at dksX7_test_2_2 1 rfl rfl)
theorem dX7_test_2_36 : decode cX7_test_2 36 = .ok (.iconst 1, 1) := dk_4 (dk_at dksX7_test_2_2 4 rfl rfl)
theorem dX7_test_2_37 : decode cX7_test_2 37 = .ok (.goto 4, 3) := dk_167 0 4 (dk_at dksX7_test_2_2 5 rfl rfl)
theorem dX7_test_2_40 : decode cX7_test_2 40 = .ok (.iconst 0, 1) := dk_3 (dk_at dksX7_test_2_2 8 rfl rfl)
theorem dX7_test_2_41 : decode cX7_test_2 41 = .ok (.ireturn, 1) := dk_172 (dk_at dksX7_test_2_2 9 rfl rfl)
theorem dX7_test_2_42 : decode cX7_test_2 42 = .ok (.aload_n 1, 1) := dk_43 (dk_at dksX7_test_2_2 10 rfl rfl)
theorem dX7_test_2_43 : decode cX7_test_2 43 = .ok (.ifnull 18, 3) := dk_198 0 18 (dk_at dksX7_test_2_2 11 rfl rfl)
theorem dX7_test_2_46 : decode cX7_test_2 46 = .ok (.aload_n 1, 1) := dk_43 (dk_at dksX7_test_2_2 14 rfl rfl)
theorem dX7_test_2_47 : decode cX7_test_2 47 = .ok (.invokevirtual 16, 3) := dk_182 0 16 (dk_at dksX7_test_2_2 15 rfl rfl)
theorem dX7_test_2_50 : decode cX7_test_2 50 = .ok (.aload_n 0, 1) := dk_42 (dk_at dksX7_test_2_2 18 rfl rfl)
theorem dX7_test_2_51 : decode cX7_test_2 51 = .ok (.getfield 13, 3) := dk_180 0 13 (dk_at dksX7_test_2_2 19 rfl rfl)
theorem dX7_test_2_54 : decode cX7_test_2 54 = .ok (.if_icmp .ne 7, 3) := dk_160 0 7 (dk_at dksX7_test_2_3 0 rfl rfl)
theorem dX7_test_2_57 : decode cX7_test_2 57 = .ok (.iconst 1, 1) := dk_4 (dk_at dksX7_test_2_3 3 rfl rfl)
theorem dX7_test_2_58 : decode cX7_test_2 58 = .ok (.goto 4, 3) := dk_167 0 4 (dk_at dksX7_test_2_3 4 rfl rfl)
theorem dX7_test_2_61 : decode cX7_test_2 61 = .ok (.iconst 0, 1) := dk_3 (dk_at dksX7_test_2_3 7 rfl rfl)
theorem dX7_test_2_62 : decode cX7_test_2 62 = .ok (.ireturn, 1) := dk_172 (dk_at dksX7_test_2_3 8 rfl rfl)
theorem dX7_test_2_63 : decode cX7_test_2 63 = .ok (.aload_n 1, 1) := dk_43 (dk_at dksX7_test_2_3 9 rfl rfl)
theorem dX7_test_2_64 : decode cX7_test_2 64 = .ok (.ifnull 18, 3) := dk_198 0 18 (dk_at dksX7_test_2_3 10 rfl rfl)
theorem dX7_test_2_67 : decode cX7_test_2 67 = .ok (.aload_n 1, 1) := dk_43 (dk_at dksX7_test_2_3 13 rfl rfl)
theorem dX7_test_2_68 : decode cX7_test_2 68 = .ok (.invokevirtual 16, 3) := dk_182 0 16 (dk_at dksX7_test_2_3 14 rfl rfl)
theorem dX7_test_2_71 : decode cX7_test_2 71 = .ok (.aload_n 0, 1) := dk_42 (dk_at dksX7_test_2_3 17 rfl rfl)
theorem dX7_test_2_72 : decode cX7_test_2 72 = .ok (.getfield 13, 3) := dk_180 0 13 (dk_at dksX7_test_2_3 18 rfl rfl)
theorem dX7_test_2_75 : decode cX7_test_2 75 = .ok (.if_icmp .ge 7, 3) := dk_162 0 7 (dk_at dksX7_test_2_3 21 rfl rfl)
theorem dX7_test_2_78 : decode cX7_test_2 78 = .ok (.iconst 1, 1) := dk_4 (dk_at dksX7_test_2_4 0 rfl rfl)
theorem dX7_test_2_79 : decode cX7_test_2 79 = .ok (.goto 4, 3) := dk_167 0 4 (dk_at dksX7_test_2_4 1 rfl rfl)
theorem dX7_test_2_82 : decode cX7_test_2 82 = .ok (.iconst 0, 1) := dk_3 (dk_at dksX7_test_2_4 4 rfl rfl)
theorem dX7_test_2_83 : decode cX7_test_2 83 = .ok (.ireturn, 1) := dk_172 (dk_at dksX7_test_2_4 5 rfl rfl)
theorem q107 : (Jvm.Cond.initialized "Twinrow$Test") ∈ lw_all := lw_g (lw_at lw_m1 52 rfl) rfl
theorem q222 : (Jvm.Cond.selects "Twinrow$Test" ({ cls := "java/lang/Object", name := "getClass", desc := "()Ljava/lang/Class;" } : Jvm.MethodName) ({ cls := "java/lang/Object", name := "getClass", desc := "()Ljava/lang/Class;" } : Jvm.MethodName)) ∈ lw_all := lw_g (lw_at lw_m1 167 rfl) rfl
theorem q1110 : (Jvm.Cond.selects "Twinrow$Test" ({ cls := "java/lang/Object", name := "equals", desc := "(Ljava/lang/Object;)Z" } : Jvm.MethodName) ({ cls := "java/lang/Object", name := "equals", desc := "(Ljava/lang/Object;)Z" } : Jvm.MethodName)) ∈ lw_all := lw_g (lw_at lw_m5 95 rfl) rfl
theorem q1298 : (Jvm.Cond.selects "Twinrow$Test" ({ cls := "java/lang/Object", name := "hashCode", desc := "()I" } : Jvm.MethodName) ({ cls := "java/lang/Object", name := "hashCode", desc := "()I" } : Jvm.MethodName)) ∈ lw_all := lw_g (lw_at lw_m6 43 rfl) rfl
theorem q3353 : (Jvm.Cond.instantiable "Twinrow$Test" (2 : Nat)) ∈ lw_all := lw_g (lw_at lw_m14 178 rfl) rfl
theorem q3355 : (Jvm.Cond.instanceMethod ({ cls := "Twinrow$Test", name := "<init>", desc := "(II)V" } : Jvm.MethodName)) ∈ lw_all := lw_g (lw_at lw_m14 180 rfl) rfl
theorem q3356 : (Jvm.Cond.code ({ cls := "Twinrow$Test", name := "<init>", desc := "(II)V" } : Jvm.MethodName) prog_5_method_1_code (3 : Nat) (Option.none : Option Jvm.ClassFile.FieldType)) ∈ lw_all := lw_g (lw_at lw_m14 181 rfl) rfl
theorem q3357 : (Jvm.Cond.methodLink "Twinrow$Test" (1 : Nat) ({ cls := "java/lang/Object", name := "<init>", desc := "()V" } : Jvm.MethodName)) ∈ lw_all := lw_g (lw_at lw_m14 182 rfl) rfl
theorem q3358 : (Jvm.Cond.fieldLink "Twinrow$Test" (7 : Nat) "Twinrow$Test" "test" "I") ∈ lw_all := lw_g (lw_at lw_m14 183 rfl) rfl
theorem q3359 : (Jvm.Cond.fieldLink "Twinrow$Test" (13 : Nat) "Twinrow$Test" "number" "I") ∈ lw_all := lw_g (lw_at lw_m14 184 rfl) rfl
theorem q3360 : (Jvm.Cond.laysFinal "Twinrow$Test" "Twinrow$Test" "test" "I") ∈ lw_all := lw_g (lw_at lw_m14 185 rfl) rfl
theorem q3361 : (Jvm.Cond.soleField "Twinrow$Test" "test") ∈ lw_all := lw_g (lw_at lw_m14 186 rfl) rfl
theorem q3362 : (Jvm.Cond.laysFinal "Twinrow$Test" "Twinrow$Test" "number" "I") ∈ lw_all := lw_g (lw_at lw_m14 187 rfl) rfl
theorem q3363 : (Jvm.Cond.soleField "Twinrow$Test" "number") ∈ lw_all := lw_g (lw_at lw_m14 188 rfl) rfl
theorem q3364 : (Jvm.Cond.superclass "Twinrow$Test" "java/lang/Object") ∈ lw_all := lw_g (lw_at lw_m14 189 rfl) rfl
theorem q3384 : (Jvm.Cond.castable "Twinrow$Test" "java/util/function/Predicate") ∈ lw_tbl := lw_at lw_m14 209 rfl
theorem q3385 : (Jvm.Cond.selects "Twinrow$Test" ({ cls := "java/util/function/Predicate", name := "test", desc := "(Ljava/lang/Object;)Z" } : Jvm.MethodName) ({ cls := "Twinrow$Test", name := "test", desc := "(Ljava/lang/Object;)Z" } : Jvm.MethodName)) ∈ lw_all := lw_g (lw_at lw_m14 210 rfl) rfl
theorem q3386 : (Jvm.Cond.unhidden "Twinrow$Test" "test" "(Ljava/lang/Object;)Z") ∈ lw_tbl := lw_at lw_m14 211 rfl
theorem q3387 : (Jvm.Cond.instanceMethod ({ cls := "Twinrow$Test", name := "test", desc := "(Ljava/lang/Object;)Z" } : Jvm.MethodName)) ∈ lw_all := lw_g (lw_at lw_m14 212 rfl) rfl
theorem q3388 : (Jvm.Cond.publicMethod ({ cls := "Twinrow$Test", name := "test", desc := "(Ljava/lang/Object;)Z" } : Jvm.MethodName)) ∈ lw_tbl := lw_at lw_m14 213 rfl
theorem q3389 : (Jvm.Cond.code ({ cls := "Twinrow$Test", name := "test", desc := "(Ljava/lang/Object;)Z" } : Jvm.MethodName) prog_5_method_3_code (2 : Nat) (Option.some Jvm.ClassFile.FieldType.boolean)) ∈ lw_all := lw_g (lw_at lw_m14 214 rfl) rfl
theorem q3390 : (Jvm.Cond.classLink "Twinrow$Test" (17 : Nat) "java/lang/Integer") ∈ lw_all := lw_g (lw_at lw_m14 215 rfl) rfl
theorem q3391 : (Jvm.Cond.methodLink "Twinrow$Test" (22 : Nat) ({ cls := "Twinrow$Test", name := "test", desc := "(Ljava/lang/Integer;)Z" } : Jvm.MethodName)) ∈ lw_all := lw_g (lw_at lw_m14 216 rfl) rfl
theorem q3392 : (Jvm.Cond.instanceMethod ({ cls := "Twinrow$Test", name := "test", desc := "(Ljava/lang/Integer;)Z" } : Jvm.MethodName)) ∈ lw_all := lw_g (lw_at lw_m14 217 rfl) rfl
theorem q3393 : (Jvm.Cond.selects "Twinrow$Test" ({ cls := "Twinrow$Test", name := "test", desc := "(Ljava/lang/Integer;)Z" } : Jvm.MethodName) ({ cls := "Twinrow$Test", name := "test", desc := "(Ljava/lang/Integer;)Z" } : Jvm.MethodName)) ∈ lw_all := lw_g (lw_at lw_m14 218 rfl) rfl
theorem q3394 : (Jvm.Cond.code ({ cls := "Twinrow$Test", name := "test", desc := "(Ljava/lang/Integer;)Z" } : Jvm.MethodName) prog_5_method_2_code (2 : Nat) (Option.some Jvm.ClassFile.FieldType.boolean)) ∈ lw_all := lw_g (lw_at lw_m14 219 rfl) rfl
theorem q3395 : (Jvm.Cond.methodLink "Twinrow$Test" (16 : Nat) ({ cls := "java/lang/Integer", name := "intValue", desc := "()I" } : Jvm.MethodName)) ∈ lw_all := lw_g (lw_at lw_m14 220 rfl) rfl
theorem q3930 : (Jvm.Cond.castable "Twinrow$Test" "java/lang/Object") ∈ lw_tbl := lw_at lw_m17 35 rfl
theorem in_X7 : ∀ w ∈ wsX70, w ∈ lw_all := lw_in wsX70 [3360, 3362] (by decide +kernel) (by decide +kernel)

/-! the law's own entry -/
set_option maxRecDepth 100000
abbrev cL_law : ByteArray := code
def dkwL_law_134 : List UInt8 := [148, 153, 0, 5, 3, 172, 132, 4, 6, 167, 243, 40, 4, 172]
abbrev dktL_law_134 : List UInt8 := dkwL_law_134 ++ []
def dkwL_law_133 : List UInt8 := [167, 0, 30, 43, 182, 1, 57, 44, 182, 1, 61, 159, 0, 19, 3, 172, 43, 182, 1, 62, 44, 182, 1, 66]
abbrev dktL_law_133 : List UInt8 := dkwL_law_133 ++ dktL_law_134
def dkwL_law_132 : List UInt8 := [159, 0, 5, 3, 172, 21, 5, 154, 0, 16, 45, 180, 0, 13, 21, 6, 133, 148, 153, 0, 5, 3, 172]
abbrev dktL_law_132 : List UInt8 := dkwL_law_132 ++ dktL_law_133
def dkwL_law_131 : List UInt8 := [184, 1, 54, 54, 5, 44, 42, 21, 4, 4, 96, 46, 182, 1, 56, 54, 6, 44, 182, 0, 170, 21, 5]
abbrev dktL_law_131 : List UInt8 := dkwL_law_131 ++ dktL_law_132
def dkwL_law_130 : List UInt8 := [180, 0, 13, 21, 6, 133, 148, 153, 0, 5, 3, 172, 167, 0, 87, 43, 42, 21, 4, 4, 96, 46, 45]
abbrev dktL_law_130 : List UInt8 := dkwL_law_130 ++ dktL_law_131
def dkwL_law_129 : List UInt8 := [182, 1, 53, 54, 6, 44, 182, 0, 170, 21, 5, 159, 0, 5, 3, 172, 21, 5, 154, 0, 16, 45]
abbrev dktL_law_129 : List UInt8 := dkwL_law_129 ++ dktL_law_130
def dkwL_law_128 : List UInt8 := [167, 0, 144, 43, 42, 21, 4, 4, 96, 46, 45, 184, 1, 51, 54, 5, 44, 42, 21, 4, 4, 96, 46]
abbrev dktL_law_128 : List UInt8 := dkwL_law_128 ++ dktL_law_129
def dkwL_law_127 : List UInt8 := [159, 0, 5, 3, 172, 21, 5, 154, 0, 16, 45, 180, 0, 13, 21, 6, 133, 148, 153, 0, 5, 3, 172]
abbrev dktL_law_127 : List UInt8 := dkwL_law_127 ++ dktL_law_128
def dkwL_law_126 : List UInt8 := [184, 1, 48, 54, 5, 44, 42, 21, 4, 4, 96, 46, 182, 1, 50, 54, 6, 44, 182, 0, 170, 21, 5]
abbrev dktL_law_126 : List UInt8 := dkwL_law_126 ++ dktL_law_127
def dkwL_law_125 : List UInt8 := [167, 0, 214, 43, 182, 1, 44, 44, 182, 1, 47, 159, 0, 203, 3, 172, 43, 42, 21, 4, 4, 96, 46, 45]
abbrev dktL_law_125 : List UInt8 := dkwL_law_125 ++ dktL_law_126
def dkwL_law_124 : List UInt8 := [159, 0, 5, 3, 172, 21, 5, 154, 0, 16, 45, 180, 0, 13, 21, 6, 133, 148, 153, 0, 5, 3, 172]
abbrev dktL_law_124 : List UInt8 := dkwL_law_124 ++ dktL_law_125
def dkwL_law_123 : List UInt8 := [42, 21, 4, 5, 96, 46, 42, 21, 4, 6, 96, 46, 182, 1, 43, 54, 6, 44, 182, 0, 170, 21, 5]
abbrev dktL_law_123 : List UInt8 := dkwL_law_123 ++ dktL_law_124
def dkwL_law_122 : List UInt8 := [21, 4, 5, 96, 46, 42, 21, 4, 6, 96, 46, 45, 184, 1, 41, 54, 5, 44, 42, 21, 4, 4, 96, 46]
abbrev dktL_law_122 : List UInt8 := dkwL_law_122 ++ dktL_law_123
def dkwL_law_121 : List UInt8 := [180, 0, 13, 21, 6, 133, 148, 153, 0, 5, 3, 172, 167, 1, 39, 43, 42, 21, 4, 4, 96, 46, 42]
abbrev dktL_law_121 : List UInt8 := dkwL_law_121 ++ dktL_law_122
def dkwL_law_120 : List UInt8 := [182, 1, 40, 54, 6, 44, 182, 0, 170, 21, 5, 159, 0, 5, 3, 172, 21, 5, 154, 0, 16, 45]
abbrev dktL_law_120 : List UInt8 := dkwL_law_120 ++ dktL_law_121
def dkwL_law_119 : List UInt8 := [167, 1, 96, 43, 42, 21, 4, 4, 96, 46, 45, 184, 1, 38, 54, 5, 44, 42, 21, 4, 4, 96, 46]
abbrev dktL_law_119 : List UInt8 := dkwL_law_119 ++ dktL_law_120
def dkwL_law_118 : List UInt8 := [159, 0, 5, 3, 172, 21, 5, 154, 0, 16, 45, 180, 0, 13, 21, 6, 133, 148, 153, 0, 5, 3, 172]
abbrev dktL_law_118 : List UInt8 := dkwL_law_118 ++ dktL_law_119
def dkwL_law_117 : List UInt8 := [42, 21, 4, 5, 96, 46, 42, 21, 4, 6, 96, 46, 182, 1, 37, 54, 6, 44, 182, 0, 170, 21, 5]
abbrev dktL_law_117 : List UInt8 := dkwL_law_117 ++ dktL_law_118
def dkwL_law_116 : List UInt8 := [21, 4, 5, 96, 46, 42, 21, 4, 6, 96, 46, 45, 184, 1, 35, 54, 5, 44, 42, 21, 4, 4, 96, 46]
abbrev dktL_law_116 : List UInt8 := dkwL_law_116 ++ dktL_law_117
def dkwL_law_115 : List UInt8 := [180, 0, 13, 21, 6, 133, 148, 153, 0, 5, 3, 172, 167, 1, 177, 43, 42, 21, 4, 4, 96, 46, 42]
abbrev dktL_law_115 : List UInt8 := dkwL_law_115 ++ dktL_law_116
def dkwL_law_114 : List UInt8 := [182, 1, 34, 54, 6, 44, 182, 0, 170, 21, 5, 159, 0, 5, 3, 172, 21, 5, 154, 0, 16, 45]
abbrev dktL_law_114 : List UInt8 := dkwL_law_114 ++ dktL_law_115
def dkwL_law_113 : List UInt8 := [21, 4, 5, 96, 46, 45, 184, 1, 32, 54, 5, 44, 42, 21, 4, 4, 96, 46, 42, 21, 4, 5, 96, 46]
abbrev dktL_law_113 : List UInt8 := dkwL_law_113 ++ dktL_law_114
def dkwL_law_112 : List UInt8 := [180, 0, 13, 21, 6, 133, 148, 153, 0, 5, 3, 172, 167, 1, 246, 43, 42, 21, 4, 4, 96, 46, 42]
abbrev dktL_law_112 : List UInt8 := dkwL_law_112 ++ dktL_law_113
def dkwL_law_111 : List UInt8 := [182, 1, 31, 54, 6, 44, 182, 0, 170, 21, 5, 159, 0, 5, 3, 172, 21, 5, 154, 0, 16, 45]
abbrev dktL_law_111 : List UInt8 := dkwL_law_111 ++ dktL_law_112
def dkwL_law_110 : List UInt8 := [21, 4, 5, 96, 46, 45, 184, 1, 29, 54, 5, 44, 42, 21, 4, 4, 96, 46, 42, 21, 4, 5, 96, 46]
abbrev dktL_law_110 : List UInt8 := dkwL_law_110 ++ dktL_law_111
def dkwL_law_109 : List UInt8 := [180, 0, 13, 21, 6, 133, 148, 153, 0, 5, 3, 172, 167, 2, 59, 43, 42, 21, 4, 4, 96, 46, 42]
abbrev dktL_law_109 : List UInt8 := dkwL_law_109 ++ dktL_law_110
def dkwL_law_108 : List UInt8 := [182, 1, 28, 54, 6, 44, 182, 0, 170, 21, 5, 159, 0, 5, 3, 172, 21, 5, 154, 0, 16, 45]
abbrev dktL_law_108 : List UInt8 := dkwL_law_108 ++ dktL_law_109
def dkwL_law_107 : List UInt8 := [21, 4, 5, 96, 46, 45, 184, 1, 26, 54, 5, 44, 42, 21, 4, 4, 96, 46, 42, 21, 4, 5, 96, 46]
abbrev dktL_law_107 : List UInt8 := dkwL_law_107 ++ dktL_law_108
def dkwL_law_106 : List UInt8 := [180, 0, 13, 21, 6, 133, 148, 153, 0, 5, 3, 172, 167, 2, 128, 43, 42, 21, 4, 4, 96, 46, 42]
abbrev dktL_law_106 : List UInt8 := dkwL_law_106 ++ dktL_law_107
def dkwL_law_105 : List UInt8 := [182, 1, 25, 54, 6, 44, 182, 0, 170, 21, 5, 159, 0, 5, 3, 172, 21, 5, 154, 0, 16, 45]
abbrev dktL_law_105 : List UInt8 := dkwL_law_105 ++ dktL_law_106
def dkwL_law_104 : List UInt8 := [21, 4, 5, 96, 46, 45, 184, 1, 23, 54, 5, 44, 42, 21, 4, 4, 96, 46, 42, 21, 4, 5, 96, 46]
abbrev dktL_law_104 : List UInt8 := dkwL_law_104 ++ dktL_law_105
def dkwL_law_103 : List UInt8 := [180, 0, 13, 21, 6, 133, 148, 153, 0, 5, 3, 172, 167, 2, 197, 43, 42, 21, 4, 4, 96, 46, 42]
abbrev dktL_law_103 : List UInt8 := dkwL_law_103 ++ dktL_law_104
def dkwL_law_102 : List UInt8 := [182, 1, 22, 54, 6, 44, 182, 0, 170, 21, 5, 159, 0, 5, 3, 172, 21, 5, 154, 0, 16, 45]
abbrev dktL_law_102 : List UInt8 := dkwL_law_102 ++ dktL_law_103
def dkwL_law_101 : List UInt8 := [21, 4, 5, 96, 46, 45, 184, 1, 20, 54, 5, 44, 42, 21, 4, 4, 96, 46, 42, 21, 4, 5, 96, 46]
abbrev dktL_law_101 : List UInt8 := dkwL_law_101 ++ dktL_law_102
def dkwL_law_100 : List UInt8 := [180, 0, 13, 21, 6, 133, 148, 153, 0, 5, 3, 172, 167, 3, 10, 43, 42, 21, 4, 4, 96, 46, 42]
abbrev dktL_law_100 : List UInt8 := dkwL_law_100 ++ dktL_law_101
def dkwL_law_99 : List UInt8 := [182, 1, 19, 54, 6, 44, 182, 0, 170, 21, 5, 159, 0, 5, 3, 172, 21, 5, 154, 0, 16, 45]
abbrev dktL_law_99 : List UInt8 := dkwL_law_99 ++ dktL_law_100
def dkwL_law_98 : List UInt8 := [184, 1, 17, 54, 5, 44, 42, 21, 4, 4, 96, 46, 42, 21, 4, 5, 96, 46, 42, 21, 4, 6, 96, 46]
abbrev dktL_law_98 : List UInt8 := dkwL_law_98 ++ dktL_law_99
def dkwL_law_97 : List UInt8 := [167, 3, 91, 43, 42, 21, 4, 4, 96, 46, 42, 21, 4, 5, 96, 46, 42, 21, 4, 6, 96, 46, 45]
abbrev dktL_law_97 : List UInt8 := dkwL_law_97 ++ dktL_law_98
def dkwL_law_96 : List UInt8 := [159, 0, 5, 3, 172, 21, 5, 154, 0, 16, 45, 180, 0, 13, 21, 6, 133, 148, 153, 0, 5, 3, 172]
abbrev dktL_law_96 : List UInt8 := dkwL_law_96 ++ dktL_law_97
def dkwL_law_95 : List UInt8 := [21, 4, 4, 96, 46, 42, 21, 4, 5, 96, 46, 182, 1, 16, 54, 6, 44, 182, 0, 170, 21, 5]
abbrev dktL_law_95 : List UInt8 := dkwL_law_95 ++ dktL_law_96
def dkwL_law_94 : List UInt8 := [167, 3, 160, 43, 42, 21, 4, 4, 96, 46, 42, 21, 4, 5, 96, 46, 45, 184, 1, 14, 54, 5, 44, 42]
abbrev dktL_law_94 : List UInt8 := dkwL_law_94 ++ dktL_law_95
def dkwL_law_93 : List UInt8 := [159, 0, 5, 3, 172, 21, 5, 154, 0, 16, 45, 180, 0, 13, 21, 6, 133, 148, 153, 0, 5, 3, 172]
abbrev dktL_law_93 : List UInt8 := dkwL_law_93 ++ dktL_law_94
def dkwL_law_92 : List UInt8 := [42, 21, 4, 5, 96, 46, 42, 21, 4, 6, 96, 46, 182, 1, 13, 54, 6, 44, 182, 0, 170, 21, 5]
abbrev dktL_law_92 : List UInt8 := dkwL_law_92 ++ dktL_law_93
def dkwL_law_91 : List UInt8 := [21, 4, 5, 96, 46, 42, 21, 4, 6, 96, 46, 45, 184, 1, 11, 54, 5, 44, 42, 21, 4, 4, 96, 46]
abbrev dktL_law_91 : List UInt8 := dkwL_law_91 ++ dktL_law_92
def dkwL_law_90 : List UInt8 := [45, 180, 0, 13, 21, 6, 133, 148, 153, 0, 5, 3, 172, 167, 3, 241, 43, 42, 21, 4, 4, 96, 46, 42]
abbrev dktL_law_90 : List UInt8 := dkwL_law_90 ++ dktL_law_91
def dkwL_law_89 : List UInt8 := [5, 96, 46, 182, 1, 10, 54, 6, 44, 182, 0, 170, 21, 5, 159, 0, 5, 3, 172, 21, 5, 154, 0, 16]
abbrev dktL_law_89 : List UInt8 := dkwL_law_89 ++ dktL_law_90
def dkwL_law_88 : List UInt8 := [96, 46, 42, 21, 4, 5, 96, 46, 45, 184, 1, 8, 54, 5, 44, 42, 21, 4, 4, 96, 46, 42, 21, 4]
abbrev dktL_law_88 : List UInt8 := dkwL_law_88 ++ dktL_law_89
def dkwL_law_87 : List UInt8 := [154, 0, 16, 45, 180, 0, 13, 21, 6, 133, 148, 153, 0, 5, 3, 172, 167, 4, 54, 43, 42, 21, 4, 4]
abbrev dktL_law_87 : List UInt8 := dkwL_law_87 ++ dktL_law_88
def dkwL_law_86 : List UInt8 := [21, 4, 4, 96, 46, 182, 1, 7, 54, 6, 44, 182, 0, 170, 21, 5, 159, 0, 5, 3, 172, 21, 5]
abbrev dktL_law_86 : List UInt8 := dkwL_law_86 ++ dktL_law_87
def dkwL_law_85 : List UInt8 := [153, 0, 5, 3, 172, 167, 4, 111, 43, 42, 21, 4, 4, 96, 46, 45, 184, 1, 5, 54, 5, 44, 42]
abbrev dktL_law_85 : List UInt8 := dkwL_law_85 ++ dktL_law_86
def dkwL_law_84 : List UInt8 := [182, 0, 170, 21, 5, 159, 0, 5, 3, 172, 21, 5, 154, 0, 16, 45, 180, 0, 13, 21, 6, 133, 148]
abbrev dktL_law_84 : List UInt8 := dkwL_law_84 ++ dktL_law_85
def dkwL_law_83 : List UInt8 := [96, 46, 42, 21, 4, 5, 96, 46, 153, 0, 7, 4, 167, 0, 4, 3, 182, 1, 4, 54, 6, 44]
abbrev dktL_law_83 : List UInt8 := dkwL_law_83 ++ dktL_law_84
def dkwL_law_82 : List UInt8 := [21, 4, 5, 96, 46, 153, 0, 7, 4, 167, 0, 4, 3, 45, 184, 1, 1, 54, 5, 44, 42, 21, 4, 4]
abbrev dktL_law_82 : List UInt8 := dkwL_law_82 ++ dktL_law_83
def dkwL_law_81 : List UInt8 := [45, 180, 0, 13, 21, 6, 133, 148, 153, 0, 5, 3, 172, 167, 4, 196, 43, 42, 21, 4, 4, 96, 46, 42]
abbrev dktL_law_81 : List UInt8 := dkwL_law_81 ++ dktL_law_82
def dkwL_law_80 : List UInt8 := [5, 96, 46, 182, 1, 0, 54, 6, 44, 182, 0, 170, 21, 5, 159, 0, 5, 3, 172, 21, 5, 154, 0, 16]
abbrev dktL_law_80 : List UInt8 := dkwL_law_80 ++ dktL_law_81
def dkwL_law_79 : List UInt8 := [96, 46, 42, 21, 4, 5, 96, 46, 45, 184, 0, 254, 54, 5, 44, 42, 21, 4, 4, 96, 46, 42, 21, 4]
abbrev dktL_law_79 : List UInt8 := dkwL_law_79 ++ dktL_law_80
def dkwL_law_78 : List UInt8 := [154, 0, 16, 45, 180, 0, 13, 21, 6, 133, 148, 153, 0, 5, 3, 172, 167, 5, 9, 43, 42, 21, 4, 4]
abbrev dktL_law_78 : List UInt8 := dkwL_law_78 ++ dktL_law_79
def dkwL_law_77 : List UInt8 := [21, 4, 6, 96, 46, 182, 0, 253, 54, 6, 44, 182, 0, 170, 21, 5, 159, 0, 5, 3, 172, 21, 5]
abbrev dktL_law_77 : List UInt8 := dkwL_law_77 ++ dktL_law_78
def dkwL_law_76 : List UInt8 := [6, 96, 46, 45, 184, 0, 251, 54, 5, 44, 42, 21, 4, 4, 96, 46, 42, 21, 4, 5, 96, 46, 42]
abbrev dktL_law_76 : List UInt8 := dkwL_law_76 ++ dktL_law_77
def dkwL_law_75 : List UInt8 := [153, 0, 5, 3, 172, 167, 5, 90, 43, 42, 21, 4, 4, 96, 46, 42, 21, 4, 5, 96, 46, 42, 21, 4]
abbrev dktL_law_75 : List UInt8 := dkwL_law_75 ++ dktL_law_76
def dkwL_law_74 : List UInt8 := [44, 182, 0, 170, 21, 5, 159, 0, 5, 3, 172, 21, 5, 154, 0, 16, 45, 180, 0, 13, 21, 6, 133, 148]
abbrev dktL_law_74 : List UInt8 := dkwL_law_74 ++ dktL_law_75
def dkwL_law_73 : List UInt8 := [44, 42, 21, 4, 4, 96, 46, 42, 21, 4, 5, 96, 46, 42, 21, 4, 6, 96, 46, 182, 0, 250, 54, 6]
abbrev dktL_law_73 : List UInt8 := dkwL_law_73 ++ dktL_law_74
def dkwL_law_72 : List UInt8 := [42, 21, 4, 4, 96, 46, 42, 21, 4, 5, 96, 46, 42, 21, 4, 6, 96, 46, 45, 184, 0, 248, 54, 5]
abbrev dktL_law_72 : List UInt8 := dkwL_law_72 ++ dktL_law_73
def dkwL_law_71 : List UInt8 := [3, 172, 21, 5, 154, 0, 16, 45, 180, 0, 13, 21, 6, 133, 148, 153, 0, 5, 3, 172, 167, 5, 171, 43]
abbrev dktL_law_71 : List UInt8 := dkwL_law_71 ++ dktL_law_72
def dkwL_law_70 : List UInt8 := [96, 46, 153, 0, 7, 4, 167, 0, 4, 3, 182, 0, 247, 54, 6, 44, 182, 0, 170, 21, 5, 159, 0, 5]
abbrev dktL_law_70 : List UInt8 := dkwL_law_70 ++ dktL_law_71
def dkwL_law_69 : List UInt8 := [96, 46, 42, 21, 4, 5, 96, 46, 42, 21, 4, 6, 96, 46, 42, 21, 4, 7, 96, 46, 42, 21, 4, 8]
abbrev dktL_law_69 : List UInt8 := dkwL_law_69 ++ dktL_law_70
def dkwL_law_68 : List UInt8 := [21, 4, 8, 96, 46, 153, 0, 7, 4, 167, 0, 4, 3, 45, 184, 0, 244, 54, 5, 44, 42, 21, 4, 4]
abbrev dktL_law_68 : List UInt8 := dkwL_law_68 ++ dktL_law_69
def dkwL_law_67 : List UInt8 := [21, 4, 4, 96, 46, 42, 21, 4, 5, 96, 46, 42, 21, 4, 6, 96, 46, 42, 21, 4, 7, 96, 46, 42]
abbrev dktL_law_67 : List UInt8 := dkwL_law_67 ++ dktL_law_68
def dkwL_law_66 : List UInt8 := [21, 5, 154, 0, 16, 45, 180, 0, 13, 21, 6, 133, 148, 153, 0, 5, 3, 172, 167, 6, 36, 43, 42]
abbrev dktL_law_66 : List UInt8 := dkwL_law_66 ++ dktL_law_67
def dkwL_law_65 : List UInt8 := [44, 42, 21, 4, 4, 96, 46, 182, 0, 243, 54, 6, 44, 182, 0, 170, 21, 5, 159, 0, 5, 3, 172]
abbrev dktL_law_65 : List UInt8 := dkwL_law_65 ++ dktL_law_66
def dkwL_law_64 : List UInt8 := [182, 0, 201, 154, 0, 5, 3, 172, 167, 6, 93, 43, 42, 21, 4, 4, 96, 46, 45, 184, 0, 241, 54, 5]
abbrev dktL_law_64 : List UInt8 := dkwL_law_64 ++ dktL_law_65
def dkwL_law_63 : List UInt8 := [44, 182, 0, 170, 21, 5, 159, 0, 5, 3, 172, 21, 5, 154, 0, 17, 45, 180, 0, 52, 25, 6]
abbrev dktL_law_63 : List UInt8 := dkwL_law_63 ++ dktL_law_64
def dkwL_law_62 : List UInt8 := [21, 4, 6, 96, 46, 42, 21, 4, 7, 96, 46, 153, 0, 7, 4, 167, 0, 4, 3, 182, 0, 240, 58, 6]
abbrev dktL_law_62 : List UInt8 := dkwL_law_62 ++ dktL_law_63
def dkwL_law_61 : List UInt8 := [167, 0, 4, 3, 45, 184, 0, 237, 54, 5, 44, 42, 21, 4, 4, 96, 46, 42, 21, 4, 5, 96, 46, 42]
abbrev dktL_law_61 : List UInt8 := dkwL_law_61 ++ dktL_law_62
def dkwL_law_60 : List UInt8 := [96, 46, 42, 21, 4, 5, 96, 46, 42, 21, 4, 6, 96, 46, 42, 21, 4, 7, 96, 46, 153, 0, 7, 4]
abbrev dktL_law_60 : List UInt8 := dkwL_law_60 ++ dktL_law_61
def dkwL_law_59 : List UInt8 := [154, 0, 16, 45, 180, 0, 13, 21, 6, 133, 148, 153, 0, 5, 3, 172, 167, 6, 203, 43, 42, 21, 4, 4]
abbrev dktL_law_59 : List UInt8 := dkwL_law_59 ++ dktL_law_60
def dkwL_law_58 : List UInt8 := [21, 4, 4, 96, 46, 182, 0, 236, 54, 6, 44, 182, 0, 170, 21, 5, 159, 0, 5, 3, 172, 21, 5]
abbrev dktL_law_58 : List UInt8 := dkwL_law_58 ++ dktL_law_59
def dkwL_law_57 : List UInt8 := [148, 153, 0, 5, 3, 172, 167, 7, 4, 43, 42, 21, 4, 4, 96, 46, 45, 184, 0, 234, 54, 5, 44, 42]
abbrev dktL_law_57 : List UInt8 := dkwL_law_57 ++ dktL_law_58
def dkwL_law_56 : List UInt8 := [159, 0, 5, 3, 172, 21, 5, 154, 0, 23, 45, 180, 0, 13, 21, 6, 153, 0, 7, 10, 167, 0, 4, 9]
abbrev dktL_law_56 : List UInt8 := dkwL_law_56 ++ dktL_law_57
def dkwL_law_55 : List UInt8 := [21, 4, 4, 96, 46, 42, 21, 4, 5, 96, 46, 182, 0, 233, 54, 6, 44, 182, 0, 170, 21, 5]
abbrev dktL_law_55 : List UInt8 := dkwL_law_55 ++ dktL_law_56
def dkwL_law_54 : List UInt8 := [167, 7, 80, 43, 42, 21, 4, 4, 96, 46, 42, 21, 4, 5, 96, 46, 45, 184, 0, 231, 54, 5, 44, 42]
abbrev dktL_law_54 : List UInt8 := dkwL_law_54 ++ dktL_law_55
def dkwL_law_53 : List UInt8 := [159, 0, 5, 3, 172, 21, 5, 154, 0, 16, 45, 180, 0, 13, 21, 6, 133, 148, 153, 0, 5, 3, 172]
abbrev dktL_law_53 : List UInt8 := dkwL_law_53 ++ dktL_law_54
def dkwL_law_52 : List UInt8 := [42, 21, 4, 4, 96, 46, 42, 21, 4, 5, 96, 46, 182, 0, 230, 54, 6, 44, 182, 0, 170, 21, 5]
abbrev dktL_law_52 : List UInt8 := dkwL_law_52 ++ dktL_law_53
def dkwL_law_51 : List UInt8 := [172, 167, 7, 149, 43, 42, 21, 4, 4, 96, 46, 42, 21, 4, 5, 96, 46, 45, 184, 0, 228, 54, 5, 44]
abbrev dktL_law_51 : List UInt8 := dkwL_law_51 ++ dktL_law_52
def dkwL_law_50 : List UInt8 := [21, 5, 154, 0, 23, 45, 180, 0, 13, 21, 6, 153, 0, 7, 10, 167, 0, 4, 9, 148, 153, 0, 5, 3]
abbrev dktL_law_50 : List UInt8 := dkwL_law_50 ++ dktL_law_51
def dkwL_law_49 : List UInt8 := [46, 42, 21, 4, 5, 96, 46, 182, 0, 227, 54, 6, 44, 182, 0, 170, 21, 5, 159, 0, 5, 3, 172]
abbrev dktL_law_49 : List UInt8 := dkwL_law_49 ++ dktL_law_50
def dkwL_law_48 : List UInt8 := [42, 21, 4, 4, 96, 46, 42, 21, 4, 5, 96, 46, 45, 184, 0, 225, 54, 5, 44, 42, 21, 4, 4, 96]
abbrev dktL_law_48 : List UInt8 := dkwL_law_48 ++ dktL_law_49
def dkwL_law_47 : List UInt8 := [45, 180, 0, 13, 21, 6, 153, 0, 7, 10, 167, 0, 4, 9, 148, 153, 0, 5, 3, 172, 167, 7, 225, 43]
abbrev dktL_law_47 : List UInt8 := dkwL_law_47 ++ dktL_law_48
def dkwL_law_46 : List UInt8 := [5, 96, 46, 182, 0, 224, 54, 6, 44, 182, 0, 170, 21, 5, 159, 0, 5, 3, 172, 21, 5, 154, 0, 23]
abbrev dktL_law_46 : List UInt8 := dkwL_law_46 ++ dktL_law_47
def dkwL_law_45 : List UInt8 := [96, 46, 42, 21, 4, 5, 96, 46, 45, 184, 0, 222, 54, 5, 44, 42, 21, 4, 4, 96, 46, 42, 21, 4]
abbrev dktL_law_45 : List UInt8 := dkwL_law_45 ++ dktL_law_46
def dkwL_law_44 : List UInt8 := [154, 0, 16, 45, 180, 0, 13, 21, 6, 133, 148, 153, 0, 5, 3, 172, 167, 8, 45, 43, 42, 21, 4, 4]
abbrev dktL_law_44 : List UInt8 := dkwL_law_44 ++ dktL_law_45
def dkwL_law_43 : List UInt8 := [42, 21, 4, 5, 96, 46, 182, 0, 221, 54, 6, 44, 182, 0, 170, 21, 5, 159, 0, 5, 3, 172, 21, 5]
abbrev dktL_law_43 : List UInt8 := dkwL_law_43 ++ dktL_law_44
def dkwL_law_42 : List UInt8 := [21, 4, 4, 96, 46, 42, 21, 4, 5, 96, 46, 45, 184, 0, 219, 54, 5, 44, 42, 21, 4, 4, 96, 46]
abbrev dktL_law_42 : List UInt8 := dkwL_law_42 ++ dktL_law_43
def dkwL_law_41 : List UInt8 := [180, 0, 13, 21, 6, 153, 0, 7, 10, 167, 0, 4, 9, 148, 153, 0, 5, 3, 172, 167, 8, 114, 43, 42]
abbrev dktL_law_41 : List UInt8 := dkwL_law_41 ++ dktL_law_42
def dkwL_law_40 : List UInt8 := [182, 0, 218, 54, 6, 44, 182, 0, 170, 21, 5, 159, 0, 5, 3, 172, 21, 5, 154, 0, 23, 45]
abbrev dktL_law_40 : List UInt8 := dkwL_law_40 ++ dktL_law_41
def dkwL_law_39 : List UInt8 := [21, 4, 5, 96, 46, 45, 184, 0, 216, 54, 5, 44, 42, 21, 4, 4, 96, 46, 42, 21, 4, 5, 96, 46]
abbrev dktL_law_39 : List UInt8 := dkwL_law_39 ++ dktL_law_40
def dkwL_law_38 : List UInt8 := [45, 180, 0, 13, 21, 6, 133, 148, 153, 0, 5, 3, 172, 167, 8, 190, 43, 42, 21, 4, 4, 96, 46, 42]
abbrev dktL_law_38 : List UInt8 := dkwL_law_38 ++ dktL_law_39
def dkwL_law_37 : List UInt8 := [5, 96, 46, 182, 0, 215, 54, 6, 44, 182, 0, 170, 21, 5, 159, 0, 5, 3, 172, 21, 5, 154, 0, 16]
abbrev dktL_law_37 : List UInt8 := dkwL_law_37 ++ dktL_law_38
def dkwL_law_36 : List UInt8 := [96, 46, 42, 21, 4, 5, 96, 46, 45, 184, 0, 213, 54, 5, 44, 42, 21, 4, 4, 96, 46, 42, 21, 4]
abbrev dktL_law_36 : List UInt8 := dkwL_law_36 ++ dktL_law_37
def dkwL_law_35 : List UInt8 := [154, 0, 16, 45, 180, 0, 13, 21, 6, 133, 148, 153, 0, 5, 3, 172, 167, 9, 3, 43, 42, 21, 4, 4]
abbrev dktL_law_35 : List UInt8 := dkwL_law_35 ++ dktL_law_36
def dkwL_law_34 : List UInt8 := [21, 4, 5, 96, 46, 182, 0, 212, 54, 6, 44, 182, 0, 170, 21, 5, 159, 0, 5, 3, 172, 21, 5]
abbrev dktL_law_34 : List UInt8 := dkwL_law_34 ++ dktL_law_35
def dkwL_law_33 : List UInt8 := [4, 96, 46, 42, 21, 4, 5, 96, 46, 45, 184, 0, 210, 54, 5, 44, 42, 21, 4, 4, 96, 46, 42]
abbrev dktL_law_33 : List UInt8 := dkwL_law_33 ++ dktL_law_34
def dkwL_law_32 : List UInt8 := [154, 0, 17, 45, 180, 0, 52, 25, 6, 182, 0, 201, 154, 0, 5, 3, 172, 167, 9, 72, 43, 42, 21, 4]
abbrev dktL_law_32 : List UInt8 := dkwL_law_32 ++ dktL_law_33
def dkwL_law_31 : List UInt8 := [21, 4, 4, 96, 46, 182, 0, 209, 58, 6, 44, 182, 0, 170, 21, 5, 159, 0, 5, 3, 172, 21, 5]
abbrev dktL_law_31 : List UInt8 := dkwL_law_31 ++ dktL_law_32
def dkwL_law_30 : List UInt8 := [154, 0, 5, 3, 172, 167, 9, 130, 43, 42, 21, 4, 4, 96, 46, 45, 184, 0, 207, 54, 5, 44, 42]
abbrev dktL_law_30 : List UInt8 := dkwL_law_30 ++ dktL_law_31
def dkwL_law_29 : List UInt8 := [182, 0, 170, 21, 5, 159, 0, 5, 3, 172, 21, 5, 154, 0, 17, 45, 180, 0, 52, 25, 6, 182, 0, 201]
abbrev dktL_law_29 : List UInt8 := dkwL_law_29 ++ dktL_law_30
def dkwL_law_28 : List UInt8 := [21, 4, 4, 96, 46, 45, 184, 0, 198, 54, 5, 44, 42, 21, 4, 4, 96, 46, 182, 0, 200, 58, 6, 44]
abbrev dktL_law_28 : List UInt8 := dkwL_law_28 ++ dktL_law_29
def dkwL_law_27 : List UInt8 := [180, 0, 13, 21, 6, 153, 0, 7, 10, 167, 0, 4, 9, 148, 153, 0, 5, 3, 172, 167, 9, 188, 43, 42]
abbrev dktL_law_27 : List UInt8 := dkwL_law_27 ++ dktL_law_28
def dkwL_law_26 : List UInt8 := [182, 0, 197, 54, 6, 44, 182, 0, 170, 21, 5, 159, 0, 5, 3, 172, 21, 5, 154, 0, 23, 45]
abbrev dktL_law_26 : List UInt8 := dkwL_law_26 ++ dktL_law_27
def dkwL_law_25 : List UInt8 := [167, 9, 252, 43, 42, 21, 4, 4, 96, 46, 45, 184, 0, 195, 54, 5, 44, 42, 21, 4, 4, 96, 46]
abbrev dktL_law_25 : List UInt8 := dkwL_law_25 ++ dktL_law_26
def dkwL_law_24 : List UInt8 := [159, 0, 5, 3, 172, 21, 5, 154, 0, 16, 45, 180, 0, 13, 21, 6, 133, 148, 153, 0, 5, 3, 172]
abbrev dktL_law_24 : List UInt8 := dkwL_law_24 ++ dktL_law_25
def dkwL_law_23 : List UInt8 := [184, 0, 191, 54, 5, 44, 42, 21, 4, 4, 96, 46, 182, 0, 194, 54, 6, 44, 182, 0, 170, 21, 5]
abbrev dktL_law_23 : List UInt8 := dkwL_law_23 ++ dktL_law_24
def dkwL_law_22 : List UInt8 := [45, 180, 0, 13, 21, 6, 133, 148, 153, 0, 5, 3, 172, 167, 10, 53, 43, 42, 21, 4, 4, 96, 46, 45]
abbrev dktL_law_22 : List UInt8 := dkwL_law_22 ++ dktL_law_23
def dkwL_law_21 : List UInt8 := [5, 96, 46, 182, 0, 190, 54, 6, 44, 182, 0, 170, 21, 5, 159, 0, 5, 3, 172, 21, 5, 154, 0, 16]
abbrev dktL_law_21 : List UInt8 := dkwL_law_21 ++ dktL_law_22
def dkwL_law_20 : List UInt8 := [96, 46, 42, 21, 4, 5, 96, 46, 45, 184, 0, 188, 54, 5, 44, 42, 21, 4, 4, 96, 46, 42, 21, 4]
abbrev dktL_law_20 : List UInt8 := dkwL_law_20 ++ dktL_law_21
def dkwL_law_19 : List UInt8 := [154, 0, 16, 45, 180, 0, 13, 21, 6, 133, 148, 153, 0, 5, 3, 172, 167, 10, 122, 43, 42, 21, 4, 4]
abbrev dktL_law_19 : List UInt8 := dkwL_law_19 ++ dktL_law_20
def dkwL_law_18 : List UInt8 := [21, 4, 6, 96, 46, 182, 0, 187, 54, 6, 44, 182, 0, 170, 21, 5, 159, 0, 5, 3, 172, 21, 5]
abbrev dktL_law_18 : List UInt8 := dkwL_law_18 ++ dktL_law_19
def dkwL_law_17 : List UInt8 := [6, 96, 46, 45, 184, 0, 185, 54, 5, 44, 42, 21, 4, 4, 96, 46, 42, 21, 4, 5, 96, 46, 42]
abbrev dktL_law_17 : List UInt8 := dkwL_law_17 ++ dktL_law_18
def dkwL_law_16 : List UInt8 := [153, 0, 5, 3, 172, 167, 10, 203, 43, 42, 21, 4, 4, 96, 46, 42, 21, 4, 5, 96, 46, 42, 21, 4]
abbrev dktL_law_16 : List UInt8 := dkwL_law_16 ++ dktL_law_17
def dkwL_law_15 : List UInt8 := [182, 0, 170, 21, 5, 159, 0, 5, 3, 172, 21, 5, 154, 0, 16, 45, 180, 0, 13, 21, 6, 133, 148]
abbrev dktL_law_15 : List UInt8 := dkwL_law_15 ++ dktL_law_16
def dkwL_law_14 : List UInt8 := [21, 4, 5, 96, 46, 42, 21, 4, 6, 96, 46, 42, 21, 4, 7, 96, 46, 182, 0, 184, 54, 6, 44]
abbrev dktL_law_14 : List UInt8 := dkwL_law_14 ++ dktL_law_15
def dkwL_law_13 : List UInt8 := [6, 96, 46, 42, 21, 4, 7, 96, 46, 45, 184, 0, 181, 54, 5, 44, 42, 21, 4, 4, 96, 46, 42]
abbrev dktL_law_13 : List UInt8 := dkwL_law_13 ++ dktL_law_14
def dkwL_law_12 : List UInt8 := [153, 0, 5, 3, 172, 167, 11, 40, 43, 42, 21, 4, 4, 96, 46, 42, 21, 4, 5, 96, 46, 42, 21, 4]
abbrev dktL_law_12 : List UInt8 := dkwL_law_12 ++ dktL_law_13
def dkwL_law_11 : List UInt8 := [182, 0, 170, 21, 5, 159, 0, 5, 3, 172, 21, 5, 154, 0, 16, 45, 180, 0, 13, 21, 6, 133, 148]
abbrev dktL_law_11 : List UInt8 := dkwL_law_11 ++ dktL_law_12
def dkwL_law_10 : List UInt8 := [184, 0, 178, 54, 5, 44, 42, 21, 4, 4, 96, 46, 42, 21, 4, 5, 96, 46, 182, 0, 180, 54, 6, 44]
abbrev dktL_law_10 : List UInt8 := dkwL_law_10 ++ dktL_law_11
def dkwL_law_9 : List UInt8 := [153, 0, 5, 3, 172, 167, 11, 109, 43, 42, 21, 4, 4, 96, 46, 42, 21, 4, 5, 96, 46, 45]
abbrev dktL_law_9 : List UInt8 := dkwL_law_9 ++ dktL_law_10
def dkwL_law_8 : List UInt8 := [182, 0, 170, 21, 5, 159, 0, 5, 3, 172, 21, 5, 154, 0, 16, 45, 180, 0, 13, 21, 6, 133, 148]
abbrev dktL_law_8 : List UInt8 := dkwL_law_8 ++ dktL_law_9
def dkwL_law_7 : List UInt8 := [42, 21, 4, 4, 96, 46, 42, 21, 4, 5, 96, 46, 42, 21, 4, 6, 96, 46, 182, 0, 177, 54, 6, 44]
abbrev dktL_law_7 : List UInt8 := dkwL_law_7 ++ dktL_law_8
def dkwL_law_6 : List UInt8 := [21, 4, 4, 96, 46, 42, 21, 4, 5, 96, 46, 42, 21, 4, 6, 96, 46, 45, 184, 0, 174, 54, 5, 44]
abbrev dktL_law_6 : List UInt8 := dkwL_law_6 ++ dktL_law_7
def dkwL_law_5 : List UInt8 := [21, 5, 154, 0, 16, 45, 180, 0, 13, 21, 6, 133, 148, 153, 0, 5, 3, 172, 167, 11, 190, 43, 42]
abbrev dktL_law_5 : List UInt8 := dkwL_law_5 ++ dktL_law_6
def dkwL_law_4 : List UInt8 := [96, 46, 42, 21, 4, 5, 96, 46, 182, 0, 169, 54, 6, 44, 182, 0, 170, 21, 5, 159, 0, 5, 3, 172]
abbrev dktL_law_4 : List UInt8 := dkwL_law_4 ++ dktL_law_5
def dkwL_law_3 : List UInt8 := [43, 42, 21, 4, 4, 96, 46, 42, 21, 4, 5, 96, 46, 45, 184, 0, 164, 54, 5, 44, 42, 21, 4, 4]
abbrev dktL_law_3 : List UInt8 := dkwL_law_3 ++ dktL_law_4
def dkwL_law_2 : List UInt8 := [170, 0, 0, 0, 0, 0, 12, 196, 0, 0, 0, 0, 0, 0, 0, 44, 0, 0, 0, 196, 0, 0, 1, 9, 0, 0, 1, 90, 0, 0, 1, 159, 0, 0, 1, 252, 0, 0, 2, 77, 0, 0, 2, 146, 0, 0, 2, 203, 0, 0, 3, 11, 0, 0, 3, 69, 0, 0, 3, 127, 0, 0, 3, 196, 0, 0, 4, 9, 0, 0, 4, 85, 0, 0, 4, 154, 0, 0, 4, 230, 0, 0, 5, 50, 0, 0, 5, 119, 0, 0, 5, 195, 0, 0, 5, 252, 0, 0, 6, 106, 0, 0, 6, 163, 0, 0, 7, 28, 0, 0, 7, 109, 0, 0, 7, 190, 0, 0, 8, 3, 0, 0, 8, 88, 0, 0, 8, 145, 0, 0, 8, 214, 0, 0, 9, 39, 0, 0, 9, 108, 0, 0, 9, 189, 0, 0, 10, 2, 0, 0, 10, 71, 0, 0, 10, 140, 0, 0, 10, 209, 0, 0, 11, 22, 0, 0, 11, 103, 0, 0, 11, 160, 0, 0, 11, 241, 0, 0, 11, 254, 0, 0, 12, 55, 0, 0, 12, 112, 0, 0, 12, 169, 0, 0, 12, 182]
abbrev dktL_law_2 : List UInt8 := dkwL_law_2 ++ dktL_law_3
def dkwL_law_1 : List UInt8 := [3, 54, 4, 21, 4, 42, 190, 16, 6, 100, 163, 12, 212, 42, 21, 4, 46, 16, 63, 126]
abbrev dktL_law_1 : List UInt8 := dkwL_law_1 ++ dktL_law_2
def dkwL_law_0 : List UInt8 := [187, 0, 8, 89, 183, 0, 159, 76, 187, 0, 160, 89, 183, 0, 162, 77, 187, 0, 14, 89, 183, 0, 163, 78]
abbrev dktL_law_0 : List UInt8 := dkwL_law_0 ++ dktL_law_1
theorem dksL_law_0 : cL_law.data.toList.drop 0 = dktL_law_0 := by decide +kernel
theorem dksL_law_1 : cL_law.data.toList.drop 24 = dktL_law_1 := dk_seg dksL_law_0 24 rfl rfl
theorem dksL_law_2 : cL_law.data.toList.drop 44 = dktL_law_2 := dk_seg dksL_law_1 20 rfl rfl
theorem dksL_law_3 : cL_law.data.toList.drop 240 = dktL_law_3 := dk_seg dksL_law_2 196 rfl rfl
theorem dksL_law_4 : cL_law.data.toList.drop 264 = dktL_law_4 := dk_seg dksL_law_3 24 rfl rfl
theorem dksL_law_5 : cL_law.data.toList.drop 288 = dktL_law_5 := dk_seg dksL_law_4 24 rfl rfl
theorem dksL_law_6 : cL_law.data.toList.drop 311 = dktL_law_6 := dk_seg dksL_law_5 23 rfl rfl
theorem dksL_law_7 : cL_law.data.toList.drop 335 = dktL_law_7 := dk_seg dksL_law_6 24 rfl rfl
theorem dksL_law_8 : cL_law.data.toList.drop 359 = dktL_law_8 := dk_seg dksL_law_7 24 rfl rfl
theorem dksL_law_9 : cL_law.data.toList.drop 382 = dktL_law_9 := dk_seg dksL_law_8 23 rfl rfl
theorem dksL_law_10 : cL_law.data.toList.drop 404 = dktL_law_10 := dk_seg dksL_law_9 22 rfl rfl
theorem dksL_law_11 : cL_law.data.toList.drop 428 = dktL_law_11 := dk_seg dksL_law_10 24 rfl rfl
theorem dksL_law_12 : cL_law.data.toList.drop 451 = dktL_law_12 := dk_seg dksL_law_11 23 rfl rfl
theorem dksL_law_13 : cL_law.data.toList.drop 475 = dktL_law_13 := dk_seg dksL_law_12 24 rfl rfl
theorem dksL_law_14 : cL_law.data.toList.drop 498 = dktL_law_14 := dk_seg dksL_law_13 23 rfl rfl
theorem dksL_law_15 : cL_law.data.toList.drop 521 = dktL_law_15 := dk_seg dksL_law_14 23 rfl rfl
theorem dksL_law_16 : cL_law.data.toList.drop 544 = dktL_law_16 := dk_seg dksL_law_15 23 rfl rfl
theorem dksL_law_17 : cL_law.data.toList.drop 568 = dktL_law_17 := dk_seg dksL_law_16 24 rfl rfl
theorem dksL_law_18 : cL_law.data.toList.drop 591 = dktL_law_18 := dk_seg dksL_law_17 23 rfl rfl
theorem dksL_law_19 : cL_law.data.toList.drop 614 = dktL_law_19 := dk_seg dksL_law_18 23 rfl rfl
theorem dksL_law_20 : cL_law.data.toList.drop 638 = dktL_law_20 := dk_seg dksL_law_19 24 rfl rfl
theorem dksL_law_21 : cL_law.data.toList.drop 662 = dktL_law_21 := dk_seg dksL_law_20 24 rfl rfl
theorem dksL_law_22 : cL_law.data.toList.drop 686 = dktL_law_22 := dk_seg dksL_law_21 24 rfl rfl
theorem dksL_law_23 : cL_law.data.toList.drop 710 = dktL_law_23 := dk_seg dksL_law_22 24 rfl rfl
theorem dksL_law_24 : cL_law.data.toList.drop 733 = dktL_law_24 := dk_seg dksL_law_23 23 rfl rfl
theorem dksL_law_25 : cL_law.data.toList.drop 756 = dktL_law_25 := dk_seg dksL_law_24 23 rfl rfl
theorem dksL_law_26 : cL_law.data.toList.drop 779 = dktL_law_26 := dk_seg dksL_law_25 23 rfl rfl
theorem dksL_law_27 : cL_law.data.toList.drop 801 = dktL_law_27 := dk_seg dksL_law_26 22 rfl rfl
theorem dksL_law_28 : cL_law.data.toList.drop 825 = dktL_law_28 := dk_seg dksL_law_27 24 rfl rfl
theorem dksL_law_29 : cL_law.data.toList.drop 849 = dktL_law_29 := dk_seg dksL_law_28 24 rfl rfl
theorem dksL_law_30 : cL_law.data.toList.drop 873 = dktL_law_30 := dk_seg dksL_law_29 24 rfl rfl
theorem dksL_law_31 : cL_law.data.toList.drop 896 = dktL_law_31 := dk_seg dksL_law_30 23 rfl rfl
theorem dksL_law_32 : cL_law.data.toList.drop 919 = dktL_law_32 := dk_seg dksL_law_31 23 rfl rfl
theorem dksL_law_33 : cL_law.data.toList.drop 943 = dktL_law_33 := dk_seg dksL_law_32 24 rfl rfl
theorem dksL_law_34 : cL_law.data.toList.drop 966 = dktL_law_34 := dk_seg dksL_law_33 23 rfl rfl
theorem dksL_law_35 : cL_law.data.toList.drop 989 = dktL_law_35 := dk_seg dksL_law_34 23 rfl rfl
theorem dksL_law_36 : cL_law.data.toList.drop 1013 = dktL_law_36 := dk_seg dksL_law_35 24 rfl rfl
theorem dksL_law_37 : cL_law.data.toList.drop 1037 = dktL_law_37 := dk_seg dksL_law_36 24 rfl rfl
theorem dksL_law_38 : cL_law.data.toList.drop 1061 = dktL_law_38 := dk_seg dksL_law_37 24 rfl rfl
theorem dksL_law_39 : cL_law.data.toList.drop 1085 = dktL_law_39 := dk_seg dksL_law_38 24 rfl rfl
theorem dksL_law_40 : cL_law.data.toList.drop 1109 = dktL_law_40 := dk_seg dksL_law_39 24 rfl rfl
theorem dksL_law_41 : cL_law.data.toList.drop 1131 = dktL_law_41 := dk_seg dksL_law_40 22 rfl rfl
theorem dksL_law_42 : cL_law.data.toList.drop 1155 = dktL_law_42 := dk_seg dksL_law_41 24 rfl rfl
theorem dksL_law_43 : cL_law.data.toList.drop 1179 = dktL_law_43 := dk_seg dksL_law_42 24 rfl rfl
theorem dksL_law_44 : cL_law.data.toList.drop 1203 = dktL_law_44 := dk_seg dksL_law_43 24 rfl rfl
theorem dksL_law_45 : cL_law.data.toList.drop 1227 = dktL_law_45 := dk_seg dksL_law_44 24 rfl rfl
theorem dksL_law_46 : cL_law.data.toList.drop 1251 = dktL_law_46 := dk_seg dksL_law_45 24 rfl rfl
theorem dksL_law_47 : cL_law.data.toList.drop 1275 = dktL_law_47 := dk_seg dksL_law_46 24 rfl rfl
theorem dksL_law_48 : cL_law.data.toList.drop 1299 = dktL_law_48 := dk_seg dksL_law_47 24 rfl rfl
theorem dksL_law_49 : cL_law.data.toList.drop 1323 = dktL_law_49 := dk_seg dksL_law_48 24 rfl rfl
theorem dksL_law_50 : cL_law.data.toList.drop 1346 = dktL_law_50 := dk_seg dksL_law_49 23 rfl rfl
theorem dksL_law_51 : cL_law.data.toList.drop 1370 = dktL_law_51 := dk_seg dksL_law_50 24 rfl rfl
theorem dksL_law_52 : cL_law.data.toList.drop 1394 = dktL_law_52 := dk_seg dksL_law_51 24 rfl rfl
theorem dksL_law_53 : cL_law.data.toList.drop 1417 = dktL_law_53 := dk_seg dksL_law_52 23 rfl rfl
theorem dksL_law_54 : cL_law.data.toList.drop 1440 = dktL_law_54 := dk_seg dksL_law_53 23 rfl rfl
theorem dksL_law_55 : cL_law.data.toList.drop 1464 = dktL_law_55 := dk_seg dksL_law_54 24 rfl rfl
theorem dksL_law_56 : cL_law.data.toList.drop 1486 = dktL_law_56 := dk_seg dksL_law_55 22 rfl rfl
theorem dksL_law_57 : cL_law.data.toList.drop 1510 = dktL_law_57 := dk_seg dksL_law_56 24 rfl rfl
theorem dksL_law_58 : cL_law.data.toList.drop 1534 = dktL_law_58 := dk_seg dksL_law_57 24 rfl rfl
theorem dksL_law_59 : cL_law.data.toList.drop 1557 = dktL_law_59 := dk_seg dksL_law_58 23 rfl rfl
theorem dksL_law_60 : cL_law.data.toList.drop 1581 = dktL_law_60 := dk_seg dksL_law_59 24 rfl rfl
theorem dksL_law_61 : cL_law.data.toList.drop 1605 = dktL_law_61 := dk_seg dksL_law_60 24 rfl rfl
theorem dksL_law_62 : cL_law.data.toList.drop 1629 = dktL_law_62 := dk_seg dksL_law_61 24 rfl rfl
theorem dksL_law_63 : cL_law.data.toList.drop 1653 = dktL_law_63 := dk_seg dksL_law_62 24 rfl rfl
theorem dksL_law_64 : cL_law.data.toList.drop 1675 = dktL_law_64 := dk_seg dksL_law_63 22 rfl rfl
theorem dksL_law_65 : cL_law.data.toList.drop 1699 = dktL_law_65 := dk_seg dksL_law_64 24 rfl rfl
theorem dksL_law_66 : cL_law.data.toList.drop 1722 = dktL_law_66 := dk_seg dksL_law_65 23 rfl rfl
theorem dksL_law_67 : cL_law.data.toList.drop 1745 = dktL_law_67 := dk_seg dksL_law_66 23 rfl rfl
theorem dksL_law_68 : cL_law.data.toList.drop 1769 = dktL_law_68 := dk_seg dksL_law_67 24 rfl rfl
theorem dksL_law_69 : cL_law.data.toList.drop 1793 = dktL_law_69 := dk_seg dksL_law_68 24 rfl rfl
theorem dksL_law_70 : cL_law.data.toList.drop 1817 = dktL_law_70 := dk_seg dksL_law_69 24 rfl rfl
theorem dksL_law_71 : cL_law.data.toList.drop 1841 = dktL_law_71 := dk_seg dksL_law_70 24 rfl rfl
theorem dksL_law_72 : cL_law.data.toList.drop 1865 = dktL_law_72 := dk_seg dksL_law_71 24 rfl rfl
theorem dksL_law_73 : cL_law.data.toList.drop 1889 = dktL_law_73 := dk_seg dksL_law_72 24 rfl rfl
theorem dksL_law_74 : cL_law.data.toList.drop 1913 = dktL_law_74 := dk_seg dksL_law_73 24 rfl rfl
theorem dksL_law_75 : cL_law.data.toList.drop 1937 = dktL_law_75 := dk_seg dksL_law_74 24 rfl rfl
theorem dksL_law_76 : cL_law.data.toList.drop 1961 = dktL_law_76 := dk_seg dksL_law_75 24 rfl rfl
theorem dksL_law_77 : cL_law.data.toList.drop 1984 = dktL_law_77 := dk_seg dksL_law_76 23 rfl rfl
theorem dksL_law_78 : cL_law.data.toList.drop 2007 = dktL_law_78 := dk_seg dksL_law_77 23 rfl rfl
theorem dksL_law_79 : cL_law.data.toList.drop 2031 = dktL_law_79 := dk_seg dksL_law_78 24 rfl rfl
theorem dksL_law_80 : cL_law.data.toList.drop 2055 = dktL_law_80 := dk_seg dksL_law_79 24 rfl rfl
theorem dksL_law_81 : cL_law.data.toList.drop 2079 = dktL_law_81 := dk_seg dksL_law_80 24 rfl rfl
theorem dksL_law_82 : cL_law.data.toList.drop 2103 = dktL_law_82 := dk_seg dksL_law_81 24 rfl rfl
theorem dksL_law_83 : cL_law.data.toList.drop 2127 = dktL_law_83 := dk_seg dksL_law_82 24 rfl rfl
theorem dksL_law_84 : cL_law.data.toList.drop 2149 = dktL_law_84 := dk_seg dksL_law_83 22 rfl rfl
theorem dksL_law_85 : cL_law.data.toList.drop 2172 = dktL_law_85 := dk_seg dksL_law_84 23 rfl rfl
theorem dksL_law_86 : cL_law.data.toList.drop 2195 = dktL_law_86 := dk_seg dksL_law_85 23 rfl rfl
theorem dksL_law_87 : cL_law.data.toList.drop 2218 = dktL_law_87 := dk_seg dksL_law_86 23 rfl rfl
theorem dksL_law_88 : cL_law.data.toList.drop 2242 = dktL_law_88 := dk_seg dksL_law_87 24 rfl rfl
theorem dksL_law_89 : cL_law.data.toList.drop 2266 = dktL_law_89 := dk_seg dksL_law_88 24 rfl rfl
theorem dksL_law_90 : cL_law.data.toList.drop 2290 = dktL_law_90 := dk_seg dksL_law_89 24 rfl rfl
theorem dksL_law_91 : cL_law.data.toList.drop 2314 = dktL_law_91 := dk_seg dksL_law_90 24 rfl rfl
theorem dksL_law_92 : cL_law.data.toList.drop 2338 = dktL_law_92 := dk_seg dksL_law_91 24 rfl rfl
theorem dksL_law_93 : cL_law.data.toList.drop 2361 = dktL_law_93 := dk_seg dksL_law_92 23 rfl rfl
theorem dksL_law_94 : cL_law.data.toList.drop 2384 = dktL_law_94 := dk_seg dksL_law_93 23 rfl rfl
theorem dksL_law_95 : cL_law.data.toList.drop 2408 = dktL_law_95 := dk_seg dksL_law_94 24 rfl rfl
theorem dksL_law_96 : cL_law.data.toList.drop 2430 = dktL_law_96 := dk_seg dksL_law_95 22 rfl rfl
theorem dksL_law_97 : cL_law.data.toList.drop 2453 = dktL_law_97 := dk_seg dksL_law_96 23 rfl rfl
theorem dksL_law_98 : cL_law.data.toList.drop 2476 = dktL_law_98 := dk_seg dksL_law_97 23 rfl rfl
theorem dksL_law_99 : cL_law.data.toList.drop 2500 = dktL_law_99 := dk_seg dksL_law_98 24 rfl rfl
theorem dksL_law_100 : cL_law.data.toList.drop 2522 = dktL_law_100 := dk_seg dksL_law_99 22 rfl rfl
theorem dksL_law_101 : cL_law.data.toList.drop 2545 = dktL_law_101 := dk_seg dksL_law_100 23 rfl rfl
theorem dksL_law_102 : cL_law.data.toList.drop 2569 = dktL_law_102 := dk_seg dksL_law_101 24 rfl rfl
theorem dksL_law_103 : cL_law.data.toList.drop 2591 = dktL_law_103 := dk_seg dksL_law_102 22 rfl rfl
theorem dksL_law_104 : cL_law.data.toList.drop 2614 = dktL_law_104 := dk_seg dksL_law_103 23 rfl rfl
theorem dksL_law_105 : cL_law.data.toList.drop 2638 = dktL_law_105 := dk_seg dksL_law_104 24 rfl rfl
theorem dksL_law_106 : cL_law.data.toList.drop 2660 = dktL_law_106 := dk_seg dksL_law_105 22 rfl rfl
theorem dksL_law_107 : cL_law.data.toList.drop 2683 = dktL_law_107 := dk_seg dksL_law_106 23 rfl rfl
theorem dksL_law_108 : cL_law.data.toList.drop 2707 = dktL_law_108 := dk_seg dksL_law_107 24 rfl rfl
theorem dksL_law_109 : cL_law.data.toList.drop 2729 = dktL_law_109 := dk_seg dksL_law_108 22 rfl rfl
theorem dksL_law_110 : cL_law.data.toList.drop 2752 = dktL_law_110 := dk_seg dksL_law_109 23 rfl rfl
theorem dksL_law_111 : cL_law.data.toList.drop 2776 = dktL_law_111 := dk_seg dksL_law_110 24 rfl rfl
theorem dksL_law_112 : cL_law.data.toList.drop 2798 = dktL_law_112 := dk_seg dksL_law_111 22 rfl rfl
theorem dksL_law_113 : cL_law.data.toList.drop 2821 = dktL_law_113 := dk_seg dksL_law_112 23 rfl rfl
theorem dksL_law_114 : cL_law.data.toList.drop 2845 = dktL_law_114 := dk_seg dksL_law_113 24 rfl rfl
theorem dksL_law_115 : cL_law.data.toList.drop 2867 = dktL_law_115 := dk_seg dksL_law_114 22 rfl rfl
theorem dksL_law_116 : cL_law.data.toList.drop 2890 = dktL_law_116 := dk_seg dksL_law_115 23 rfl rfl
theorem dksL_law_117 : cL_law.data.toList.drop 2914 = dktL_law_117 := dk_seg dksL_law_116 24 rfl rfl
theorem dksL_law_118 : cL_law.data.toList.drop 2937 = dktL_law_118 := dk_seg dksL_law_117 23 rfl rfl
theorem dksL_law_119 : cL_law.data.toList.drop 2960 = dktL_law_119 := dk_seg dksL_law_118 23 rfl rfl
theorem dksL_law_120 : cL_law.data.toList.drop 2983 = dktL_law_120 := dk_seg dksL_law_119 23 rfl rfl
theorem dksL_law_121 : cL_law.data.toList.drop 3005 = dktL_law_121 := dk_seg dksL_law_120 22 rfl rfl
theorem dksL_law_122 : cL_law.data.toList.drop 3028 = dktL_law_122 := dk_seg dksL_law_121 23 rfl rfl
theorem dksL_law_123 : cL_law.data.toList.drop 3052 = dktL_law_123 := dk_seg dksL_law_122 24 rfl rfl
theorem dksL_law_124 : cL_law.data.toList.drop 3075 = dktL_law_124 := dk_seg dksL_law_123 23 rfl rfl
theorem dksL_law_125 : cL_law.data.toList.drop 3098 = dktL_law_125 := dk_seg dksL_law_124 23 rfl rfl
theorem dksL_law_126 : cL_law.data.toList.drop 3122 = dktL_law_126 := dk_seg dksL_law_125 24 rfl rfl
theorem dksL_law_127 : cL_law.data.toList.drop 3145 = dktL_law_127 := dk_seg dksL_law_126 23 rfl rfl
theorem dksL_law_128 : cL_law.data.toList.drop 3168 = dktL_law_128 := dk_seg dksL_law_127 23 rfl rfl
theorem dksL_law_129 : cL_law.data.toList.drop 3191 = dktL_law_129 := dk_seg dksL_law_128 23 rfl rfl
theorem dksL_law_130 : cL_law.data.toList.drop 3213 = dktL_law_130 := dk_seg dksL_law_129 22 rfl rfl
theorem dksL_law_131 : cL_law.data.toList.drop 3236 = dktL_law_131 := dk_seg dksL_law_130 23 rfl rfl
theorem dksL_law_132 : cL_law.data.toList.drop 3259 = dktL_law_132 := dk_seg dksL_law_131 23 rfl rfl
theorem dksL_law_133 : cL_law.data.toList.drop 3282 = dktL_law_133 := dk_seg dksL_law_132 23 rfl rfl
theorem dksL_law_134 : cL_law.data.toList.drop 3306 = dktL_law_134 := dk_seg dksL_law_133 24 rfl rfl
theorem dL_law_0 : decode cL_law 0 = .ok (.new 8, 3) := dk_187 0 8 (dk_at dksL_law_0 0 rfl rfl)
theorem dL_law_3 : decode cL_law 3 = .ok (.dup, 1) := dk_89 (dk_at dksL_law_0 3 rfl rfl)
theorem dL_law_4 : decode cL_law 4 = .ok (.invokespecial 159, 3) := dk_183 0 159 (dk_at dksL_law_0 4 rfl rfl)
theorem dL_law_7 : decode cL_law 7 = .ok (.astore_n 1, 1) := dk_76 (dk_at dksL_law_0 7 rfl rfl)
theorem dL_law_8 : decode cL_law 8 = .ok (.new 160, 3) := dk_187 0 160 (dk_at dksL_law_0 8 rfl rfl)
theorem dL_law_11 : decode cL_law 11 = .ok (.dup, 1) := dk_89 (dk_at dksL_law_0 11 rfl rfl)
theorem dL_law_12 : decode cL_law 12 = .ok (.invokespecial 162, 3) := dk_183 0 162 (dk_at dksL_law_0 12 rfl rfl)
theorem dL_law_15 : decode cL_law 15 = .ok (.astore_n 2, 1) := dk_77 (dk_at dksL_law_0 15 rfl rfl)
theorem dL_law_16 : decode cL_law 16 = .ok (.new 14, 3) := dk_187 0 14 (dk_at dksL_law_0 16 rfl rfl)
theorem dL_law_19 : decode cL_law 19 = .ok (.dup, 1) := dk_89 (dk_at dksL_law_0 19 rfl rfl)
theorem dL_law_20 : decode cL_law 20 = .ok (.invokespecial 163, 3) := dk_183 0 163 (dk_at dksL_law_0 20 rfl rfl)
theorem dL_law_23 : decode cL_law 23 = .ok (.astore_n 3, 1) := dk_78 (dk_at dksL_law_0 23 rfl rfl)
theorem dL_law_24 : decode cL_law 24 = .ok (.iconst 0, 1) := dk_3 (dk_at dksL_law_1 0 rfl rfl)
theorem dL_law_25 : decode cL_law 25 = .ok (.istore 4, 2) := dk_54 4 (dk_at dksL_law_1 1 rfl rfl)
theorem dL_law_27 : decode cL_law 27 = .ok (.iload 4, 2) := dk_21 4 (dk_at dksL_law_1 3 rfl rfl)
theorem dL_law_29 : decode cL_law 29 = .ok (.aload_n 0, 1) := dk_42 (dk_at dksL_law_1 5 rfl rfl)
theorem dL_law_30 : decode cL_law 30 = .ok (.arraylength, 1) := dk_190 (dk_at dksL_law_1 6 rfl rfl)
theorem dL_law_31 : decode cL_law 31 = .ok (.bipush 6, 2) := dk_16 6 (dk_at dksL_law_1 7 rfl rfl)
theorem dL_law_33 : decode cL_law 33 = .ok (.isub, 1) := dk_100 (dk_at dksL_law_1 9 rfl rfl)
theorem dL_law_34 : decode cL_law 34 = .ok (.if_icmp .gt 3284, 3) := dk_163 12 212 (dk_at dksL_law_1 10 rfl rfl)
theorem dL_law_37 : decode cL_law 37 = .ok (.aload_n 0, 1) := dk_42 (dk_at dksL_law_1 13 rfl rfl)
theorem dL_law_38 : decode cL_law 38 = .ok (.iload 4, 2) := dk_21 4 (dk_at dksL_law_1 14 rfl rfl)
theorem dL_law_40 : decode cL_law 40 = .ok (.iaload, 1) := dk_46 (dk_at dksL_law_1 16 rfl rfl)
theorem dL_law_41 : decode cL_law 41 = .ok (.bipush 63, 2) := dk_16 63 (dk_at dksL_law_1 17 rfl rfl)
theorem dL_law_43 : decode cL_law 43 = .ok (.iand, 1) := dk_126 (dk_at dksL_law_1 19 rfl rfl)
theorem dL_law_44 : decode cL_law 44 = .ok (.tableswitch 3268 0 44 #[196, 265, 346, 415, 508, 589, 658, 715, 779, 837, 895, 964, 1033, 1109, 1178, 1254, 1330, 1399, 1475, 1532, 1642, 1699, 1820, 1901, 1982, 2051, 2136, 2193, 2262, 2343, 2412, 2493, 2562, 2631, 2700, 2769, 2838, 2919, 2976, 3057, 3070, 3127, 3184, 3241, 3254], 196) := by decide +kernel
theorem dL_law_240 : decode cL_law 240 = .ok (.aload_n 1, 1) := dk_43 (dk_at dksL_law_3 0 rfl rfl)
theorem dL_law_241 : decode cL_law 241 = .ok (.aload_n 0, 1) := dk_42 (dk_at dksL_law_3 1 rfl rfl)
theorem dL_law_242 : decode cL_law 242 = .ok (.iload 4, 2) := dk_21 4 (dk_at dksL_law_3 2 rfl rfl)
theorem dL_law_244 : decode cL_law 244 = .ok (.iconst 1, 1) := dk_4 (dk_at dksL_law_3 4 rfl rfl)
theorem dL_law_245 : decode cL_law 245 = .ok (.iadd, 1) := dk_96 (dk_at dksL_law_3 5 rfl rfl)
theorem dL_law_246 : decode cL_law 246 = .ok (.iaload, 1) := dk_46 (dk_at dksL_law_3 6 rfl rfl)
theorem dL_law_247 : decode cL_law 247 = .ok (.aload_n 0, 1) := dk_42 (dk_at dksL_law_3 7 rfl rfl)
theorem dL_law_248 : decode cL_law 248 = .ok (.iload 4, 2) := dk_21 4 (dk_at dksL_law_3 8 rfl rfl)
theorem dL_law_250 : decode cL_law 250 = .ok (.iconst 2, 1) := dk_5 (dk_at dksL_law_3 10 rfl rfl)
theorem dL_law_251 : decode cL_law 251 = .ok (.iadd, 1) := dk_96 (dk_at dksL_law_3 11 rfl rfl)
theorem dL_law_252 : decode cL_law 252 = .ok (.iaload, 1) := dk_46 (dk_at dksL_law_3 12 rfl rfl)
theorem dL_law_253 : decode cL_law 253 = .ok (.aload_n 3, 1) := dk_45 (dk_at dksL_law_3 13 rfl rfl)
theorem dL_law_254 : decode cL_law 254 = .ok (.invokestatic 164, 3) := dk_184 0 164 (dk_at dksL_law_3 14 rfl rfl)
theorem dL_law_257 : decode cL_law 257 = .ok (.istore 5, 2) := dk_54 5 (dk_at dksL_law_3 17 rfl rfl)
theorem dL_law_259 : decode cL_law 259 = .ok (.aload_n 2, 1) := dk_44 (dk_at dksL_law_3 19 rfl rfl)
theorem dL_law_260 : decode cL_law 260 = .ok (.aload_n 0, 1) := dk_42 (dk_at dksL_law_3 20 rfl rfl)
theorem dL_law_261 : decode cL_law 261 = .ok (.iload 4, 2) := dk_21 4 (dk_at dksL_law_3 21 rfl rfl)
theorem dL_law_263 : decode cL_law 263 = .ok (.iconst 1, 1) := dk_4 (dk_at dksL_law_3 23 rfl rfl)
theorem dL_law_264 : decode cL_law 264 = .ok (.iadd, 1) := dk_96 (dk_at dksL_law_4 0 rfl rfl)
theorem dL_law_265 : decode cL_law 265 = .ok (.iaload, 1) := dk_46 (dk_at dksL_law_4 1 rfl rfl)
theorem dL_law_266 : decode cL_law 266 = .ok (.aload_n 0, 1) := dk_42 (dk_at dksL_law_4 2 rfl rfl)
theorem dL_law_267 : decode cL_law 267 = .ok (.iload 4, 2) := dk_21 4 (dk_at dksL_law_4 3 rfl rfl)
theorem dL_law_269 : decode cL_law 269 = .ok (.iconst 2, 1) := dk_5 (dk_at dksL_law_4 5 rfl rfl)
theorem dL_law_270 : decode cL_law 270 = .ok (.iadd, 1) := dk_96 (dk_at dksL_law_4 6 rfl rfl)
theorem dL_law_271 : decode cL_law 271 = .ok (.iaload, 1) := dk_46 (dk_at dksL_law_4 7 rfl rfl)
theorem dL_law_272 : decode cL_law 272 = .ok (.invokevirtual 169, 3) := dk_182 0 169 (dk_at dksL_law_4 8 rfl rfl)
theorem dL_law_275 : decode cL_law 275 = .ok (.istore 6, 2) := dk_54 6 (dk_at dksL_law_4 11 rfl rfl)
theorem dL_law_277 : decode cL_law 277 = .ok (.aload_n 2, 1) := dk_44 (dk_at dksL_law_4 13 rfl rfl)
theorem dL_law_278 : decode cL_law 278 = .ok (.invokevirtual 170, 3) := dk_182 0 170 (dk_at dksL_law_4 14 rfl rfl)
theorem dL_law_281 : decode cL_law 281 = .ok (.iload 5, 2) := dk_21 5 (dk_at dksL_law_4 17 rfl rfl)
theorem dL_law_283 : decode cL_law 283 = .ok (.if_icmp .eq 5, 3) := dk_159 0 5 (dk_at dksL_law_4 19 rfl rfl)
theorem dL_law_286 : decode cL_law 286 = .ok (.iconst 0, 1) := dk_3 (dk_at dksL_law_4 22 rfl rfl)
theorem dL_law_287 : decode cL_law 287 = .ok (.ireturn, 1) := dk_172 (dk_at dksL_law_4 23 rfl rfl)
theorem dL_law_288 : decode cL_law 288 = .ok (.iload 5, 2) := dk_21 5 (dk_at dksL_law_5 0 rfl rfl)
theorem dL_law_290 : decode cL_law 290 = .ok (.ifCond .ne 16, 3) := dk_154 0 16 (dk_at dksL_law_5 2 rfl rfl)
theorem dL_law_293 : decode cL_law 293 = .ok (.aload_n 3, 1) := dk_45 (dk_at dksL_law_5 5 rfl rfl)
theorem dL_law_294 : decode cL_law 294 = .ok (.getfield 13, 3) := dk_180 0 13 (dk_at dksL_law_5 6 rfl rfl)
theorem dL_law_297 : decode cL_law 297 = .ok (.iload 6, 2) := dk_21 6 (dk_at dksL_law_5 9 rfl rfl)
theorem dL_law_299 : decode cL_law 299 = .ok (.i2l, 1) := dk_133 (dk_at dksL_law_5 11 rfl rfl)
theorem dL_law_300 : decode cL_law 300 = .ok (.lcmp, 1) := dk_148 (dk_at dksL_law_5 12 rfl rfl)
theorem dL_law_301 : decode cL_law 301 = .ok (.ifCond .eq 5, 3) := dk_153 0 5 (dk_at dksL_law_5 13 rfl rfl)
theorem dL_law_304 : decode cL_law 304 = .ok (.iconst 0, 1) := dk_3 (dk_at dksL_law_5 16 rfl rfl)
theorem dL_law_305 : decode cL_law 305 = .ok (.ireturn, 1) := dk_172 (dk_at dksL_law_5 17 rfl rfl)
theorem dL_law_306 : decode cL_law 306 = .ok (.goto 3006, 3) := dk_167 11 190 (dk_at dksL_law_5 18 rfl rfl)
theorem dL_law_309 : decode cL_law 309 = .ok (.aload_n 1, 1) := dk_43 (dk_at dksL_law_5 21 rfl rfl)
theorem dL_law_310 : decode cL_law 310 = .ok (.aload_n 0, 1) := dk_42 (dk_at dksL_law_5 22 rfl rfl)
theorem dL_law_311 : decode cL_law 311 = .ok (.iload 4, 2) := dk_21 4 (dk_at dksL_law_6 0 rfl rfl)
theorem dL_law_313 : decode cL_law 313 = .ok (.iconst 1, 1) := dk_4 (dk_at dksL_law_6 2 rfl rfl)
theorem dL_law_314 : decode cL_law 314 = .ok (.iadd, 1) := dk_96 (dk_at dksL_law_6 3 rfl rfl)
theorem dL_law_315 : decode cL_law 315 = .ok (.iaload, 1) := dk_46 (dk_at dksL_law_6 4 rfl rfl)
theorem dL_law_316 : decode cL_law 316 = .ok (.aload_n 0, 1) := dk_42 (dk_at dksL_law_6 5 rfl rfl)
theorem dL_law_317 : decode cL_law 317 = .ok (.iload 4, 2) := dk_21 4 (dk_at dksL_law_6 6 rfl rfl)
theorem dL_law_319 : decode cL_law 319 = .ok (.iconst 2, 1) := dk_5 (dk_at dksL_law_6 8 rfl rfl)
theorem dL_law_320 : decode cL_law 320 = .ok (.iadd, 1) := dk_96 (dk_at dksL_law_6 9 rfl rfl)
theorem dL_law_321 : decode cL_law 321 = .ok (.iaload, 1) := dk_46 (dk_at dksL_law_6 10 rfl rfl)
theorem dL_law_322 : decode cL_law 322 = .ok (.aload_n 0, 1) := dk_42 (dk_at dksL_law_6 11 rfl rfl)
theorem dL_law_323 : decode cL_law 323 = .ok (.iload 4, 2) := dk_21 4 (dk_at dksL_law_6 12 rfl rfl)
theorem dL_law_325 : decode cL_law 325 = .ok (.iconst 3, 1) := dk_6 (dk_at dksL_law_6 14 rfl rfl)
theorem dL_law_326 : decode cL_law 326 = .ok (.iadd, 1) := dk_96 (dk_at dksL_law_6 15 rfl rfl)
theorem dL_law_327 : decode cL_law 327 = .ok (.iaload, 1) := dk_46 (dk_at dksL_law_6 16 rfl rfl)
theorem dL_law_328 : decode cL_law 328 = .ok (.aload_n 3, 1) := dk_45 (dk_at dksL_law_6 17 rfl rfl)
theorem dL_law_329 : decode cL_law 329 = .ok (.invokestatic 174, 3) := dk_184 0 174 (dk_at dksL_law_6 18 rfl rfl)
theorem dL_law_332 : decode cL_law 332 = .ok (.istore 5, 2) := dk_54 5 (dk_at dksL_law_6 21 rfl rfl)
theorem dL_law_334 : decode cL_law 334 = .ok (.aload_n 2, 1) := dk_44 (dk_at dksL_law_6 23 rfl rfl)
theorem dL_law_335 : decode cL_law 335 = .ok (.aload_n 0, 1) := dk_42 (dk_at dksL_law_7 0 rfl rfl)
theorem dL_law_336 : decode cL_law 336 = .ok (.iload 4, 2) := dk_21 4 (dk_at dksL_law_7 1 rfl rfl)
theorem dL_law_338 : decode cL_law 338 = .ok (.iconst 1, 1) := dk_4 (dk_at dksL_law_7 3 rfl rfl)
theorem dL_law_339 : decode cL_law 339 = .ok (.iadd, 1) := dk_96 (dk_at dksL_law_7 4 rfl rfl)
theorem dL_law_340 : decode cL_law 340 = .ok (.iaload, 1) := dk_46 (dk_at dksL_law_7 5 rfl rfl)
theorem dL_law_341 : decode cL_law 341 = .ok (.aload_n 0, 1) := dk_42 (dk_at dksL_law_7 6 rfl rfl)
theorem dL_law_342 : decode cL_law 342 = .ok (.iload 4, 2) := dk_21 4 (dk_at dksL_law_7 7 rfl rfl)
theorem dL_law_344 : decode cL_law 344 = .ok (.iconst 2, 1) := dk_5 (dk_at dksL_law_7 9 rfl rfl)
theorem dL_law_345 : decode cL_law 345 = .ok (.iadd, 1) := dk_96 (dk_at dksL_law_7 10 rfl rfl)
theorem dL_law_346 : decode cL_law 346 = .ok (.iaload, 1) := dk_46 (dk_at dksL_law_7 11 rfl rfl)
theorem dL_law_347 : decode cL_law 347 = .ok (.aload_n 0, 1) := dk_42 (dk_at dksL_law_7 12 rfl rfl)
theorem dL_law_348 : decode cL_law 348 = .ok (.iload 4, 2) := dk_21 4 (dk_at dksL_law_7 13 rfl rfl)
theorem dL_law_350 : decode cL_law 350 = .ok (.iconst 3, 1) := dk_6 (dk_at dksL_law_7 15 rfl rfl)
theorem dL_law_351 : decode cL_law 351 = .ok (.iadd, 1) := dk_96 (dk_at dksL_law_7 16 rfl rfl)
theorem dL_law_352 : decode cL_law 352 = .ok (.iaload, 1) := dk_46 (dk_at dksL_law_7 17 rfl rfl)
theorem dL_law_353 : decode cL_law 353 = .ok (.invokevirtual 177, 3) := dk_182 0 177 (dk_at dksL_law_7 18 rfl rfl)
theorem dL_law_356 : decode cL_law 356 = .ok (.istore 6, 2) := dk_54 6 (dk_at dksL_law_7 21 rfl rfl)
theorem dL_law_358 : decode cL_law 358 = .ok (.aload_n 2, 1) := dk_44 (dk_at dksL_law_7 23 rfl rfl)
theorem dL_law_359 : decode cL_law 359 = .ok (.invokevirtual 170, 3) := dk_182 0 170 (dk_at dksL_law_8 0 rfl rfl)
theorem dL_law_362 : decode cL_law 362 = .ok (.iload 5, 2) := dk_21 5 (dk_at dksL_law_8 3 rfl rfl)
theorem dL_law_364 : decode cL_law 364 = .ok (.if_icmp .eq 5, 3) := dk_159 0 5 (dk_at dksL_law_8 5 rfl rfl)
theorem dL_law_367 : decode cL_law 367 = .ok (.iconst 0, 1) := dk_3 (dk_at dksL_law_8 8 rfl rfl)
theorem dL_law_368 : decode cL_law 368 = .ok (.ireturn, 1) := dk_172 (dk_at dksL_law_8 9 rfl rfl)
theorem dL_law_369 : decode cL_law 369 = .ok (.iload 5, 2) := dk_21 5 (dk_at dksL_law_8 10 rfl rfl)
theorem dL_law_371 : decode cL_law 371 = .ok (.ifCond .ne 16, 3) := dk_154 0 16 (dk_at dksL_law_8 12 rfl rfl)
theorem dL_law_374 : decode cL_law 374 = .ok (.aload_n 3, 1) := dk_45 (dk_at dksL_law_8 15 rfl rfl)
theorem dL_law_375 : decode cL_law 375 = .ok (.getfield 13, 3) := dk_180 0 13 (dk_at dksL_law_8 16 rfl rfl)
theorem dL_law_378 : decode cL_law 378 = .ok (.iload 6, 2) := dk_21 6 (dk_at dksL_law_8 19 rfl rfl)
theorem dL_law_380 : decode cL_law 380 = .ok (.i2l, 1) := dk_133 (dk_at dksL_law_8 21 rfl rfl)
theorem dL_law_381 : decode cL_law 381 = .ok (.lcmp, 1) := dk_148 (dk_at dksL_law_8 22 rfl rfl)
theorem dL_law_382 : decode cL_law 382 = .ok (.ifCond .eq 5, 3) := dk_153 0 5 (dk_at dksL_law_9 0 rfl rfl)
theorem dL_law_385 : decode cL_law 385 = .ok (.iconst 0, 1) := dk_3 (dk_at dksL_law_9 3 rfl rfl)
theorem dL_law_386 : decode cL_law 386 = .ok (.ireturn, 1) := dk_172 (dk_at dksL_law_9 4 rfl rfl)
theorem dL_law_387 : decode cL_law 387 = .ok (.goto 2925, 3) := dk_167 11 109 (dk_at dksL_law_9 5 rfl rfl)
theorem dL_law_390 : decode cL_law 390 = .ok (.aload_n 1, 1) := dk_43 (dk_at dksL_law_9 8 rfl rfl)
theorem dL_law_391 : decode cL_law 391 = .ok (.aload_n 0, 1) := dk_42 (dk_at dksL_law_9 9 rfl rfl)
theorem dL_law_392 : decode cL_law 392 = .ok (.iload 4, 2) := dk_21 4 (dk_at dksL_law_9 10 rfl rfl)
theorem dL_law_394 : decode cL_law 394 = .ok (.iconst 1, 1) := dk_4 (dk_at dksL_law_9 12 rfl rfl)
theorem dL_law_395 : decode cL_law 395 = .ok (.iadd, 1) := dk_96 (dk_at dksL_law_9 13 rfl rfl)
theorem dL_law_396 : decode cL_law 396 = .ok (.iaload, 1) := dk_46 (dk_at dksL_law_9 14 rfl rfl)
theorem dL_law_397 : decode cL_law 397 = .ok (.aload_n 0, 1) := dk_42 (dk_at dksL_law_9 15 rfl rfl)
theorem dL_law_398 : decode cL_law 398 = .ok (.iload 4, 2) := dk_21 4 (dk_at dksL_law_9 16 rfl rfl)
theorem dL_law_400 : decode cL_law 400 = .ok (.iconst 2, 1) := dk_5 (dk_at dksL_law_9 18 rfl rfl)
theorem dL_law_401 : decode cL_law 401 = .ok (.iadd, 1) := dk_96 (dk_at dksL_law_9 19 rfl rfl)
theorem dL_law_402 : decode cL_law 402 = .ok (.iaload, 1) := dk_46 (dk_at dksL_law_9 20 rfl rfl)
theorem dL_law_403 : decode cL_law 403 = .ok (.aload_n 3, 1) := dk_45 (dk_at dksL_law_9 21 rfl rfl)
theorem dL_law_404 : decode cL_law 404 = .ok (.invokestatic 178, 3) := dk_184 0 178 (dk_at dksL_law_10 0 rfl rfl)
theorem dL_law_407 : decode cL_law 407 = .ok (.istore 5, 2) := dk_54 5 (dk_at dksL_law_10 3 rfl rfl)
theorem dL_law_409 : decode cL_law 409 = .ok (.aload_n 2, 1) := dk_44 (dk_at dksL_law_10 5 rfl rfl)
theorem dL_law_410 : decode cL_law 410 = .ok (.aload_n 0, 1) := dk_42 (dk_at dksL_law_10 6 rfl rfl)
theorem dL_law_411 : decode cL_law 411 = .ok (.iload 4, 2) := dk_21 4 (dk_at dksL_law_10 7 rfl rfl)
theorem dL_law_413 : decode cL_law 413 = .ok (.iconst 1, 1) := dk_4 (dk_at dksL_law_10 9 rfl rfl)
theorem dL_law_414 : decode cL_law 414 = .ok (.iadd, 1) := dk_96 (dk_at dksL_law_10 10 rfl rfl)
theorem dL_law_415 : decode cL_law 415 = .ok (.iaload, 1) := dk_46 (dk_at dksL_law_10 11 rfl rfl)
theorem dL_law_416 : decode cL_law 416 = .ok (.aload_n 0, 1) := dk_42 (dk_at dksL_law_10 12 rfl rfl)
theorem dL_law_417 : decode cL_law 417 = .ok (.iload 4, 2) := dk_21 4 (dk_at dksL_law_10 13 rfl rfl)
theorem dL_law_419 : decode cL_law 419 = .ok (.iconst 2, 1) := dk_5 (dk_at dksL_law_10 15 rfl rfl)
theorem dL_law_420 : decode cL_law 420 = .ok (.iadd, 1) := dk_96 (dk_at dksL_law_10 16 rfl rfl)
theorem dL_law_421 : decode cL_law 421 = .ok (.iaload, 1) := dk_46 (dk_at dksL_law_10 17 rfl rfl)
theorem dL_law_422 : decode cL_law 422 = .ok (.invokevirtual 180, 3) := dk_182 0 180 (dk_at dksL_law_10 18 rfl rfl)
theorem dL_law_425 : decode cL_law 425 = .ok (.istore 6, 2) := dk_54 6 (dk_at dksL_law_10 21 rfl rfl)
theorem dL_law_427 : decode cL_law 427 = .ok (.aload_n 2, 1) := dk_44 (dk_at dksL_law_10 23 rfl rfl)
theorem dL_law_428 : decode cL_law 428 = .ok (.invokevirtual 170, 3) := dk_182 0 170 (dk_at dksL_law_11 0 rfl rfl)
theorem dL_law_431 : decode cL_law 431 = .ok (.iload 5, 2) := dk_21 5 (dk_at dksL_law_11 3 rfl rfl)
theorem dL_law_433 : decode cL_law 433 = .ok (.if_icmp .eq 5, 3) := dk_159 0 5 (dk_at dksL_law_11 5 rfl rfl)
theorem dL_law_436 : decode cL_law 436 = .ok (.iconst 0, 1) := dk_3 (dk_at dksL_law_11 8 rfl rfl)
theorem dL_law_437 : decode cL_law 437 = .ok (.ireturn, 1) := dk_172 (dk_at dksL_law_11 9 rfl rfl)
theorem dL_law_438 : decode cL_law 438 = .ok (.iload 5, 2) := dk_21 5 (dk_at dksL_law_11 10 rfl rfl)
theorem dL_law_440 : decode cL_law 440 = .ok (.ifCond .ne 16, 3) := dk_154 0 16 (dk_at dksL_law_11 12 rfl rfl)
theorem dL_law_443 : decode cL_law 443 = .ok (.aload_n 3, 1) := dk_45 (dk_at dksL_law_11 15 rfl rfl)
theorem dL_law_444 : decode cL_law 444 = .ok (.getfield 13, 3) := dk_180 0 13 (dk_at dksL_law_11 16 rfl rfl)
theorem dL_law_447 : decode cL_law 447 = .ok (.iload 6, 2) := dk_21 6 (dk_at dksL_law_11 19 rfl rfl)
theorem dL_law_449 : decode cL_law 449 = .ok (.i2l, 1) := dk_133 (dk_at dksL_law_11 21 rfl rfl)
theorem dL_law_450 : decode cL_law 450 = .ok (.lcmp, 1) := dk_148 (dk_at dksL_law_11 22 rfl rfl)
theorem dL_law_451 : decode cL_law 451 = .ok (.ifCond .eq 5, 3) := dk_153 0 5 (dk_at dksL_law_12 0 rfl rfl)
theorem dL_law_454 : decode cL_law 454 = .ok (.iconst 0, 1) := dk_3 (dk_at dksL_law_12 3 rfl rfl)
theorem dL_law_455 : decode cL_law 455 = .ok (.ireturn, 1) := dk_172 (dk_at dksL_law_12 4 rfl rfl)
theorem dL_law_456 : decode cL_law 456 = .ok (.goto 2856, 3) := dk_167 11 40 (dk_at dksL_law_12 5 rfl rfl)
theorem dL_law_459 : decode cL_law 459 = .ok (.aload_n 1, 1) := dk_43 (dk_at dksL_law_12 8 rfl rfl)
theorem dL_law_460 : decode cL_law 460 = .ok (.aload_n 0, 1) := dk_42 (dk_at dksL_law_12 9 rfl rfl)
theorem dL_law_461 : decode cL_law 461 = .ok (.iload 4, 2) := dk_21 4 (dk_at dksL_law_12 10 rfl rfl)
theorem dL_law_463 : decode cL_law 463 = .ok (.iconst 1, 1) := dk_4 (dk_at dksL_law_12 12 rfl rfl)
theorem dL_law_464 : decode cL_law 464 = .ok (.iadd, 1) := dk_96 (dk_at dksL_law_12 13 rfl rfl)
theorem dL_law_465 : decode cL_law 465 = .ok (.iaload, 1) := dk_46 (dk_at dksL_law_12 14 rfl rfl)
theorem dL_law_466 : decode cL_law 466 = .ok (.aload_n 0, 1) := dk_42 (dk_at dksL_law_12 15 rfl rfl)
theorem dL_law_467 : decode cL_law 467 = .ok (.iload 4, 2) := dk_21 4 (dk_at dksL_law_12 16 rfl rfl)
theorem dL_law_469 : decode cL_law 469 = .ok (.iconst 2, 1) := dk_5 (dk_at dksL_law_12 18 rfl rfl)
theorem dL_law_470 : decode cL_law 470 = .ok (.iadd, 1) := dk_96 (dk_at dksL_law_12 19 rfl rfl)
theorem dL_law_471 : decode cL_law 471 = .ok (.iaload, 1) := dk_46 (dk_at dksL_law_12 20 rfl rfl)
theorem dL_law_472 : decode cL_law 472 = .ok (.aload_n 0, 1) := dk_42 (dk_at dksL_law_12 21 rfl rfl)
theorem dL_law_473 : decode cL_law 473 = .ok (.iload 4, 2) := dk_21 4 (dk_at dksL_law_12 22 rfl rfl)
theorem dL_law_475 : decode cL_law 475 = .ok (.iconst 3, 1) := dk_6 (dk_at dksL_law_13 0 rfl rfl)
theorem dL_law_476 : decode cL_law 476 = .ok (.iadd, 1) := dk_96 (dk_at dksL_law_13 1 rfl rfl)
theorem dL_law_477 : decode cL_law 477 = .ok (.iaload, 1) := dk_46 (dk_at dksL_law_13 2 rfl rfl)
theorem dL_law_478 : decode cL_law 478 = .ok (.aload_n 0, 1) := dk_42 (dk_at dksL_law_13 3 rfl rfl)
theorem dL_law_479 : decode cL_law 479 = .ok (.iload 4, 2) := dk_21 4 (dk_at dksL_law_13 4 rfl rfl)
theorem dL_law_481 : decode cL_law 481 = .ok (.iconst 4, 1) := dk_7 (dk_at dksL_law_13 6 rfl rfl)
theorem dL_law_482 : decode cL_law 482 = .ok (.iadd, 1) := dk_96 (dk_at dksL_law_13 7 rfl rfl)
theorem dL_law_483 : decode cL_law 483 = .ok (.iaload, 1) := dk_46 (dk_at dksL_law_13 8 rfl rfl)
theorem dL_law_484 : decode cL_law 484 = .ok (.aload_n 3, 1) := dk_45 (dk_at dksL_law_13 9 rfl rfl)
theorem dL_law_485 : decode cL_law 485 = .ok (.invokestatic 181, 3) := dk_184 0 181 (dk_at dksL_law_13 10 rfl rfl)
theorem dL_law_488 : decode cL_law 488 = .ok (.istore 5, 2) := dk_54 5 (dk_at dksL_law_13 13 rfl rfl)
theorem dL_law_490 : decode cL_law 490 = .ok (.aload_n 2, 1) := dk_44 (dk_at dksL_law_13 15 rfl rfl)
theorem dL_law_491 : decode cL_law 491 = .ok (.aload_n 0, 1) := dk_42 (dk_at dksL_law_13 16 rfl rfl)
theorem dL_law_492 : decode cL_law 492 = .ok (.iload 4, 2) := dk_21 4 (dk_at dksL_law_13 17 rfl rfl)
theorem dL_law_494 : decode cL_law 494 = .ok (.iconst 1, 1) := dk_4 (dk_at dksL_law_13 19 rfl rfl)
theorem dL_law_495 : decode cL_law 495 = .ok (.iadd, 1) := dk_96 (dk_at dksL_law_13 20 rfl rfl)
theorem dL_law_496 : decode cL_law 496 = .ok (.iaload, 1) := dk_46 (dk_at dksL_law_13 21 rfl rfl)
theorem dL_law_497 : decode cL_law 497 = .ok (.aload_n 0, 1) := dk_42 (dk_at dksL_law_13 22 rfl rfl)
theorem dL_law_498 : decode cL_law 498 = .ok (.iload 4, 2) := dk_21 4 (dk_at dksL_law_14 0 rfl rfl)
theorem dL_law_500 : decode cL_law 500 = .ok (.iconst 2, 1) := dk_5 (dk_at dksL_law_14 2 rfl rfl)
theorem dL_law_501 : decode cL_law 501 = .ok (.iadd, 1) := dk_96 (dk_at dksL_law_14 3 rfl rfl)
theorem dL_law_502 : decode cL_law 502 = .ok (.iaload, 1) := dk_46 (dk_at dksL_law_14 4 rfl rfl)
theorem dL_law_503 : decode cL_law 503 = .ok (.aload_n 0, 1) := dk_42 (dk_at dksL_law_14 5 rfl rfl)
theorem dL_law_504 : decode cL_law 504 = .ok (.iload 4, 2) := dk_21 4 (dk_at dksL_law_14 6 rfl rfl)
theorem dL_law_506 : decode cL_law 506 = .ok (.iconst 3, 1) := dk_6 (dk_at dksL_law_14 8 rfl rfl)
theorem dL_law_507 : decode cL_law 507 = .ok (.iadd, 1) := dk_96 (dk_at dksL_law_14 9 rfl rfl)
theorem dL_law_508 : decode cL_law 508 = .ok (.iaload, 1) := dk_46 (dk_at dksL_law_14 10 rfl rfl)
theorem dL_law_509 : decode cL_law 509 = .ok (.aload_n 0, 1) := dk_42 (dk_at dksL_law_14 11 rfl rfl)
theorem dL_law_510 : decode cL_law 510 = .ok (.iload 4, 2) := dk_21 4 (dk_at dksL_law_14 12 rfl rfl)
theorem dL_law_512 : decode cL_law 512 = .ok (.iconst 4, 1) := dk_7 (dk_at dksL_law_14 14 rfl rfl)
theorem dL_law_513 : decode cL_law 513 = .ok (.iadd, 1) := dk_96 (dk_at dksL_law_14 15 rfl rfl)
theorem dL_law_514 : decode cL_law 514 = .ok (.iaload, 1) := dk_46 (dk_at dksL_law_14 16 rfl rfl)
theorem dL_law_515 : decode cL_law 515 = .ok (.invokevirtual 184, 3) := dk_182 0 184 (dk_at dksL_law_14 17 rfl rfl)
theorem dL_law_518 : decode cL_law 518 = .ok (.istore 6, 2) := dk_54 6 (dk_at dksL_law_14 20 rfl rfl)
theorem dL_law_520 : decode cL_law 520 = .ok (.aload_n 2, 1) := dk_44 (dk_at dksL_law_14 22 rfl rfl)
theorem dL_law_521 : decode cL_law 521 = .ok (.invokevirtual 170, 3) := dk_182 0 170 (dk_at dksL_law_15 0 rfl rfl)
theorem dL_law_524 : decode cL_law 524 = .ok (.iload 5, 2) := dk_21 5 (dk_at dksL_law_15 3 rfl rfl)
theorem dL_law_526 : decode cL_law 526 = .ok (.if_icmp .eq 5, 3) := dk_159 0 5 (dk_at dksL_law_15 5 rfl rfl)
theorem dL_law_529 : decode cL_law 529 = .ok (.iconst 0, 1) := dk_3 (dk_at dksL_law_15 8 rfl rfl)
theorem dL_law_530 : decode cL_law 530 = .ok (.ireturn, 1) := dk_172 (dk_at dksL_law_15 9 rfl rfl)
theorem dL_law_531 : decode cL_law 531 = .ok (.iload 5, 2) := dk_21 5 (dk_at dksL_law_15 10 rfl rfl)
theorem dL_law_533 : decode cL_law 533 = .ok (.ifCond .ne 16, 3) := dk_154 0 16 (dk_at dksL_law_15 12 rfl rfl)
theorem dL_law_536 : decode cL_law 536 = .ok (.aload_n 3, 1) := dk_45 (dk_at dksL_law_15 15 rfl rfl)
theorem dL_law_537 : decode cL_law 537 = .ok (.getfield 13, 3) := dk_180 0 13 (dk_at dksL_law_15 16 rfl rfl)
theorem dL_law_540 : decode cL_law 540 = .ok (.iload 6, 2) := dk_21 6 (dk_at dksL_law_15 19 rfl rfl)
theorem dL_law_542 : decode cL_law 542 = .ok (.i2l, 1) := dk_133 (dk_at dksL_law_15 21 rfl rfl)
theorem dL_law_543 : decode cL_law 543 = .ok (.lcmp, 1) := dk_148 (dk_at dksL_law_15 22 rfl rfl)
theorem dL_law_544 : decode cL_law 544 = .ok (.ifCond .eq 5, 3) := dk_153 0 5 (dk_at dksL_law_16 0 rfl rfl)
theorem dL_law_547 : decode cL_law 547 = .ok (.iconst 0, 1) := dk_3 (dk_at dksL_law_16 3 rfl rfl)
theorem dL_law_548 : decode cL_law 548 = .ok (.ireturn, 1) := dk_172 (dk_at dksL_law_16 4 rfl rfl)
theorem dL_law_549 : decode cL_law 549 = .ok (.goto 2763, 3) := dk_167 10 203 (dk_at dksL_law_16 5 rfl rfl)
theorem dL_law_552 : decode cL_law 552 = .ok (.aload_n 1, 1) := dk_43 (dk_at dksL_law_16 8 rfl rfl)
theorem dL_law_553 : decode cL_law 553 = .ok (.aload_n 0, 1) := dk_42 (dk_at dksL_law_16 9 rfl rfl)
theorem dL_law_554 : decode cL_law 554 = .ok (.iload 4, 2) := dk_21 4 (dk_at dksL_law_16 10 rfl rfl)
theorem dL_law_556 : decode cL_law 556 = .ok (.iconst 1, 1) := dk_4 (dk_at dksL_law_16 12 rfl rfl)
theorem dL_law_557 : decode cL_law 557 = .ok (.iadd, 1) := dk_96 (dk_at dksL_law_16 13 rfl rfl)
theorem dL_law_558 : decode cL_law 558 = .ok (.iaload, 1) := dk_46 (dk_at dksL_law_16 14 rfl rfl)
theorem dL_law_559 : decode cL_law 559 = .ok (.aload_n 0, 1) := dk_42 (dk_at dksL_law_16 15 rfl rfl)
theorem dL_law_560 : decode cL_law 560 = .ok (.iload 4, 2) := dk_21 4 (dk_at dksL_law_16 16 rfl rfl)
theorem dL_law_562 : decode cL_law 562 = .ok (.iconst 2, 1) := dk_5 (dk_at dksL_law_16 18 rfl rfl)
theorem dL_law_563 : decode cL_law 563 = .ok (.iadd, 1) := dk_96 (dk_at dksL_law_16 19 rfl rfl)
theorem dL_law_564 : decode cL_law 564 = .ok (.iaload, 1) := dk_46 (dk_at dksL_law_16 20 rfl rfl)
theorem dL_law_565 : decode cL_law 565 = .ok (.aload_n 0, 1) := dk_42 (dk_at dksL_law_16 21 rfl rfl)
theorem dL_law_566 : decode cL_law 566 = .ok (.iload 4, 2) := dk_21 4 (dk_at dksL_law_16 22 rfl rfl)
theorem dL_law_568 : decode cL_law 568 = .ok (.iconst 3, 1) := dk_6 (dk_at dksL_law_17 0 rfl rfl)
theorem dL_law_569 : decode cL_law 569 = .ok (.iadd, 1) := dk_96 (dk_at dksL_law_17 1 rfl rfl)
theorem dL_law_570 : decode cL_law 570 = .ok (.iaload, 1) := dk_46 (dk_at dksL_law_17 2 rfl rfl)
theorem dL_law_571 : decode cL_law 571 = .ok (.aload_n 3, 1) := dk_45 (dk_at dksL_law_17 3 rfl rfl)
theorem dL_law_572 : decode cL_law 572 = .ok (.invokestatic 185, 3) := dk_184 0 185 (dk_at dksL_law_17 4 rfl rfl)
theorem dL_law_575 : decode cL_law 575 = .ok (.istore 5, 2) := dk_54 5 (dk_at dksL_law_17 7 rfl rfl)
theorem dL_law_577 : decode cL_law 577 = .ok (.aload_n 2, 1) := dk_44 (dk_at dksL_law_17 9 rfl rfl)
theorem dL_law_578 : decode cL_law 578 = .ok (.aload_n 0, 1) := dk_42 (dk_at dksL_law_17 10 rfl rfl)
theorem dL_law_579 : decode cL_law 579 = .ok (.iload 4, 2) := dk_21 4 (dk_at dksL_law_17 11 rfl rfl)
theorem dL_law_581 : decode cL_law 581 = .ok (.iconst 1, 1) := dk_4 (dk_at dksL_law_17 13 rfl rfl)
theorem dL_law_582 : decode cL_law 582 = .ok (.iadd, 1) := dk_96 (dk_at dksL_law_17 14 rfl rfl)
theorem dL_law_583 : decode cL_law 583 = .ok (.iaload, 1) := dk_46 (dk_at dksL_law_17 15 rfl rfl)
theorem dL_law_584 : decode cL_law 584 = .ok (.aload_n 0, 1) := dk_42 (dk_at dksL_law_17 16 rfl rfl)
theorem dL_law_585 : decode cL_law 585 = .ok (.iload 4, 2) := dk_21 4 (dk_at dksL_law_17 17 rfl rfl)
theorem dL_law_587 : decode cL_law 587 = .ok (.iconst 2, 1) := dk_5 (dk_at dksL_law_17 19 rfl rfl)
theorem dL_law_588 : decode cL_law 588 = .ok (.iadd, 1) := dk_96 (dk_at dksL_law_17 20 rfl rfl)
theorem dL_law_589 : decode cL_law 589 = .ok (.iaload, 1) := dk_46 (dk_at dksL_law_17 21 rfl rfl)
theorem dL_law_590 : decode cL_law 590 = .ok (.aload_n 0, 1) := dk_42 (dk_at dksL_law_17 22 rfl rfl)
theorem dL_law_591 : decode cL_law 591 = .ok (.iload 4, 2) := dk_21 4 (dk_at dksL_law_18 0 rfl rfl)
theorem dL_law_593 : decode cL_law 593 = .ok (.iconst 3, 1) := dk_6 (dk_at dksL_law_18 2 rfl rfl)
theorem dL_law_594 : decode cL_law 594 = .ok (.iadd, 1) := dk_96 (dk_at dksL_law_18 3 rfl rfl)
theorem dL_law_595 : decode cL_law 595 = .ok (.iaload, 1) := dk_46 (dk_at dksL_law_18 4 rfl rfl)
theorem dL_law_596 : decode cL_law 596 = .ok (.invokevirtual 187, 3) := dk_182 0 187 (dk_at dksL_law_18 5 rfl rfl)
theorem dL_law_599 : decode cL_law 599 = .ok (.istore 6, 2) := dk_54 6 (dk_at dksL_law_18 8 rfl rfl)
theorem dL_law_601 : decode cL_law 601 = .ok (.aload_n 2, 1) := dk_44 (dk_at dksL_law_18 10 rfl rfl)
theorem dL_law_602 : decode cL_law 602 = .ok (.invokevirtual 170, 3) := dk_182 0 170 (dk_at dksL_law_18 11 rfl rfl)
theorem dL_law_605 : decode cL_law 605 = .ok (.iload 5, 2) := dk_21 5 (dk_at dksL_law_18 14 rfl rfl)
theorem dL_law_607 : decode cL_law 607 = .ok (.if_icmp .eq 5, 3) := dk_159 0 5 (dk_at dksL_law_18 16 rfl rfl)
theorem dL_law_610 : decode cL_law 610 = .ok (.iconst 0, 1) := dk_3 (dk_at dksL_law_18 19 rfl rfl)
theorem dL_law_611 : decode cL_law 611 = .ok (.ireturn, 1) := dk_172 (dk_at dksL_law_18 20 rfl rfl)
theorem dL_law_612 : decode cL_law 612 = .ok (.iload 5, 2) := dk_21 5 (dk_at dksL_law_18 21 rfl rfl)
theorem dL_law_614 : decode cL_law 614 = .ok (.ifCond .ne 16, 3) := dk_154 0 16 (dk_at dksL_law_19 0 rfl rfl)
theorem dL_law_617 : decode cL_law 617 = .ok (.aload_n 3, 1) := dk_45 (dk_at dksL_law_19 3 rfl rfl)
theorem dL_law_618 : decode cL_law 618 = .ok (.getfield 13, 3) := dk_180 0 13 (dk_at dksL_law_19 4 rfl rfl)
theorem dL_law_621 : decode cL_law 621 = .ok (.iload 6, 2) := dk_21 6 (dk_at dksL_law_19 7 rfl rfl)
theorem dL_law_623 : decode cL_law 623 = .ok (.i2l, 1) := dk_133 (dk_at dksL_law_19 9 rfl rfl)
theorem dL_law_624 : decode cL_law 624 = .ok (.lcmp, 1) := dk_148 (dk_at dksL_law_19 10 rfl rfl)
theorem dL_law_625 : decode cL_law 625 = .ok (.ifCond .eq 5, 3) := dk_153 0 5 (dk_at dksL_law_19 11 rfl rfl)
theorem dL_law_628 : decode cL_law 628 = .ok (.iconst 0, 1) := dk_3 (dk_at dksL_law_19 14 rfl rfl)
theorem dL_law_629 : decode cL_law 629 = .ok (.ireturn, 1) := dk_172 (dk_at dksL_law_19 15 rfl rfl)
theorem dL_law_630 : decode cL_law 630 = .ok (.goto 2682, 3) := dk_167 10 122 (dk_at dksL_law_19 16 rfl rfl)
theorem dL_law_633 : decode cL_law 633 = .ok (.aload_n 1, 1) := dk_43 (dk_at dksL_law_19 19 rfl rfl)
theorem dL_law_634 : decode cL_law 634 = .ok (.aload_n 0, 1) := dk_42 (dk_at dksL_law_19 20 rfl rfl)
theorem dL_law_635 : decode cL_law 635 = .ok (.iload 4, 2) := dk_21 4 (dk_at dksL_law_19 21 rfl rfl)
theorem dL_law_637 : decode cL_law 637 = .ok (.iconst 1, 1) := dk_4 (dk_at dksL_law_19 23 rfl rfl)
theorem dL_law_638 : decode cL_law 638 = .ok (.iadd, 1) := dk_96 (dk_at dksL_law_20 0 rfl rfl)
theorem dL_law_639 : decode cL_law 639 = .ok (.iaload, 1) := dk_46 (dk_at dksL_law_20 1 rfl rfl)
theorem dL_law_640 : decode cL_law 640 = .ok (.aload_n 0, 1) := dk_42 (dk_at dksL_law_20 2 rfl rfl)
theorem dL_law_641 : decode cL_law 641 = .ok (.iload 4, 2) := dk_21 4 (dk_at dksL_law_20 3 rfl rfl)
theorem dL_law_643 : decode cL_law 643 = .ok (.iconst 2, 1) := dk_5 (dk_at dksL_law_20 5 rfl rfl)
theorem dL_law_644 : decode cL_law 644 = .ok (.iadd, 1) := dk_96 (dk_at dksL_law_20 6 rfl rfl)
theorem dL_law_645 : decode cL_law 645 = .ok (.iaload, 1) := dk_46 (dk_at dksL_law_20 7 rfl rfl)
theorem dL_law_646 : decode cL_law 646 = .ok (.aload_n 3, 1) := dk_45 (dk_at dksL_law_20 8 rfl rfl)
theorem dL_law_647 : decode cL_law 647 = .ok (.invokestatic 188, 3) := dk_184 0 188 (dk_at dksL_law_20 9 rfl rfl)
theorem dL_law_650 : decode cL_law 650 = .ok (.istore 5, 2) := dk_54 5 (dk_at dksL_law_20 12 rfl rfl)
theorem dL_law_652 : decode cL_law 652 = .ok (.aload_n 2, 1) := dk_44 (dk_at dksL_law_20 14 rfl rfl)
theorem dL_law_653 : decode cL_law 653 = .ok (.aload_n 0, 1) := dk_42 (dk_at dksL_law_20 15 rfl rfl)
theorem dL_law_654 : decode cL_law 654 = .ok (.iload 4, 2) := dk_21 4 (dk_at dksL_law_20 16 rfl rfl)
theorem dL_law_656 : decode cL_law 656 = .ok (.iconst 1, 1) := dk_4 (dk_at dksL_law_20 18 rfl rfl)
theorem dL_law_657 : decode cL_law 657 = .ok (.iadd, 1) := dk_96 (dk_at dksL_law_20 19 rfl rfl)
theorem dL_law_658 : decode cL_law 658 = .ok (.iaload, 1) := dk_46 (dk_at dksL_law_20 20 rfl rfl)
theorem dL_law_659 : decode cL_law 659 = .ok (.aload_n 0, 1) := dk_42 (dk_at dksL_law_20 21 rfl rfl)
theorem dL_law_660 : decode cL_law 660 = .ok (.iload 4, 2) := dk_21 4 (dk_at dksL_law_20 22 rfl rfl)
theorem dL_law_662 : decode cL_law 662 = .ok (.iconst 2, 1) := dk_5 (dk_at dksL_law_21 0 rfl rfl)
theorem dL_law_663 : decode cL_law 663 = .ok (.iadd, 1) := dk_96 (dk_at dksL_law_21 1 rfl rfl)
theorem dL_law_664 : decode cL_law 664 = .ok (.iaload, 1) := dk_46 (dk_at dksL_law_21 2 rfl rfl)
theorem dL_law_665 : decode cL_law 665 = .ok (.invokevirtual 190, 3) := dk_182 0 190 (dk_at dksL_law_21 3 rfl rfl)
theorem dL_law_668 : decode cL_law 668 = .ok (.istore 6, 2) := dk_54 6 (dk_at dksL_law_21 6 rfl rfl)
theorem dL_law_670 : decode cL_law 670 = .ok (.aload_n 2, 1) := dk_44 (dk_at dksL_law_21 8 rfl rfl)
theorem dL_law_671 : decode cL_law 671 = .ok (.invokevirtual 170, 3) := dk_182 0 170 (dk_at dksL_law_21 9 rfl rfl)
theorem dL_law_674 : decode cL_law 674 = .ok (.iload 5, 2) := dk_21 5 (dk_at dksL_law_21 12 rfl rfl)
theorem dL_law_676 : decode cL_law 676 = .ok (.if_icmp .eq 5, 3) := dk_159 0 5 (dk_at dksL_law_21 14 rfl rfl)
theorem dL_law_679 : decode cL_law 679 = .ok (.iconst 0, 1) := dk_3 (dk_at dksL_law_21 17 rfl rfl)
theorem dL_law_680 : decode cL_law 680 = .ok (.ireturn, 1) := dk_172 (dk_at dksL_law_21 18 rfl rfl)
theorem dL_law_681 : decode cL_law 681 = .ok (.iload 5, 2) := dk_21 5 (dk_at dksL_law_21 19 rfl rfl)
theorem dL_law_683 : decode cL_law 683 = .ok (.ifCond .ne 16, 3) := dk_154 0 16 (dk_at dksL_law_21 21 rfl rfl)
theorem dL_law_686 : decode cL_law 686 = .ok (.aload_n 3, 1) := dk_45 (dk_at dksL_law_22 0 rfl rfl)
theorem dL_law_687 : decode cL_law 687 = .ok (.getfield 13, 3) := dk_180 0 13 (dk_at dksL_law_22 1 rfl rfl)
theorem dL_law_690 : decode cL_law 690 = .ok (.iload 6, 2) := dk_21 6 (dk_at dksL_law_22 4 rfl rfl)
theorem dL_law_692 : decode cL_law 692 = .ok (.i2l, 1) := dk_133 (dk_at dksL_law_22 6 rfl rfl)
theorem dL_law_693 : decode cL_law 693 = .ok (.lcmp, 1) := dk_148 (dk_at dksL_law_22 7 rfl rfl)
theorem dL_law_694 : decode cL_law 694 = .ok (.ifCond .eq 5, 3) := dk_153 0 5 (dk_at dksL_law_22 8 rfl rfl)
theorem dL_law_697 : decode cL_law 697 = .ok (.iconst 0, 1) := dk_3 (dk_at dksL_law_22 11 rfl rfl)
theorem dL_law_698 : decode cL_law 698 = .ok (.ireturn, 1) := dk_172 (dk_at dksL_law_22 12 rfl rfl)
theorem dL_law_699 : decode cL_law 699 = .ok (.goto 2613, 3) := dk_167 10 53 (dk_at dksL_law_22 13 rfl rfl)
theorem dL_law_702 : decode cL_law 702 = .ok (.aload_n 1, 1) := dk_43 (dk_at dksL_law_22 16 rfl rfl)
theorem dL_law_703 : decode cL_law 703 = .ok (.aload_n 0, 1) := dk_42 (dk_at dksL_law_22 17 rfl rfl)
theorem dL_law_704 : decode cL_law 704 = .ok (.iload 4, 2) := dk_21 4 (dk_at dksL_law_22 18 rfl rfl)
theorem dL_law_706 : decode cL_law 706 = .ok (.iconst 1, 1) := dk_4 (dk_at dksL_law_22 20 rfl rfl)
theorem dL_law_707 : decode cL_law 707 = .ok (.iadd, 1) := dk_96 (dk_at dksL_law_22 21 rfl rfl)
theorem dL_law_708 : decode cL_law 708 = .ok (.iaload, 1) := dk_46 (dk_at dksL_law_22 22 rfl rfl)
theorem dL_law_709 : decode cL_law 709 = .ok (.aload_n 3, 1) := dk_45 (dk_at dksL_law_22 23 rfl rfl)
theorem dL_law_710 : decode cL_law 710 = .ok (.invokestatic 191, 3) := dk_184 0 191 (dk_at dksL_law_23 0 rfl rfl)
theorem dL_law_713 : decode cL_law 713 = .ok (.istore 5, 2) := dk_54 5 (dk_at dksL_law_23 3 rfl rfl)
theorem dL_law_715 : decode cL_law 715 = .ok (.aload_n 2, 1) := dk_44 (dk_at dksL_law_23 5 rfl rfl)
theorem dL_law_716 : decode cL_law 716 = .ok (.aload_n 0, 1) := dk_42 (dk_at dksL_law_23 6 rfl rfl)
theorem dL_law_717 : decode cL_law 717 = .ok (.iload 4, 2) := dk_21 4 (dk_at dksL_law_23 7 rfl rfl)
theorem dL_law_719 : decode cL_law 719 = .ok (.iconst 1, 1) := dk_4 (dk_at dksL_law_23 9 rfl rfl)
theorem dL_law_720 : decode cL_law 720 = .ok (.iadd, 1) := dk_96 (dk_at dksL_law_23 10 rfl rfl)
theorem dL_law_721 : decode cL_law 721 = .ok (.iaload, 1) := dk_46 (dk_at dksL_law_23 11 rfl rfl)
theorem dL_law_722 : decode cL_law 722 = .ok (.invokevirtual 194, 3) := dk_182 0 194 (dk_at dksL_law_23 12 rfl rfl)
theorem dL_law_725 : decode cL_law 725 = .ok (.istore 6, 2) := dk_54 6 (dk_at dksL_law_23 15 rfl rfl)
theorem dL_law_727 : decode cL_law 727 = .ok (.aload_n 2, 1) := dk_44 (dk_at dksL_law_23 17 rfl rfl)
theorem dL_law_728 : decode cL_law 728 = .ok (.invokevirtual 170, 3) := dk_182 0 170 (dk_at dksL_law_23 18 rfl rfl)
theorem dL_law_731 : decode cL_law 731 = .ok (.iload 5, 2) := dk_21 5 (dk_at dksL_law_23 21 rfl rfl)
theorem dL_law_733 : decode cL_law 733 = .ok (.if_icmp .eq 5, 3) := dk_159 0 5 (dk_at dksL_law_24 0 rfl rfl)
theorem dL_law_736 : decode cL_law 736 = .ok (.iconst 0, 1) := dk_3 (dk_at dksL_law_24 3 rfl rfl)
theorem dL_law_737 : decode cL_law 737 = .ok (.ireturn, 1) := dk_172 (dk_at dksL_law_24 4 rfl rfl)
theorem dL_law_738 : decode cL_law 738 = .ok (.iload 5, 2) := dk_21 5 (dk_at dksL_law_24 5 rfl rfl)
theorem dL_law_740 : decode cL_law 740 = .ok (.ifCond .ne 16, 3) := dk_154 0 16 (dk_at dksL_law_24 7 rfl rfl)
theorem dL_law_743 : decode cL_law 743 = .ok (.aload_n 3, 1) := dk_45 (dk_at dksL_law_24 10 rfl rfl)
theorem dL_law_744 : decode cL_law 744 = .ok (.getfield 13, 3) := dk_180 0 13 (dk_at dksL_law_24 11 rfl rfl)
theorem dL_law_747 : decode cL_law 747 = .ok (.iload 6, 2) := dk_21 6 (dk_at dksL_law_24 14 rfl rfl)
theorem dL_law_749 : decode cL_law 749 = .ok (.i2l, 1) := dk_133 (dk_at dksL_law_24 16 rfl rfl)
theorem dL_law_750 : decode cL_law 750 = .ok (.lcmp, 1) := dk_148 (dk_at dksL_law_24 17 rfl rfl)
theorem dL_law_751 : decode cL_law 751 = .ok (.ifCond .eq 5, 3) := dk_153 0 5 (dk_at dksL_law_24 18 rfl rfl)
theorem dL_law_754 : decode cL_law 754 = .ok (.iconst 0, 1) := dk_3 (dk_at dksL_law_24 21 rfl rfl)
theorem dL_law_755 : decode cL_law 755 = .ok (.ireturn, 1) := dk_172 (dk_at dksL_law_24 22 rfl rfl)
theorem dL_law_756 : decode cL_law 756 = .ok (.goto 2556, 3) := dk_167 9 252 (dk_at dksL_law_25 0 rfl rfl)
theorem dL_law_759 : decode cL_law 759 = .ok (.aload_n 1, 1) := dk_43 (dk_at dksL_law_25 3 rfl rfl)
theorem dL_law_760 : decode cL_law 760 = .ok (.aload_n 0, 1) := dk_42 (dk_at dksL_law_25 4 rfl rfl)
theorem dL_law_761 : decode cL_law 761 = .ok (.iload 4, 2) := dk_21 4 (dk_at dksL_law_25 5 rfl rfl)
theorem dL_law_763 : decode cL_law 763 = .ok (.iconst 1, 1) := dk_4 (dk_at dksL_law_25 7 rfl rfl)
theorem dL_law_764 : decode cL_law 764 = .ok (.iadd, 1) := dk_96 (dk_at dksL_law_25 8 rfl rfl)
theorem dL_law_765 : decode cL_law 765 = .ok (.iaload, 1) := dk_46 (dk_at dksL_law_25 9 rfl rfl)
theorem dL_law_766 : decode cL_law 766 = .ok (.aload_n 3, 1) := dk_45 (dk_at dksL_law_25 10 rfl rfl)
theorem dL_law_767 : decode cL_law 767 = .ok (.invokestatic 195, 3) := dk_184 0 195 (dk_at dksL_law_25 11 rfl rfl)
theorem dL_law_770 : decode cL_law 770 = .ok (.istore 5, 2) := dk_54 5 (dk_at dksL_law_25 14 rfl rfl)
theorem dL_law_772 : decode cL_law 772 = .ok (.aload_n 2, 1) := dk_44 (dk_at dksL_law_25 16 rfl rfl)
theorem dL_law_773 : decode cL_law 773 = .ok (.aload_n 0, 1) := dk_42 (dk_at dksL_law_25 17 rfl rfl)
theorem dL_law_774 : decode cL_law 774 = .ok (.iload 4, 2) := dk_21 4 (dk_at dksL_law_25 18 rfl rfl)
theorem dL_law_776 : decode cL_law 776 = .ok (.iconst 1, 1) := dk_4 (dk_at dksL_law_25 20 rfl rfl)
theorem dL_law_777 : decode cL_law 777 = .ok (.iadd, 1) := dk_96 (dk_at dksL_law_25 21 rfl rfl)
theorem dL_law_778 : decode cL_law 778 = .ok (.iaload, 1) := dk_46 (dk_at dksL_law_25 22 rfl rfl)
theorem dL_law_779 : decode cL_law 779 = .ok (.invokevirtual 197, 3) := dk_182 0 197 (dk_at dksL_law_26 0 rfl rfl)
theorem dL_law_782 : decode cL_law 782 = .ok (.istore 6, 2) := dk_54 6 (dk_at dksL_law_26 3 rfl rfl)
theorem dL_law_784 : decode cL_law 784 = .ok (.aload_n 2, 1) := dk_44 (dk_at dksL_law_26 5 rfl rfl)
theorem dL_law_785 : decode cL_law 785 = .ok (.invokevirtual 170, 3) := dk_182 0 170 (dk_at dksL_law_26 6 rfl rfl)
theorem dL_law_788 : decode cL_law 788 = .ok (.iload 5, 2) := dk_21 5 (dk_at dksL_law_26 9 rfl rfl)
theorem dL_law_790 : decode cL_law 790 = .ok (.if_icmp .eq 5, 3) := dk_159 0 5 (dk_at dksL_law_26 11 rfl rfl)
theorem dL_law_793 : decode cL_law 793 = .ok (.iconst 0, 1) := dk_3 (dk_at dksL_law_26 14 rfl rfl)
theorem dL_law_794 : decode cL_law 794 = .ok (.ireturn, 1) := dk_172 (dk_at dksL_law_26 15 rfl rfl)
theorem dL_law_795 : decode cL_law 795 = .ok (.iload 5, 2) := dk_21 5 (dk_at dksL_law_26 16 rfl rfl)
theorem dL_law_797 : decode cL_law 797 = .ok (.ifCond .ne 23, 3) := dk_154 0 23 (dk_at dksL_law_26 18 rfl rfl)
theorem dL_law_800 : decode cL_law 800 = .ok (.aload_n 3, 1) := dk_45 (dk_at dksL_law_26 21 rfl rfl)
theorem dL_law_801 : decode cL_law 801 = .ok (.getfield 13, 3) := dk_180 0 13 (dk_at dksL_law_27 0 rfl rfl)
theorem dL_law_804 : decode cL_law 804 = .ok (.iload 6, 2) := dk_21 6 (dk_at dksL_law_27 3 rfl rfl)
theorem dL_law_806 : decode cL_law 806 = .ok (.ifCond .eq 7, 3) := dk_153 0 7 (dk_at dksL_law_27 5 rfl rfl)
theorem dL_law_809 : decode cL_law 809 = .ok (.lconst 1, 1) := dk_10 (dk_at dksL_law_27 8 rfl rfl)
theorem dL_law_810 : decode cL_law 810 = .ok (.goto 4, 3) := dk_167 0 4 (dk_at dksL_law_27 9 rfl rfl)
theorem dL_law_813 : decode cL_law 813 = .ok (.lconst 0, 1) := dk_9 (dk_at dksL_law_27 12 rfl rfl)
theorem dL_law_814 : decode cL_law 814 = .ok (.lcmp, 1) := dk_148 (dk_at dksL_law_27 13 rfl rfl)
theorem dL_law_815 : decode cL_law 815 = .ok (.ifCond .eq 5, 3) := dk_153 0 5 (dk_at dksL_law_27 14 rfl rfl)
theorem dL_law_818 : decode cL_law 818 = .ok (.iconst 0, 1) := dk_3 (dk_at dksL_law_27 17 rfl rfl)
theorem dL_law_819 : decode cL_law 819 = .ok (.ireturn, 1) := dk_172 (dk_at dksL_law_27 18 rfl rfl)
theorem dL_law_820 : decode cL_law 820 = .ok (.goto 2492, 3) := dk_167 9 188 (dk_at dksL_law_27 19 rfl rfl)
theorem dL_law_823 : decode cL_law 823 = .ok (.aload_n 1, 1) := dk_43 (dk_at dksL_law_27 22 rfl rfl)
theorem dL_law_824 : decode cL_law 824 = .ok (.aload_n 0, 1) := dk_42 (dk_at dksL_law_27 23 rfl rfl)
theorem dL_law_825 : decode cL_law 825 = .ok (.iload 4, 2) := dk_21 4 (dk_at dksL_law_28 0 rfl rfl)
theorem dL_law_827 : decode cL_law 827 = .ok (.iconst 1, 1) := dk_4 (dk_at dksL_law_28 2 rfl rfl)
theorem dL_law_828 : decode cL_law 828 = .ok (.iadd, 1) := dk_96 (dk_at dksL_law_28 3 rfl rfl)
theorem dL_law_829 : decode cL_law 829 = .ok (.iaload, 1) := dk_46 (dk_at dksL_law_28 4 rfl rfl)
theorem dL_law_830 : decode cL_law 830 = .ok (.aload_n 3, 1) := dk_45 (dk_at dksL_law_28 5 rfl rfl)
theorem dL_law_831 : decode cL_law 831 = .ok (.invokestatic 198, 3) := dk_184 0 198 (dk_at dksL_law_28 6 rfl rfl)
theorem dL_law_834 : decode cL_law 834 = .ok (.istore 5, 2) := dk_54 5 (dk_at dksL_law_28 9 rfl rfl)
theorem dL_law_836 : decode cL_law 836 = .ok (.aload_n 2, 1) := dk_44 (dk_at dksL_law_28 11 rfl rfl)
theorem dL_law_837 : decode cL_law 837 = .ok (.aload_n 0, 1) := dk_42 (dk_at dksL_law_28 12 rfl rfl)
theorem dL_law_838 : decode cL_law 838 = .ok (.iload 4, 2) := dk_21 4 (dk_at dksL_law_28 13 rfl rfl)
theorem dL_law_840 : decode cL_law 840 = .ok (.iconst 1, 1) := dk_4 (dk_at dksL_law_28 15 rfl rfl)
theorem dL_law_841 : decode cL_law 841 = .ok (.iadd, 1) := dk_96 (dk_at dksL_law_28 16 rfl rfl)
theorem dL_law_842 : decode cL_law 842 = .ok (.iaload, 1) := dk_46 (dk_at dksL_law_28 17 rfl rfl)
theorem dL_law_843 : decode cL_law 843 = .ok (.invokevirtual 200, 3) := dk_182 0 200 (dk_at dksL_law_28 18 rfl rfl)
theorem dL_law_846 : decode cL_law 846 = .ok (.astore 6, 2) := dk_58 6 (dk_at dksL_law_28 21 rfl rfl)
theorem dL_law_848 : decode cL_law 848 = .ok (.aload_n 2, 1) := dk_44 (dk_at dksL_law_28 23 rfl rfl)
theorem dL_law_849 : decode cL_law 849 = .ok (.invokevirtual 170, 3) := dk_182 0 170 (dk_at dksL_law_29 0 rfl rfl)
theorem dL_law_852 : decode cL_law 852 = .ok (.iload 5, 2) := dk_21 5 (dk_at dksL_law_29 3 rfl rfl)
theorem dL_law_854 : decode cL_law 854 = .ok (.if_icmp .eq 5, 3) := dk_159 0 5 (dk_at dksL_law_29 5 rfl rfl)
theorem dL_law_857 : decode cL_law 857 = .ok (.iconst 0, 1) := dk_3 (dk_at dksL_law_29 8 rfl rfl)
theorem dL_law_858 : decode cL_law 858 = .ok (.ireturn, 1) := dk_172 (dk_at dksL_law_29 9 rfl rfl)
theorem dL_law_859 : decode cL_law 859 = .ok (.iload 5, 2) := dk_21 5 (dk_at dksL_law_29 10 rfl rfl)
theorem dL_law_861 : decode cL_law 861 = .ok (.ifCond .ne 17, 3) := dk_154 0 17 (dk_at dksL_law_29 12 rfl rfl)
theorem dL_law_864 : decode cL_law 864 = .ok (.aload_n 3, 1) := dk_45 (dk_at dksL_law_29 15 rfl rfl)
theorem dL_law_865 : decode cL_law 865 = .ok (.getfield 52, 3) := dk_180 0 52 (dk_at dksL_law_29 16 rfl rfl)
theorem dL_law_868 : decode cL_law 868 = .ok (.aload 6, 2) := dk_25 6 (dk_at dksL_law_29 19 rfl rfl)
theorem dL_law_870 : decode cL_law 870 = .ok (.invokevirtual 201, 3) := dk_182 0 201 (dk_at dksL_law_29 21 rfl rfl)
theorem dL_law_873 : decode cL_law 873 = .ok (.ifCond .ne 5, 3) := dk_154 0 5 (dk_at dksL_law_30 0 rfl rfl)
theorem dL_law_876 : decode cL_law 876 = .ok (.iconst 0, 1) := dk_3 (dk_at dksL_law_30 3 rfl rfl)
theorem dL_law_877 : decode cL_law 877 = .ok (.ireturn, 1) := dk_172 (dk_at dksL_law_30 4 rfl rfl)
theorem dL_law_878 : decode cL_law 878 = .ok (.goto 2434, 3) := dk_167 9 130 (dk_at dksL_law_30 5 rfl rfl)
theorem dL_law_881 : decode cL_law 881 = .ok (.aload_n 1, 1) := dk_43 (dk_at dksL_law_30 8 rfl rfl)
theorem dL_law_882 : decode cL_law 882 = .ok (.aload_n 0, 1) := dk_42 (dk_at dksL_law_30 9 rfl rfl)
theorem dL_law_883 : decode cL_law 883 = .ok (.iload 4, 2) := dk_21 4 (dk_at dksL_law_30 10 rfl rfl)
theorem dL_law_885 : decode cL_law 885 = .ok (.iconst 1, 1) := dk_4 (dk_at dksL_law_30 12 rfl rfl)
theorem dL_law_886 : decode cL_law 886 = .ok (.iadd, 1) := dk_96 (dk_at dksL_law_30 13 rfl rfl)
theorem dL_law_887 : decode cL_law 887 = .ok (.iaload, 1) := dk_46 (dk_at dksL_law_30 14 rfl rfl)
theorem dL_law_888 : decode cL_law 888 = .ok (.aload_n 3, 1) := dk_45 (dk_at dksL_law_30 15 rfl rfl)
theorem dL_law_889 : decode cL_law 889 = .ok (.invokestatic 207, 3) := dk_184 0 207 (dk_at dksL_law_30 16 rfl rfl)
theorem dL_law_892 : decode cL_law 892 = .ok (.istore 5, 2) := dk_54 5 (dk_at dksL_law_30 19 rfl rfl)
theorem dL_law_894 : decode cL_law 894 = .ok (.aload_n 2, 1) := dk_44 (dk_at dksL_law_30 21 rfl rfl)
theorem dL_law_895 : decode cL_law 895 = .ok (.aload_n 0, 1) := dk_42 (dk_at dksL_law_30 22 rfl rfl)
theorem dL_law_896 : decode cL_law 896 = .ok (.iload 4, 2) := dk_21 4 (dk_at dksL_law_31 0 rfl rfl)
theorem dL_law_898 : decode cL_law 898 = .ok (.iconst 1, 1) := dk_4 (dk_at dksL_law_31 2 rfl rfl)
theorem dL_law_899 : decode cL_law 899 = .ok (.iadd, 1) := dk_96 (dk_at dksL_law_31 3 rfl rfl)
theorem dL_law_900 : decode cL_law 900 = .ok (.iaload, 1) := dk_46 (dk_at dksL_law_31 4 rfl rfl)
theorem dL_law_901 : decode cL_law 901 = .ok (.invokevirtual 209, 3) := dk_182 0 209 (dk_at dksL_law_31 5 rfl rfl)
theorem dL_law_904 : decode cL_law 904 = .ok (.astore 6, 2) := dk_58 6 (dk_at dksL_law_31 8 rfl rfl)
theorem dL_law_906 : decode cL_law 906 = .ok (.aload_n 2, 1) := dk_44 (dk_at dksL_law_31 10 rfl rfl)
theorem dL_law_907 : decode cL_law 907 = .ok (.invokevirtual 170, 3) := dk_182 0 170 (dk_at dksL_law_31 11 rfl rfl)
theorem dL_law_910 : decode cL_law 910 = .ok (.iload 5, 2) := dk_21 5 (dk_at dksL_law_31 14 rfl rfl)
theorem dL_law_912 : decode cL_law 912 = .ok (.if_icmp .eq 5, 3) := dk_159 0 5 (dk_at dksL_law_31 16 rfl rfl)
theorem dL_law_915 : decode cL_law 915 = .ok (.iconst 0, 1) := dk_3 (dk_at dksL_law_31 19 rfl rfl)
theorem dL_law_916 : decode cL_law 916 = .ok (.ireturn, 1) := dk_172 (dk_at dksL_law_31 20 rfl rfl)
theorem dL_law_917 : decode cL_law 917 = .ok (.iload 5, 2) := dk_21 5 (dk_at dksL_law_31 21 rfl rfl)
theorem dL_law_919 : decode cL_law 919 = .ok (.ifCond .ne 17, 3) := dk_154 0 17 (dk_at dksL_law_32 0 rfl rfl)
theorem dL_law_922 : decode cL_law 922 = .ok (.aload_n 3, 1) := dk_45 (dk_at dksL_law_32 3 rfl rfl)
theorem dL_law_923 : decode cL_law 923 = .ok (.getfield 52, 3) := dk_180 0 52 (dk_at dksL_law_32 4 rfl rfl)
theorem dL_law_926 : decode cL_law 926 = .ok (.aload 6, 2) := dk_25 6 (dk_at dksL_law_32 7 rfl rfl)
theorem dL_law_928 : decode cL_law 928 = .ok (.invokevirtual 201, 3) := dk_182 0 201 (dk_at dksL_law_32 9 rfl rfl)
theorem dL_law_931 : decode cL_law 931 = .ok (.ifCond .ne 5, 3) := dk_154 0 5 (dk_at dksL_law_32 12 rfl rfl)
theorem dL_law_934 : decode cL_law 934 = .ok (.iconst 0, 1) := dk_3 (dk_at dksL_law_32 15 rfl rfl)
theorem dL_law_935 : decode cL_law 935 = .ok (.ireturn, 1) := dk_172 (dk_at dksL_law_32 16 rfl rfl)
theorem dL_law_936 : decode cL_law 936 = .ok (.goto 2376, 3) := dk_167 9 72 (dk_at dksL_law_32 17 rfl rfl)
theorem dL_law_939 : decode cL_law 939 = .ok (.aload_n 1, 1) := dk_43 (dk_at dksL_law_32 20 rfl rfl)
theorem dL_law_940 : decode cL_law 940 = .ok (.aload_n 0, 1) := dk_42 (dk_at dksL_law_32 21 rfl rfl)
theorem dL_law_941 : decode cL_law 941 = .ok (.iload 4, 2) := dk_21 4 (dk_at dksL_law_32 22 rfl rfl)
theorem dL_law_943 : decode cL_law 943 = .ok (.iconst 1, 1) := dk_4 (dk_at dksL_law_33 0 rfl rfl)
theorem dL_law_944 : decode cL_law 944 = .ok (.iadd, 1) := dk_96 (dk_at dksL_law_33 1 rfl rfl)
theorem dL_law_945 : decode cL_law 945 = .ok (.iaload, 1) := dk_46 (dk_at dksL_law_33 2 rfl rfl)
theorem dL_law_946 : decode cL_law 946 = .ok (.aload_n 0, 1) := dk_42 (dk_at dksL_law_33 3 rfl rfl)
theorem dL_law_947 : decode cL_law 947 = .ok (.iload 4, 2) := dk_21 4 (dk_at dksL_law_33 4 rfl rfl)
theorem dL_law_949 : decode cL_law 949 = .ok (.iconst 2, 1) := dk_5 (dk_at dksL_law_33 6 rfl rfl)
theorem dL_law_950 : decode cL_law 950 = .ok (.iadd, 1) := dk_96 (dk_at dksL_law_33 7 rfl rfl)
theorem dL_law_951 : decode cL_law 951 = .ok (.iaload, 1) := dk_46 (dk_at dksL_law_33 8 rfl rfl)
theorem dL_law_952 : decode cL_law 952 = .ok (.aload_n 3, 1) := dk_45 (dk_at dksL_law_33 9 rfl rfl)
theorem dL_law_953 : decode cL_law 953 = .ok (.invokestatic 210, 3) := dk_184 0 210 (dk_at dksL_law_33 10 rfl rfl)
theorem dL_law_956 : decode cL_law 956 = .ok (.istore 5, 2) := dk_54 5 (dk_at dksL_law_33 13 rfl rfl)
theorem dL_law_958 : decode cL_law 958 = .ok (.aload_n 2, 1) := dk_44 (dk_at dksL_law_33 15 rfl rfl)
theorem dL_law_959 : decode cL_law 959 = .ok (.aload_n 0, 1) := dk_42 (dk_at dksL_law_33 16 rfl rfl)
theorem dL_law_960 : decode cL_law 960 = .ok (.iload 4, 2) := dk_21 4 (dk_at dksL_law_33 17 rfl rfl)
theorem dL_law_962 : decode cL_law 962 = .ok (.iconst 1, 1) := dk_4 (dk_at dksL_law_33 19 rfl rfl)
theorem dL_law_963 : decode cL_law 963 = .ok (.iadd, 1) := dk_96 (dk_at dksL_law_33 20 rfl rfl)
theorem dL_law_964 : decode cL_law 964 = .ok (.iaload, 1) := dk_46 (dk_at dksL_law_33 21 rfl rfl)
theorem dL_law_965 : decode cL_law 965 = .ok (.aload_n 0, 1) := dk_42 (dk_at dksL_law_33 22 rfl rfl)
theorem dL_law_966 : decode cL_law 966 = .ok (.iload 4, 2) := dk_21 4 (dk_at dksL_law_34 0 rfl rfl)
theorem dL_law_968 : decode cL_law 968 = .ok (.iconst 2, 1) := dk_5 (dk_at dksL_law_34 2 rfl rfl)
theorem dL_law_969 : decode cL_law 969 = .ok (.iadd, 1) := dk_96 (dk_at dksL_law_34 3 rfl rfl)
theorem dL_law_970 : decode cL_law 970 = .ok (.iaload, 1) := dk_46 (dk_at dksL_law_34 4 rfl rfl)
theorem dL_law_971 : decode cL_law 971 = .ok (.invokevirtual 212, 3) := dk_182 0 212 (dk_at dksL_law_34 5 rfl rfl)
theorem dL_law_974 : decode cL_law 974 = .ok (.istore 6, 2) := dk_54 6 (dk_at dksL_law_34 8 rfl rfl)
theorem dL_law_976 : decode cL_law 976 = .ok (.aload_n 2, 1) := dk_44 (dk_at dksL_law_34 10 rfl rfl)
theorem dL_law_977 : decode cL_law 977 = .ok (.invokevirtual 170, 3) := dk_182 0 170 (dk_at dksL_law_34 11 rfl rfl)
theorem dL_law_980 : decode cL_law 980 = .ok (.iload 5, 2) := dk_21 5 (dk_at dksL_law_34 14 rfl rfl)
theorem dL_law_982 : decode cL_law 982 = .ok (.if_icmp .eq 5, 3) := dk_159 0 5 (dk_at dksL_law_34 16 rfl rfl)
theorem dL_law_985 : decode cL_law 985 = .ok (.iconst 0, 1) := dk_3 (dk_at dksL_law_34 19 rfl rfl)
theorem dL_law_986 : decode cL_law 986 = .ok (.ireturn, 1) := dk_172 (dk_at dksL_law_34 20 rfl rfl)
theorem dL_law_987 : decode cL_law 987 = .ok (.iload 5, 2) := dk_21 5 (dk_at dksL_law_34 21 rfl rfl)
theorem dL_law_989 : decode cL_law 989 = .ok (.ifCond .ne 16, 3) := dk_154 0 16 (dk_at dksL_law_35 0 rfl rfl)
theorem dL_law_992 : decode cL_law 992 = .ok (.aload_n 3, 1) := dk_45 (dk_at dksL_law_35 3 rfl rfl)
theorem dL_law_993 : decode cL_law 993 = .ok (.getfield 13, 3) := dk_180 0 13 (dk_at dksL_law_35 4 rfl rfl)
theorem dL_law_996 : decode cL_law 996 = .ok (.iload 6, 2) := dk_21 6 (dk_at dksL_law_35 7 rfl rfl)
theorem dL_law_998 : decode cL_law 998 = .ok (.i2l, 1) := dk_133 (dk_at dksL_law_35 9 rfl rfl)
theorem dL_law_999 : decode cL_law 999 = .ok (.lcmp, 1) := dk_148 (dk_at dksL_law_35 10 rfl rfl)
theorem dL_law_1000 : decode cL_law 1000 = .ok (.ifCond .eq 5, 3) := dk_153 0 5 (dk_at dksL_law_35 11 rfl rfl)
theorem dL_law_1003 : decode cL_law 1003 = .ok (.iconst 0, 1) := dk_3 (dk_at dksL_law_35 14 rfl rfl)
theorem dL_law_1004 : decode cL_law 1004 = .ok (.ireturn, 1) := dk_172 (dk_at dksL_law_35 15 rfl rfl)
theorem dL_law_1005 : decode cL_law 1005 = .ok (.goto 2307, 3) := dk_167 9 3 (dk_at dksL_law_35 16 rfl rfl)
theorem dL_law_1008 : decode cL_law 1008 = .ok (.aload_n 1, 1) := dk_43 (dk_at dksL_law_35 19 rfl rfl)
theorem dL_law_1009 : decode cL_law 1009 = .ok (.aload_n 0, 1) := dk_42 (dk_at dksL_law_35 20 rfl rfl)
theorem dL_law_1010 : decode cL_law 1010 = .ok (.iload 4, 2) := dk_21 4 (dk_at dksL_law_35 21 rfl rfl)
theorem dL_law_1012 : decode cL_law 1012 = .ok (.iconst 1, 1) := dk_4 (dk_at dksL_law_35 23 rfl rfl)
theorem dL_law_1013 : decode cL_law 1013 = .ok (.iadd, 1) := dk_96 (dk_at dksL_law_36 0 rfl rfl)
theorem dL_law_1014 : decode cL_law 1014 = .ok (.iaload, 1) := dk_46 (dk_at dksL_law_36 1 rfl rfl)
theorem dL_law_1015 : decode cL_law 1015 = .ok (.aload_n 0, 1) := dk_42 (dk_at dksL_law_36 2 rfl rfl)
theorem dL_law_1016 : decode cL_law 1016 = .ok (.iload 4, 2) := dk_21 4 (dk_at dksL_law_36 3 rfl rfl)
theorem dL_law_1018 : decode cL_law 1018 = .ok (.iconst 2, 1) := dk_5 (dk_at dksL_law_36 5 rfl rfl)
theorem dL_law_1019 : decode cL_law 1019 = .ok (.iadd, 1) := dk_96 (dk_at dksL_law_36 6 rfl rfl)
theorem dL_law_1020 : decode cL_law 1020 = .ok (.iaload, 1) := dk_46 (dk_at dksL_law_36 7 rfl rfl)
theorem dL_law_1021 : decode cL_law 1021 = .ok (.aload_n 3, 1) := dk_45 (dk_at dksL_law_36 8 rfl rfl)
theorem dL_law_1022 : decode cL_law 1022 = .ok (.invokestatic 213, 3) := dk_184 0 213 (dk_at dksL_law_36 9 rfl rfl)
theorem dL_law_1025 : decode cL_law 1025 = .ok (.istore 5, 2) := dk_54 5 (dk_at dksL_law_36 12 rfl rfl)
theorem dL_law_1027 : decode cL_law 1027 = .ok (.aload_n 2, 1) := dk_44 (dk_at dksL_law_36 14 rfl rfl)
theorem dL_law_1028 : decode cL_law 1028 = .ok (.aload_n 0, 1) := dk_42 (dk_at dksL_law_36 15 rfl rfl)
theorem dL_law_1029 : decode cL_law 1029 = .ok (.iload 4, 2) := dk_21 4 (dk_at dksL_law_36 16 rfl rfl)
theorem dL_law_1031 : decode cL_law 1031 = .ok (.iconst 1, 1) := dk_4 (dk_at dksL_law_36 18 rfl rfl)
theorem dL_law_1032 : decode cL_law 1032 = .ok (.iadd, 1) := dk_96 (dk_at dksL_law_36 19 rfl rfl)
theorem dL_law_1033 : decode cL_law 1033 = .ok (.iaload, 1) := dk_46 (dk_at dksL_law_36 20 rfl rfl)
theorem dL_law_1034 : decode cL_law 1034 = .ok (.aload_n 0, 1) := dk_42 (dk_at dksL_law_36 21 rfl rfl)
theorem dL_law_1035 : decode cL_law 1035 = .ok (.iload 4, 2) := dk_21 4 (dk_at dksL_law_36 22 rfl rfl)
theorem dL_law_1037 : decode cL_law 1037 = .ok (.iconst 2, 1) := dk_5 (dk_at dksL_law_37 0 rfl rfl)
theorem dL_law_1038 : decode cL_law 1038 = .ok (.iadd, 1) := dk_96 (dk_at dksL_law_37 1 rfl rfl)
theorem dL_law_1039 : decode cL_law 1039 = .ok (.iaload, 1) := dk_46 (dk_at dksL_law_37 2 rfl rfl)
theorem dL_law_1040 : decode cL_law 1040 = .ok (.invokevirtual 215, 3) := dk_182 0 215 (dk_at dksL_law_37 3 rfl rfl)
theorem dL_law_1043 : decode cL_law 1043 = .ok (.istore 6, 2) := dk_54 6 (dk_at dksL_law_37 6 rfl rfl)
theorem dL_law_1045 : decode cL_law 1045 = .ok (.aload_n 2, 1) := dk_44 (dk_at dksL_law_37 8 rfl rfl)
theorem dL_law_1046 : decode cL_law 1046 = .ok (.invokevirtual 170, 3) := dk_182 0 170 (dk_at dksL_law_37 9 rfl rfl)
theorem dL_law_1049 : decode cL_law 1049 = .ok (.iload 5, 2) := dk_21 5 (dk_at dksL_law_37 12 rfl rfl)
theorem dL_law_1051 : decode cL_law 1051 = .ok (.if_icmp .eq 5, 3) := dk_159 0 5 (dk_at dksL_law_37 14 rfl rfl)
theorem dL_law_1054 : decode cL_law 1054 = .ok (.iconst 0, 1) := dk_3 (dk_at dksL_law_37 17 rfl rfl)
theorem dL_law_1055 : decode cL_law 1055 = .ok (.ireturn, 1) := dk_172 (dk_at dksL_law_37 18 rfl rfl)
theorem dL_law_1056 : decode cL_law 1056 = .ok (.iload 5, 2) := dk_21 5 (dk_at dksL_law_37 19 rfl rfl)
theorem dL_law_1058 : decode cL_law 1058 = .ok (.ifCond .ne 16, 3) := dk_154 0 16 (dk_at dksL_law_37 21 rfl rfl)
theorem dL_law_1061 : decode cL_law 1061 = .ok (.aload_n 3, 1) := dk_45 (dk_at dksL_law_38 0 rfl rfl)
theorem dL_law_1062 : decode cL_law 1062 = .ok (.getfield 13, 3) := dk_180 0 13 (dk_at dksL_law_38 1 rfl rfl)
theorem dL_law_1065 : decode cL_law 1065 = .ok (.iload 6, 2) := dk_21 6 (dk_at dksL_law_38 4 rfl rfl)
theorem dL_law_1067 : decode cL_law 1067 = .ok (.i2l, 1) := dk_133 (dk_at dksL_law_38 6 rfl rfl)
theorem dL_law_1068 : decode cL_law 1068 = .ok (.lcmp, 1) := dk_148 (dk_at dksL_law_38 7 rfl rfl)
theorem dL_law_1069 : decode cL_law 1069 = .ok (.ifCond .eq 5, 3) := dk_153 0 5 (dk_at dksL_law_38 8 rfl rfl)
theorem dL_law_1072 : decode cL_law 1072 = .ok (.iconst 0, 1) := dk_3 (dk_at dksL_law_38 11 rfl rfl)
theorem dL_law_1073 : decode cL_law 1073 = .ok (.ireturn, 1) := dk_172 (dk_at dksL_law_38 12 rfl rfl)
theorem dL_law_1074 : decode cL_law 1074 = .ok (.goto 2238, 3) := dk_167 8 190 (dk_at dksL_law_38 13 rfl rfl)
theorem dL_law_1077 : decode cL_law 1077 = .ok (.aload_n 1, 1) := dk_43 (dk_at dksL_law_38 16 rfl rfl)
theorem dL_law_1078 : decode cL_law 1078 = .ok (.aload_n 0, 1) := dk_42 (dk_at dksL_law_38 17 rfl rfl)
theorem dL_law_1079 : decode cL_law 1079 = .ok (.iload 4, 2) := dk_21 4 (dk_at dksL_law_38 18 rfl rfl)
theorem dL_law_1081 : decode cL_law 1081 = .ok (.iconst 1, 1) := dk_4 (dk_at dksL_law_38 20 rfl rfl)
theorem dL_law_1082 : decode cL_law 1082 = .ok (.iadd, 1) := dk_96 (dk_at dksL_law_38 21 rfl rfl)
theorem dL_law_1083 : decode cL_law 1083 = .ok (.iaload, 1) := dk_46 (dk_at dksL_law_38 22 rfl rfl)
theorem dL_law_1084 : decode cL_law 1084 = .ok (.aload_n 0, 1) := dk_42 (dk_at dksL_law_38 23 rfl rfl)
theorem dL_law_1085 : decode cL_law 1085 = .ok (.iload 4, 2) := dk_21 4 (dk_at dksL_law_39 0 rfl rfl)
theorem dL_law_1087 : decode cL_law 1087 = .ok (.iconst 2, 1) := dk_5 (dk_at dksL_law_39 2 rfl rfl)
theorem dL_law_1088 : decode cL_law 1088 = .ok (.iadd, 1) := dk_96 (dk_at dksL_law_39 3 rfl rfl)
theorem dL_law_1089 : decode cL_law 1089 = .ok (.iaload, 1) := dk_46 (dk_at dksL_law_39 4 rfl rfl)
theorem dL_law_1090 : decode cL_law 1090 = .ok (.aload_n 3, 1) := dk_45 (dk_at dksL_law_39 5 rfl rfl)
theorem dL_law_1091 : decode cL_law 1091 = .ok (.invokestatic 216, 3) := dk_184 0 216 (dk_at dksL_law_39 6 rfl rfl)
theorem dL_law_1094 : decode cL_law 1094 = .ok (.istore 5, 2) := dk_54 5 (dk_at dksL_law_39 9 rfl rfl)
theorem dL_law_1096 : decode cL_law 1096 = .ok (.aload_n 2, 1) := dk_44 (dk_at dksL_law_39 11 rfl rfl)
theorem dL_law_1097 : decode cL_law 1097 = .ok (.aload_n 0, 1) := dk_42 (dk_at dksL_law_39 12 rfl rfl)
theorem dL_law_1098 : decode cL_law 1098 = .ok (.iload 4, 2) := dk_21 4 (dk_at dksL_law_39 13 rfl rfl)
theorem dL_law_1100 : decode cL_law 1100 = .ok (.iconst 1, 1) := dk_4 (dk_at dksL_law_39 15 rfl rfl)
theorem dL_law_1101 : decode cL_law 1101 = .ok (.iadd, 1) := dk_96 (dk_at dksL_law_39 16 rfl rfl)
theorem dL_law_1102 : decode cL_law 1102 = .ok (.iaload, 1) := dk_46 (dk_at dksL_law_39 17 rfl rfl)
theorem dL_law_1103 : decode cL_law 1103 = .ok (.aload_n 0, 1) := dk_42 (dk_at dksL_law_39 18 rfl rfl)
theorem dL_law_1104 : decode cL_law 1104 = .ok (.iload 4, 2) := dk_21 4 (dk_at dksL_law_39 19 rfl rfl)
theorem dL_law_1106 : decode cL_law 1106 = .ok (.iconst 2, 1) := dk_5 (dk_at dksL_law_39 21 rfl rfl)
theorem dL_law_1107 : decode cL_law 1107 = .ok (.iadd, 1) := dk_96 (dk_at dksL_law_39 22 rfl rfl)
theorem dL_law_1108 : decode cL_law 1108 = .ok (.iaload, 1) := dk_46 (dk_at dksL_law_39 23 rfl rfl)
theorem dL_law_1109 : decode cL_law 1109 = .ok (.invokevirtual 218, 3) := dk_182 0 218 (dk_at dksL_law_40 0 rfl rfl)
theorem dL_law_1112 : decode cL_law 1112 = .ok (.istore 6, 2) := dk_54 6 (dk_at dksL_law_40 3 rfl rfl)
theorem dL_law_1114 : decode cL_law 1114 = .ok (.aload_n 2, 1) := dk_44 (dk_at dksL_law_40 5 rfl rfl)
theorem dL_law_1115 : decode cL_law 1115 = .ok (.invokevirtual 170, 3) := dk_182 0 170 (dk_at dksL_law_40 6 rfl rfl)
theorem dL_law_1118 : decode cL_law 1118 = .ok (.iload 5, 2) := dk_21 5 (dk_at dksL_law_40 9 rfl rfl)
theorem dL_law_1120 : decode cL_law 1120 = .ok (.if_icmp .eq 5, 3) := dk_159 0 5 (dk_at dksL_law_40 11 rfl rfl)
theorem dL_law_1123 : decode cL_law 1123 = .ok (.iconst 0, 1) := dk_3 (dk_at dksL_law_40 14 rfl rfl)
theorem dL_law_1124 : decode cL_law 1124 = .ok (.ireturn, 1) := dk_172 (dk_at dksL_law_40 15 rfl rfl)
theorem dL_law_1125 : decode cL_law 1125 = .ok (.iload 5, 2) := dk_21 5 (dk_at dksL_law_40 16 rfl rfl)
theorem dL_law_1127 : decode cL_law 1127 = .ok (.ifCond .ne 23, 3) := dk_154 0 23 (dk_at dksL_law_40 18 rfl rfl)
theorem dL_law_1130 : decode cL_law 1130 = .ok (.aload_n 3, 1) := dk_45 (dk_at dksL_law_40 21 rfl rfl)
theorem dL_law_1131 : decode cL_law 1131 = .ok (.getfield 13, 3) := dk_180 0 13 (dk_at dksL_law_41 0 rfl rfl)
theorem dL_law_1134 : decode cL_law 1134 = .ok (.iload 6, 2) := dk_21 6 (dk_at dksL_law_41 3 rfl rfl)
theorem dL_law_1136 : decode cL_law 1136 = .ok (.ifCond .eq 7, 3) := dk_153 0 7 (dk_at dksL_law_41 5 rfl rfl)
theorem dL_law_1139 : decode cL_law 1139 = .ok (.lconst 1, 1) := dk_10 (dk_at dksL_law_41 8 rfl rfl)
theorem dL_law_1140 : decode cL_law 1140 = .ok (.goto 4, 3) := dk_167 0 4 (dk_at dksL_law_41 9 rfl rfl)
theorem dL_law_1143 : decode cL_law 1143 = .ok (.lconst 0, 1) := dk_9 (dk_at dksL_law_41 12 rfl rfl)
theorem dL_law_1144 : decode cL_law 1144 = .ok (.lcmp, 1) := dk_148 (dk_at dksL_law_41 13 rfl rfl)
theorem dL_law_1145 : decode cL_law 1145 = .ok (.ifCond .eq 5, 3) := dk_153 0 5 (dk_at dksL_law_41 14 rfl rfl)
theorem dL_law_1148 : decode cL_law 1148 = .ok (.iconst 0, 1) := dk_3 (dk_at dksL_law_41 17 rfl rfl)
theorem dL_law_1149 : decode cL_law 1149 = .ok (.ireturn, 1) := dk_172 (dk_at dksL_law_41 18 rfl rfl)
theorem dL_law_1150 : decode cL_law 1150 = .ok (.goto 2162, 3) := dk_167 8 114 (dk_at dksL_law_41 19 rfl rfl)
theorem dL_law_1153 : decode cL_law 1153 = .ok (.aload_n 1, 1) := dk_43 (dk_at dksL_law_41 22 rfl rfl)
theorem dL_law_1154 : decode cL_law 1154 = .ok (.aload_n 0, 1) := dk_42 (dk_at dksL_law_41 23 rfl rfl)
theorem dL_law_1155 : decode cL_law 1155 = .ok (.iload 4, 2) := dk_21 4 (dk_at dksL_law_42 0 rfl rfl)
theorem dL_law_1157 : decode cL_law 1157 = .ok (.iconst 1, 1) := dk_4 (dk_at dksL_law_42 2 rfl rfl)
theorem dL_law_1158 : decode cL_law 1158 = .ok (.iadd, 1) := dk_96 (dk_at dksL_law_42 3 rfl rfl)
theorem dL_law_1159 : decode cL_law 1159 = .ok (.iaload, 1) := dk_46 (dk_at dksL_law_42 4 rfl rfl)
theorem dL_law_1160 : decode cL_law 1160 = .ok (.aload_n 0, 1) := dk_42 (dk_at dksL_law_42 5 rfl rfl)
theorem dL_law_1161 : decode cL_law 1161 = .ok (.iload 4, 2) := dk_21 4 (dk_at dksL_law_42 6 rfl rfl)
theorem dL_law_1163 : decode cL_law 1163 = .ok (.iconst 2, 1) := dk_5 (dk_at dksL_law_42 8 rfl rfl)
theorem dL_law_1164 : decode cL_law 1164 = .ok (.iadd, 1) := dk_96 (dk_at dksL_law_42 9 rfl rfl)
theorem dL_law_1165 : decode cL_law 1165 = .ok (.iaload, 1) := dk_46 (dk_at dksL_law_42 10 rfl rfl)
theorem dL_law_1166 : decode cL_law 1166 = .ok (.aload_n 3, 1) := dk_45 (dk_at dksL_law_42 11 rfl rfl)
theorem dL_law_1167 : decode cL_law 1167 = .ok (.invokestatic 219, 3) := dk_184 0 219 (dk_at dksL_law_42 12 rfl rfl)
theorem dL_law_1170 : decode cL_law 1170 = .ok (.istore 5, 2) := dk_54 5 (dk_at dksL_law_42 15 rfl rfl)
theorem dL_law_1172 : decode cL_law 1172 = .ok (.aload_n 2, 1) := dk_44 (dk_at dksL_law_42 17 rfl rfl)
theorem dL_law_1173 : decode cL_law 1173 = .ok (.aload_n 0, 1) := dk_42 (dk_at dksL_law_42 18 rfl rfl)
theorem dL_law_1174 : decode cL_law 1174 = .ok (.iload 4, 2) := dk_21 4 (dk_at dksL_law_42 19 rfl rfl)
theorem dL_law_1176 : decode cL_law 1176 = .ok (.iconst 1, 1) := dk_4 (dk_at dksL_law_42 21 rfl rfl)
theorem dL_law_1177 : decode cL_law 1177 = .ok (.iadd, 1) := dk_96 (dk_at dksL_law_42 22 rfl rfl)
theorem dL_law_1178 : decode cL_law 1178 = .ok (.iaload, 1) := dk_46 (dk_at dksL_law_42 23 rfl rfl)
theorem dL_law_1179 : decode cL_law 1179 = .ok (.aload_n 0, 1) := dk_42 (dk_at dksL_law_43 0 rfl rfl)
theorem dL_law_1180 : decode cL_law 1180 = .ok (.iload 4, 2) := dk_21 4 (dk_at dksL_law_43 1 rfl rfl)
theorem dL_law_1182 : decode cL_law 1182 = .ok (.iconst 2, 1) := dk_5 (dk_at dksL_law_43 3 rfl rfl)
theorem dL_law_1183 : decode cL_law 1183 = .ok (.iadd, 1) := dk_96 (dk_at dksL_law_43 4 rfl rfl)
theorem dL_law_1184 : decode cL_law 1184 = .ok (.iaload, 1) := dk_46 (dk_at dksL_law_43 5 rfl rfl)
theorem dL_law_1185 : decode cL_law 1185 = .ok (.invokevirtual 221, 3) := dk_182 0 221 (dk_at dksL_law_43 6 rfl rfl)
theorem dL_law_1188 : decode cL_law 1188 = .ok (.istore 6, 2) := dk_54 6 (dk_at dksL_law_43 9 rfl rfl)
theorem dL_law_1190 : decode cL_law 1190 = .ok (.aload_n 2, 1) := dk_44 (dk_at dksL_law_43 11 rfl rfl)
theorem dL_law_1191 : decode cL_law 1191 = .ok (.invokevirtual 170, 3) := dk_182 0 170 (dk_at dksL_law_43 12 rfl rfl)
theorem dL_law_1194 : decode cL_law 1194 = .ok (.iload 5, 2) := dk_21 5 (dk_at dksL_law_43 15 rfl rfl)
theorem dL_law_1196 : decode cL_law 1196 = .ok (.if_icmp .eq 5, 3) := dk_159 0 5 (dk_at dksL_law_43 17 rfl rfl)
theorem dL_law_1199 : decode cL_law 1199 = .ok (.iconst 0, 1) := dk_3 (dk_at dksL_law_43 20 rfl rfl)
theorem dL_law_1200 : decode cL_law 1200 = .ok (.ireturn, 1) := dk_172 (dk_at dksL_law_43 21 rfl rfl)
theorem dL_law_1201 : decode cL_law 1201 = .ok (.iload 5, 2) := dk_21 5 (dk_at dksL_law_43 22 rfl rfl)
theorem dL_law_1203 : decode cL_law 1203 = .ok (.ifCond .ne 16, 3) := dk_154 0 16 (dk_at dksL_law_44 0 rfl rfl)
theorem dL_law_1206 : decode cL_law 1206 = .ok (.aload_n 3, 1) := dk_45 (dk_at dksL_law_44 3 rfl rfl)
theorem dL_law_1207 : decode cL_law 1207 = .ok (.getfield 13, 3) := dk_180 0 13 (dk_at dksL_law_44 4 rfl rfl)
theorem dL_law_1210 : decode cL_law 1210 = .ok (.iload 6, 2) := dk_21 6 (dk_at dksL_law_44 7 rfl rfl)
theorem dL_law_1212 : decode cL_law 1212 = .ok (.i2l, 1) := dk_133 (dk_at dksL_law_44 9 rfl rfl)
theorem dL_law_1213 : decode cL_law 1213 = .ok (.lcmp, 1) := dk_148 (dk_at dksL_law_44 10 rfl rfl)
theorem dL_law_1214 : decode cL_law 1214 = .ok (.ifCond .eq 5, 3) := dk_153 0 5 (dk_at dksL_law_44 11 rfl rfl)
theorem dL_law_1217 : decode cL_law 1217 = .ok (.iconst 0, 1) := dk_3 (dk_at dksL_law_44 14 rfl rfl)
theorem dL_law_1218 : decode cL_law 1218 = .ok (.ireturn, 1) := dk_172 (dk_at dksL_law_44 15 rfl rfl)
theorem dL_law_1219 : decode cL_law 1219 = .ok (.goto 2093, 3) := dk_167 8 45 (dk_at dksL_law_44 16 rfl rfl)
theorem dL_law_1222 : decode cL_law 1222 = .ok (.aload_n 1, 1) := dk_43 (dk_at dksL_law_44 19 rfl rfl)
theorem dL_law_1223 : decode cL_law 1223 = .ok (.aload_n 0, 1) := dk_42 (dk_at dksL_law_44 20 rfl rfl)
theorem dL_law_1224 : decode cL_law 1224 = .ok (.iload 4, 2) := dk_21 4 (dk_at dksL_law_44 21 rfl rfl)
theorem dL_law_1226 : decode cL_law 1226 = .ok (.iconst 1, 1) := dk_4 (dk_at dksL_law_44 23 rfl rfl)
theorem dL_law_1227 : decode cL_law 1227 = .ok (.iadd, 1) := dk_96 (dk_at dksL_law_45 0 rfl rfl)
theorem dL_law_1228 : decode cL_law 1228 = .ok (.iaload, 1) := dk_46 (dk_at dksL_law_45 1 rfl rfl)
theorem dL_law_1229 : decode cL_law 1229 = .ok (.aload_n 0, 1) := dk_42 (dk_at dksL_law_45 2 rfl rfl)
theorem dL_law_1230 : decode cL_law 1230 = .ok (.iload 4, 2) := dk_21 4 (dk_at dksL_law_45 3 rfl rfl)
theorem dL_law_1232 : decode cL_law 1232 = .ok (.iconst 2, 1) := dk_5 (dk_at dksL_law_45 5 rfl rfl)
theorem dL_law_1233 : decode cL_law 1233 = .ok (.iadd, 1) := dk_96 (dk_at dksL_law_45 6 rfl rfl)
theorem dL_law_1234 : decode cL_law 1234 = .ok (.iaload, 1) := dk_46 (dk_at dksL_law_45 7 rfl rfl)
theorem dL_law_1235 : decode cL_law 1235 = .ok (.aload_n 3, 1) := dk_45 (dk_at dksL_law_45 8 rfl rfl)
theorem dL_law_1236 : decode cL_law 1236 = .ok (.invokestatic 222, 3) := dk_184 0 222 (dk_at dksL_law_45 9 rfl rfl)
theorem dL_law_1239 : decode cL_law 1239 = .ok (.istore 5, 2) := dk_54 5 (dk_at dksL_law_45 12 rfl rfl)
theorem dL_law_1241 : decode cL_law 1241 = .ok (.aload_n 2, 1) := dk_44 (dk_at dksL_law_45 14 rfl rfl)
theorem dL_law_1242 : decode cL_law 1242 = .ok (.aload_n 0, 1) := dk_42 (dk_at dksL_law_45 15 rfl rfl)
theorem dL_law_1243 : decode cL_law 1243 = .ok (.iload 4, 2) := dk_21 4 (dk_at dksL_law_45 16 rfl rfl)
theorem dL_law_1245 : decode cL_law 1245 = .ok (.iconst 1, 1) := dk_4 (dk_at dksL_law_45 18 rfl rfl)
theorem dL_law_1246 : decode cL_law 1246 = .ok (.iadd, 1) := dk_96 (dk_at dksL_law_45 19 rfl rfl)
theorem dL_law_1247 : decode cL_law 1247 = .ok (.iaload, 1) := dk_46 (dk_at dksL_law_45 20 rfl rfl)
theorem dL_law_1248 : decode cL_law 1248 = .ok (.aload_n 0, 1) := dk_42 (dk_at dksL_law_45 21 rfl rfl)
theorem dL_law_1249 : decode cL_law 1249 = .ok (.iload 4, 2) := dk_21 4 (dk_at dksL_law_45 22 rfl rfl)
theorem dL_law_1251 : decode cL_law 1251 = .ok (.iconst 2, 1) := dk_5 (dk_at dksL_law_46 0 rfl rfl)
theorem dL_law_1252 : decode cL_law 1252 = .ok (.iadd, 1) := dk_96 (dk_at dksL_law_46 1 rfl rfl)
theorem dL_law_1253 : decode cL_law 1253 = .ok (.iaload, 1) := dk_46 (dk_at dksL_law_46 2 rfl rfl)
theorem dL_law_1254 : decode cL_law 1254 = .ok (.invokevirtual 224, 3) := dk_182 0 224 (dk_at dksL_law_46 3 rfl rfl)
theorem dL_law_1257 : decode cL_law 1257 = .ok (.istore 6, 2) := dk_54 6 (dk_at dksL_law_46 6 rfl rfl)
theorem dL_law_1259 : decode cL_law 1259 = .ok (.aload_n 2, 1) := dk_44 (dk_at dksL_law_46 8 rfl rfl)
theorem dL_law_1260 : decode cL_law 1260 = .ok (.invokevirtual 170, 3) := dk_182 0 170 (dk_at dksL_law_46 9 rfl rfl)
theorem dL_law_1263 : decode cL_law 1263 = .ok (.iload 5, 2) := dk_21 5 (dk_at dksL_law_46 12 rfl rfl)
theorem dL_law_1265 : decode cL_law 1265 = .ok (.if_icmp .eq 5, 3) := dk_159 0 5 (dk_at dksL_law_46 14 rfl rfl)
theorem dL_law_1268 : decode cL_law 1268 = .ok (.iconst 0, 1) := dk_3 (dk_at dksL_law_46 17 rfl rfl)
theorem dL_law_1269 : decode cL_law 1269 = .ok (.ireturn, 1) := dk_172 (dk_at dksL_law_46 18 rfl rfl)
theorem dL_law_1270 : decode cL_law 1270 = .ok (.iload 5, 2) := dk_21 5 (dk_at dksL_law_46 19 rfl rfl)
theorem dL_law_1272 : decode cL_law 1272 = .ok (.ifCond .ne 23, 3) := dk_154 0 23 (dk_at dksL_law_46 21 rfl rfl)
theorem dL_law_1275 : decode cL_law 1275 = .ok (.aload_n 3, 1) := dk_45 (dk_at dksL_law_47 0 rfl rfl)
theorem dL_law_1276 : decode cL_law 1276 = .ok (.getfield 13, 3) := dk_180 0 13 (dk_at dksL_law_47 1 rfl rfl)
theorem dL_law_1279 : decode cL_law 1279 = .ok (.iload 6, 2) := dk_21 6 (dk_at dksL_law_47 4 rfl rfl)
theorem dL_law_1281 : decode cL_law 1281 = .ok (.ifCond .eq 7, 3) := dk_153 0 7 (dk_at dksL_law_47 6 rfl rfl)
theorem dL_law_1284 : decode cL_law 1284 = .ok (.lconst 1, 1) := dk_10 (dk_at dksL_law_47 9 rfl rfl)
theorem dL_law_1285 : decode cL_law 1285 = .ok (.goto 4, 3) := dk_167 0 4 (dk_at dksL_law_47 10 rfl rfl)
theorem dL_law_1288 : decode cL_law 1288 = .ok (.lconst 0, 1) := dk_9 (dk_at dksL_law_47 13 rfl rfl)
theorem dL_law_1289 : decode cL_law 1289 = .ok (.lcmp, 1) := dk_148 (dk_at dksL_law_47 14 rfl rfl)
theorem dL_law_1290 : decode cL_law 1290 = .ok (.ifCond .eq 5, 3) := dk_153 0 5 (dk_at dksL_law_47 15 rfl rfl)
theorem dL_law_1293 : decode cL_law 1293 = .ok (.iconst 0, 1) := dk_3 (dk_at dksL_law_47 18 rfl rfl)
theorem dL_law_1294 : decode cL_law 1294 = .ok (.ireturn, 1) := dk_172 (dk_at dksL_law_47 19 rfl rfl)
theorem dL_law_1295 : decode cL_law 1295 = .ok (.goto 2017, 3) := dk_167 7 225 (dk_at dksL_law_47 20 rfl rfl)
theorem dL_law_1298 : decode cL_law 1298 = .ok (.aload_n 1, 1) := dk_43 (dk_at dksL_law_47 23 rfl rfl)
theorem dL_law_1299 : decode cL_law 1299 = .ok (.aload_n 0, 1) := dk_42 (dk_at dksL_law_48 0 rfl rfl)
theorem dL_law_1300 : decode cL_law 1300 = .ok (.iload 4, 2) := dk_21 4 (dk_at dksL_law_48 1 rfl rfl)
theorem dL_law_1302 : decode cL_law 1302 = .ok (.iconst 1, 1) := dk_4 (dk_at dksL_law_48 3 rfl rfl)
theorem dL_law_1303 : decode cL_law 1303 = .ok (.iadd, 1) := dk_96 (dk_at dksL_law_48 4 rfl rfl)
theorem dL_law_1304 : decode cL_law 1304 = .ok (.iaload, 1) := dk_46 (dk_at dksL_law_48 5 rfl rfl)
theorem dL_law_1305 : decode cL_law 1305 = .ok (.aload_n 0, 1) := dk_42 (dk_at dksL_law_48 6 rfl rfl)
theorem dL_law_1306 : decode cL_law 1306 = .ok (.iload 4, 2) := dk_21 4 (dk_at dksL_law_48 7 rfl rfl)
theorem dL_law_1308 : decode cL_law 1308 = .ok (.iconst 2, 1) := dk_5 (dk_at dksL_law_48 9 rfl rfl)
theorem dL_law_1309 : decode cL_law 1309 = .ok (.iadd, 1) := dk_96 (dk_at dksL_law_48 10 rfl rfl)
theorem dL_law_1310 : decode cL_law 1310 = .ok (.iaload, 1) := dk_46 (dk_at dksL_law_48 11 rfl rfl)
theorem dL_law_1311 : decode cL_law 1311 = .ok (.aload_n 3, 1) := dk_45 (dk_at dksL_law_48 12 rfl rfl)
theorem dL_law_1312 : decode cL_law 1312 = .ok (.invokestatic 225, 3) := dk_184 0 225 (dk_at dksL_law_48 13 rfl rfl)
theorem dL_law_1315 : decode cL_law 1315 = .ok (.istore 5, 2) := dk_54 5 (dk_at dksL_law_48 16 rfl rfl)
theorem dL_law_1317 : decode cL_law 1317 = .ok (.aload_n 2, 1) := dk_44 (dk_at dksL_law_48 18 rfl rfl)
theorem dL_law_1318 : decode cL_law 1318 = .ok (.aload_n 0, 1) := dk_42 (dk_at dksL_law_48 19 rfl rfl)
theorem dL_law_1319 : decode cL_law 1319 = .ok (.iload 4, 2) := dk_21 4 (dk_at dksL_law_48 20 rfl rfl)
theorem dL_law_1321 : decode cL_law 1321 = .ok (.iconst 1, 1) := dk_4 (dk_at dksL_law_48 22 rfl rfl)
theorem dL_law_1322 : decode cL_law 1322 = .ok (.iadd, 1) := dk_96 (dk_at dksL_law_48 23 rfl rfl)
theorem dL_law_1323 : decode cL_law 1323 = .ok (.iaload, 1) := dk_46 (dk_at dksL_law_49 0 rfl rfl)
theorem dL_law_1324 : decode cL_law 1324 = .ok (.aload_n 0, 1) := dk_42 (dk_at dksL_law_49 1 rfl rfl)
theorem dL_law_1325 : decode cL_law 1325 = .ok (.iload 4, 2) := dk_21 4 (dk_at dksL_law_49 2 rfl rfl)
theorem dL_law_1327 : decode cL_law 1327 = .ok (.iconst 2, 1) := dk_5 (dk_at dksL_law_49 4 rfl rfl)
theorem dL_law_1328 : decode cL_law 1328 = .ok (.iadd, 1) := dk_96 (dk_at dksL_law_49 5 rfl rfl)
theorem dL_law_1329 : decode cL_law 1329 = .ok (.iaload, 1) := dk_46 (dk_at dksL_law_49 6 rfl rfl)
theorem dL_law_1330 : decode cL_law 1330 = .ok (.invokevirtual 227, 3) := dk_182 0 227 (dk_at dksL_law_49 7 rfl rfl)
theorem dL_law_1333 : decode cL_law 1333 = .ok (.istore 6, 2) := dk_54 6 (dk_at dksL_law_49 10 rfl rfl)
theorem dL_law_1335 : decode cL_law 1335 = .ok (.aload_n 2, 1) := dk_44 (dk_at dksL_law_49 12 rfl rfl)
theorem dL_law_1336 : decode cL_law 1336 = .ok (.invokevirtual 170, 3) := dk_182 0 170 (dk_at dksL_law_49 13 rfl rfl)
theorem dL_law_1339 : decode cL_law 1339 = .ok (.iload 5, 2) := dk_21 5 (dk_at dksL_law_49 16 rfl rfl)
theorem dL_law_1341 : decode cL_law 1341 = .ok (.if_icmp .eq 5, 3) := dk_159 0 5 (dk_at dksL_law_49 18 rfl rfl)
theorem dL_law_1344 : decode cL_law 1344 = .ok (.iconst 0, 1) := dk_3 (dk_at dksL_law_49 21 rfl rfl)
theorem dL_law_1345 : decode cL_law 1345 = .ok (.ireturn, 1) := dk_172 (dk_at dksL_law_49 22 rfl rfl)
theorem dL_law_1346 : decode cL_law 1346 = .ok (.iload 5, 2) := dk_21 5 (dk_at dksL_law_50 0 rfl rfl)
theorem dL_law_1348 : decode cL_law 1348 = .ok (.ifCond .ne 23, 3) := dk_154 0 23 (dk_at dksL_law_50 2 rfl rfl)
theorem dL_law_1351 : decode cL_law 1351 = .ok (.aload_n 3, 1) := dk_45 (dk_at dksL_law_50 5 rfl rfl)
theorem dL_law_1352 : decode cL_law 1352 = .ok (.getfield 13, 3) := dk_180 0 13 (dk_at dksL_law_50 6 rfl rfl)
theorem dL_law_1355 : decode cL_law 1355 = .ok (.iload 6, 2) := dk_21 6 (dk_at dksL_law_50 9 rfl rfl)
theorem dL_law_1357 : decode cL_law 1357 = .ok (.ifCond .eq 7, 3) := dk_153 0 7 (dk_at dksL_law_50 11 rfl rfl)
theorem dL_law_1360 : decode cL_law 1360 = .ok (.lconst 1, 1) := dk_10 (dk_at dksL_law_50 14 rfl rfl)
theorem dL_law_1361 : decode cL_law 1361 = .ok (.goto 4, 3) := dk_167 0 4 (dk_at dksL_law_50 15 rfl rfl)
theorem dL_law_1364 : decode cL_law 1364 = .ok (.lconst 0, 1) := dk_9 (dk_at dksL_law_50 18 rfl rfl)
theorem dL_law_1365 : decode cL_law 1365 = .ok (.lcmp, 1) := dk_148 (dk_at dksL_law_50 19 rfl rfl)
theorem dL_law_1366 : decode cL_law 1366 = .ok (.ifCond .eq 5, 3) := dk_153 0 5 (dk_at dksL_law_50 20 rfl rfl)
theorem dL_law_1369 : decode cL_law 1369 = .ok (.iconst 0, 1) := dk_3 (dk_at dksL_law_50 23 rfl rfl)
theorem dL_law_1370 : decode cL_law 1370 = .ok (.ireturn, 1) := dk_172 (dk_at dksL_law_51 0 rfl rfl)
theorem dL_law_1371 : decode cL_law 1371 = .ok (.goto 1941, 3) := dk_167 7 149 (dk_at dksL_law_51 1 rfl rfl)
theorem dL_law_1374 : decode cL_law 1374 = .ok (.aload_n 1, 1) := dk_43 (dk_at dksL_law_51 4 rfl rfl)
theorem dL_law_1375 : decode cL_law 1375 = .ok (.aload_n 0, 1) := dk_42 (dk_at dksL_law_51 5 rfl rfl)
theorem dL_law_1376 : decode cL_law 1376 = .ok (.iload 4, 2) := dk_21 4 (dk_at dksL_law_51 6 rfl rfl)
theorem dL_law_1378 : decode cL_law 1378 = .ok (.iconst 1, 1) := dk_4 (dk_at dksL_law_51 8 rfl rfl)
theorem dL_law_1379 : decode cL_law 1379 = .ok (.iadd, 1) := dk_96 (dk_at dksL_law_51 9 rfl rfl)
theorem dL_law_1380 : decode cL_law 1380 = .ok (.iaload, 1) := dk_46 (dk_at dksL_law_51 10 rfl rfl)
theorem dL_law_1381 : decode cL_law 1381 = .ok (.aload_n 0, 1) := dk_42 (dk_at dksL_law_51 11 rfl rfl)
theorem dL_law_1382 : decode cL_law 1382 = .ok (.iload 4, 2) := dk_21 4 (dk_at dksL_law_51 12 rfl rfl)
theorem dL_law_1384 : decode cL_law 1384 = .ok (.iconst 2, 1) := dk_5 (dk_at dksL_law_51 14 rfl rfl)
theorem dL_law_1385 : decode cL_law 1385 = .ok (.iadd, 1) := dk_96 (dk_at dksL_law_51 15 rfl rfl)
theorem dL_law_1386 : decode cL_law 1386 = .ok (.iaload, 1) := dk_46 (dk_at dksL_law_51 16 rfl rfl)
theorem dL_law_1387 : decode cL_law 1387 = .ok (.aload_n 3, 1) := dk_45 (dk_at dksL_law_51 17 rfl rfl)
theorem dL_law_1388 : decode cL_law 1388 = .ok (.invokestatic 228, 3) := dk_184 0 228 (dk_at dksL_law_51 18 rfl rfl)
theorem dL_law_1391 : decode cL_law 1391 = .ok (.istore 5, 2) := dk_54 5 (dk_at dksL_law_51 21 rfl rfl)
theorem dL_law_1393 : decode cL_law 1393 = .ok (.aload_n 2, 1) := dk_44 (dk_at dksL_law_51 23 rfl rfl)
theorem dL_law_1394 : decode cL_law 1394 = .ok (.aload_n 0, 1) := dk_42 (dk_at dksL_law_52 0 rfl rfl)
theorem dL_law_1395 : decode cL_law 1395 = .ok (.iload 4, 2) := dk_21 4 (dk_at dksL_law_52 1 rfl rfl)
theorem dL_law_1397 : decode cL_law 1397 = .ok (.iconst 1, 1) := dk_4 (dk_at dksL_law_52 3 rfl rfl)
theorem dL_law_1398 : decode cL_law 1398 = .ok (.iadd, 1) := dk_96 (dk_at dksL_law_52 4 rfl rfl)
theorem dL_law_1399 : decode cL_law 1399 = .ok (.iaload, 1) := dk_46 (dk_at dksL_law_52 5 rfl rfl)
theorem dL_law_1400 : decode cL_law 1400 = .ok (.aload_n 0, 1) := dk_42 (dk_at dksL_law_52 6 rfl rfl)
theorem dL_law_1401 : decode cL_law 1401 = .ok (.iload 4, 2) := dk_21 4 (dk_at dksL_law_52 7 rfl rfl)
theorem dL_law_1403 : decode cL_law 1403 = .ok (.iconst 2, 1) := dk_5 (dk_at dksL_law_52 9 rfl rfl)
theorem dL_law_1404 : decode cL_law 1404 = .ok (.iadd, 1) := dk_96 (dk_at dksL_law_52 10 rfl rfl)
theorem dL_law_1405 : decode cL_law 1405 = .ok (.iaload, 1) := dk_46 (dk_at dksL_law_52 11 rfl rfl)
theorem dL_law_1406 : decode cL_law 1406 = .ok (.invokevirtual 230, 3) := dk_182 0 230 (dk_at dksL_law_52 12 rfl rfl)
theorem dL_law_1409 : decode cL_law 1409 = .ok (.istore 6, 2) := dk_54 6 (dk_at dksL_law_52 15 rfl rfl)
theorem dL_law_1411 : decode cL_law 1411 = .ok (.aload_n 2, 1) := dk_44 (dk_at dksL_law_52 17 rfl rfl)
theorem dL_law_1412 : decode cL_law 1412 = .ok (.invokevirtual 170, 3) := dk_182 0 170 (dk_at dksL_law_52 18 rfl rfl)
theorem dL_law_1415 : decode cL_law 1415 = .ok (.iload 5, 2) := dk_21 5 (dk_at dksL_law_52 21 rfl rfl)
theorem dL_law_1417 : decode cL_law 1417 = .ok (.if_icmp .eq 5, 3) := dk_159 0 5 (dk_at dksL_law_53 0 rfl rfl)
theorem dL_law_1420 : decode cL_law 1420 = .ok (.iconst 0, 1) := dk_3 (dk_at dksL_law_53 3 rfl rfl)
theorem dL_law_1421 : decode cL_law 1421 = .ok (.ireturn, 1) := dk_172 (dk_at dksL_law_53 4 rfl rfl)
theorem dL_law_1422 : decode cL_law 1422 = .ok (.iload 5, 2) := dk_21 5 (dk_at dksL_law_53 5 rfl rfl)
theorem dL_law_1424 : decode cL_law 1424 = .ok (.ifCond .ne 16, 3) := dk_154 0 16 (dk_at dksL_law_53 7 rfl rfl)
theorem dL_law_1427 : decode cL_law 1427 = .ok (.aload_n 3, 1) := dk_45 (dk_at dksL_law_53 10 rfl rfl)
theorem dL_law_1428 : decode cL_law 1428 = .ok (.getfield 13, 3) := dk_180 0 13 (dk_at dksL_law_53 11 rfl rfl)
theorem dL_law_1431 : decode cL_law 1431 = .ok (.iload 6, 2) := dk_21 6 (dk_at dksL_law_53 14 rfl rfl)
theorem dL_law_1433 : decode cL_law 1433 = .ok (.i2l, 1) := dk_133 (dk_at dksL_law_53 16 rfl rfl)
theorem dL_law_1434 : decode cL_law 1434 = .ok (.lcmp, 1) := dk_148 (dk_at dksL_law_53 17 rfl rfl)
theorem dL_law_1435 : decode cL_law 1435 = .ok (.ifCond .eq 5, 3) := dk_153 0 5 (dk_at dksL_law_53 18 rfl rfl)
theorem dL_law_1438 : decode cL_law 1438 = .ok (.iconst 0, 1) := dk_3 (dk_at dksL_law_53 21 rfl rfl)
theorem dL_law_1439 : decode cL_law 1439 = .ok (.ireturn, 1) := dk_172 (dk_at dksL_law_53 22 rfl rfl)
theorem dL_law_1440 : decode cL_law 1440 = .ok (.goto 1872, 3) := dk_167 7 80 (dk_at dksL_law_54 0 rfl rfl)
theorem dL_law_1443 : decode cL_law 1443 = .ok (.aload_n 1, 1) := dk_43 (dk_at dksL_law_54 3 rfl rfl)
theorem dL_law_1444 : decode cL_law 1444 = .ok (.aload_n 0, 1) := dk_42 (dk_at dksL_law_54 4 rfl rfl)
theorem dL_law_1445 : decode cL_law 1445 = .ok (.iload 4, 2) := dk_21 4 (dk_at dksL_law_54 5 rfl rfl)
theorem dL_law_1447 : decode cL_law 1447 = .ok (.iconst 1, 1) := dk_4 (dk_at dksL_law_54 7 rfl rfl)
theorem dL_law_1448 : decode cL_law 1448 = .ok (.iadd, 1) := dk_96 (dk_at dksL_law_54 8 rfl rfl)
theorem dL_law_1449 : decode cL_law 1449 = .ok (.iaload, 1) := dk_46 (dk_at dksL_law_54 9 rfl rfl)
theorem dL_law_1450 : decode cL_law 1450 = .ok (.aload_n 0, 1) := dk_42 (dk_at dksL_law_54 10 rfl rfl)
theorem dL_law_1451 : decode cL_law 1451 = .ok (.iload 4, 2) := dk_21 4 (dk_at dksL_law_54 11 rfl rfl)
theorem dL_law_1453 : decode cL_law 1453 = .ok (.iconst 2, 1) := dk_5 (dk_at dksL_law_54 13 rfl rfl)
theorem dL_law_1454 : decode cL_law 1454 = .ok (.iadd, 1) := dk_96 (dk_at dksL_law_54 14 rfl rfl)
theorem dL_law_1455 : decode cL_law 1455 = .ok (.iaload, 1) := dk_46 (dk_at dksL_law_54 15 rfl rfl)
theorem dL_law_1456 : decode cL_law 1456 = .ok (.aload_n 3, 1) := dk_45 (dk_at dksL_law_54 16 rfl rfl)
theorem dL_law_1457 : decode cL_law 1457 = .ok (.invokestatic 231, 3) := dk_184 0 231 (dk_at dksL_law_54 17 rfl rfl)
theorem dL_law_1460 : decode cL_law 1460 = .ok (.istore 5, 2) := dk_54 5 (dk_at dksL_law_54 20 rfl rfl)
theorem dL_law_1462 : decode cL_law 1462 = .ok (.aload_n 2, 1) := dk_44 (dk_at dksL_law_54 22 rfl rfl)
theorem dL_law_1463 : decode cL_law 1463 = .ok (.aload_n 0, 1) := dk_42 (dk_at dksL_law_54 23 rfl rfl)
theorem dL_law_1464 : decode cL_law 1464 = .ok (.iload 4, 2) := dk_21 4 (dk_at dksL_law_55 0 rfl rfl)
theorem dL_law_1466 : decode cL_law 1466 = .ok (.iconst 1, 1) := dk_4 (dk_at dksL_law_55 2 rfl rfl)
theorem dL_law_1467 : decode cL_law 1467 = .ok (.iadd, 1) := dk_96 (dk_at dksL_law_55 3 rfl rfl)
theorem dL_law_1468 : decode cL_law 1468 = .ok (.iaload, 1) := dk_46 (dk_at dksL_law_55 4 rfl rfl)
theorem dL_law_1469 : decode cL_law 1469 = .ok (.aload_n 0, 1) := dk_42 (dk_at dksL_law_55 5 rfl rfl)
theorem dL_law_1470 : decode cL_law 1470 = .ok (.iload 4, 2) := dk_21 4 (dk_at dksL_law_55 6 rfl rfl)
theorem dL_law_1472 : decode cL_law 1472 = .ok (.iconst 2, 1) := dk_5 (dk_at dksL_law_55 8 rfl rfl)
theorem dL_law_1473 : decode cL_law 1473 = .ok (.iadd, 1) := dk_96 (dk_at dksL_law_55 9 rfl rfl)
theorem dL_law_1474 : decode cL_law 1474 = .ok (.iaload, 1) := dk_46 (dk_at dksL_law_55 10 rfl rfl)
theorem dL_law_1475 : decode cL_law 1475 = .ok (.invokevirtual 233, 3) := dk_182 0 233 (dk_at dksL_law_55 11 rfl rfl)
theorem dL_law_1478 : decode cL_law 1478 = .ok (.istore 6, 2) := dk_54 6 (dk_at dksL_law_55 14 rfl rfl)
theorem dL_law_1480 : decode cL_law 1480 = .ok (.aload_n 2, 1) := dk_44 (dk_at dksL_law_55 16 rfl rfl)
theorem dL_law_1481 : decode cL_law 1481 = .ok (.invokevirtual 170, 3) := dk_182 0 170 (dk_at dksL_law_55 17 rfl rfl)
theorem dL_law_1484 : decode cL_law 1484 = .ok (.iload 5, 2) := dk_21 5 (dk_at dksL_law_55 20 rfl rfl)
theorem dL_law_1486 : decode cL_law 1486 = .ok (.if_icmp .eq 5, 3) := dk_159 0 5 (dk_at dksL_law_56 0 rfl rfl)
theorem dL_law_1489 : decode cL_law 1489 = .ok (.iconst 0, 1) := dk_3 (dk_at dksL_law_56 3 rfl rfl)
theorem dL_law_1490 : decode cL_law 1490 = .ok (.ireturn, 1) := dk_172 (dk_at dksL_law_56 4 rfl rfl)
theorem dL_law_1491 : decode cL_law 1491 = .ok (.iload 5, 2) := dk_21 5 (dk_at dksL_law_56 5 rfl rfl)
theorem dL_law_1493 : decode cL_law 1493 = .ok (.ifCond .ne 23, 3) := dk_154 0 23 (dk_at dksL_law_56 7 rfl rfl)
theorem dL_law_1496 : decode cL_law 1496 = .ok (.aload_n 3, 1) := dk_45 (dk_at dksL_law_56 10 rfl rfl)
theorem dL_law_1497 : decode cL_law 1497 = .ok (.getfield 13, 3) := dk_180 0 13 (dk_at dksL_law_56 11 rfl rfl)
theorem dL_law_1500 : decode cL_law 1500 = .ok (.iload 6, 2) := dk_21 6 (dk_at dksL_law_56 14 rfl rfl)
theorem dL_law_1502 : decode cL_law 1502 = .ok (.ifCond .eq 7, 3) := dk_153 0 7 (dk_at dksL_law_56 16 rfl rfl)
theorem dL_law_1505 : decode cL_law 1505 = .ok (.lconst 1, 1) := dk_10 (dk_at dksL_law_56 19 rfl rfl)
theorem dL_law_1506 : decode cL_law 1506 = .ok (.goto 4, 3) := dk_167 0 4 (dk_at dksL_law_56 20 rfl rfl)
theorem dL_law_1509 : decode cL_law 1509 = .ok (.lconst 0, 1) := dk_9 (dk_at dksL_law_56 23 rfl rfl)
theorem dL_law_1510 : decode cL_law 1510 = .ok (.lcmp, 1) := dk_148 (dk_at dksL_law_57 0 rfl rfl)
theorem dL_law_1511 : decode cL_law 1511 = .ok (.ifCond .eq 5, 3) := dk_153 0 5 (dk_at dksL_law_57 1 rfl rfl)
theorem dL_law_1514 : decode cL_law 1514 = .ok (.iconst 0, 1) := dk_3 (dk_at dksL_law_57 4 rfl rfl)
theorem dL_law_1515 : decode cL_law 1515 = .ok (.ireturn, 1) := dk_172 (dk_at dksL_law_57 5 rfl rfl)
theorem dL_law_1516 : decode cL_law 1516 = .ok (.goto 1796, 3) := dk_167 7 4 (dk_at dksL_law_57 6 rfl rfl)
theorem dL_law_1519 : decode cL_law 1519 = .ok (.aload_n 1, 1) := dk_43 (dk_at dksL_law_57 9 rfl rfl)
theorem dL_law_1520 : decode cL_law 1520 = .ok (.aload_n 0, 1) := dk_42 (dk_at dksL_law_57 10 rfl rfl)
theorem dL_law_1521 : decode cL_law 1521 = .ok (.iload 4, 2) := dk_21 4 (dk_at dksL_law_57 11 rfl rfl)
theorem dL_law_1523 : decode cL_law 1523 = .ok (.iconst 1, 1) := dk_4 (dk_at dksL_law_57 13 rfl rfl)
theorem dL_law_1524 : decode cL_law 1524 = .ok (.iadd, 1) := dk_96 (dk_at dksL_law_57 14 rfl rfl)
theorem dL_law_1525 : decode cL_law 1525 = .ok (.iaload, 1) := dk_46 (dk_at dksL_law_57 15 rfl rfl)
theorem dL_law_1526 : decode cL_law 1526 = .ok (.aload_n 3, 1) := dk_45 (dk_at dksL_law_57 16 rfl rfl)
theorem dL_law_1527 : decode cL_law 1527 = .ok (.invokestatic 234, 3) := dk_184 0 234 (dk_at dksL_law_57 17 rfl rfl)
theorem dL_law_1530 : decode cL_law 1530 = .ok (.istore 5, 2) := dk_54 5 (dk_at dksL_law_57 20 rfl rfl)
theorem dL_law_1532 : decode cL_law 1532 = .ok (.aload_n 2, 1) := dk_44 (dk_at dksL_law_57 22 rfl rfl)
theorem dL_law_1533 : decode cL_law 1533 = .ok (.aload_n 0, 1) := dk_42 (dk_at dksL_law_57 23 rfl rfl)
theorem dL_law_1534 : decode cL_law 1534 = .ok (.iload 4, 2) := dk_21 4 (dk_at dksL_law_58 0 rfl rfl)
theorem dL_law_1536 : decode cL_law 1536 = .ok (.iconst 1, 1) := dk_4 (dk_at dksL_law_58 2 rfl rfl)
theorem dL_law_1537 : decode cL_law 1537 = .ok (.iadd, 1) := dk_96 (dk_at dksL_law_58 3 rfl rfl)
theorem dL_law_1538 : decode cL_law 1538 = .ok (.iaload, 1) := dk_46 (dk_at dksL_law_58 4 rfl rfl)
theorem dL_law_1539 : decode cL_law 1539 = .ok (.invokevirtual 236, 3) := dk_182 0 236 (dk_at dksL_law_58 5 rfl rfl)
theorem dL_law_1542 : decode cL_law 1542 = .ok (.istore 6, 2) := dk_54 6 (dk_at dksL_law_58 8 rfl rfl)
theorem dL_law_1544 : decode cL_law 1544 = .ok (.aload_n 2, 1) := dk_44 (dk_at dksL_law_58 10 rfl rfl)
theorem dL_law_1545 : decode cL_law 1545 = .ok (.invokevirtual 170, 3) := dk_182 0 170 (dk_at dksL_law_58 11 rfl rfl)
theorem dL_law_1548 : decode cL_law 1548 = .ok (.iload 5, 2) := dk_21 5 (dk_at dksL_law_58 14 rfl rfl)
theorem dL_law_1550 : decode cL_law 1550 = .ok (.if_icmp .eq 5, 3) := dk_159 0 5 (dk_at dksL_law_58 16 rfl rfl)
theorem dL_law_1553 : decode cL_law 1553 = .ok (.iconst 0, 1) := dk_3 (dk_at dksL_law_58 19 rfl rfl)
theorem dL_law_1554 : decode cL_law 1554 = .ok (.ireturn, 1) := dk_172 (dk_at dksL_law_58 20 rfl rfl)
theorem dL_law_1555 : decode cL_law 1555 = .ok (.iload 5, 2) := dk_21 5 (dk_at dksL_law_58 21 rfl rfl)
theorem dL_law_1557 : decode cL_law 1557 = .ok (.ifCond .ne 16, 3) := dk_154 0 16 (dk_at dksL_law_59 0 rfl rfl)
theorem dL_law_1560 : decode cL_law 1560 = .ok (.aload_n 3, 1) := dk_45 (dk_at dksL_law_59 3 rfl rfl)
theorem dL_law_1561 : decode cL_law 1561 = .ok (.getfield 13, 3) := dk_180 0 13 (dk_at dksL_law_59 4 rfl rfl)
theorem dL_law_1564 : decode cL_law 1564 = .ok (.iload 6, 2) := dk_21 6 (dk_at dksL_law_59 7 rfl rfl)
theorem dL_law_1566 : decode cL_law 1566 = .ok (.i2l, 1) := dk_133 (dk_at dksL_law_59 9 rfl rfl)
theorem dL_law_1567 : decode cL_law 1567 = .ok (.lcmp, 1) := dk_148 (dk_at dksL_law_59 10 rfl rfl)
theorem dL_law_1568 : decode cL_law 1568 = .ok (.ifCond .eq 5, 3) := dk_153 0 5 (dk_at dksL_law_59 11 rfl rfl)
theorem dL_law_1571 : decode cL_law 1571 = .ok (.iconst 0, 1) := dk_3 (dk_at dksL_law_59 14 rfl rfl)
theorem dL_law_1572 : decode cL_law 1572 = .ok (.ireturn, 1) := dk_172 (dk_at dksL_law_59 15 rfl rfl)
theorem dL_law_1573 : decode cL_law 1573 = .ok (.goto 1739, 3) := dk_167 6 203 (dk_at dksL_law_59 16 rfl rfl)
theorem dL_law_1576 : decode cL_law 1576 = .ok (.aload_n 1, 1) := dk_43 (dk_at dksL_law_59 19 rfl rfl)
theorem dL_law_1577 : decode cL_law 1577 = .ok (.aload_n 0, 1) := dk_42 (dk_at dksL_law_59 20 rfl rfl)
theorem dL_law_1578 : decode cL_law 1578 = .ok (.iload 4, 2) := dk_21 4 (dk_at dksL_law_59 21 rfl rfl)
theorem dL_law_1580 : decode cL_law 1580 = .ok (.iconst 1, 1) := dk_4 (dk_at dksL_law_59 23 rfl rfl)
theorem dL_law_1581 : decode cL_law 1581 = .ok (.iadd, 1) := dk_96 (dk_at dksL_law_60 0 rfl rfl)
theorem dL_law_1582 : decode cL_law 1582 = .ok (.iaload, 1) := dk_46 (dk_at dksL_law_60 1 rfl rfl)
theorem dL_law_1583 : decode cL_law 1583 = .ok (.aload_n 0, 1) := dk_42 (dk_at dksL_law_60 2 rfl rfl)
theorem dL_law_1584 : decode cL_law 1584 = .ok (.iload 4, 2) := dk_21 4 (dk_at dksL_law_60 3 rfl rfl)
theorem dL_law_1586 : decode cL_law 1586 = .ok (.iconst 2, 1) := dk_5 (dk_at dksL_law_60 5 rfl rfl)
theorem dL_law_1587 : decode cL_law 1587 = .ok (.iadd, 1) := dk_96 (dk_at dksL_law_60 6 rfl rfl)
theorem dL_law_1588 : decode cL_law 1588 = .ok (.iaload, 1) := dk_46 (dk_at dksL_law_60 7 rfl rfl)
theorem dL_law_1589 : decode cL_law 1589 = .ok (.aload_n 0, 1) := dk_42 (dk_at dksL_law_60 8 rfl rfl)
theorem dL_law_1590 : decode cL_law 1590 = .ok (.iload 4, 2) := dk_21 4 (dk_at dksL_law_60 9 rfl rfl)
theorem dL_law_1592 : decode cL_law 1592 = .ok (.iconst 3, 1) := dk_6 (dk_at dksL_law_60 11 rfl rfl)
theorem dL_law_1593 : decode cL_law 1593 = .ok (.iadd, 1) := dk_96 (dk_at dksL_law_60 12 rfl rfl)
theorem dL_law_1594 : decode cL_law 1594 = .ok (.iaload, 1) := dk_46 (dk_at dksL_law_60 13 rfl rfl)
theorem dL_law_1595 : decode cL_law 1595 = .ok (.aload_n 0, 1) := dk_42 (dk_at dksL_law_60 14 rfl rfl)
theorem dL_law_1596 : decode cL_law 1596 = .ok (.iload 4, 2) := dk_21 4 (dk_at dksL_law_60 15 rfl rfl)
theorem dL_law_1598 : decode cL_law 1598 = .ok (.iconst 4, 1) := dk_7 (dk_at dksL_law_60 17 rfl rfl)
theorem dL_law_1599 : decode cL_law 1599 = .ok (.iadd, 1) := dk_96 (dk_at dksL_law_60 18 rfl rfl)
theorem dL_law_1600 : decode cL_law 1600 = .ok (.iaload, 1) := dk_46 (dk_at dksL_law_60 19 rfl rfl)
theorem dL_law_1601 : decode cL_law 1601 = .ok (.ifCond .eq 7, 3) := dk_153 0 7 (dk_at dksL_law_60 20 rfl rfl)
theorem dL_law_1604 : decode cL_law 1604 = .ok (.iconst 1, 1) := dk_4 (dk_at dksL_law_60 23 rfl rfl)
theorem dL_law_1605 : decode cL_law 1605 = .ok (.goto 4, 3) := dk_167 0 4 (dk_at dksL_law_61 0 rfl rfl)
theorem dL_law_1608 : decode cL_law 1608 = .ok (.iconst 0, 1) := dk_3 (dk_at dksL_law_61 3 rfl rfl)
theorem dL_law_1609 : decode cL_law 1609 = .ok (.aload_n 3, 1) := dk_45 (dk_at dksL_law_61 4 rfl rfl)
theorem dL_law_1610 : decode cL_law 1610 = .ok (.invokestatic 237, 3) := dk_184 0 237 (dk_at dksL_law_61 5 rfl rfl)
theorem dL_law_1613 : decode cL_law 1613 = .ok (.istore 5, 2) := dk_54 5 (dk_at dksL_law_61 8 rfl rfl)
theorem dL_law_1615 : decode cL_law 1615 = .ok (.aload_n 2, 1) := dk_44 (dk_at dksL_law_61 10 rfl rfl)
theorem dL_law_1616 : decode cL_law 1616 = .ok (.aload_n 0, 1) := dk_42 (dk_at dksL_law_61 11 rfl rfl)
theorem dL_law_1617 : decode cL_law 1617 = .ok (.iload 4, 2) := dk_21 4 (dk_at dksL_law_61 12 rfl rfl)
theorem dL_law_1619 : decode cL_law 1619 = .ok (.iconst 1, 1) := dk_4 (dk_at dksL_law_61 14 rfl rfl)
theorem dL_law_1620 : decode cL_law 1620 = .ok (.iadd, 1) := dk_96 (dk_at dksL_law_61 15 rfl rfl)
theorem dL_law_1621 : decode cL_law 1621 = .ok (.iaload, 1) := dk_46 (dk_at dksL_law_61 16 rfl rfl)
theorem dL_law_1622 : decode cL_law 1622 = .ok (.aload_n 0, 1) := dk_42 (dk_at dksL_law_61 17 rfl rfl)
theorem dL_law_1623 : decode cL_law 1623 = .ok (.iload 4, 2) := dk_21 4 (dk_at dksL_law_61 18 rfl rfl)
theorem dL_law_1625 : decode cL_law 1625 = .ok (.iconst 2, 1) := dk_5 (dk_at dksL_law_61 20 rfl rfl)
theorem dL_law_1626 : decode cL_law 1626 = .ok (.iadd, 1) := dk_96 (dk_at dksL_law_61 21 rfl rfl)
theorem dL_law_1627 : decode cL_law 1627 = .ok (.iaload, 1) := dk_46 (dk_at dksL_law_61 22 rfl rfl)
theorem dL_law_1628 : decode cL_law 1628 = .ok (.aload_n 0, 1) := dk_42 (dk_at dksL_law_61 23 rfl rfl)
theorem dL_law_1629 : decode cL_law 1629 = .ok (.iload 4, 2) := dk_21 4 (dk_at dksL_law_62 0 rfl rfl)
theorem dL_law_1631 : decode cL_law 1631 = .ok (.iconst 3, 1) := dk_6 (dk_at dksL_law_62 2 rfl rfl)
theorem dL_law_1632 : decode cL_law 1632 = .ok (.iadd, 1) := dk_96 (dk_at dksL_law_62 3 rfl rfl)
theorem dL_law_1633 : decode cL_law 1633 = .ok (.iaload, 1) := dk_46 (dk_at dksL_law_62 4 rfl rfl)
theorem dL_law_1634 : decode cL_law 1634 = .ok (.aload_n 0, 1) := dk_42 (dk_at dksL_law_62 5 rfl rfl)
theorem dL_law_1635 : decode cL_law 1635 = .ok (.iload 4, 2) := dk_21 4 (dk_at dksL_law_62 6 rfl rfl)
theorem dL_law_1637 : decode cL_law 1637 = .ok (.iconst 4, 1) := dk_7 (dk_at dksL_law_62 8 rfl rfl)
theorem dL_law_1638 : decode cL_law 1638 = .ok (.iadd, 1) := dk_96 (dk_at dksL_law_62 9 rfl rfl)
theorem dL_law_1639 : decode cL_law 1639 = .ok (.iaload, 1) := dk_46 (dk_at dksL_law_62 10 rfl rfl)
theorem dL_law_1640 : decode cL_law 1640 = .ok (.ifCond .eq 7, 3) := dk_153 0 7 (dk_at dksL_law_62 11 rfl rfl)
theorem dL_law_1643 : decode cL_law 1643 = .ok (.iconst 1, 1) := dk_4 (dk_at dksL_law_62 14 rfl rfl)
theorem dL_law_1644 : decode cL_law 1644 = .ok (.goto 4, 3) := dk_167 0 4 (dk_at dksL_law_62 15 rfl rfl)
theorem dL_law_1647 : decode cL_law 1647 = .ok (.iconst 0, 1) := dk_3 (dk_at dksL_law_62 18 rfl rfl)
theorem dL_law_1648 : decode cL_law 1648 = .ok (.invokevirtual 240, 3) := dk_182 0 240 (dk_at dksL_law_62 19 rfl rfl)
theorem dL_law_1651 : decode cL_law 1651 = .ok (.astore 6, 2) := dk_58 6 (dk_at dksL_law_62 22 rfl rfl)
theorem dL_law_1653 : decode cL_law 1653 = .ok (.aload_n 2, 1) := dk_44 (dk_at dksL_law_63 0 rfl rfl)
theorem dL_law_1654 : decode cL_law 1654 = .ok (.invokevirtual 170, 3) := dk_182 0 170 (dk_at dksL_law_63 1 rfl rfl)
theorem dL_law_1657 : decode cL_law 1657 = .ok (.iload 5, 2) := dk_21 5 (dk_at dksL_law_63 4 rfl rfl)
theorem dL_law_1659 : decode cL_law 1659 = .ok (.if_icmp .eq 5, 3) := dk_159 0 5 (dk_at dksL_law_63 6 rfl rfl)
theorem dL_law_1662 : decode cL_law 1662 = .ok (.iconst 0, 1) := dk_3 (dk_at dksL_law_63 9 rfl rfl)
theorem dL_law_1663 : decode cL_law 1663 = .ok (.ireturn, 1) := dk_172 (dk_at dksL_law_63 10 rfl rfl)
theorem dL_law_1664 : decode cL_law 1664 = .ok (.iload 5, 2) := dk_21 5 (dk_at dksL_law_63 11 rfl rfl)
theorem dL_law_1666 : decode cL_law 1666 = .ok (.ifCond .ne 17, 3) := dk_154 0 17 (dk_at dksL_law_63 13 rfl rfl)
theorem dL_law_1669 : decode cL_law 1669 = .ok (.aload_n 3, 1) := dk_45 (dk_at dksL_law_63 16 rfl rfl)
theorem dL_law_1670 : decode cL_law 1670 = .ok (.getfield 52, 3) := dk_180 0 52 (dk_at dksL_law_63 17 rfl rfl)
theorem dL_law_1673 : decode cL_law 1673 = .ok (.aload 6, 2) := dk_25 6 (dk_at dksL_law_63 20 rfl rfl)
theorem dL_law_1675 : decode cL_law 1675 = .ok (.invokevirtual 201, 3) := dk_182 0 201 (dk_at dksL_law_64 0 rfl rfl)
theorem dL_law_1678 : decode cL_law 1678 = .ok (.ifCond .ne 5, 3) := dk_154 0 5 (dk_at dksL_law_64 3 rfl rfl)
theorem dL_law_1681 : decode cL_law 1681 = .ok (.iconst 0, 1) := dk_3 (dk_at dksL_law_64 6 rfl rfl)
theorem dL_law_1682 : decode cL_law 1682 = .ok (.ireturn, 1) := dk_172 (dk_at dksL_law_64 7 rfl rfl)
theorem dL_law_1683 : decode cL_law 1683 = .ok (.goto 1629, 3) := dk_167 6 93 (dk_at dksL_law_64 8 rfl rfl)
theorem dL_law_1686 : decode cL_law 1686 = .ok (.aload_n 1, 1) := dk_43 (dk_at dksL_law_64 11 rfl rfl)
theorem dL_law_1687 : decode cL_law 1687 = .ok (.aload_n 0, 1) := dk_42 (dk_at dksL_law_64 12 rfl rfl)
theorem dL_law_1688 : decode cL_law 1688 = .ok (.iload 4, 2) := dk_21 4 (dk_at dksL_law_64 13 rfl rfl)
theorem dL_law_1690 : decode cL_law 1690 = .ok (.iconst 1, 1) := dk_4 (dk_at dksL_law_64 15 rfl rfl)
theorem dL_law_1691 : decode cL_law 1691 = .ok (.iadd, 1) := dk_96 (dk_at dksL_law_64 16 rfl rfl)
theorem dL_law_1692 : decode cL_law 1692 = .ok (.iaload, 1) := dk_46 (dk_at dksL_law_64 17 rfl rfl)
theorem dL_law_1693 : decode cL_law 1693 = .ok (.aload_n 3, 1) := dk_45 (dk_at dksL_law_64 18 rfl rfl)
theorem dL_law_1694 : decode cL_law 1694 = .ok (.invokestatic 241, 3) := dk_184 0 241 (dk_at dksL_law_64 19 rfl rfl)
theorem dL_law_1697 : decode cL_law 1697 = .ok (.istore 5, 2) := dk_54 5 (dk_at dksL_law_64 22 rfl rfl)
theorem dL_law_1699 : decode cL_law 1699 = .ok (.aload_n 2, 1) := dk_44 (dk_at dksL_law_65 0 rfl rfl)
theorem dL_law_1700 : decode cL_law 1700 = .ok (.aload_n 0, 1) := dk_42 (dk_at dksL_law_65 1 rfl rfl)
theorem dL_law_1701 : decode cL_law 1701 = .ok (.iload 4, 2) := dk_21 4 (dk_at dksL_law_65 2 rfl rfl)
theorem dL_law_1703 : decode cL_law 1703 = .ok (.iconst 1, 1) := dk_4 (dk_at dksL_law_65 4 rfl rfl)
theorem dL_law_1704 : decode cL_law 1704 = .ok (.iadd, 1) := dk_96 (dk_at dksL_law_65 5 rfl rfl)
theorem dL_law_1705 : decode cL_law 1705 = .ok (.iaload, 1) := dk_46 (dk_at dksL_law_65 6 rfl rfl)
theorem dL_law_1706 : decode cL_law 1706 = .ok (.invokevirtual 243, 3) := dk_182 0 243 (dk_at dksL_law_65 7 rfl rfl)
theorem dL_law_1709 : decode cL_law 1709 = .ok (.istore 6, 2) := dk_54 6 (dk_at dksL_law_65 10 rfl rfl)
theorem dL_law_1711 : decode cL_law 1711 = .ok (.aload_n 2, 1) := dk_44 (dk_at dksL_law_65 12 rfl rfl)
theorem dL_law_1712 : decode cL_law 1712 = .ok (.invokevirtual 170, 3) := dk_182 0 170 (dk_at dksL_law_65 13 rfl rfl)
theorem dL_law_1715 : decode cL_law 1715 = .ok (.iload 5, 2) := dk_21 5 (dk_at dksL_law_65 16 rfl rfl)
theorem dL_law_1717 : decode cL_law 1717 = .ok (.if_icmp .eq 5, 3) := dk_159 0 5 (dk_at dksL_law_65 18 rfl rfl)
theorem dL_law_1720 : decode cL_law 1720 = .ok (.iconst 0, 1) := dk_3 (dk_at dksL_law_65 21 rfl rfl)
theorem dL_law_1721 : decode cL_law 1721 = .ok (.ireturn, 1) := dk_172 (dk_at dksL_law_65 22 rfl rfl)
theorem dL_law_1722 : decode cL_law 1722 = .ok (.iload 5, 2) := dk_21 5 (dk_at dksL_law_66 0 rfl rfl)
theorem dL_law_1724 : decode cL_law 1724 = .ok (.ifCond .ne 16, 3) := dk_154 0 16 (dk_at dksL_law_66 2 rfl rfl)
theorem dL_law_1727 : decode cL_law 1727 = .ok (.aload_n 3, 1) := dk_45 (dk_at dksL_law_66 5 rfl rfl)
theorem dL_law_1728 : decode cL_law 1728 = .ok (.getfield 13, 3) := dk_180 0 13 (dk_at dksL_law_66 6 rfl rfl)
theorem dL_law_1731 : decode cL_law 1731 = .ok (.iload 6, 2) := dk_21 6 (dk_at dksL_law_66 9 rfl rfl)
theorem dL_law_1733 : decode cL_law 1733 = .ok (.i2l, 1) := dk_133 (dk_at dksL_law_66 11 rfl rfl)
theorem dL_law_1734 : decode cL_law 1734 = .ok (.lcmp, 1) := dk_148 (dk_at dksL_law_66 12 rfl rfl)
theorem dL_law_1735 : decode cL_law 1735 = .ok (.ifCond .eq 5, 3) := dk_153 0 5 (dk_at dksL_law_66 13 rfl rfl)
theorem dL_law_1738 : decode cL_law 1738 = .ok (.iconst 0, 1) := dk_3 (dk_at dksL_law_66 16 rfl rfl)
theorem dL_law_1739 : decode cL_law 1739 = .ok (.ireturn, 1) := dk_172 (dk_at dksL_law_66 17 rfl rfl)
theorem dL_law_1740 : decode cL_law 1740 = .ok (.goto 1572, 3) := dk_167 6 36 (dk_at dksL_law_66 18 rfl rfl)
theorem dL_law_1743 : decode cL_law 1743 = .ok (.aload_n 1, 1) := dk_43 (dk_at dksL_law_66 21 rfl rfl)
theorem dL_law_1744 : decode cL_law 1744 = .ok (.aload_n 0, 1) := dk_42 (dk_at dksL_law_66 22 rfl rfl)
theorem dL_law_1745 : decode cL_law 1745 = .ok (.iload 4, 2) := dk_21 4 (dk_at dksL_law_67 0 rfl rfl)
theorem dL_law_1747 : decode cL_law 1747 = .ok (.iconst 1, 1) := dk_4 (dk_at dksL_law_67 2 rfl rfl)
theorem dL_law_1748 : decode cL_law 1748 = .ok (.iadd, 1) := dk_96 (dk_at dksL_law_67 3 rfl rfl)
theorem dL_law_1749 : decode cL_law 1749 = .ok (.iaload, 1) := dk_46 (dk_at dksL_law_67 4 rfl rfl)
theorem dL_law_1750 : decode cL_law 1750 = .ok (.aload_n 0, 1) := dk_42 (dk_at dksL_law_67 5 rfl rfl)
theorem dL_law_1751 : decode cL_law 1751 = .ok (.iload 4, 2) := dk_21 4 (dk_at dksL_law_67 6 rfl rfl)
theorem dL_law_1753 : decode cL_law 1753 = .ok (.iconst 2, 1) := dk_5 (dk_at dksL_law_67 8 rfl rfl)
theorem dL_law_1754 : decode cL_law 1754 = .ok (.iadd, 1) := dk_96 (dk_at dksL_law_67 9 rfl rfl)
theorem dL_law_1755 : decode cL_law 1755 = .ok (.iaload, 1) := dk_46 (dk_at dksL_law_67 10 rfl rfl)
theorem dL_law_1756 : decode cL_law 1756 = .ok (.aload_n 0, 1) := dk_42 (dk_at dksL_law_67 11 rfl rfl)
theorem dL_law_1757 : decode cL_law 1757 = .ok (.iload 4, 2) := dk_21 4 (dk_at dksL_law_67 12 rfl rfl)
theorem dL_law_1759 : decode cL_law 1759 = .ok (.iconst 3, 1) := dk_6 (dk_at dksL_law_67 14 rfl rfl)
theorem dL_law_1760 : decode cL_law 1760 = .ok (.iadd, 1) := dk_96 (dk_at dksL_law_67 15 rfl rfl)
theorem dL_law_1761 : decode cL_law 1761 = .ok (.iaload, 1) := dk_46 (dk_at dksL_law_67 16 rfl rfl)
theorem dL_law_1762 : decode cL_law 1762 = .ok (.aload_n 0, 1) := dk_42 (dk_at dksL_law_67 17 rfl rfl)
theorem dL_law_1763 : decode cL_law 1763 = .ok (.iload 4, 2) := dk_21 4 (dk_at dksL_law_67 18 rfl rfl)
theorem dL_law_1765 : decode cL_law 1765 = .ok (.iconst 4, 1) := dk_7 (dk_at dksL_law_67 20 rfl rfl)
theorem dL_law_1766 : decode cL_law 1766 = .ok (.iadd, 1) := dk_96 (dk_at dksL_law_67 21 rfl rfl)
theorem dL_law_1767 : decode cL_law 1767 = .ok (.iaload, 1) := dk_46 (dk_at dksL_law_67 22 rfl rfl)
theorem dL_law_1768 : decode cL_law 1768 = .ok (.aload_n 0, 1) := dk_42 (dk_at dksL_law_67 23 rfl rfl)
theorem dL_law_1769 : decode cL_law 1769 = .ok (.iload 4, 2) := dk_21 4 (dk_at dksL_law_68 0 rfl rfl)
theorem dL_law_1771 : decode cL_law 1771 = .ok (.iconst 5, 1) := dk_8 (dk_at dksL_law_68 2 rfl rfl)
theorem dL_law_1772 : decode cL_law 1772 = .ok (.iadd, 1) := dk_96 (dk_at dksL_law_68 3 rfl rfl)
theorem dL_law_1773 : decode cL_law 1773 = .ok (.iaload, 1) := dk_46 (dk_at dksL_law_68 4 rfl rfl)
theorem dL_law_1774 : decode cL_law 1774 = .ok (.ifCond .eq 7, 3) := dk_153 0 7 (dk_at dksL_law_68 5 rfl rfl)
theorem dL_law_1777 : decode cL_law 1777 = .ok (.iconst 1, 1) := dk_4 (dk_at dksL_law_68 8 rfl rfl)
theorem dL_law_1778 : decode cL_law 1778 = .ok (.goto 4, 3) := dk_167 0 4 (dk_at dksL_law_68 9 rfl rfl)
theorem dL_law_1781 : decode cL_law 1781 = .ok (.iconst 0, 1) := dk_3 (dk_at dksL_law_68 12 rfl rfl)
theorem dL_law_1782 : decode cL_law 1782 = .ok (.aload_n 3, 1) := dk_45 (dk_at dksL_law_68 13 rfl rfl)
theorem dL_law_1783 : decode cL_law 1783 = .ok (.invokestatic 244, 3) := dk_184 0 244 (dk_at dksL_law_68 14 rfl rfl)
theorem dL_law_1786 : decode cL_law 1786 = .ok (.istore 5, 2) := dk_54 5 (dk_at dksL_law_68 17 rfl rfl)
theorem dL_law_1788 : decode cL_law 1788 = .ok (.aload_n 2, 1) := dk_44 (dk_at dksL_law_68 19 rfl rfl)
theorem dL_law_1789 : decode cL_law 1789 = .ok (.aload_n 0, 1) := dk_42 (dk_at dksL_law_68 20 rfl rfl)
theorem dL_law_1790 : decode cL_law 1790 = .ok (.iload 4, 2) := dk_21 4 (dk_at dksL_law_68 21 rfl rfl)
theorem dL_law_1792 : decode cL_law 1792 = .ok (.iconst 1, 1) := dk_4 (dk_at dksL_law_68 23 rfl rfl)
theorem dL_law_1793 : decode cL_law 1793 = .ok (.iadd, 1) := dk_96 (dk_at dksL_law_69 0 rfl rfl)
theorem dL_law_1794 : decode cL_law 1794 = .ok (.iaload, 1) := dk_46 (dk_at dksL_law_69 1 rfl rfl)
theorem dL_law_1795 : decode cL_law 1795 = .ok (.aload_n 0, 1) := dk_42 (dk_at dksL_law_69 2 rfl rfl)
theorem dL_law_1796 : decode cL_law 1796 = .ok (.iload 4, 2) := dk_21 4 (dk_at dksL_law_69 3 rfl rfl)
theorem dL_law_1798 : decode cL_law 1798 = .ok (.iconst 2, 1) := dk_5 (dk_at dksL_law_69 5 rfl rfl)
theorem dL_law_1799 : decode cL_law 1799 = .ok (.iadd, 1) := dk_96 (dk_at dksL_law_69 6 rfl rfl)
theorem dL_law_1800 : decode cL_law 1800 = .ok (.iaload, 1) := dk_46 (dk_at dksL_law_69 7 rfl rfl)
theorem dL_law_1801 : decode cL_law 1801 = .ok (.aload_n 0, 1) := dk_42 (dk_at dksL_law_69 8 rfl rfl)
theorem dL_law_1802 : decode cL_law 1802 = .ok (.iload 4, 2) := dk_21 4 (dk_at dksL_law_69 9 rfl rfl)
theorem dL_law_1804 : decode cL_law 1804 = .ok (.iconst 3, 1) := dk_6 (dk_at dksL_law_69 11 rfl rfl)
theorem dL_law_1805 : decode cL_law 1805 = .ok (.iadd, 1) := dk_96 (dk_at dksL_law_69 12 rfl rfl)
theorem dL_law_1806 : decode cL_law 1806 = .ok (.iaload, 1) := dk_46 (dk_at dksL_law_69 13 rfl rfl)
theorem dL_law_1807 : decode cL_law 1807 = .ok (.aload_n 0, 1) := dk_42 (dk_at dksL_law_69 14 rfl rfl)
theorem dL_law_1808 : decode cL_law 1808 = .ok (.iload 4, 2) := dk_21 4 (dk_at dksL_law_69 15 rfl rfl)
theorem dL_law_1810 : decode cL_law 1810 = .ok (.iconst 4, 1) := dk_7 (dk_at dksL_law_69 17 rfl rfl)
theorem dL_law_1811 : decode cL_law 1811 = .ok (.iadd, 1) := dk_96 (dk_at dksL_law_69 18 rfl rfl)
theorem dL_law_1812 : decode cL_law 1812 = .ok (.iaload, 1) := dk_46 (dk_at dksL_law_69 19 rfl rfl)
theorem dL_law_1813 : decode cL_law 1813 = .ok (.aload_n 0, 1) := dk_42 (dk_at dksL_law_69 20 rfl rfl)
theorem dL_law_1814 : decode cL_law 1814 = .ok (.iload 4, 2) := dk_21 4 (dk_at dksL_law_69 21 rfl rfl)
theorem dL_law_1816 : decode cL_law 1816 = .ok (.iconst 5, 1) := dk_8 (dk_at dksL_law_69 23 rfl rfl)
theorem dL_law_1817 : decode cL_law 1817 = .ok (.iadd, 1) := dk_96 (dk_at dksL_law_70 0 rfl rfl)
theorem dL_law_1818 : decode cL_law 1818 = .ok (.iaload, 1) := dk_46 (dk_at dksL_law_70 1 rfl rfl)
theorem dL_law_1819 : decode cL_law 1819 = .ok (.ifCond .eq 7, 3) := dk_153 0 7 (dk_at dksL_law_70 2 rfl rfl)
theorem dL_law_1822 : decode cL_law 1822 = .ok (.iconst 1, 1) := dk_4 (dk_at dksL_law_70 5 rfl rfl)
theorem dL_law_1823 : decode cL_law 1823 = .ok (.goto 4, 3) := dk_167 0 4 (dk_at dksL_law_70 6 rfl rfl)
theorem dL_law_1826 : decode cL_law 1826 = .ok (.iconst 0, 1) := dk_3 (dk_at dksL_law_70 9 rfl rfl)
theorem dL_law_1827 : decode cL_law 1827 = .ok (.invokevirtual 247, 3) := dk_182 0 247 (dk_at dksL_law_70 10 rfl rfl)
theorem dL_law_1830 : decode cL_law 1830 = .ok (.istore 6, 2) := dk_54 6 (dk_at dksL_law_70 13 rfl rfl)
theorem dL_law_1832 : decode cL_law 1832 = .ok (.aload_n 2, 1) := dk_44 (dk_at dksL_law_70 15 rfl rfl)
theorem dL_law_1833 : decode cL_law 1833 = .ok (.invokevirtual 170, 3) := dk_182 0 170 (dk_at dksL_law_70 16 rfl rfl)
theorem dL_law_1836 : decode cL_law 1836 = .ok (.iload 5, 2) := dk_21 5 (dk_at dksL_law_70 19 rfl rfl)
theorem dL_law_1838 : decode cL_law 1838 = .ok (.if_icmp .eq 5, 3) := dk_159 0 5 (dk_at dksL_law_70 21 rfl rfl)
theorem dL_law_1841 : decode cL_law 1841 = .ok (.iconst 0, 1) := dk_3 (dk_at dksL_law_71 0 rfl rfl)
theorem dL_law_1842 : decode cL_law 1842 = .ok (.ireturn, 1) := dk_172 (dk_at dksL_law_71 1 rfl rfl)
theorem dL_law_1843 : decode cL_law 1843 = .ok (.iload 5, 2) := dk_21 5 (dk_at dksL_law_71 2 rfl rfl)
theorem dL_law_1845 : decode cL_law 1845 = .ok (.ifCond .ne 16, 3) := dk_154 0 16 (dk_at dksL_law_71 4 rfl rfl)
theorem dL_law_1848 : decode cL_law 1848 = .ok (.aload_n 3, 1) := dk_45 (dk_at dksL_law_71 7 rfl rfl)
theorem dL_law_1849 : decode cL_law 1849 = .ok (.getfield 13, 3) := dk_180 0 13 (dk_at dksL_law_71 8 rfl rfl)
theorem dL_law_1852 : decode cL_law 1852 = .ok (.iload 6, 2) := dk_21 6 (dk_at dksL_law_71 11 rfl rfl)
theorem dL_law_1854 : decode cL_law 1854 = .ok (.i2l, 1) := dk_133 (dk_at dksL_law_71 13 rfl rfl)
theorem dL_law_1855 : decode cL_law 1855 = .ok (.lcmp, 1) := dk_148 (dk_at dksL_law_71 14 rfl rfl)
theorem dL_law_1856 : decode cL_law 1856 = .ok (.ifCond .eq 5, 3) := dk_153 0 5 (dk_at dksL_law_71 15 rfl rfl)
theorem dL_law_1859 : decode cL_law 1859 = .ok (.iconst 0, 1) := dk_3 (dk_at dksL_law_71 18 rfl rfl)
theorem dL_law_1860 : decode cL_law 1860 = .ok (.ireturn, 1) := dk_172 (dk_at dksL_law_71 19 rfl rfl)
theorem dL_law_1861 : decode cL_law 1861 = .ok (.goto 1451, 3) := dk_167 5 171 (dk_at dksL_law_71 20 rfl rfl)
theorem dL_law_1864 : decode cL_law 1864 = .ok (.aload_n 1, 1) := dk_43 (dk_at dksL_law_71 23 rfl rfl)
theorem dL_law_1865 : decode cL_law 1865 = .ok (.aload_n 0, 1) := dk_42 (dk_at dksL_law_72 0 rfl rfl)
theorem dL_law_1866 : decode cL_law 1866 = .ok (.iload 4, 2) := dk_21 4 (dk_at dksL_law_72 1 rfl rfl)
theorem dL_law_1868 : decode cL_law 1868 = .ok (.iconst 1, 1) := dk_4 (dk_at dksL_law_72 3 rfl rfl)
theorem dL_law_1869 : decode cL_law 1869 = .ok (.iadd, 1) := dk_96 (dk_at dksL_law_72 4 rfl rfl)
theorem dL_law_1870 : decode cL_law 1870 = .ok (.iaload, 1) := dk_46 (dk_at dksL_law_72 5 rfl rfl)
theorem dL_law_1871 : decode cL_law 1871 = .ok (.aload_n 0, 1) := dk_42 (dk_at dksL_law_72 6 rfl rfl)
theorem dL_law_1872 : decode cL_law 1872 = .ok (.iload 4, 2) := dk_21 4 (dk_at dksL_law_72 7 rfl rfl)
theorem dL_law_1874 : decode cL_law 1874 = .ok (.iconst 2, 1) := dk_5 (dk_at dksL_law_72 9 rfl rfl)
theorem dL_law_1875 : decode cL_law 1875 = .ok (.iadd, 1) := dk_96 (dk_at dksL_law_72 10 rfl rfl)
theorem dL_law_1876 : decode cL_law 1876 = .ok (.iaload, 1) := dk_46 (dk_at dksL_law_72 11 rfl rfl)
theorem dL_law_1877 : decode cL_law 1877 = .ok (.aload_n 0, 1) := dk_42 (dk_at dksL_law_72 12 rfl rfl)
theorem dL_law_1878 : decode cL_law 1878 = .ok (.iload 4, 2) := dk_21 4 (dk_at dksL_law_72 13 rfl rfl)
theorem dL_law_1880 : decode cL_law 1880 = .ok (.iconst 3, 1) := dk_6 (dk_at dksL_law_72 15 rfl rfl)
theorem dL_law_1881 : decode cL_law 1881 = .ok (.iadd, 1) := dk_96 (dk_at dksL_law_72 16 rfl rfl)
theorem dL_law_1882 : decode cL_law 1882 = .ok (.iaload, 1) := dk_46 (dk_at dksL_law_72 17 rfl rfl)
theorem dL_law_1883 : decode cL_law 1883 = .ok (.aload_n 3, 1) := dk_45 (dk_at dksL_law_72 18 rfl rfl)
theorem dL_law_1884 : decode cL_law 1884 = .ok (.invokestatic 248, 3) := dk_184 0 248 (dk_at dksL_law_72 19 rfl rfl)
theorem dL_law_1887 : decode cL_law 1887 = .ok (.istore 5, 2) := dk_54 5 (dk_at dksL_law_72 22 rfl rfl)
theorem dL_law_1889 : decode cL_law 1889 = .ok (.aload_n 2, 1) := dk_44 (dk_at dksL_law_73 0 rfl rfl)
theorem dL_law_1890 : decode cL_law 1890 = .ok (.aload_n 0, 1) := dk_42 (dk_at dksL_law_73 1 rfl rfl)
theorem dL_law_1891 : decode cL_law 1891 = .ok (.iload 4, 2) := dk_21 4 (dk_at dksL_law_73 2 rfl rfl)
theorem dL_law_1893 : decode cL_law 1893 = .ok (.iconst 1, 1) := dk_4 (dk_at dksL_law_73 4 rfl rfl)
theorem dL_law_1894 : decode cL_law 1894 = .ok (.iadd, 1) := dk_96 (dk_at dksL_law_73 5 rfl rfl)
theorem dL_law_1895 : decode cL_law 1895 = .ok (.iaload, 1) := dk_46 (dk_at dksL_law_73 6 rfl rfl)
theorem dL_law_1896 : decode cL_law 1896 = .ok (.aload_n 0, 1) := dk_42 (dk_at dksL_law_73 7 rfl rfl)
theorem dL_law_1897 : decode cL_law 1897 = .ok (.iload 4, 2) := dk_21 4 (dk_at dksL_law_73 8 rfl rfl)
theorem dL_law_1899 : decode cL_law 1899 = .ok (.iconst 2, 1) := dk_5 (dk_at dksL_law_73 10 rfl rfl)
theorem dL_law_1900 : decode cL_law 1900 = .ok (.iadd, 1) := dk_96 (dk_at dksL_law_73 11 rfl rfl)
theorem dL_law_1901 : decode cL_law 1901 = .ok (.iaload, 1) := dk_46 (dk_at dksL_law_73 12 rfl rfl)
theorem dL_law_1902 : decode cL_law 1902 = .ok (.aload_n 0, 1) := dk_42 (dk_at dksL_law_73 13 rfl rfl)
theorem dL_law_1903 : decode cL_law 1903 = .ok (.iload 4, 2) := dk_21 4 (dk_at dksL_law_73 14 rfl rfl)
theorem dL_law_1905 : decode cL_law 1905 = .ok (.iconst 3, 1) := dk_6 (dk_at dksL_law_73 16 rfl rfl)
theorem dL_law_1906 : decode cL_law 1906 = .ok (.iadd, 1) := dk_96 (dk_at dksL_law_73 17 rfl rfl)
theorem dL_law_1907 : decode cL_law 1907 = .ok (.iaload, 1) := dk_46 (dk_at dksL_law_73 18 rfl rfl)
theorem dL_law_1908 : decode cL_law 1908 = .ok (.invokevirtual 250, 3) := dk_182 0 250 (dk_at dksL_law_73 19 rfl rfl)
theorem dL_law_1911 : decode cL_law 1911 = .ok (.istore 6, 2) := dk_54 6 (dk_at dksL_law_73 22 rfl rfl)
theorem dL_law_1913 : decode cL_law 1913 = .ok (.aload_n 2, 1) := dk_44 (dk_at dksL_law_74 0 rfl rfl)
theorem dL_law_1914 : decode cL_law 1914 = .ok (.invokevirtual 170, 3) := dk_182 0 170 (dk_at dksL_law_74 1 rfl rfl)
theorem dL_law_1917 : decode cL_law 1917 = .ok (.iload 5, 2) := dk_21 5 (dk_at dksL_law_74 4 rfl rfl)
theorem dL_law_1919 : decode cL_law 1919 = .ok (.if_icmp .eq 5, 3) := dk_159 0 5 (dk_at dksL_law_74 6 rfl rfl)
theorem dL_law_1922 : decode cL_law 1922 = .ok (.iconst 0, 1) := dk_3 (dk_at dksL_law_74 9 rfl rfl)
theorem dL_law_1923 : decode cL_law 1923 = .ok (.ireturn, 1) := dk_172 (dk_at dksL_law_74 10 rfl rfl)
theorem dL_law_1924 : decode cL_law 1924 = .ok (.iload 5, 2) := dk_21 5 (dk_at dksL_law_74 11 rfl rfl)
theorem dL_law_1926 : decode cL_law 1926 = .ok (.ifCond .ne 16, 3) := dk_154 0 16 (dk_at dksL_law_74 13 rfl rfl)
theorem dL_law_1929 : decode cL_law 1929 = .ok (.aload_n 3, 1) := dk_45 (dk_at dksL_law_74 16 rfl rfl)
theorem dL_law_1930 : decode cL_law 1930 = .ok (.getfield 13, 3) := dk_180 0 13 (dk_at dksL_law_74 17 rfl rfl)
theorem dL_law_1933 : decode cL_law 1933 = .ok (.iload 6, 2) := dk_21 6 (dk_at dksL_law_74 20 rfl rfl)
theorem dL_law_1935 : decode cL_law 1935 = .ok (.i2l, 1) := dk_133 (dk_at dksL_law_74 22 rfl rfl)
theorem dL_law_1936 : decode cL_law 1936 = .ok (.lcmp, 1) := dk_148 (dk_at dksL_law_74 23 rfl rfl)
theorem dL_law_1937 : decode cL_law 1937 = .ok (.ifCond .eq 5, 3) := dk_153 0 5 (dk_at dksL_law_75 0 rfl rfl)
theorem dL_law_1940 : decode cL_law 1940 = .ok (.iconst 0, 1) := dk_3 (dk_at dksL_law_75 3 rfl rfl)
theorem dL_law_1941 : decode cL_law 1941 = .ok (.ireturn, 1) := dk_172 (dk_at dksL_law_75 4 rfl rfl)
theorem dL_law_1942 : decode cL_law 1942 = .ok (.goto 1370, 3) := dk_167 5 90 (dk_at dksL_law_75 5 rfl rfl)
theorem dL_law_1945 : decode cL_law 1945 = .ok (.aload_n 1, 1) := dk_43 (dk_at dksL_law_75 8 rfl rfl)
theorem dL_law_1946 : decode cL_law 1946 = .ok (.aload_n 0, 1) := dk_42 (dk_at dksL_law_75 9 rfl rfl)
theorem dL_law_1947 : decode cL_law 1947 = .ok (.iload 4, 2) := dk_21 4 (dk_at dksL_law_75 10 rfl rfl)
theorem dL_law_1949 : decode cL_law 1949 = .ok (.iconst 1, 1) := dk_4 (dk_at dksL_law_75 12 rfl rfl)
theorem dL_law_1950 : decode cL_law 1950 = .ok (.iadd, 1) := dk_96 (dk_at dksL_law_75 13 rfl rfl)
theorem dL_law_1951 : decode cL_law 1951 = .ok (.iaload, 1) := dk_46 (dk_at dksL_law_75 14 rfl rfl)
theorem dL_law_1952 : decode cL_law 1952 = .ok (.aload_n 0, 1) := dk_42 (dk_at dksL_law_75 15 rfl rfl)
theorem dL_law_1953 : decode cL_law 1953 = .ok (.iload 4, 2) := dk_21 4 (dk_at dksL_law_75 16 rfl rfl)
theorem dL_law_1955 : decode cL_law 1955 = .ok (.iconst 2, 1) := dk_5 (dk_at dksL_law_75 18 rfl rfl)
theorem dL_law_1956 : decode cL_law 1956 = .ok (.iadd, 1) := dk_96 (dk_at dksL_law_75 19 rfl rfl)
theorem dL_law_1957 : decode cL_law 1957 = .ok (.iaload, 1) := dk_46 (dk_at dksL_law_75 20 rfl rfl)
theorem dL_law_1958 : decode cL_law 1958 = .ok (.aload_n 0, 1) := dk_42 (dk_at dksL_law_75 21 rfl rfl)
theorem dL_law_1959 : decode cL_law 1959 = .ok (.iload 4, 2) := dk_21 4 (dk_at dksL_law_75 22 rfl rfl)
theorem dL_law_1961 : decode cL_law 1961 = .ok (.iconst 3, 1) := dk_6 (dk_at dksL_law_76 0 rfl rfl)
theorem dL_law_1962 : decode cL_law 1962 = .ok (.iadd, 1) := dk_96 (dk_at dksL_law_76 1 rfl rfl)
theorem dL_law_1963 : decode cL_law 1963 = .ok (.iaload, 1) := dk_46 (dk_at dksL_law_76 2 rfl rfl)
theorem dL_law_1964 : decode cL_law 1964 = .ok (.aload_n 3, 1) := dk_45 (dk_at dksL_law_76 3 rfl rfl)
theorem dL_law_1965 : decode cL_law 1965 = .ok (.invokestatic 251, 3) := dk_184 0 251 (dk_at dksL_law_76 4 rfl rfl)
theorem dL_law_1968 : decode cL_law 1968 = .ok (.istore 5, 2) := dk_54 5 (dk_at dksL_law_76 7 rfl rfl)
theorem dL_law_1970 : decode cL_law 1970 = .ok (.aload_n 2, 1) := dk_44 (dk_at dksL_law_76 9 rfl rfl)
theorem dL_law_1971 : decode cL_law 1971 = .ok (.aload_n 0, 1) := dk_42 (dk_at dksL_law_76 10 rfl rfl)
theorem dL_law_1972 : decode cL_law 1972 = .ok (.iload 4, 2) := dk_21 4 (dk_at dksL_law_76 11 rfl rfl)
theorem dL_law_1974 : decode cL_law 1974 = .ok (.iconst 1, 1) := dk_4 (dk_at dksL_law_76 13 rfl rfl)
theorem dL_law_1975 : decode cL_law 1975 = .ok (.iadd, 1) := dk_96 (dk_at dksL_law_76 14 rfl rfl)
theorem dL_law_1976 : decode cL_law 1976 = .ok (.iaload, 1) := dk_46 (dk_at dksL_law_76 15 rfl rfl)
theorem dL_law_1977 : decode cL_law 1977 = .ok (.aload_n 0, 1) := dk_42 (dk_at dksL_law_76 16 rfl rfl)
theorem dL_law_1978 : decode cL_law 1978 = .ok (.iload 4, 2) := dk_21 4 (dk_at dksL_law_76 17 rfl rfl)
theorem dL_law_1980 : decode cL_law 1980 = .ok (.iconst 2, 1) := dk_5 (dk_at dksL_law_76 19 rfl rfl)
theorem dL_law_1981 : decode cL_law 1981 = .ok (.iadd, 1) := dk_96 (dk_at dksL_law_76 20 rfl rfl)
theorem dL_law_1982 : decode cL_law 1982 = .ok (.iaload, 1) := dk_46 (dk_at dksL_law_76 21 rfl rfl)
theorem dL_law_1983 : decode cL_law 1983 = .ok (.aload_n 0, 1) := dk_42 (dk_at dksL_law_76 22 rfl rfl)
theorem dL_law_1984 : decode cL_law 1984 = .ok (.iload 4, 2) := dk_21 4 (dk_at dksL_law_77 0 rfl rfl)
theorem dL_law_1986 : decode cL_law 1986 = .ok (.iconst 3, 1) := dk_6 (dk_at dksL_law_77 2 rfl rfl)
theorem dL_law_1987 : decode cL_law 1987 = .ok (.iadd, 1) := dk_96 (dk_at dksL_law_77 3 rfl rfl)
theorem dL_law_1988 : decode cL_law 1988 = .ok (.iaload, 1) := dk_46 (dk_at dksL_law_77 4 rfl rfl)
theorem dL_law_1989 : decode cL_law 1989 = .ok (.invokevirtual 253, 3) := dk_182 0 253 (dk_at dksL_law_77 5 rfl rfl)
theorem dL_law_1992 : decode cL_law 1992 = .ok (.istore 6, 2) := dk_54 6 (dk_at dksL_law_77 8 rfl rfl)
theorem dL_law_1994 : decode cL_law 1994 = .ok (.aload_n 2, 1) := dk_44 (dk_at dksL_law_77 10 rfl rfl)
theorem dL_law_1995 : decode cL_law 1995 = .ok (.invokevirtual 170, 3) := dk_182 0 170 (dk_at dksL_law_77 11 rfl rfl)
theorem dL_law_1998 : decode cL_law 1998 = .ok (.iload 5, 2) := dk_21 5 (dk_at dksL_law_77 14 rfl rfl)
theorem dL_law_2000 : decode cL_law 2000 = .ok (.if_icmp .eq 5, 3) := dk_159 0 5 (dk_at dksL_law_77 16 rfl rfl)
theorem dL_law_2003 : decode cL_law 2003 = .ok (.iconst 0, 1) := dk_3 (dk_at dksL_law_77 19 rfl rfl)
theorem dL_law_2004 : decode cL_law 2004 = .ok (.ireturn, 1) := dk_172 (dk_at dksL_law_77 20 rfl rfl)
theorem dL_law_2005 : decode cL_law 2005 = .ok (.iload 5, 2) := dk_21 5 (dk_at dksL_law_77 21 rfl rfl)
theorem dL_law_2007 : decode cL_law 2007 = .ok (.ifCond .ne 16, 3) := dk_154 0 16 (dk_at dksL_law_78 0 rfl rfl)
theorem dL_law_2010 : decode cL_law 2010 = .ok (.aload_n 3, 1) := dk_45 (dk_at dksL_law_78 3 rfl rfl)
theorem dL_law_2011 : decode cL_law 2011 = .ok (.getfield 13, 3) := dk_180 0 13 (dk_at dksL_law_78 4 rfl rfl)
theorem dL_law_2014 : decode cL_law 2014 = .ok (.iload 6, 2) := dk_21 6 (dk_at dksL_law_78 7 rfl rfl)
theorem dL_law_2016 : decode cL_law 2016 = .ok (.i2l, 1) := dk_133 (dk_at dksL_law_78 9 rfl rfl)
theorem dL_law_2017 : decode cL_law 2017 = .ok (.lcmp, 1) := dk_148 (dk_at dksL_law_78 10 rfl rfl)
theorem dL_law_2018 : decode cL_law 2018 = .ok (.ifCond .eq 5, 3) := dk_153 0 5 (dk_at dksL_law_78 11 rfl rfl)
theorem dL_law_2021 : decode cL_law 2021 = .ok (.iconst 0, 1) := dk_3 (dk_at dksL_law_78 14 rfl rfl)
theorem dL_law_2022 : decode cL_law 2022 = .ok (.ireturn, 1) := dk_172 (dk_at dksL_law_78 15 rfl rfl)
theorem dL_law_2023 : decode cL_law 2023 = .ok (.goto 1289, 3) := dk_167 5 9 (dk_at dksL_law_78 16 rfl rfl)
theorem dL_law_2026 : decode cL_law 2026 = .ok (.aload_n 1, 1) := dk_43 (dk_at dksL_law_78 19 rfl rfl)
theorem dL_law_2027 : decode cL_law 2027 = .ok (.aload_n 0, 1) := dk_42 (dk_at dksL_law_78 20 rfl rfl)
theorem dL_law_2028 : decode cL_law 2028 = .ok (.iload 4, 2) := dk_21 4 (dk_at dksL_law_78 21 rfl rfl)
theorem dL_law_2030 : decode cL_law 2030 = .ok (.iconst 1, 1) := dk_4 (dk_at dksL_law_78 23 rfl rfl)
theorem dL_law_2031 : decode cL_law 2031 = .ok (.iadd, 1) := dk_96 (dk_at dksL_law_79 0 rfl rfl)
theorem dL_law_2032 : decode cL_law 2032 = .ok (.iaload, 1) := dk_46 (dk_at dksL_law_79 1 rfl rfl)
theorem dL_law_2033 : decode cL_law 2033 = .ok (.aload_n 0, 1) := dk_42 (dk_at dksL_law_79 2 rfl rfl)
theorem dL_law_2034 : decode cL_law 2034 = .ok (.iload 4, 2) := dk_21 4 (dk_at dksL_law_79 3 rfl rfl)
theorem dL_law_2036 : decode cL_law 2036 = .ok (.iconst 2, 1) := dk_5 (dk_at dksL_law_79 5 rfl rfl)
theorem dL_law_2037 : decode cL_law 2037 = .ok (.iadd, 1) := dk_96 (dk_at dksL_law_79 6 rfl rfl)
theorem dL_law_2038 : decode cL_law 2038 = .ok (.iaload, 1) := dk_46 (dk_at dksL_law_79 7 rfl rfl)
theorem dL_law_2039 : decode cL_law 2039 = .ok (.aload_n 3, 1) := dk_45 (dk_at dksL_law_79 8 rfl rfl)
theorem dL_law_2040 : decode cL_law 2040 = .ok (.invokestatic 254, 3) := dk_184 0 254 (dk_at dksL_law_79 9 rfl rfl)
theorem dL_law_2043 : decode cL_law 2043 = .ok (.istore 5, 2) := dk_54 5 (dk_at dksL_law_79 12 rfl rfl)
theorem dL_law_2045 : decode cL_law 2045 = .ok (.aload_n 2, 1) := dk_44 (dk_at dksL_law_79 14 rfl rfl)
theorem dL_law_2046 : decode cL_law 2046 = .ok (.aload_n 0, 1) := dk_42 (dk_at dksL_law_79 15 rfl rfl)
theorem dL_law_2047 : decode cL_law 2047 = .ok (.iload 4, 2) := dk_21 4 (dk_at dksL_law_79 16 rfl rfl)
theorem dL_law_2049 : decode cL_law 2049 = .ok (.iconst 1, 1) := dk_4 (dk_at dksL_law_79 18 rfl rfl)
theorem dL_law_2050 : decode cL_law 2050 = .ok (.iadd, 1) := dk_96 (dk_at dksL_law_79 19 rfl rfl)
theorem dL_law_2051 : decode cL_law 2051 = .ok (.iaload, 1) := dk_46 (dk_at dksL_law_79 20 rfl rfl)
theorem dL_law_2052 : decode cL_law 2052 = .ok (.aload_n 0, 1) := dk_42 (dk_at dksL_law_79 21 rfl rfl)
theorem dL_law_2053 : decode cL_law 2053 = .ok (.iload 4, 2) := dk_21 4 (dk_at dksL_law_79 22 rfl rfl)
theorem dL_law_2055 : decode cL_law 2055 = .ok (.iconst 2, 1) := dk_5 (dk_at dksL_law_80 0 rfl rfl)
theorem dL_law_2056 : decode cL_law 2056 = .ok (.iadd, 1) := dk_96 (dk_at dksL_law_80 1 rfl rfl)
theorem dL_law_2057 : decode cL_law 2057 = .ok (.iaload, 1) := dk_46 (dk_at dksL_law_80 2 rfl rfl)
theorem dL_law_2058 : decode cL_law 2058 = .ok (.invokevirtual 256, 3) := dk_182 1 0 (dk_at dksL_law_80 3 rfl rfl)
theorem dL_law_2061 : decode cL_law 2061 = .ok (.istore 6, 2) := dk_54 6 (dk_at dksL_law_80 6 rfl rfl)
theorem dL_law_2063 : decode cL_law 2063 = .ok (.aload_n 2, 1) := dk_44 (dk_at dksL_law_80 8 rfl rfl)
theorem dL_law_2064 : decode cL_law 2064 = .ok (.invokevirtual 170, 3) := dk_182 0 170 (dk_at dksL_law_80 9 rfl rfl)
theorem dL_law_2067 : decode cL_law 2067 = .ok (.iload 5, 2) := dk_21 5 (dk_at dksL_law_80 12 rfl rfl)
theorem dL_law_2069 : decode cL_law 2069 = .ok (.if_icmp .eq 5, 3) := dk_159 0 5 (dk_at dksL_law_80 14 rfl rfl)
theorem dL_law_2072 : decode cL_law 2072 = .ok (.iconst 0, 1) := dk_3 (dk_at dksL_law_80 17 rfl rfl)
theorem dL_law_2073 : decode cL_law 2073 = .ok (.ireturn, 1) := dk_172 (dk_at dksL_law_80 18 rfl rfl)
theorem dL_law_2074 : decode cL_law 2074 = .ok (.iload 5, 2) := dk_21 5 (dk_at dksL_law_80 19 rfl rfl)
theorem dL_law_2076 : decode cL_law 2076 = .ok (.ifCond .ne 16, 3) := dk_154 0 16 (dk_at dksL_law_80 21 rfl rfl)
theorem dL_law_2079 : decode cL_law 2079 = .ok (.aload_n 3, 1) := dk_45 (dk_at dksL_law_81 0 rfl rfl)
theorem dL_law_2080 : decode cL_law 2080 = .ok (.getfield 13, 3) := dk_180 0 13 (dk_at dksL_law_81 1 rfl rfl)
theorem dL_law_2083 : decode cL_law 2083 = .ok (.iload 6, 2) := dk_21 6 (dk_at dksL_law_81 4 rfl rfl)
theorem dL_law_2085 : decode cL_law 2085 = .ok (.i2l, 1) := dk_133 (dk_at dksL_law_81 6 rfl rfl)
theorem dL_law_2086 : decode cL_law 2086 = .ok (.lcmp, 1) := dk_148 (dk_at dksL_law_81 7 rfl rfl)
theorem dL_law_2087 : decode cL_law 2087 = .ok (.ifCond .eq 5, 3) := dk_153 0 5 (dk_at dksL_law_81 8 rfl rfl)
theorem dL_law_2090 : decode cL_law 2090 = .ok (.iconst 0, 1) := dk_3 (dk_at dksL_law_81 11 rfl rfl)
theorem dL_law_2091 : decode cL_law 2091 = .ok (.ireturn, 1) := dk_172 (dk_at dksL_law_81 12 rfl rfl)
theorem dL_law_2092 : decode cL_law 2092 = .ok (.goto 1220, 3) := dk_167 4 196 (dk_at dksL_law_81 13 rfl rfl)
theorem dL_law_2095 : decode cL_law 2095 = .ok (.aload_n 1, 1) := dk_43 (dk_at dksL_law_81 16 rfl rfl)
theorem dL_law_2096 : decode cL_law 2096 = .ok (.aload_n 0, 1) := dk_42 (dk_at dksL_law_81 17 rfl rfl)
theorem dL_law_2097 : decode cL_law 2097 = .ok (.iload 4, 2) := dk_21 4 (dk_at dksL_law_81 18 rfl rfl)
theorem dL_law_2099 : decode cL_law 2099 = .ok (.iconst 1, 1) := dk_4 (dk_at dksL_law_81 20 rfl rfl)
theorem dL_law_2100 : decode cL_law 2100 = .ok (.iadd, 1) := dk_96 (dk_at dksL_law_81 21 rfl rfl)
theorem dL_law_2101 : decode cL_law 2101 = .ok (.iaload, 1) := dk_46 (dk_at dksL_law_81 22 rfl rfl)
theorem dL_law_2102 : decode cL_law 2102 = .ok (.aload_n 0, 1) := dk_42 (dk_at dksL_law_81 23 rfl rfl)
theorem dL_law_2103 : decode cL_law 2103 = .ok (.iload 4, 2) := dk_21 4 (dk_at dksL_law_82 0 rfl rfl)
theorem dL_law_2105 : decode cL_law 2105 = .ok (.iconst 2, 1) := dk_5 (dk_at dksL_law_82 2 rfl rfl)
theorem dL_law_2106 : decode cL_law 2106 = .ok (.iadd, 1) := dk_96 (dk_at dksL_law_82 3 rfl rfl)
theorem dL_law_2107 : decode cL_law 2107 = .ok (.iaload, 1) := dk_46 (dk_at dksL_law_82 4 rfl rfl)
theorem dL_law_2108 : decode cL_law 2108 = .ok (.ifCond .eq 7, 3) := dk_153 0 7 (dk_at dksL_law_82 5 rfl rfl)
theorem dL_law_2111 : decode cL_law 2111 = .ok (.iconst 1, 1) := dk_4 (dk_at dksL_law_82 8 rfl rfl)
theorem dL_law_2112 : decode cL_law 2112 = .ok (.goto 4, 3) := dk_167 0 4 (dk_at dksL_law_82 9 rfl rfl)
theorem dL_law_2115 : decode cL_law 2115 = .ok (.iconst 0, 1) := dk_3 (dk_at dksL_law_82 12 rfl rfl)
theorem dL_law_2116 : decode cL_law 2116 = .ok (.aload_n 3, 1) := dk_45 (dk_at dksL_law_82 13 rfl rfl)
theorem dL_law_2117 : decode cL_law 2117 = .ok (.invokestatic 257, 3) := dk_184 1 1 (dk_at dksL_law_82 14 rfl rfl)
theorem dL_law_2120 : decode cL_law 2120 = .ok (.istore 5, 2) := dk_54 5 (dk_at dksL_law_82 17 rfl rfl)
theorem dL_law_2122 : decode cL_law 2122 = .ok (.aload_n 2, 1) := dk_44 (dk_at dksL_law_82 19 rfl rfl)
theorem dL_law_2123 : decode cL_law 2123 = .ok (.aload_n 0, 1) := dk_42 (dk_at dksL_law_82 20 rfl rfl)
theorem dL_law_2124 : decode cL_law 2124 = .ok (.iload 4, 2) := dk_21 4 (dk_at dksL_law_82 21 rfl rfl)
theorem dL_law_2126 : decode cL_law 2126 = .ok (.iconst 1, 1) := dk_4 (dk_at dksL_law_82 23 rfl rfl)
theorem dL_law_2127 : decode cL_law 2127 = .ok (.iadd, 1) := dk_96 (dk_at dksL_law_83 0 rfl rfl)
theorem dL_law_2128 : decode cL_law 2128 = .ok (.iaload, 1) := dk_46 (dk_at dksL_law_83 1 rfl rfl)
theorem dL_law_2129 : decode cL_law 2129 = .ok (.aload_n 0, 1) := dk_42 (dk_at dksL_law_83 2 rfl rfl)
theorem dL_law_2130 : decode cL_law 2130 = .ok (.iload 4, 2) := dk_21 4 (dk_at dksL_law_83 3 rfl rfl)
theorem dL_law_2132 : decode cL_law 2132 = .ok (.iconst 2, 1) := dk_5 (dk_at dksL_law_83 5 rfl rfl)
theorem dL_law_2133 : decode cL_law 2133 = .ok (.iadd, 1) := dk_96 (dk_at dksL_law_83 6 rfl rfl)
theorem dL_law_2134 : decode cL_law 2134 = .ok (.iaload, 1) := dk_46 (dk_at dksL_law_83 7 rfl rfl)
theorem dL_law_2135 : decode cL_law 2135 = .ok (.ifCond .eq 7, 3) := dk_153 0 7 (dk_at dksL_law_83 8 rfl rfl)
theorem dL_law_2138 : decode cL_law 2138 = .ok (.iconst 1, 1) := dk_4 (dk_at dksL_law_83 11 rfl rfl)
theorem dL_law_2139 : decode cL_law 2139 = .ok (.goto 4, 3) := dk_167 0 4 (dk_at dksL_law_83 12 rfl rfl)
theorem dL_law_2142 : decode cL_law 2142 = .ok (.iconst 0, 1) := dk_3 (dk_at dksL_law_83 15 rfl rfl)
theorem dL_law_2143 : decode cL_law 2143 = .ok (.invokevirtual 260, 3) := dk_182 1 4 (dk_at dksL_law_83 16 rfl rfl)
theorem dL_law_2146 : decode cL_law 2146 = .ok (.istore 6, 2) := dk_54 6 (dk_at dksL_law_83 19 rfl rfl)
theorem dL_law_2148 : decode cL_law 2148 = .ok (.aload_n 2, 1) := dk_44 (dk_at dksL_law_83 21 rfl rfl)
theorem dL_law_2149 : decode cL_law 2149 = .ok (.invokevirtual 170, 3) := dk_182 0 170 (dk_at dksL_law_84 0 rfl rfl)
theorem dL_law_2152 : decode cL_law 2152 = .ok (.iload 5, 2) := dk_21 5 (dk_at dksL_law_84 3 rfl rfl)
theorem dL_law_2154 : decode cL_law 2154 = .ok (.if_icmp .eq 5, 3) := dk_159 0 5 (dk_at dksL_law_84 5 rfl rfl)
theorem dL_law_2157 : decode cL_law 2157 = .ok (.iconst 0, 1) := dk_3 (dk_at dksL_law_84 8 rfl rfl)
theorem dL_law_2158 : decode cL_law 2158 = .ok (.ireturn, 1) := dk_172 (dk_at dksL_law_84 9 rfl rfl)
theorem dL_law_2159 : decode cL_law 2159 = .ok (.iload 5, 2) := dk_21 5 (dk_at dksL_law_84 10 rfl rfl)
theorem dL_law_2161 : decode cL_law 2161 = .ok (.ifCond .ne 16, 3) := dk_154 0 16 (dk_at dksL_law_84 12 rfl rfl)
theorem dL_law_2164 : decode cL_law 2164 = .ok (.aload_n 3, 1) := dk_45 (dk_at dksL_law_84 15 rfl rfl)
theorem dL_law_2165 : decode cL_law 2165 = .ok (.getfield 13, 3) := dk_180 0 13 (dk_at dksL_law_84 16 rfl rfl)
theorem dL_law_2168 : decode cL_law 2168 = .ok (.iload 6, 2) := dk_21 6 (dk_at dksL_law_84 19 rfl rfl)
theorem dL_law_2170 : decode cL_law 2170 = .ok (.i2l, 1) := dk_133 (dk_at dksL_law_84 21 rfl rfl)
theorem dL_law_2171 : decode cL_law 2171 = .ok (.lcmp, 1) := dk_148 (dk_at dksL_law_84 22 rfl rfl)
theorem dL_law_2172 : decode cL_law 2172 = .ok (.ifCond .eq 5, 3) := dk_153 0 5 (dk_at dksL_law_85 0 rfl rfl)
theorem dL_law_2175 : decode cL_law 2175 = .ok (.iconst 0, 1) := dk_3 (dk_at dksL_law_85 3 rfl rfl)
theorem dL_law_2176 : decode cL_law 2176 = .ok (.ireturn, 1) := dk_172 (dk_at dksL_law_85 4 rfl rfl)
theorem dL_law_2177 : decode cL_law 2177 = .ok (.goto 1135, 3) := dk_167 4 111 (dk_at dksL_law_85 5 rfl rfl)
theorem dL_law_2180 : decode cL_law 2180 = .ok (.aload_n 1, 1) := dk_43 (dk_at dksL_law_85 8 rfl rfl)
theorem dL_law_2181 : decode cL_law 2181 = .ok (.aload_n 0, 1) := dk_42 (dk_at dksL_law_85 9 rfl rfl)
theorem dL_law_2182 : decode cL_law 2182 = .ok (.iload 4, 2) := dk_21 4 (dk_at dksL_law_85 10 rfl rfl)
theorem dL_law_2184 : decode cL_law 2184 = .ok (.iconst 1, 1) := dk_4 (dk_at dksL_law_85 12 rfl rfl)
theorem dL_law_2185 : decode cL_law 2185 = .ok (.iadd, 1) := dk_96 (dk_at dksL_law_85 13 rfl rfl)
theorem dL_law_2186 : decode cL_law 2186 = .ok (.iaload, 1) := dk_46 (dk_at dksL_law_85 14 rfl rfl)
theorem dL_law_2187 : decode cL_law 2187 = .ok (.aload_n 3, 1) := dk_45 (dk_at dksL_law_85 15 rfl rfl)
theorem dL_law_2188 : decode cL_law 2188 = .ok (.invokestatic 261, 3) := dk_184 1 5 (dk_at dksL_law_85 16 rfl rfl)
theorem dL_law_2191 : decode cL_law 2191 = .ok (.istore 5, 2) := dk_54 5 (dk_at dksL_law_85 19 rfl rfl)
theorem dL_law_2193 : decode cL_law 2193 = .ok (.aload_n 2, 1) := dk_44 (dk_at dksL_law_85 21 rfl rfl)
theorem dL_law_2194 : decode cL_law 2194 = .ok (.aload_n 0, 1) := dk_42 (dk_at dksL_law_85 22 rfl rfl)
theorem dL_law_2195 : decode cL_law 2195 = .ok (.iload 4, 2) := dk_21 4 (dk_at dksL_law_86 0 rfl rfl)
theorem dL_law_2197 : decode cL_law 2197 = .ok (.iconst 1, 1) := dk_4 (dk_at dksL_law_86 2 rfl rfl)
theorem dL_law_2198 : decode cL_law 2198 = .ok (.iadd, 1) := dk_96 (dk_at dksL_law_86 3 rfl rfl)
theorem dL_law_2199 : decode cL_law 2199 = .ok (.iaload, 1) := dk_46 (dk_at dksL_law_86 4 rfl rfl)
theorem dL_law_2200 : decode cL_law 2200 = .ok (.invokevirtual 263, 3) := dk_182 1 7 (dk_at dksL_law_86 5 rfl rfl)
theorem dL_law_2203 : decode cL_law 2203 = .ok (.istore 6, 2) := dk_54 6 (dk_at dksL_law_86 8 rfl rfl)
theorem dL_law_2205 : decode cL_law 2205 = .ok (.aload_n 2, 1) := dk_44 (dk_at dksL_law_86 10 rfl rfl)
theorem dL_law_2206 : decode cL_law 2206 = .ok (.invokevirtual 170, 3) := dk_182 0 170 (dk_at dksL_law_86 11 rfl rfl)
theorem dL_law_2209 : decode cL_law 2209 = .ok (.iload 5, 2) := dk_21 5 (dk_at dksL_law_86 14 rfl rfl)
theorem dL_law_2211 : decode cL_law 2211 = .ok (.if_icmp .eq 5, 3) := dk_159 0 5 (dk_at dksL_law_86 16 rfl rfl)
theorem dL_law_2214 : decode cL_law 2214 = .ok (.iconst 0, 1) := dk_3 (dk_at dksL_law_86 19 rfl rfl)
theorem dL_law_2215 : decode cL_law 2215 = .ok (.ireturn, 1) := dk_172 (dk_at dksL_law_86 20 rfl rfl)
theorem dL_law_2216 : decode cL_law 2216 = .ok (.iload 5, 2) := dk_21 5 (dk_at dksL_law_86 21 rfl rfl)
theorem dL_law_2218 : decode cL_law 2218 = .ok (.ifCond .ne 16, 3) := dk_154 0 16 (dk_at dksL_law_87 0 rfl rfl)
theorem dL_law_2221 : decode cL_law 2221 = .ok (.aload_n 3, 1) := dk_45 (dk_at dksL_law_87 3 rfl rfl)
theorem dL_law_2222 : decode cL_law 2222 = .ok (.getfield 13, 3) := dk_180 0 13 (dk_at dksL_law_87 4 rfl rfl)
theorem dL_law_2225 : decode cL_law 2225 = .ok (.iload 6, 2) := dk_21 6 (dk_at dksL_law_87 7 rfl rfl)
theorem dL_law_2227 : decode cL_law 2227 = .ok (.i2l, 1) := dk_133 (dk_at dksL_law_87 9 rfl rfl)
theorem dL_law_2228 : decode cL_law 2228 = .ok (.lcmp, 1) := dk_148 (dk_at dksL_law_87 10 rfl rfl)
theorem dL_law_2229 : decode cL_law 2229 = .ok (.ifCond .eq 5, 3) := dk_153 0 5 (dk_at dksL_law_87 11 rfl rfl)
theorem dL_law_2232 : decode cL_law 2232 = .ok (.iconst 0, 1) := dk_3 (dk_at dksL_law_87 14 rfl rfl)
theorem dL_law_2233 : decode cL_law 2233 = .ok (.ireturn, 1) := dk_172 (dk_at dksL_law_87 15 rfl rfl)
theorem dL_law_2234 : decode cL_law 2234 = .ok (.goto 1078, 3) := dk_167 4 54 (dk_at dksL_law_87 16 rfl rfl)
theorem dL_law_2237 : decode cL_law 2237 = .ok (.aload_n 1, 1) := dk_43 (dk_at dksL_law_87 19 rfl rfl)
theorem dL_law_2238 : decode cL_law 2238 = .ok (.aload_n 0, 1) := dk_42 (dk_at dksL_law_87 20 rfl rfl)
theorem dL_law_2239 : decode cL_law 2239 = .ok (.iload 4, 2) := dk_21 4 (dk_at dksL_law_87 21 rfl rfl)
theorem dL_law_2241 : decode cL_law 2241 = .ok (.iconst 1, 1) := dk_4 (dk_at dksL_law_87 23 rfl rfl)
theorem dL_law_2242 : decode cL_law 2242 = .ok (.iadd, 1) := dk_96 (dk_at dksL_law_88 0 rfl rfl)
theorem dL_law_2243 : decode cL_law 2243 = .ok (.iaload, 1) := dk_46 (dk_at dksL_law_88 1 rfl rfl)
theorem dL_law_2244 : decode cL_law 2244 = .ok (.aload_n 0, 1) := dk_42 (dk_at dksL_law_88 2 rfl rfl)
theorem dL_law_2245 : decode cL_law 2245 = .ok (.iload 4, 2) := dk_21 4 (dk_at dksL_law_88 3 rfl rfl)
theorem dL_law_2247 : decode cL_law 2247 = .ok (.iconst 2, 1) := dk_5 (dk_at dksL_law_88 5 rfl rfl)
theorem dL_law_2248 : decode cL_law 2248 = .ok (.iadd, 1) := dk_96 (dk_at dksL_law_88 6 rfl rfl)
theorem dL_law_2249 : decode cL_law 2249 = .ok (.iaload, 1) := dk_46 (dk_at dksL_law_88 7 rfl rfl)
theorem dL_law_2250 : decode cL_law 2250 = .ok (.aload_n 3, 1) := dk_45 (dk_at dksL_law_88 8 rfl rfl)
theorem dL_law_2251 : decode cL_law 2251 = .ok (.invokestatic 264, 3) := dk_184 1 8 (dk_at dksL_law_88 9 rfl rfl)
theorem dL_law_2254 : decode cL_law 2254 = .ok (.istore 5, 2) := dk_54 5 (dk_at dksL_law_88 12 rfl rfl)
theorem dL_law_2256 : decode cL_law 2256 = .ok (.aload_n 2, 1) := dk_44 (dk_at dksL_law_88 14 rfl rfl)
theorem dL_law_2257 : decode cL_law 2257 = .ok (.aload_n 0, 1) := dk_42 (dk_at dksL_law_88 15 rfl rfl)
theorem dL_law_2258 : decode cL_law 2258 = .ok (.iload 4, 2) := dk_21 4 (dk_at dksL_law_88 16 rfl rfl)
theorem dL_law_2260 : decode cL_law 2260 = .ok (.iconst 1, 1) := dk_4 (dk_at dksL_law_88 18 rfl rfl)
theorem dL_law_2261 : decode cL_law 2261 = .ok (.iadd, 1) := dk_96 (dk_at dksL_law_88 19 rfl rfl)
theorem dL_law_2262 : decode cL_law 2262 = .ok (.iaload, 1) := dk_46 (dk_at dksL_law_88 20 rfl rfl)
theorem dL_law_2263 : decode cL_law 2263 = .ok (.aload_n 0, 1) := dk_42 (dk_at dksL_law_88 21 rfl rfl)
theorem dL_law_2264 : decode cL_law 2264 = .ok (.iload 4, 2) := dk_21 4 (dk_at dksL_law_88 22 rfl rfl)
theorem dL_law_2266 : decode cL_law 2266 = .ok (.iconst 2, 1) := dk_5 (dk_at dksL_law_89 0 rfl rfl)
theorem dL_law_2267 : decode cL_law 2267 = .ok (.iadd, 1) := dk_96 (dk_at dksL_law_89 1 rfl rfl)
theorem dL_law_2268 : decode cL_law 2268 = .ok (.iaload, 1) := dk_46 (dk_at dksL_law_89 2 rfl rfl)
theorem dL_law_2269 : decode cL_law 2269 = .ok (.invokevirtual 266, 3) := dk_182 1 10 (dk_at dksL_law_89 3 rfl rfl)
theorem dL_law_2272 : decode cL_law 2272 = .ok (.istore 6, 2) := dk_54 6 (dk_at dksL_law_89 6 rfl rfl)
theorem dL_law_2274 : decode cL_law 2274 = .ok (.aload_n 2, 1) := dk_44 (dk_at dksL_law_89 8 rfl rfl)
theorem dL_law_2275 : decode cL_law 2275 = .ok (.invokevirtual 170, 3) := dk_182 0 170 (dk_at dksL_law_89 9 rfl rfl)
theorem dL_law_2278 : decode cL_law 2278 = .ok (.iload 5, 2) := dk_21 5 (dk_at dksL_law_89 12 rfl rfl)
theorem dL_law_2280 : decode cL_law 2280 = .ok (.if_icmp .eq 5, 3) := dk_159 0 5 (dk_at dksL_law_89 14 rfl rfl)
theorem dL_law_2283 : decode cL_law 2283 = .ok (.iconst 0, 1) := dk_3 (dk_at dksL_law_89 17 rfl rfl)
theorem dL_law_2284 : decode cL_law 2284 = .ok (.ireturn, 1) := dk_172 (dk_at dksL_law_89 18 rfl rfl)
theorem dL_law_2285 : decode cL_law 2285 = .ok (.iload 5, 2) := dk_21 5 (dk_at dksL_law_89 19 rfl rfl)
theorem dL_law_2287 : decode cL_law 2287 = .ok (.ifCond .ne 16, 3) := dk_154 0 16 (dk_at dksL_law_89 21 rfl rfl)
theorem dL_law_2290 : decode cL_law 2290 = .ok (.aload_n 3, 1) := dk_45 (dk_at dksL_law_90 0 rfl rfl)
theorem dL_law_2291 : decode cL_law 2291 = .ok (.getfield 13, 3) := dk_180 0 13 (dk_at dksL_law_90 1 rfl rfl)
theorem dL_law_2294 : decode cL_law 2294 = .ok (.iload 6, 2) := dk_21 6 (dk_at dksL_law_90 4 rfl rfl)
theorem dL_law_2296 : decode cL_law 2296 = .ok (.i2l, 1) := dk_133 (dk_at dksL_law_90 6 rfl rfl)
theorem dL_law_2297 : decode cL_law 2297 = .ok (.lcmp, 1) := dk_148 (dk_at dksL_law_90 7 rfl rfl)
theorem dL_law_2298 : decode cL_law 2298 = .ok (.ifCond .eq 5, 3) := dk_153 0 5 (dk_at dksL_law_90 8 rfl rfl)
theorem dL_law_2301 : decode cL_law 2301 = .ok (.iconst 0, 1) := dk_3 (dk_at dksL_law_90 11 rfl rfl)
theorem dL_law_2302 : decode cL_law 2302 = .ok (.ireturn, 1) := dk_172 (dk_at dksL_law_90 12 rfl rfl)
theorem dL_law_2303 : decode cL_law 2303 = .ok (.goto 1009, 3) := dk_167 3 241 (dk_at dksL_law_90 13 rfl rfl)
theorem dL_law_2306 : decode cL_law 2306 = .ok (.aload_n 1, 1) := dk_43 (dk_at dksL_law_90 16 rfl rfl)
theorem dL_law_2307 : decode cL_law 2307 = .ok (.aload_n 0, 1) := dk_42 (dk_at dksL_law_90 17 rfl rfl)
theorem dL_law_2308 : decode cL_law 2308 = .ok (.iload 4, 2) := dk_21 4 (dk_at dksL_law_90 18 rfl rfl)
theorem dL_law_2310 : decode cL_law 2310 = .ok (.iconst 1, 1) := dk_4 (dk_at dksL_law_90 20 rfl rfl)
theorem dL_law_2311 : decode cL_law 2311 = .ok (.iadd, 1) := dk_96 (dk_at dksL_law_90 21 rfl rfl)
theorem dL_law_2312 : decode cL_law 2312 = .ok (.iaload, 1) := dk_46 (dk_at dksL_law_90 22 rfl rfl)
theorem dL_law_2313 : decode cL_law 2313 = .ok (.aload_n 0, 1) := dk_42 (dk_at dksL_law_90 23 rfl rfl)
theorem dL_law_2314 : decode cL_law 2314 = .ok (.iload 4, 2) := dk_21 4 (dk_at dksL_law_91 0 rfl rfl)
theorem dL_law_2316 : decode cL_law 2316 = .ok (.iconst 2, 1) := dk_5 (dk_at dksL_law_91 2 rfl rfl)
theorem dL_law_2317 : decode cL_law 2317 = .ok (.iadd, 1) := dk_96 (dk_at dksL_law_91 3 rfl rfl)
theorem dL_law_2318 : decode cL_law 2318 = .ok (.iaload, 1) := dk_46 (dk_at dksL_law_91 4 rfl rfl)
theorem dL_law_2319 : decode cL_law 2319 = .ok (.aload_n 0, 1) := dk_42 (dk_at dksL_law_91 5 rfl rfl)
theorem dL_law_2320 : decode cL_law 2320 = .ok (.iload 4, 2) := dk_21 4 (dk_at dksL_law_91 6 rfl rfl)
theorem dL_law_2322 : decode cL_law 2322 = .ok (.iconst 3, 1) := dk_6 (dk_at dksL_law_91 8 rfl rfl)
theorem dL_law_2323 : decode cL_law 2323 = .ok (.iadd, 1) := dk_96 (dk_at dksL_law_91 9 rfl rfl)
theorem dL_law_2324 : decode cL_law 2324 = .ok (.iaload, 1) := dk_46 (dk_at dksL_law_91 10 rfl rfl)
theorem dL_law_2325 : decode cL_law 2325 = .ok (.aload_n 3, 1) := dk_45 (dk_at dksL_law_91 11 rfl rfl)
theorem dL_law_2326 : decode cL_law 2326 = .ok (.invokestatic 267, 3) := dk_184 1 11 (dk_at dksL_law_91 12 rfl rfl)
theorem dL_law_2329 : decode cL_law 2329 = .ok (.istore 5, 2) := dk_54 5 (dk_at dksL_law_91 15 rfl rfl)
theorem dL_law_2331 : decode cL_law 2331 = .ok (.aload_n 2, 1) := dk_44 (dk_at dksL_law_91 17 rfl rfl)
theorem dL_law_2332 : decode cL_law 2332 = .ok (.aload_n 0, 1) := dk_42 (dk_at dksL_law_91 18 rfl rfl)
theorem dL_law_2333 : decode cL_law 2333 = .ok (.iload 4, 2) := dk_21 4 (dk_at dksL_law_91 19 rfl rfl)
theorem dL_law_2335 : decode cL_law 2335 = .ok (.iconst 1, 1) := dk_4 (dk_at dksL_law_91 21 rfl rfl)
theorem dL_law_2336 : decode cL_law 2336 = .ok (.iadd, 1) := dk_96 (dk_at dksL_law_91 22 rfl rfl)
theorem dL_law_2337 : decode cL_law 2337 = .ok (.iaload, 1) := dk_46 (dk_at dksL_law_91 23 rfl rfl)
theorem dL_law_2338 : decode cL_law 2338 = .ok (.aload_n 0, 1) := dk_42 (dk_at dksL_law_92 0 rfl rfl)
theorem dL_law_2339 : decode cL_law 2339 = .ok (.iload 4, 2) := dk_21 4 (dk_at dksL_law_92 1 rfl rfl)
theorem dL_law_2341 : decode cL_law 2341 = .ok (.iconst 2, 1) := dk_5 (dk_at dksL_law_92 3 rfl rfl)
theorem dL_law_2342 : decode cL_law 2342 = .ok (.iadd, 1) := dk_96 (dk_at dksL_law_92 4 rfl rfl)
theorem dL_law_2343 : decode cL_law 2343 = .ok (.iaload, 1) := dk_46 (dk_at dksL_law_92 5 rfl rfl)
theorem dL_law_2344 : decode cL_law 2344 = .ok (.aload_n 0, 1) := dk_42 (dk_at dksL_law_92 6 rfl rfl)
theorem dL_law_2345 : decode cL_law 2345 = .ok (.iload 4, 2) := dk_21 4 (dk_at dksL_law_92 7 rfl rfl)
theorem dL_law_2347 : decode cL_law 2347 = .ok (.iconst 3, 1) := dk_6 (dk_at dksL_law_92 9 rfl rfl)
theorem dL_law_2348 : decode cL_law 2348 = .ok (.iadd, 1) := dk_96 (dk_at dksL_law_92 10 rfl rfl)
theorem dL_law_2349 : decode cL_law 2349 = .ok (.iaload, 1) := dk_46 (dk_at dksL_law_92 11 rfl rfl)
theorem dL_law_2350 : decode cL_law 2350 = .ok (.invokevirtual 269, 3) := dk_182 1 13 (dk_at dksL_law_92 12 rfl rfl)
theorem dL_law_2353 : decode cL_law 2353 = .ok (.istore 6, 2) := dk_54 6 (dk_at dksL_law_92 15 rfl rfl)
theorem dL_law_2355 : decode cL_law 2355 = .ok (.aload_n 2, 1) := dk_44 (dk_at dksL_law_92 17 rfl rfl)
theorem dL_law_2356 : decode cL_law 2356 = .ok (.invokevirtual 170, 3) := dk_182 0 170 (dk_at dksL_law_92 18 rfl rfl)
theorem dL_law_2359 : decode cL_law 2359 = .ok (.iload 5, 2) := dk_21 5 (dk_at dksL_law_92 21 rfl rfl)
theorem dL_law_2361 : decode cL_law 2361 = .ok (.if_icmp .eq 5, 3) := dk_159 0 5 (dk_at dksL_law_93 0 rfl rfl)
theorem dL_law_2364 : decode cL_law 2364 = .ok (.iconst 0, 1) := dk_3 (dk_at dksL_law_93 3 rfl rfl)
theorem dL_law_2365 : decode cL_law 2365 = .ok (.ireturn, 1) := dk_172 (dk_at dksL_law_93 4 rfl rfl)
theorem dL_law_2366 : decode cL_law 2366 = .ok (.iload 5, 2) := dk_21 5 (dk_at dksL_law_93 5 rfl rfl)
theorem dL_law_2368 : decode cL_law 2368 = .ok (.ifCond .ne 16, 3) := dk_154 0 16 (dk_at dksL_law_93 7 rfl rfl)
theorem dL_law_2371 : decode cL_law 2371 = .ok (.aload_n 3, 1) := dk_45 (dk_at dksL_law_93 10 rfl rfl)
theorem dL_law_2372 : decode cL_law 2372 = .ok (.getfield 13, 3) := dk_180 0 13 (dk_at dksL_law_93 11 rfl rfl)
theorem dL_law_2375 : decode cL_law 2375 = .ok (.iload 6, 2) := dk_21 6 (dk_at dksL_law_93 14 rfl rfl)
theorem dL_law_2377 : decode cL_law 2377 = .ok (.i2l, 1) := dk_133 (dk_at dksL_law_93 16 rfl rfl)
theorem dL_law_2378 : decode cL_law 2378 = .ok (.lcmp, 1) := dk_148 (dk_at dksL_law_93 17 rfl rfl)
theorem dL_law_2379 : decode cL_law 2379 = .ok (.ifCond .eq 5, 3) := dk_153 0 5 (dk_at dksL_law_93 18 rfl rfl)
theorem dL_law_2382 : decode cL_law 2382 = .ok (.iconst 0, 1) := dk_3 (dk_at dksL_law_93 21 rfl rfl)
theorem dL_law_2383 : decode cL_law 2383 = .ok (.ireturn, 1) := dk_172 (dk_at dksL_law_93 22 rfl rfl)
theorem dL_law_2384 : decode cL_law 2384 = .ok (.goto 928, 3) := dk_167 3 160 (dk_at dksL_law_94 0 rfl rfl)
theorem dL_law_2387 : decode cL_law 2387 = .ok (.aload_n 1, 1) := dk_43 (dk_at dksL_law_94 3 rfl rfl)
theorem dL_law_2388 : decode cL_law 2388 = .ok (.aload_n 0, 1) := dk_42 (dk_at dksL_law_94 4 rfl rfl)
theorem dL_law_2389 : decode cL_law 2389 = .ok (.iload 4, 2) := dk_21 4 (dk_at dksL_law_94 5 rfl rfl)
theorem dL_law_2391 : decode cL_law 2391 = .ok (.iconst 1, 1) := dk_4 (dk_at dksL_law_94 7 rfl rfl)
theorem dL_law_2392 : decode cL_law 2392 = .ok (.iadd, 1) := dk_96 (dk_at dksL_law_94 8 rfl rfl)
theorem dL_law_2393 : decode cL_law 2393 = .ok (.iaload, 1) := dk_46 (dk_at dksL_law_94 9 rfl rfl)
theorem dL_law_2394 : decode cL_law 2394 = .ok (.aload_n 0, 1) := dk_42 (dk_at dksL_law_94 10 rfl rfl)
theorem dL_law_2395 : decode cL_law 2395 = .ok (.iload 4, 2) := dk_21 4 (dk_at dksL_law_94 11 rfl rfl)
theorem dL_law_2397 : decode cL_law 2397 = .ok (.iconst 2, 1) := dk_5 (dk_at dksL_law_94 13 rfl rfl)
theorem dL_law_2398 : decode cL_law 2398 = .ok (.iadd, 1) := dk_96 (dk_at dksL_law_94 14 rfl rfl)
theorem dL_law_2399 : decode cL_law 2399 = .ok (.iaload, 1) := dk_46 (dk_at dksL_law_94 15 rfl rfl)
theorem dL_law_2400 : decode cL_law 2400 = .ok (.aload_n 3, 1) := dk_45 (dk_at dksL_law_94 16 rfl rfl)
theorem dL_law_2401 : decode cL_law 2401 = .ok (.invokestatic 270, 3) := dk_184 1 14 (dk_at dksL_law_94 17 rfl rfl)
theorem dL_law_2404 : decode cL_law 2404 = .ok (.istore 5, 2) := dk_54 5 (dk_at dksL_law_94 20 rfl rfl)
theorem dL_law_2406 : decode cL_law 2406 = .ok (.aload_n 2, 1) := dk_44 (dk_at dksL_law_94 22 rfl rfl)
theorem dL_law_2407 : decode cL_law 2407 = .ok (.aload_n 0, 1) := dk_42 (dk_at dksL_law_94 23 rfl rfl)
theorem dL_law_2408 : decode cL_law 2408 = .ok (.iload 4, 2) := dk_21 4 (dk_at dksL_law_95 0 rfl rfl)
theorem dL_law_2410 : decode cL_law 2410 = .ok (.iconst 1, 1) := dk_4 (dk_at dksL_law_95 2 rfl rfl)
theorem dL_law_2411 : decode cL_law 2411 = .ok (.iadd, 1) := dk_96 (dk_at dksL_law_95 3 rfl rfl)
theorem dL_law_2412 : decode cL_law 2412 = .ok (.iaload, 1) := dk_46 (dk_at dksL_law_95 4 rfl rfl)
theorem dL_law_2413 : decode cL_law 2413 = .ok (.aload_n 0, 1) := dk_42 (dk_at dksL_law_95 5 rfl rfl)
theorem dL_law_2414 : decode cL_law 2414 = .ok (.iload 4, 2) := dk_21 4 (dk_at dksL_law_95 6 rfl rfl)
theorem dL_law_2416 : decode cL_law 2416 = .ok (.iconst 2, 1) := dk_5 (dk_at dksL_law_95 8 rfl rfl)
theorem dL_law_2417 : decode cL_law 2417 = .ok (.iadd, 1) := dk_96 (dk_at dksL_law_95 9 rfl rfl)
theorem dL_law_2418 : decode cL_law 2418 = .ok (.iaload, 1) := dk_46 (dk_at dksL_law_95 10 rfl rfl)
theorem dL_law_2419 : decode cL_law 2419 = .ok (.invokevirtual 272, 3) := dk_182 1 16 (dk_at dksL_law_95 11 rfl rfl)
theorem dL_law_2422 : decode cL_law 2422 = .ok (.istore 6, 2) := dk_54 6 (dk_at dksL_law_95 14 rfl rfl)
theorem dL_law_2424 : decode cL_law 2424 = .ok (.aload_n 2, 1) := dk_44 (dk_at dksL_law_95 16 rfl rfl)
theorem dL_law_2425 : decode cL_law 2425 = .ok (.invokevirtual 170, 3) := dk_182 0 170 (dk_at dksL_law_95 17 rfl rfl)
theorem dL_law_2428 : decode cL_law 2428 = .ok (.iload 5, 2) := dk_21 5 (dk_at dksL_law_95 20 rfl rfl)
theorem dL_law_2430 : decode cL_law 2430 = .ok (.if_icmp .eq 5, 3) := dk_159 0 5 (dk_at dksL_law_96 0 rfl rfl)
theorem dL_law_2433 : decode cL_law 2433 = .ok (.iconst 0, 1) := dk_3 (dk_at dksL_law_96 3 rfl rfl)
theorem dL_law_2434 : decode cL_law 2434 = .ok (.ireturn, 1) := dk_172 (dk_at dksL_law_96 4 rfl rfl)
theorem dL_law_2435 : decode cL_law 2435 = .ok (.iload 5, 2) := dk_21 5 (dk_at dksL_law_96 5 rfl rfl)
theorem dL_law_2437 : decode cL_law 2437 = .ok (.ifCond .ne 16, 3) := dk_154 0 16 (dk_at dksL_law_96 7 rfl rfl)
theorem dL_law_2440 : decode cL_law 2440 = .ok (.aload_n 3, 1) := dk_45 (dk_at dksL_law_96 10 rfl rfl)
theorem dL_law_2441 : decode cL_law 2441 = .ok (.getfield 13, 3) := dk_180 0 13 (dk_at dksL_law_96 11 rfl rfl)
theorem dL_law_2444 : decode cL_law 2444 = .ok (.iload 6, 2) := dk_21 6 (dk_at dksL_law_96 14 rfl rfl)
theorem dL_law_2446 : decode cL_law 2446 = .ok (.i2l, 1) := dk_133 (dk_at dksL_law_96 16 rfl rfl)
theorem dL_law_2447 : decode cL_law 2447 = .ok (.lcmp, 1) := dk_148 (dk_at dksL_law_96 17 rfl rfl)
theorem dL_law_2448 : decode cL_law 2448 = .ok (.ifCond .eq 5, 3) := dk_153 0 5 (dk_at dksL_law_96 18 rfl rfl)
theorem dL_law_2451 : decode cL_law 2451 = .ok (.iconst 0, 1) := dk_3 (dk_at dksL_law_96 21 rfl rfl)
theorem dL_law_2452 : decode cL_law 2452 = .ok (.ireturn, 1) := dk_172 (dk_at dksL_law_96 22 rfl rfl)
theorem dL_law_2453 : decode cL_law 2453 = .ok (.goto 859, 3) := dk_167 3 91 (dk_at dksL_law_97 0 rfl rfl)
theorem dL_law_2456 : decode cL_law 2456 = .ok (.aload_n 1, 1) := dk_43 (dk_at dksL_law_97 3 rfl rfl)
theorem dL_law_2457 : decode cL_law 2457 = .ok (.aload_n 0, 1) := dk_42 (dk_at dksL_law_97 4 rfl rfl)
theorem dL_law_2458 : decode cL_law 2458 = .ok (.iload 4, 2) := dk_21 4 (dk_at dksL_law_97 5 rfl rfl)
theorem dL_law_2460 : decode cL_law 2460 = .ok (.iconst 1, 1) := dk_4 (dk_at dksL_law_97 7 rfl rfl)
theorem dL_law_2461 : decode cL_law 2461 = .ok (.iadd, 1) := dk_96 (dk_at dksL_law_97 8 rfl rfl)
theorem dL_law_2462 : decode cL_law 2462 = .ok (.iaload, 1) := dk_46 (dk_at dksL_law_97 9 rfl rfl)
theorem dL_law_2463 : decode cL_law 2463 = .ok (.aload_n 0, 1) := dk_42 (dk_at dksL_law_97 10 rfl rfl)
theorem dL_law_2464 : decode cL_law 2464 = .ok (.iload 4, 2) := dk_21 4 (dk_at dksL_law_97 11 rfl rfl)
theorem dL_law_2466 : decode cL_law 2466 = .ok (.iconst 2, 1) := dk_5 (dk_at dksL_law_97 13 rfl rfl)
theorem dL_law_2467 : decode cL_law 2467 = .ok (.iadd, 1) := dk_96 (dk_at dksL_law_97 14 rfl rfl)
theorem dL_law_2468 : decode cL_law 2468 = .ok (.iaload, 1) := dk_46 (dk_at dksL_law_97 15 rfl rfl)
theorem dL_law_2469 : decode cL_law 2469 = .ok (.aload_n 0, 1) := dk_42 (dk_at dksL_law_97 16 rfl rfl)
theorem dL_law_2470 : decode cL_law 2470 = .ok (.iload 4, 2) := dk_21 4 (dk_at dksL_law_97 17 rfl rfl)
theorem dL_law_2472 : decode cL_law 2472 = .ok (.iconst 3, 1) := dk_6 (dk_at dksL_law_97 19 rfl rfl)
theorem dL_law_2473 : decode cL_law 2473 = .ok (.iadd, 1) := dk_96 (dk_at dksL_law_97 20 rfl rfl)
theorem dL_law_2474 : decode cL_law 2474 = .ok (.iaload, 1) := dk_46 (dk_at dksL_law_97 21 rfl rfl)
theorem dL_law_2475 : decode cL_law 2475 = .ok (.aload_n 3, 1) := dk_45 (dk_at dksL_law_97 22 rfl rfl)
theorem dL_law_2476 : decode cL_law 2476 = .ok (.invokestatic 273, 3) := dk_184 1 17 (dk_at dksL_law_98 0 rfl rfl)
theorem dL_law_2479 : decode cL_law 2479 = .ok (.istore 5, 2) := dk_54 5 (dk_at dksL_law_98 3 rfl rfl)
theorem dL_law_2481 : decode cL_law 2481 = .ok (.aload_n 2, 1) := dk_44 (dk_at dksL_law_98 5 rfl rfl)
theorem dL_law_2482 : decode cL_law 2482 = .ok (.aload_n 0, 1) := dk_42 (dk_at dksL_law_98 6 rfl rfl)
theorem dL_law_2483 : decode cL_law 2483 = .ok (.iload 4, 2) := dk_21 4 (dk_at dksL_law_98 7 rfl rfl)
theorem dL_law_2485 : decode cL_law 2485 = .ok (.iconst 1, 1) := dk_4 (dk_at dksL_law_98 9 rfl rfl)
theorem dL_law_2486 : decode cL_law 2486 = .ok (.iadd, 1) := dk_96 (dk_at dksL_law_98 10 rfl rfl)
theorem dL_law_2487 : decode cL_law 2487 = .ok (.iaload, 1) := dk_46 (dk_at dksL_law_98 11 rfl rfl)
theorem dL_law_2488 : decode cL_law 2488 = .ok (.aload_n 0, 1) := dk_42 (dk_at dksL_law_98 12 rfl rfl)
theorem dL_law_2489 : decode cL_law 2489 = .ok (.iload 4, 2) := dk_21 4 (dk_at dksL_law_98 13 rfl rfl)
theorem dL_law_2491 : decode cL_law 2491 = .ok (.iconst 2, 1) := dk_5 (dk_at dksL_law_98 15 rfl rfl)
theorem dL_law_2492 : decode cL_law 2492 = .ok (.iadd, 1) := dk_96 (dk_at dksL_law_98 16 rfl rfl)
theorem dL_law_2493 : decode cL_law 2493 = .ok (.iaload, 1) := dk_46 (dk_at dksL_law_98 17 rfl rfl)
theorem dL_law_2494 : decode cL_law 2494 = .ok (.aload_n 0, 1) := dk_42 (dk_at dksL_law_98 18 rfl rfl)
theorem dL_law_2495 : decode cL_law 2495 = .ok (.iload 4, 2) := dk_21 4 (dk_at dksL_law_98 19 rfl rfl)
theorem dL_law_2497 : decode cL_law 2497 = .ok (.iconst 3, 1) := dk_6 (dk_at dksL_law_98 21 rfl rfl)
theorem dL_law_2498 : decode cL_law 2498 = .ok (.iadd, 1) := dk_96 (dk_at dksL_law_98 22 rfl rfl)
theorem dL_law_2499 : decode cL_law 2499 = .ok (.iaload, 1) := dk_46 (dk_at dksL_law_98 23 rfl rfl)
theorem dL_law_2500 : decode cL_law 2500 = .ok (.invokevirtual 275, 3) := dk_182 1 19 (dk_at dksL_law_99 0 rfl rfl)
theorem dL_law_2503 : decode cL_law 2503 = .ok (.istore 6, 2) := dk_54 6 (dk_at dksL_law_99 3 rfl rfl)
theorem dL_law_2505 : decode cL_law 2505 = .ok (.aload_n 2, 1) := dk_44 (dk_at dksL_law_99 5 rfl rfl)
theorem dL_law_2506 : decode cL_law 2506 = .ok (.invokevirtual 170, 3) := dk_182 0 170 (dk_at dksL_law_99 6 rfl rfl)
theorem dL_law_2509 : decode cL_law 2509 = .ok (.iload 5, 2) := dk_21 5 (dk_at dksL_law_99 9 rfl rfl)
theorem dL_law_2511 : decode cL_law 2511 = .ok (.if_icmp .eq 5, 3) := dk_159 0 5 (dk_at dksL_law_99 11 rfl rfl)
theorem dL_law_2514 : decode cL_law 2514 = .ok (.iconst 0, 1) := dk_3 (dk_at dksL_law_99 14 rfl rfl)
theorem dL_law_2515 : decode cL_law 2515 = .ok (.ireturn, 1) := dk_172 (dk_at dksL_law_99 15 rfl rfl)
theorem dL_law_2516 : decode cL_law 2516 = .ok (.iload 5, 2) := dk_21 5 (dk_at dksL_law_99 16 rfl rfl)
theorem dL_law_2518 : decode cL_law 2518 = .ok (.ifCond .ne 16, 3) := dk_154 0 16 (dk_at dksL_law_99 18 rfl rfl)
theorem dL_law_2521 : decode cL_law 2521 = .ok (.aload_n 3, 1) := dk_45 (dk_at dksL_law_99 21 rfl rfl)
theorem dL_law_2522 : decode cL_law 2522 = .ok (.getfield 13, 3) := dk_180 0 13 (dk_at dksL_law_100 0 rfl rfl)
theorem dL_law_2525 : decode cL_law 2525 = .ok (.iload 6, 2) := dk_21 6 (dk_at dksL_law_100 3 rfl rfl)
theorem dL_law_2527 : decode cL_law 2527 = .ok (.i2l, 1) := dk_133 (dk_at dksL_law_100 5 rfl rfl)
theorem dL_law_2528 : decode cL_law 2528 = .ok (.lcmp, 1) := dk_148 (dk_at dksL_law_100 6 rfl rfl)
theorem dL_law_2529 : decode cL_law 2529 = .ok (.ifCond .eq 5, 3) := dk_153 0 5 (dk_at dksL_law_100 7 rfl rfl)
theorem dL_law_2532 : decode cL_law 2532 = .ok (.iconst 0, 1) := dk_3 (dk_at dksL_law_100 10 rfl rfl)
theorem dL_law_2533 : decode cL_law 2533 = .ok (.ireturn, 1) := dk_172 (dk_at dksL_law_100 11 rfl rfl)
theorem dL_law_2534 : decode cL_law 2534 = .ok (.goto 778, 3) := dk_167 3 10 (dk_at dksL_law_100 12 rfl rfl)
theorem dL_law_2537 : decode cL_law 2537 = .ok (.aload_n 1, 1) := dk_43 (dk_at dksL_law_100 15 rfl rfl)
theorem dL_law_2538 : decode cL_law 2538 = .ok (.aload_n 0, 1) := dk_42 (dk_at dksL_law_100 16 rfl rfl)
theorem dL_law_2539 : decode cL_law 2539 = .ok (.iload 4, 2) := dk_21 4 (dk_at dksL_law_100 17 rfl rfl)
theorem dL_law_2541 : decode cL_law 2541 = .ok (.iconst 1, 1) := dk_4 (dk_at dksL_law_100 19 rfl rfl)
theorem dL_law_2542 : decode cL_law 2542 = .ok (.iadd, 1) := dk_96 (dk_at dksL_law_100 20 rfl rfl)
theorem dL_law_2543 : decode cL_law 2543 = .ok (.iaload, 1) := dk_46 (dk_at dksL_law_100 21 rfl rfl)
theorem dL_law_2544 : decode cL_law 2544 = .ok (.aload_n 0, 1) := dk_42 (dk_at dksL_law_100 22 rfl rfl)
theorem dL_law_2545 : decode cL_law 2545 = .ok (.iload 4, 2) := dk_21 4 (dk_at dksL_law_101 0 rfl rfl)
theorem dL_law_2547 : decode cL_law 2547 = .ok (.iconst 2, 1) := dk_5 (dk_at dksL_law_101 2 rfl rfl)
theorem dL_law_2548 : decode cL_law 2548 = .ok (.iadd, 1) := dk_96 (dk_at dksL_law_101 3 rfl rfl)
theorem dL_law_2549 : decode cL_law 2549 = .ok (.iaload, 1) := dk_46 (dk_at dksL_law_101 4 rfl rfl)
theorem dL_law_2550 : decode cL_law 2550 = .ok (.aload_n 3, 1) := dk_45 (dk_at dksL_law_101 5 rfl rfl)
theorem dL_law_2551 : decode cL_law 2551 = .ok (.invokestatic 276, 3) := dk_184 1 20 (dk_at dksL_law_101 6 rfl rfl)
theorem dL_law_2554 : decode cL_law 2554 = .ok (.istore 5, 2) := dk_54 5 (dk_at dksL_law_101 9 rfl rfl)
theorem dL_law_2556 : decode cL_law 2556 = .ok (.aload_n 2, 1) := dk_44 (dk_at dksL_law_101 11 rfl rfl)
theorem dL_law_2557 : decode cL_law 2557 = .ok (.aload_n 0, 1) := dk_42 (dk_at dksL_law_101 12 rfl rfl)
theorem dL_law_2558 : decode cL_law 2558 = .ok (.iload 4, 2) := dk_21 4 (dk_at dksL_law_101 13 rfl rfl)
theorem dL_law_2560 : decode cL_law 2560 = .ok (.iconst 1, 1) := dk_4 (dk_at dksL_law_101 15 rfl rfl)
theorem dL_law_2561 : decode cL_law 2561 = .ok (.iadd, 1) := dk_96 (dk_at dksL_law_101 16 rfl rfl)
theorem dL_law_2562 : decode cL_law 2562 = .ok (.iaload, 1) := dk_46 (dk_at dksL_law_101 17 rfl rfl)
theorem dL_law_2563 : decode cL_law 2563 = .ok (.aload_n 0, 1) := dk_42 (dk_at dksL_law_101 18 rfl rfl)
theorem dL_law_2564 : decode cL_law 2564 = .ok (.iload 4, 2) := dk_21 4 (dk_at dksL_law_101 19 rfl rfl)
theorem dL_law_2566 : decode cL_law 2566 = .ok (.iconst 2, 1) := dk_5 (dk_at dksL_law_101 21 rfl rfl)
theorem dL_law_2567 : decode cL_law 2567 = .ok (.iadd, 1) := dk_96 (dk_at dksL_law_101 22 rfl rfl)
theorem dL_law_2568 : decode cL_law 2568 = .ok (.iaload, 1) := dk_46 (dk_at dksL_law_101 23 rfl rfl)
theorem dL_law_2569 : decode cL_law 2569 = .ok (.invokevirtual 278, 3) := dk_182 1 22 (dk_at dksL_law_102 0 rfl rfl)
theorem dL_law_2572 : decode cL_law 2572 = .ok (.istore 6, 2) := dk_54 6 (dk_at dksL_law_102 3 rfl rfl)
theorem dL_law_2574 : decode cL_law 2574 = .ok (.aload_n 2, 1) := dk_44 (dk_at dksL_law_102 5 rfl rfl)
theorem dL_law_2575 : decode cL_law 2575 = .ok (.invokevirtual 170, 3) := dk_182 0 170 (dk_at dksL_law_102 6 rfl rfl)
theorem dL_law_2578 : decode cL_law 2578 = .ok (.iload 5, 2) := dk_21 5 (dk_at dksL_law_102 9 rfl rfl)
theorem dL_law_2580 : decode cL_law 2580 = .ok (.if_icmp .eq 5, 3) := dk_159 0 5 (dk_at dksL_law_102 11 rfl rfl)
theorem dL_law_2583 : decode cL_law 2583 = .ok (.iconst 0, 1) := dk_3 (dk_at dksL_law_102 14 rfl rfl)
theorem dL_law_2584 : decode cL_law 2584 = .ok (.ireturn, 1) := dk_172 (dk_at dksL_law_102 15 rfl rfl)
theorem dL_law_2585 : decode cL_law 2585 = .ok (.iload 5, 2) := dk_21 5 (dk_at dksL_law_102 16 rfl rfl)
theorem dL_law_2587 : decode cL_law 2587 = .ok (.ifCond .ne 16, 3) := dk_154 0 16 (dk_at dksL_law_102 18 rfl rfl)
theorem dL_law_2590 : decode cL_law 2590 = .ok (.aload_n 3, 1) := dk_45 (dk_at dksL_law_102 21 rfl rfl)
theorem dL_law_2591 : decode cL_law 2591 = .ok (.getfield 13, 3) := dk_180 0 13 (dk_at dksL_law_103 0 rfl rfl)
theorem dL_law_2594 : decode cL_law 2594 = .ok (.iload 6, 2) := dk_21 6 (dk_at dksL_law_103 3 rfl rfl)
theorem dL_law_2596 : decode cL_law 2596 = .ok (.i2l, 1) := dk_133 (dk_at dksL_law_103 5 rfl rfl)
theorem dL_law_2597 : decode cL_law 2597 = .ok (.lcmp, 1) := dk_148 (dk_at dksL_law_103 6 rfl rfl)
theorem dL_law_2598 : decode cL_law 2598 = .ok (.ifCond .eq 5, 3) := dk_153 0 5 (dk_at dksL_law_103 7 rfl rfl)
theorem dL_law_2601 : decode cL_law 2601 = .ok (.iconst 0, 1) := dk_3 (dk_at dksL_law_103 10 rfl rfl)
theorem dL_law_2602 : decode cL_law 2602 = .ok (.ireturn, 1) := dk_172 (dk_at dksL_law_103 11 rfl rfl)
theorem dL_law_2603 : decode cL_law 2603 = .ok (.goto 709, 3) := dk_167 2 197 (dk_at dksL_law_103 12 rfl rfl)
theorem dL_law_2606 : decode cL_law 2606 = .ok (.aload_n 1, 1) := dk_43 (dk_at dksL_law_103 15 rfl rfl)
theorem dL_law_2607 : decode cL_law 2607 = .ok (.aload_n 0, 1) := dk_42 (dk_at dksL_law_103 16 rfl rfl)
theorem dL_law_2608 : decode cL_law 2608 = .ok (.iload 4, 2) := dk_21 4 (dk_at dksL_law_103 17 rfl rfl)
theorem dL_law_2610 : decode cL_law 2610 = .ok (.iconst 1, 1) := dk_4 (dk_at dksL_law_103 19 rfl rfl)
theorem dL_law_2611 : decode cL_law 2611 = .ok (.iadd, 1) := dk_96 (dk_at dksL_law_103 20 rfl rfl)
theorem dL_law_2612 : decode cL_law 2612 = .ok (.iaload, 1) := dk_46 (dk_at dksL_law_103 21 rfl rfl)
theorem dL_law_2613 : decode cL_law 2613 = .ok (.aload_n 0, 1) := dk_42 (dk_at dksL_law_103 22 rfl rfl)
theorem dL_law_2614 : decode cL_law 2614 = .ok (.iload 4, 2) := dk_21 4 (dk_at dksL_law_104 0 rfl rfl)
theorem dL_law_2616 : decode cL_law 2616 = .ok (.iconst 2, 1) := dk_5 (dk_at dksL_law_104 2 rfl rfl)
theorem dL_law_2617 : decode cL_law 2617 = .ok (.iadd, 1) := dk_96 (dk_at dksL_law_104 3 rfl rfl)
theorem dL_law_2618 : decode cL_law 2618 = .ok (.iaload, 1) := dk_46 (dk_at dksL_law_104 4 rfl rfl)
theorem dL_law_2619 : decode cL_law 2619 = .ok (.aload_n 3, 1) := dk_45 (dk_at dksL_law_104 5 rfl rfl)
theorem dL_law_2620 : decode cL_law 2620 = .ok (.invokestatic 279, 3) := dk_184 1 23 (dk_at dksL_law_104 6 rfl rfl)
theorem dL_law_2623 : decode cL_law 2623 = .ok (.istore 5, 2) := dk_54 5 (dk_at dksL_law_104 9 rfl rfl)
theorem dL_law_2625 : decode cL_law 2625 = .ok (.aload_n 2, 1) := dk_44 (dk_at dksL_law_104 11 rfl rfl)
theorem dL_law_2626 : decode cL_law 2626 = .ok (.aload_n 0, 1) := dk_42 (dk_at dksL_law_104 12 rfl rfl)
theorem dL_law_2627 : decode cL_law 2627 = .ok (.iload 4, 2) := dk_21 4 (dk_at dksL_law_104 13 rfl rfl)
theorem dL_law_2629 : decode cL_law 2629 = .ok (.iconst 1, 1) := dk_4 (dk_at dksL_law_104 15 rfl rfl)
theorem dL_law_2630 : decode cL_law 2630 = .ok (.iadd, 1) := dk_96 (dk_at dksL_law_104 16 rfl rfl)
theorem dL_law_2631 : decode cL_law 2631 = .ok (.iaload, 1) := dk_46 (dk_at dksL_law_104 17 rfl rfl)
theorem dL_law_2632 : decode cL_law 2632 = .ok (.aload_n 0, 1) := dk_42 (dk_at dksL_law_104 18 rfl rfl)
theorem dL_law_2633 : decode cL_law 2633 = .ok (.iload 4, 2) := dk_21 4 (dk_at dksL_law_104 19 rfl rfl)
theorem dL_law_2635 : decode cL_law 2635 = .ok (.iconst 2, 1) := dk_5 (dk_at dksL_law_104 21 rfl rfl)
theorem dL_law_2636 : decode cL_law 2636 = .ok (.iadd, 1) := dk_96 (dk_at dksL_law_104 22 rfl rfl)
theorem dL_law_2637 : decode cL_law 2637 = .ok (.iaload, 1) := dk_46 (dk_at dksL_law_104 23 rfl rfl)
theorem dL_law_2638 : decode cL_law 2638 = .ok (.invokevirtual 281, 3) := dk_182 1 25 (dk_at dksL_law_105 0 rfl rfl)
theorem dL_law_2641 : decode cL_law 2641 = .ok (.istore 6, 2) := dk_54 6 (dk_at dksL_law_105 3 rfl rfl)
theorem dL_law_2643 : decode cL_law 2643 = .ok (.aload_n 2, 1) := dk_44 (dk_at dksL_law_105 5 rfl rfl)
theorem dL_law_2644 : decode cL_law 2644 = .ok (.invokevirtual 170, 3) := dk_182 0 170 (dk_at dksL_law_105 6 rfl rfl)
theorem dL_law_2647 : decode cL_law 2647 = .ok (.iload 5, 2) := dk_21 5 (dk_at dksL_law_105 9 rfl rfl)
theorem dL_law_2649 : decode cL_law 2649 = .ok (.if_icmp .eq 5, 3) := dk_159 0 5 (dk_at dksL_law_105 11 rfl rfl)
theorem dL_law_2652 : decode cL_law 2652 = .ok (.iconst 0, 1) := dk_3 (dk_at dksL_law_105 14 rfl rfl)
theorem dL_law_2653 : decode cL_law 2653 = .ok (.ireturn, 1) := dk_172 (dk_at dksL_law_105 15 rfl rfl)
theorem dL_law_2654 : decode cL_law 2654 = .ok (.iload 5, 2) := dk_21 5 (dk_at dksL_law_105 16 rfl rfl)
theorem dL_law_2656 : decode cL_law 2656 = .ok (.ifCond .ne 16, 3) := dk_154 0 16 (dk_at dksL_law_105 18 rfl rfl)
theorem dL_law_2659 : decode cL_law 2659 = .ok (.aload_n 3, 1) := dk_45 (dk_at dksL_law_105 21 rfl rfl)
theorem dL_law_2660 : decode cL_law 2660 = .ok (.getfield 13, 3) := dk_180 0 13 (dk_at dksL_law_106 0 rfl rfl)
theorem dL_law_2663 : decode cL_law 2663 = .ok (.iload 6, 2) := dk_21 6 (dk_at dksL_law_106 3 rfl rfl)
theorem dL_law_2665 : decode cL_law 2665 = .ok (.i2l, 1) := dk_133 (dk_at dksL_law_106 5 rfl rfl)
theorem dL_law_2666 : decode cL_law 2666 = .ok (.lcmp, 1) := dk_148 (dk_at dksL_law_106 6 rfl rfl)
theorem dL_law_2667 : decode cL_law 2667 = .ok (.ifCond .eq 5, 3) := dk_153 0 5 (dk_at dksL_law_106 7 rfl rfl)
theorem dL_law_2670 : decode cL_law 2670 = .ok (.iconst 0, 1) := dk_3 (dk_at dksL_law_106 10 rfl rfl)
theorem dL_law_2671 : decode cL_law 2671 = .ok (.ireturn, 1) := dk_172 (dk_at dksL_law_106 11 rfl rfl)
theorem dL_law_2672 : decode cL_law 2672 = .ok (.goto 640, 3) := dk_167 2 128 (dk_at dksL_law_106 12 rfl rfl)
theorem dL_law_2675 : decode cL_law 2675 = .ok (.aload_n 1, 1) := dk_43 (dk_at dksL_law_106 15 rfl rfl)
theorem dL_law_2676 : decode cL_law 2676 = .ok (.aload_n 0, 1) := dk_42 (dk_at dksL_law_106 16 rfl rfl)
theorem dL_law_2677 : decode cL_law 2677 = .ok (.iload 4, 2) := dk_21 4 (dk_at dksL_law_106 17 rfl rfl)
theorem dL_law_2679 : decode cL_law 2679 = .ok (.iconst 1, 1) := dk_4 (dk_at dksL_law_106 19 rfl rfl)
theorem dL_law_2680 : decode cL_law 2680 = .ok (.iadd, 1) := dk_96 (dk_at dksL_law_106 20 rfl rfl)
theorem dL_law_2681 : decode cL_law 2681 = .ok (.iaload, 1) := dk_46 (dk_at dksL_law_106 21 rfl rfl)
theorem dL_law_2682 : decode cL_law 2682 = .ok (.aload_n 0, 1) := dk_42 (dk_at dksL_law_106 22 rfl rfl)
theorem dL_law_2683 : decode cL_law 2683 = .ok (.iload 4, 2) := dk_21 4 (dk_at dksL_law_107 0 rfl rfl)
theorem dL_law_2685 : decode cL_law 2685 = .ok (.iconst 2, 1) := dk_5 (dk_at dksL_law_107 2 rfl rfl)
theorem dL_law_2686 : decode cL_law 2686 = .ok (.iadd, 1) := dk_96 (dk_at dksL_law_107 3 rfl rfl)
theorem dL_law_2687 : decode cL_law 2687 = .ok (.iaload, 1) := dk_46 (dk_at dksL_law_107 4 rfl rfl)
theorem dL_law_2688 : decode cL_law 2688 = .ok (.aload_n 3, 1) := dk_45 (dk_at dksL_law_107 5 rfl rfl)
theorem dL_law_2689 : decode cL_law 2689 = .ok (.invokestatic 282, 3) := dk_184 1 26 (dk_at dksL_law_107 6 rfl rfl)
theorem dL_law_2692 : decode cL_law 2692 = .ok (.istore 5, 2) := dk_54 5 (dk_at dksL_law_107 9 rfl rfl)
theorem dL_law_2694 : decode cL_law 2694 = .ok (.aload_n 2, 1) := dk_44 (dk_at dksL_law_107 11 rfl rfl)
theorem dL_law_2695 : decode cL_law 2695 = .ok (.aload_n 0, 1) := dk_42 (dk_at dksL_law_107 12 rfl rfl)
theorem dL_law_2696 : decode cL_law 2696 = .ok (.iload 4, 2) := dk_21 4 (dk_at dksL_law_107 13 rfl rfl)
theorem dL_law_2698 : decode cL_law 2698 = .ok (.iconst 1, 1) := dk_4 (dk_at dksL_law_107 15 rfl rfl)
theorem dL_law_2699 : decode cL_law 2699 = .ok (.iadd, 1) := dk_96 (dk_at dksL_law_107 16 rfl rfl)
theorem dL_law_2700 : decode cL_law 2700 = .ok (.iaload, 1) := dk_46 (dk_at dksL_law_107 17 rfl rfl)
theorem dL_law_2701 : decode cL_law 2701 = .ok (.aload_n 0, 1) := dk_42 (dk_at dksL_law_107 18 rfl rfl)
theorem dL_law_2702 : decode cL_law 2702 = .ok (.iload 4, 2) := dk_21 4 (dk_at dksL_law_107 19 rfl rfl)
theorem dL_law_2704 : decode cL_law 2704 = .ok (.iconst 2, 1) := dk_5 (dk_at dksL_law_107 21 rfl rfl)
theorem dL_law_2705 : decode cL_law 2705 = .ok (.iadd, 1) := dk_96 (dk_at dksL_law_107 22 rfl rfl)
theorem dL_law_2706 : decode cL_law 2706 = .ok (.iaload, 1) := dk_46 (dk_at dksL_law_107 23 rfl rfl)
theorem dL_law_2707 : decode cL_law 2707 = .ok (.invokevirtual 284, 3) := dk_182 1 28 (dk_at dksL_law_108 0 rfl rfl)
theorem dL_law_2710 : decode cL_law 2710 = .ok (.istore 6, 2) := dk_54 6 (dk_at dksL_law_108 3 rfl rfl)
theorem dL_law_2712 : decode cL_law 2712 = .ok (.aload_n 2, 1) := dk_44 (dk_at dksL_law_108 5 rfl rfl)
theorem dL_law_2713 : decode cL_law 2713 = .ok (.invokevirtual 170, 3) := dk_182 0 170 (dk_at dksL_law_108 6 rfl rfl)
theorem dL_law_2716 : decode cL_law 2716 = .ok (.iload 5, 2) := dk_21 5 (dk_at dksL_law_108 9 rfl rfl)
theorem dL_law_2718 : decode cL_law 2718 = .ok (.if_icmp .eq 5, 3) := dk_159 0 5 (dk_at dksL_law_108 11 rfl rfl)
theorem dL_law_2721 : decode cL_law 2721 = .ok (.iconst 0, 1) := dk_3 (dk_at dksL_law_108 14 rfl rfl)
theorem dL_law_2722 : decode cL_law 2722 = .ok (.ireturn, 1) := dk_172 (dk_at dksL_law_108 15 rfl rfl)
theorem dL_law_2723 : decode cL_law 2723 = .ok (.iload 5, 2) := dk_21 5 (dk_at dksL_law_108 16 rfl rfl)
theorem dL_law_2725 : decode cL_law 2725 = .ok (.ifCond .ne 16, 3) := dk_154 0 16 (dk_at dksL_law_108 18 rfl rfl)
theorem dL_law_2728 : decode cL_law 2728 = .ok (.aload_n 3, 1) := dk_45 (dk_at dksL_law_108 21 rfl rfl)
theorem dL_law_2729 : decode cL_law 2729 = .ok (.getfield 13, 3) := dk_180 0 13 (dk_at dksL_law_109 0 rfl rfl)
theorem dL_law_2732 : decode cL_law 2732 = .ok (.iload 6, 2) := dk_21 6 (dk_at dksL_law_109 3 rfl rfl)
theorem dL_law_2734 : decode cL_law 2734 = .ok (.i2l, 1) := dk_133 (dk_at dksL_law_109 5 rfl rfl)
theorem dL_law_2735 : decode cL_law 2735 = .ok (.lcmp, 1) := dk_148 (dk_at dksL_law_109 6 rfl rfl)
theorem dL_law_2736 : decode cL_law 2736 = .ok (.ifCond .eq 5, 3) := dk_153 0 5 (dk_at dksL_law_109 7 rfl rfl)
theorem dL_law_2739 : decode cL_law 2739 = .ok (.iconst 0, 1) := dk_3 (dk_at dksL_law_109 10 rfl rfl)
theorem dL_law_2740 : decode cL_law 2740 = .ok (.ireturn, 1) := dk_172 (dk_at dksL_law_109 11 rfl rfl)
theorem dL_law_2741 : decode cL_law 2741 = .ok (.goto 571, 3) := dk_167 2 59 (dk_at dksL_law_109 12 rfl rfl)
theorem dL_law_2744 : decode cL_law 2744 = .ok (.aload_n 1, 1) := dk_43 (dk_at dksL_law_109 15 rfl rfl)
theorem dL_law_2745 : decode cL_law 2745 = .ok (.aload_n 0, 1) := dk_42 (dk_at dksL_law_109 16 rfl rfl)
theorem dL_law_2746 : decode cL_law 2746 = .ok (.iload 4, 2) := dk_21 4 (dk_at dksL_law_109 17 rfl rfl)
theorem dL_law_2748 : decode cL_law 2748 = .ok (.iconst 1, 1) := dk_4 (dk_at dksL_law_109 19 rfl rfl)
theorem dL_law_2749 : decode cL_law 2749 = .ok (.iadd, 1) := dk_96 (dk_at dksL_law_109 20 rfl rfl)
theorem dL_law_2750 : decode cL_law 2750 = .ok (.iaload, 1) := dk_46 (dk_at dksL_law_109 21 rfl rfl)
theorem dL_law_2751 : decode cL_law 2751 = .ok (.aload_n 0, 1) := dk_42 (dk_at dksL_law_109 22 rfl rfl)
theorem dL_law_2752 : decode cL_law 2752 = .ok (.iload 4, 2) := dk_21 4 (dk_at dksL_law_110 0 rfl rfl)
theorem dL_law_2754 : decode cL_law 2754 = .ok (.iconst 2, 1) := dk_5 (dk_at dksL_law_110 2 rfl rfl)
theorem dL_law_2755 : decode cL_law 2755 = .ok (.iadd, 1) := dk_96 (dk_at dksL_law_110 3 rfl rfl)
theorem dL_law_2756 : decode cL_law 2756 = .ok (.iaload, 1) := dk_46 (dk_at dksL_law_110 4 rfl rfl)
theorem dL_law_2757 : decode cL_law 2757 = .ok (.aload_n 3, 1) := dk_45 (dk_at dksL_law_110 5 rfl rfl)
theorem dL_law_2758 : decode cL_law 2758 = .ok (.invokestatic 285, 3) := dk_184 1 29 (dk_at dksL_law_110 6 rfl rfl)
theorem dL_law_2761 : decode cL_law 2761 = .ok (.istore 5, 2) := dk_54 5 (dk_at dksL_law_110 9 rfl rfl)
theorem dL_law_2763 : decode cL_law 2763 = .ok (.aload_n 2, 1) := dk_44 (dk_at dksL_law_110 11 rfl rfl)
theorem dL_law_2764 : decode cL_law 2764 = .ok (.aload_n 0, 1) := dk_42 (dk_at dksL_law_110 12 rfl rfl)
theorem dL_law_2765 : decode cL_law 2765 = .ok (.iload 4, 2) := dk_21 4 (dk_at dksL_law_110 13 rfl rfl)
theorem dL_law_2767 : decode cL_law 2767 = .ok (.iconst 1, 1) := dk_4 (dk_at dksL_law_110 15 rfl rfl)
theorem dL_law_2768 : decode cL_law 2768 = .ok (.iadd, 1) := dk_96 (dk_at dksL_law_110 16 rfl rfl)
theorem dL_law_2769 : decode cL_law 2769 = .ok (.iaload, 1) := dk_46 (dk_at dksL_law_110 17 rfl rfl)
theorem dL_law_2770 : decode cL_law 2770 = .ok (.aload_n 0, 1) := dk_42 (dk_at dksL_law_110 18 rfl rfl)
theorem dL_law_2771 : decode cL_law 2771 = .ok (.iload 4, 2) := dk_21 4 (dk_at dksL_law_110 19 rfl rfl)
theorem dL_law_2773 : decode cL_law 2773 = .ok (.iconst 2, 1) := dk_5 (dk_at dksL_law_110 21 rfl rfl)
theorem dL_law_2774 : decode cL_law 2774 = .ok (.iadd, 1) := dk_96 (dk_at dksL_law_110 22 rfl rfl)
theorem dL_law_2775 : decode cL_law 2775 = .ok (.iaload, 1) := dk_46 (dk_at dksL_law_110 23 rfl rfl)
theorem dL_law_2776 : decode cL_law 2776 = .ok (.invokevirtual 287, 3) := dk_182 1 31 (dk_at dksL_law_111 0 rfl rfl)
theorem dL_law_2779 : decode cL_law 2779 = .ok (.istore 6, 2) := dk_54 6 (dk_at dksL_law_111 3 rfl rfl)
theorem dL_law_2781 : decode cL_law 2781 = .ok (.aload_n 2, 1) := dk_44 (dk_at dksL_law_111 5 rfl rfl)
theorem dL_law_2782 : decode cL_law 2782 = .ok (.invokevirtual 170, 3) := dk_182 0 170 (dk_at dksL_law_111 6 rfl rfl)
theorem dL_law_2785 : decode cL_law 2785 = .ok (.iload 5, 2) := dk_21 5 (dk_at dksL_law_111 9 rfl rfl)
theorem dL_law_2787 : decode cL_law 2787 = .ok (.if_icmp .eq 5, 3) := dk_159 0 5 (dk_at dksL_law_111 11 rfl rfl)
theorem dL_law_2790 : decode cL_law 2790 = .ok (.iconst 0, 1) := dk_3 (dk_at dksL_law_111 14 rfl rfl)
theorem dL_law_2791 : decode cL_law 2791 = .ok (.ireturn, 1) := dk_172 (dk_at dksL_law_111 15 rfl rfl)
theorem dL_law_2792 : decode cL_law 2792 = .ok (.iload 5, 2) := dk_21 5 (dk_at dksL_law_111 16 rfl rfl)
theorem dL_law_2794 : decode cL_law 2794 = .ok (.ifCond .ne 16, 3) := dk_154 0 16 (dk_at dksL_law_111 18 rfl rfl)
theorem dL_law_2797 : decode cL_law 2797 = .ok (.aload_n 3, 1) := dk_45 (dk_at dksL_law_111 21 rfl rfl)
theorem dL_law_2798 : decode cL_law 2798 = .ok (.getfield 13, 3) := dk_180 0 13 (dk_at dksL_law_112 0 rfl rfl)
theorem dL_law_2801 : decode cL_law 2801 = .ok (.iload 6, 2) := dk_21 6 (dk_at dksL_law_112 3 rfl rfl)
theorem dL_law_2803 : decode cL_law 2803 = .ok (.i2l, 1) := dk_133 (dk_at dksL_law_112 5 rfl rfl)
theorem dL_law_2804 : decode cL_law 2804 = .ok (.lcmp, 1) := dk_148 (dk_at dksL_law_112 6 rfl rfl)
theorem dL_law_2805 : decode cL_law 2805 = .ok (.ifCond .eq 5, 3) := dk_153 0 5 (dk_at dksL_law_112 7 rfl rfl)
theorem dL_law_2808 : decode cL_law 2808 = .ok (.iconst 0, 1) := dk_3 (dk_at dksL_law_112 10 rfl rfl)
theorem dL_law_2809 : decode cL_law 2809 = .ok (.ireturn, 1) := dk_172 (dk_at dksL_law_112 11 rfl rfl)
theorem dL_law_2810 : decode cL_law 2810 = .ok (.goto 502, 3) := dk_167 1 246 (dk_at dksL_law_112 12 rfl rfl)
theorem dL_law_2813 : decode cL_law 2813 = .ok (.aload_n 1, 1) := dk_43 (dk_at dksL_law_112 15 rfl rfl)
theorem dL_law_2814 : decode cL_law 2814 = .ok (.aload_n 0, 1) := dk_42 (dk_at dksL_law_112 16 rfl rfl)
theorem dL_law_2815 : decode cL_law 2815 = .ok (.iload 4, 2) := dk_21 4 (dk_at dksL_law_112 17 rfl rfl)
theorem dL_law_2817 : decode cL_law 2817 = .ok (.iconst 1, 1) := dk_4 (dk_at dksL_law_112 19 rfl rfl)
theorem dL_law_2818 : decode cL_law 2818 = .ok (.iadd, 1) := dk_96 (dk_at dksL_law_112 20 rfl rfl)
theorem dL_law_2819 : decode cL_law 2819 = .ok (.iaload, 1) := dk_46 (dk_at dksL_law_112 21 rfl rfl)
theorem dL_law_2820 : decode cL_law 2820 = .ok (.aload_n 0, 1) := dk_42 (dk_at dksL_law_112 22 rfl rfl)
theorem dL_law_2821 : decode cL_law 2821 = .ok (.iload 4, 2) := dk_21 4 (dk_at dksL_law_113 0 rfl rfl)
theorem dL_law_2823 : decode cL_law 2823 = .ok (.iconst 2, 1) := dk_5 (dk_at dksL_law_113 2 rfl rfl)
theorem dL_law_2824 : decode cL_law 2824 = .ok (.iadd, 1) := dk_96 (dk_at dksL_law_113 3 rfl rfl)
theorem dL_law_2825 : decode cL_law 2825 = .ok (.iaload, 1) := dk_46 (dk_at dksL_law_113 4 rfl rfl)
theorem dL_law_2826 : decode cL_law 2826 = .ok (.aload_n 3, 1) := dk_45 (dk_at dksL_law_113 5 rfl rfl)
theorem dL_law_2827 : decode cL_law 2827 = .ok (.invokestatic 288, 3) := dk_184 1 32 (dk_at dksL_law_113 6 rfl rfl)
theorem dL_law_2830 : decode cL_law 2830 = .ok (.istore 5, 2) := dk_54 5 (dk_at dksL_law_113 9 rfl rfl)
theorem dL_law_2832 : decode cL_law 2832 = .ok (.aload_n 2, 1) := dk_44 (dk_at dksL_law_113 11 rfl rfl)
theorem dL_law_2833 : decode cL_law 2833 = .ok (.aload_n 0, 1) := dk_42 (dk_at dksL_law_113 12 rfl rfl)
theorem dL_law_2834 : decode cL_law 2834 = .ok (.iload 4, 2) := dk_21 4 (dk_at dksL_law_113 13 rfl rfl)
theorem dL_law_2836 : decode cL_law 2836 = .ok (.iconst 1, 1) := dk_4 (dk_at dksL_law_113 15 rfl rfl)
theorem dL_law_2837 : decode cL_law 2837 = .ok (.iadd, 1) := dk_96 (dk_at dksL_law_113 16 rfl rfl)
theorem dL_law_2838 : decode cL_law 2838 = .ok (.iaload, 1) := dk_46 (dk_at dksL_law_113 17 rfl rfl)
theorem dL_law_2839 : decode cL_law 2839 = .ok (.aload_n 0, 1) := dk_42 (dk_at dksL_law_113 18 rfl rfl)
theorem dL_law_2840 : decode cL_law 2840 = .ok (.iload 4, 2) := dk_21 4 (dk_at dksL_law_113 19 rfl rfl)
theorem dL_law_2842 : decode cL_law 2842 = .ok (.iconst 2, 1) := dk_5 (dk_at dksL_law_113 21 rfl rfl)
theorem dL_law_2843 : decode cL_law 2843 = .ok (.iadd, 1) := dk_96 (dk_at dksL_law_113 22 rfl rfl)
theorem dL_law_2844 : decode cL_law 2844 = .ok (.iaload, 1) := dk_46 (dk_at dksL_law_113 23 rfl rfl)
theorem dL_law_2845 : decode cL_law 2845 = .ok (.invokevirtual 290, 3) := dk_182 1 34 (dk_at dksL_law_114 0 rfl rfl)
theorem dL_law_2848 : decode cL_law 2848 = .ok (.istore 6, 2) := dk_54 6 (dk_at dksL_law_114 3 rfl rfl)
theorem dL_law_2850 : decode cL_law 2850 = .ok (.aload_n 2, 1) := dk_44 (dk_at dksL_law_114 5 rfl rfl)
theorem dL_law_2851 : decode cL_law 2851 = .ok (.invokevirtual 170, 3) := dk_182 0 170 (dk_at dksL_law_114 6 rfl rfl)
theorem dL_law_2854 : decode cL_law 2854 = .ok (.iload 5, 2) := dk_21 5 (dk_at dksL_law_114 9 rfl rfl)
theorem dL_law_2856 : decode cL_law 2856 = .ok (.if_icmp .eq 5, 3) := dk_159 0 5 (dk_at dksL_law_114 11 rfl rfl)
theorem dL_law_2859 : decode cL_law 2859 = .ok (.iconst 0, 1) := dk_3 (dk_at dksL_law_114 14 rfl rfl)
theorem dL_law_2860 : decode cL_law 2860 = .ok (.ireturn, 1) := dk_172 (dk_at dksL_law_114 15 rfl rfl)
theorem dL_law_2861 : decode cL_law 2861 = .ok (.iload 5, 2) := dk_21 5 (dk_at dksL_law_114 16 rfl rfl)
theorem dL_law_2863 : decode cL_law 2863 = .ok (.ifCond .ne 16, 3) := dk_154 0 16 (dk_at dksL_law_114 18 rfl rfl)
theorem dL_law_2866 : decode cL_law 2866 = .ok (.aload_n 3, 1) := dk_45 (dk_at dksL_law_114 21 rfl rfl)
theorem dL_law_2867 : decode cL_law 2867 = .ok (.getfield 13, 3) := dk_180 0 13 (dk_at dksL_law_115 0 rfl rfl)
theorem dL_law_2870 : decode cL_law 2870 = .ok (.iload 6, 2) := dk_21 6 (dk_at dksL_law_115 3 rfl rfl)
theorem dL_law_2872 : decode cL_law 2872 = .ok (.i2l, 1) := dk_133 (dk_at dksL_law_115 5 rfl rfl)
theorem dL_law_2873 : decode cL_law 2873 = .ok (.lcmp, 1) := dk_148 (dk_at dksL_law_115 6 rfl rfl)
theorem dL_law_2874 : decode cL_law 2874 = .ok (.ifCond .eq 5, 3) := dk_153 0 5 (dk_at dksL_law_115 7 rfl rfl)
theorem dL_law_2877 : decode cL_law 2877 = .ok (.iconst 0, 1) := dk_3 (dk_at dksL_law_115 10 rfl rfl)
theorem dL_law_2878 : decode cL_law 2878 = .ok (.ireturn, 1) := dk_172 (dk_at dksL_law_115 11 rfl rfl)
theorem dL_law_2879 : decode cL_law 2879 = .ok (.goto 433, 3) := dk_167 1 177 (dk_at dksL_law_115 12 rfl rfl)
theorem dL_law_2882 : decode cL_law 2882 = .ok (.aload_n 1, 1) := dk_43 (dk_at dksL_law_115 15 rfl rfl)
theorem dL_law_2883 : decode cL_law 2883 = .ok (.aload_n 0, 1) := dk_42 (dk_at dksL_law_115 16 rfl rfl)
theorem dL_law_2884 : decode cL_law 2884 = .ok (.iload 4, 2) := dk_21 4 (dk_at dksL_law_115 17 rfl rfl)
theorem dL_law_2886 : decode cL_law 2886 = .ok (.iconst 1, 1) := dk_4 (dk_at dksL_law_115 19 rfl rfl)
theorem dL_law_2887 : decode cL_law 2887 = .ok (.iadd, 1) := dk_96 (dk_at dksL_law_115 20 rfl rfl)
theorem dL_law_2888 : decode cL_law 2888 = .ok (.iaload, 1) := dk_46 (dk_at dksL_law_115 21 rfl rfl)
theorem dL_law_2889 : decode cL_law 2889 = .ok (.aload_n 0, 1) := dk_42 (dk_at dksL_law_115 22 rfl rfl)
theorem dL_law_2890 : decode cL_law 2890 = .ok (.iload 4, 2) := dk_21 4 (dk_at dksL_law_116 0 rfl rfl)
theorem dL_law_2892 : decode cL_law 2892 = .ok (.iconst 2, 1) := dk_5 (dk_at dksL_law_116 2 rfl rfl)
theorem dL_law_2893 : decode cL_law 2893 = .ok (.iadd, 1) := dk_96 (dk_at dksL_law_116 3 rfl rfl)
theorem dL_law_2894 : decode cL_law 2894 = .ok (.iaload, 1) := dk_46 (dk_at dksL_law_116 4 rfl rfl)
theorem dL_law_2895 : decode cL_law 2895 = .ok (.aload_n 0, 1) := dk_42 (dk_at dksL_law_116 5 rfl rfl)
theorem dL_law_2896 : decode cL_law 2896 = .ok (.iload 4, 2) := dk_21 4 (dk_at dksL_law_116 6 rfl rfl)
theorem dL_law_2898 : decode cL_law 2898 = .ok (.iconst 3, 1) := dk_6 (dk_at dksL_law_116 8 rfl rfl)
theorem dL_law_2899 : decode cL_law 2899 = .ok (.iadd, 1) := dk_96 (dk_at dksL_law_116 9 rfl rfl)
theorem dL_law_2900 : decode cL_law 2900 = .ok (.iaload, 1) := dk_46 (dk_at dksL_law_116 10 rfl rfl)
theorem dL_law_2901 : decode cL_law 2901 = .ok (.aload_n 3, 1) := dk_45 (dk_at dksL_law_116 11 rfl rfl)
theorem dL_law_2902 : decode cL_law 2902 = .ok (.invokestatic 291, 3) := dk_184 1 35 (dk_at dksL_law_116 12 rfl rfl)
theorem dL_law_2905 : decode cL_law 2905 = .ok (.istore 5, 2) := dk_54 5 (dk_at dksL_law_116 15 rfl rfl)
theorem dL_law_2907 : decode cL_law 2907 = .ok (.aload_n 2, 1) := dk_44 (dk_at dksL_law_116 17 rfl rfl)
theorem dL_law_2908 : decode cL_law 2908 = .ok (.aload_n 0, 1) := dk_42 (dk_at dksL_law_116 18 rfl rfl)
theorem dL_law_2909 : decode cL_law 2909 = .ok (.iload 4, 2) := dk_21 4 (dk_at dksL_law_116 19 rfl rfl)
theorem dL_law_2911 : decode cL_law 2911 = .ok (.iconst 1, 1) := dk_4 (dk_at dksL_law_116 21 rfl rfl)
theorem dL_law_2912 : decode cL_law 2912 = .ok (.iadd, 1) := dk_96 (dk_at dksL_law_116 22 rfl rfl)
theorem dL_law_2913 : decode cL_law 2913 = .ok (.iaload, 1) := dk_46 (dk_at dksL_law_116 23 rfl rfl)
theorem dL_law_2914 : decode cL_law 2914 = .ok (.aload_n 0, 1) := dk_42 (dk_at dksL_law_117 0 rfl rfl)
theorem dL_law_2915 : decode cL_law 2915 = .ok (.iload 4, 2) := dk_21 4 (dk_at dksL_law_117 1 rfl rfl)
theorem dL_law_2917 : decode cL_law 2917 = .ok (.iconst 2, 1) := dk_5 (dk_at dksL_law_117 3 rfl rfl)
theorem dL_law_2918 : decode cL_law 2918 = .ok (.iadd, 1) := dk_96 (dk_at dksL_law_117 4 rfl rfl)
theorem dL_law_2919 : decode cL_law 2919 = .ok (.iaload, 1) := dk_46 (dk_at dksL_law_117 5 rfl rfl)
theorem dL_law_2920 : decode cL_law 2920 = .ok (.aload_n 0, 1) := dk_42 (dk_at dksL_law_117 6 rfl rfl)
theorem dL_law_2921 : decode cL_law 2921 = .ok (.iload 4, 2) := dk_21 4 (dk_at dksL_law_117 7 rfl rfl)
theorem dL_law_2923 : decode cL_law 2923 = .ok (.iconst 3, 1) := dk_6 (dk_at dksL_law_117 9 rfl rfl)
theorem dL_law_2924 : decode cL_law 2924 = .ok (.iadd, 1) := dk_96 (dk_at dksL_law_117 10 rfl rfl)
theorem dL_law_2925 : decode cL_law 2925 = .ok (.iaload, 1) := dk_46 (dk_at dksL_law_117 11 rfl rfl)
theorem dL_law_2926 : decode cL_law 2926 = .ok (.invokevirtual 293, 3) := dk_182 1 37 (dk_at dksL_law_117 12 rfl rfl)
theorem dL_law_2929 : decode cL_law 2929 = .ok (.istore 6, 2) := dk_54 6 (dk_at dksL_law_117 15 rfl rfl)
theorem dL_law_2931 : decode cL_law 2931 = .ok (.aload_n 2, 1) := dk_44 (dk_at dksL_law_117 17 rfl rfl)
theorem dL_law_2932 : decode cL_law 2932 = .ok (.invokevirtual 170, 3) := dk_182 0 170 (dk_at dksL_law_117 18 rfl rfl)
theorem dL_law_2935 : decode cL_law 2935 = .ok (.iload 5, 2) := dk_21 5 (dk_at dksL_law_117 21 rfl rfl)
theorem dL_law_2937 : decode cL_law 2937 = .ok (.if_icmp .eq 5, 3) := dk_159 0 5 (dk_at dksL_law_118 0 rfl rfl)
theorem dL_law_2940 : decode cL_law 2940 = .ok (.iconst 0, 1) := dk_3 (dk_at dksL_law_118 3 rfl rfl)
theorem dL_law_2941 : decode cL_law 2941 = .ok (.ireturn, 1) := dk_172 (dk_at dksL_law_118 4 rfl rfl)
theorem dL_law_2942 : decode cL_law 2942 = .ok (.iload 5, 2) := dk_21 5 (dk_at dksL_law_118 5 rfl rfl)
theorem dL_law_2944 : decode cL_law 2944 = .ok (.ifCond .ne 16, 3) := dk_154 0 16 (dk_at dksL_law_118 7 rfl rfl)
theorem dL_law_2947 : decode cL_law 2947 = .ok (.aload_n 3, 1) := dk_45 (dk_at dksL_law_118 10 rfl rfl)
theorem dL_law_2948 : decode cL_law 2948 = .ok (.getfield 13, 3) := dk_180 0 13 (dk_at dksL_law_118 11 rfl rfl)
theorem dL_law_2951 : decode cL_law 2951 = .ok (.iload 6, 2) := dk_21 6 (dk_at dksL_law_118 14 rfl rfl)
theorem dL_law_2953 : decode cL_law 2953 = .ok (.i2l, 1) := dk_133 (dk_at dksL_law_118 16 rfl rfl)
theorem dL_law_2954 : decode cL_law 2954 = .ok (.lcmp, 1) := dk_148 (dk_at dksL_law_118 17 rfl rfl)
theorem dL_law_2955 : decode cL_law 2955 = .ok (.ifCond .eq 5, 3) := dk_153 0 5 (dk_at dksL_law_118 18 rfl rfl)
theorem dL_law_2958 : decode cL_law 2958 = .ok (.iconst 0, 1) := dk_3 (dk_at dksL_law_118 21 rfl rfl)
theorem dL_law_2959 : decode cL_law 2959 = .ok (.ireturn, 1) := dk_172 (dk_at dksL_law_118 22 rfl rfl)
theorem dL_law_2960 : decode cL_law 2960 = .ok (.goto 352, 3) := dk_167 1 96 (dk_at dksL_law_119 0 rfl rfl)
theorem dL_law_2963 : decode cL_law 2963 = .ok (.aload_n 1, 1) := dk_43 (dk_at dksL_law_119 3 rfl rfl)
theorem dL_law_2964 : decode cL_law 2964 = .ok (.aload_n 0, 1) := dk_42 (dk_at dksL_law_119 4 rfl rfl)
theorem dL_law_2965 : decode cL_law 2965 = .ok (.iload 4, 2) := dk_21 4 (dk_at dksL_law_119 5 rfl rfl)
theorem dL_law_2967 : decode cL_law 2967 = .ok (.iconst 1, 1) := dk_4 (dk_at dksL_law_119 7 rfl rfl)
theorem dL_law_2968 : decode cL_law 2968 = .ok (.iadd, 1) := dk_96 (dk_at dksL_law_119 8 rfl rfl)
theorem dL_law_2969 : decode cL_law 2969 = .ok (.iaload, 1) := dk_46 (dk_at dksL_law_119 9 rfl rfl)
theorem dL_law_2970 : decode cL_law 2970 = .ok (.aload_n 3, 1) := dk_45 (dk_at dksL_law_119 10 rfl rfl)
theorem dL_law_2971 : decode cL_law 2971 = .ok (.invokestatic 294, 3) := dk_184 1 38 (dk_at dksL_law_119 11 rfl rfl)
theorem dL_law_2974 : decode cL_law 2974 = .ok (.istore 5, 2) := dk_54 5 (dk_at dksL_law_119 14 rfl rfl)
theorem dL_law_2976 : decode cL_law 2976 = .ok (.aload_n 2, 1) := dk_44 (dk_at dksL_law_119 16 rfl rfl)
theorem dL_law_2977 : decode cL_law 2977 = .ok (.aload_n 0, 1) := dk_42 (dk_at dksL_law_119 17 rfl rfl)
theorem dL_law_2978 : decode cL_law 2978 = .ok (.iload 4, 2) := dk_21 4 (dk_at dksL_law_119 18 rfl rfl)
theorem dL_law_2980 : decode cL_law 2980 = .ok (.iconst 1, 1) := dk_4 (dk_at dksL_law_119 20 rfl rfl)
theorem dL_law_2981 : decode cL_law 2981 = .ok (.iadd, 1) := dk_96 (dk_at dksL_law_119 21 rfl rfl)
theorem dL_law_2982 : decode cL_law 2982 = .ok (.iaload, 1) := dk_46 (dk_at dksL_law_119 22 rfl rfl)
theorem dL_law_2983 : decode cL_law 2983 = .ok (.invokevirtual 296, 3) := dk_182 1 40 (dk_at dksL_law_120 0 rfl rfl)
theorem dL_law_2986 : decode cL_law 2986 = .ok (.istore 6, 2) := dk_54 6 (dk_at dksL_law_120 3 rfl rfl)
theorem dL_law_2988 : decode cL_law 2988 = .ok (.aload_n 2, 1) := dk_44 (dk_at dksL_law_120 5 rfl rfl)
theorem dL_law_2989 : decode cL_law 2989 = .ok (.invokevirtual 170, 3) := dk_182 0 170 (dk_at dksL_law_120 6 rfl rfl)
theorem dL_law_2992 : decode cL_law 2992 = .ok (.iload 5, 2) := dk_21 5 (dk_at dksL_law_120 9 rfl rfl)
theorem dL_law_2994 : decode cL_law 2994 = .ok (.if_icmp .eq 5, 3) := dk_159 0 5 (dk_at dksL_law_120 11 rfl rfl)
theorem dL_law_2997 : decode cL_law 2997 = .ok (.iconst 0, 1) := dk_3 (dk_at dksL_law_120 14 rfl rfl)
theorem dL_law_2998 : decode cL_law 2998 = .ok (.ireturn, 1) := dk_172 (dk_at dksL_law_120 15 rfl rfl)
theorem dL_law_2999 : decode cL_law 2999 = .ok (.iload 5, 2) := dk_21 5 (dk_at dksL_law_120 16 rfl rfl)
theorem dL_law_3001 : decode cL_law 3001 = .ok (.ifCond .ne 16, 3) := dk_154 0 16 (dk_at dksL_law_120 18 rfl rfl)
theorem dL_law_3004 : decode cL_law 3004 = .ok (.aload_n 3, 1) := dk_45 (dk_at dksL_law_120 21 rfl rfl)
theorem dL_law_3005 : decode cL_law 3005 = .ok (.getfield 13, 3) := dk_180 0 13 (dk_at dksL_law_121 0 rfl rfl)
theorem dL_law_3008 : decode cL_law 3008 = .ok (.iload 6, 2) := dk_21 6 (dk_at dksL_law_121 3 rfl rfl)
theorem dL_law_3010 : decode cL_law 3010 = .ok (.i2l, 1) := dk_133 (dk_at dksL_law_121 5 rfl rfl)
theorem dL_law_3011 : decode cL_law 3011 = .ok (.lcmp, 1) := dk_148 (dk_at dksL_law_121 6 rfl rfl)
theorem dL_law_3012 : decode cL_law 3012 = .ok (.ifCond .eq 5, 3) := dk_153 0 5 (dk_at dksL_law_121 7 rfl rfl)
theorem dL_law_3015 : decode cL_law 3015 = .ok (.iconst 0, 1) := dk_3 (dk_at dksL_law_121 10 rfl rfl)
theorem dL_law_3016 : decode cL_law 3016 = .ok (.ireturn, 1) := dk_172 (dk_at dksL_law_121 11 rfl rfl)
theorem dL_law_3017 : decode cL_law 3017 = .ok (.goto 295, 3) := dk_167 1 39 (dk_at dksL_law_121 12 rfl rfl)
theorem dL_law_3020 : decode cL_law 3020 = .ok (.aload_n 1, 1) := dk_43 (dk_at dksL_law_121 15 rfl rfl)
theorem dL_law_3021 : decode cL_law 3021 = .ok (.aload_n 0, 1) := dk_42 (dk_at dksL_law_121 16 rfl rfl)
theorem dL_law_3022 : decode cL_law 3022 = .ok (.iload 4, 2) := dk_21 4 (dk_at dksL_law_121 17 rfl rfl)
theorem dL_law_3024 : decode cL_law 3024 = .ok (.iconst 1, 1) := dk_4 (dk_at dksL_law_121 19 rfl rfl)
theorem dL_law_3025 : decode cL_law 3025 = .ok (.iadd, 1) := dk_96 (dk_at dksL_law_121 20 rfl rfl)
theorem dL_law_3026 : decode cL_law 3026 = .ok (.iaload, 1) := dk_46 (dk_at dksL_law_121 21 rfl rfl)
theorem dL_law_3027 : decode cL_law 3027 = .ok (.aload_n 0, 1) := dk_42 (dk_at dksL_law_121 22 rfl rfl)
theorem dL_law_3028 : decode cL_law 3028 = .ok (.iload 4, 2) := dk_21 4 (dk_at dksL_law_122 0 rfl rfl)
theorem dL_law_3030 : decode cL_law 3030 = .ok (.iconst 2, 1) := dk_5 (dk_at dksL_law_122 2 rfl rfl)
theorem dL_law_3031 : decode cL_law 3031 = .ok (.iadd, 1) := dk_96 (dk_at dksL_law_122 3 rfl rfl)
theorem dL_law_3032 : decode cL_law 3032 = .ok (.iaload, 1) := dk_46 (dk_at dksL_law_122 4 rfl rfl)
theorem dL_law_3033 : decode cL_law 3033 = .ok (.aload_n 0, 1) := dk_42 (dk_at dksL_law_122 5 rfl rfl)
theorem dL_law_3034 : decode cL_law 3034 = .ok (.iload 4, 2) := dk_21 4 (dk_at dksL_law_122 6 rfl rfl)
theorem dL_law_3036 : decode cL_law 3036 = .ok (.iconst 3, 1) := dk_6 (dk_at dksL_law_122 8 rfl rfl)
theorem dL_law_3037 : decode cL_law 3037 = .ok (.iadd, 1) := dk_96 (dk_at dksL_law_122 9 rfl rfl)
theorem dL_law_3038 : decode cL_law 3038 = .ok (.iaload, 1) := dk_46 (dk_at dksL_law_122 10 rfl rfl)
theorem dL_law_3039 : decode cL_law 3039 = .ok (.aload_n 3, 1) := dk_45 (dk_at dksL_law_122 11 rfl rfl)
theorem dL_law_3040 : decode cL_law 3040 = .ok (.invokestatic 297, 3) := dk_184 1 41 (dk_at dksL_law_122 12 rfl rfl)
theorem dL_law_3043 : decode cL_law 3043 = .ok (.istore 5, 2) := dk_54 5 (dk_at dksL_law_122 15 rfl rfl)
theorem dL_law_3045 : decode cL_law 3045 = .ok (.aload_n 2, 1) := dk_44 (dk_at dksL_law_122 17 rfl rfl)
theorem dL_law_3046 : decode cL_law 3046 = .ok (.aload_n 0, 1) := dk_42 (dk_at dksL_law_122 18 rfl rfl)
theorem dL_law_3047 : decode cL_law 3047 = .ok (.iload 4, 2) := dk_21 4 (dk_at dksL_law_122 19 rfl rfl)
theorem dL_law_3049 : decode cL_law 3049 = .ok (.iconst 1, 1) := dk_4 (dk_at dksL_law_122 21 rfl rfl)
theorem dL_law_3050 : decode cL_law 3050 = .ok (.iadd, 1) := dk_96 (dk_at dksL_law_122 22 rfl rfl)
theorem dL_law_3051 : decode cL_law 3051 = .ok (.iaload, 1) := dk_46 (dk_at dksL_law_122 23 rfl rfl)
theorem dL_law_3052 : decode cL_law 3052 = .ok (.aload_n 0, 1) := dk_42 (dk_at dksL_law_123 0 rfl rfl)
theorem dL_law_3053 : decode cL_law 3053 = .ok (.iload 4, 2) := dk_21 4 (dk_at dksL_law_123 1 rfl rfl)
theorem dL_law_3055 : decode cL_law 3055 = .ok (.iconst 2, 1) := dk_5 (dk_at dksL_law_123 3 rfl rfl)
theorem dL_law_3056 : decode cL_law 3056 = .ok (.iadd, 1) := dk_96 (dk_at dksL_law_123 4 rfl rfl)
theorem dL_law_3057 : decode cL_law 3057 = .ok (.iaload, 1) := dk_46 (dk_at dksL_law_123 5 rfl rfl)
theorem dL_law_3058 : decode cL_law 3058 = .ok (.aload_n 0, 1) := dk_42 (dk_at dksL_law_123 6 rfl rfl)
theorem dL_law_3059 : decode cL_law 3059 = .ok (.iload 4, 2) := dk_21 4 (dk_at dksL_law_123 7 rfl rfl)
theorem dL_law_3061 : decode cL_law 3061 = .ok (.iconst 3, 1) := dk_6 (dk_at dksL_law_123 9 rfl rfl)
theorem dL_law_3062 : decode cL_law 3062 = .ok (.iadd, 1) := dk_96 (dk_at dksL_law_123 10 rfl rfl)
theorem dL_law_3063 : decode cL_law 3063 = .ok (.iaload, 1) := dk_46 (dk_at dksL_law_123 11 rfl rfl)
theorem dL_law_3064 : decode cL_law 3064 = .ok (.invokevirtual 299, 3) := dk_182 1 43 (dk_at dksL_law_123 12 rfl rfl)
theorem dL_law_3067 : decode cL_law 3067 = .ok (.istore 6, 2) := dk_54 6 (dk_at dksL_law_123 15 rfl rfl)
theorem dL_law_3069 : decode cL_law 3069 = .ok (.aload_n 2, 1) := dk_44 (dk_at dksL_law_123 17 rfl rfl)
theorem dL_law_3070 : decode cL_law 3070 = .ok (.invokevirtual 170, 3) := dk_182 0 170 (dk_at dksL_law_123 18 rfl rfl)
theorem dL_law_3073 : decode cL_law 3073 = .ok (.iload 5, 2) := dk_21 5 (dk_at dksL_law_123 21 rfl rfl)
theorem dL_law_3075 : decode cL_law 3075 = .ok (.if_icmp .eq 5, 3) := dk_159 0 5 (dk_at dksL_law_124 0 rfl rfl)
theorem dL_law_3078 : decode cL_law 3078 = .ok (.iconst 0, 1) := dk_3 (dk_at dksL_law_124 3 rfl rfl)
theorem dL_law_3079 : decode cL_law 3079 = .ok (.ireturn, 1) := dk_172 (dk_at dksL_law_124 4 rfl rfl)
theorem dL_law_3080 : decode cL_law 3080 = .ok (.iload 5, 2) := dk_21 5 (dk_at dksL_law_124 5 rfl rfl)
theorem dL_law_3082 : decode cL_law 3082 = .ok (.ifCond .ne 16, 3) := dk_154 0 16 (dk_at dksL_law_124 7 rfl rfl)
theorem dL_law_3085 : decode cL_law 3085 = .ok (.aload_n 3, 1) := dk_45 (dk_at dksL_law_124 10 rfl rfl)
theorem dL_law_3086 : decode cL_law 3086 = .ok (.getfield 13, 3) := dk_180 0 13 (dk_at dksL_law_124 11 rfl rfl)
theorem dL_law_3089 : decode cL_law 3089 = .ok (.iload 6, 2) := dk_21 6 (dk_at dksL_law_124 14 rfl rfl)
theorem dL_law_3091 : decode cL_law 3091 = .ok (.i2l, 1) := dk_133 (dk_at dksL_law_124 16 rfl rfl)
theorem dL_law_3092 : decode cL_law 3092 = .ok (.lcmp, 1) := dk_148 (dk_at dksL_law_124 17 rfl rfl)
theorem dL_law_3093 : decode cL_law 3093 = .ok (.ifCond .eq 5, 3) := dk_153 0 5 (dk_at dksL_law_124 18 rfl rfl)
theorem dL_law_3096 : decode cL_law 3096 = .ok (.iconst 0, 1) := dk_3 (dk_at dksL_law_124 21 rfl rfl)
theorem dL_law_3097 : decode cL_law 3097 = .ok (.ireturn, 1) := dk_172 (dk_at dksL_law_124 22 rfl rfl)
theorem dL_law_3098 : decode cL_law 3098 = .ok (.goto 214, 3) := dk_167 0 214 (dk_at dksL_law_125 0 rfl rfl)
theorem dL_law_3101 : decode cL_law 3101 = .ok (.aload_n 1, 1) := dk_43 (dk_at dksL_law_125 3 rfl rfl)
theorem dL_law_3102 : decode cL_law 3102 = .ok (.invokevirtual 300, 3) := dk_182 1 44 (dk_at dksL_law_125 4 rfl rfl)
theorem dL_law_3105 : decode cL_law 3105 = .ok (.aload_n 2, 1) := dk_44 (dk_at dksL_law_125 7 rfl rfl)
theorem dL_law_3106 : decode cL_law 3106 = .ok (.invokevirtual 303, 3) := dk_182 1 47 (dk_at dksL_law_125 8 rfl rfl)
theorem dL_law_3109 : decode cL_law 3109 = .ok (.if_icmp .eq 203, 3) := dk_159 0 203 (dk_at dksL_law_125 11 rfl rfl)
theorem dL_law_3112 : decode cL_law 3112 = .ok (.iconst 0, 1) := dk_3 (dk_at dksL_law_125 14 rfl rfl)
theorem dL_law_3113 : decode cL_law 3113 = .ok (.ireturn, 1) := dk_172 (dk_at dksL_law_125 15 rfl rfl)
theorem dL_law_3114 : decode cL_law 3114 = .ok (.aload_n 1, 1) := dk_43 (dk_at dksL_law_125 16 rfl rfl)
theorem dL_law_3115 : decode cL_law 3115 = .ok (.aload_n 0, 1) := dk_42 (dk_at dksL_law_125 17 rfl rfl)
theorem dL_law_3116 : decode cL_law 3116 = .ok (.iload 4, 2) := dk_21 4 (dk_at dksL_law_125 18 rfl rfl)
theorem dL_law_3118 : decode cL_law 3118 = .ok (.iconst 1, 1) := dk_4 (dk_at dksL_law_125 20 rfl rfl)
theorem dL_law_3119 : decode cL_law 3119 = .ok (.iadd, 1) := dk_96 (dk_at dksL_law_125 21 rfl rfl)
theorem dL_law_3120 : decode cL_law 3120 = .ok (.iaload, 1) := dk_46 (dk_at dksL_law_125 22 rfl rfl)
theorem dL_law_3121 : decode cL_law 3121 = .ok (.aload_n 3, 1) := dk_45 (dk_at dksL_law_125 23 rfl rfl)
theorem dL_law_3122 : decode cL_law 3122 = .ok (.invokestatic 304, 3) := dk_184 1 48 (dk_at dksL_law_126 0 rfl rfl)
theorem dL_law_3125 : decode cL_law 3125 = .ok (.istore 5, 2) := dk_54 5 (dk_at dksL_law_126 3 rfl rfl)
theorem dL_law_3127 : decode cL_law 3127 = .ok (.aload_n 2, 1) := dk_44 (dk_at dksL_law_126 5 rfl rfl)
theorem dL_law_3128 : decode cL_law 3128 = .ok (.aload_n 0, 1) := dk_42 (dk_at dksL_law_126 6 rfl rfl)
theorem dL_law_3129 : decode cL_law 3129 = .ok (.iload 4, 2) := dk_21 4 (dk_at dksL_law_126 7 rfl rfl)
theorem dL_law_3131 : decode cL_law 3131 = .ok (.iconst 1, 1) := dk_4 (dk_at dksL_law_126 9 rfl rfl)
theorem dL_law_3132 : decode cL_law 3132 = .ok (.iadd, 1) := dk_96 (dk_at dksL_law_126 10 rfl rfl)
theorem dL_law_3133 : decode cL_law 3133 = .ok (.iaload, 1) := dk_46 (dk_at dksL_law_126 11 rfl rfl)
theorem dL_law_3134 : decode cL_law 3134 = .ok (.invokevirtual 306, 3) := dk_182 1 50 (dk_at dksL_law_126 12 rfl rfl)
theorem dL_law_3137 : decode cL_law 3137 = .ok (.istore 6, 2) := dk_54 6 (dk_at dksL_law_126 15 rfl rfl)
theorem dL_law_3139 : decode cL_law 3139 = .ok (.aload_n 2, 1) := dk_44 (dk_at dksL_law_126 17 rfl rfl)
theorem dL_law_3140 : decode cL_law 3140 = .ok (.invokevirtual 170, 3) := dk_182 0 170 (dk_at dksL_law_126 18 rfl rfl)
theorem dL_law_3143 : decode cL_law 3143 = .ok (.iload 5, 2) := dk_21 5 (dk_at dksL_law_126 21 rfl rfl)
theorem dL_law_3145 : decode cL_law 3145 = .ok (.if_icmp .eq 5, 3) := dk_159 0 5 (dk_at dksL_law_127 0 rfl rfl)
theorem dL_law_3148 : decode cL_law 3148 = .ok (.iconst 0, 1) := dk_3 (dk_at dksL_law_127 3 rfl rfl)
theorem dL_law_3149 : decode cL_law 3149 = .ok (.ireturn, 1) := dk_172 (dk_at dksL_law_127 4 rfl rfl)
theorem dL_law_3150 : decode cL_law 3150 = .ok (.iload 5, 2) := dk_21 5 (dk_at dksL_law_127 5 rfl rfl)
theorem dL_law_3152 : decode cL_law 3152 = .ok (.ifCond .ne 16, 3) := dk_154 0 16 (dk_at dksL_law_127 7 rfl rfl)
theorem dL_law_3155 : decode cL_law 3155 = .ok (.aload_n 3, 1) := dk_45 (dk_at dksL_law_127 10 rfl rfl)
theorem dL_law_3156 : decode cL_law 3156 = .ok (.getfield 13, 3) := dk_180 0 13 (dk_at dksL_law_127 11 rfl rfl)
theorem dL_law_3159 : decode cL_law 3159 = .ok (.iload 6, 2) := dk_21 6 (dk_at dksL_law_127 14 rfl rfl)
theorem dL_law_3161 : decode cL_law 3161 = .ok (.i2l, 1) := dk_133 (dk_at dksL_law_127 16 rfl rfl)
theorem dL_law_3162 : decode cL_law 3162 = .ok (.lcmp, 1) := dk_148 (dk_at dksL_law_127 17 rfl rfl)
theorem dL_law_3163 : decode cL_law 3163 = .ok (.ifCond .eq 5, 3) := dk_153 0 5 (dk_at dksL_law_127 18 rfl rfl)
theorem dL_law_3166 : decode cL_law 3166 = .ok (.iconst 0, 1) := dk_3 (dk_at dksL_law_127 21 rfl rfl)
theorem dL_law_3167 : decode cL_law 3167 = .ok (.ireturn, 1) := dk_172 (dk_at dksL_law_127 22 rfl rfl)
theorem dL_law_3168 : decode cL_law 3168 = .ok (.goto 144, 3) := dk_167 0 144 (dk_at dksL_law_128 0 rfl rfl)
theorem dL_law_3171 : decode cL_law 3171 = .ok (.aload_n 1, 1) := dk_43 (dk_at dksL_law_128 3 rfl rfl)
theorem dL_law_3172 : decode cL_law 3172 = .ok (.aload_n 0, 1) := dk_42 (dk_at dksL_law_128 4 rfl rfl)
theorem dL_law_3173 : decode cL_law 3173 = .ok (.iload 4, 2) := dk_21 4 (dk_at dksL_law_128 5 rfl rfl)
theorem dL_law_3175 : decode cL_law 3175 = .ok (.iconst 1, 1) := dk_4 (dk_at dksL_law_128 7 rfl rfl)
theorem dL_law_3176 : decode cL_law 3176 = .ok (.iadd, 1) := dk_96 (dk_at dksL_law_128 8 rfl rfl)
theorem dL_law_3177 : decode cL_law 3177 = .ok (.iaload, 1) := dk_46 (dk_at dksL_law_128 9 rfl rfl)
theorem dL_law_3178 : decode cL_law 3178 = .ok (.aload_n 3, 1) := dk_45 (dk_at dksL_law_128 10 rfl rfl)
theorem dL_law_3179 : decode cL_law 3179 = .ok (.invokestatic 307, 3) := dk_184 1 51 (dk_at dksL_law_128 11 rfl rfl)
theorem dL_law_3182 : decode cL_law 3182 = .ok (.istore 5, 2) := dk_54 5 (dk_at dksL_law_128 14 rfl rfl)
theorem dL_law_3184 : decode cL_law 3184 = .ok (.aload_n 2, 1) := dk_44 (dk_at dksL_law_128 16 rfl rfl)
theorem dL_law_3185 : decode cL_law 3185 = .ok (.aload_n 0, 1) := dk_42 (dk_at dksL_law_128 17 rfl rfl)
theorem dL_law_3186 : decode cL_law 3186 = .ok (.iload 4, 2) := dk_21 4 (dk_at dksL_law_128 18 rfl rfl)
theorem dL_law_3188 : decode cL_law 3188 = .ok (.iconst 1, 1) := dk_4 (dk_at dksL_law_128 20 rfl rfl)
theorem dL_law_3189 : decode cL_law 3189 = .ok (.iadd, 1) := dk_96 (dk_at dksL_law_128 21 rfl rfl)
theorem dL_law_3190 : decode cL_law 3190 = .ok (.iaload, 1) := dk_46 (dk_at dksL_law_128 22 rfl rfl)
theorem dL_law_3191 : decode cL_law 3191 = .ok (.invokevirtual 309, 3) := dk_182 1 53 (dk_at dksL_law_129 0 rfl rfl)
theorem dL_law_3194 : decode cL_law 3194 = .ok (.istore 6, 2) := dk_54 6 (dk_at dksL_law_129 3 rfl rfl)
theorem dL_law_3196 : decode cL_law 3196 = .ok (.aload_n 2, 1) := dk_44 (dk_at dksL_law_129 5 rfl rfl)
theorem dL_law_3197 : decode cL_law 3197 = .ok (.invokevirtual 170, 3) := dk_182 0 170 (dk_at dksL_law_129 6 rfl rfl)
theorem dL_law_3200 : decode cL_law 3200 = .ok (.iload 5, 2) := dk_21 5 (dk_at dksL_law_129 9 rfl rfl)
theorem dL_law_3202 : decode cL_law 3202 = .ok (.if_icmp .eq 5, 3) := dk_159 0 5 (dk_at dksL_law_129 11 rfl rfl)
theorem dL_law_3205 : decode cL_law 3205 = .ok (.iconst 0, 1) := dk_3 (dk_at dksL_law_129 14 rfl rfl)
theorem dL_law_3206 : decode cL_law 3206 = .ok (.ireturn, 1) := dk_172 (dk_at dksL_law_129 15 rfl rfl)
theorem dL_law_3207 : decode cL_law 3207 = .ok (.iload 5, 2) := dk_21 5 (dk_at dksL_law_129 16 rfl rfl)
theorem dL_law_3209 : decode cL_law 3209 = .ok (.ifCond .ne 16, 3) := dk_154 0 16 (dk_at dksL_law_129 18 rfl rfl)
theorem dL_law_3212 : decode cL_law 3212 = .ok (.aload_n 3, 1) := dk_45 (dk_at dksL_law_129 21 rfl rfl)
theorem dL_law_3213 : decode cL_law 3213 = .ok (.getfield 13, 3) := dk_180 0 13 (dk_at dksL_law_130 0 rfl rfl)
theorem dL_law_3216 : decode cL_law 3216 = .ok (.iload 6, 2) := dk_21 6 (dk_at dksL_law_130 3 rfl rfl)
theorem dL_law_3218 : decode cL_law 3218 = .ok (.i2l, 1) := dk_133 (dk_at dksL_law_130 5 rfl rfl)
theorem dL_law_3219 : decode cL_law 3219 = .ok (.lcmp, 1) := dk_148 (dk_at dksL_law_130 6 rfl rfl)
theorem dL_law_3220 : decode cL_law 3220 = .ok (.ifCond .eq 5, 3) := dk_153 0 5 (dk_at dksL_law_130 7 rfl rfl)
theorem dL_law_3223 : decode cL_law 3223 = .ok (.iconst 0, 1) := dk_3 (dk_at dksL_law_130 10 rfl rfl)
theorem dL_law_3224 : decode cL_law 3224 = .ok (.ireturn, 1) := dk_172 (dk_at dksL_law_130 11 rfl rfl)
theorem dL_law_3225 : decode cL_law 3225 = .ok (.goto 87, 3) := dk_167 0 87 (dk_at dksL_law_130 12 rfl rfl)
theorem dL_law_3228 : decode cL_law 3228 = .ok (.aload_n 1, 1) := dk_43 (dk_at dksL_law_130 15 rfl rfl)
theorem dL_law_3229 : decode cL_law 3229 = .ok (.aload_n 0, 1) := dk_42 (dk_at dksL_law_130 16 rfl rfl)
theorem dL_law_3230 : decode cL_law 3230 = .ok (.iload 4, 2) := dk_21 4 (dk_at dksL_law_130 17 rfl rfl)
theorem dL_law_3232 : decode cL_law 3232 = .ok (.iconst 1, 1) := dk_4 (dk_at dksL_law_130 19 rfl rfl)
theorem dL_law_3233 : decode cL_law 3233 = .ok (.iadd, 1) := dk_96 (dk_at dksL_law_130 20 rfl rfl)
theorem dL_law_3234 : decode cL_law 3234 = .ok (.iaload, 1) := dk_46 (dk_at dksL_law_130 21 rfl rfl)
theorem dL_law_3235 : decode cL_law 3235 = .ok (.aload_n 3, 1) := dk_45 (dk_at dksL_law_130 22 rfl rfl)
theorem dL_law_3236 : decode cL_law 3236 = .ok (.invokestatic 310, 3) := dk_184 1 54 (dk_at dksL_law_131 0 rfl rfl)
theorem dL_law_3239 : decode cL_law 3239 = .ok (.istore 5, 2) := dk_54 5 (dk_at dksL_law_131 3 rfl rfl)
theorem dL_law_3241 : decode cL_law 3241 = .ok (.aload_n 2, 1) := dk_44 (dk_at dksL_law_131 5 rfl rfl)
theorem dL_law_3242 : decode cL_law 3242 = .ok (.aload_n 0, 1) := dk_42 (dk_at dksL_law_131 6 rfl rfl)
theorem dL_law_3243 : decode cL_law 3243 = .ok (.iload 4, 2) := dk_21 4 (dk_at dksL_law_131 7 rfl rfl)
theorem dL_law_3245 : decode cL_law 3245 = .ok (.iconst 1, 1) := dk_4 (dk_at dksL_law_131 9 rfl rfl)
theorem dL_law_3246 : decode cL_law 3246 = .ok (.iadd, 1) := dk_96 (dk_at dksL_law_131 10 rfl rfl)
theorem dL_law_3247 : decode cL_law 3247 = .ok (.iaload, 1) := dk_46 (dk_at dksL_law_131 11 rfl rfl)
theorem dL_law_3248 : decode cL_law 3248 = .ok (.invokevirtual 312, 3) := dk_182 1 56 (dk_at dksL_law_131 12 rfl rfl)
theorem dL_law_3251 : decode cL_law 3251 = .ok (.istore 6, 2) := dk_54 6 (dk_at dksL_law_131 15 rfl rfl)
theorem dL_law_3253 : decode cL_law 3253 = .ok (.aload_n 2, 1) := dk_44 (dk_at dksL_law_131 17 rfl rfl)
theorem dL_law_3254 : decode cL_law 3254 = .ok (.invokevirtual 170, 3) := dk_182 0 170 (dk_at dksL_law_131 18 rfl rfl)
theorem dL_law_3257 : decode cL_law 3257 = .ok (.iload 5, 2) := dk_21 5 (dk_at dksL_law_131 21 rfl rfl)
theorem dL_law_3259 : decode cL_law 3259 = .ok (.if_icmp .eq 5, 3) := dk_159 0 5 (dk_at dksL_law_132 0 rfl rfl)
theorem dL_law_3262 : decode cL_law 3262 = .ok (.iconst 0, 1) := dk_3 (dk_at dksL_law_132 3 rfl rfl)
theorem dL_law_3263 : decode cL_law 3263 = .ok (.ireturn, 1) := dk_172 (dk_at dksL_law_132 4 rfl rfl)
theorem dL_law_3264 : decode cL_law 3264 = .ok (.iload 5, 2) := dk_21 5 (dk_at dksL_law_132 5 rfl rfl)
theorem dL_law_3266 : decode cL_law 3266 = .ok (.ifCond .ne 16, 3) := dk_154 0 16 (dk_at dksL_law_132 7 rfl rfl)
theorem dL_law_3269 : decode cL_law 3269 = .ok (.aload_n 3, 1) := dk_45 (dk_at dksL_law_132 10 rfl rfl)
theorem dL_law_3270 : decode cL_law 3270 = .ok (.getfield 13, 3) := dk_180 0 13 (dk_at dksL_law_132 11 rfl rfl)
theorem dL_law_3273 : decode cL_law 3273 = .ok (.iload 6, 2) := dk_21 6 (dk_at dksL_law_132 14 rfl rfl)
theorem dL_law_3275 : decode cL_law 3275 = .ok (.i2l, 1) := dk_133 (dk_at dksL_law_132 16 rfl rfl)
theorem dL_law_3276 : decode cL_law 3276 = .ok (.lcmp, 1) := dk_148 (dk_at dksL_law_132 17 rfl rfl)
theorem dL_law_3277 : decode cL_law 3277 = .ok (.ifCond .eq 5, 3) := dk_153 0 5 (dk_at dksL_law_132 18 rfl rfl)
theorem dL_law_3280 : decode cL_law 3280 = .ok (.iconst 0, 1) := dk_3 (dk_at dksL_law_132 21 rfl rfl)
theorem dL_law_3281 : decode cL_law 3281 = .ok (.ireturn, 1) := dk_172 (dk_at dksL_law_132 22 rfl rfl)
theorem dL_law_3282 : decode cL_law 3282 = .ok (.goto 30, 3) := dk_167 0 30 (dk_at dksL_law_133 0 rfl rfl)
theorem dL_law_3285 : decode cL_law 3285 = .ok (.aload_n 1, 1) := dk_43 (dk_at dksL_law_133 3 rfl rfl)
theorem dL_law_3286 : decode cL_law 3286 = .ok (.invokevirtual 313, 3) := dk_182 1 57 (dk_at dksL_law_133 4 rfl rfl)
theorem dL_law_3289 : decode cL_law 3289 = .ok (.aload_n 2, 1) := dk_44 (dk_at dksL_law_133 7 rfl rfl)
theorem dL_law_3290 : decode cL_law 3290 = .ok (.invokevirtual 317, 3) := dk_182 1 61 (dk_at dksL_law_133 8 rfl rfl)
theorem dL_law_3293 : decode cL_law 3293 = .ok (.if_icmp .eq 19, 3) := dk_159 0 19 (dk_at dksL_law_133 11 rfl rfl)
theorem dL_law_3296 : decode cL_law 3296 = .ok (.iconst 0, 1) := dk_3 (dk_at dksL_law_133 14 rfl rfl)
theorem dL_law_3297 : decode cL_law 3297 = .ok (.ireturn, 1) := dk_172 (dk_at dksL_law_133 15 rfl rfl)
theorem dL_law_3298 : decode cL_law 3298 = .ok (.aload_n 1, 1) := dk_43 (dk_at dksL_law_133 16 rfl rfl)
theorem dL_law_3299 : decode cL_law 3299 = .ok (.invokevirtual 318, 3) := dk_182 1 62 (dk_at dksL_law_133 17 rfl rfl)
theorem dL_law_3302 : decode cL_law 3302 = .ok (.aload_n 2, 1) := dk_44 (dk_at dksL_law_133 20 rfl rfl)
theorem dL_law_3303 : decode cL_law 3303 = .ok (.invokevirtual 322, 3) := dk_182 1 66 (dk_at dksL_law_133 21 rfl rfl)
theorem dL_law_3306 : decode cL_law 3306 = .ok (.lcmp, 1) := dk_148 (dk_at dksL_law_134 0 rfl rfl)
theorem dL_law_3307 : decode cL_law 3307 = .ok (.ifCond .eq 5, 3) := dk_153 0 5 (dk_at dksL_law_134 1 rfl rfl)
theorem dL_law_3310 : decode cL_law 3310 = .ok (.iconst 0, 1) := dk_3 (dk_at dksL_law_134 4 rfl rfl)
theorem dL_law_3311 : decode cL_law 3311 = .ok (.ireturn, 1) := dk_172 (dk_at dksL_law_134 5 rfl rfl)
theorem dL_law_3312 : decode cL_law 3312 = .ok (.iinc 4 6, 3) := dk_132 4 6 (dk_at dksL_law_134 6 rfl rfl)
theorem dL_law_3315 : decode cL_law 3315 = .ok (.goto (-3288), 3) := dk_167 243 40 (dk_at dksL_law_134 9 rfl rfl)
theorem dL_law_3318 : decode cL_law 3318 = .ok (.iconst 1, 1) := dk_4 (dk_at dksL_law_134 12 rfl rfl)
theorem dL_law_3319 : decode cL_law 3319 = .ok (.ireturn, 1) := dk_172 (dk_at dksL_law_134 13 rfl rfl)
