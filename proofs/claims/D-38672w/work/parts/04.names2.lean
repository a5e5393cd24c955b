/-! TwinrowModel -/
set_option maxRecDepth 100000
def RX2 : String := "TwinrowModel"
def TX2 : u_T := fun k => match k with
  | 0 => ("TwinrowModel", "rows", "[[I", true)
  | 1 => ("TwinrowModel", "rowsOf", "[I", true)
  | 2 => ("TwinrowModel", "begins", "[I", true)
  | 3 => ("TwinrowModel", "lengths", "[I", true)
  | 4 => ("TwinrowModel", "knocks", "I", false)
  | 5 => ("TwinrowModel", "refusals", "I", false)
  | 6 => ("TwinrowModel", "thrown", "I", false)
  | _ => ("TwinrowModel", "sum", "J", false)
def tyX2 : Nat → FieldType := fun k => match k with
  | 0 => .array (.array .int)
  | 1 => .array .int
  | 2 => .array .int
  | 3 => .array .int
  | 4 => .int
  | 5 => .int
  | 6 => .int
  | _ => .long
abbrev wsX20 : List Cond := u_ws RX2 TX2 8
theorem nmX2 : ∀ a, a < 8 → ∀ b, b < 8 → a ≠ b → (TX2 a).2.1 ≠ (TX2 b).2.1 := by decide +kernel
theorem tyX2_ok : ∀ k, k < 8 → parseFieldDescriptor (TX2 k).2.2.1 = some (tyX2 k) := by decide +kernel
abbrev cX2_init : ByteArray := prog_8_method_1_code
def yX2_init : MethodName := ⟨RX2, "<init>", "()V"⟩
def dkwX2_init_4 : List UInt8 := [89, 7, 3, 79, 89, 8, 3, 79, 89, 16, 6, 3, 79, 181, 0, 21, 177]
abbrev dktX2_init_4 : List UInt8 := dkwX2_init_4 ++ []
def dkwX2_init_3 : List UInt8 := [181, 0, 18, 42, 16, 7, 188, 10, 89, 3, 7, 79, 89, 4, 7, 79, 89, 5, 7, 79, 89, 6, 3, 79]
abbrev dktX2_init_3 : List UInt8 := dkwX2_init_3 ++ dktX2_init_4
def dkwX2_init_2 : List UInt8 := [6, 2, 79, 89, 7, 2, 79, 89, 8, 2, 79, 89, 16, 6, 2, 79, 181, 0, 15, 42, 16, 7, 188, 10]
abbrev dktX2_init_2 : List UInt8 := dkwX2_init_2 ++ dktX2_init_3
def dkwX2_init_1 : List UInt8 := [188, 10, 83, 181, 0, 9, 42, 16, 7, 188, 10, 89, 3, 3, 79, 89, 4, 4, 79, 89, 5, 5, 79, 89]
abbrev dktX2_init_1 : List UInt8 := dkwX2_init_1 ++ dktX2_init_2
def dkwX2_init_0 : List UInt8 := [42, 183, 0, 1, 42, 6, 189, 0, 7, 89, 3, 7, 188, 10, 83, 89, 4, 7, 188, 10, 83, 89, 5, 7]
abbrev dktX2_init_0 : List UInt8 := dkwX2_init_0 ++ dktX2_init_1
theorem dksX2_init_0 : cX2_init.data.toList.drop 0 = dktX2_init_0 := by decide +kernel
theorem dksX2_init_1 : cX2_init.data.toList.drop 24 = dktX2_init_1 := dk_seg dksX2_init_0 24 rfl rfl
theorem dksX2_init_2 : cX2_init.data.toList.drop 48 = dktX2_init_2 := dk_seg dksX2_init_1 24 rfl rfl
theorem dksX2_init_3 : cX2_init.data.toList.drop 72 = dktX2_init_3 := dk_seg dksX2_init_2 24 rfl rfl
theorem dksX2_init_4 : cX2_init.data.toList.drop 96 = dktX2_init_4 := dk_seg dksX2_init_3 24 rfl rfl
theorem dX2_init_0 : decode cX2_init 0 = .ok (.aload_n 0, 1) := dk_42 (dk_at dksX2_init_0 0 rfl rfl)
theorem dX2_init_1 : decode cX2_init 1 = .ok (.invokespecial 1, 3) := dk_183 0 1 (dk_at dksX2_init_0 1 rfl rfl)
theorem dX2_init_4 : decode cX2_init 4 = .ok (.aload_n 0, 1) := dk_42 (dk_at dksX2_init_0 4 rfl rfl)
theorem dX2_init_5 : decode cX2_init 5 = .ok (.iconst 3, 1) := dk_6 (dk_at dksX2_init_0 5 rfl rfl)
theorem dX2_init_6 : decode cX2_init 6 = .ok (.anewarray 7, 3) := dk_189 0 7 (dk_at dksX2_init_0 6 rfl rfl)
theorem dX2_init_9 : decode cX2_init 9 = .ok (.dup, 1) := dk_89 (dk_at dksX2_init_0 9 rfl rfl)
theorem dX2_init_10 : decode cX2_init 10 = .ok (.iconst 0, 1) := dk_3 (dk_at dksX2_init_0 10 rfl rfl)
theorem dX2_init_11 : decode cX2_init 11 = .ok (.iconst 4, 1) := dk_7 (dk_at dksX2_init_0 11 rfl rfl)
theorem dX2_init_12 : decode cX2_init 12 = .ok (.newarray .int, 2) := dk_188_10 (dk_at dksX2_init_0 12 rfl rfl)
theorem dX2_init_14 : decode cX2_init 14 = .ok (.aastore, 1) := dk_83 (dk_at dksX2_init_0 14 rfl rfl)
theorem dX2_init_15 : decode cX2_init 15 = .ok (.dup, 1) := dk_89 (dk_at dksX2_init_0 15 rfl rfl)
theorem dX2_init_16 : decode cX2_init 16 = .ok (.iconst 1, 1) := dk_4 (dk_at dksX2_init_0 16 rfl rfl)
theorem dX2_init_17 : decode cX2_init 17 = .ok (.iconst 4, 1) := dk_7 (dk_at dksX2_init_0 17 rfl rfl)
theorem dX2_init_18 : decode cX2_init 18 = .ok (.newarray .int, 2) := dk_188_10 (dk_at dksX2_init_0 18 rfl rfl)
theorem dX2_init_20 : decode cX2_init 20 = .ok (.aastore, 1) := dk_83 (dk_at dksX2_init_0 20 rfl rfl)
theorem dX2_init_21 : decode cX2_init 21 = .ok (.dup, 1) := dk_89 (dk_at dksX2_init_0 21 rfl rfl)
theorem dX2_init_22 : decode cX2_init 22 = .ok (.iconst 2, 1) := dk_5 (dk_at dksX2_init_0 22 rfl rfl)
theorem dX2_init_23 : decode cX2_init 23 = .ok (.iconst 4, 1) := dk_7 (dk_at dksX2_init_0 23 rfl rfl)
theorem dX2_init_24 : decode cX2_init 24 = .ok (.newarray .int, 2) := dk_188_10 (dk_at dksX2_init_1 0 rfl rfl)
theorem dX2_init_26 : decode cX2_init 26 = .ok (.aastore, 1) := dk_83 (dk_at dksX2_init_1 2 rfl rfl)
theorem dX2_init_27 : decode cX2_init 27 = .ok (.putfield 9, 3) := dk_181 0 9 (dk_at dksX2_init_1 3 rfl rfl)
theorem dX2_init_30 : decode cX2_init 30 = .ok (.aload_n 0, 1) := dk_42 (dk_at dksX2_init_1 6 rfl rfl)
theorem dX2_init_31 : decode cX2_init 31 = .ok (.bipush 7, 2) := dk_16 7 (dk_at dksX2_init_1 7 rfl rfl)
theorem dX2_init_33 : decode cX2_init 33 = .ok (.newarray .int, 2) := dk_188_10 (dk_at dksX2_init_1 9 rfl rfl)
theorem dX2_init_35 : decode cX2_init 35 = .ok (.dup, 1) := dk_89 (dk_at dksX2_init_1 11 rfl rfl)
theorem dX2_init_36 : decode cX2_init 36 = .ok (.iconst 0, 1) := dk_3 (dk_at dksX2_init_1 12 rfl rfl)
theorem dX2_init_37 : decode cX2_init 37 = .ok (.iconst 0, 1) := dk_3 (dk_at dksX2_init_1 13 rfl rfl)
theorem dX2_init_38 : decode cX2_init 38 = .ok (.iastore, 1) := dk_79 (dk_at dksX2_init_1 14 rfl rfl)
theorem dX2_init_39 : decode cX2_init 39 = .ok (.dup, 1) := dk_89 (dk_at dksX2_init_1 15 rfl rfl)
theorem dX2_init_40 : decode cX2_init 40 = .ok (.iconst 1, 1) := dk_4 (dk_at dksX2_init_1 16 rfl rfl)
theorem dX2_init_41 : decode cX2_init 41 = .ok (.iconst 1, 1) := dk_4 (dk_at dksX2_init_1 17 rfl rfl)
theorem dX2_init_42 : decode cX2_init 42 = .ok (.iastore, 1) := dk_79 (dk_at dksX2_init_1 18 rfl rfl)
theorem dX2_init_43 : decode cX2_init 43 = .ok (.dup, 1) := dk_89 (dk_at dksX2_init_1 19 rfl rfl)
theorem dX2_init_44 : decode cX2_init 44 = .ok (.iconst 2, 1) := dk_5 (dk_at dksX2_init_1 20 rfl rfl)
theorem dX2_init_45 : decode cX2_init 45 = .ok (.iconst 2, 1) := dk_5 (dk_at dksX2_init_1 21 rfl rfl)
theorem dX2_init_46 : decode cX2_init 46 = .ok (.iastore, 1) := dk_79 (dk_at dksX2_init_1 22 rfl rfl)
theorem dX2_init_47 : decode cX2_init 47 = .ok (.dup, 1) := dk_89 (dk_at dksX2_init_1 23 rfl rfl)
theorem dX2_init_48 : decode cX2_init 48 = .ok (.iconst 3, 1) := dk_6 (dk_at dksX2_init_2 0 rfl rfl)
theorem dX2_init_49 : decode cX2_init 49 = .ok (.iconst (-1), 1) := dk_2 (dk_at dksX2_init_2 1 rfl rfl)
theorem dX2_init_50 : decode cX2_init 50 = .ok (.iastore, 1) := dk_79 (dk_at dksX2_init_2 2 rfl rfl)
theorem dX2_init_51 : decode cX2_init 51 = .ok (.dup, 1) := dk_89 (dk_at dksX2_init_2 3 rfl rfl)
theorem dX2_init_52 : decode cX2_init 52 = .ok (.iconst 4, 1) := dk_7 (dk_at dksX2_init_2 4 rfl rfl)
theorem dX2_init_53 : decode cX2_init 53 = .ok (.iconst (-1), 1) := dk_2 (dk_at dksX2_init_2 5 rfl rfl)
theorem dX2_init_54 : decode cX2_init 54 = .ok (.iastore, 1) := dk_79 (dk_at dksX2_init_2 6 rfl rfl)
theorem dX2_init_55 : decode cX2_init 55 = .ok (.dup, 1) := dk_89 (dk_at dksX2_init_2 7 rfl rfl)
theorem dX2_init_56 : decode cX2_init 56 = .ok (.iconst 5, 1) := dk_8 (dk_at dksX2_init_2 8 rfl rfl)
theorem dX2_init_57 : decode cX2_init 57 = .ok (.iconst (-1), 1) := dk_2 (dk_at dksX2_init_2 9 rfl rfl)
theorem dX2_init_58 : decode cX2_init 58 = .ok (.iastore, 1) := dk_79 (dk_at dksX2_init_2 10 rfl rfl)
theorem dX2_init_59 : decode cX2_init 59 = .ok (.dup, 1) := dk_89 (dk_at dksX2_init_2 11 rfl rfl)
theorem dX2_init_60 : decode cX2_init 60 = .ok (.bipush 6, 2) := dk_16 6 (dk_at dksX2_init_2 12 rfl rfl)
theorem dX2_init_62 : decode cX2_init 62 = .ok (.iconst (-1), 1) := dk_2 (dk_at dksX2_init_2 14 rfl rfl)
theorem dX2_init_63 : decode cX2_init 63 = .ok (.iastore, 1) := dk_79 (dk_at dksX2_init_2 15 rfl rfl)
theorem dX2_init_64 : decode cX2_init 64 = .ok (.putfield 15, 3) := dk_181 0 15 (dk_at dksX2_init_2 16 rfl rfl)
theorem dX2_init_67 : decode cX2_init 67 = .ok (.aload_n 0, 1) := dk_42 (dk_at dksX2_init_2 19 rfl rfl)
theorem dX2_init_68 : decode cX2_init 68 = .ok (.bipush 7, 2) := dk_16 7 (dk_at dksX2_init_2 20 rfl rfl)
theorem dX2_init_70 : decode cX2_init 70 = .ok (.newarray .int, 2) := dk_188_10 (dk_at dksX2_init_2 22 rfl rfl)
theorem dX2_init_72 : decode cX2_init 72 = .ok (.putfield 18, 3) := dk_181 0 18 (dk_at dksX2_init_3 0 rfl rfl)
theorem dX2_init_75 : decode cX2_init 75 = .ok (.aload_n 0, 1) := dk_42 (dk_at dksX2_init_3 3 rfl rfl)
theorem dX2_init_76 : decode cX2_init 76 = .ok (.bipush 7, 2) := dk_16 7 (dk_at dksX2_init_3 4 rfl rfl)
theorem dX2_init_78 : decode cX2_init 78 = .ok (.newarray .int, 2) := dk_188_10 (dk_at dksX2_init_3 6 rfl rfl)
theorem dX2_init_80 : decode cX2_init 80 = .ok (.dup, 1) := dk_89 (dk_at dksX2_init_3 8 rfl rfl)
theorem dX2_init_81 : decode cX2_init 81 = .ok (.iconst 0, 1) := dk_3 (dk_at dksX2_init_3 9 rfl rfl)
theorem dX2_init_82 : decode cX2_init 82 = .ok (.iconst 4, 1) := dk_7 (dk_at dksX2_init_3 10 rfl rfl)
theorem dX2_init_83 : decode cX2_init 83 = .ok (.iastore, 1) := dk_79 (dk_at dksX2_init_3 11 rfl rfl)
theorem dX2_init_84 : decode cX2_init 84 = .ok (.dup, 1) := dk_89 (dk_at dksX2_init_3 12 rfl rfl)
theorem dX2_init_85 : decode cX2_init 85 = .ok (.iconst 1, 1) := dk_4 (dk_at dksX2_init_3 13 rfl rfl)
theorem dX2_init_86 : decode cX2_init 86 = .ok (.iconst 4, 1) := dk_7 (dk_at dksX2_init_3 14 rfl rfl)
theorem dX2_init_87 : decode cX2_init 87 = .ok (.iastore, 1) := dk_79 (dk_at dksX2_init_3 15 rfl rfl)
theorem dX2_init_88 : decode cX2_init 88 = .ok (.dup, 1) := dk_89 (dk_at dksX2_init_3 16 rfl rfl)
theorem dX2_init_89 : decode cX2_init 89 = .ok (.iconst 2, 1) := dk_5 (dk_at dksX2_init_3 17 rfl rfl)
theorem dX2_init_90 : decode cX2_init 90 = .ok (.iconst 4, 1) := dk_7 (dk_at dksX2_init_3 18 rfl rfl)
theorem dX2_init_91 : decode cX2_init 91 = .ok (.iastore, 1) := dk_79 (dk_at dksX2_init_3 19 rfl rfl)
theorem dX2_init_92 : decode cX2_init 92 = .ok (.dup, 1) := dk_89 (dk_at dksX2_init_3 20 rfl rfl)
theorem dX2_init_93 : decode cX2_init 93 = .ok (.iconst 3, 1) := dk_6 (dk_at dksX2_init_3 21 rfl rfl)
theorem dX2_init_94 : decode cX2_init 94 = .ok (.iconst 0, 1) := dk_3 (dk_at dksX2_init_3 22 rfl rfl)
theorem dX2_init_95 : decode cX2_init 95 = .ok (.iastore, 1) := dk_79 (dk_at dksX2_init_3 23 rfl rfl)
theorem dX2_init_96 : decode cX2_init 96 = .ok (.dup, 1) := dk_89 (dk_at dksX2_init_4 0 rfl rfl)
theorem dX2_init_97 : decode cX2_init 97 = .ok (.iconst 4, 1) := dk_7 (dk_at dksX2_init_4 1 rfl rfl)
theorem dX2_init_98 : decode cX2_init 98 = .ok (.iconst 0, 1) := dk_3 (dk_at dksX2_init_4 2 rfl rfl)
theorem dX2_init_99 : decode cX2_init 99 = .ok (.iastore, 1) := dk_79 (dk_at dksX2_init_4 3 rfl rfl)
theorem dX2_init_100 : decode cX2_init 100 = .ok (.dup, 1) := dk_89 (dk_at dksX2_init_4 4 rfl rfl)
theorem dX2_init_101 : decode cX2_init 101 = .ok (.iconst 5, 1) := dk_8 (dk_at dksX2_init_4 5 rfl rfl)
theorem dX2_init_102 : decode cX2_init 102 = .ok (.iconst 0, 1) := dk_3 (dk_at dksX2_init_4 6 rfl rfl)
theorem dX2_init_103 : decode cX2_init 103 = .ok (.iastore, 1) := dk_79 (dk_at dksX2_init_4 7 rfl rfl)
theorem dX2_init_104 : decode cX2_init 104 = .ok (.dup, 1) := dk_89 (dk_at dksX2_init_4 8 rfl rfl)
theorem dX2_init_105 : decode cX2_init 105 = .ok (.bipush 6, 2) := dk_16 6 (dk_at dksX2_init_4 9 rfl rfl)
theorem dX2_init_107 : decode cX2_init 107 = .ok (.iconst 0, 1) := dk_3 (dk_at dksX2_init_4 11 rfl rfl)
theorem dX2_init_108 : decode cX2_init 108 = .ok (.iastore, 1) := dk_79 (dk_at dksX2_init_4 12 rfl rfl)
theorem dX2_init_109 : decode cX2_init 109 = .ok (.putfield 21, 3) := dk_181 0 21 (dk_at dksX2_init_4 13 rfl rfl)
theorem dX2_init_112 : decode cX2_init 112 = .ok (.return_, 1) := dk_177 (dk_at dksX2_init_4 16 rfl rfl)
abbrev cX2_thrown : ByteArray := prog_8_method_5_code
def yX2_thrown : MethodName := ⟨RX2, "thrown", "()I"⟩
theorem dX2_thrown_0 : decode cX2_thrown 0 = .ok (.aload_n 0, 1) := by decide +kernel
theorem dX2_thrown_1 : decode cX2_thrown 1 = .ok (.getfield 28, 3) := by decide +kernel
theorem dX2_thrown_4 : decode cX2_thrown 4 = .ok (.ireturn, 1) := by decide +kernel
abbrev cX2_lay : ByteArray := prog_8_method_21_code
def yX2_lay : MethodName := ⟨RX2, "lay", "(II)I"⟩
def dkwX2_lay_4 : List UInt8 := [29, 172]
abbrev dktX2_lay_4 : List UInt8 := dkwX2_lay_4 ++ []
def dkwX2_lay_3 : List UInt8 := [21, 4, 46, 27, 160, 0, 14, 42, 180, 0, 15, 21, 4, 2, 79, 132, 3, 1, 132, 4, 1, 167, 255, 224]
abbrev dktX2_lay_3 : List UInt8 := dkwX2_lay_3 ++ dktX2_lay_4
def dkwX2_lay_2 : List UInt8 := [83, 42, 180, 0, 21, 27, 28, 79, 3, 62, 6, 54, 4, 21, 4, 16, 7, 162, 0, 31, 42, 180, 0, 15]
abbrev dktX2_lay_2 : List UInt8 := dkwX2_lay_2 ++ dktX2_lay_3
def dkwX2_lay_1 : List UInt8 := [154, 0, 7, 4, 167, 0, 4, 3, 182, 0, 81, 153, 0, 5, 3, 172, 42, 180, 0, 9, 27, 28, 188, 10]
abbrev dktX2_lay_1 : List UInt8 := dkwX2_lay_1 ++ dktX2_lay_2
def dkwX2_lay_0 : List UInt8 := [42, 27, 3, 5, 184, 0, 24, 154, 0, 7, 4, 167, 0, 4, 3, 28, 3, 16, 12, 184, 0, 24]
abbrev dktX2_lay_0 : List UInt8 := dkwX2_lay_0 ++ dktX2_lay_1
theorem dksX2_lay_0 : cX2_lay.data.toList.drop 0 = dktX2_lay_0 := by decide +kernel
theorem dksX2_lay_1 : cX2_lay.data.toList.drop 22 = dktX2_lay_1 := dk_seg dksX2_lay_0 22 rfl rfl
theorem dksX2_lay_2 : cX2_lay.data.toList.drop 46 = dktX2_lay_2 := dk_seg dksX2_lay_1 24 rfl rfl
theorem dksX2_lay_3 : cX2_lay.data.toList.drop 70 = dktX2_lay_3 := dk_seg dksX2_lay_2 24 rfl rfl
theorem dksX2_lay_4 : cX2_lay.data.toList.drop 94 = dktX2_lay_4 := dk_seg dksX2_lay_3 24 rfl rfl
theorem dX2_lay_0 : decode cX2_lay 0 = .ok (.aload_n 0, 1) := dk_42 (dk_at dksX2_lay_0 0 rfl rfl)
theorem dX2_lay_1 : decode cX2_lay 1 = .ok (.iload_n 1, 1) := dk_27 (dk_at dksX2_lay_0 1 rfl rfl)
theorem dX2_lay_2 : decode cX2_lay 2 = .ok (.iconst 0, 1) := dk_3 (dk_at dksX2_lay_0 2 rfl rfl)
theorem dX2_lay_3 : decode cX2_lay 3 = .ok (.iconst 2, 1) := dk_5 (dk_at dksX2_lay_0 3 rfl rfl)
theorem dX2_lay_4 : decode cX2_lay 4 = .ok (.invokestatic 24, 3) := dk_184 0 24 (dk_at dksX2_lay_0 4 rfl rfl)
theorem dX2_lay_7 : decode cX2_lay 7 = .ok (.ifCond .ne 7, 3) := dk_154 0 7 (dk_at dksX2_lay_0 7 rfl rfl)
theorem dX2_lay_10 : decode cX2_lay 10 = .ok (.iconst 1, 1) := dk_4 (dk_at dksX2_lay_0 10 rfl rfl)
theorem dX2_lay_11 : decode cX2_lay 11 = .ok (.goto 4, 3) := dk_167 0 4 (dk_at dksX2_lay_0 11 rfl rfl)
theorem dX2_lay_14 : decode cX2_lay 14 = .ok (.iconst 0, 1) := dk_3 (dk_at dksX2_lay_0 14 rfl rfl)
theorem dX2_lay_15 : decode cX2_lay 15 = .ok (.iload_n 2, 1) := dk_28 (dk_at dksX2_lay_0 15 rfl rfl)
theorem dX2_lay_16 : decode cX2_lay 16 = .ok (.iconst 0, 1) := dk_3 (dk_at dksX2_lay_0 16 rfl rfl)
theorem dX2_lay_17 : decode cX2_lay 17 = .ok (.bipush 12, 2) := dk_16 12 (dk_at dksX2_lay_0 17 rfl rfl)
theorem dX2_lay_19 : decode cX2_lay 19 = .ok (.invokestatic 24, 3) := dk_184 0 24 (dk_at dksX2_lay_0 19 rfl rfl)
theorem dX2_lay_22 : decode cX2_lay 22 = .ok (.ifCond .ne 7, 3) := dk_154 0 7 (dk_at dksX2_lay_1 0 rfl rfl)
theorem dX2_lay_25 : decode cX2_lay 25 = .ok (.iconst 1, 1) := dk_4 (dk_at dksX2_lay_1 3 rfl rfl)
theorem dX2_lay_26 : decode cX2_lay 26 = .ok (.goto 4, 3) := dk_167 0 4 (dk_at dksX2_lay_1 4 rfl rfl)
theorem dX2_lay_29 : decode cX2_lay 29 = .ok (.iconst 0, 1) := dk_3 (dk_at dksX2_lay_1 7 rfl rfl)
theorem dX2_lay_30 : decode cX2_lay 30 = .ok (.invokevirtual 81, 3) := dk_182 0 81 (dk_at dksX2_lay_1 8 rfl rfl)
theorem dX2_lay_33 : decode cX2_lay 33 = .ok (.ifCond .eq 5, 3) := dk_153 0 5 (dk_at dksX2_lay_1 11 rfl rfl)
theorem dX2_lay_36 : decode cX2_lay 36 = .ok (.iconst 0, 1) := dk_3 (dk_at dksX2_lay_1 14 rfl rfl)
theorem dX2_lay_37 : decode cX2_lay 37 = .ok (.ireturn, 1) := dk_172 (dk_at dksX2_lay_1 15 rfl rfl)
theorem dX2_lay_38 : decode cX2_lay 38 = .ok (.aload_n 0, 1) := dk_42 (dk_at dksX2_lay_1 16 rfl rfl)
theorem dX2_lay_39 : decode cX2_lay 39 = .ok (.getfield 9, 3) := dk_180 0 9 (dk_at dksX2_lay_1 17 rfl rfl)
theorem dX2_lay_42 : decode cX2_lay 42 = .ok (.iload_n 1, 1) := dk_27 (dk_at dksX2_lay_1 20 rfl rfl)
theorem dX2_lay_43 : decode cX2_lay 43 = .ok (.iload_n 2, 1) := dk_28 (dk_at dksX2_lay_1 21 rfl rfl)
theorem dX2_lay_44 : decode cX2_lay 44 = .ok (.newarray .int, 2) := dk_188_10 (dk_at dksX2_lay_1 22 rfl rfl)
theorem dX2_lay_46 : decode cX2_lay 46 = .ok (.aastore, 1) := dk_83 (dk_at dksX2_lay_2 0 rfl rfl)
theorem dX2_lay_47 : decode cX2_lay 47 = .ok (.aload_n 0, 1) := dk_42 (dk_at dksX2_lay_2 1 rfl rfl)
theorem dX2_lay_48 : decode cX2_lay 48 = .ok (.getfield 21, 3) := dk_180 0 21 (dk_at dksX2_lay_2 2 rfl rfl)
theorem dX2_lay_51 : decode cX2_lay 51 = .ok (.iload_n 1, 1) := dk_27 (dk_at dksX2_lay_2 5 rfl rfl)
theorem dX2_lay_52 : decode cX2_lay 52 = .ok (.iload_n 2, 1) := dk_28 (dk_at dksX2_lay_2 6 rfl rfl)
theorem dX2_lay_53 : decode cX2_lay 53 = .ok (.iastore, 1) := dk_79 (dk_at dksX2_lay_2 7 rfl rfl)
theorem dX2_lay_54 : decode cX2_lay 54 = .ok (.iconst 0, 1) := dk_3 (dk_at dksX2_lay_2 8 rfl rfl)
theorem dX2_lay_55 : decode cX2_lay 55 = .ok (.istore_n 3, 1) := dk_62 (dk_at dksX2_lay_2 9 rfl rfl)
theorem dX2_lay_56 : decode cX2_lay 56 = .ok (.iconst 3, 1) := dk_6 (dk_at dksX2_lay_2 10 rfl rfl)
theorem dX2_lay_57 : decode cX2_lay 57 = .ok (.istore 4, 2) := dk_54 4 (dk_at dksX2_lay_2 11 rfl rfl)
theorem dX2_lay_59 : decode cX2_lay 59 = .ok (.iload 4, 2) := dk_21 4 (dk_at dksX2_lay_2 13 rfl rfl)
theorem dX2_lay_61 : decode cX2_lay 61 = .ok (.bipush 7, 2) := dk_16 7 (dk_at dksX2_lay_2 15 rfl rfl)
theorem dX2_lay_63 : decode cX2_lay 63 = .ok (.if_icmp .ge 31, 3) := dk_162 0 31 (dk_at dksX2_lay_2 17 rfl rfl)
theorem dX2_lay_66 : decode cX2_lay 66 = .ok (.aload_n 0, 1) := dk_42 (dk_at dksX2_lay_2 20 rfl rfl)
theorem dX2_lay_67 : decode cX2_lay 67 = .ok (.getfield 15, 3) := dk_180 0 15 (dk_at dksX2_lay_2 21 rfl rfl)
theorem dX2_lay_70 : decode cX2_lay 70 = .ok (.iload 4, 2) := dk_21 4 (dk_at dksX2_lay_3 0 rfl rfl)
theorem dX2_lay_72 : decode cX2_lay 72 = .ok (.iaload, 1) := dk_46 (dk_at dksX2_lay_3 2 rfl rfl)
theorem dX2_lay_73 : decode cX2_lay 73 = .ok (.iload_n 1, 1) := dk_27 (dk_at dksX2_lay_3 3 rfl rfl)
theorem dX2_lay_74 : decode cX2_lay 74 = .ok (.if_icmp .ne 14, 3) := dk_160 0 14 (dk_at dksX2_lay_3 4 rfl rfl)
theorem dX2_lay_77 : decode cX2_lay 77 = .ok (.aload_n 0, 1) := dk_42 (dk_at dksX2_lay_3 7 rfl rfl)
theorem dX2_lay_78 : decode cX2_lay 78 = .ok (.getfield 15, 3) := dk_180 0 15 (dk_at dksX2_lay_3 8 rfl rfl)
theorem dX2_lay_81 : decode cX2_lay 81 = .ok (.iload 4, 2) := dk_21 4 (dk_at dksX2_lay_3 11 rfl rfl)
theorem dX2_lay_83 : decode cX2_lay 83 = .ok (.iconst (-1), 1) := dk_2 (dk_at dksX2_lay_3 13 rfl rfl)
theorem dX2_lay_84 : decode cX2_lay 84 = .ok (.iastore, 1) := dk_79 (dk_at dksX2_lay_3 14 rfl rfl)
theorem dX2_lay_85 : decode cX2_lay 85 = .ok (.iinc 3 1, 3) := dk_132 3 1 (dk_at dksX2_lay_3 15 rfl rfl)
theorem dX2_lay_88 : decode cX2_lay 88 = .ok (.iinc 4 1, 3) := dk_132 4 1 (dk_at dksX2_lay_3 18 rfl rfl)
theorem dX2_lay_91 : decode cX2_lay 91 = .ok (.goto (-32), 3) := dk_167 255 224 (dk_at dksX2_lay_3 21 rfl rfl)
theorem dX2_lay_94 : decode cX2_lay 94 = .ok (.iload_n 3, 1) := dk_29 (dk_at dksX2_lay_4 0 rfl rfl)
theorem dX2_lay_95 : decode cX2_lay 95 = .ok (.ireturn, 1) := dk_172 (dk_at dksX2_lay_4 1 rfl rfl)
abbrev cX2_isIn : ByteArray := prog_8_method_2_code
def yX2_isIn : MethodName := ⟨RX2, "isIn", "(III)Z"⟩
def dkwX2_isIn_0 : List UInt8 := [26, 27, 161, 0, 12, 26, 28, 163, 0, 7, 4, 167, 0, 4, 3, 172]
abbrev dktX2_isIn_0 : List UInt8 := dkwX2_isIn_0 ++ []
theorem dksX2_isIn_0 : cX2_isIn.data.toList.drop 0 = dktX2_isIn_0 := by decide +kernel
theorem dX2_isIn_0 : decode cX2_isIn 0 = .ok (.iload_n 0, 1) := dk_26 (dk_at dksX2_isIn_0 0 rfl rfl)
theorem dX2_isIn_1 : decode cX2_isIn 1 = .ok (.iload_n 1, 1) := dk_27 (dk_at dksX2_isIn_0 1 rfl rfl)
theorem dX2_isIn_2 : decode cX2_isIn 2 = .ok (.if_icmp .lt 12, 3) := dk_161 0 12 (dk_at dksX2_isIn_0 2 rfl rfl)
theorem dX2_isIn_5 : decode cX2_isIn 5 = .ok (.iload_n 0, 1) := dk_26 (dk_at dksX2_isIn_0 5 rfl rfl)
theorem dX2_isIn_6 : decode cX2_isIn 6 = .ok (.iload_n 2, 1) := dk_28 (dk_at dksX2_isIn_0 6 rfl rfl)
theorem dX2_isIn_7 : decode cX2_isIn 7 = .ok (.if_icmp .gt 7, 3) := dk_163 0 7 (dk_at dksX2_isIn_0 7 rfl rfl)
theorem dX2_isIn_10 : decode cX2_isIn 10 = .ok (.iconst 1, 1) := dk_4 (dk_at dksX2_isIn_0 10 rfl rfl)
theorem dX2_isIn_11 : decode cX2_isIn 11 = .ok (.goto 4, 3) := dk_167 0 4 (dk_at dksX2_isIn_0 11 rfl rfl)
theorem dX2_isIn_14 : decode cX2_isIn 14 = .ok (.iconst 0, 1) := dk_3 (dk_at dksX2_isIn_0 14 rfl rfl)
theorem dX2_isIn_15 : decode cX2_isIn 15 = .ok (.ireturn, 1) := dk_172 (dk_at dksX2_isIn_0 15 rfl rfl)
abbrev cX2_fails : ByteArray := prog_8_method_6_code
def yX2_fails : MethodName := ⟨RX2, "fails", "(ZZ)Z"⟩
def dkwX2_fails_1 : List UInt8 := [180, 0, 28, 158, 0, 7, 4, 167, 0, 4, 3, 172]
abbrev dktX2_fails_1 : List UInt8 := dkwX2_fails_1 ++ []
def dkwX2_fails_0 : List UInt8 := [42, 27, 153, 0, 7, 4, 167, 0, 12, 28, 153, 0, 7, 5, 167, 0, 4, 3, 181, 0, 28, 42]
abbrev dktX2_fails_0 : List UInt8 := dkwX2_fails_0 ++ dktX2_fails_1
theorem dksX2_fails_0 : cX2_fails.data.toList.drop 0 = dktX2_fails_0 := by decide +kernel
theorem dksX2_fails_1 : cX2_fails.data.toList.drop 22 = dktX2_fails_1 := dk_seg dksX2_fails_0 22 rfl rfl
theorem dX2_fails_0 : decode cX2_fails 0 = .ok (.aload_n 0, 1) := dk_42 (dk_at dksX2_fails_0 0 rfl rfl)
theorem dX2_fails_1 : decode cX2_fails 1 = .ok (.iload_n 1, 1) := dk_27 (dk_at dksX2_fails_0 1 rfl rfl)
theorem dX2_fails_2 : decode cX2_fails 2 = .ok (.ifCond .eq 7, 3) := dk_153 0 7 (dk_at dksX2_fails_0 2 rfl rfl)
theorem dX2_fails_5 : decode cX2_fails 5 = .ok (.iconst 1, 1) := dk_4 (dk_at dksX2_fails_0 5 rfl rfl)
theorem dX2_fails_6 : decode cX2_fails 6 = .ok (.goto 12, 3) := dk_167 0 12 (dk_at dksX2_fails_0 6 rfl rfl)
theorem dX2_fails_9 : decode cX2_fails 9 = .ok (.iload_n 2, 1) := dk_28 (dk_at dksX2_fails_0 9 rfl rfl)
theorem dX2_fails_10 : decode cX2_fails 10 = .ok (.ifCond .eq 7, 3) := dk_153 0 7 (dk_at dksX2_fails_0 10 rfl rfl)
theorem dX2_fails_13 : decode cX2_fails 13 = .ok (.iconst 2, 1) := dk_5 (dk_at dksX2_fails_0 13 rfl rfl)
theorem dX2_fails_14 : decode cX2_fails 14 = .ok (.goto 4, 3) := dk_167 0 4 (dk_at dksX2_fails_0 14 rfl rfl)
theorem dX2_fails_17 : decode cX2_fails 17 = .ok (.iconst 0, 1) := dk_3 (dk_at dksX2_fails_0 17 rfl rfl)
theorem dX2_fails_18 : decode cX2_fails 18 = .ok (.putfield 28, 3) := dk_181 0 28 (dk_at dksX2_fails_0 18 rfl rfl)
theorem dX2_fails_21 : decode cX2_fails 21 = .ok (.aload_n 0, 1) := dk_42 (dk_at dksX2_fails_0 21 rfl rfl)
theorem dX2_fails_22 : decode cX2_fails 22 = .ok (.getfield 28, 3) := dk_180 0 28 (dk_at dksX2_fails_1 0 rfl rfl)
theorem dX2_fails_25 : decode cX2_fails 25 = .ok (.ifCond .le 7, 3) := dk_158 0 7 (dk_at dksX2_fails_1 3 rfl rfl)
theorem dX2_fails_28 : decode cX2_fails 28 = .ok (.iconst 1, 1) := dk_4 (dk_at dksX2_fails_1 6 rfl rfl)
theorem dX2_fails_29 : decode cX2_fails 29 = .ok (.goto 4, 3) := dk_167 0 4 (dk_at dksX2_fails_1 7 rfl rfl)
theorem dX2_fails_32 : decode cX2_fails 32 = .ok (.iconst 0, 1) := dk_3 (dk_at dksX2_fails_1 10 rfl rfl)
theorem dX2_fails_33 : decode cX2_fails 33 = .ok (.ireturn, 1) := dk_172 (dk_at dksX2_fails_1 11 rfl rfl)
abbrev cX2_put : ByteArray := prog_8_method_22_code
def yX2_put : MethodName := ⟨RX2, "put", "(III)I"⟩
def dkwX2_put_1 : List UInt8 := [50, 28, 46, 54, 4, 42, 180, 0, 9, 27, 50, 28, 29, 79, 21, 4, 172]
abbrev dktX2_put_1 : List UInt8 := dkwX2_put_1 ++ []
def dkwX2_put_0 : List UInt8 := [42, 42, 27, 28, 182, 0, 85, 29, 184, 0, 89, 182, 0, 81, 153, 0, 5, 3, 172, 42, 180, 0, 9, 27]
abbrev dktX2_put_0 : List UInt8 := dkwX2_put_0 ++ dktX2_put_1
theorem dksX2_put_0 : cX2_put.data.toList.drop 0 = dktX2_put_0 := by decide +kernel
theorem dksX2_put_1 : cX2_put.data.toList.drop 24 = dktX2_put_1 := dk_seg dksX2_put_0 24 rfl rfl
theorem dX2_put_0 : decode cX2_put 0 = .ok (.aload_n 0, 1) := dk_42 (dk_at dksX2_put_0 0 rfl rfl)
theorem dX2_put_1 : decode cX2_put 1 = .ok (.aload_n 0, 1) := dk_42 (dk_at dksX2_put_0 1 rfl rfl)
theorem dX2_put_2 : decode cX2_put 2 = .ok (.iload_n 1, 1) := dk_27 (dk_at dksX2_put_0 2 rfl rfl)
theorem dX2_put_3 : decode cX2_put 3 = .ok (.iload_n 2, 1) := dk_28 (dk_at dksX2_put_0 3 rfl rfl)
theorem dX2_put_4 : decode cX2_put 4 = .ok (.invokevirtual 85, 3) := dk_182 0 85 (dk_at dksX2_put_0 4 rfl rfl)
theorem dX2_put_7 : decode cX2_put 7 = .ok (.iload_n 3, 1) := dk_29 (dk_at dksX2_put_0 7 rfl rfl)
theorem dX2_put_8 : decode cX2_put 8 = .ok (.invokestatic 89, 3) := dk_184 0 89 (dk_at dksX2_put_0 8 rfl rfl)
theorem dX2_put_11 : decode cX2_put 11 = .ok (.invokevirtual 81, 3) := dk_182 0 81 (dk_at dksX2_put_0 11 rfl rfl)
theorem dX2_put_14 : decode cX2_put 14 = .ok (.ifCond .eq 5, 3) := dk_153 0 5 (dk_at dksX2_put_0 14 rfl rfl)
theorem dX2_put_17 : decode cX2_put 17 = .ok (.iconst 0, 1) := dk_3 (dk_at dksX2_put_0 17 rfl rfl)
theorem dX2_put_18 : decode cX2_put 18 = .ok (.ireturn, 1) := dk_172 (dk_at dksX2_put_0 18 rfl rfl)
theorem dX2_put_19 : decode cX2_put 19 = .ok (.aload_n 0, 1) := dk_42 (dk_at dksX2_put_0 19 rfl rfl)
theorem dX2_put_20 : decode cX2_put 20 = .ok (.getfield 9, 3) := dk_180 0 9 (dk_at dksX2_put_0 20 rfl rfl)
theorem dX2_put_23 : decode cX2_put 23 = .ok (.iload_n 1, 1) := dk_27 (dk_at dksX2_put_0 23 rfl rfl)
theorem dX2_put_24 : decode cX2_put 24 = .ok (.aaload, 1) := dk_50 (dk_at dksX2_put_1 0 rfl rfl)
theorem dX2_put_25 : decode cX2_put 25 = .ok (.iload_n 2, 1) := dk_28 (dk_at dksX2_put_1 1 rfl rfl)
theorem dX2_put_26 : decode cX2_put 26 = .ok (.iaload, 1) := dk_46 (dk_at dksX2_put_1 2 rfl rfl)
theorem dX2_put_27 : decode cX2_put 27 = .ok (.istore 4, 2) := dk_54 4 (dk_at dksX2_put_1 3 rfl rfl)
theorem dX2_put_29 : decode cX2_put 29 = .ok (.aload_n 0, 1) := dk_42 (dk_at dksX2_put_1 5 rfl rfl)
theorem dX2_put_30 : decode cX2_put 30 = .ok (.getfield 9, 3) := dk_180 0 9 (dk_at dksX2_put_1 6 rfl rfl)
theorem dX2_put_33 : decode cX2_put 33 = .ok (.iload_n 1, 1) := dk_27 (dk_at dksX2_put_1 9 rfl rfl)
theorem dX2_put_34 : decode cX2_put 34 = .ok (.aaload, 1) := dk_50 (dk_at dksX2_put_1 10 rfl rfl)
theorem dX2_put_35 : decode cX2_put 35 = .ok (.iload_n 2, 1) := dk_28 (dk_at dksX2_put_1 11 rfl rfl)
theorem dX2_put_36 : decode cX2_put 36 = .ok (.iload_n 3, 1) := dk_29 (dk_at dksX2_put_1 12 rfl rfl)
theorem dX2_put_37 : decode cX2_put 37 = .ok (.iastore, 1) := dk_79 (dk_at dksX2_put_1 13 rfl rfl)
theorem dX2_put_38 : decode cX2_put 38 = .ok (.iload 4, 2) := dk_21 4 (dk_at dksX2_put_1 14 rfl rfl)
theorem dX2_put_40 : decode cX2_put 40 = .ok (.ireturn, 1) := dk_172 (dk_at dksX2_put_1 16 rfl rfl)
abbrev cX2_isNoRowPlace : ByteArray := prog_8_method_9_code
def yX2_isNoRowPlace : MethodName := ⟨RX2, "isNoRowPlace", "(II)Z"⟩
def dkwX2_isNoRowPlace_1 : List UInt8 := [154, 0, 7, 4, 167, 0, 4, 3, 172]
abbrev dktX2_isNoRowPlace_1 : List UInt8 := dkwX2_isNoRowPlace_1 ++ []
def dkwX2_isNoRowPlace_0 : List UInt8 := [27, 3, 5, 184, 0, 24, 153, 0, 20, 28, 3, 42, 180, 0, 9, 27, 50, 190, 4, 100, 184, 0, 24]
abbrev dktX2_isNoRowPlace_0 : List UInt8 := dkwX2_isNoRowPlace_0 ++ dktX2_isNoRowPlace_1
theorem dksX2_isNoRowPlace_0 : cX2_isNoRowPlace.data.toList.drop 0 = dktX2_isNoRowPlace_0 := by decide +kernel
theorem dksX2_isNoRowPlace_1 : cX2_isNoRowPlace.data.toList.drop 23 = dktX2_isNoRowPlace_1 := dk_seg dksX2_isNoRowPlace_0 23 rfl rfl
theorem dX2_isNoRowPlace_0 : decode cX2_isNoRowPlace 0 = .ok (.iload_n 1, 1) := dk_27 (dk_at dksX2_isNoRowPlace_0 0 rfl rfl)
theorem dX2_isNoRowPlace_1 : decode cX2_isNoRowPlace 1 = .ok (.iconst 0, 1) := dk_3 (dk_at dksX2_isNoRowPlace_0 1 rfl rfl)
theorem dX2_isNoRowPlace_2 : decode cX2_isNoRowPlace 2 = .ok (.iconst 2, 1) := dk_5 (dk_at dksX2_isNoRowPlace_0 2 rfl rfl)
theorem dX2_isNoRowPlace_3 : decode cX2_isNoRowPlace 3 = .ok (.invokestatic 24, 3) := dk_184 0 24 (dk_at dksX2_isNoRowPlace_0 3 rfl rfl)
theorem dX2_isNoRowPlace_6 : decode cX2_isNoRowPlace 6 = .ok (.ifCond .eq 20, 3) := dk_153 0 20 (dk_at dksX2_isNoRowPlace_0 6 rfl rfl)
theorem dX2_isNoRowPlace_9 : decode cX2_isNoRowPlace 9 = .ok (.iload_n 2, 1) := dk_28 (dk_at dksX2_isNoRowPlace_0 9 rfl rfl)
theorem dX2_isNoRowPlace_10 : decode cX2_isNoRowPlace 10 = .ok (.iconst 0, 1) := dk_3 (dk_at dksX2_isNoRowPlace_0 10 rfl rfl)
theorem dX2_isNoRowPlace_11 : decode cX2_isNoRowPlace 11 = .ok (.aload_n 0, 1) := dk_42 (dk_at dksX2_isNoRowPlace_0 11 rfl rfl)
theorem dX2_isNoRowPlace_12 : decode cX2_isNoRowPlace 12 = .ok (.getfield 9, 3) := dk_180 0 9 (dk_at dksX2_isNoRowPlace_0 12 rfl rfl)
theorem dX2_isNoRowPlace_15 : decode cX2_isNoRowPlace 15 = .ok (.iload_n 1, 1) := dk_27 (dk_at dksX2_isNoRowPlace_0 15 rfl rfl)
theorem dX2_isNoRowPlace_16 : decode cX2_isNoRowPlace 16 = .ok (.aaload, 1) := dk_50 (dk_at dksX2_isNoRowPlace_0 16 rfl rfl)
theorem dX2_isNoRowPlace_17 : decode cX2_isNoRowPlace 17 = .ok (.arraylength, 1) := dk_190 (dk_at dksX2_isNoRowPlace_0 17 rfl rfl)
theorem dX2_isNoRowPlace_18 : decode cX2_isNoRowPlace 18 = .ok (.iconst 1, 1) := dk_4 (dk_at dksX2_isNoRowPlace_0 18 rfl rfl)
theorem dX2_isNoRowPlace_19 : decode cX2_isNoRowPlace 19 = .ok (.isub, 1) := dk_100 (dk_at dksX2_isNoRowPlace_0 19 rfl rfl)
theorem dX2_isNoRowPlace_20 : decode cX2_isNoRowPlace 20 = .ok (.invokestatic 24, 3) := dk_184 0 24 (dk_at dksX2_isNoRowPlace_0 20 rfl rfl)
theorem dX2_isNoRowPlace_23 : decode cX2_isNoRowPlace 23 = .ok (.ifCond .ne 7, 3) := dk_154 0 7 (dk_at dksX2_isNoRowPlace_1 0 rfl rfl)
theorem dX2_isNoRowPlace_26 : decode cX2_isNoRowPlace 26 = .ok (.iconst 1, 1) := dk_4 (dk_at dksX2_isNoRowPlace_1 3 rfl rfl)
theorem dX2_isNoRowPlace_27 : decode cX2_isNoRowPlace 27 = .ok (.goto 4, 3) := dk_167 0 4 (dk_at dksX2_isNoRowPlace_1 4 rfl rfl)
theorem dX2_isNoRowPlace_30 : decode cX2_isNoRowPlace 30 = .ok (.iconst 0, 1) := dk_3 (dk_at dksX2_isNoRowPlace_1 7 rfl rfl)
theorem dX2_isNoRowPlace_31 : decode cX2_isNoRowPlace 31 = .ok (.ireturn, 1) := dk_172 (dk_at dksX2_isNoRowPlace_1 8 rfl rfl)
abbrev cX2_isNoValue : ByteArray := prog_8_method_4_code
def yX2_isNoValue : MethodName := ⟨RX2, "isNoValue", "(I)Z"⟩
def dkwX2_isNoValue_0 : List UInt8 := [26, 17, 252, 24, 159, 0, 18, 26, 16, 157, 16, 99, 184, 0, 24, 154, 0, 7, 4, 167, 0, 4, 3, 172]
abbrev dktX2_isNoValue_0 : List UInt8 := dkwX2_isNoValue_0 ++ []
theorem dksX2_isNoValue_0 : cX2_isNoValue.data.toList.drop 0 = dktX2_isNoValue_0 := by decide +kernel
theorem dX2_isNoValue_0 : decode cX2_isNoValue 0 = .ok (.iload_n 0, 1) := dk_26 (dk_at dksX2_isNoValue_0 0 rfl rfl)
theorem dX2_isNoValue_1 : decode cX2_isNoValue 1 = .ok (.sipush (-1000), 3) := dk_17 252 24 (dk_at dksX2_isNoValue_0 1 rfl rfl)
theorem dX2_isNoValue_4 : decode cX2_isNoValue 4 = .ok (.if_icmp .eq 18, 3) := dk_159 0 18 (dk_at dksX2_isNoValue_0 4 rfl rfl)
theorem dX2_isNoValue_7 : decode cX2_isNoValue 7 = .ok (.iload_n 0, 1) := dk_26 (dk_at dksX2_isNoValue_0 7 rfl rfl)
theorem dX2_isNoValue_8 : decode cX2_isNoValue 8 = .ok (.bipush (-99), 2) := dk_16 157 (dk_at dksX2_isNoValue_0 8 rfl rfl)
theorem dX2_isNoValue_10 : decode cX2_isNoValue 10 = .ok (.bipush 99, 2) := dk_16 99 (dk_at dksX2_isNoValue_0 10 rfl rfl)
theorem dX2_isNoValue_12 : decode cX2_isNoValue 12 = .ok (.invokestatic 24, 3) := dk_184 0 24 (dk_at dksX2_isNoValue_0 12 rfl rfl)
theorem dX2_isNoValue_15 : decode cX2_isNoValue 15 = .ok (.ifCond .ne 7, 3) := dk_154 0 7 (dk_at dksX2_isNoValue_0 15 rfl rfl)
theorem dX2_isNoValue_18 : decode cX2_isNoValue 18 = .ok (.iconst 1, 1) := dk_4 (dk_at dksX2_isNoValue_0 18 rfl rfl)
theorem dX2_isNoValue_19 : decode cX2_isNoValue 19 = .ok (.goto 4, 3) := dk_167 0 4 (dk_at dksX2_isNoValue_0 19 rfl rfl)
theorem dX2_isNoValue_22 : decode cX2_isNoValue 22 = .ok (.iconst 0, 1) := dk_3 (dk_at dksX2_isNoValue_0 22 rfl rfl)
theorem dX2_isNoValue_23 : decode cX2_isNoValue 23 = .ok (.ireturn, 1) := dk_172 (dk_at dksX2_isNoValue_0 23 rfl rfl)
abbrev cX2_at : ByteArray := prog_8_method_23_code
def yX2_at : MethodName := ⟨RX2, "at", "(II)I"⟩
def dkwX2_at_1 : List UInt8 := [28, 46, 172]
abbrev dktX2_at_1 : List UInt8 := dkwX2_at_1 ++ []
def dkwX2_at_0 : List UInt8 := [42, 42, 27, 28, 182, 0, 85, 3, 182, 0, 81, 153, 0, 7, 3, 167, 0, 11, 42, 180, 0, 9, 27, 50]
abbrev dktX2_at_0 : List UInt8 := dkwX2_at_0 ++ dktX2_at_1
theorem dksX2_at_0 : cX2_at.data.toList.drop 0 = dktX2_at_0 := by decide +kernel
theorem dksX2_at_1 : cX2_at.data.toList.drop 24 = dktX2_at_1 := dk_seg dksX2_at_0 24 rfl rfl
theorem dX2_at_0 : decode cX2_at 0 = .ok (.aload_n 0, 1) := dk_42 (dk_at dksX2_at_0 0 rfl rfl)
theorem dX2_at_1 : decode cX2_at 1 = .ok (.aload_n 0, 1) := dk_42 (dk_at dksX2_at_0 1 rfl rfl)
theorem dX2_at_2 : decode cX2_at 2 = .ok (.iload_n 1, 1) := dk_27 (dk_at dksX2_at_0 2 rfl rfl)
theorem dX2_at_3 : decode cX2_at 3 = .ok (.iload_n 2, 1) := dk_28 (dk_at dksX2_at_0 3 rfl rfl)
theorem dX2_at_4 : decode cX2_at 4 = .ok (.invokevirtual 85, 3) := dk_182 0 85 (dk_at dksX2_at_0 4 rfl rfl)
theorem dX2_at_7 : decode cX2_at 7 = .ok (.iconst 0, 1) := dk_3 (dk_at dksX2_at_0 7 rfl rfl)
theorem dX2_at_8 : decode cX2_at 8 = .ok (.invokevirtual 81, 3) := dk_182 0 81 (dk_at dksX2_at_0 8 rfl rfl)
theorem dX2_at_11 : decode cX2_at 11 = .ok (.ifCond .eq 7, 3) := dk_153 0 7 (dk_at dksX2_at_0 11 rfl rfl)
theorem dX2_at_14 : decode cX2_at 14 = .ok (.iconst 0, 1) := dk_3 (dk_at dksX2_at_0 14 rfl rfl)
theorem dX2_at_15 : decode cX2_at 15 = .ok (.goto 11, 3) := dk_167 0 11 (dk_at dksX2_at_0 15 rfl rfl)
theorem dX2_at_18 : decode cX2_at 18 = .ok (.aload_n 0, 1) := dk_42 (dk_at dksX2_at_0 18 rfl rfl)
theorem dX2_at_19 : decode cX2_at 19 = .ok (.getfield 9, 3) := dk_180 0 9 (dk_at dksX2_at_0 19 rfl rfl)
theorem dX2_at_22 : decode cX2_at 22 = .ok (.iload_n 1, 1) := dk_27 (dk_at dksX2_at_0 22 rfl rfl)
theorem dX2_at_23 : decode cX2_at 23 = .ok (.aaload, 1) := dk_50 (dk_at dksX2_at_0 23 rfl rfl)
theorem dX2_at_24 : decode cX2_at 24 = .ok (.iload_n 2, 1) := dk_28 (dk_at dksX2_at_1 0 rfl rfl)
theorem dX2_at_25 : decode cX2_at 25 = .ok (.iaload, 1) := dk_46 (dk_at dksX2_at_1 1 rfl rfl)
theorem dX2_at_26 : decode cX2_at 26 = .ok (.ireturn, 1) := dk_172 (dk_at dksX2_at_1 2 rfl rfl)
abbrev cX2_part : ByteArray := prog_8_method_24_code
def yX2_part : MethodName := ⟨RX2, "part", "(IIII)I"⟩
def dkwX2_part_5 : List UInt8 := [79, 21, 4, 29, 100, 172]
abbrev dktX2_part_5 : List UInt8 := dkwX2_part_5 ++ []
def dkwX2_part_4 : List UInt8 := [180, 0, 15, 27, 21, 6, 79, 42, 180, 0, 18, 27, 21, 7, 79, 42, 180, 0, 21, 27, 21, 4, 29, 100]
abbrev dktX2_part_4 : List UInt8 := dkwX2_part_4 ++ dktX2_part_5
def dkwX2_part_3 : List UInt8 := [153, 0, 5, 3, 172, 42, 180, 0, 15, 28, 46, 54, 6, 42, 180, 0, 18, 28, 46, 29, 96, 54, 7, 42]
abbrev dktX2_part_3 : List UInt8 := dkwX2_part_3 ++ dktX2_part_4
def dkwX2_part_2 : List UInt8 := [21, 4, 29, 42, 180, 0, 21, 28, 46, 184, 0, 24, 154, 0, 7, 4, 167, 0, 4, 3, 182, 0, 81]
abbrev dktX2_part_2 : List UInt8 := dkwX2_part_2 ++ dktX2_part_3
def dkwX2_part_1 : List UInt8 := [54, 5, 42, 21, 5, 21, 5, 154, 0, 36, 29, 3, 42, 180, 0, 21, 28, 46, 184, 0, 24, 153, 0, 18]
abbrev dktX2_part_1 : List UInt8 := dkwX2_part_1 ++ dktX2_part_2
def dkwX2_part_0 : List UInt8 := [27, 6, 16, 6, 184, 0, 24, 153, 0, 11, 42, 28, 182, 0, 32, 153, 0, 7, 4, 167, 0, 4, 3]
abbrev dktX2_part_0 : List UInt8 := dkwX2_part_0 ++ dktX2_part_1
theorem dksX2_part_0 : cX2_part.data.toList.drop 0 = dktX2_part_0 := by decide +kernel
theorem dksX2_part_1 : cX2_part.data.toList.drop 23 = dktX2_part_1 := dk_seg dksX2_part_0 23 rfl rfl
theorem dksX2_part_2 : cX2_part.data.toList.drop 47 = dktX2_part_2 := dk_seg dksX2_part_1 24 rfl rfl
theorem dksX2_part_3 : cX2_part.data.toList.drop 70 = dktX2_part_3 := dk_seg dksX2_part_2 23 rfl rfl
theorem dksX2_part_4 : cX2_part.data.toList.drop 94 = dktX2_part_4 := dk_seg dksX2_part_3 24 rfl rfl
theorem dksX2_part_5 : cX2_part.data.toList.drop 118 = dktX2_part_5 := dk_seg dksX2_part_4 24 rfl rfl
theorem dX2_part_0 : decode cX2_part 0 = .ok (.iload_n 1, 1) := dk_27 (dk_at dksX2_part_0 0 rfl rfl)
theorem dX2_part_1 : decode cX2_part 1 = .ok (.iconst 3, 1) := dk_6 (dk_at dksX2_part_0 1 rfl rfl)
theorem dX2_part_2 : decode cX2_part 2 = .ok (.bipush 6, 2) := dk_16 6 (dk_at dksX2_part_0 2 rfl rfl)
theorem dX2_part_4 : decode cX2_part 4 = .ok (.invokestatic 24, 3) := dk_184 0 24 (dk_at dksX2_part_0 4 rfl rfl)
theorem dX2_part_7 : decode cX2_part 7 = .ok (.ifCond .eq 11, 3) := dk_153 0 11 (dk_at dksX2_part_0 7 rfl rfl)
theorem dX2_part_10 : decode cX2_part 10 = .ok (.aload_n 0, 1) := dk_42 (dk_at dksX2_part_0 10 rfl rfl)
theorem dX2_part_11 : decode cX2_part 11 = .ok (.iload_n 2, 1) := dk_28 (dk_at dksX2_part_0 11 rfl rfl)
theorem dX2_part_12 : decode cX2_part 12 = .ok (.invokevirtual 32, 3) := dk_182 0 32 (dk_at dksX2_part_0 12 rfl rfl)
theorem dX2_part_15 : decode cX2_part 15 = .ok (.ifCond .eq 7, 3) := dk_153 0 7 (dk_at dksX2_part_0 15 rfl rfl)
theorem dX2_part_18 : decode cX2_part 18 = .ok (.iconst 1, 1) := dk_4 (dk_at dksX2_part_0 18 rfl rfl)
theorem dX2_part_19 : decode cX2_part 19 = .ok (.goto 4, 3) := dk_167 0 4 (dk_at dksX2_part_0 19 rfl rfl)
theorem dX2_part_22 : decode cX2_part 22 = .ok (.iconst 0, 1) := dk_3 (dk_at dksX2_part_0 22 rfl rfl)
theorem dX2_part_23 : decode cX2_part 23 = .ok (.istore 5, 2) := dk_54 5 (dk_at dksX2_part_1 0 rfl rfl)
theorem dX2_part_25 : decode cX2_part 25 = .ok (.aload_n 0, 1) := dk_42 (dk_at dksX2_part_1 2 rfl rfl)
theorem dX2_part_26 : decode cX2_part 26 = .ok (.iload 5, 2) := dk_21 5 (dk_at dksX2_part_1 3 rfl rfl)
theorem dX2_part_28 : decode cX2_part 28 = .ok (.iload 5, 2) := dk_21 5 (dk_at dksX2_part_1 5 rfl rfl)
theorem dX2_part_30 : decode cX2_part 30 = .ok (.ifCond .ne 36, 3) := dk_154 0 36 (dk_at dksX2_part_1 7 rfl rfl)
theorem dX2_part_33 : decode cX2_part 33 = .ok (.iload_n 3, 1) := dk_29 (dk_at dksX2_part_1 10 rfl rfl)
theorem dX2_part_34 : decode cX2_part 34 = .ok (.iconst 0, 1) := dk_3 (dk_at dksX2_part_1 11 rfl rfl)
theorem dX2_part_35 : decode cX2_part 35 = .ok (.aload_n 0, 1) := dk_42 (dk_at dksX2_part_1 12 rfl rfl)
theorem dX2_part_36 : decode cX2_part 36 = .ok (.getfield 21, 3) := dk_180 0 21 (dk_at dksX2_part_1 13 rfl rfl)
theorem dX2_part_39 : decode cX2_part 39 = .ok (.iload_n 2, 1) := dk_28 (dk_at dksX2_part_1 16 rfl rfl)
theorem dX2_part_40 : decode cX2_part 40 = .ok (.iaload, 1) := dk_46 (dk_at dksX2_part_1 17 rfl rfl)
theorem dX2_part_41 : decode cX2_part 41 = .ok (.invokestatic 24, 3) := dk_184 0 24 (dk_at dksX2_part_1 18 rfl rfl)
theorem dX2_part_44 : decode cX2_part 44 = .ok (.ifCond .eq 18, 3) := dk_153 0 18 (dk_at dksX2_part_1 21 rfl rfl)
theorem dX2_part_47 : decode cX2_part 47 = .ok (.iload 4, 2) := dk_21 4 (dk_at dksX2_part_2 0 rfl rfl)
theorem dX2_part_49 : decode cX2_part 49 = .ok (.iload_n 3, 1) := dk_29 (dk_at dksX2_part_2 2 rfl rfl)
theorem dX2_part_50 : decode cX2_part 50 = .ok (.aload_n 0, 1) := dk_42 (dk_at dksX2_part_2 3 rfl rfl)
theorem dX2_part_51 : decode cX2_part 51 = .ok (.getfield 21, 3) := dk_180 0 21 (dk_at dksX2_part_2 4 rfl rfl)
theorem dX2_part_54 : decode cX2_part 54 = .ok (.iload_n 2, 1) := dk_28 (dk_at dksX2_part_2 7 rfl rfl)
theorem dX2_part_55 : decode cX2_part 55 = .ok (.iaload, 1) := dk_46 (dk_at dksX2_part_2 8 rfl rfl)
theorem dX2_part_56 : decode cX2_part 56 = .ok (.invokestatic 24, 3) := dk_184 0 24 (dk_at dksX2_part_2 9 rfl rfl)
theorem dX2_part_59 : decode cX2_part 59 = .ok (.ifCond .ne 7, 3) := dk_154 0 7 (dk_at dksX2_part_2 12 rfl rfl)
theorem dX2_part_62 : decode cX2_part 62 = .ok (.iconst 1, 1) := dk_4 (dk_at dksX2_part_2 15 rfl rfl)
theorem dX2_part_63 : decode cX2_part 63 = .ok (.goto 4, 3) := dk_167 0 4 (dk_at dksX2_part_2 16 rfl rfl)
theorem dX2_part_66 : decode cX2_part 66 = .ok (.iconst 0, 1) := dk_3 (dk_at dksX2_part_2 19 rfl rfl)
theorem dX2_part_67 : decode cX2_part 67 = .ok (.invokevirtual 81, 3) := dk_182 0 81 (dk_at dksX2_part_2 20 rfl rfl)
theorem dX2_part_70 : decode cX2_part 70 = .ok (.ifCond .eq 5, 3) := dk_153 0 5 (dk_at dksX2_part_3 0 rfl rfl)
theorem dX2_part_73 : decode cX2_part 73 = .ok (.iconst 0, 1) := dk_3 (dk_at dksX2_part_3 3 rfl rfl)
theorem dX2_part_74 : decode cX2_part 74 = .ok (.ireturn, 1) := dk_172 (dk_at dksX2_part_3 4 rfl rfl)
theorem dX2_part_75 : decode cX2_part 75 = .ok (.aload_n 0, 1) := dk_42 (dk_at dksX2_part_3 5 rfl rfl)
theorem dX2_part_76 : decode cX2_part 76 = .ok (.getfield 15, 3) := dk_180 0 15 (dk_at dksX2_part_3 6 rfl rfl)
theorem dX2_part_79 : decode cX2_part 79 = .ok (.iload_n 2, 1) := dk_28 (dk_at dksX2_part_3 9 rfl rfl)
theorem dX2_part_80 : decode cX2_part 80 = .ok (.iaload, 1) := dk_46 (dk_at dksX2_part_3 10 rfl rfl)
theorem dX2_part_81 : decode cX2_part 81 = .ok (.istore 6, 2) := dk_54 6 (dk_at dksX2_part_3 11 rfl rfl)
theorem dX2_part_83 : decode cX2_part 83 = .ok (.aload_n 0, 1) := dk_42 (dk_at dksX2_part_3 13 rfl rfl)
theorem dX2_part_84 : decode cX2_part 84 = .ok (.getfield 18, 3) := dk_180 0 18 (dk_at dksX2_part_3 14 rfl rfl)
theorem dX2_part_87 : decode cX2_part 87 = .ok (.iload_n 2, 1) := dk_28 (dk_at dksX2_part_3 17 rfl rfl)
theorem dX2_part_88 : decode cX2_part 88 = .ok (.iaload, 1) := dk_46 (dk_at dksX2_part_3 18 rfl rfl)
theorem dX2_part_89 : decode cX2_part 89 = .ok (.iload_n 3, 1) := dk_29 (dk_at dksX2_part_3 19 rfl rfl)
theorem dX2_part_90 : decode cX2_part 90 = .ok (.iadd, 1) := dk_96 (dk_at dksX2_part_3 20 rfl rfl)
theorem dX2_part_91 : decode cX2_part 91 = .ok (.istore 7, 2) := dk_54 7 (dk_at dksX2_part_3 21 rfl rfl)
theorem dX2_part_93 : decode cX2_part 93 = .ok (.aload_n 0, 1) := dk_42 (dk_at dksX2_part_3 23 rfl rfl)
theorem dX2_part_94 : decode cX2_part 94 = .ok (.getfield 15, 3) := dk_180 0 15 (dk_at dksX2_part_4 0 rfl rfl)
theorem dX2_part_97 : decode cX2_part 97 = .ok (.iload_n 1, 1) := dk_27 (dk_at dksX2_part_4 3 rfl rfl)
theorem dX2_part_98 : decode cX2_part 98 = .ok (.iload 6, 2) := dk_21 6 (dk_at dksX2_part_4 4 rfl rfl)
theorem dX2_part_100 : decode cX2_part 100 = .ok (.iastore, 1) := dk_79 (dk_at dksX2_part_4 6 rfl rfl)
theorem dX2_part_101 : decode cX2_part 101 = .ok (.aload_n 0, 1) := dk_42 (dk_at dksX2_part_4 7 rfl rfl)
theorem dX2_part_102 : decode cX2_part 102 = .ok (.getfield 18, 3) := dk_180 0 18 (dk_at dksX2_part_4 8 rfl rfl)
theorem dX2_part_105 : decode cX2_part 105 = .ok (.iload_n 1, 1) := dk_27 (dk_at dksX2_part_4 11 rfl rfl)
theorem dX2_part_106 : decode cX2_part 106 = .ok (.iload 7, 2) := dk_21 7 (dk_at dksX2_part_4 12 rfl rfl)
theorem dX2_part_108 : decode cX2_part 108 = .ok (.iastore, 1) := dk_79 (dk_at dksX2_part_4 14 rfl rfl)
theorem dX2_part_109 : decode cX2_part 109 = .ok (.aload_n 0, 1) := dk_42 (dk_at dksX2_part_4 15 rfl rfl)
theorem dX2_part_110 : decode cX2_part 110 = .ok (.getfield 21, 3) := dk_180 0 21 (dk_at dksX2_part_4 16 rfl rfl)
theorem dX2_part_113 : decode cX2_part 113 = .ok (.iload_n 1, 1) := dk_27 (dk_at dksX2_part_4 19 rfl rfl)
theorem dX2_part_114 : decode cX2_part 114 = .ok (.iload 4, 2) := dk_21 4 (dk_at dksX2_part_4 20 rfl rfl)
theorem dX2_part_116 : decode cX2_part 116 = .ok (.iload_n 3, 1) := dk_29 (dk_at dksX2_part_4 22 rfl rfl)
theorem dX2_part_117 : decode cX2_part 117 = .ok (.isub, 1) := dk_100 (dk_at dksX2_part_4 23 rfl rfl)
theorem dX2_part_118 : decode cX2_part 118 = .ok (.iastore, 1) := dk_79 (dk_at dksX2_part_5 0 rfl rfl)
theorem dX2_part_119 : decode cX2_part 119 = .ok (.iload 4, 2) := dk_21 4 (dk_at dksX2_part_5 1 rfl rfl)
theorem dX2_part_121 : decode cX2_part 121 = .ok (.iload_n 3, 1) := dk_29 (dk_at dksX2_part_5 3 rfl rfl)
theorem dX2_part_122 : decode cX2_part 122 = .ok (.isub, 1) := dk_100 (dk_at dksX2_part_5 4 rfl rfl)
theorem dX2_part_123 : decode cX2_part 123 = .ok (.ireturn, 1) := dk_172 (dk_at dksX2_part_5 5 rfl rfl)
abbrev cX2_isNoList : ByteArray := prog_8_method_7_code
def yX2_isNoList : MethodName := ⟨RX2, "isNoList", "(I)Z"⟩
def dkwX2_isNoList_1 : List UInt8 := [3, 172]
abbrev dktX2_isNoList_1 : List UInt8 := dkwX2_isNoList_1 ++ []
def dkwX2_isNoList_0 : List UInt8 := [27, 3, 16, 6, 184, 0, 24, 153, 0, 13, 42, 180, 0, 15, 27, 46, 2, 160, 0, 7, 4, 167, 0, 4]
abbrev dktX2_isNoList_0 : List UInt8 := dkwX2_isNoList_0 ++ dktX2_isNoList_1
theorem dksX2_isNoList_0 : cX2_isNoList.data.toList.drop 0 = dktX2_isNoList_0 := by decide +kernel
theorem dksX2_isNoList_1 : cX2_isNoList.data.toList.drop 24 = dktX2_isNoList_1 := dk_seg dksX2_isNoList_0 24 rfl rfl
theorem dX2_isNoList_0 : decode cX2_isNoList 0 = .ok (.iload_n 1, 1) := dk_27 (dk_at dksX2_isNoList_0 0 rfl rfl)
theorem dX2_isNoList_1 : decode cX2_isNoList 1 = .ok (.iconst 0, 1) := dk_3 (dk_at dksX2_isNoList_0 1 rfl rfl)
theorem dX2_isNoList_2 : decode cX2_isNoList 2 = .ok (.bipush 6, 2) := dk_16 6 (dk_at dksX2_isNoList_0 2 rfl rfl)
theorem dX2_isNoList_4 : decode cX2_isNoList 4 = .ok (.invokestatic 24, 3) := dk_184 0 24 (dk_at dksX2_isNoList_0 4 rfl rfl)
theorem dX2_isNoList_7 : decode cX2_isNoList 7 = .ok (.ifCond .eq 13, 3) := dk_153 0 13 (dk_at dksX2_isNoList_0 7 rfl rfl)
theorem dX2_isNoList_10 : decode cX2_isNoList 10 = .ok (.aload_n 0, 1) := dk_42 (dk_at dksX2_isNoList_0 10 rfl rfl)
theorem dX2_isNoList_11 : decode cX2_isNoList 11 = .ok (.getfield 15, 3) := dk_180 0 15 (dk_at dksX2_isNoList_0 11 rfl rfl)
theorem dX2_isNoList_14 : decode cX2_isNoList 14 = .ok (.iload_n 1, 1) := dk_27 (dk_at dksX2_isNoList_0 14 rfl rfl)
theorem dX2_isNoList_15 : decode cX2_isNoList 15 = .ok (.iaload, 1) := dk_46 (dk_at dksX2_isNoList_0 15 rfl rfl)
theorem dX2_isNoList_16 : decode cX2_isNoList 16 = .ok (.iconst (-1), 1) := dk_2 (dk_at dksX2_isNoList_0 16 rfl rfl)
theorem dX2_isNoList_17 : decode cX2_isNoList 17 = .ok (.if_icmp .ne 7, 3) := dk_160 0 7 (dk_at dksX2_isNoList_0 17 rfl rfl)
theorem dX2_isNoList_20 : decode cX2_isNoList 20 = .ok (.iconst 1, 1) := dk_4 (dk_at dksX2_isNoList_0 20 rfl rfl)
theorem dX2_isNoList_21 : decode cX2_isNoList 21 = .ok (.goto 4, 3) := dk_167 0 4 (dk_at dksX2_isNoList_0 21 rfl rfl)
theorem dX2_isNoList_24 : decode cX2_isNoList 24 = .ok (.iconst 0, 1) := dk_3 (dk_at dksX2_isNoList_1 0 rfl rfl)
theorem dX2_isNoList_25 : decode cX2_isNoList 25 = .ok (.ireturn, 1) := dk_172 (dk_at dksX2_isNoList_1 1 rfl rfl)
abbrev cX2_set : ByteArray := prog_8_method_25_code
def yX2_set : MethodName := ⟨RX2, "set", "(III)I"⟩
def dkwX2_set_1 : List UInt8 := [182, 0, 36, 54, 4, 42, 27, 28, 29, 182, 0, 40, 21, 4, 172]
abbrev dktX2_set_1 : List UInt8 := dkwX2_set_1 ++ []
def dkwX2_set_0 : List UInt8 := [42, 42, 27, 28, 182, 0, 92, 29, 184, 0, 89, 182, 0, 81, 153, 0, 5, 3, 172, 42, 27, 28]
abbrev dktX2_set_0 : List UInt8 := dkwX2_set_0 ++ dktX2_set_1
theorem dksX2_set_0 : cX2_set.data.toList.drop 0 = dktX2_set_0 := by decide +kernel
theorem dksX2_set_1 : cX2_set.data.toList.drop 22 = dktX2_set_1 := dk_seg dksX2_set_0 22 rfl rfl
theorem dX2_set_0 : decode cX2_set 0 = .ok (.aload_n 0, 1) := dk_42 (dk_at dksX2_set_0 0 rfl rfl)
theorem dX2_set_1 : decode cX2_set 1 = .ok (.aload_n 0, 1) := dk_42 (dk_at dksX2_set_0 1 rfl rfl)
theorem dX2_set_2 : decode cX2_set 2 = .ok (.iload_n 1, 1) := dk_27 (dk_at dksX2_set_0 2 rfl rfl)
theorem dX2_set_3 : decode cX2_set 3 = .ok (.iload_n 2, 1) := dk_28 (dk_at dksX2_set_0 3 rfl rfl)
theorem dX2_set_4 : decode cX2_set 4 = .ok (.invokevirtual 92, 3) := dk_182 0 92 (dk_at dksX2_set_0 4 rfl rfl)
theorem dX2_set_7 : decode cX2_set 7 = .ok (.iload_n 3, 1) := dk_29 (dk_at dksX2_set_0 7 rfl rfl)
theorem dX2_set_8 : decode cX2_set 8 = .ok (.invokestatic 89, 3) := dk_184 0 89 (dk_at dksX2_set_0 8 rfl rfl)
theorem dX2_set_11 : decode cX2_set 11 = .ok (.invokevirtual 81, 3) := dk_182 0 81 (dk_at dksX2_set_0 11 rfl rfl)
theorem dX2_set_14 : decode cX2_set 14 = .ok (.ifCond .eq 5, 3) := dk_153 0 5 (dk_at dksX2_set_0 14 rfl rfl)
theorem dX2_set_17 : decode cX2_set 17 = .ok (.iconst 0, 1) := dk_3 (dk_at dksX2_set_0 17 rfl rfl)
theorem dX2_set_18 : decode cX2_set 18 = .ok (.ireturn, 1) := dk_172 (dk_at dksX2_set_0 18 rfl rfl)
theorem dX2_set_19 : decode cX2_set 19 = .ok (.aload_n 0, 1) := dk_42 (dk_at dksX2_set_0 19 rfl rfl)
theorem dX2_set_20 : decode cX2_set 20 = .ok (.iload_n 1, 1) := dk_27 (dk_at dksX2_set_0 20 rfl rfl)
theorem dX2_set_21 : decode cX2_set 21 = .ok (.iload_n 2, 1) := dk_28 (dk_at dksX2_set_0 21 rfl rfl)
theorem dX2_set_22 : decode cX2_set 22 = .ok (.invokevirtual 36, 3) := dk_182 0 36 (dk_at dksX2_set_1 0 rfl rfl)
theorem dX2_set_25 : decode cX2_set 25 = .ok (.istore 4, 2) := dk_54 4 (dk_at dksX2_set_1 3 rfl rfl)
theorem dX2_set_27 : decode cX2_set 27 = .ok (.aload_n 0, 1) := dk_42 (dk_at dksX2_set_1 5 rfl rfl)
theorem dX2_set_28 : decode cX2_set 28 = .ok (.iload_n 1, 1) := dk_27 (dk_at dksX2_set_1 6 rfl rfl)
theorem dX2_set_29 : decode cX2_set 29 = .ok (.iload_n 2, 1) := dk_28 (dk_at dksX2_set_1 7 rfl rfl)
theorem dX2_set_30 : decode cX2_set 30 = .ok (.iload_n 3, 1) := dk_29 (dk_at dksX2_set_1 8 rfl rfl)
theorem dX2_set_31 : decode cX2_set 31 = .ok (.invokevirtual 40, 3) := dk_182 0 40 (dk_at dksX2_set_1 9 rfl rfl)
theorem dX2_set_34 : decode cX2_set 34 = .ok (.iload 4, 2) := dk_21 4 (dk_at dksX2_set_1 12 rfl rfl)
theorem dX2_set_36 : decode cX2_set 36 = .ok (.ireturn, 1) := dk_172 (dk_at dksX2_set_1 14 rfl rfl)
abbrev cX2_isNoPlace : ByteArray := prog_8_method_8_code
def yX2_isNoPlace : MethodName := ⟨RX2, "isNoPlace", "(II)Z"⟩
def dkwX2_isNoPlace_1 : List UInt8 := [4, 167, 0, 4, 3, 172]
abbrev dktX2_isNoPlace_1 : List UInt8 := dkwX2_isNoPlace_1 ++ []
def dkwX2_isNoPlace_0 : List UInt8 := [42, 27, 182, 0, 32, 154, 0, 19, 28, 3, 42, 180, 0, 21, 27, 46, 4, 100, 184, 0, 24, 154, 0, 7]
abbrev dktX2_isNoPlace_0 : List UInt8 := dkwX2_isNoPlace_0 ++ dktX2_isNoPlace_1
theorem dksX2_isNoPlace_0 : cX2_isNoPlace.data.toList.drop 0 = dktX2_isNoPlace_0 := by decide +kernel
theorem dksX2_isNoPlace_1 : cX2_isNoPlace.data.toList.drop 24 = dktX2_isNoPlace_1 := dk_seg dksX2_isNoPlace_0 24 rfl rfl
theorem dX2_isNoPlace_0 : decode cX2_isNoPlace 0 = .ok (.aload_n 0, 1) := dk_42 (dk_at dksX2_isNoPlace_0 0 rfl rfl)
theorem dX2_isNoPlace_1 : decode cX2_isNoPlace 1 = .ok (.iload_n 1, 1) := dk_27 (dk_at dksX2_isNoPlace_0 1 rfl rfl)
theorem dX2_isNoPlace_2 : decode cX2_isNoPlace 2 = .ok (.invokevirtual 32, 3) := dk_182 0 32 (dk_at dksX2_isNoPlace_0 2 rfl rfl)
theorem dX2_isNoPlace_5 : decode cX2_isNoPlace 5 = .ok (.ifCond .ne 19, 3) := dk_154 0 19 (dk_at dksX2_isNoPlace_0 5 rfl rfl)
theorem dX2_isNoPlace_8 : decode cX2_isNoPlace 8 = .ok (.iload_n 2, 1) := dk_28 (dk_at dksX2_isNoPlace_0 8 rfl rfl)
theorem dX2_isNoPlace_9 : decode cX2_isNoPlace 9 = .ok (.iconst 0, 1) := dk_3 (dk_at dksX2_isNoPlace_0 9 rfl rfl)
theorem dX2_isNoPlace_10 : decode cX2_isNoPlace 10 = .ok (.aload_n 0, 1) := dk_42 (dk_at dksX2_isNoPlace_0 10 rfl rfl)
theorem dX2_isNoPlace_11 : decode cX2_isNoPlace 11 = .ok (.getfield 21, 3) := dk_180 0 21 (dk_at dksX2_isNoPlace_0 11 rfl rfl)
theorem dX2_isNoPlace_14 : decode cX2_isNoPlace 14 = .ok (.iload_n 1, 1) := dk_27 (dk_at dksX2_isNoPlace_0 14 rfl rfl)
theorem dX2_isNoPlace_15 : decode cX2_isNoPlace 15 = .ok (.iaload, 1) := dk_46 (dk_at dksX2_isNoPlace_0 15 rfl rfl)
theorem dX2_isNoPlace_16 : decode cX2_isNoPlace 16 = .ok (.iconst 1, 1) := dk_4 (dk_at dksX2_isNoPlace_0 16 rfl rfl)
theorem dX2_isNoPlace_17 : decode cX2_isNoPlace 17 = .ok (.isub, 1) := dk_100 (dk_at dksX2_isNoPlace_0 17 rfl rfl)
theorem dX2_isNoPlace_18 : decode cX2_isNoPlace 18 = .ok (.invokestatic 24, 3) := dk_184 0 24 (dk_at dksX2_isNoPlace_0 18 rfl rfl)
theorem dX2_isNoPlace_21 : decode cX2_isNoPlace 21 = .ok (.ifCond .ne 7, 3) := dk_154 0 7 (dk_at dksX2_isNoPlace_0 21 rfl rfl)
theorem dX2_isNoPlace_24 : decode cX2_isNoPlace 24 = .ok (.iconst 1, 1) := dk_4 (dk_at dksX2_isNoPlace_1 0 rfl rfl)
theorem dX2_isNoPlace_25 : decode cX2_isNoPlace 25 = .ok (.goto 4, 3) := dk_167 0 4 (dk_at dksX2_isNoPlace_1 1 rfl rfl)
theorem dX2_isNoPlace_28 : decode cX2_isNoPlace 28 = .ok (.iconst 0, 1) := dk_3 (dk_at dksX2_isNoPlace_1 4 rfl rfl)
theorem dX2_isNoPlace_29 : decode cX2_isNoPlace 29 = .ok (.ireturn, 1) := dk_172 (dk_at dksX2_isNoPlace_1 5 rfl rfl)
abbrev cX2_value : ByteArray := prog_8_method_10_code
def yX2_value : MethodName := ⟨RX2, "value", "(II)I"⟩
def dkwX2_value_0 : List UInt8 := [42, 180, 0, 9, 42, 180, 0, 15, 27, 46, 50, 42, 180, 0, 18, 27, 46, 28, 96, 46, 172]
abbrev dktX2_value_0 : List UInt8 := dkwX2_value_0 ++ []
theorem dksX2_value_0 : cX2_value.data.toList.drop 0 = dktX2_value_0 := by decide +kernel
theorem dX2_value_0 : decode cX2_value 0 = .ok (.aload_n 0, 1) := dk_42 (dk_at dksX2_value_0 0 rfl rfl)
theorem dX2_value_1 : decode cX2_value 1 = .ok (.getfield 9, 3) := dk_180 0 9 (dk_at dksX2_value_0 1 rfl rfl)
theorem dX2_value_4 : decode cX2_value 4 = .ok (.aload_n 0, 1) := dk_42 (dk_at dksX2_value_0 4 rfl rfl)
theorem dX2_value_5 : decode cX2_value 5 = .ok (.getfield 15, 3) := dk_180 0 15 (dk_at dksX2_value_0 5 rfl rfl)
theorem dX2_value_8 : decode cX2_value 8 = .ok (.iload_n 1, 1) := dk_27 (dk_at dksX2_value_0 8 rfl rfl)
theorem dX2_value_9 : decode cX2_value 9 = .ok (.iaload, 1) := dk_46 (dk_at dksX2_value_0 9 rfl rfl)
theorem dX2_value_10 : decode cX2_value 10 = .ok (.aaload, 1) := dk_50 (dk_at dksX2_value_0 10 rfl rfl)
theorem dX2_value_11 : decode cX2_value 11 = .ok (.aload_n 0, 1) := dk_42 (dk_at dksX2_value_0 11 rfl rfl)
theorem dX2_value_12 : decode cX2_value 12 = .ok (.getfield 18, 3) := dk_180 0 18 (dk_at dksX2_value_0 12 rfl rfl)
theorem dX2_value_15 : decode cX2_value 15 = .ok (.iload_n 1, 1) := dk_27 (dk_at dksX2_value_0 15 rfl rfl)
theorem dX2_value_16 : decode cX2_value 16 = .ok (.iaload, 1) := dk_46 (dk_at dksX2_value_0 16 rfl rfl)
theorem dX2_value_17 : decode cX2_value 17 = .ok (.iload_n 2, 1) := dk_28 (dk_at dksX2_value_0 17 rfl rfl)
theorem dX2_value_18 : decode cX2_value 18 = .ok (.iadd, 1) := dk_96 (dk_at dksX2_value_0 18 rfl rfl)
theorem dX2_value_19 : decode cX2_value 19 = .ok (.iaload, 1) := dk_46 (dk_at dksX2_value_0 19 rfl rfl)
theorem dX2_value_20 : decode cX2_value 20 = .ok (.ireturn, 1) := dk_172 (dk_at dksX2_value_0 20 rfl rfl)
abbrev cX2_write : ByteArray := prog_8_method_11_code
def yX2_write : MethodName := ⟨RX2, "write", "(III)V"⟩
def dkwX2_write_0 : List UInt8 := [42, 180, 0, 9, 42, 180, 0, 15, 27, 46, 50, 42, 180, 0, 18, 27, 46, 28, 96, 29, 79, 177]
abbrev dktX2_write_0 : List UInt8 := dkwX2_write_0 ++ []
theorem dksX2_write_0 : cX2_write.data.toList.drop 0 = dktX2_write_0 := by decide +kernel
theorem dX2_write_0 : decode cX2_write 0 = .ok (.aload_n 0, 1) := dk_42 (dk_at dksX2_write_0 0 rfl rfl)
theorem dX2_write_1 : decode cX2_write 1 = .ok (.getfield 9, 3) := dk_180 0 9 (dk_at dksX2_write_0 1 rfl rfl)
theorem dX2_write_4 : decode cX2_write 4 = .ok (.aload_n 0, 1) := dk_42 (dk_at dksX2_write_0 4 rfl rfl)
theorem dX2_write_5 : decode cX2_write 5 = .ok (.getfield 15, 3) := dk_180 0 15 (dk_at dksX2_write_0 5 rfl rfl)
theorem dX2_write_8 : decode cX2_write 8 = .ok (.iload_n 1, 1) := dk_27 (dk_at dksX2_write_0 8 rfl rfl)
theorem dX2_write_9 : decode cX2_write 9 = .ok (.iaload, 1) := dk_46 (dk_at dksX2_write_0 9 rfl rfl)
theorem dX2_write_10 : decode cX2_write 10 = .ok (.aaload, 1) := dk_50 (dk_at dksX2_write_0 10 rfl rfl)
theorem dX2_write_11 : decode cX2_write 11 = .ok (.aload_n 0, 1) := dk_42 (dk_at dksX2_write_0 11 rfl rfl)
theorem dX2_write_12 : decode cX2_write 12 = .ok (.getfield 18, 3) := dk_180 0 18 (dk_at dksX2_write_0 12 rfl rfl)
theorem dX2_write_15 : decode cX2_write 15 = .ok (.iload_n 1, 1) := dk_27 (dk_at dksX2_write_0 15 rfl rfl)
theorem dX2_write_16 : decode cX2_write 16 = .ok (.iaload, 1) := dk_46 (dk_at dksX2_write_0 16 rfl rfl)
theorem dX2_write_17 : decode cX2_write 17 = .ok (.iload_n 2, 1) := dk_28 (dk_at dksX2_write_0 17 rfl rfl)
theorem dX2_write_18 : decode cX2_write 18 = .ok (.iadd, 1) := dk_96 (dk_at dksX2_write_0 18 rfl rfl)
theorem dX2_write_19 : decode cX2_write 19 = .ok (.iload_n 3, 1) := dk_29 (dk_at dksX2_write_0 19 rfl rfl)
theorem dX2_write_20 : decode cX2_write 20 = .ok (.iastore, 1) := dk_79 (dk_at dksX2_write_0 20 rfl rfl)
theorem dX2_write_21 : decode cX2_write 21 = .ok (.return_, 1) := dk_177 (dk_at dksX2_write_0 21 rfl rfl)
abbrev cX2_get : ByteArray := prog_8_method_26_code
def yX2_get : MethodName := ⟨RX2, "get", "(II)I"⟩
def dkwX2_get_1 : List UInt8 := [172]
abbrev dktX2_get_1 : List UInt8 := dkwX2_get_1 ++ []
def dkwX2_get_0 : List UInt8 := [42, 42, 27, 28, 182, 0, 92, 3, 182, 0, 81, 153, 0, 7, 3, 167, 0, 9, 42, 27, 28, 182, 0, 36]
abbrev dktX2_get_0 : List UInt8 := dkwX2_get_0 ++ dktX2_get_1
theorem dksX2_get_0 : cX2_get.data.toList.drop 0 = dktX2_get_0 := by decide +kernel
theorem dksX2_get_1 : cX2_get.data.toList.drop 24 = dktX2_get_1 := dk_seg dksX2_get_0 24 rfl rfl
theorem dX2_get_0 : decode cX2_get 0 = .ok (.aload_n 0, 1) := dk_42 (dk_at dksX2_get_0 0 rfl rfl)
theorem dX2_get_1 : decode cX2_get 1 = .ok (.aload_n 0, 1) := dk_42 (dk_at dksX2_get_0 1 rfl rfl)
theorem dX2_get_2 : decode cX2_get 2 = .ok (.iload_n 1, 1) := dk_27 (dk_at dksX2_get_0 2 rfl rfl)
theorem dX2_get_3 : decode cX2_get 3 = .ok (.iload_n 2, 1) := dk_28 (dk_at dksX2_get_0 3 rfl rfl)
theorem dX2_get_4 : decode cX2_get 4 = .ok (.invokevirtual 92, 3) := dk_182 0 92 (dk_at dksX2_get_0 4 rfl rfl)
theorem dX2_get_7 : decode cX2_get 7 = .ok (.iconst 0, 1) := dk_3 (dk_at dksX2_get_0 7 rfl rfl)
theorem dX2_get_8 : decode cX2_get 8 = .ok (.invokevirtual 81, 3) := dk_182 0 81 (dk_at dksX2_get_0 8 rfl rfl)
theorem dX2_get_11 : decode cX2_get 11 = .ok (.ifCond .eq 7, 3) := dk_153 0 7 (dk_at dksX2_get_0 11 rfl rfl)
theorem dX2_get_14 : decode cX2_get 14 = .ok (.iconst 0, 1) := dk_3 (dk_at dksX2_get_0 14 rfl rfl)
theorem dX2_get_15 : decode cX2_get 15 = .ok (.goto 9, 3) := dk_167 0 9 (dk_at dksX2_get_0 15 rfl rfl)
theorem dX2_get_18 : decode cX2_get 18 = .ok (.aload_n 0, 1) := dk_42 (dk_at dksX2_get_0 18 rfl rfl)
theorem dX2_get_19 : decode cX2_get 19 = .ok (.iload_n 1, 1) := dk_27 (dk_at dksX2_get_0 19 rfl rfl)
theorem dX2_get_20 : decode cX2_get 20 = .ok (.iload_n 2, 1) := dk_28 (dk_at dksX2_get_0 20 rfl rfl)
theorem dX2_get_21 : decode cX2_get 21 = .ok (.invokevirtual 36, 3) := dk_182 0 36 (dk_at dksX2_get_0 21 rfl rfl)
theorem dX2_get_24 : decode cX2_get 24 = .ok (.ireturn, 1) := dk_172 (dk_at dksX2_get_1 0 rfl rfl)
abbrev cX2_length : ByteArray := prog_8_method_27_code
def yX2_length : MethodName := ⟨RX2, "length", "(I)I"⟩
def dkwX2_length_0 : List UInt8 := [42, 42, 27, 182, 0, 32, 3, 182, 0, 81, 153, 0, 7, 3, 167, 0, 9, 42, 180, 0, 21, 27, 46, 172]
abbrev dktX2_length_0 : List UInt8 := dkwX2_length_0 ++ []
theorem dksX2_length_0 : cX2_length.data.toList.drop 0 = dktX2_length_0 := by decide +kernel
theorem dX2_length_0 : decode cX2_length 0 = .ok (.aload_n 0, 1) := dk_42 (dk_at dksX2_length_0 0 rfl rfl)
theorem dX2_length_1 : decode cX2_length 1 = .ok (.aload_n 0, 1) := dk_42 (dk_at dksX2_length_0 1 rfl rfl)
theorem dX2_length_2 : decode cX2_length 2 = .ok (.iload_n 1, 1) := dk_27 (dk_at dksX2_length_0 2 rfl rfl)
theorem dX2_length_3 : decode cX2_length 3 = .ok (.invokevirtual 32, 3) := dk_182 0 32 (dk_at dksX2_length_0 3 rfl rfl)
theorem dX2_length_6 : decode cX2_length 6 = .ok (.iconst 0, 1) := dk_3 (dk_at dksX2_length_0 6 rfl rfl)
theorem dX2_length_7 : decode cX2_length 7 = .ok (.invokevirtual 81, 3) := dk_182 0 81 (dk_at dksX2_length_0 7 rfl rfl)
theorem dX2_length_10 : decode cX2_length 10 = .ok (.ifCond .eq 7, 3) := dk_153 0 7 (dk_at dksX2_length_0 10 rfl rfl)
theorem dX2_length_13 : decode cX2_length 13 = .ok (.iconst 0, 1) := dk_3 (dk_at dksX2_length_0 13 rfl rfl)
theorem dX2_length_14 : decode cX2_length 14 = .ok (.goto 9, 3) := dk_167 0 9 (dk_at dksX2_length_0 14 rfl rfl)
theorem dX2_length_17 : decode cX2_length 17 = .ok (.aload_n 0, 1) := dk_42 (dk_at dksX2_length_0 17 rfl rfl)
theorem dX2_length_18 : decode cX2_length 18 = .ok (.getfield 21, 3) := dk_180 0 21 (dk_at dksX2_length_0 18 rfl rfl)
theorem dX2_length_21 : decode cX2_length 21 = .ok (.iload_n 1, 1) := dk_27 (dk_at dksX2_length_0 21 rfl rfl)
theorem dX2_length_22 : decode cX2_length 22 = .ok (.iaload, 1) := dk_46 (dk_at dksX2_length_0 22 rfl rfl)
theorem dX2_length_23 : decode cX2_length 23 = .ok (.ireturn, 1) := dk_172 (dk_at dksX2_length_0 23 rfl rfl)
abbrev cX2_isEmpty : ByteArray := prog_8_method_28_code
def yX2_isEmpty : MethodName := ⟨RX2, "isEmpty", "(I)Z"⟩
def dkwX2_isEmpty_1 : List UInt8 := [167, 0, 4, 3, 172]
abbrev dktX2_isEmpty_1 : List UInt8 := dkwX2_isEmpty_1 ++ []
def dkwX2_isEmpty_0 : List UInt8 := [42, 42, 27, 182, 0, 32, 3, 182, 0, 81, 154, 0, 16, 42, 180, 0, 21, 27, 46, 154, 0, 7, 4]
abbrev dktX2_isEmpty_0 : List UInt8 := dkwX2_isEmpty_0 ++ dktX2_isEmpty_1
theorem dksX2_isEmpty_0 : cX2_isEmpty.data.toList.drop 0 = dktX2_isEmpty_0 := by decide +kernel
theorem dksX2_isEmpty_1 : cX2_isEmpty.data.toList.drop 23 = dktX2_isEmpty_1 := dk_seg dksX2_isEmpty_0 23 rfl rfl
theorem dX2_isEmpty_0 : decode cX2_isEmpty 0 = .ok (.aload_n 0, 1) := dk_42 (dk_at dksX2_isEmpty_0 0 rfl rfl)
theorem dX2_isEmpty_1 : decode cX2_isEmpty 1 = .ok (.aload_n 0, 1) := dk_42 (dk_at dksX2_isEmpty_0 1 rfl rfl)
theorem dX2_isEmpty_2 : decode cX2_isEmpty 2 = .ok (.iload_n 1, 1) := dk_27 (dk_at dksX2_isEmpty_0 2 rfl rfl)
theorem dX2_isEmpty_3 : decode cX2_isEmpty 3 = .ok (.invokevirtual 32, 3) := dk_182 0 32 (dk_at dksX2_isEmpty_0 3 rfl rfl)
theorem dX2_isEmpty_6 : decode cX2_isEmpty 6 = .ok (.iconst 0, 1) := dk_3 (dk_at dksX2_isEmpty_0 6 rfl rfl)
theorem dX2_isEmpty_7 : decode cX2_isEmpty 7 = .ok (.invokevirtual 81, 3) := dk_182 0 81 (dk_at dksX2_isEmpty_0 7 rfl rfl)
theorem dX2_isEmpty_10 : decode cX2_isEmpty 10 = .ok (.ifCond .ne 16, 3) := dk_154 0 16 (dk_at dksX2_isEmpty_0 10 rfl rfl)
theorem dX2_isEmpty_13 : decode cX2_isEmpty 13 = .ok (.aload_n 0, 1) := dk_42 (dk_at dksX2_isEmpty_0 13 rfl rfl)
theorem dX2_isEmpty_14 : decode cX2_isEmpty 14 = .ok (.getfield 21, 3) := dk_180 0 21 (dk_at dksX2_isEmpty_0 14 rfl rfl)
theorem dX2_isEmpty_17 : decode cX2_isEmpty 17 = .ok (.iload_n 1, 1) := dk_27 (dk_at dksX2_isEmpty_0 17 rfl rfl)
theorem dX2_isEmpty_18 : decode cX2_isEmpty 18 = .ok (.iaload, 1) := dk_46 (dk_at dksX2_isEmpty_0 18 rfl rfl)
theorem dX2_isEmpty_19 : decode cX2_isEmpty 19 = .ok (.ifCond .ne 7, 3) := dk_154 0 7 (dk_at dksX2_isEmpty_0 19 rfl rfl)
theorem dX2_isEmpty_22 : decode cX2_isEmpty 22 = .ok (.iconst 1, 1) := dk_4 (dk_at dksX2_isEmpty_0 22 rfl rfl)
theorem dX2_isEmpty_23 : decode cX2_isEmpty 23 = .ok (.goto 4, 3) := dk_167 0 4 (dk_at dksX2_isEmpty_1 0 rfl rfl)
theorem dX2_isEmpty_26 : decode cX2_isEmpty 26 = .ok (.iconst 0, 1) := dk_3 (dk_at dksX2_isEmpty_1 3 rfl rfl)
theorem dX2_isEmpty_27 : decode cX2_isEmpty 27 = .ok (.ireturn, 1) := dk_172 (dk_at dksX2_isEmpty_1 4 rfl rfl)
abbrev cX2_text : ByteArray := prog_8_method_30_code
def yX2_text : MethodName := ⟨RX2, "text", "(I)Ljava/lang/String;"⟩
def dkwX2_text_0 : List UInt8 := [42, 27, 3, 182, 0, 111, 176]
abbrev dktX2_text_0 : List UInt8 := dkwX2_text_0 ++ []
theorem dksX2_text_0 : cX2_text.data.toList.drop 0 = dktX2_text_0 := by decide +kernel
theorem dX2_text_0 : decode cX2_text 0 = .ok (.aload_n 0, 1) := dk_42 (dk_at dksX2_text_0 0 rfl rfl)
theorem dX2_text_1 : decode cX2_text 1 = .ok (.iload_n 1, 1) := dk_27 (dk_at dksX2_text_0 1 rfl rfl)
theorem dX2_text_2 : decode cX2_text 2 = .ok (.iconst 0, 1) := dk_3 (dk_at dksX2_text_0 2 rfl rfl)
theorem dX2_text_3 : decode cX2_text 3 = .ok (.invokevirtual 111, 3) := dk_182 0 111 (dk_at dksX2_text_0 3 rfl rfl)
theorem dX2_text_6 : decode cX2_text 6 = .ok (.areturn, 1) := dk_176 (dk_at dksX2_text_0 6 rfl rfl)
abbrev cX2_line : ByteArray := prog_8_method_29_code
def yX2_line : MethodName := ⟨RX2, "line", "(IZ)Ljava/lang/String;"⟩
def dkwX2_line_5 : List UInt8 := [182, 0, 70, 182, 0, 77, 78, 132, 6, 1, 167, 255, 162, 45, 176]
abbrev dktX2_line_5 : List UInt8 := dkwX2_line_5 ++ []
def dkwX2_line_4 : List UInt8 := [167, 0, 30, 187, 0, 65, 89, 183, 0, 67, 45, 182, 0, 70, 18, 109, 182, 0, 70, 21, 7, 184, 0, 105]
abbrev dktX2_line_4 : List UInt8 := dkwX2_line_4 ++ dktX2_line_5
def dkwX2_line_3 : List UInt8 := [183, 0, 67, 21, 7, 184, 0, 105, 182, 0, 70, 18, 109, 182, 0, 70, 45, 182, 0, 70, 182, 0, 77]
abbrev dktX2_line_3 : List UInt8 := dkwX2_line_3 ++ dktX2_line_4
def dkwX2_line_2 : List UInt8 := [45, 182, 0, 99, 153, 0, 11, 21, 7, 184, 0, 105, 167, 0, 64, 28, 153, 0, 33, 187, 0, 65, 89]
abbrev dktX2_line_2 : List UInt8 := dkwX2_line_2 ++ dktX2_line_3
def dkwX2_line_1 : List UInt8 := [58, 4, 25, 4, 190, 54, 5, 3, 54, 6, 21, 6, 21, 5, 162, 0, 93, 25, 4, 21, 6, 46, 54, 7]
abbrev dktX2_line_1 : List UInt8 := dkwX2_line_1 ++ dktX2_line_2
def dkwX2_line_0 : List UInt8 := [42, 42, 27, 182, 0, 32, 3, 182, 0, 81, 153, 0, 6, 18, 68, 176, 18, 68, 78, 42, 27, 182, 0, 95]
abbrev dktX2_line_0 : List UInt8 := dkwX2_line_0 ++ dktX2_line_1
theorem dksX2_line_0 : cX2_line.data.toList.drop 0 = dktX2_line_0 := by decide +kernel
theorem dksX2_line_1 : cX2_line.data.toList.drop 24 = dktX2_line_1 := dk_seg dksX2_line_0 24 rfl rfl
theorem dksX2_line_2 : cX2_line.data.toList.drop 48 = dktX2_line_2 := dk_seg dksX2_line_1 24 rfl rfl
theorem dksX2_line_3 : cX2_line.data.toList.drop 71 = dktX2_line_3 := dk_seg dksX2_line_2 23 rfl rfl
theorem dksX2_line_4 : cX2_line.data.toList.drop 94 = dktX2_line_4 := dk_seg dksX2_line_3 23 rfl rfl
theorem dksX2_line_5 : cX2_line.data.toList.drop 118 = dktX2_line_5 := dk_seg dksX2_line_4 24 rfl rfl
theorem dX2_line_0 : decode cX2_line 0 = .ok (.aload_n 0, 1) := dk_42 (dk_at dksX2_line_0 0 rfl rfl)
theorem dX2_line_1 : decode cX2_line 1 = .ok (.aload_n 0, 1) := dk_42 (dk_at dksX2_line_0 1 rfl rfl)
theorem dX2_line_2 : decode cX2_line 2 = .ok (.iload_n 1, 1) := dk_27 (dk_at dksX2_line_0 2 rfl rfl)
theorem dX2_line_3 : decode cX2_line 3 = .ok (.invokevirtual 32, 3) := dk_182 0 32 (dk_at dksX2_line_0 3 rfl rfl)
theorem dX2_line_6 : decode cX2_line 6 = .ok (.iconst 0, 1) := dk_3 (dk_at dksX2_line_0 6 rfl rfl)
theorem dX2_line_7 : decode cX2_line 7 = .ok (.invokevirtual 81, 3) := dk_182 0 81 (dk_at dksX2_line_0 7 rfl rfl)
theorem dX2_line_10 : decode cX2_line 10 = .ok (.ifCond .eq 6, 3) := dk_153 0 6 (dk_at dksX2_line_0 10 rfl rfl)
theorem dX2_line_13 : decode cX2_line 13 = .ok (.ldc 68, 2) := dk_18 68 (dk_at dksX2_line_0 13 rfl rfl)
theorem dX2_line_15 : decode cX2_line 15 = .ok (.areturn, 1) := dk_176 (dk_at dksX2_line_0 15 rfl rfl)
theorem dX2_line_16 : decode cX2_line 16 = .ok (.ldc 68, 2) := dk_18 68 (dk_at dksX2_line_0 16 rfl rfl)
theorem dX2_line_18 : decode cX2_line 18 = .ok (.astore_n 3, 1) := dk_78 (dk_at dksX2_line_0 18 rfl rfl)
theorem dX2_line_19 : decode cX2_line 19 = .ok (.aload_n 0, 1) := dk_42 (dk_at dksX2_line_0 19 rfl rfl)
theorem dX2_line_20 : decode cX2_line 20 = .ok (.iload_n 1, 1) := dk_27 (dk_at dksX2_line_0 20 rfl rfl)
theorem dX2_line_21 : decode cX2_line 21 = .ok (.invokevirtual 95, 3) := dk_182 0 95 (dk_at dksX2_line_0 21 rfl rfl)
theorem dX2_line_24 : decode cX2_line 24 = .ok (.astore 4, 2) := dk_58 4 (dk_at dksX2_line_1 0 rfl rfl)
theorem dX2_line_26 : decode cX2_line 26 = .ok (.aload 4, 2) := dk_25 4 (dk_at dksX2_line_1 2 rfl rfl)
theorem dX2_line_28 : decode cX2_line 28 = .ok (.arraylength, 1) := dk_190 (dk_at dksX2_line_1 4 rfl rfl)
theorem dX2_line_29 : decode cX2_line 29 = .ok (.istore 5, 2) := dk_54 5 (dk_at dksX2_line_1 5 rfl rfl)
theorem dX2_line_31 : decode cX2_line 31 = .ok (.iconst 0, 1) := dk_3 (dk_at dksX2_line_1 7 rfl rfl)
theorem dX2_line_32 : decode cX2_line 32 = .ok (.istore 6, 2) := dk_54 6 (dk_at dksX2_line_1 8 rfl rfl)
theorem dX2_line_34 : decode cX2_line 34 = .ok (.iload 6, 2) := dk_21 6 (dk_at dksX2_line_1 10 rfl rfl)
theorem dX2_line_36 : decode cX2_line 36 = .ok (.iload 5, 2) := dk_21 5 (dk_at dksX2_line_1 12 rfl rfl)
theorem dX2_line_38 : decode cX2_line 38 = .ok (.if_icmp .ge 93, 3) := dk_162 0 93 (dk_at dksX2_line_1 14 rfl rfl)
theorem dX2_line_41 : decode cX2_line 41 = .ok (.aload 4, 2) := dk_25 4 (dk_at dksX2_line_1 17 rfl rfl)
theorem dX2_line_43 : decode cX2_line 43 = .ok (.iload 6, 2) := dk_21 6 (dk_at dksX2_line_1 19 rfl rfl)
theorem dX2_line_45 : decode cX2_line 45 = .ok (.iaload, 1) := dk_46 (dk_at dksX2_line_1 21 rfl rfl)
theorem dX2_line_46 : decode cX2_line 46 = .ok (.istore 7, 2) := dk_54 7 (dk_at dksX2_line_1 22 rfl rfl)
theorem dX2_line_48 : decode cX2_line 48 = .ok (.aload_n 3, 1) := dk_45 (dk_at dksX2_line_2 0 rfl rfl)
theorem dX2_line_49 : decode cX2_line 49 = .ok (.invokevirtual 99, 3) := dk_182 0 99 (dk_at dksX2_line_2 1 rfl rfl)
theorem dX2_line_52 : decode cX2_line 52 = .ok (.ifCond .eq 11, 3) := dk_153 0 11 (dk_at dksX2_line_2 4 rfl rfl)
theorem dX2_line_55 : decode cX2_line 55 = .ok (.iload 7, 2) := dk_21 7 (dk_at dksX2_line_2 7 rfl rfl)
theorem dX2_line_57 : decode cX2_line 57 = .ok (.invokestatic 105, 3) := dk_184 0 105 (dk_at dksX2_line_2 9 rfl rfl)
theorem dX2_line_60 : decode cX2_line 60 = .ok (.goto 64, 3) := dk_167 0 64 (dk_at dksX2_line_2 12 rfl rfl)
theorem dX2_line_63 : decode cX2_line 63 = .ok (.iload_n 2, 1) := dk_28 (dk_at dksX2_line_2 15 rfl rfl)
theorem dX2_line_64 : decode cX2_line 64 = .ok (.ifCond .eq 33, 3) := dk_153 0 33 (dk_at dksX2_line_2 16 rfl rfl)
theorem dX2_line_67 : decode cX2_line 67 = .ok (.new 65, 3) := dk_187 0 65 (dk_at dksX2_line_2 19 rfl rfl)
theorem dX2_line_70 : decode cX2_line 70 = .ok (.dup, 1) := dk_89 (dk_at dksX2_line_2 22 rfl rfl)
theorem dX2_line_71 : decode cX2_line 71 = .ok (.invokespecial 67, 3) := dk_183 0 67 (dk_at dksX2_line_3 0 rfl rfl)
theorem dX2_line_74 : decode cX2_line 74 = .ok (.iload 7, 2) := dk_21 7 (dk_at dksX2_line_3 3 rfl rfl)
theorem dX2_line_76 : decode cX2_line 76 = .ok (.invokestatic 105, 3) := dk_184 0 105 (dk_at dksX2_line_3 5 rfl rfl)
theorem dX2_line_79 : decode cX2_line 79 = .ok (.invokevirtual 70, 3) := dk_182 0 70 (dk_at dksX2_line_3 8 rfl rfl)
theorem dX2_line_82 : decode cX2_line 82 = .ok (.ldc 109, 2) := dk_18 109 (dk_at dksX2_line_3 11 rfl rfl)
theorem dX2_line_84 : decode cX2_line 84 = .ok (.invokevirtual 70, 3) := dk_182 0 70 (dk_at dksX2_line_3 13 rfl rfl)
theorem dX2_line_87 : decode cX2_line 87 = .ok (.aload_n 3, 1) := dk_45 (dk_at dksX2_line_3 16 rfl rfl)
theorem dX2_line_88 : decode cX2_line 88 = .ok (.invokevirtual 70, 3) := dk_182 0 70 (dk_at dksX2_line_3 17 rfl rfl)
theorem dX2_line_91 : decode cX2_line 91 = .ok (.invokevirtual 77, 3) := dk_182 0 77 (dk_at dksX2_line_3 20 rfl rfl)
theorem dX2_line_94 : decode cX2_line 94 = .ok (.goto 30, 3) := dk_167 0 30 (dk_at dksX2_line_4 0 rfl rfl)
theorem dX2_line_97 : decode cX2_line 97 = .ok (.new 65, 3) := dk_187 0 65 (dk_at dksX2_line_4 3 rfl rfl)
theorem dX2_line_100 : decode cX2_line 100 = .ok (.dup, 1) := dk_89 (dk_at dksX2_line_4 6 rfl rfl)
theorem dX2_line_101 : decode cX2_line 101 = .ok (.invokespecial 67, 3) := dk_183 0 67 (dk_at dksX2_line_4 7 rfl rfl)
theorem dX2_line_104 : decode cX2_line 104 = .ok (.aload_n 3, 1) := dk_45 (dk_at dksX2_line_4 10 rfl rfl)
theorem dX2_line_105 : decode cX2_line 105 = .ok (.invokevirtual 70, 3) := dk_182 0 70 (dk_at dksX2_line_4 11 rfl rfl)
theorem dX2_line_108 : decode cX2_line 108 = .ok (.ldc 109, 2) := dk_18 109 (dk_at dksX2_line_4 14 rfl rfl)
theorem dX2_line_110 : decode cX2_line 110 = .ok (.invokevirtual 70, 3) := dk_182 0 70 (dk_at dksX2_line_4 16 rfl rfl)
theorem dX2_line_113 : decode cX2_line 113 = .ok (.iload 7, 2) := dk_21 7 (dk_at dksX2_line_4 19 rfl rfl)
theorem dX2_line_115 : decode cX2_line 115 = .ok (.invokestatic 105, 3) := dk_184 0 105 (dk_at dksX2_line_4 21 rfl rfl)
theorem dX2_line_118 : decode cX2_line 118 = .ok (.invokevirtual 70, 3) := dk_182 0 70 (dk_at dksX2_line_5 0 rfl rfl)
theorem dX2_line_121 : decode cX2_line 121 = .ok (.invokevirtual 77, 3) := dk_182 0 77 (dk_at dksX2_line_5 3 rfl rfl)
theorem dX2_line_124 : decode cX2_line 124 = .ok (.astore_n 3, 1) := dk_78 (dk_at dksX2_line_5 6 rfl rfl)
theorem dX2_line_125 : decode cX2_line 125 = .ok (.iinc 6 1, 3) := dk_132 6 1 (dk_at dksX2_line_5 7 rfl rfl)
theorem dX2_line_128 : decode cX2_line 128 = .ok (.goto (-94), 3) := dk_167 255 162 (dk_at dksX2_line_5 10 rfl rfl)
theorem dX2_line_131 : decode cX2_line 131 = .ok (.aload_n 3, 1) := dk_45 (dk_at dksX2_line_5 13 rfl rfl)
theorem dX2_line_132 : decode cX2_line 132 = .ok (.areturn, 1) := dk_176 (dk_at dksX2_line_5 14 rfl rfl)
abbrev cX2_all : ByteArray := prog_8_method_12_code
def yX2_all : MethodName := ⟨RX2, "all", "(I)[I"⟩
def dkwX2_all_1 : List UInt8 := [182, 0, 36, 79, 132, 3, 1, 167, 255, 238, 44, 176]
abbrev dktX2_all_1 : List UInt8 := dkwX2_all_1 ++ []
def dkwX2_all_0 : List UInt8 := [42, 180, 0, 21, 27, 46, 188, 10, 77, 3, 62, 29, 44, 190, 162, 0, 18, 44, 29, 42, 27, 29]
abbrev dktX2_all_0 : List UInt8 := dkwX2_all_0 ++ dktX2_all_1
theorem dksX2_all_0 : cX2_all.data.toList.drop 0 = dktX2_all_0 := by decide +kernel
theorem dksX2_all_1 : cX2_all.data.toList.drop 22 = dktX2_all_1 := dk_seg dksX2_all_0 22 rfl rfl
theorem dX2_all_0 : decode cX2_all 0 = .ok (.aload_n 0, 1) := dk_42 (dk_at dksX2_all_0 0 rfl rfl)
theorem dX2_all_1 : decode cX2_all 1 = .ok (.getfield 21, 3) := dk_180 0 21 (dk_at dksX2_all_0 1 rfl rfl)
theorem dX2_all_4 : decode cX2_all 4 = .ok (.iload_n 1, 1) := dk_27 (dk_at dksX2_all_0 4 rfl rfl)
theorem dX2_all_5 : decode cX2_all 5 = .ok (.iaload, 1) := dk_46 (dk_at dksX2_all_0 5 rfl rfl)
theorem dX2_all_6 : decode cX2_all 6 = .ok (.newarray .int, 2) := dk_188_10 (dk_at dksX2_all_0 6 rfl rfl)
theorem dX2_all_8 : decode cX2_all 8 = .ok (.astore_n 2, 1) := dk_77 (dk_at dksX2_all_0 8 rfl rfl)
theorem dX2_all_9 : decode cX2_all 9 = .ok (.iconst 0, 1) := dk_3 (dk_at dksX2_all_0 9 rfl rfl)
theorem dX2_all_10 : decode cX2_all 10 = .ok (.istore_n 3, 1) := dk_62 (dk_at dksX2_all_0 10 rfl rfl)
theorem dX2_all_11 : decode cX2_all 11 = .ok (.iload_n 3, 1) := dk_29 (dk_at dksX2_all_0 11 rfl rfl)
theorem dX2_all_12 : decode cX2_all 12 = .ok (.aload_n 2, 1) := dk_44 (dk_at dksX2_all_0 12 rfl rfl)
theorem dX2_all_13 : decode cX2_all 13 = .ok (.arraylength, 1) := dk_190 (dk_at dksX2_all_0 13 rfl rfl)
theorem dX2_all_14 : decode cX2_all 14 = .ok (.if_icmp .ge 18, 3) := dk_162 0 18 (dk_at dksX2_all_0 14 rfl rfl)
theorem dX2_all_17 : decode cX2_all 17 = .ok (.aload_n 2, 1) := dk_44 (dk_at dksX2_all_0 17 rfl rfl)
theorem dX2_all_18 : decode cX2_all 18 = .ok (.iload_n 3, 1) := dk_29 (dk_at dksX2_all_0 18 rfl rfl)
theorem dX2_all_19 : decode cX2_all 19 = .ok (.aload_n 0, 1) := dk_42 (dk_at dksX2_all_0 19 rfl rfl)
theorem dX2_all_20 : decode cX2_all 20 = .ok (.iload_n 1, 1) := dk_27 (dk_at dksX2_all_0 20 rfl rfl)
theorem dX2_all_21 : decode cX2_all 21 = .ok (.iload_n 3, 1) := dk_29 (dk_at dksX2_all_0 21 rfl rfl)
theorem dX2_all_22 : decode cX2_all 22 = .ok (.invokevirtual 36, 3) := dk_182 0 36 (dk_at dksX2_all_1 0 rfl rfl)
theorem dX2_all_25 : decode cX2_all 25 = .ok (.iastore, 1) := dk_79 (dk_at dksX2_all_1 3 rfl rfl)
theorem dX2_all_26 : decode cX2_all 26 = .ok (.iinc 3 1, 3) := dk_132 3 1 (dk_at dksX2_all_1 4 rfl rfl)
theorem dX2_all_29 : decode cX2_all 29 = .ok (.goto (-18), 3) := dk_167 255 238 (dk_at dksX2_all_1 7 rfl rfl)
theorem dX2_all_32 : decode cX2_all 32 = .ok (.aload_n 2, 1) := dk_44 (dk_at dksX2_all_1 10 rfl rfl)
theorem dX2_all_33 : decode cX2_all 33 = .ok (.areturn, 1) := dk_176 (dk_at dksX2_all_1 11 rfl rfl)
abbrev cX2_shown : ByteArray := prog_8_method_20_code
def yX2_shown : MethodName := ⟨RX2, "shown", "(I)Ljava/lang/String;"⟩
def dkwX2_shown_1 : List UInt8 := [26, 182, 0, 74, 182, 0, 77, 176]
abbrev dktX2_shown_1 : List UInt8 := dkwX2_shown_1 ++ []
def dkwX2_shown_0 : List UInt8 := [26, 17, 252, 24, 160, 0, 8, 18, 63, 167, 0, 22, 187, 0, 65, 89, 183, 0, 67, 18, 68, 182, 0, 70]
abbrev dktX2_shown_0 : List UInt8 := dkwX2_shown_0 ++ dktX2_shown_1
theorem dksX2_shown_0 : cX2_shown.data.toList.drop 0 = dktX2_shown_0 := by decide +kernel
theorem dksX2_shown_1 : cX2_shown.data.toList.drop 24 = dktX2_shown_1 := dk_seg dksX2_shown_0 24 rfl rfl
theorem dX2_shown_0 : decode cX2_shown 0 = .ok (.iload_n 0, 1) := dk_26 (dk_at dksX2_shown_0 0 rfl rfl)
theorem dX2_shown_1 : decode cX2_shown 1 = .ok (.sipush (-1000), 3) := dk_17 252 24 (dk_at dksX2_shown_0 1 rfl rfl)
theorem dX2_shown_4 : decode cX2_shown 4 = .ok (.if_icmp .ne 8, 3) := dk_160 0 8 (dk_at dksX2_shown_0 4 rfl rfl)
theorem dX2_shown_7 : decode cX2_shown 7 = .ok (.ldc 63, 2) := dk_18 63 (dk_at dksX2_shown_0 7 rfl rfl)
theorem dX2_shown_9 : decode cX2_shown 9 = .ok (.goto 22, 3) := dk_167 0 22 (dk_at dksX2_shown_0 9 rfl rfl)
theorem dX2_shown_12 : decode cX2_shown 12 = .ok (.new 65, 3) := dk_187 0 65 (dk_at dksX2_shown_0 12 rfl rfl)
theorem dX2_shown_15 : decode cX2_shown 15 = .ok (.dup, 1) := dk_89 (dk_at dksX2_shown_0 15 rfl rfl)
theorem dX2_shown_16 : decode cX2_shown 16 = .ok (.invokespecial 67, 3) := dk_183 0 67 (dk_at dksX2_shown_0 16 rfl rfl)
theorem dX2_shown_19 : decode cX2_shown 19 = .ok (.ldc 68, 2) := dk_18 68 (dk_at dksX2_shown_0 19 rfl rfl)
theorem dX2_shown_21 : decode cX2_shown 21 = .ok (.invokevirtual 70, 3) := dk_182 0 70 (dk_at dksX2_shown_0 21 rfl rfl)
theorem dX2_shown_24 : decode cX2_shown 24 = .ok (.iload_n 0, 1) := dk_26 (dk_at dksX2_shown_1 0 rfl rfl)
theorem dX2_shown_25 : decode cX2_shown 25 = .ok (.invokevirtual 74, 3) := dk_182 0 74 (dk_at dksX2_shown_1 1 rfl rfl)
theorem dX2_shown_28 : decode cX2_shown 28 = .ok (.invokevirtual 77, 3) := dk_182 0 77 (dk_at dksX2_shown_1 4 rfl rfl)
theorem dX2_shown_31 : decode cX2_shown 31 = .ok (.areturn, 1) := dk_176 (dk_at dksX2_shown_1 7 rfl rfl)
abbrev cX2_back : ByteArray := prog_8_method_31_code
def yX2_back : MethodName := ⟨RX2, "back", "(I)Ljava/lang/String;"⟩
def dkwX2_back_0 : List UInt8 := [42, 27, 4, 182, 0, 111, 176]
abbrev dktX2_back_0 : List UInt8 := dkwX2_back_0 ++ []
theorem dksX2_back_0 : cX2_back.data.toList.drop 0 = dktX2_back_0 := by decide +kernel
theorem dX2_back_0 : decode cX2_back 0 = .ok (.aload_n 0, 1) := dk_42 (dk_at dksX2_back_0 0 rfl rfl)
theorem dX2_back_1 : decode cX2_back 1 = .ok (.iload_n 1, 1) := dk_27 (dk_at dksX2_back_0 1 rfl rfl)
theorem dX2_back_2 : decode cX2_back 2 = .ok (.iconst 1, 1) := dk_4 (dk_at dksX2_back_0 2 rfl rfl)
theorem dX2_back_3 : decode cX2_back 3 = .ok (.invokevirtual 111, 3) := dk_182 0 111 (dk_at dksX2_back_0 3 rfl rfl)
theorem dX2_back_6 : decode cX2_back 6 = .ok (.areturn, 1) := dk_176 (dk_at dksX2_back_0 6 rfl rfl)
abbrev cX2_indexOf : ByteArray := prog_8_method_32_code
def yX2_indexOf : MethodName := ⟨RX2, "indexOf", "(II)I"⟩
def dkwX2_indexOf_1 : List UInt8 := [182, 0, 95, 28, 184, 0, 115, 172]
abbrev dktX2_indexOf_1 : List UInt8 := dkwX2_indexOf_1 ++ []
def dkwX2_indexOf_0 : List UInt8 := [42, 42, 27, 182, 0, 32, 28, 184, 0, 89, 182, 0, 81, 153, 0, 7, 3, 167, 0, 12, 42, 27]
abbrev dktX2_indexOf_0 : List UInt8 := dkwX2_indexOf_0 ++ dktX2_indexOf_1
theorem dksX2_indexOf_0 : cX2_indexOf.data.toList.drop 0 = dktX2_indexOf_0 := by decide +kernel
theorem dksX2_indexOf_1 : cX2_indexOf.data.toList.drop 22 = dktX2_indexOf_1 := dk_seg dksX2_indexOf_0 22 rfl rfl
theorem dX2_indexOf_0 : decode cX2_indexOf 0 = .ok (.aload_n 0, 1) := dk_42 (dk_at dksX2_indexOf_0 0 rfl rfl)
theorem dX2_indexOf_1 : decode cX2_indexOf 1 = .ok (.aload_n 0, 1) := dk_42 (dk_at dksX2_indexOf_0 1 rfl rfl)
theorem dX2_indexOf_2 : decode cX2_indexOf 2 = .ok (.iload_n 1, 1) := dk_27 (dk_at dksX2_indexOf_0 2 rfl rfl)
theorem dX2_indexOf_3 : decode cX2_indexOf 3 = .ok (.invokevirtual 32, 3) := dk_182 0 32 (dk_at dksX2_indexOf_0 3 rfl rfl)
theorem dX2_indexOf_6 : decode cX2_indexOf 6 = .ok (.iload_n 2, 1) := dk_28 (dk_at dksX2_indexOf_0 6 rfl rfl)
theorem dX2_indexOf_7 : decode cX2_indexOf 7 = .ok (.invokestatic 89, 3) := dk_184 0 89 (dk_at dksX2_indexOf_0 7 rfl rfl)
theorem dX2_indexOf_10 : decode cX2_indexOf 10 = .ok (.invokevirtual 81, 3) := dk_182 0 81 (dk_at dksX2_indexOf_0 10 rfl rfl)
theorem dX2_indexOf_13 : decode cX2_indexOf 13 = .ok (.ifCond .eq 7, 3) := dk_153 0 7 (dk_at dksX2_indexOf_0 13 rfl rfl)
theorem dX2_indexOf_16 : decode cX2_indexOf 16 = .ok (.iconst 0, 1) := dk_3 (dk_at dksX2_indexOf_0 16 rfl rfl)
theorem dX2_indexOf_17 : decode cX2_indexOf 17 = .ok (.goto 12, 3) := dk_167 0 12 (dk_at dksX2_indexOf_0 17 rfl rfl)
theorem dX2_indexOf_20 : decode cX2_indexOf 20 = .ok (.aload_n 0, 1) := dk_42 (dk_at dksX2_indexOf_0 20 rfl rfl)
theorem dX2_indexOf_21 : decode cX2_indexOf 21 = .ok (.iload_n 1, 1) := dk_27 (dk_at dksX2_indexOf_0 21 rfl rfl)
theorem dX2_indexOf_22 : decode cX2_indexOf 22 = .ok (.invokevirtual 95, 3) := dk_182 0 95 (dk_at dksX2_indexOf_1 0 rfl rfl)
theorem dX2_indexOf_25 : decode cX2_indexOf 25 = .ok (.iload_n 2, 1) := dk_28 (dk_at dksX2_indexOf_1 3 rfl rfl)
theorem dX2_indexOf_26 : decode cX2_indexOf 26 = .ok (.invokestatic 115, 3) := dk_184 0 115 (dk_at dksX2_indexOf_1 4 rfl rfl)
theorem dX2_indexOf_29 : decode cX2_indexOf 29 = .ok (.ireturn, 1) := dk_172 (dk_at dksX2_indexOf_1 7 rfl rfl)
abbrev cX2_placeOf : ByteArray := prog_8_method_18_code
def yX2_placeOf : MethodName := ⟨RX2, "placeOf", "([II)I"⟩
def dkwX2_placeOf_1 : List UInt8 := [172]
abbrev dktX2_placeOf_1 : List UInt8 := dkwX2_placeOf_1 ++ []
def dkwX2_placeOf_0 : List UInt8 := [3, 61, 28, 42, 190, 162, 0, 18, 42, 28, 46, 27, 160, 0, 5, 28, 172, 132, 2, 1, 167, 255, 238, 2]
abbrev dktX2_placeOf_0 : List UInt8 := dkwX2_placeOf_0 ++ dktX2_placeOf_1
theorem dksX2_placeOf_0 : cX2_placeOf.data.toList.drop 0 = dktX2_placeOf_0 := by decide +kernel
theorem dksX2_placeOf_1 : cX2_placeOf.data.toList.drop 24 = dktX2_placeOf_1 := dk_seg dksX2_placeOf_0 24 rfl rfl
theorem dX2_placeOf_0 : decode cX2_placeOf 0 = .ok (.iconst 0, 1) := dk_3 (dk_at dksX2_placeOf_0 0 rfl rfl)
theorem dX2_placeOf_1 : decode cX2_placeOf 1 = .ok (.istore_n 2, 1) := dk_61 (dk_at dksX2_placeOf_0 1 rfl rfl)
theorem dX2_placeOf_2 : decode cX2_placeOf 2 = .ok (.iload_n 2, 1) := dk_28 (dk_at dksX2_placeOf_0 2 rfl rfl)
theorem dX2_placeOf_3 : decode cX2_placeOf 3 = .ok (.aload_n 0, 1) := dk_42 (dk_at dksX2_placeOf_0 3 rfl rfl)
theorem dX2_placeOf_4 : decode cX2_placeOf 4 = .ok (.arraylength, 1) := dk_190 (dk_at dksX2_placeOf_0 4 rfl rfl)
theorem dX2_placeOf_5 : decode cX2_placeOf 5 = .ok (.if_icmp .ge 18, 3) := dk_162 0 18 (dk_at dksX2_placeOf_0 5 rfl rfl)
theorem dX2_placeOf_8 : decode cX2_placeOf 8 = .ok (.aload_n 0, 1) := dk_42 (dk_at dksX2_placeOf_0 8 rfl rfl)
theorem dX2_placeOf_9 : decode cX2_placeOf 9 = .ok (.iload_n 2, 1) := dk_28 (dk_at dksX2_placeOf_0 9 rfl rfl)
theorem dX2_placeOf_10 : decode cX2_placeOf 10 = .ok (.iaload, 1) := dk_46 (dk_at dksX2_placeOf_0 10 rfl rfl)
theorem dX2_placeOf_11 : decode cX2_placeOf 11 = .ok (.iload_n 1, 1) := dk_27 (dk_at dksX2_placeOf_0 11 rfl rfl)
theorem dX2_placeOf_12 : decode cX2_placeOf 12 = .ok (.if_icmp .ne 5, 3) := dk_160 0 5 (dk_at dksX2_placeOf_0 12 rfl rfl)
theorem dX2_placeOf_15 : decode cX2_placeOf 15 = .ok (.iload_n 2, 1) := dk_28 (dk_at dksX2_placeOf_0 15 rfl rfl)
theorem dX2_placeOf_16 : decode cX2_placeOf 16 = .ok (.ireturn, 1) := dk_172 (dk_at dksX2_placeOf_0 16 rfl rfl)
theorem dX2_placeOf_17 : decode cX2_placeOf 17 = .ok (.iinc 2 1, 3) := dk_132 2 1 (dk_at dksX2_placeOf_0 17 rfl rfl)
theorem dX2_placeOf_20 : decode cX2_placeOf 20 = .ok (.goto (-18), 3) := dk_167 255 238 (dk_at dksX2_placeOf_0 20 rfl rfl)
theorem dX2_placeOf_23 : decode cX2_placeOf 23 = .ok (.iconst (-1), 1) := dk_2 (dk_at dksX2_placeOf_0 23 rfl rfl)
theorem dX2_placeOf_24 : decode cX2_placeOf 24 = .ok (.ireturn, 1) := dk_172 (dk_at dksX2_placeOf_1 0 rfl rfl)
abbrev cX2_lastIndexOf : ByteArray := prog_8_method_33_code
def yX2_lastIndexOf : MethodName := ⟨RX2, "lastIndexOf", "(II)I"⟩
def dkwX2_lastIndexOf_2 : List UInt8 := [62, 132, 4, 1, 167, 255, 228, 29, 172]
abbrev dktX2_lastIndexOf_2 : List UInt8 := dkwX2_lastIndexOf_2 ++ []
def dkwX2_lastIndexOf_1 : List UInt8 := [21, 4, 42, 180, 0, 21, 27, 46, 162, 0, 23, 42, 27, 21, 4, 182, 0, 36, 28, 160, 0, 6, 21, 4]
abbrev dktX2_lastIndexOf_1 : List UInt8 := dkwX2_lastIndexOf_1 ++ dktX2_lastIndexOf_2
def dkwX2_lastIndexOf_0 : List UInt8 := [42, 42, 27, 182, 0, 32, 28, 184, 0, 89, 182, 0, 81, 153, 0, 5, 3, 172, 2, 62, 3, 54, 4]
abbrev dktX2_lastIndexOf_0 : List UInt8 := dkwX2_lastIndexOf_0 ++ dktX2_lastIndexOf_1
theorem dksX2_lastIndexOf_0 : cX2_lastIndexOf.data.toList.drop 0 = dktX2_lastIndexOf_0 := by decide +kernel
theorem dksX2_lastIndexOf_1 : cX2_lastIndexOf.data.toList.drop 23 = dktX2_lastIndexOf_1 := dk_seg dksX2_lastIndexOf_0 23 rfl rfl
theorem dksX2_lastIndexOf_2 : cX2_lastIndexOf.data.toList.drop 47 = dktX2_lastIndexOf_2 := dk_seg dksX2_lastIndexOf_1 24 rfl rfl
theorem dX2_lastIndexOf_0 : decode cX2_lastIndexOf 0 = .ok (.aload_n 0, 1) := dk_42 (dk_at dksX2_lastIndexOf_0 0 rfl rfl)
theorem dX2_lastIndexOf_1 : decode cX2_lastIndexOf 1 = .ok (.aload_n 0, 1) := dk_42 (dk_at dksX2_lastIndexOf_0 1 rfl rfl)
theorem dX2_lastIndexOf_2 : decode cX2_lastIndexOf 2 = .ok (.iload_n 1, 1) := dk_27 (dk_at dksX2_lastIndexOf_0 2 rfl rfl)
theorem dX2_lastIndexOf_3 : decode cX2_lastIndexOf 3 = .ok (.invokevirtual 32, 3) := dk_182 0 32 (dk_at dksX2_lastIndexOf_0 3 rfl rfl)
theorem dX2_lastIndexOf_6 : decode cX2_lastIndexOf 6 = .ok (.iload_n 2, 1) := dk_28 (dk_at dksX2_lastIndexOf_0 6 rfl rfl)
theorem dX2_lastIndexOf_7 : decode cX2_lastIndexOf 7 = .ok (.invokestatic 89, 3) := dk_184 0 89 (dk_at dksX2_lastIndexOf_0 7 rfl rfl)
theorem dX2_lastIndexOf_10 : decode cX2_lastIndexOf 10 = .ok (.invokevirtual 81, 3) := dk_182 0 81 (dk_at dksX2_lastIndexOf_0 10 rfl rfl)
theorem dX2_lastIndexOf_13 : decode cX2_lastIndexOf 13 = .ok (.ifCond .eq 5, 3) := dk_153 0 5 (dk_at dksX2_lastIndexOf_0 13 rfl rfl)
theorem dX2_lastIndexOf_16 : decode cX2_lastIndexOf 16 = .ok (.iconst 0, 1) := dk_3 (dk_at dksX2_lastIndexOf_0 16 rfl rfl)
theorem dX2_lastIndexOf_17 : decode cX2_lastIndexOf 17 = .ok (.ireturn, 1) := dk_172 (dk_at dksX2_lastIndexOf_0 17 rfl rfl)
theorem dX2_lastIndexOf_18 : decode cX2_lastIndexOf 18 = .ok (.iconst (-1), 1) := dk_2 (dk_at dksX2_lastIndexOf_0 18 rfl rfl)
theorem dX2_lastIndexOf_19 : decode cX2_lastIndexOf 19 = .ok (.istore_n 3, 1) := dk_62 (dk_at dksX2_lastIndexOf_0 19 rfl rfl)
theorem dX2_lastIndexOf_20 : decode cX2_lastIndexOf 20 = .ok (.iconst 0, 1) := dk_3 (dk_at dksX2_lastIndexOf_0 20 rfl rfl)
theorem dX2_lastIndexOf_21 : decode cX2_lastIndexOf 21 = .ok (.istore 4, 2) := dk_54 4 (dk_at dksX2_lastIndexOf_0 21 rfl rfl)
theorem dX2_lastIndexOf_23 : decode cX2_lastIndexOf 23 = .ok (.iload 4, 2) := dk_21 4 (dk_at dksX2_lastIndexOf_1 0 rfl rfl)
theorem dX2_lastIndexOf_25 : decode cX2_lastIndexOf 25 = .ok (.aload_n 0, 1) := dk_42 (dk_at dksX2_lastIndexOf_1 2 rfl rfl)
theorem dX2_lastIndexOf_26 : decode cX2_lastIndexOf 26 = .ok (.getfield 21, 3) := dk_180 0 21 (dk_at dksX2_lastIndexOf_1 3 rfl rfl)
theorem dX2_lastIndexOf_29 : decode cX2_lastIndexOf 29 = .ok (.iload_n 1, 1) := dk_27 (dk_at dksX2_lastIndexOf_1 6 rfl rfl)
theorem dX2_lastIndexOf_30 : decode cX2_lastIndexOf 30 = .ok (.iaload, 1) := dk_46 (dk_at dksX2_lastIndexOf_1 7 rfl rfl)
theorem dX2_lastIndexOf_31 : decode cX2_lastIndexOf 31 = .ok (.if_icmp .ge 23, 3) := dk_162 0 23 (dk_at dksX2_lastIndexOf_1 8 rfl rfl)
theorem dX2_lastIndexOf_34 : decode cX2_lastIndexOf 34 = .ok (.aload_n 0, 1) := dk_42 (dk_at dksX2_lastIndexOf_1 11 rfl rfl)
theorem dX2_lastIndexOf_35 : decode cX2_lastIndexOf 35 = .ok (.iload_n 1, 1) := dk_27 (dk_at dksX2_lastIndexOf_1 12 rfl rfl)
theorem dX2_lastIndexOf_36 : decode cX2_lastIndexOf 36 = .ok (.iload 4, 2) := dk_21 4 (dk_at dksX2_lastIndexOf_1 13 rfl rfl)
theorem dX2_lastIndexOf_38 : decode cX2_lastIndexOf 38 = .ok (.invokevirtual 36, 3) := dk_182 0 36 (dk_at dksX2_lastIndexOf_1 15 rfl rfl)
theorem dX2_lastIndexOf_41 : decode cX2_lastIndexOf 41 = .ok (.iload_n 2, 1) := dk_28 (dk_at dksX2_lastIndexOf_1 18 rfl rfl)
theorem dX2_lastIndexOf_42 : decode cX2_lastIndexOf 42 = .ok (.if_icmp .ne 6, 3) := dk_160 0 6 (dk_at dksX2_lastIndexOf_1 19 rfl rfl)
theorem dX2_lastIndexOf_45 : decode cX2_lastIndexOf 45 = .ok (.iload 4, 2) := dk_21 4 (dk_at dksX2_lastIndexOf_1 22 rfl rfl)
theorem dX2_lastIndexOf_47 : decode cX2_lastIndexOf 47 = .ok (.istore_n 3, 1) := dk_62 (dk_at dksX2_lastIndexOf_2 0 rfl rfl)
theorem dX2_lastIndexOf_48 : decode cX2_lastIndexOf 48 = .ok (.iinc 4 1, 3) := dk_132 4 1 (dk_at dksX2_lastIndexOf_2 1 rfl rfl)
theorem dX2_lastIndexOf_51 : decode cX2_lastIndexOf 51 = .ok (.goto (-28), 3) := dk_167 255 228 (dk_at dksX2_lastIndexOf_2 4 rfl rfl)
theorem dX2_lastIndexOf_54 : decode cX2_lastIndexOf 54 = .ok (.iload_n 3, 1) := dk_29 (dk_at dksX2_lastIndexOf_2 7 rfl rfl)
theorem dX2_lastIndexOf_55 : decode cX2_lastIndexOf 55 = .ok (.ireturn, 1) := dk_172 (dk_at dksX2_lastIndexOf_2 8 rfl rfl)
abbrev cX2_has : ByteArray := prog_8_method_34_code
def yX2_has : MethodName := ⟨RX2, "has", "(II)Z"⟩
def dkwX2_has_1 : List UInt8 := [184, 0, 115, 155, 0, 7, 4, 167, 0, 4, 3, 172]
abbrev dktX2_has_1 : List UInt8 := dkwX2_has_1 ++ []
def dkwX2_has_0 : List UInt8 := [42, 42, 27, 182, 0, 32, 28, 184, 0, 89, 182, 0, 81, 154, 0, 19, 42, 27, 182, 0, 95, 28]
abbrev dktX2_has_0 : List UInt8 := dkwX2_has_0 ++ dktX2_has_1
theorem dksX2_has_0 : cX2_has.data.toList.drop 0 = dktX2_has_0 := by decide +kernel
theorem dksX2_has_1 : cX2_has.data.toList.drop 22 = dktX2_has_1 := dk_seg dksX2_has_0 22 rfl rfl
theorem dX2_has_0 : decode cX2_has 0 = .ok (.aload_n 0, 1) := dk_42 (dk_at dksX2_has_0 0 rfl rfl)
theorem dX2_has_1 : decode cX2_has 1 = .ok (.aload_n 0, 1) := dk_42 (dk_at dksX2_has_0 1 rfl rfl)
theorem dX2_has_2 : decode cX2_has 2 = .ok (.iload_n 1, 1) := dk_27 (dk_at dksX2_has_0 2 rfl rfl)
theorem dX2_has_3 : decode cX2_has 3 = .ok (.invokevirtual 32, 3) := dk_182 0 32 (dk_at dksX2_has_0 3 rfl rfl)
theorem dX2_has_6 : decode cX2_has 6 = .ok (.iload_n 2, 1) := dk_28 (dk_at dksX2_has_0 6 rfl rfl)
theorem dX2_has_7 : decode cX2_has 7 = .ok (.invokestatic 89, 3) := dk_184 0 89 (dk_at dksX2_has_0 7 rfl rfl)
theorem dX2_has_10 : decode cX2_has 10 = .ok (.invokevirtual 81, 3) := dk_182 0 81 (dk_at dksX2_has_0 10 rfl rfl)
theorem dX2_has_13 : decode cX2_has 13 = .ok (.ifCond .ne 19, 3) := dk_154 0 19 (dk_at dksX2_has_0 13 rfl rfl)
theorem dX2_has_16 : decode cX2_has 16 = .ok (.aload_n 0, 1) := dk_42 (dk_at dksX2_has_0 16 rfl rfl)
theorem dX2_has_17 : decode cX2_has 17 = .ok (.iload_n 1, 1) := dk_27 (dk_at dksX2_has_0 17 rfl rfl)
theorem dX2_has_18 : decode cX2_has 18 = .ok (.invokevirtual 95, 3) := dk_182 0 95 (dk_at dksX2_has_0 18 rfl rfl)
theorem dX2_has_21 : decode cX2_has 21 = .ok (.iload_n 2, 1) := dk_28 (dk_at dksX2_has_0 21 rfl rfl)
theorem dX2_has_22 : decode cX2_has 22 = .ok (.invokestatic 115, 3) := dk_184 0 115 (dk_at dksX2_has_1 0 rfl rfl)
theorem dX2_has_25 : decode cX2_has 25 = .ok (.ifCond .lt 7, 3) := dk_155 0 7 (dk_at dksX2_has_1 3 rfl rfl)
theorem dX2_has_28 : decode cX2_has 28 = .ok (.iconst 1, 1) := dk_4 (dk_at dksX2_has_1 6 rfl rfl)
theorem dX2_has_29 : decode cX2_has 29 = .ok (.goto 4, 3) := dk_167 0 4 (dk_at dksX2_has_1 7 rfl rfl)
theorem dX2_has_32 : decode cX2_has 32 = .ok (.iconst 0, 1) := dk_3 (dk_at dksX2_has_1 10 rfl rfl)
theorem dX2_has_33 : decode cX2_has 33 = .ok (.ireturn, 1) := dk_172 (dk_at dksX2_has_1 11 rfl rfl)
abbrev cX2_often : ByteArray := prog_8_method_35_code
def yX2_often : MethodName := ⟨RX2, "often", "(II)I"⟩
def dkwX2_often_1 : List UInt8 := [182, 0, 95, 28, 184, 0, 119, 172]
abbrev dktX2_often_1 : List UInt8 := dkwX2_often_1 ++ []
def dkwX2_often_0 : List UInt8 := [42, 42, 27, 182, 0, 32, 28, 184, 0, 89, 182, 0, 81, 153, 0, 7, 3, 167, 0, 12, 42, 27]
abbrev dktX2_often_0 : List UInt8 := dkwX2_often_0 ++ dktX2_often_1
theorem dksX2_often_0 : cX2_often.data.toList.drop 0 = dktX2_often_0 := by decide +kernel
theorem dksX2_often_1 : cX2_often.data.toList.drop 22 = dktX2_often_1 := dk_seg dksX2_often_0 22 rfl rfl
theorem dX2_often_0 : decode cX2_often 0 = .ok (.aload_n 0, 1) := dk_42 (dk_at dksX2_often_0 0 rfl rfl)
theorem dX2_often_1 : decode cX2_often 1 = .ok (.aload_n 0, 1) := dk_42 (dk_at dksX2_often_0 1 rfl rfl)
theorem dX2_often_2 : decode cX2_often 2 = .ok (.iload_n 1, 1) := dk_27 (dk_at dksX2_often_0 2 rfl rfl)
theorem dX2_often_3 : decode cX2_often 3 = .ok (.invokevirtual 32, 3) := dk_182 0 32 (dk_at dksX2_often_0 3 rfl rfl)
theorem dX2_often_6 : decode cX2_often 6 = .ok (.iload_n 2, 1) := dk_28 (dk_at dksX2_often_0 6 rfl rfl)
theorem dX2_often_7 : decode cX2_often 7 = .ok (.invokestatic 89, 3) := dk_184 0 89 (dk_at dksX2_often_0 7 rfl rfl)
theorem dX2_often_10 : decode cX2_often 10 = .ok (.invokevirtual 81, 3) := dk_182 0 81 (dk_at dksX2_often_0 10 rfl rfl)
theorem dX2_often_13 : decode cX2_often 13 = .ok (.ifCond .eq 7, 3) := dk_153 0 7 (dk_at dksX2_often_0 13 rfl rfl)
theorem dX2_often_16 : decode cX2_often 16 = .ok (.iconst 0, 1) := dk_3 (dk_at dksX2_often_0 16 rfl rfl)
theorem dX2_often_17 : decode cX2_often 17 = .ok (.goto 12, 3) := dk_167 0 12 (dk_at dksX2_often_0 17 rfl rfl)
theorem dX2_often_20 : decode cX2_often 20 = .ok (.aload_n 0, 1) := dk_42 (dk_at dksX2_often_0 20 rfl rfl)
theorem dX2_often_21 : decode cX2_often 21 = .ok (.iload_n 1, 1) := dk_27 (dk_at dksX2_often_0 21 rfl rfl)
theorem dX2_often_22 : decode cX2_often 22 = .ok (.invokevirtual 95, 3) := dk_182 0 95 (dk_at dksX2_often_1 0 rfl rfl)
theorem dX2_often_25 : decode cX2_often 25 = .ok (.iload_n 2, 1) := dk_28 (dk_at dksX2_often_1 3 rfl rfl)
theorem dX2_often_26 : decode cX2_often 26 = .ok (.invokestatic 119, 3) := dk_184 0 119 (dk_at dksX2_often_1 4 rfl rfl)
theorem dX2_often_29 : decode cX2_often 29 = .ok (.ireturn, 1) := dk_172 (dk_at dksX2_often_1 7 rfl rfl)
abbrev cX2_oftenIn : ByteArray := prog_8_method_19_code
def yX2_oftenIn : MethodName := ⟨RX2, "oftenIn", "([II)I"⟩
def dkwX2_oftenIn_2 : List UInt8 := [172]
abbrev dktX2_oftenIn_2 : List UInt8 := dkwX2_oftenIn_2 ++ []
def dkwX2_oftenIn_1 : List UInt8 := [28, 21, 6, 27, 160, 0, 7, 4, 167, 0, 4, 3, 184, 0, 59, 96, 61, 132, 5, 1, 167, 255, 223, 28]
abbrev dktX2_oftenIn_1 : List UInt8 := dkwX2_oftenIn_1 ++ dktX2_oftenIn_2
def dkwX2_oftenIn_0 : List UInt8 := [3, 61, 42, 78, 45, 190, 54, 4, 3, 54, 5, 21, 5, 21, 4, 162, 0, 32, 45, 21, 5, 46, 54, 6]
abbrev dktX2_oftenIn_0 : List UInt8 := dkwX2_oftenIn_0 ++ dktX2_oftenIn_1
theorem dksX2_oftenIn_0 : cX2_oftenIn.data.toList.drop 0 = dktX2_oftenIn_0 := by decide +kernel
theorem dksX2_oftenIn_1 : cX2_oftenIn.data.toList.drop 24 = dktX2_oftenIn_1 := dk_seg dksX2_oftenIn_0 24 rfl rfl
theorem dksX2_oftenIn_2 : cX2_oftenIn.data.toList.drop 48 = dktX2_oftenIn_2 := dk_seg dksX2_oftenIn_1 24 rfl rfl
theorem dX2_oftenIn_0 : decode cX2_oftenIn 0 = .ok (.iconst 0, 1) := dk_3 (dk_at dksX2_oftenIn_0 0 rfl rfl)
theorem dX2_oftenIn_1 : decode cX2_oftenIn 1 = .ok (.istore_n 2, 1) := dk_61 (dk_at dksX2_oftenIn_0 1 rfl rfl)
theorem dX2_oftenIn_2 : decode cX2_oftenIn 2 = .ok (.aload_n 0, 1) := dk_42 (dk_at dksX2_oftenIn_0 2 rfl rfl)
theorem dX2_oftenIn_3 : decode cX2_oftenIn 3 = .ok (.astore_n 3, 1) := dk_78 (dk_at dksX2_oftenIn_0 3 rfl rfl)
theorem dX2_oftenIn_4 : decode cX2_oftenIn 4 = .ok (.aload_n 3, 1) := dk_45 (dk_at dksX2_oftenIn_0 4 rfl rfl)
theorem dX2_oftenIn_5 : decode cX2_oftenIn 5 = .ok (.arraylength, 1) := dk_190 (dk_at dksX2_oftenIn_0 5 rfl rfl)
theorem dX2_oftenIn_6 : decode cX2_oftenIn 6 = .ok (.istore 4, 2) := dk_54 4 (dk_at dksX2_oftenIn_0 6 rfl rfl)
theorem dX2_oftenIn_8 : decode cX2_oftenIn 8 = .ok (.iconst 0, 1) := dk_3 (dk_at dksX2_oftenIn_0 8 rfl rfl)
theorem dX2_oftenIn_9 : decode cX2_oftenIn 9 = .ok (.istore 5, 2) := dk_54 5 (dk_at dksX2_oftenIn_0 9 rfl rfl)
theorem dX2_oftenIn_11 : decode cX2_oftenIn 11 = .ok (.iload 5, 2) := dk_21 5 (dk_at dksX2_oftenIn_0 11 rfl rfl)
theorem dX2_oftenIn_13 : decode cX2_oftenIn 13 = .ok (.iload 4, 2) := dk_21 4 (dk_at dksX2_oftenIn_0 13 rfl rfl)
theorem dX2_oftenIn_15 : decode cX2_oftenIn 15 = .ok (.if_icmp .ge 32, 3) := dk_162 0 32 (dk_at dksX2_oftenIn_0 15 rfl rfl)
theorem dX2_oftenIn_18 : decode cX2_oftenIn 18 = .ok (.aload_n 3, 1) := dk_45 (dk_at dksX2_oftenIn_0 18 rfl rfl)
theorem dX2_oftenIn_19 : decode cX2_oftenIn 19 = .ok (.iload 5, 2) := dk_21 5 (dk_at dksX2_oftenIn_0 19 rfl rfl)
theorem dX2_oftenIn_21 : decode cX2_oftenIn 21 = .ok (.iaload, 1) := dk_46 (dk_at dksX2_oftenIn_0 21 rfl rfl)
theorem dX2_oftenIn_22 : decode cX2_oftenIn 22 = .ok (.istore 6, 2) := dk_54 6 (dk_at dksX2_oftenIn_0 22 rfl rfl)
theorem dX2_oftenIn_24 : decode cX2_oftenIn 24 = .ok (.iload_n 2, 1) := dk_28 (dk_at dksX2_oftenIn_1 0 rfl rfl)
theorem dX2_oftenIn_25 : decode cX2_oftenIn 25 = .ok (.iload 6, 2) := dk_21 6 (dk_at dksX2_oftenIn_1 1 rfl rfl)
theorem dX2_oftenIn_27 : decode cX2_oftenIn 27 = .ok (.iload_n 1, 1) := dk_27 (dk_at dksX2_oftenIn_1 3 rfl rfl)
theorem dX2_oftenIn_28 : decode cX2_oftenIn 28 = .ok (.if_icmp .ne 7, 3) := dk_160 0 7 (dk_at dksX2_oftenIn_1 4 rfl rfl)
theorem dX2_oftenIn_31 : decode cX2_oftenIn 31 = .ok (.iconst 1, 1) := dk_4 (dk_at dksX2_oftenIn_1 7 rfl rfl)
theorem dX2_oftenIn_32 : decode cX2_oftenIn 32 = .ok (.goto 4, 3) := dk_167 0 4 (dk_at dksX2_oftenIn_1 8 rfl rfl)
theorem dX2_oftenIn_35 : decode cX2_oftenIn 35 = .ok (.iconst 0, 1) := dk_3 (dk_at dksX2_oftenIn_1 11 rfl rfl)
theorem dX2_oftenIn_36 : decode cX2_oftenIn 36 = .ok (.invokestatic 59, 3) := dk_184 0 59 (dk_at dksX2_oftenIn_1 12 rfl rfl)
theorem dX2_oftenIn_39 : decode cX2_oftenIn 39 = .ok (.iadd, 1) := dk_96 (dk_at dksX2_oftenIn_1 15 rfl rfl)
theorem dX2_oftenIn_40 : decode cX2_oftenIn 40 = .ok (.istore_n 2, 1) := dk_61 (dk_at dksX2_oftenIn_1 16 rfl rfl)
theorem dX2_oftenIn_41 : decode cX2_oftenIn 41 = .ok (.iinc 5 1, 3) := dk_132 5 1 (dk_at dksX2_oftenIn_1 17 rfl rfl)
theorem dX2_oftenIn_44 : decode cX2_oftenIn 44 = .ok (.goto (-33), 3) := dk_167 255 223 (dk_at dksX2_oftenIn_1 20 rfl rfl)
theorem dX2_oftenIn_47 : decode cX2_oftenIn 47 = .ok (.iload_n 2, 1) := dk_28 (dk_at dksX2_oftenIn_1 23 rfl rfl)
theorem dX2_oftenIn_48 : decode cX2_oftenIn 48 = .ok (.ireturn, 1) := dk_172 (dk_at dksX2_oftenIn_2 0 rfl rfl)
abbrev cX2_one : ByteArray := prog_8_method_3_code
def yX2_one : MethodName := ⟨RX2, "one", "(Z)I"⟩
def dkwX2_one_0 : List UInt8 := [26, 153, 0, 7, 4, 167, 0, 4, 3, 172]
abbrev dktX2_one_0 : List UInt8 := dkwX2_one_0 ++ []
theorem dksX2_one_0 : cX2_one.data.toList.drop 0 = dktX2_one_0 := by decide +kernel
theorem dX2_one_0 : decode cX2_one 0 = .ok (.iload_n 0, 1) := dk_26 (dk_at dksX2_one_0 0 rfl rfl)
theorem dX2_one_1 : decode cX2_one 1 = .ok (.ifCond .eq 7, 3) := dk_153 0 7 (dk_at dksX2_one_0 1 rfl rfl)
theorem dX2_one_4 : decode cX2_one 4 = .ok (.iconst 1, 1) := dk_4 (dk_at dksX2_one_0 4 rfl rfl)
theorem dX2_one_5 : decode cX2_one 5 = .ok (.goto 4, 3) := dk_167 0 4 (dk_at dksX2_one_0 5 rfl rfl)
theorem dX2_one_8 : decode cX2_one 8 = .ok (.iconst 0, 1) := dk_3 (dk_at dksX2_one_0 8 rfl rfl)
theorem dX2_one_9 : decode cX2_one 9 = .ok (.ireturn, 1) := dk_172 (dk_at dksX2_one_0 9 rfl rfl)
abbrev cX2_hasAll : ByteArray := prog_8_method_38_code
def yX2_hasAll : MethodName := ⟨RX2, "hasAll", "(II)Z"⟩
def dkwX2_hasAll_1 : List UInt8 := [28, 46, 160, 0, 7, 4, 167, 0, 4, 3, 172]
abbrev dktX2_hasAll_1 : List UInt8 := dkwX2_hasAll_1 ++ []
def dkwX2_hasAll_0 : List UInt8 := [42, 42, 27, 28, 182, 0, 122, 3, 182, 0, 81, 154, 0, 22, 42, 28, 27, 182, 0, 125, 42, 180, 0, 21]
abbrev dktX2_hasAll_0 : List UInt8 := dkwX2_hasAll_0 ++ dktX2_hasAll_1
theorem dksX2_hasAll_0 : cX2_hasAll.data.toList.drop 0 = dktX2_hasAll_0 := by decide +kernel
theorem dksX2_hasAll_1 : cX2_hasAll.data.toList.drop 24 = dktX2_hasAll_1 := dk_seg dksX2_hasAll_0 24 rfl rfl
theorem dX2_hasAll_0 : decode cX2_hasAll 0 = .ok (.aload_n 0, 1) := dk_42 (dk_at dksX2_hasAll_0 0 rfl rfl)
theorem dX2_hasAll_1 : decode cX2_hasAll 1 = .ok (.aload_n 0, 1) := dk_42 (dk_at dksX2_hasAll_0 1 rfl rfl)
theorem dX2_hasAll_2 : decode cX2_hasAll 2 = .ok (.iload_n 1, 1) := dk_27 (dk_at dksX2_hasAll_0 2 rfl rfl)
theorem dX2_hasAll_3 : decode cX2_hasAll 3 = .ok (.iload_n 2, 1) := dk_28 (dk_at dksX2_hasAll_0 3 rfl rfl)
theorem dX2_hasAll_4 : decode cX2_hasAll 4 = .ok (.invokevirtual 122, 3) := dk_182 0 122 (dk_at dksX2_hasAll_0 4 rfl rfl)
theorem dX2_hasAll_7 : decode cX2_hasAll 7 = .ok (.iconst 0, 1) := dk_3 (dk_at dksX2_hasAll_0 7 rfl rfl)
theorem dX2_hasAll_8 : decode cX2_hasAll 8 = .ok (.invokevirtual 81, 3) := dk_182 0 81 (dk_at dksX2_hasAll_0 8 rfl rfl)
theorem dX2_hasAll_11 : decode cX2_hasAll 11 = .ok (.ifCond .ne 22, 3) := dk_154 0 22 (dk_at dksX2_hasAll_0 11 rfl rfl)
theorem dX2_hasAll_14 : decode cX2_hasAll 14 = .ok (.aload_n 0, 1) := dk_42 (dk_at dksX2_hasAll_0 14 rfl rfl)
theorem dX2_hasAll_15 : decode cX2_hasAll 15 = .ok (.iload_n 2, 1) := dk_28 (dk_at dksX2_hasAll_0 15 rfl rfl)
theorem dX2_hasAll_16 : decode cX2_hasAll 16 = .ok (.iload_n 1, 1) := dk_27 (dk_at dksX2_hasAll_0 16 rfl rfl)
theorem dX2_hasAll_17 : decode cX2_hasAll 17 = .ok (.invokevirtual 125, 3) := dk_182 0 125 (dk_at dksX2_hasAll_0 17 rfl rfl)
theorem dX2_hasAll_20 : decode cX2_hasAll 20 = .ok (.aload_n 0, 1) := dk_42 (dk_at dksX2_hasAll_0 20 rfl rfl)
theorem dX2_hasAll_21 : decode cX2_hasAll 21 = .ok (.getfield 21, 3) := dk_180 0 21 (dk_at dksX2_hasAll_0 21 rfl rfl)
theorem dX2_hasAll_24 : decode cX2_hasAll 24 = .ok (.iload_n 2, 1) := dk_28 (dk_at dksX2_hasAll_1 0 rfl rfl)
theorem dX2_hasAll_25 : decode cX2_hasAll 25 = .ok (.iaload, 1) := dk_46 (dk_at dksX2_hasAll_1 1 rfl rfl)
theorem dX2_hasAll_26 : decode cX2_hasAll 26 = .ok (.if_icmp .ne 7, 3) := dk_160 0 7 (dk_at dksX2_hasAll_1 2 rfl rfl)
theorem dX2_hasAll_29 : decode cX2_hasAll 29 = .ok (.iconst 1, 1) := dk_4 (dk_at dksX2_hasAll_1 5 rfl rfl)
theorem dX2_hasAll_30 : decode cX2_hasAll 30 = .ok (.goto 4, 3) := dk_167 0 4 (dk_at dksX2_hasAll_1 6 rfl rfl)
theorem dX2_hasAll_33 : decode cX2_hasAll 33 = .ok (.iconst 0, 1) := dk_3 (dk_at dksX2_hasAll_1 9 rfl rfl)
theorem dX2_hasAll_34 : decode cX2_hasAll 34 = .ok (.ireturn, 1) := dk_172 (dk_at dksX2_hasAll_1 10 rfl rfl)
abbrev cX2_isNoPair : ByteArray := prog_8_method_37_code
def yX2_isNoPair : MethodName := ⟨RX2, "isNoPair", "(II)Z"⟩
def dkwX2_isNoPair_0 : List UInt8 := [42, 27, 182, 0, 32, 154, 0, 11, 42, 28, 182, 0, 32, 153, 0, 7, 4, 167, 0, 4, 3, 172]
abbrev dktX2_isNoPair_0 : List UInt8 := dkwX2_isNoPair_0 ++ []
theorem dksX2_isNoPair_0 : cX2_isNoPair.data.toList.drop 0 = dktX2_isNoPair_0 := by decide +kernel
theorem dX2_isNoPair_0 : decode cX2_isNoPair 0 = .ok (.aload_n 0, 1) := dk_42 (dk_at dksX2_isNoPair_0 0 rfl rfl)
theorem dX2_isNoPair_1 : decode cX2_isNoPair 1 = .ok (.iload_n 1, 1) := dk_27 (dk_at dksX2_isNoPair_0 1 rfl rfl)
theorem dX2_isNoPair_2 : decode cX2_isNoPair 2 = .ok (.invokevirtual 32, 3) := dk_182 0 32 (dk_at dksX2_isNoPair_0 2 rfl rfl)
theorem dX2_isNoPair_5 : decode cX2_isNoPair 5 = .ok (.ifCond .ne 11, 3) := dk_154 0 11 (dk_at dksX2_isNoPair_0 5 rfl rfl)
theorem dX2_isNoPair_8 : decode cX2_isNoPair 8 = .ok (.aload_n 0, 1) := dk_42 (dk_at dksX2_isNoPair_0 8 rfl rfl)
theorem dX2_isNoPair_9 : decode cX2_isNoPair 9 = .ok (.iload_n 2, 1) := dk_28 (dk_at dksX2_isNoPair_0 9 rfl rfl)
theorem dX2_isNoPair_10 : decode cX2_isNoPair 10 = .ok (.invokevirtual 32, 3) := dk_182 0 32 (dk_at dksX2_isNoPair_0 10 rfl rfl)
theorem dX2_isNoPair_13 : decode cX2_isNoPair 13 = .ok (.ifCond .eq 7, 3) := dk_153 0 7 (dk_at dksX2_isNoPair_0 13 rfl rfl)
theorem dX2_isNoPair_16 : decode cX2_isNoPair 16 = .ok (.iconst 1, 1) := dk_4 (dk_at dksX2_isNoPair_0 16 rfl rfl)
theorem dX2_isNoPair_17 : decode cX2_isNoPair 17 = .ok (.goto 4, 3) := dk_167 0 4 (dk_at dksX2_isNoPair_0 17 rfl rfl)
theorem dX2_isNoPair_20 : decode cX2_isNoPair 20 = .ok (.iconst 0, 1) := dk_3 (dk_at dksX2_isNoPair_0 20 rfl rfl)
theorem dX2_isNoPair_21 : decode cX2_isNoPair 21 = .ok (.ireturn, 1) := dk_172 (dk_at dksX2_isNoPair_0 21 rfl rfl)
abbrev cX2_shared : ByteArray := prog_8_method_36_code
def yX2_shared : MethodName := ⟨RX2, "shared", "(II)I"⟩
def dkwX2_shared_2 : List UInt8 := [167, 0, 4, 3, 184, 0, 59, 96, 62, 132, 6, 1, 167, 255, 215, 29, 172]
abbrev dktX2_shared_2 : List UInt8 := dkwX2_shared_2 ++ []
def dkwX2_shared_1 : List UInt8 := [25, 4, 21, 6, 46, 54, 7, 29, 42, 28, 182, 0, 95, 21, 7, 184, 0, 119, 158, 0, 7, 4]
abbrev dktX2_shared_1 : List UInt8 := dkwX2_shared_1 ++ dktX2_shared_2
def dkwX2_shared_0 : List UInt8 := [3, 62, 42, 27, 182, 0, 95, 58, 4, 25, 4, 190, 54, 5, 3, 54, 6, 21, 6, 21, 5, 162, 0, 40]
abbrev dktX2_shared_0 : List UInt8 := dkwX2_shared_0 ++ dktX2_shared_1
theorem dksX2_shared_0 : cX2_shared.data.toList.drop 0 = dktX2_shared_0 := by decide +kernel
theorem dksX2_shared_1 : cX2_shared.data.toList.drop 24 = dktX2_shared_1 := dk_seg dksX2_shared_0 24 rfl rfl
theorem dksX2_shared_2 : cX2_shared.data.toList.drop 46 = dktX2_shared_2 := dk_seg dksX2_shared_1 22 rfl rfl
theorem dX2_shared_0 : decode cX2_shared 0 = .ok (.iconst 0, 1) := dk_3 (dk_at dksX2_shared_0 0 rfl rfl)
theorem dX2_shared_1 : decode cX2_shared 1 = .ok (.istore_n 3, 1) := dk_62 (dk_at dksX2_shared_0 1 rfl rfl)
theorem dX2_shared_2 : decode cX2_shared 2 = .ok (.aload_n 0, 1) := dk_42 (dk_at dksX2_shared_0 2 rfl rfl)
theorem dX2_shared_3 : decode cX2_shared 3 = .ok (.iload_n 1, 1) := dk_27 (dk_at dksX2_shared_0 3 rfl rfl)
theorem dX2_shared_4 : decode cX2_shared 4 = .ok (.invokevirtual 95, 3) := dk_182 0 95 (dk_at dksX2_shared_0 4 rfl rfl)
theorem dX2_shared_7 : decode cX2_shared 7 = .ok (.astore 4, 2) := dk_58 4 (dk_at dksX2_shared_0 7 rfl rfl)
theorem dX2_shared_9 : decode cX2_shared 9 = .ok (.aload 4, 2) := dk_25 4 (dk_at dksX2_shared_0 9 rfl rfl)
theorem dX2_shared_11 : decode cX2_shared 11 = .ok (.arraylength, 1) := dk_190 (dk_at dksX2_shared_0 11 rfl rfl)
theorem dX2_shared_12 : decode cX2_shared 12 = .ok (.istore 5, 2) := dk_54 5 (dk_at dksX2_shared_0 12 rfl rfl)
theorem dX2_shared_14 : decode cX2_shared 14 = .ok (.iconst 0, 1) := dk_3 (dk_at dksX2_shared_0 14 rfl rfl)
theorem dX2_shared_15 : decode cX2_shared 15 = .ok (.istore 6, 2) := dk_54 6 (dk_at dksX2_shared_0 15 rfl rfl)
theorem dX2_shared_17 : decode cX2_shared 17 = .ok (.iload 6, 2) := dk_21 6 (dk_at dksX2_shared_0 17 rfl rfl)
theorem dX2_shared_19 : decode cX2_shared 19 = .ok (.iload 5, 2) := dk_21 5 (dk_at dksX2_shared_0 19 rfl rfl)
theorem dX2_shared_21 : decode cX2_shared 21 = .ok (.if_icmp .ge 40, 3) := dk_162 0 40 (dk_at dksX2_shared_0 21 rfl rfl)
theorem dX2_shared_24 : decode cX2_shared 24 = .ok (.aload 4, 2) := dk_25 4 (dk_at dksX2_shared_1 0 rfl rfl)
theorem dX2_shared_26 : decode cX2_shared 26 = .ok (.iload 6, 2) := dk_21 6 (dk_at dksX2_shared_1 2 rfl rfl)
theorem dX2_shared_28 : decode cX2_shared 28 = .ok (.iaload, 1) := dk_46 (dk_at dksX2_shared_1 4 rfl rfl)
theorem dX2_shared_29 : decode cX2_shared 29 = .ok (.istore 7, 2) := dk_54 7 (dk_at dksX2_shared_1 5 rfl rfl)
theorem dX2_shared_31 : decode cX2_shared 31 = .ok (.iload_n 3, 1) := dk_29 (dk_at dksX2_shared_1 7 rfl rfl)
theorem dX2_shared_32 : decode cX2_shared 32 = .ok (.aload_n 0, 1) := dk_42 (dk_at dksX2_shared_1 8 rfl rfl)
theorem dX2_shared_33 : decode cX2_shared 33 = .ok (.iload_n 2, 1) := dk_28 (dk_at dksX2_shared_1 9 rfl rfl)
theorem dX2_shared_34 : decode cX2_shared 34 = .ok (.invokevirtual 95, 3) := dk_182 0 95 (dk_at dksX2_shared_1 10 rfl rfl)
theorem dX2_shared_37 : decode cX2_shared 37 = .ok (.iload 7, 2) := dk_21 7 (dk_at dksX2_shared_1 13 rfl rfl)
theorem dX2_shared_39 : decode cX2_shared 39 = .ok (.invokestatic 119, 3) := dk_184 0 119 (dk_at dksX2_shared_1 15 rfl rfl)
theorem dX2_shared_42 : decode cX2_shared 42 = .ok (.ifCond .le 7, 3) := dk_158 0 7 (dk_at dksX2_shared_1 18 rfl rfl)
theorem dX2_shared_45 : decode cX2_shared 45 = .ok (.iconst 1, 1) := dk_4 (dk_at dksX2_shared_1 21 rfl rfl)
theorem dX2_shared_46 : decode cX2_shared 46 = .ok (.goto 4, 3) := dk_167 0 4 (dk_at dksX2_shared_2 0 rfl rfl)
theorem dX2_shared_49 : decode cX2_shared 49 = .ok (.iconst 0, 1) := dk_3 (dk_at dksX2_shared_2 3 rfl rfl)
theorem dX2_shared_50 : decode cX2_shared 50 = .ok (.invokestatic 59, 3) := dk_184 0 59 (dk_at dksX2_shared_2 4 rfl rfl)
theorem dX2_shared_53 : decode cX2_shared 53 = .ok (.iadd, 1) := dk_96 (dk_at dksX2_shared_2 7 rfl rfl)
theorem dX2_shared_54 : decode cX2_shared 54 = .ok (.istore_n 3, 1) := dk_62 (dk_at dksX2_shared_2 8 rfl rfl)
theorem dX2_shared_55 : decode cX2_shared 55 = .ok (.iinc 6 1, 3) := dk_132 6 1 (dk_at dksX2_shared_2 9 rfl rfl)
theorem dX2_shared_58 : decode cX2_shared 58 = .ok (.goto (-41), 3) := dk_167 255 215 (dk_at dksX2_shared_2 12 rfl rfl)
theorem dX2_shared_61 : decode cX2_shared 61 = .ok (.iload_n 3, 1) := dk_29 (dk_at dksX2_shared_2 15 rfl rfl)
theorem dX2_shared_62 : decode cX2_shared 62 = .ok (.ireturn, 1) := dk_172 (dk_at dksX2_shared_2 16 rfl rfl)
abbrev cX2_areApart : ByteArray := prog_8_method_39_code
def yX2_areApart : MethodName := ⟨RX2, "areApart", "(II)Z"⟩
def dkwX2_areApart_1 : List UInt8 := [167, 0, 4, 3, 172]
abbrev dktX2_areApart_1 : List UInt8 := dkwX2_areApart_1 ++ []
def dkwX2_areApart_0 : List UInt8 := [42, 42, 27, 28, 182, 0, 122, 3, 182, 0, 81, 154, 0, 16, 42, 27, 28, 182, 0, 125, 154, 0, 7, 4]
abbrev dktX2_areApart_0 : List UInt8 := dkwX2_areApart_0 ++ dktX2_areApart_1
theorem dksX2_areApart_0 : cX2_areApart.data.toList.drop 0 = dktX2_areApart_0 := by decide +kernel
theorem dksX2_areApart_1 : cX2_areApart.data.toList.drop 24 = dktX2_areApart_1 := dk_seg dksX2_areApart_0 24 rfl rfl
theorem dX2_areApart_0 : decode cX2_areApart 0 = .ok (.aload_n 0, 1) := dk_42 (dk_at dksX2_areApart_0 0 rfl rfl)
theorem dX2_areApart_1 : decode cX2_areApart 1 = .ok (.aload_n 0, 1) := dk_42 (dk_at dksX2_areApart_0 1 rfl rfl)
theorem dX2_areApart_2 : decode cX2_areApart 2 = .ok (.iload_n 1, 1) := dk_27 (dk_at dksX2_areApart_0 2 rfl rfl)
theorem dX2_areApart_3 : decode cX2_areApart 3 = .ok (.iload_n 2, 1) := dk_28 (dk_at dksX2_areApart_0 3 rfl rfl)
theorem dX2_areApart_4 : decode cX2_areApart 4 = .ok (.invokevirtual 122, 3) := dk_182 0 122 (dk_at dksX2_areApart_0 4 rfl rfl)
theorem dX2_areApart_7 : decode cX2_areApart 7 = .ok (.iconst 0, 1) := dk_3 (dk_at dksX2_areApart_0 7 rfl rfl)
theorem dX2_areApart_8 : decode cX2_areApart 8 = .ok (.invokevirtual 81, 3) := dk_182 0 81 (dk_at dksX2_areApart_0 8 rfl rfl)
theorem dX2_areApart_11 : decode cX2_areApart 11 = .ok (.ifCond .ne 16, 3) := dk_154 0 16 (dk_at dksX2_areApart_0 11 rfl rfl)
theorem dX2_areApart_14 : decode cX2_areApart 14 = .ok (.aload_n 0, 1) := dk_42 (dk_at dksX2_areApart_0 14 rfl rfl)
theorem dX2_areApart_15 : decode cX2_areApart 15 = .ok (.iload_n 1, 1) := dk_27 (dk_at dksX2_areApart_0 15 rfl rfl)
theorem dX2_areApart_16 : decode cX2_areApart 16 = .ok (.iload_n 2, 1) := dk_28 (dk_at dksX2_areApart_0 16 rfl rfl)
theorem dX2_areApart_17 : decode cX2_areApart 17 = .ok (.invokevirtual 125, 3) := dk_182 0 125 (dk_at dksX2_areApart_0 17 rfl rfl)
theorem dX2_areApart_20 : decode cX2_areApart 20 = .ok (.ifCond .ne 7, 3) := dk_154 0 7 (dk_at dksX2_areApart_0 20 rfl rfl)
theorem dX2_areApart_23 : decode cX2_areApart 23 = .ok (.iconst 1, 1) := dk_4 (dk_at dksX2_areApart_0 23 rfl rfl)
theorem dX2_areApart_24 : decode cX2_areApart 24 = .ok (.goto 4, 3) := dk_167 0 4 (dk_at dksX2_areApart_1 0 rfl rfl)
theorem dX2_areApart_27 : decode cX2_areApart 27 = .ok (.iconst 0, 1) := dk_3 (dk_at dksX2_areApart_1 3 rfl rfl)
theorem dX2_areApart_28 : decode cX2_areApart 28 = .ok (.ireturn, 1) := dk_172 (dk_at dksX2_areApart_1 4 rfl rfl)
abbrev cX2_indexOfAll : ByteArray := prog_8_method_41_code
def yX2_indexOfAll : MethodName := ⟨RX2, "indexOfAll", "(II)I"⟩
def dkwX2_indexOfAll_2 : List UInt8 := [132, 3, 1, 167, 255, 224, 2, 172]
abbrev dktX2_indexOfAll_2 : List UInt8 := dkwX2_indexOfAll_2 ++ []
def dkwX2_indexOfAll_1 : List UInt8 := [46, 163, 0, 28, 42, 27, 182, 0, 95, 29, 42, 28, 182, 0, 95, 184, 0, 128, 153, 0, 5, 29, 172]
abbrev dktX2_indexOfAll_1 : List UInt8 := dkwX2_indexOfAll_1 ++ dktX2_indexOfAll_2
def dkwX2_indexOfAll_0 : List UInt8 := [42, 42, 27, 28, 182, 0, 122, 3, 182, 0, 81, 153, 0, 5, 3, 172, 3, 62, 29, 42, 180, 0, 21, 27]
abbrev dktX2_indexOfAll_0 : List UInt8 := dkwX2_indexOfAll_0 ++ dktX2_indexOfAll_1
theorem dksX2_indexOfAll_0 : cX2_indexOfAll.data.toList.drop 0 = dktX2_indexOfAll_0 := by decide +kernel
theorem dksX2_indexOfAll_1 : cX2_indexOfAll.data.toList.drop 24 = dktX2_indexOfAll_1 := dk_seg dksX2_indexOfAll_0 24 rfl rfl
theorem dksX2_indexOfAll_2 : cX2_indexOfAll.data.toList.drop 47 = dktX2_indexOfAll_2 := dk_seg dksX2_indexOfAll_1 23 rfl rfl
theorem dX2_indexOfAll_0 : decode cX2_indexOfAll 0 = .ok (.aload_n 0, 1) := dk_42 (dk_at dksX2_indexOfAll_0 0 rfl rfl)
theorem dX2_indexOfAll_1 : decode cX2_indexOfAll 1 = .ok (.aload_n 0, 1) := dk_42 (dk_at dksX2_indexOfAll_0 1 rfl rfl)
theorem dX2_indexOfAll_2 : decode cX2_indexOfAll 2 = .ok (.iload_n 1, 1) := dk_27 (dk_at dksX2_indexOfAll_0 2 rfl rfl)
theorem dX2_indexOfAll_3 : decode cX2_indexOfAll 3 = .ok (.iload_n 2, 1) := dk_28 (dk_at dksX2_indexOfAll_0 3 rfl rfl)
theorem dX2_indexOfAll_4 : decode cX2_indexOfAll 4 = .ok (.invokevirtual 122, 3) := dk_182 0 122 (dk_at dksX2_indexOfAll_0 4 rfl rfl)
theorem dX2_indexOfAll_7 : decode cX2_indexOfAll 7 = .ok (.iconst 0, 1) := dk_3 (dk_at dksX2_indexOfAll_0 7 rfl rfl)
theorem dX2_indexOfAll_8 : decode cX2_indexOfAll 8 = .ok (.invokevirtual 81, 3) := dk_182 0 81 (dk_at dksX2_indexOfAll_0 8 rfl rfl)
theorem dX2_indexOfAll_11 : decode cX2_indexOfAll 11 = .ok (.ifCond .eq 5, 3) := dk_153 0 5 (dk_at dksX2_indexOfAll_0 11 rfl rfl)
theorem dX2_indexOfAll_14 : decode cX2_indexOfAll 14 = .ok (.iconst 0, 1) := dk_3 (dk_at dksX2_indexOfAll_0 14 rfl rfl)
theorem dX2_indexOfAll_15 : decode cX2_indexOfAll 15 = .ok (.ireturn, 1) := dk_172 (dk_at dksX2_indexOfAll_0 15 rfl rfl)
theorem dX2_indexOfAll_16 : decode cX2_indexOfAll 16 = .ok (.iconst 0, 1) := dk_3 (dk_at dksX2_indexOfAll_0 16 rfl rfl)
theorem dX2_indexOfAll_17 : decode cX2_indexOfAll 17 = .ok (.istore_n 3, 1) := dk_62 (dk_at dksX2_indexOfAll_0 17 rfl rfl)
theorem dX2_indexOfAll_18 : decode cX2_indexOfAll 18 = .ok (.iload_n 3, 1) := dk_29 (dk_at dksX2_indexOfAll_0 18 rfl rfl)
theorem dX2_indexOfAll_19 : decode cX2_indexOfAll 19 = .ok (.aload_n 0, 1) := dk_42 (dk_at dksX2_indexOfAll_0 19 rfl rfl)
theorem dX2_indexOfAll_20 : decode cX2_indexOfAll 20 = .ok (.getfield 21, 3) := dk_180 0 21 (dk_at dksX2_indexOfAll_0 20 rfl rfl)
theorem dX2_indexOfAll_23 : decode cX2_indexOfAll 23 = .ok (.iload_n 1, 1) := dk_27 (dk_at dksX2_indexOfAll_0 23 rfl rfl)
theorem dX2_indexOfAll_24 : decode cX2_indexOfAll 24 = .ok (.iaload, 1) := dk_46 (dk_at dksX2_indexOfAll_1 0 rfl rfl)
theorem dX2_indexOfAll_25 : decode cX2_indexOfAll 25 = .ok (.if_icmp .gt 28, 3) := dk_163 0 28 (dk_at dksX2_indexOfAll_1 1 rfl rfl)
theorem dX2_indexOfAll_28 : decode cX2_indexOfAll 28 = .ok (.aload_n 0, 1) := dk_42 (dk_at dksX2_indexOfAll_1 4 rfl rfl)
theorem dX2_indexOfAll_29 : decode cX2_indexOfAll 29 = .ok (.iload_n 1, 1) := dk_27 (dk_at dksX2_indexOfAll_1 5 rfl rfl)
theorem dX2_indexOfAll_30 : decode cX2_indexOfAll 30 = .ok (.invokevirtual 95, 3) := dk_182 0 95 (dk_at dksX2_indexOfAll_1 6 rfl rfl)
theorem dX2_indexOfAll_33 : decode cX2_indexOfAll 33 = .ok (.iload_n 3, 1) := dk_29 (dk_at dksX2_indexOfAll_1 9 rfl rfl)
theorem dX2_indexOfAll_34 : decode cX2_indexOfAll 34 = .ok (.aload_n 0, 1) := dk_42 (dk_at dksX2_indexOfAll_1 10 rfl rfl)
theorem dX2_indexOfAll_35 : decode cX2_indexOfAll 35 = .ok (.iload_n 2, 1) := dk_28 (dk_at dksX2_indexOfAll_1 11 rfl rfl)
theorem dX2_indexOfAll_36 : decode cX2_indexOfAll 36 = .ok (.invokevirtual 95, 3) := dk_182 0 95 (dk_at dksX2_indexOfAll_1 12 rfl rfl)
theorem dX2_indexOfAll_39 : decode cX2_indexOfAll 39 = .ok (.invokestatic 128, 3) := dk_184 0 128 (dk_at dksX2_indexOfAll_1 15 rfl rfl)
theorem dX2_indexOfAll_42 : decode cX2_indexOfAll 42 = .ok (.ifCond .eq 5, 3) := dk_153 0 5 (dk_at dksX2_indexOfAll_1 18 rfl rfl)
theorem dX2_indexOfAll_45 : decode cX2_indexOfAll 45 = .ok (.iload_n 3, 1) := dk_29 (dk_at dksX2_indexOfAll_1 21 rfl rfl)
theorem dX2_indexOfAll_46 : decode cX2_indexOfAll 46 = .ok (.ireturn, 1) := dk_172 (dk_at dksX2_indexOfAll_1 22 rfl rfl)
theorem dX2_indexOfAll_47 : decode cX2_indexOfAll 47 = .ok (.iinc 3 1, 3) := dk_132 3 1 (dk_at dksX2_indexOfAll_2 0 rfl rfl)
theorem dX2_indexOfAll_50 : decode cX2_indexOfAll 50 = .ok (.goto (-32), 3) := dk_167 255 224 (dk_at dksX2_indexOfAll_2 3 rfl rfl)
theorem dX2_indexOfAll_53 : decode cX2_indexOfAll 53 = .ok (.iconst (-1), 1) := dk_2 (dk_at dksX2_indexOfAll_2 6 rfl rfl)
theorem dX2_indexOfAll_54 : decode cX2_indexOfAll 54 = .ok (.ireturn, 1) := dk_172 (dk_at dksX2_indexOfAll_2 7 rfl rfl)
abbrev cX2_isAt : ByteArray := prog_8_method_40_code
def yX2_isAt : MethodName := ⟨RX2, "isAt", "([II[I)Z"⟩
def dkwX2_isAt_2 : List UInt8 := [3, 62, 132, 4, 1, 167, 255, 223, 29, 172]
abbrev dktX2_isAt_2 : List UInt8 := dkwX2_isAt_2 ++ []
def dkwX2_isAt_1 : List UInt8 := [162, 0, 32, 29, 153, 0, 28, 42, 27, 21, 4, 96, 46, 44, 21, 4, 46, 160, 0, 7, 4, 167, 0, 4]
abbrev dktX2_isAt_1 : List UInt8 := dkwX2_isAt_1 ++ dktX2_isAt_2
def dkwX2_isAt_0 : List UInt8 := [27, 44, 190, 96, 42, 190, 163, 0, 7, 4, 167, 0, 4, 3, 62, 3, 54, 4, 21, 4, 44, 190]
abbrev dktX2_isAt_0 : List UInt8 := dkwX2_isAt_0 ++ dktX2_isAt_1
theorem dksX2_isAt_0 : cX2_isAt.data.toList.drop 0 = dktX2_isAt_0 := by decide +kernel
theorem dksX2_isAt_1 : cX2_isAt.data.toList.drop 22 = dktX2_isAt_1 := dk_seg dksX2_isAt_0 22 rfl rfl
theorem dksX2_isAt_2 : cX2_isAt.data.toList.drop 46 = dktX2_isAt_2 := dk_seg dksX2_isAt_1 24 rfl rfl
theorem dX2_isAt_0 : decode cX2_isAt 0 = .ok (.iload_n 1, 1) := dk_27 (dk_at dksX2_isAt_0 0 rfl rfl)
theorem dX2_isAt_1 : decode cX2_isAt 1 = .ok (.aload_n 2, 1) := dk_44 (dk_at dksX2_isAt_0 1 rfl rfl)
theorem dX2_isAt_2 : decode cX2_isAt 2 = .ok (.arraylength, 1) := dk_190 (dk_at dksX2_isAt_0 2 rfl rfl)
theorem dX2_isAt_3 : decode cX2_isAt 3 = .ok (.iadd, 1) := dk_96 (dk_at dksX2_isAt_0 3 rfl rfl)
theorem dX2_isAt_4 : decode cX2_isAt 4 = .ok (.aload_n 0, 1) := dk_42 (dk_at dksX2_isAt_0 4 rfl rfl)
theorem dX2_isAt_5 : decode cX2_isAt 5 = .ok (.arraylength, 1) := dk_190 (dk_at dksX2_isAt_0 5 rfl rfl)
theorem dX2_isAt_6 : decode cX2_isAt 6 = .ok (.if_icmp .gt 7, 3) := dk_163 0 7 (dk_at dksX2_isAt_0 6 rfl rfl)
theorem dX2_isAt_9 : decode cX2_isAt 9 = .ok (.iconst 1, 1) := dk_4 (dk_at dksX2_isAt_0 9 rfl rfl)
theorem dX2_isAt_10 : decode cX2_isAt 10 = .ok (.goto 4, 3) := dk_167 0 4 (dk_at dksX2_isAt_0 10 rfl rfl)
theorem dX2_isAt_13 : decode cX2_isAt 13 = .ok (.iconst 0, 1) := dk_3 (dk_at dksX2_isAt_0 13 rfl rfl)
theorem dX2_isAt_14 : decode cX2_isAt 14 = .ok (.istore_n 3, 1) := dk_62 (dk_at dksX2_isAt_0 14 rfl rfl)
theorem dX2_isAt_15 : decode cX2_isAt 15 = .ok (.iconst 0, 1) := dk_3 (dk_at dksX2_isAt_0 15 rfl rfl)
theorem dX2_isAt_16 : decode cX2_isAt 16 = .ok (.istore 4, 2) := dk_54 4 (dk_at dksX2_isAt_0 16 rfl rfl)
theorem dX2_isAt_18 : decode cX2_isAt 18 = .ok (.iload 4, 2) := dk_21 4 (dk_at dksX2_isAt_0 18 rfl rfl)
theorem dX2_isAt_20 : decode cX2_isAt 20 = .ok (.aload_n 2, 1) := dk_44 (dk_at dksX2_isAt_0 20 rfl rfl)
theorem dX2_isAt_21 : decode cX2_isAt 21 = .ok (.arraylength, 1) := dk_190 (dk_at dksX2_isAt_0 21 rfl rfl)
theorem dX2_isAt_22 : decode cX2_isAt 22 = .ok (.if_icmp .ge 32, 3) := dk_162 0 32 (dk_at dksX2_isAt_1 0 rfl rfl)
theorem dX2_isAt_25 : decode cX2_isAt 25 = .ok (.iload_n 3, 1) := dk_29 (dk_at dksX2_isAt_1 3 rfl rfl)
theorem dX2_isAt_26 : decode cX2_isAt 26 = .ok (.ifCond .eq 28, 3) := dk_153 0 28 (dk_at dksX2_isAt_1 4 rfl rfl)
theorem dX2_isAt_29 : decode cX2_isAt 29 = .ok (.aload_n 0, 1) := dk_42 (dk_at dksX2_isAt_1 7 rfl rfl)
theorem dX2_isAt_30 : decode cX2_isAt 30 = .ok (.iload_n 1, 1) := dk_27 (dk_at dksX2_isAt_1 8 rfl rfl)
theorem dX2_isAt_31 : decode cX2_isAt 31 = .ok (.iload 4, 2) := dk_21 4 (dk_at dksX2_isAt_1 9 rfl rfl)
theorem dX2_isAt_33 : decode cX2_isAt 33 = .ok (.iadd, 1) := dk_96 (dk_at dksX2_isAt_1 11 rfl rfl)
theorem dX2_isAt_34 : decode cX2_isAt 34 = .ok (.iaload, 1) := dk_46 (dk_at dksX2_isAt_1 12 rfl rfl)
theorem dX2_isAt_35 : decode cX2_isAt 35 = .ok (.aload_n 2, 1) := dk_44 (dk_at dksX2_isAt_1 13 rfl rfl)
theorem dX2_isAt_36 : decode cX2_isAt 36 = .ok (.iload 4, 2) := dk_21 4 (dk_at dksX2_isAt_1 14 rfl rfl)
theorem dX2_isAt_38 : decode cX2_isAt 38 = .ok (.iaload, 1) := dk_46 (dk_at dksX2_isAt_1 16 rfl rfl)
theorem dX2_isAt_39 : decode cX2_isAt 39 = .ok (.if_icmp .ne 7, 3) := dk_160 0 7 (dk_at dksX2_isAt_1 17 rfl rfl)
theorem dX2_isAt_42 : decode cX2_isAt 42 = .ok (.iconst 1, 1) := dk_4 (dk_at dksX2_isAt_1 20 rfl rfl)
theorem dX2_isAt_43 : decode cX2_isAt 43 = .ok (.goto 4, 3) := dk_167 0 4 (dk_at dksX2_isAt_1 21 rfl rfl)
theorem dX2_isAt_46 : decode cX2_isAt 46 = .ok (.iconst 0, 1) := dk_3 (dk_at dksX2_isAt_2 0 rfl rfl)
theorem dX2_isAt_47 : decode cX2_isAt 47 = .ok (.istore_n 3, 1) := dk_62 (dk_at dksX2_isAt_2 1 rfl rfl)
theorem dX2_isAt_48 : decode cX2_isAt 48 = .ok (.iinc 4 1, 3) := dk_132 4 1 (dk_at dksX2_isAt_2 2 rfl rfl)
theorem dX2_isAt_51 : decode cX2_isAt 51 = .ok (.goto (-33), 3) := dk_167 255 223 (dk_at dksX2_isAt_2 5 rfl rfl)
theorem dX2_isAt_54 : decode cX2_isAt 54 = .ok (.iload_n 3, 1) := dk_29 (dk_at dksX2_isAt_2 8 rfl rfl)
theorem dX2_isAt_55 : decode cX2_isAt 55 = .ok (.ireturn, 1) := dk_172 (dk_at dksX2_isAt_2 9 rfl rfl)
abbrev cX2_areEqual : ByteArray := prog_8_method_42_code
def yX2_areEqual : MethodName := ⟨RX2, "areEqual", "(II)Z"⟩
def dkwX2_areEqual_2 : List UInt8 := [167, 0, 4, 3, 172]
abbrev dktX2_areEqual_2 : List UInt8 := dkwX2_areEqual_2 ++ []
def dkwX2_areEqual_1 : List UInt8 := [28, 46, 160, 0, 24, 42, 27, 182, 0, 95, 3, 42, 28, 182, 0, 95, 184, 0, 128, 153, 0, 7, 4]
abbrev dktX2_areEqual_1 : List UInt8 := dkwX2_areEqual_1 ++ dktX2_areEqual_2
def dkwX2_areEqual_0 : List UInt8 := [42, 42, 27, 28, 182, 0, 122, 3, 182, 0, 81, 154, 0, 39, 42, 180, 0, 21, 27, 46, 42, 180, 0, 21]
abbrev dktX2_areEqual_0 : List UInt8 := dkwX2_areEqual_0 ++ dktX2_areEqual_1
theorem dksX2_areEqual_0 : cX2_areEqual.data.toList.drop 0 = dktX2_areEqual_0 := by decide +kernel
theorem dksX2_areEqual_1 : cX2_areEqual.data.toList.drop 24 = dktX2_areEqual_1 := dk_seg dksX2_areEqual_0 24 rfl rfl
theorem dksX2_areEqual_2 : cX2_areEqual.data.toList.drop 47 = dktX2_areEqual_2 := dk_seg dksX2_areEqual_1 23 rfl rfl
theorem dX2_areEqual_0 : decode cX2_areEqual 0 = .ok (.aload_n 0, 1) := dk_42 (dk_at dksX2_areEqual_0 0 rfl rfl)
theorem dX2_areEqual_1 : decode cX2_areEqual 1 = .ok (.aload_n 0, 1) := dk_42 (dk_at dksX2_areEqual_0 1 rfl rfl)
theorem dX2_areEqual_2 : decode cX2_areEqual 2 = .ok (.iload_n 1, 1) := dk_27 (dk_at dksX2_areEqual_0 2 rfl rfl)
theorem dX2_areEqual_3 : decode cX2_areEqual 3 = .ok (.iload_n 2, 1) := dk_28 (dk_at dksX2_areEqual_0 3 rfl rfl)
theorem dX2_areEqual_4 : decode cX2_areEqual 4 = .ok (.invokevirtual 122, 3) := dk_182 0 122 (dk_at dksX2_areEqual_0 4 rfl rfl)
theorem dX2_areEqual_7 : decode cX2_areEqual 7 = .ok (.iconst 0, 1) := dk_3 (dk_at dksX2_areEqual_0 7 rfl rfl)
theorem dX2_areEqual_8 : decode cX2_areEqual 8 = .ok (.invokevirtual 81, 3) := dk_182 0 81 (dk_at dksX2_areEqual_0 8 rfl rfl)
theorem dX2_areEqual_11 : decode cX2_areEqual 11 = .ok (.ifCond .ne 39, 3) := dk_154 0 39 (dk_at dksX2_areEqual_0 11 rfl rfl)
theorem dX2_areEqual_14 : decode cX2_areEqual 14 = .ok (.aload_n 0, 1) := dk_42 (dk_at dksX2_areEqual_0 14 rfl rfl)
theorem dX2_areEqual_15 : decode cX2_areEqual 15 = .ok (.getfield 21, 3) := dk_180 0 21 (dk_at dksX2_areEqual_0 15 rfl rfl)
theorem dX2_areEqual_18 : decode cX2_areEqual 18 = .ok (.iload_n 1, 1) := dk_27 (dk_at dksX2_areEqual_0 18 rfl rfl)
theorem dX2_areEqual_19 : decode cX2_areEqual 19 = .ok (.iaload, 1) := dk_46 (dk_at dksX2_areEqual_0 19 rfl rfl)
theorem dX2_areEqual_20 : decode cX2_areEqual 20 = .ok (.aload_n 0, 1) := dk_42 (dk_at dksX2_areEqual_0 20 rfl rfl)
theorem dX2_areEqual_21 : decode cX2_areEqual 21 = .ok (.getfield 21, 3) := dk_180 0 21 (dk_at dksX2_areEqual_0 21 rfl rfl)
theorem dX2_areEqual_24 : decode cX2_areEqual 24 = .ok (.iload_n 2, 1) := dk_28 (dk_at dksX2_areEqual_1 0 rfl rfl)
theorem dX2_areEqual_25 : decode cX2_areEqual 25 = .ok (.iaload, 1) := dk_46 (dk_at dksX2_areEqual_1 1 rfl rfl)
theorem dX2_areEqual_26 : decode cX2_areEqual 26 = .ok (.if_icmp .ne 24, 3) := dk_160 0 24 (dk_at dksX2_areEqual_1 2 rfl rfl)
theorem dX2_areEqual_29 : decode cX2_areEqual 29 = .ok (.aload_n 0, 1) := dk_42 (dk_at dksX2_areEqual_1 5 rfl rfl)
theorem dX2_areEqual_30 : decode cX2_areEqual 30 = .ok (.iload_n 1, 1) := dk_27 (dk_at dksX2_areEqual_1 6 rfl rfl)
theorem dX2_areEqual_31 : decode cX2_areEqual 31 = .ok (.invokevirtual 95, 3) := dk_182 0 95 (dk_at dksX2_areEqual_1 7 rfl rfl)
theorem dX2_areEqual_34 : decode cX2_areEqual 34 = .ok (.iconst 0, 1) := dk_3 (dk_at dksX2_areEqual_1 10 rfl rfl)
theorem dX2_areEqual_35 : decode cX2_areEqual 35 = .ok (.aload_n 0, 1) := dk_42 (dk_at dksX2_areEqual_1 11 rfl rfl)
theorem dX2_areEqual_36 : decode cX2_areEqual 36 = .ok (.iload_n 2, 1) := dk_28 (dk_at dksX2_areEqual_1 12 rfl rfl)
theorem dX2_areEqual_37 : decode cX2_areEqual 37 = .ok (.invokevirtual 95, 3) := dk_182 0 95 (dk_at dksX2_areEqual_1 13 rfl rfl)
theorem dX2_areEqual_40 : decode cX2_areEqual 40 = .ok (.invokestatic 128, 3) := dk_184 0 128 (dk_at dksX2_areEqual_1 16 rfl rfl)
theorem dX2_areEqual_43 : decode cX2_areEqual 43 = .ok (.ifCond .eq 7, 3) := dk_153 0 7 (dk_at dksX2_areEqual_1 19 rfl rfl)
theorem dX2_areEqual_46 : decode cX2_areEqual 46 = .ok (.iconst 1, 1) := dk_4 (dk_at dksX2_areEqual_1 22 rfl rfl)
theorem dX2_areEqual_47 : decode cX2_areEqual 47 = .ok (.goto 4, 3) := dk_167 0 4 (dk_at dksX2_areEqual_2 0 rfl rfl)
theorem dX2_areEqual_50 : decode cX2_areEqual 50 = .ok (.iconst 0, 1) := dk_3 (dk_at dksX2_areEqual_2 3 rfl rfl)
theorem dX2_areEqual_51 : decode cX2_areEqual 51 = .ok (.ireturn, 1) := dk_172 (dk_at dksX2_areEqual_2 4 rfl rfl)
abbrev cX2_code : ByteArray := prog_8_method_44_code
def yX2_code : MethodName := ⟨RX2, "code", "(I)I"⟩
def dkwX2_code_0 : List UInt8 := [42, 42, 27, 182, 0, 32, 3, 182, 0, 81, 153, 0, 7, 3, 167, 0, 8, 42, 27, 182, 0, 132, 172]
abbrev dktX2_code_0 : List UInt8 := dkwX2_code_0 ++ []
theorem dksX2_code_0 : cX2_code.data.toList.drop 0 = dktX2_code_0 := by decide +kernel
theorem dX2_code_0 : decode cX2_code 0 = .ok (.aload_n 0, 1) := dk_42 (dk_at dksX2_code_0 0 rfl rfl)
theorem dX2_code_1 : decode cX2_code 1 = .ok (.aload_n 0, 1) := dk_42 (dk_at dksX2_code_0 1 rfl rfl)
theorem dX2_code_2 : decode cX2_code 2 = .ok (.iload_n 1, 1) := dk_27 (dk_at dksX2_code_0 2 rfl rfl)
theorem dX2_code_3 : decode cX2_code 3 = .ok (.invokevirtual 32, 3) := dk_182 0 32 (dk_at dksX2_code_0 3 rfl rfl)
theorem dX2_code_6 : decode cX2_code 6 = .ok (.iconst 0, 1) := dk_3 (dk_at dksX2_code_0 6 rfl rfl)
theorem dX2_code_7 : decode cX2_code 7 = .ok (.invokevirtual 81, 3) := dk_182 0 81 (dk_at dksX2_code_0 7 rfl rfl)
theorem dX2_code_10 : decode cX2_code 10 = .ok (.ifCond .eq 7, 3) := dk_153 0 7 (dk_at dksX2_code_0 10 rfl rfl)
theorem dX2_code_13 : decode cX2_code 13 = .ok (.iconst 0, 1) := dk_3 (dk_at dksX2_code_0 13 rfl rfl)
theorem dX2_code_14 : decode cX2_code 14 = .ok (.goto 8, 3) := dk_167 0 8 (dk_at dksX2_code_0 14 rfl rfl)
theorem dX2_code_17 : decode cX2_code 17 = .ok (.aload_n 0, 1) := dk_42 (dk_at dksX2_code_0 17 rfl rfl)
theorem dX2_code_18 : decode cX2_code 18 = .ok (.iload_n 1, 1) := dk_27 (dk_at dksX2_code_0 18 rfl rfl)
theorem dX2_code_19 : decode cX2_code 19 = .ok (.invokevirtual 132, 3) := dk_182 0 132 (dk_at dksX2_code_0 19 rfl rfl)
theorem dX2_code_22 : decode cX2_code 22 = .ok (.ireturn, 1) := dk_172 (dk_at dksX2_code_0 22 rfl rfl)
abbrev cX2_codeNow : ByteArray := prog_8_method_43_code
def yX2_codeNow : MethodName := ⟨RX2, "codeNow", "(I)I"⟩
def dkwX2_codeNow_2 : List UInt8 := [61, 132, 5, 1, 167, 255, 220, 28, 172]
abbrev dktX2_codeNow_2 : List UInt8 := dkwX2_codeNow_2 ++ []
def dkwX2_codeNow_1 : List UInt8 := [21, 5, 46, 54, 6, 16, 31, 28, 104, 21, 6, 17, 252, 24, 160, 0, 7, 3, 167, 0, 5, 21, 6, 96]
abbrev dktX2_codeNow_1 : List UInt8 := dkwX2_codeNow_1 ++ dktX2_codeNow_2
def dkwX2_codeNow_0 : List UInt8 := [4, 61, 42, 27, 182, 0, 95, 78, 45, 190, 54, 4, 3, 54, 5, 21, 5, 21, 4, 162, 0, 35, 45]
abbrev dktX2_codeNow_0 : List UInt8 := dkwX2_codeNow_0 ++ dktX2_codeNow_1
theorem dksX2_codeNow_0 : cX2_codeNow.data.toList.drop 0 = dktX2_codeNow_0 := by decide +kernel
theorem dksX2_codeNow_1 : cX2_codeNow.data.toList.drop 23 = dktX2_codeNow_1 := dk_seg dksX2_codeNow_0 23 rfl rfl
theorem dksX2_codeNow_2 : cX2_codeNow.data.toList.drop 47 = dktX2_codeNow_2 := dk_seg dksX2_codeNow_1 24 rfl rfl
theorem dX2_codeNow_0 : decode cX2_codeNow 0 = .ok (.iconst 1, 1) := dk_4 (dk_at dksX2_codeNow_0 0 rfl rfl)
theorem dX2_codeNow_1 : decode cX2_codeNow 1 = .ok (.istore_n 2, 1) := dk_61 (dk_at dksX2_codeNow_0 1 rfl rfl)
theorem dX2_codeNow_2 : decode cX2_codeNow 2 = .ok (.aload_n 0, 1) := dk_42 (dk_at dksX2_codeNow_0 2 rfl rfl)
theorem dX2_codeNow_3 : decode cX2_codeNow 3 = .ok (.iload_n 1, 1) := dk_27 (dk_at dksX2_codeNow_0 3 rfl rfl)
theorem dX2_codeNow_4 : decode cX2_codeNow 4 = .ok (.invokevirtual 95, 3) := dk_182 0 95 (dk_at dksX2_codeNow_0 4 rfl rfl)
theorem dX2_codeNow_7 : decode cX2_codeNow 7 = .ok (.astore_n 3, 1) := dk_78 (dk_at dksX2_codeNow_0 7 rfl rfl)
theorem dX2_codeNow_8 : decode cX2_codeNow 8 = .ok (.aload_n 3, 1) := dk_45 (dk_at dksX2_codeNow_0 8 rfl rfl)
theorem dX2_codeNow_9 : decode cX2_codeNow 9 = .ok (.arraylength, 1) := dk_190 (dk_at dksX2_codeNow_0 9 rfl rfl)
theorem dX2_codeNow_10 : decode cX2_codeNow 10 = .ok (.istore 4, 2) := dk_54 4 (dk_at dksX2_codeNow_0 10 rfl rfl)
theorem dX2_codeNow_12 : decode cX2_codeNow 12 = .ok (.iconst 0, 1) := dk_3 (dk_at dksX2_codeNow_0 12 rfl rfl)
theorem dX2_codeNow_13 : decode cX2_codeNow 13 = .ok (.istore 5, 2) := dk_54 5 (dk_at dksX2_codeNow_0 13 rfl rfl)
theorem dX2_codeNow_15 : decode cX2_codeNow 15 = .ok (.iload 5, 2) := dk_21 5 (dk_at dksX2_codeNow_0 15 rfl rfl)
theorem dX2_codeNow_17 : decode cX2_codeNow 17 = .ok (.iload 4, 2) := dk_21 4 (dk_at dksX2_codeNow_0 17 rfl rfl)
theorem dX2_codeNow_19 : decode cX2_codeNow 19 = .ok (.if_icmp .ge 35, 3) := dk_162 0 35 (dk_at dksX2_codeNow_0 19 rfl rfl)
theorem dX2_codeNow_22 : decode cX2_codeNow 22 = .ok (.aload_n 3, 1) := dk_45 (dk_at dksX2_codeNow_0 22 rfl rfl)
theorem dX2_codeNow_23 : decode cX2_codeNow 23 = .ok (.iload 5, 2) := dk_21 5 (dk_at dksX2_codeNow_1 0 rfl rfl)
theorem dX2_codeNow_25 : decode cX2_codeNow 25 = .ok (.iaload, 1) := dk_46 (dk_at dksX2_codeNow_1 2 rfl rfl)
theorem dX2_codeNow_26 : decode cX2_codeNow 26 = .ok (.istore 6, 2) := dk_54 6 (dk_at dksX2_codeNow_1 3 rfl rfl)
theorem dX2_codeNow_28 : decode cX2_codeNow 28 = .ok (.bipush 31, 2) := dk_16 31 (dk_at dksX2_codeNow_1 5 rfl rfl)
theorem dX2_codeNow_30 : decode cX2_codeNow 30 = .ok (.iload_n 2, 1) := dk_28 (dk_at dksX2_codeNow_1 7 rfl rfl)
theorem dX2_codeNow_31 : decode cX2_codeNow 31 = .ok (.imul, 1) := dk_104 (dk_at dksX2_codeNow_1 8 rfl rfl)
theorem dX2_codeNow_32 : decode cX2_codeNow 32 = .ok (.iload 6, 2) := dk_21 6 (dk_at dksX2_codeNow_1 9 rfl rfl)
theorem dX2_codeNow_34 : decode cX2_codeNow 34 = .ok (.sipush (-1000), 3) := dk_17 252 24 (dk_at dksX2_codeNow_1 11 rfl rfl)
theorem dX2_codeNow_37 : decode cX2_codeNow 37 = .ok (.if_icmp .ne 7, 3) := dk_160 0 7 (dk_at dksX2_codeNow_1 14 rfl rfl)
theorem dX2_codeNow_40 : decode cX2_codeNow 40 = .ok (.iconst 0, 1) := dk_3 (dk_at dksX2_codeNow_1 17 rfl rfl)
theorem dX2_codeNow_41 : decode cX2_codeNow 41 = .ok (.goto 5, 3) := dk_167 0 5 (dk_at dksX2_codeNow_1 18 rfl rfl)
theorem dX2_codeNow_44 : decode cX2_codeNow 44 = .ok (.iload 6, 2) := dk_21 6 (dk_at dksX2_codeNow_1 21 rfl rfl)
theorem dX2_codeNow_46 : decode cX2_codeNow 46 = .ok (.iadd, 1) := dk_96 (dk_at dksX2_codeNow_1 23 rfl rfl)
theorem dX2_codeNow_47 : decode cX2_codeNow 47 = .ok (.istore_n 2, 1) := dk_61 (dk_at dksX2_codeNow_2 0 rfl rfl)
theorem dX2_codeNow_48 : decode cX2_codeNow 48 = .ok (.iinc 5 1, 3) := dk_132 5 1 (dk_at dksX2_codeNow_2 1 rfl rfl)
theorem dX2_codeNow_51 : decode cX2_codeNow 51 = .ok (.goto (-36), 3) := dk_167 255 220 (dk_at dksX2_codeNow_2 4 rfl rfl)
theorem dX2_codeNow_54 : decode cX2_codeNow 54 = .ok (.iload_n 2, 1) := dk_28 (dk_at dksX2_codeNow_2 7 rfl rfl)
theorem dX2_codeNow_55 : decode cX2_codeNow 55 = .ok (.ireturn, 1) := dk_172 (dk_at dksX2_codeNow_2 8 rfl rfl)
abbrev cX2_walk : ByteArray := prog_8_method_46_code
def yX2_walk : MethodName := ⟨RX2, "walk", "(IIIZ)Ljava/lang/String;"⟩
def dkwX2_walk_7 : List UInt8 := [25, 5, 176]
abbrev dktX2_walk_7 : List UInt8 := dkwX2_walk_7 ++ []
def dkwX2_walk_6 : List UInt8 := [58, 5, 21, 6, 21, 4, 153, 0, 7, 2, 167, 0, 4, 4, 96, 54, 6, 132, 7, 1, 167, 255, 157]
abbrev dktX2_walk_6 : List UInt8 := dkwX2_walk_6 ++ dktX2_walk_7
def dkwX2_walk_5 : List UInt8 := [182, 0, 74, 18, 138, 182, 0, 70, 42, 27, 21, 6, 182, 0, 36, 184, 0, 105, 182, 0, 70, 182, 0, 77]
abbrev dktX2_walk_5 : List UInt8 := dkwX2_walk_5 ++ dktX2_walk_6
def dkwX2_walk_4 : List UInt8 := [182, 0, 70, 25, 5, 182, 0, 99, 153, 0, 8, 18, 68, 167, 0, 5, 18, 109, 182, 0, 70, 21, 6]
abbrev dktX2_walk_4 : List UInt8 := dkwX2_walk_4 ++ dktX2_walk_5
def dkwX2_walk_3 : List UInt8 := [42, 180, 0, 21, 27, 46, 4, 100, 184, 0, 24, 153, 0, 82, 187, 0, 65, 89, 183, 0, 67, 25, 5]
abbrev dktX2_walk_3 : List UInt8 := dkwX2_walk_3 ++ dktX2_walk_4
def dkwX2_walk_2 : List UInt8 := [153, 0, 9, 28, 4, 100, 167, 0, 4, 28, 54, 6, 3, 54, 7, 21, 7, 29, 162, 0, 99, 21, 6, 3]
abbrev dktX2_walk_2 : List UInt8 := dkwX2_walk_2 ++ dktX2_walk_3
def dkwX2_walk_1 : List UInt8 := [154, 0, 7, 4, 167, 0, 4, 3, 182, 0, 81, 153, 0, 6, 18, 68, 176, 18, 68, 58, 5, 21, 4]
abbrev dktX2_walk_1 : List UInt8 := dkwX2_walk_1 ++ dktX2_walk_2
def dkwX2_walk_0 : List UInt8 := [42, 42, 27, 182, 0, 32, 42, 27, 28, 182, 0, 135, 154, 0, 13, 29, 3, 16, 12, 184, 0, 24]
abbrev dktX2_walk_0 : List UInt8 := dkwX2_walk_0 ++ dktX2_walk_1
theorem dksX2_walk_0 : cX2_walk.data.toList.drop 0 = dktX2_walk_0 := by decide +kernel
theorem dksX2_walk_1 : cX2_walk.data.toList.drop 22 = dktX2_walk_1 := dk_seg dksX2_walk_0 22 rfl rfl
theorem dksX2_walk_2 : cX2_walk.data.toList.drop 45 = dktX2_walk_2 := dk_seg dksX2_walk_1 23 rfl rfl
theorem dksX2_walk_3 : cX2_walk.data.toList.drop 69 = dktX2_walk_3 := dk_seg dksX2_walk_2 24 rfl rfl
theorem dksX2_walk_4 : cX2_walk.data.toList.drop 92 = dktX2_walk_4 := dk_seg dksX2_walk_3 23 rfl rfl
theorem dksX2_walk_5 : cX2_walk.data.toList.drop 115 = dktX2_walk_5 := dk_seg dksX2_walk_4 23 rfl rfl
theorem dksX2_walk_6 : cX2_walk.data.toList.drop 139 = dktX2_walk_6 := dk_seg dksX2_walk_5 24 rfl rfl
theorem dksX2_walk_7 : cX2_walk.data.toList.drop 162 = dktX2_walk_7 := dk_seg dksX2_walk_6 23 rfl rfl
theorem dX2_walk_0 : decode cX2_walk 0 = .ok (.aload_n 0, 1) := dk_42 (dk_at dksX2_walk_0 0 rfl rfl)
theorem dX2_walk_1 : decode cX2_walk 1 = .ok (.aload_n 0, 1) := dk_42 (dk_at dksX2_walk_0 1 rfl rfl)
theorem dX2_walk_2 : decode cX2_walk 2 = .ok (.iload_n 1, 1) := dk_27 (dk_at dksX2_walk_0 2 rfl rfl)
theorem dX2_walk_3 : decode cX2_walk 3 = .ok (.invokevirtual 32, 3) := dk_182 0 32 (dk_at dksX2_walk_0 3 rfl rfl)
theorem dX2_walk_6 : decode cX2_walk 6 = .ok (.aload_n 0, 1) := dk_42 (dk_at dksX2_walk_0 6 rfl rfl)
theorem dX2_walk_7 : decode cX2_walk 7 = .ok (.iload_n 1, 1) := dk_27 (dk_at dksX2_walk_0 7 rfl rfl)
theorem dX2_walk_8 : decode cX2_walk 8 = .ok (.iload_n 2, 1) := dk_28 (dk_at dksX2_walk_0 8 rfl rfl)
theorem dX2_walk_9 : decode cX2_walk 9 = .ok (.invokevirtual 135, 3) := dk_182 0 135 (dk_at dksX2_walk_0 9 rfl rfl)
theorem dX2_walk_12 : decode cX2_walk 12 = .ok (.ifCond .ne 13, 3) := dk_154 0 13 (dk_at dksX2_walk_0 12 rfl rfl)
theorem dX2_walk_15 : decode cX2_walk 15 = .ok (.iload_n 3, 1) := dk_29 (dk_at dksX2_walk_0 15 rfl rfl)
theorem dX2_walk_16 : decode cX2_walk 16 = .ok (.iconst 0, 1) := dk_3 (dk_at dksX2_walk_0 16 rfl rfl)
theorem dX2_walk_17 : decode cX2_walk 17 = .ok (.bipush 12, 2) := dk_16 12 (dk_at dksX2_walk_0 17 rfl rfl)
theorem dX2_walk_19 : decode cX2_walk 19 = .ok (.invokestatic 24, 3) := dk_184 0 24 (dk_at dksX2_walk_0 19 rfl rfl)
theorem dX2_walk_22 : decode cX2_walk 22 = .ok (.ifCond .ne 7, 3) := dk_154 0 7 (dk_at dksX2_walk_1 0 rfl rfl)
theorem dX2_walk_25 : decode cX2_walk 25 = .ok (.iconst 1, 1) := dk_4 (dk_at dksX2_walk_1 3 rfl rfl)
theorem dX2_walk_26 : decode cX2_walk 26 = .ok (.goto 4, 3) := dk_167 0 4 (dk_at dksX2_walk_1 4 rfl rfl)
theorem dX2_walk_29 : decode cX2_walk 29 = .ok (.iconst 0, 1) := dk_3 (dk_at dksX2_walk_1 7 rfl rfl)
theorem dX2_walk_30 : decode cX2_walk 30 = .ok (.invokevirtual 81, 3) := dk_182 0 81 (dk_at dksX2_walk_1 8 rfl rfl)
theorem dX2_walk_33 : decode cX2_walk 33 = .ok (.ifCond .eq 6, 3) := dk_153 0 6 (dk_at dksX2_walk_1 11 rfl rfl)
theorem dX2_walk_36 : decode cX2_walk 36 = .ok (.ldc 68, 2) := dk_18 68 (dk_at dksX2_walk_1 14 rfl rfl)
theorem dX2_walk_38 : decode cX2_walk 38 = .ok (.areturn, 1) := dk_176 (dk_at dksX2_walk_1 16 rfl rfl)
theorem dX2_walk_39 : decode cX2_walk 39 = .ok (.ldc 68, 2) := dk_18 68 (dk_at dksX2_walk_1 17 rfl rfl)
theorem dX2_walk_41 : decode cX2_walk 41 = .ok (.astore 5, 2) := dk_58 5 (dk_at dksX2_walk_1 19 rfl rfl)
theorem dX2_walk_43 : decode cX2_walk 43 = .ok (.iload 4, 2) := dk_21 4 (dk_at dksX2_walk_1 21 rfl rfl)
theorem dX2_walk_45 : decode cX2_walk 45 = .ok (.ifCond .eq 9, 3) := dk_153 0 9 (dk_at dksX2_walk_2 0 rfl rfl)
theorem dX2_walk_48 : decode cX2_walk 48 = .ok (.iload_n 2, 1) := dk_28 (dk_at dksX2_walk_2 3 rfl rfl)
theorem dX2_walk_49 : decode cX2_walk 49 = .ok (.iconst 1, 1) := dk_4 (dk_at dksX2_walk_2 4 rfl rfl)
theorem dX2_walk_50 : decode cX2_walk 50 = .ok (.isub, 1) := dk_100 (dk_at dksX2_walk_2 5 rfl rfl)
theorem dX2_walk_51 : decode cX2_walk 51 = .ok (.goto 4, 3) := dk_167 0 4 (dk_at dksX2_walk_2 6 rfl rfl)
theorem dX2_walk_54 : decode cX2_walk 54 = .ok (.iload_n 2, 1) := dk_28 (dk_at dksX2_walk_2 9 rfl rfl)
theorem dX2_walk_55 : decode cX2_walk 55 = .ok (.istore 6, 2) := dk_54 6 (dk_at dksX2_walk_2 10 rfl rfl)
theorem dX2_walk_57 : decode cX2_walk 57 = .ok (.iconst 0, 1) := dk_3 (dk_at dksX2_walk_2 12 rfl rfl)
theorem dX2_walk_58 : decode cX2_walk 58 = .ok (.istore 7, 2) := dk_54 7 (dk_at dksX2_walk_2 13 rfl rfl)
theorem dX2_walk_60 : decode cX2_walk 60 = .ok (.iload 7, 2) := dk_21 7 (dk_at dksX2_walk_2 15 rfl rfl)
theorem dX2_walk_62 : decode cX2_walk 62 = .ok (.iload_n 3, 1) := dk_29 (dk_at dksX2_walk_2 17 rfl rfl)
theorem dX2_walk_63 : decode cX2_walk 63 = .ok (.if_icmp .ge 99, 3) := dk_162 0 99 (dk_at dksX2_walk_2 18 rfl rfl)
theorem dX2_walk_66 : decode cX2_walk 66 = .ok (.iload 6, 2) := dk_21 6 (dk_at dksX2_walk_2 21 rfl rfl)
theorem dX2_walk_68 : decode cX2_walk 68 = .ok (.iconst 0, 1) := dk_3 (dk_at dksX2_walk_2 23 rfl rfl)
theorem dX2_walk_69 : decode cX2_walk 69 = .ok (.aload_n 0, 1) := dk_42 (dk_at dksX2_walk_3 0 rfl rfl)
theorem dX2_walk_70 : decode cX2_walk 70 = .ok (.getfield 21, 3) := dk_180 0 21 (dk_at dksX2_walk_3 1 rfl rfl)
theorem dX2_walk_73 : decode cX2_walk 73 = .ok (.iload_n 1, 1) := dk_27 (dk_at dksX2_walk_3 4 rfl rfl)
theorem dX2_walk_74 : decode cX2_walk 74 = .ok (.iaload, 1) := dk_46 (dk_at dksX2_walk_3 5 rfl rfl)
theorem dX2_walk_75 : decode cX2_walk 75 = .ok (.iconst 1, 1) := dk_4 (dk_at dksX2_walk_3 6 rfl rfl)
theorem dX2_walk_76 : decode cX2_walk 76 = .ok (.isub, 1) := dk_100 (dk_at dksX2_walk_3 7 rfl rfl)
theorem dX2_walk_77 : decode cX2_walk 77 = .ok (.invokestatic 24, 3) := dk_184 0 24 (dk_at dksX2_walk_3 8 rfl rfl)
theorem dX2_walk_80 : decode cX2_walk 80 = .ok (.ifCond .eq 82, 3) := dk_153 0 82 (dk_at dksX2_walk_3 11 rfl rfl)
theorem dX2_walk_83 : decode cX2_walk 83 = .ok (.new 65, 3) := dk_187 0 65 (dk_at dksX2_walk_3 14 rfl rfl)
theorem dX2_walk_86 : decode cX2_walk 86 = .ok (.dup, 1) := dk_89 (dk_at dksX2_walk_3 17 rfl rfl)
theorem dX2_walk_87 : decode cX2_walk 87 = .ok (.invokespecial 67, 3) := dk_183 0 67 (dk_at dksX2_walk_3 18 rfl rfl)
theorem dX2_walk_90 : decode cX2_walk 90 = .ok (.aload 5, 2) := dk_25 5 (dk_at dksX2_walk_3 21 rfl rfl)
theorem dX2_walk_92 : decode cX2_walk 92 = .ok (.invokevirtual 70, 3) := dk_182 0 70 (dk_at dksX2_walk_4 0 rfl rfl)
theorem dX2_walk_95 : decode cX2_walk 95 = .ok (.aload 5, 2) := dk_25 5 (dk_at dksX2_walk_4 3 rfl rfl)
theorem dX2_walk_97 : decode cX2_walk 97 = .ok (.invokevirtual 99, 3) := dk_182 0 99 (dk_at dksX2_walk_4 5 rfl rfl)
theorem dX2_walk_100 : decode cX2_walk 100 = .ok (.ifCond .eq 8, 3) := dk_153 0 8 (dk_at dksX2_walk_4 8 rfl rfl)
theorem dX2_walk_103 : decode cX2_walk 103 = .ok (.ldc 68, 2) := dk_18 68 (dk_at dksX2_walk_4 11 rfl rfl)
theorem dX2_walk_105 : decode cX2_walk 105 = .ok (.goto 5, 3) := dk_167 0 5 (dk_at dksX2_walk_4 13 rfl rfl)
theorem dX2_walk_108 : decode cX2_walk 108 = .ok (.ldc 109, 2) := dk_18 109 (dk_at dksX2_walk_4 16 rfl rfl)
theorem dX2_walk_110 : decode cX2_walk 110 = .ok (.invokevirtual 70, 3) := dk_182 0 70 (dk_at dksX2_walk_4 18 rfl rfl)
theorem dX2_walk_113 : decode cX2_walk 113 = .ok (.iload 6, 2) := dk_21 6 (dk_at dksX2_walk_4 21 rfl rfl)
theorem dX2_walk_115 : decode cX2_walk 115 = .ok (.invokevirtual 74, 3) := dk_182 0 74 (dk_at dksX2_walk_5 0 rfl rfl)
theorem dX2_walk_118 : decode cX2_walk 118 = .ok (.ldc 138, 2) := dk_18 138 (dk_at dksX2_walk_5 3 rfl rfl)
theorem dX2_walk_120 : decode cX2_walk 120 = .ok (.invokevirtual 70, 3) := dk_182 0 70 (dk_at dksX2_walk_5 5 rfl rfl)
theorem dX2_walk_123 : decode cX2_walk 123 = .ok (.aload_n 0, 1) := dk_42 (dk_at dksX2_walk_5 8 rfl rfl)
theorem dX2_walk_124 : decode cX2_walk 124 = .ok (.iload_n 1, 1) := dk_27 (dk_at dksX2_walk_5 9 rfl rfl)
theorem dX2_walk_125 : decode cX2_walk 125 = .ok (.iload 6, 2) := dk_21 6 (dk_at dksX2_walk_5 10 rfl rfl)
theorem dX2_walk_127 : decode cX2_walk 127 = .ok (.invokevirtual 36, 3) := dk_182 0 36 (dk_at dksX2_walk_5 12 rfl rfl)
theorem dX2_walk_130 : decode cX2_walk 130 = .ok (.invokestatic 105, 3) := dk_184 0 105 (dk_at dksX2_walk_5 15 rfl rfl)
theorem dX2_walk_133 : decode cX2_walk 133 = .ok (.invokevirtual 70, 3) := dk_182 0 70 (dk_at dksX2_walk_5 18 rfl rfl)
theorem dX2_walk_136 : decode cX2_walk 136 = .ok (.invokevirtual 77, 3) := dk_182 0 77 (dk_at dksX2_walk_5 21 rfl rfl)
theorem dX2_walk_139 : decode cX2_walk 139 = .ok (.astore 5, 2) := dk_58 5 (dk_at dksX2_walk_6 0 rfl rfl)
theorem dX2_walk_141 : decode cX2_walk 141 = .ok (.iload 6, 2) := dk_21 6 (dk_at dksX2_walk_6 2 rfl rfl)
theorem dX2_walk_143 : decode cX2_walk 143 = .ok (.iload 4, 2) := dk_21 4 (dk_at dksX2_walk_6 4 rfl rfl)
theorem dX2_walk_145 : decode cX2_walk 145 = .ok (.ifCond .eq 7, 3) := dk_153 0 7 (dk_at dksX2_walk_6 6 rfl rfl)
theorem dX2_walk_148 : decode cX2_walk 148 = .ok (.iconst (-1), 1) := dk_2 (dk_at dksX2_walk_6 9 rfl rfl)
theorem dX2_walk_149 : decode cX2_walk 149 = .ok (.goto 4, 3) := dk_167 0 4 (dk_at dksX2_walk_6 10 rfl rfl)
theorem dX2_walk_152 : decode cX2_walk 152 = .ok (.iconst 1, 1) := dk_4 (dk_at dksX2_walk_6 13 rfl rfl)
theorem dX2_walk_153 : decode cX2_walk 153 = .ok (.iadd, 1) := dk_96 (dk_at dksX2_walk_6 14 rfl rfl)
theorem dX2_walk_154 : decode cX2_walk 154 = .ok (.istore 6, 2) := dk_54 6 (dk_at dksX2_walk_6 15 rfl rfl)
theorem dX2_walk_156 : decode cX2_walk 156 = .ok (.iinc 7 1, 3) := dk_132 7 1 (dk_at dksX2_walk_6 17 rfl rfl)
theorem dX2_walk_159 : decode cX2_walk 159 = .ok (.goto (-99), 3) := dk_167 255 157 (dk_at dksX2_walk_6 20 rfl rfl)
theorem dX2_walk_162 : decode cX2_walk 162 = .ok (.aload 5, 2) := dk_25 5 (dk_at dksX2_walk_7 0 rfl rfl)
theorem dX2_walk_164 : decode cX2_walk 164 = .ok (.areturn, 1) := dk_176 (dk_at dksX2_walk_7 2 rfl rfl)
abbrev cX2_isBeyond : ByteArray := prog_8_method_45_code
def yX2_isBeyond : MethodName := ⟨RX2, "isBeyond", "(II)Z"⟩
def dkwX2_isBeyond_1 : List UInt8 := [167, 0, 4, 3, 172]
abbrev dktX2_isBeyond_1 : List UInt8 := dkwX2_isBeyond_1 ++ []
def dkwX2_isBeyond_0 : List UInt8 := [42, 27, 182, 0, 32, 154, 0, 21, 28, 3, 42, 180, 0, 21, 27, 46, 184, 0, 24, 154, 0, 7, 4]
abbrev dktX2_isBeyond_0 : List UInt8 := dkwX2_isBeyond_0 ++ dktX2_isBeyond_1
theorem dksX2_isBeyond_0 : cX2_isBeyond.data.toList.drop 0 = dktX2_isBeyond_0 := by decide +kernel
theorem dksX2_isBeyond_1 : cX2_isBeyond.data.toList.drop 23 = dktX2_isBeyond_1 := dk_seg dksX2_isBeyond_0 23 rfl rfl
theorem dX2_isBeyond_0 : decode cX2_isBeyond 0 = .ok (.aload_n 0, 1) := dk_42 (dk_at dksX2_isBeyond_0 0 rfl rfl)
theorem dX2_isBeyond_1 : decode cX2_isBeyond 1 = .ok (.iload_n 1, 1) := dk_27 (dk_at dksX2_isBeyond_0 1 rfl rfl)
theorem dX2_isBeyond_2 : decode cX2_isBeyond 2 = .ok (.invokevirtual 32, 3) := dk_182 0 32 (dk_at dksX2_isBeyond_0 2 rfl rfl)
theorem dX2_isBeyond_5 : decode cX2_isBeyond 5 = .ok (.ifCond .ne 21, 3) := dk_154 0 21 (dk_at dksX2_isBeyond_0 5 rfl rfl)
theorem dX2_isBeyond_8 : decode cX2_isBeyond 8 = .ok (.iload_n 2, 1) := dk_28 (dk_at dksX2_isBeyond_0 8 rfl rfl)
theorem dX2_isBeyond_9 : decode cX2_isBeyond 9 = .ok (.iconst 0, 1) := dk_3 (dk_at dksX2_isBeyond_0 9 rfl rfl)
theorem dX2_isBeyond_10 : decode cX2_isBeyond 10 = .ok (.aload_n 0, 1) := dk_42 (dk_at dksX2_isBeyond_0 10 rfl rfl)
theorem dX2_isBeyond_11 : decode cX2_isBeyond 11 = .ok (.getfield 21, 3) := dk_180 0 21 (dk_at dksX2_isBeyond_0 11 rfl rfl)
theorem dX2_isBeyond_14 : decode cX2_isBeyond 14 = .ok (.iload_n 1, 1) := dk_27 (dk_at dksX2_isBeyond_0 14 rfl rfl)
theorem dX2_isBeyond_15 : decode cX2_isBeyond 15 = .ok (.iaload, 1) := dk_46 (dk_at dksX2_isBeyond_0 15 rfl rfl)
theorem dX2_isBeyond_16 : decode cX2_isBeyond 16 = .ok (.invokestatic 24, 3) := dk_184 0 24 (dk_at dksX2_isBeyond_0 16 rfl rfl)
theorem dX2_isBeyond_19 : decode cX2_isBeyond 19 = .ok (.ifCond .ne 7, 3) := dk_154 0 7 (dk_at dksX2_isBeyond_0 19 rfl rfl)
theorem dX2_isBeyond_22 : decode cX2_isBeyond 22 = .ok (.iconst 1, 1) := dk_4 (dk_at dksX2_isBeyond_0 22 rfl rfl)
theorem dX2_isBeyond_23 : decode cX2_isBeyond 23 = .ok (.goto 4, 3) := dk_167 0 4 (dk_at dksX2_isBeyond_1 0 rfl rfl)
theorem dX2_isBeyond_26 : decode cX2_isBeyond 26 = .ok (.iconst 0, 1) := dk_3 (dk_at dksX2_isBeyond_1 3 rfl rfl)
theorem dX2_isBeyond_27 : decode cX2_isBeyond 27 = .ok (.ireturn, 1) := dk_172 (dk_at dksX2_isBeyond_1 4 rfl rfl)
abbrev cX2_sum : ByteArray := prog_8_method_48_code
def yX2_sum : MethodName := ⟨RX2, "sum", "(I)I"⟩
def dkwX2_sum_0 : List UInt8 := [42, 42, 27, 182, 0, 32, 3, 182, 0, 81, 153, 0, 7, 3, 167, 0, 8, 42, 27, 182, 0, 140, 172]
abbrev dktX2_sum_0 : List UInt8 := dkwX2_sum_0 ++ []
theorem dksX2_sum_0 : cX2_sum.data.toList.drop 0 = dktX2_sum_0 := by decide +kernel
theorem dX2_sum_0 : decode cX2_sum 0 = .ok (.aload_n 0, 1) := dk_42 (dk_at dksX2_sum_0 0 rfl rfl)
theorem dX2_sum_1 : decode cX2_sum 1 = .ok (.aload_n 0, 1) := dk_42 (dk_at dksX2_sum_0 1 rfl rfl)
theorem dX2_sum_2 : decode cX2_sum 2 = .ok (.iload_n 1, 1) := dk_27 (dk_at dksX2_sum_0 2 rfl rfl)
theorem dX2_sum_3 : decode cX2_sum 3 = .ok (.invokevirtual 32, 3) := dk_182 0 32 (dk_at dksX2_sum_0 3 rfl rfl)
theorem dX2_sum_6 : decode cX2_sum 6 = .ok (.iconst 0, 1) := dk_3 (dk_at dksX2_sum_0 6 rfl rfl)
theorem dX2_sum_7 : decode cX2_sum 7 = .ok (.invokevirtual 81, 3) := dk_182 0 81 (dk_at dksX2_sum_0 7 rfl rfl)
theorem dX2_sum_10 : decode cX2_sum 10 = .ok (.ifCond .eq 7, 3) := dk_153 0 7 (dk_at dksX2_sum_0 10 rfl rfl)
theorem dX2_sum_13 : decode cX2_sum 13 = .ok (.iconst 0, 1) := dk_3 (dk_at dksX2_sum_0 13 rfl rfl)
theorem dX2_sum_14 : decode cX2_sum 14 = .ok (.goto 8, 3) := dk_167 0 8 (dk_at dksX2_sum_0 14 rfl rfl)
theorem dX2_sum_17 : decode cX2_sum 17 = .ok (.aload_n 0, 1) := dk_42 (dk_at dksX2_sum_0 17 rfl rfl)
theorem dX2_sum_18 : decode cX2_sum 18 = .ok (.iload_n 1, 1) := dk_27 (dk_at dksX2_sum_0 18 rfl rfl)
theorem dX2_sum_19 : decode cX2_sum 19 = .ok (.invokevirtual 140, 3) := dk_182 0 140 (dk_at dksX2_sum_0 19 rfl rfl)
theorem dX2_sum_22 : decode cX2_sum 22 = .ok (.ireturn, 1) := dk_172 (dk_at dksX2_sum_0 22 rfl rfl)
abbrev cX2_sumNow : ByteArray := prog_8_method_47_code
def yX2_sumNow : MethodName := ⟨RX2, "sumNow", "(I)I"⟩
def dkwX2_sumNow_2 : List UInt8 := [132, 5, 1, 167, 255, 223, 28, 172]
abbrev dktX2_sumNow_2 : List UInt8 := dkwX2_sumNow_2 ++ []
def dkwX2_sumNow_1 : List UInt8 := [21, 5, 46, 54, 6, 28, 21, 6, 17, 252, 24, 160, 0, 7, 3, 167, 0, 5, 21, 6, 96, 61]
abbrev dktX2_sumNow_1 : List UInt8 := dkwX2_sumNow_1 ++ dktX2_sumNow_2
def dkwX2_sumNow_0 : List UInt8 := [3, 61, 42, 27, 182, 0, 95, 78, 45, 190, 54, 4, 3, 54, 5, 21, 5, 21, 4, 162, 0, 32, 45]
abbrev dktX2_sumNow_0 : List UInt8 := dkwX2_sumNow_0 ++ dktX2_sumNow_1
theorem dksX2_sumNow_0 : cX2_sumNow.data.toList.drop 0 = dktX2_sumNow_0 := by decide +kernel
theorem dksX2_sumNow_1 : cX2_sumNow.data.toList.drop 23 = dktX2_sumNow_1 := dk_seg dksX2_sumNow_0 23 rfl rfl
theorem dksX2_sumNow_2 : cX2_sumNow.data.toList.drop 45 = dktX2_sumNow_2 := dk_seg dksX2_sumNow_1 22 rfl rfl
theorem dX2_sumNow_0 : decode cX2_sumNow 0 = .ok (.iconst 0, 1) := dk_3 (dk_at dksX2_sumNow_0 0 rfl rfl)
theorem dX2_sumNow_1 : decode cX2_sumNow 1 = .ok (.istore_n 2, 1) := dk_61 (dk_at dksX2_sumNow_0 1 rfl rfl)
theorem dX2_sumNow_2 : decode cX2_sumNow 2 = .ok (.aload_n 0, 1) := dk_42 (dk_at dksX2_sumNow_0 2 rfl rfl)
theorem dX2_sumNow_3 : decode cX2_sumNow 3 = .ok (.iload_n 1, 1) := dk_27 (dk_at dksX2_sumNow_0 3 rfl rfl)
theorem dX2_sumNow_4 : decode cX2_sumNow 4 = .ok (.invokevirtual 95, 3) := dk_182 0 95 (dk_at dksX2_sumNow_0 4 rfl rfl)
theorem dX2_sumNow_7 : decode cX2_sumNow 7 = .ok (.astore_n 3, 1) := dk_78 (dk_at dksX2_sumNow_0 7 rfl rfl)
theorem dX2_sumNow_8 : decode cX2_sumNow 8 = .ok (.aload_n 3, 1) := dk_45 (dk_at dksX2_sumNow_0 8 rfl rfl)
theorem dX2_sumNow_9 : decode cX2_sumNow 9 = .ok (.arraylength, 1) := dk_190 (dk_at dksX2_sumNow_0 9 rfl rfl)
theorem dX2_sumNow_10 : decode cX2_sumNow 10 = .ok (.istore 4, 2) := dk_54 4 (dk_at dksX2_sumNow_0 10 rfl rfl)
theorem dX2_sumNow_12 : decode cX2_sumNow 12 = .ok (.iconst 0, 1) := dk_3 (dk_at dksX2_sumNow_0 12 rfl rfl)
theorem dX2_sumNow_13 : decode cX2_sumNow 13 = .ok (.istore 5, 2) := dk_54 5 (dk_at dksX2_sumNow_0 13 rfl rfl)
theorem dX2_sumNow_15 : decode cX2_sumNow 15 = .ok (.iload 5, 2) := dk_21 5 (dk_at dksX2_sumNow_0 15 rfl rfl)
theorem dX2_sumNow_17 : decode cX2_sumNow 17 = .ok (.iload 4, 2) := dk_21 4 (dk_at dksX2_sumNow_0 17 rfl rfl)
theorem dX2_sumNow_19 : decode cX2_sumNow 19 = .ok (.if_icmp .ge 32, 3) := dk_162 0 32 (dk_at dksX2_sumNow_0 19 rfl rfl)
theorem dX2_sumNow_22 : decode cX2_sumNow 22 = .ok (.aload_n 3, 1) := dk_45 (dk_at dksX2_sumNow_0 22 rfl rfl)
theorem dX2_sumNow_23 : decode cX2_sumNow 23 = .ok (.iload 5, 2) := dk_21 5 (dk_at dksX2_sumNow_1 0 rfl rfl)
theorem dX2_sumNow_25 : decode cX2_sumNow 25 = .ok (.iaload, 1) := dk_46 (dk_at dksX2_sumNow_1 2 rfl rfl)
theorem dX2_sumNow_26 : decode cX2_sumNow 26 = .ok (.istore 6, 2) := dk_54 6 (dk_at dksX2_sumNow_1 3 rfl rfl)
theorem dX2_sumNow_28 : decode cX2_sumNow 28 = .ok (.iload_n 2, 1) := dk_28 (dk_at dksX2_sumNow_1 5 rfl rfl)
theorem dX2_sumNow_29 : decode cX2_sumNow 29 = .ok (.iload 6, 2) := dk_21 6 (dk_at dksX2_sumNow_1 6 rfl rfl)
theorem dX2_sumNow_31 : decode cX2_sumNow 31 = .ok (.sipush (-1000), 3) := dk_17 252 24 (dk_at dksX2_sumNow_1 8 rfl rfl)
theorem dX2_sumNow_34 : decode cX2_sumNow 34 = .ok (.if_icmp .ne 7, 3) := dk_160 0 7 (dk_at dksX2_sumNow_1 11 rfl rfl)
theorem dX2_sumNow_37 : decode cX2_sumNow 37 = .ok (.iconst 0, 1) := dk_3 (dk_at dksX2_sumNow_1 14 rfl rfl)
theorem dX2_sumNow_38 : decode cX2_sumNow 38 = .ok (.goto 5, 3) := dk_167 0 5 (dk_at dksX2_sumNow_1 15 rfl rfl)
theorem dX2_sumNow_41 : decode cX2_sumNow 41 = .ok (.iload 6, 2) := dk_21 6 (dk_at dksX2_sumNow_1 18 rfl rfl)
theorem dX2_sumNow_43 : decode cX2_sumNow 43 = .ok (.iadd, 1) := dk_96 (dk_at dksX2_sumNow_1 20 rfl rfl)
theorem dX2_sumNow_44 : decode cX2_sumNow 44 = .ok (.istore_n 2, 1) := dk_61 (dk_at dksX2_sumNow_1 21 rfl rfl)
theorem dX2_sumNow_45 : decode cX2_sumNow 45 = .ok (.iinc 5 1, 3) := dk_132 5 1 (dk_at dksX2_sumNow_2 0 rfl rfl)
theorem dX2_sumNow_48 : decode cX2_sumNow 48 = .ok (.goto (-33), 3) := dk_167 255 223 (dk_at dksX2_sumNow_2 3 rfl rfl)
theorem dX2_sumNow_51 : decode cX2_sumNow 51 = .ok (.iload_n 2, 1) := dk_28 (dk_at dksX2_sumNow_2 6 rfl rfl)
theorem dX2_sumNow_52 : decode cX2_sumNow 52 = .ok (.ireturn, 1) := dk_172 (dk_at dksX2_sumNow_2 7 rfl rfl)
abbrev cX2_walkSet : ByteArray := prog_8_method_51_code
def yX2_walkSet : MethodName := ⟨RX2, "walkSet", "(IIIIZ)I"⟩
def dkwX2_walkSet_2 : List UInt8 := [28, 21, 5, 153, 0, 7, 28, 167, 0, 9, 42, 180, 0, 21, 27, 46, 29, 21, 4, 182, 0, 150, 172]
abbrev dktX2_walkSet_2 : List UInt8 := dkwX2_walkSet_2 ++ []
def dkwX2_walkSet_1 : List UInt8 := [4, 167, 0, 4, 3, 182, 0, 81, 153, 0, 5, 3, 172, 42, 27, 21, 5, 153, 0, 7, 3, 167, 0, 4]
abbrev dktX2_walkSet_1 : List UInt8 := dkwX2_walkSet_1 ++ dktX2_walkSet_2
def dkwX2_walkSet_0 : List UInt8 := [42, 42, 27, 182, 0, 32, 42, 27, 28, 182, 0, 135, 154, 0, 12, 29, 21, 4, 184, 0, 147, 153, 0, 7]
abbrev dktX2_walkSet_0 : List UInt8 := dkwX2_walkSet_0 ++ dktX2_walkSet_1
theorem dksX2_walkSet_0 : cX2_walkSet.data.toList.drop 0 = dktX2_walkSet_0 := by decide +kernel
theorem dksX2_walkSet_1 : cX2_walkSet.data.toList.drop 24 = dktX2_walkSet_1 := dk_seg dksX2_walkSet_0 24 rfl rfl
theorem dksX2_walkSet_2 : cX2_walkSet.data.toList.drop 48 = dktX2_walkSet_2 := dk_seg dksX2_walkSet_1 24 rfl rfl
theorem dX2_walkSet_0 : decode cX2_walkSet 0 = .ok (.aload_n 0, 1) := dk_42 (dk_at dksX2_walkSet_0 0 rfl rfl)
theorem dX2_walkSet_1 : decode cX2_walkSet 1 = .ok (.aload_n 0, 1) := dk_42 (dk_at dksX2_walkSet_0 1 rfl rfl)
theorem dX2_walkSet_2 : decode cX2_walkSet 2 = .ok (.iload_n 1, 1) := dk_27 (dk_at dksX2_walkSet_0 2 rfl rfl)
theorem dX2_walkSet_3 : decode cX2_walkSet 3 = .ok (.invokevirtual 32, 3) := dk_182 0 32 (dk_at dksX2_walkSet_0 3 rfl rfl)
theorem dX2_walkSet_6 : decode cX2_walkSet 6 = .ok (.aload_n 0, 1) := dk_42 (dk_at dksX2_walkSet_0 6 rfl rfl)
theorem dX2_walkSet_7 : decode cX2_walkSet 7 = .ok (.iload_n 1, 1) := dk_27 (dk_at dksX2_walkSet_0 7 rfl rfl)
theorem dX2_walkSet_8 : decode cX2_walkSet 8 = .ok (.iload_n 2, 1) := dk_28 (dk_at dksX2_walkSet_0 8 rfl rfl)
theorem dX2_walkSet_9 : decode cX2_walkSet 9 = .ok (.invokevirtual 135, 3) := dk_182 0 135 (dk_at dksX2_walkSet_0 9 rfl rfl)
theorem dX2_walkSet_12 : decode cX2_walkSet 12 = .ok (.ifCond .ne 12, 3) := dk_154 0 12 (dk_at dksX2_walkSet_0 12 rfl rfl)
theorem dX2_walkSet_15 : decode cX2_walkSet 15 = .ok (.iload_n 3, 1) := dk_29 (dk_at dksX2_walkSet_0 15 rfl rfl)
theorem dX2_walkSet_16 : decode cX2_walkSet 16 = .ok (.iload 4, 2) := dk_21 4 (dk_at dksX2_walkSet_0 16 rfl rfl)
theorem dX2_walkSet_18 : decode cX2_walkSet 18 = .ok (.invokestatic 147, 3) := dk_184 0 147 (dk_at dksX2_walkSet_0 18 rfl rfl)
theorem dX2_walkSet_21 : decode cX2_walkSet 21 = .ok (.ifCond .eq 7, 3) := dk_153 0 7 (dk_at dksX2_walkSet_0 21 rfl rfl)
theorem dX2_walkSet_24 : decode cX2_walkSet 24 = .ok (.iconst 1, 1) := dk_4 (dk_at dksX2_walkSet_1 0 rfl rfl)
theorem dX2_walkSet_25 : decode cX2_walkSet 25 = .ok (.goto 4, 3) := dk_167 0 4 (dk_at dksX2_walkSet_1 1 rfl rfl)
theorem dX2_walkSet_28 : decode cX2_walkSet 28 = .ok (.iconst 0, 1) := dk_3 (dk_at dksX2_walkSet_1 4 rfl rfl)
theorem dX2_walkSet_29 : decode cX2_walkSet 29 = .ok (.invokevirtual 81, 3) := dk_182 0 81 (dk_at dksX2_walkSet_1 5 rfl rfl)
theorem dX2_walkSet_32 : decode cX2_walkSet 32 = .ok (.ifCond .eq 5, 3) := dk_153 0 5 (dk_at dksX2_walkSet_1 8 rfl rfl)
theorem dX2_walkSet_35 : decode cX2_walkSet 35 = .ok (.iconst 0, 1) := dk_3 (dk_at dksX2_walkSet_1 11 rfl rfl)
theorem dX2_walkSet_36 : decode cX2_walkSet 36 = .ok (.ireturn, 1) := dk_172 (dk_at dksX2_walkSet_1 12 rfl rfl)
theorem dX2_walkSet_37 : decode cX2_walkSet 37 = .ok (.aload_n 0, 1) := dk_42 (dk_at dksX2_walkSet_1 13 rfl rfl)
theorem dX2_walkSet_38 : decode cX2_walkSet 38 = .ok (.iload_n 1, 1) := dk_27 (dk_at dksX2_walkSet_1 14 rfl rfl)
theorem dX2_walkSet_39 : decode cX2_walkSet 39 = .ok (.iload 5, 2) := dk_21 5 (dk_at dksX2_walkSet_1 15 rfl rfl)
theorem dX2_walkSet_41 : decode cX2_walkSet 41 = .ok (.ifCond .eq 7, 3) := dk_153 0 7 (dk_at dksX2_walkSet_1 17 rfl rfl)
theorem dX2_walkSet_44 : decode cX2_walkSet 44 = .ok (.iconst 0, 1) := dk_3 (dk_at dksX2_walkSet_1 20 rfl rfl)
theorem dX2_walkSet_45 : decode cX2_walkSet 45 = .ok (.goto 4, 3) := dk_167 0 4 (dk_at dksX2_walkSet_1 21 rfl rfl)
theorem dX2_walkSet_48 : decode cX2_walkSet 48 = .ok (.iload_n 2, 1) := dk_28 (dk_at dksX2_walkSet_2 0 rfl rfl)
theorem dX2_walkSet_49 : decode cX2_walkSet 49 = .ok (.iload 5, 2) := dk_21 5 (dk_at dksX2_walkSet_2 1 rfl rfl)
theorem dX2_walkSet_51 : decode cX2_walkSet 51 = .ok (.ifCond .eq 7, 3) := dk_153 0 7 (dk_at dksX2_walkSet_2 3 rfl rfl)
theorem dX2_walkSet_54 : decode cX2_walkSet 54 = .ok (.iload_n 2, 1) := dk_28 (dk_at dksX2_walkSet_2 6 rfl rfl)
theorem dX2_walkSet_55 : decode cX2_walkSet 55 = .ok (.goto 9, 3) := dk_167 0 9 (dk_at dksX2_walkSet_2 7 rfl rfl)
theorem dX2_walkSet_58 : decode cX2_walkSet 58 = .ok (.aload_n 0, 1) := dk_42 (dk_at dksX2_walkSet_2 10 rfl rfl)
theorem dX2_walkSet_59 : decode cX2_walkSet 59 = .ok (.getfield 21, 3) := dk_180 0 21 (dk_at dksX2_walkSet_2 11 rfl rfl)
theorem dX2_walkSet_62 : decode cX2_walkSet 62 = .ok (.iload_n 1, 1) := dk_27 (dk_at dksX2_walkSet_2 14 rfl rfl)
theorem dX2_walkSet_63 : decode cX2_walkSet 63 = .ok (.iaload, 1) := dk_46 (dk_at dksX2_walkSet_2 15 rfl rfl)
theorem dX2_walkSet_64 : decode cX2_walkSet 64 = .ok (.iload_n 3, 1) := dk_29 (dk_at dksX2_walkSet_2 16 rfl rfl)
theorem dX2_walkSet_65 : decode cX2_walkSet 65 = .ok (.iload 4, 2) := dk_21 4 (dk_at dksX2_walkSet_2 17 rfl rfl)
theorem dX2_walkSet_67 : decode cX2_walkSet 67 = .ok (.invokevirtual 150, 3) := dk_182 0 150 (dk_at dksX2_walkSet_2 19 rfl rfl)
theorem dX2_walkSet_70 : decode cX2_walkSet 70 = .ok (.ireturn, 1) := dk_172 (dk_at dksX2_walkSet_2 22 rfl rfl)
abbrev cX2_isNoRule : ByteArray := prog_8_method_49_code
def yX2_isNoRule : MethodName := ⟨RX2, "isNoRule", "(II)Z"⟩
def dkwX2_isNoRule_1 : List UInt8 := [3, 172]
abbrev dktX2_isNoRule_1 : List UInt8 := dkwX2_isNoRule_1 ++ []
def dkwX2_isNoRule_0 : List UInt8 := [26, 3, 6, 184, 0, 24, 153, 0, 14, 27, 16, 157, 16, 99, 184, 0, 24, 154, 0, 7, 4, 167, 0, 4]
abbrev dktX2_isNoRule_0 : List UInt8 := dkwX2_isNoRule_0 ++ dktX2_isNoRule_1
theorem dksX2_isNoRule_0 : cX2_isNoRule.data.toList.drop 0 = dktX2_isNoRule_0 := by decide +kernel
theorem dksX2_isNoRule_1 : cX2_isNoRule.data.toList.drop 24 = dktX2_isNoRule_1 := dk_seg dksX2_isNoRule_0 24 rfl rfl
theorem dX2_isNoRule_0 : decode cX2_isNoRule 0 = .ok (.iload_n 0, 1) := dk_26 (dk_at dksX2_isNoRule_0 0 rfl rfl)
theorem dX2_isNoRule_1 : decode cX2_isNoRule 1 = .ok (.iconst 0, 1) := dk_3 (dk_at dksX2_isNoRule_0 1 rfl rfl)
theorem dX2_isNoRule_2 : decode cX2_isNoRule 2 = .ok (.iconst 3, 1) := dk_6 (dk_at dksX2_isNoRule_0 2 rfl rfl)
theorem dX2_isNoRule_3 : decode cX2_isNoRule 3 = .ok (.invokestatic 24, 3) := dk_184 0 24 (dk_at dksX2_isNoRule_0 3 rfl rfl)
theorem dX2_isNoRule_6 : decode cX2_isNoRule 6 = .ok (.ifCond .eq 14, 3) := dk_153 0 14 (dk_at dksX2_isNoRule_0 6 rfl rfl)
theorem dX2_isNoRule_9 : decode cX2_isNoRule 9 = .ok (.iload_n 1, 1) := dk_27 (dk_at dksX2_isNoRule_0 9 rfl rfl)
theorem dX2_isNoRule_10 : decode cX2_isNoRule 10 = .ok (.bipush (-99), 2) := dk_16 157 (dk_at dksX2_isNoRule_0 10 rfl rfl)
theorem dX2_isNoRule_12 : decode cX2_isNoRule 12 = .ok (.bipush 99, 2) := dk_16 99 (dk_at dksX2_isNoRule_0 12 rfl rfl)
theorem dX2_isNoRule_14 : decode cX2_isNoRule 14 = .ok (.invokestatic 24, 3) := dk_184 0 24 (dk_at dksX2_isNoRule_0 14 rfl rfl)
theorem dX2_isNoRule_17 : decode cX2_isNoRule 17 = .ok (.ifCond .ne 7, 3) := dk_154 0 7 (dk_at dksX2_isNoRule_0 17 rfl rfl)
theorem dX2_isNoRule_20 : decode cX2_isNoRule 20 = .ok (.iconst 1, 1) := dk_4 (dk_at dksX2_isNoRule_0 20 rfl rfl)
theorem dX2_isNoRule_21 : decode cX2_isNoRule 21 = .ok (.goto 4, 3) := dk_167 0 4 (dk_at dksX2_isNoRule_0 21 rfl rfl)
theorem dX2_isNoRule_24 : decode cX2_isNoRule 24 = .ok (.iconst 0, 1) := dk_3 (dk_at dksX2_isNoRule_1 0 rfl rfl)
theorem dX2_isNoRule_25 : decode cX2_isNoRule 25 = .ok (.ireturn, 1) := dk_172 (dk_at dksX2_isNoRule_1 1 rfl rfl)
abbrev cX2_ruledAll : ByteArray := prog_8_method_50_code
def yX2_ruledAll : MethodName := ⟨RX2, "ruledAll", "(IIIII)I"⟩
def dkwX2_ruledAll_1 : List UInt8 := [184, 0, 143, 182, 0, 40, 132, 6, 1, 167, 255, 226, 29, 28, 100, 172]
abbrev dktX2_ruledAll_1 : List UInt8 := dkwX2_ruledAll_1 ++ []
def dkwX2_ruledAll_0 : List UInt8 := [28, 54, 6, 21, 6, 29, 162, 0, 30, 42, 27, 21, 6, 21, 4, 42, 27, 21, 6, 182, 0, 36, 21, 5]
abbrev dktX2_ruledAll_0 : List UInt8 := dkwX2_ruledAll_0 ++ dktX2_ruledAll_1
theorem dksX2_ruledAll_0 : cX2_ruledAll.data.toList.drop 0 = dktX2_ruledAll_0 := by decide +kernel
theorem dksX2_ruledAll_1 : cX2_ruledAll.data.toList.drop 24 = dktX2_ruledAll_1 := dk_seg dksX2_ruledAll_0 24 rfl rfl
theorem dX2_ruledAll_0 : decode cX2_ruledAll 0 = .ok (.iload_n 2, 1) := dk_28 (dk_at dksX2_ruledAll_0 0 rfl rfl)
theorem dX2_ruledAll_1 : decode cX2_ruledAll 1 = .ok (.istore 6, 2) := dk_54 6 (dk_at dksX2_ruledAll_0 1 rfl rfl)
theorem dX2_ruledAll_3 : decode cX2_ruledAll 3 = .ok (.iload 6, 2) := dk_21 6 (dk_at dksX2_ruledAll_0 3 rfl rfl)
theorem dX2_ruledAll_5 : decode cX2_ruledAll 5 = .ok (.iload_n 3, 1) := dk_29 (dk_at dksX2_ruledAll_0 5 rfl rfl)
theorem dX2_ruledAll_6 : decode cX2_ruledAll 6 = .ok (.if_icmp .ge 30, 3) := dk_162 0 30 (dk_at dksX2_ruledAll_0 6 rfl rfl)
theorem dX2_ruledAll_9 : decode cX2_ruledAll 9 = .ok (.aload_n 0, 1) := dk_42 (dk_at dksX2_ruledAll_0 9 rfl rfl)
theorem dX2_ruledAll_10 : decode cX2_ruledAll 10 = .ok (.iload_n 1, 1) := dk_27 (dk_at dksX2_ruledAll_0 10 rfl rfl)
theorem dX2_ruledAll_11 : decode cX2_ruledAll 11 = .ok (.iload 6, 2) := dk_21 6 (dk_at dksX2_ruledAll_0 11 rfl rfl)
theorem dX2_ruledAll_13 : decode cX2_ruledAll 13 = .ok (.iload 4, 2) := dk_21 4 (dk_at dksX2_ruledAll_0 13 rfl rfl)
theorem dX2_ruledAll_15 : decode cX2_ruledAll 15 = .ok (.aload_n 0, 1) := dk_42 (dk_at dksX2_ruledAll_0 15 rfl rfl)
theorem dX2_ruledAll_16 : decode cX2_ruledAll 16 = .ok (.iload_n 1, 1) := dk_27 (dk_at dksX2_ruledAll_0 16 rfl rfl)
theorem dX2_ruledAll_17 : decode cX2_ruledAll 17 = .ok (.iload 6, 2) := dk_21 6 (dk_at dksX2_ruledAll_0 17 rfl rfl)
theorem dX2_ruledAll_19 : decode cX2_ruledAll 19 = .ok (.invokevirtual 36, 3) := dk_182 0 36 (dk_at dksX2_ruledAll_0 19 rfl rfl)
theorem dX2_ruledAll_22 : decode cX2_ruledAll 22 = .ok (.iload 5, 2) := dk_21 5 (dk_at dksX2_ruledAll_0 22 rfl rfl)
theorem dX2_ruledAll_24 : decode cX2_ruledAll 24 = .ok (.invokestatic 143, 3) := dk_184 0 143 (dk_at dksX2_ruledAll_1 0 rfl rfl)
theorem dX2_ruledAll_27 : decode cX2_ruledAll 27 = .ok (.invokevirtual 40, 3) := dk_182 0 40 (dk_at dksX2_ruledAll_1 3 rfl rfl)
theorem dX2_ruledAll_30 : decode cX2_ruledAll 30 = .ok (.iinc 6 1, 3) := dk_132 6 1 (dk_at dksX2_ruledAll_1 6 rfl rfl)
theorem dX2_ruledAll_33 : decode cX2_ruledAll 33 = .ok (.goto (-30), 3) := dk_167 255 226 (dk_at dksX2_ruledAll_1 9 rfl rfl)
theorem dX2_ruledAll_36 : decode cX2_ruledAll 36 = .ok (.iload_n 3, 1) := dk_29 (dk_at dksX2_ruledAll_1 12 rfl rfl)
theorem dX2_ruledAll_37 : decode cX2_ruledAll 37 = .ok (.iload_n 2, 1) := dk_28 (dk_at dksX2_ruledAll_1 13 rfl rfl)
theorem dX2_ruledAll_38 : decode cX2_ruledAll 38 = .ok (.isub, 1) := dk_100 (dk_at dksX2_ruledAll_1 14 rfl rfl)
theorem dX2_ruledAll_39 : decode cX2_ruledAll 39 = .ok (.ireturn, 1) := dk_172 (dk_at dksX2_ruledAll_1 15 rfl rfl)
abbrev cX2_ruled : ByteArray := prog_8_method_16_code
def yX2_ruled : MethodName := ⟨RX2, "ruled", "(III)I"⟩
def dkwX2_ruled_2 : List UInt8 := [28, 160, 0, 9, 17, 252, 24, 167, 0, 4, 29, 172]
abbrev dktX2_ruled_2 : List UInt8 := dkwX2_ruled_2 ++ []
def dkwX2_ruled_1 : List UInt8 := [26, 4, 160, 0, 9, 29, 28, 184, 0, 52, 172, 26, 5, 160, 0, 10, 29, 28, 104, 184, 0, 55, 172, 29]
abbrev dktX2_ruled_1 : List UInt8 := dkwX2_ruled_1 ++ dktX2_ruled_2
def dkwX2_ruled_0 : List UInt8 := [27, 17, 252, 24, 160, 0, 7, 3, 167, 0, 4, 27, 62, 26, 154, 0, 10, 29, 28, 96, 184, 0, 55, 172]
abbrev dktX2_ruled_0 : List UInt8 := dkwX2_ruled_0 ++ dktX2_ruled_1
theorem dksX2_ruled_0 : cX2_ruled.data.toList.drop 0 = dktX2_ruled_0 := by decide +kernel
theorem dksX2_ruled_1 : cX2_ruled.data.toList.drop 24 = dktX2_ruled_1 := dk_seg dksX2_ruled_0 24 rfl rfl
theorem dksX2_ruled_2 : cX2_ruled.data.toList.drop 48 = dktX2_ruled_2 := dk_seg dksX2_ruled_1 24 rfl rfl
theorem dX2_ruled_0 : decode cX2_ruled 0 = .ok (.iload_n 1, 1) := dk_27 (dk_at dksX2_ruled_0 0 rfl rfl)
theorem dX2_ruled_1 : decode cX2_ruled 1 = .ok (.sipush (-1000), 3) := dk_17 252 24 (dk_at dksX2_ruled_0 1 rfl rfl)
theorem dX2_ruled_4 : decode cX2_ruled 4 = .ok (.if_icmp .ne 7, 3) := dk_160 0 7 (dk_at dksX2_ruled_0 4 rfl rfl)
theorem dX2_ruled_7 : decode cX2_ruled 7 = .ok (.iconst 0, 1) := dk_3 (dk_at dksX2_ruled_0 7 rfl rfl)
theorem dX2_ruled_8 : decode cX2_ruled 8 = .ok (.goto 4, 3) := dk_167 0 4 (dk_at dksX2_ruled_0 8 rfl rfl)
theorem dX2_ruled_11 : decode cX2_ruled 11 = .ok (.iload_n 1, 1) := dk_27 (dk_at dksX2_ruled_0 11 rfl rfl)
theorem dX2_ruled_12 : decode cX2_ruled 12 = .ok (.istore_n 3, 1) := dk_62 (dk_at dksX2_ruled_0 12 rfl rfl)
theorem dX2_ruled_13 : decode cX2_ruled 13 = .ok (.iload_n 0, 1) := dk_26 (dk_at dksX2_ruled_0 13 rfl rfl)
theorem dX2_ruled_14 : decode cX2_ruled 14 = .ok (.ifCond .ne 10, 3) := dk_154 0 10 (dk_at dksX2_ruled_0 14 rfl rfl)
theorem dX2_ruled_17 : decode cX2_ruled 17 = .ok (.iload_n 3, 1) := dk_29 (dk_at dksX2_ruled_0 17 rfl rfl)
theorem dX2_ruled_18 : decode cX2_ruled 18 = .ok (.iload_n 2, 1) := dk_28 (dk_at dksX2_ruled_0 18 rfl rfl)
theorem dX2_ruled_19 : decode cX2_ruled 19 = .ok (.iadd, 1) := dk_96 (dk_at dksX2_ruled_0 19 rfl rfl)
theorem dX2_ruled_20 : decode cX2_ruled 20 = .ok (.invokestatic 55, 3) := dk_184 0 55 (dk_at dksX2_ruled_0 20 rfl rfl)
theorem dX2_ruled_23 : decode cX2_ruled 23 = .ok (.ireturn, 1) := dk_172 (dk_at dksX2_ruled_0 23 rfl rfl)
theorem dX2_ruled_24 : decode cX2_ruled 24 = .ok (.iload_n 0, 1) := dk_26 (dk_at dksX2_ruled_1 0 rfl rfl)
theorem dX2_ruled_25 : decode cX2_ruled 25 = .ok (.iconst 1, 1) := dk_4 (dk_at dksX2_ruled_1 1 rfl rfl)
theorem dX2_ruled_26 : decode cX2_ruled 26 = .ok (.if_icmp .ne 9, 3) := dk_160 0 9 (dk_at dksX2_ruled_1 2 rfl rfl)
theorem dX2_ruled_29 : decode cX2_ruled 29 = .ok (.iload_n 3, 1) := dk_29 (dk_at dksX2_ruled_1 5 rfl rfl)
theorem dX2_ruled_30 : decode cX2_ruled 30 = .ok (.iload_n 2, 1) := dk_28 (dk_at dksX2_ruled_1 6 rfl rfl)
theorem dX2_ruled_31 : decode cX2_ruled 31 = .ok (.invokestatic 52, 3) := dk_184 0 52 (dk_at dksX2_ruled_1 7 rfl rfl)
theorem dX2_ruled_34 : decode cX2_ruled 34 = .ok (.ireturn, 1) := dk_172 (dk_at dksX2_ruled_1 10 rfl rfl)
theorem dX2_ruled_35 : decode cX2_ruled 35 = .ok (.iload_n 0, 1) := dk_26 (dk_at dksX2_ruled_1 11 rfl rfl)
theorem dX2_ruled_36 : decode cX2_ruled 36 = .ok (.iconst 2, 1) := dk_5 (dk_at dksX2_ruled_1 12 rfl rfl)
theorem dX2_ruled_37 : decode cX2_ruled 37 = .ok (.if_icmp .ne 10, 3) := dk_160 0 10 (dk_at dksX2_ruled_1 13 rfl rfl)
theorem dX2_ruled_40 : decode cX2_ruled 40 = .ok (.iload_n 3, 1) := dk_29 (dk_at dksX2_ruled_1 16 rfl rfl)
theorem dX2_ruled_41 : decode cX2_ruled 41 = .ok (.iload_n 2, 1) := dk_28 (dk_at dksX2_ruled_1 17 rfl rfl)
theorem dX2_ruled_42 : decode cX2_ruled 42 = .ok (.imul, 1) := dk_104 (dk_at dksX2_ruled_1 18 rfl rfl)
theorem dX2_ruled_43 : decode cX2_ruled 43 = .ok (.invokestatic 55, 3) := dk_184 0 55 (dk_at dksX2_ruled_1 19 rfl rfl)
theorem dX2_ruled_46 : decode cX2_ruled 46 = .ok (.ireturn, 1) := dk_172 (dk_at dksX2_ruled_1 22 rfl rfl)
theorem dX2_ruled_47 : decode cX2_ruled 47 = .ok (.iload_n 3, 1) := dk_29 (dk_at dksX2_ruled_1 23 rfl rfl)
theorem dX2_ruled_48 : decode cX2_ruled 48 = .ok (.iload_n 2, 1) := dk_28 (dk_at dksX2_ruled_2 0 rfl rfl)
theorem dX2_ruled_49 : decode cX2_ruled 49 = .ok (.if_icmp .ne 9, 3) := dk_160 0 9 (dk_at dksX2_ruled_2 1 rfl rfl)
theorem dX2_ruled_52 : decode cX2_ruled 52 = .ok (.sipush (-1000), 3) := dk_17 252 24 (dk_at dksX2_ruled_2 4 rfl rfl)
theorem dX2_ruled_55 : decode cX2_ruled 55 = .ok (.goto 4, 3) := dk_167 0 4 (dk_at dksX2_ruled_2 7 rfl rfl)
theorem dX2_ruled_58 : decode cX2_ruled 58 = .ok (.iload_n 3, 1) := dk_29 (dk_at dksX2_ruled_2 10 rfl rfl)
theorem dX2_ruled_59 : decode cX2_ruled 59 = .ok (.ireturn, 1) := dk_172 (dk_at dksX2_ruled_2 11 rfl rfl)
abbrev cX2_bounded : ByteArray := prog_8_method_15_code
def yX2_bounded : MethodName := ⟨RX2, "bounded", "(I)I"⟩
def dkwX2_bounded_0 : List UInt8 := [16, 157, 16, 99, 26, 184, 0, 47, 184, 0, 52, 172]
abbrev dktX2_bounded_0 : List UInt8 := dkwX2_bounded_0 ++ []
theorem dksX2_bounded_0 : cX2_bounded.data.toList.drop 0 = dktX2_bounded_0 := by decide +kernel
theorem dX2_bounded_0 : decode cX2_bounded 0 = .ok (.bipush (-99), 2) := dk_16 157 (dk_at dksX2_bounded_0 0 rfl rfl)
theorem dX2_bounded_2 : decode cX2_bounded 2 = .ok (.bipush 99, 2) := dk_16 99 (dk_at dksX2_bounded_0 2 rfl rfl)
theorem dX2_bounded_4 : decode cX2_bounded 4 = .ok (.iload_n 0, 1) := dk_26 (dk_at dksX2_bounded_0 4 rfl rfl)
theorem dX2_bounded_5 : decode cX2_bounded 5 = .ok (.invokestatic 47, 3) := dk_184 0 47 (dk_at dksX2_bounded_0 5 rfl rfl)
theorem dX2_bounded_8 : decode cX2_bounded 8 = .ok (.invokestatic 52, 3) := dk_184 0 52 (dk_at dksX2_bounded_0 8 rfl rfl)
theorem dX2_bounded_11 : decode cX2_bounded 11 = .ok (.ireturn, 1) := dk_172 (dk_at dksX2_bounded_0 11 rfl rfl)
abbrev cX2_replaceAll : ByteArray := prog_8_method_52_code
def yX2_replaceAll : MethodName := ⟨RX2, "replaceAll", "(III)I"⟩
def dkwX2_replaceAll_1 : List UInt8 := [42, 180, 0, 21, 27, 46, 28, 29, 182, 0, 150, 172]
abbrev dktX2_replaceAll_1 : List UInt8 := dkwX2_replaceAll_1 ++ []
def dkwX2_replaceAll_0 : List UInt8 := [42, 42, 27, 182, 0, 32, 28, 29, 184, 0, 147, 182, 0, 81, 153, 0, 7, 3, 167, 0, 17, 42, 27, 3]
abbrev dktX2_replaceAll_0 : List UInt8 := dkwX2_replaceAll_0 ++ dktX2_replaceAll_1
theorem dksX2_replaceAll_0 : cX2_replaceAll.data.toList.drop 0 = dktX2_replaceAll_0 := by decide +kernel
theorem dksX2_replaceAll_1 : cX2_replaceAll.data.toList.drop 24 = dktX2_replaceAll_1 := dk_seg dksX2_replaceAll_0 24 rfl rfl
theorem dX2_replaceAll_0 : decode cX2_replaceAll 0 = .ok (.aload_n 0, 1) := dk_42 (dk_at dksX2_replaceAll_0 0 rfl rfl)
theorem dX2_replaceAll_1 : decode cX2_replaceAll 1 = .ok (.aload_n 0, 1) := dk_42 (dk_at dksX2_replaceAll_0 1 rfl rfl)
theorem dX2_replaceAll_2 : decode cX2_replaceAll 2 = .ok (.iload_n 1, 1) := dk_27 (dk_at dksX2_replaceAll_0 2 rfl rfl)
theorem dX2_replaceAll_3 : decode cX2_replaceAll 3 = .ok (.invokevirtual 32, 3) := dk_182 0 32 (dk_at dksX2_replaceAll_0 3 rfl rfl)
theorem dX2_replaceAll_6 : decode cX2_replaceAll 6 = .ok (.iload_n 2, 1) := dk_28 (dk_at dksX2_replaceAll_0 6 rfl rfl)
theorem dX2_replaceAll_7 : decode cX2_replaceAll 7 = .ok (.iload_n 3, 1) := dk_29 (dk_at dksX2_replaceAll_0 7 rfl rfl)
theorem dX2_replaceAll_8 : decode cX2_replaceAll 8 = .ok (.invokestatic 147, 3) := dk_184 0 147 (dk_at dksX2_replaceAll_0 8 rfl rfl)
theorem dX2_replaceAll_11 : decode cX2_replaceAll 11 = .ok (.invokevirtual 81, 3) := dk_182 0 81 (dk_at dksX2_replaceAll_0 11 rfl rfl)
theorem dX2_replaceAll_14 : decode cX2_replaceAll 14 = .ok (.ifCond .eq 7, 3) := dk_153 0 7 (dk_at dksX2_replaceAll_0 14 rfl rfl)
theorem dX2_replaceAll_17 : decode cX2_replaceAll 17 = .ok (.iconst 0, 1) := dk_3 (dk_at dksX2_replaceAll_0 17 rfl rfl)
theorem dX2_replaceAll_18 : decode cX2_replaceAll 18 = .ok (.goto 17, 3) := dk_167 0 17 (dk_at dksX2_replaceAll_0 18 rfl rfl)
theorem dX2_replaceAll_21 : decode cX2_replaceAll 21 = .ok (.aload_n 0, 1) := dk_42 (dk_at dksX2_replaceAll_0 21 rfl rfl)
theorem dX2_replaceAll_22 : decode cX2_replaceAll 22 = .ok (.iload_n 1, 1) := dk_27 (dk_at dksX2_replaceAll_0 22 rfl rfl)
theorem dX2_replaceAll_23 : decode cX2_replaceAll 23 = .ok (.iconst 0, 1) := dk_3 (dk_at dksX2_replaceAll_0 23 rfl rfl)
theorem dX2_replaceAll_24 : decode cX2_replaceAll 24 = .ok (.aload_n 0, 1) := dk_42 (dk_at dksX2_replaceAll_1 0 rfl rfl)
theorem dX2_replaceAll_25 : decode cX2_replaceAll 25 = .ok (.getfield 21, 3) := dk_180 0 21 (dk_at dksX2_replaceAll_1 1 rfl rfl)
theorem dX2_replaceAll_28 : decode cX2_replaceAll 28 = .ok (.iload_n 1, 1) := dk_27 (dk_at dksX2_replaceAll_1 4 rfl rfl)
theorem dX2_replaceAll_29 : decode cX2_replaceAll 29 = .ok (.iaload, 1) := dk_46 (dk_at dksX2_replaceAll_1 5 rfl rfl)
theorem dX2_replaceAll_30 : decode cX2_replaceAll 30 = .ok (.iload_n 2, 1) := dk_28 (dk_at dksX2_replaceAll_1 6 rfl rfl)
theorem dX2_replaceAll_31 : decode cX2_replaceAll 31 = .ok (.iload_n 3, 1) := dk_29 (dk_at dksX2_replaceAll_1 7 rfl rfl)
theorem dX2_replaceAll_32 : decode cX2_replaceAll 32 = .ok (.invokevirtual 150, 3) := dk_182 0 150 (dk_at dksX2_replaceAll_1 8 rfl rfl)
theorem dX2_replaceAll_35 : decode cX2_replaceAll 35 = .ok (.ireturn, 1) := dk_172 (dk_at dksX2_replaceAll_1 11 rfl rfl)
abbrev cX2_replaceOld : ByteArray := prog_8_method_53_code
def yX2_replaceOld : MethodName := ⟨RX2, "replaceOld", "(III)I"⟩
def dkwX2_replaceOld_4 : List UInt8 := [21, 5, 158, 0, 7, 4, 167, 0, 4, 3, 184, 0, 59, 172]
abbrev dktX2_replaceOld_4 : List UInt8 := dkwX2_replaceOld_4 ++ []
def dkwX2_replaceOld_3 : List UInt8 := [29, 167, 0, 8, 25, 4, 21, 6, 46, 79, 132, 6, 1, 167, 255, 222, 42, 27, 25, 4, 182, 0, 154]
abbrev dktX2_replaceOld_3 : List UInt8 := dkwX2_replaceOld_3 ++ dktX2_replaceOld_4
def dkwX2_replaceOld_2 : List UInt8 := [3, 54, 6, 21, 6, 25, 4, 190, 162, 0, 32, 25, 4, 21, 6, 25, 4, 21, 6, 46, 28, 160, 0, 7]
abbrev dktX2_replaceOld_2 : List UInt8 := dkwX2_replaceOld_2 ++ dktX2_replaceOld_3
def dkwX2_replaceOld_1 : List UInt8 := [3, 182, 0, 81, 153, 0, 5, 3, 172, 42, 27, 182, 0, 95, 58, 4, 25, 4, 28, 184, 0, 119, 54, 5]
abbrev dktX2_replaceOld_1 : List UInt8 := dkwX2_replaceOld_1 ++ dktX2_replaceOld_2
def dkwX2_replaceOld_0 : List UInt8 := [42, 42, 27, 182, 0, 32, 28, 184, 0, 89, 154, 0, 10, 29, 184, 0, 89, 153, 0, 7, 4, 167, 0, 4]
abbrev dktX2_replaceOld_0 : List UInt8 := dkwX2_replaceOld_0 ++ dktX2_replaceOld_1
theorem dksX2_replaceOld_0 : cX2_replaceOld.data.toList.drop 0 = dktX2_replaceOld_0 := by decide +kernel
theorem dksX2_replaceOld_1 : cX2_replaceOld.data.toList.drop 24 = dktX2_replaceOld_1 := dk_seg dksX2_replaceOld_0 24 rfl rfl
theorem dksX2_replaceOld_2 : cX2_replaceOld.data.toList.drop 48 = dktX2_replaceOld_2 := dk_seg dksX2_replaceOld_1 24 rfl rfl
theorem dksX2_replaceOld_3 : cX2_replaceOld.data.toList.drop 72 = dktX2_replaceOld_3 := dk_seg dksX2_replaceOld_2 24 rfl rfl
theorem dksX2_replaceOld_4 : cX2_replaceOld.data.toList.drop 95 = dktX2_replaceOld_4 := dk_seg dksX2_replaceOld_3 23 rfl rfl
theorem dX2_replaceOld_0 : decode cX2_replaceOld 0 = .ok (.aload_n 0, 1) := dk_42 (dk_at dksX2_replaceOld_0 0 rfl rfl)
theorem dX2_replaceOld_1 : decode cX2_replaceOld 1 = .ok (.aload_n 0, 1) := dk_42 (dk_at dksX2_replaceOld_0 1 rfl rfl)
theorem dX2_replaceOld_2 : decode cX2_replaceOld 2 = .ok (.iload_n 1, 1) := dk_27 (dk_at dksX2_replaceOld_0 2 rfl rfl)
theorem dX2_replaceOld_3 : decode cX2_replaceOld 3 = .ok (.invokevirtual 32, 3) := dk_182 0 32 (dk_at dksX2_replaceOld_0 3 rfl rfl)
theorem dX2_replaceOld_6 : decode cX2_replaceOld 6 = .ok (.iload_n 2, 1) := dk_28 (dk_at dksX2_replaceOld_0 6 rfl rfl)
theorem dX2_replaceOld_7 : decode cX2_replaceOld 7 = .ok (.invokestatic 89, 3) := dk_184 0 89 (dk_at dksX2_replaceOld_0 7 rfl rfl)
theorem dX2_replaceOld_10 : decode cX2_replaceOld 10 = .ok (.ifCond .ne 10, 3) := dk_154 0 10 (dk_at dksX2_replaceOld_0 10 rfl rfl)
theorem dX2_replaceOld_13 : decode cX2_replaceOld 13 = .ok (.iload_n 3, 1) := dk_29 (dk_at dksX2_replaceOld_0 13 rfl rfl)
theorem dX2_replaceOld_14 : decode cX2_replaceOld 14 = .ok (.invokestatic 89, 3) := dk_184 0 89 (dk_at dksX2_replaceOld_0 14 rfl rfl)
theorem dX2_replaceOld_17 : decode cX2_replaceOld 17 = .ok (.ifCond .eq 7, 3) := dk_153 0 7 (dk_at dksX2_replaceOld_0 17 rfl rfl)
theorem dX2_replaceOld_20 : decode cX2_replaceOld 20 = .ok (.iconst 1, 1) := dk_4 (dk_at dksX2_replaceOld_0 20 rfl rfl)
theorem dX2_replaceOld_21 : decode cX2_replaceOld 21 = .ok (.goto 4, 3) := dk_167 0 4 (dk_at dksX2_replaceOld_0 21 rfl rfl)
theorem dX2_replaceOld_24 : decode cX2_replaceOld 24 = .ok (.iconst 0, 1) := dk_3 (dk_at dksX2_replaceOld_1 0 rfl rfl)
theorem dX2_replaceOld_25 : decode cX2_replaceOld 25 = .ok (.invokevirtual 81, 3) := dk_182 0 81 (dk_at dksX2_replaceOld_1 1 rfl rfl)
theorem dX2_replaceOld_28 : decode cX2_replaceOld 28 = .ok (.ifCond .eq 5, 3) := dk_153 0 5 (dk_at dksX2_replaceOld_1 4 rfl rfl)
theorem dX2_replaceOld_31 : decode cX2_replaceOld 31 = .ok (.iconst 0, 1) := dk_3 (dk_at dksX2_replaceOld_1 7 rfl rfl)
theorem dX2_replaceOld_32 : decode cX2_replaceOld 32 = .ok (.ireturn, 1) := dk_172 (dk_at dksX2_replaceOld_1 8 rfl rfl)
theorem dX2_replaceOld_33 : decode cX2_replaceOld 33 = .ok (.aload_n 0, 1) := dk_42 (dk_at dksX2_replaceOld_1 9 rfl rfl)
theorem dX2_replaceOld_34 : decode cX2_replaceOld 34 = .ok (.iload_n 1, 1) := dk_27 (dk_at dksX2_replaceOld_1 10 rfl rfl)
theorem dX2_replaceOld_35 : decode cX2_replaceOld 35 = .ok (.invokevirtual 95, 3) := dk_182 0 95 (dk_at dksX2_replaceOld_1 11 rfl rfl)
theorem dX2_replaceOld_38 : decode cX2_replaceOld 38 = .ok (.astore 4, 2) := dk_58 4 (dk_at dksX2_replaceOld_1 14 rfl rfl)
theorem dX2_replaceOld_40 : decode cX2_replaceOld 40 = .ok (.aload 4, 2) := dk_25 4 (dk_at dksX2_replaceOld_1 16 rfl rfl)
theorem dX2_replaceOld_42 : decode cX2_replaceOld 42 = .ok (.iload_n 2, 1) := dk_28 (dk_at dksX2_replaceOld_1 18 rfl rfl)
theorem dX2_replaceOld_43 : decode cX2_replaceOld 43 = .ok (.invokestatic 119, 3) := dk_184 0 119 (dk_at dksX2_replaceOld_1 19 rfl rfl)
theorem dX2_replaceOld_46 : decode cX2_replaceOld 46 = .ok (.istore 5, 2) := dk_54 5 (dk_at dksX2_replaceOld_1 22 rfl rfl)
theorem dX2_replaceOld_48 : decode cX2_replaceOld 48 = .ok (.iconst 0, 1) := dk_3 (dk_at dksX2_replaceOld_2 0 rfl rfl)
theorem dX2_replaceOld_49 : decode cX2_replaceOld 49 = .ok (.istore 6, 2) := dk_54 6 (dk_at dksX2_replaceOld_2 1 rfl rfl)
theorem dX2_replaceOld_51 : decode cX2_replaceOld 51 = .ok (.iload 6, 2) := dk_21 6 (dk_at dksX2_replaceOld_2 3 rfl rfl)
theorem dX2_replaceOld_53 : decode cX2_replaceOld 53 = .ok (.aload 4, 2) := dk_25 4 (dk_at dksX2_replaceOld_2 5 rfl rfl)
theorem dX2_replaceOld_55 : decode cX2_replaceOld 55 = .ok (.arraylength, 1) := dk_190 (dk_at dksX2_replaceOld_2 7 rfl rfl)
theorem dX2_replaceOld_56 : decode cX2_replaceOld 56 = .ok (.if_icmp .ge 32, 3) := dk_162 0 32 (dk_at dksX2_replaceOld_2 8 rfl rfl)
theorem dX2_replaceOld_59 : decode cX2_replaceOld 59 = .ok (.aload 4, 2) := dk_25 4 (dk_at dksX2_replaceOld_2 11 rfl rfl)
theorem dX2_replaceOld_61 : decode cX2_replaceOld 61 = .ok (.iload 6, 2) := dk_21 6 (dk_at dksX2_replaceOld_2 13 rfl rfl)
theorem dX2_replaceOld_63 : decode cX2_replaceOld 63 = .ok (.aload 4, 2) := dk_25 4 (dk_at dksX2_replaceOld_2 15 rfl rfl)
theorem dX2_replaceOld_65 : decode cX2_replaceOld 65 = .ok (.iload 6, 2) := dk_21 6 (dk_at dksX2_replaceOld_2 17 rfl rfl)
theorem dX2_replaceOld_67 : decode cX2_replaceOld 67 = .ok (.iaload, 1) := dk_46 (dk_at dksX2_replaceOld_2 19 rfl rfl)
theorem dX2_replaceOld_68 : decode cX2_replaceOld 68 = .ok (.iload_n 2, 1) := dk_28 (dk_at dksX2_replaceOld_2 20 rfl rfl)
theorem dX2_replaceOld_69 : decode cX2_replaceOld 69 = .ok (.if_icmp .ne 7, 3) := dk_160 0 7 (dk_at dksX2_replaceOld_2 21 rfl rfl)
theorem dX2_replaceOld_72 : decode cX2_replaceOld 72 = .ok (.iload_n 3, 1) := dk_29 (dk_at dksX2_replaceOld_3 0 rfl rfl)
theorem dX2_replaceOld_73 : decode cX2_replaceOld 73 = .ok (.goto 8, 3) := dk_167 0 8 (dk_at dksX2_replaceOld_3 1 rfl rfl)
theorem dX2_replaceOld_76 : decode cX2_replaceOld 76 = .ok (.aload 4, 2) := dk_25 4 (dk_at dksX2_replaceOld_3 4 rfl rfl)
theorem dX2_replaceOld_78 : decode cX2_replaceOld 78 = .ok (.iload 6, 2) := dk_21 6 (dk_at dksX2_replaceOld_3 6 rfl rfl)
theorem dX2_replaceOld_80 : decode cX2_replaceOld 80 = .ok (.iaload, 1) := dk_46 (dk_at dksX2_replaceOld_3 8 rfl rfl)
theorem dX2_replaceOld_81 : decode cX2_replaceOld 81 = .ok (.iastore, 1) := dk_79 (dk_at dksX2_replaceOld_3 9 rfl rfl)
theorem dX2_replaceOld_82 : decode cX2_replaceOld 82 = .ok (.iinc 6 1, 3) := dk_132 6 1 (dk_at dksX2_replaceOld_3 10 rfl rfl)
theorem dX2_replaceOld_85 : decode cX2_replaceOld 85 = .ok (.goto (-34), 3) := dk_167 255 222 (dk_at dksX2_replaceOld_3 13 rfl rfl)
theorem dX2_replaceOld_88 : decode cX2_replaceOld 88 = .ok (.aload_n 0, 1) := dk_42 (dk_at dksX2_replaceOld_3 16 rfl rfl)
theorem dX2_replaceOld_89 : decode cX2_replaceOld 89 = .ok (.iload_n 1, 1) := dk_27 (dk_at dksX2_replaceOld_3 17 rfl rfl)
theorem dX2_replaceOld_90 : decode cX2_replaceOld 90 = .ok (.aload 4, 2) := dk_25 4 (dk_at dksX2_replaceOld_3 18 rfl rfl)
theorem dX2_replaceOld_92 : decode cX2_replaceOld 92 = .ok (.invokevirtual 154, 3) := dk_182 0 154 (dk_at dksX2_replaceOld_3 20 rfl rfl)
theorem dX2_replaceOld_95 : decode cX2_replaceOld 95 = .ok (.iload 5, 2) := dk_21 5 (dk_at dksX2_replaceOld_4 0 rfl rfl)
theorem dX2_replaceOld_97 : decode cX2_replaceOld 97 = .ok (.ifCond .le 7, 3) := dk_158 0 7 (dk_at dksX2_replaceOld_4 2 rfl rfl)
theorem dX2_replaceOld_100 : decode cX2_replaceOld 100 = .ok (.iconst 1, 1) := dk_4 (dk_at dksX2_replaceOld_4 5 rfl rfl)
theorem dX2_replaceOld_101 : decode cX2_replaceOld 101 = .ok (.goto 4, 3) := dk_167 0 4 (dk_at dksX2_replaceOld_4 6 rfl rfl)
theorem dX2_replaceOld_104 : decode cX2_replaceOld 104 = .ok (.iconst 0, 1) := dk_3 (dk_at dksX2_replaceOld_4 9 rfl rfl)
theorem dX2_replaceOld_105 : decode cX2_replaceOld 105 = .ok (.invokestatic 59, 3) := dk_184 0 59 (dk_at dksX2_replaceOld_4 10 rfl rfl)
theorem dX2_replaceOld_108 : decode cX2_replaceOld 108 = .ok (.ireturn, 1) := dk_172 (dk_at dksX2_replaceOld_4 13 rfl rfl)
abbrev cX2_writeAll : ByteArray := prog_8_method_13_code
def yX2_writeAll : MethodName := ⟨RX2, "writeAll", "(I[I)V"⟩
def dkwX2_writeAll_0 : List UInt8 := [3, 62, 29, 44, 190, 162, 0, 18, 42, 27, 29, 44, 29, 46, 182, 0, 40, 132, 3, 1, 167, 255, 238, 177]
abbrev dktX2_writeAll_0 : List UInt8 := dkwX2_writeAll_0 ++ []
theorem dksX2_writeAll_0 : cX2_writeAll.data.toList.drop 0 = dktX2_writeAll_0 := by decide +kernel
theorem dX2_writeAll_0 : decode cX2_writeAll 0 = .ok (.iconst 0, 1) := dk_3 (dk_at dksX2_writeAll_0 0 rfl rfl)
theorem dX2_writeAll_1 : decode cX2_writeAll 1 = .ok (.istore_n 3, 1) := dk_62 (dk_at dksX2_writeAll_0 1 rfl rfl)
theorem dX2_writeAll_2 : decode cX2_writeAll 2 = .ok (.iload_n 3, 1) := dk_29 (dk_at dksX2_writeAll_0 2 rfl rfl)
theorem dX2_writeAll_3 : decode cX2_writeAll 3 = .ok (.aload_n 2, 1) := dk_44 (dk_at dksX2_writeAll_0 3 rfl rfl)
theorem dX2_writeAll_4 : decode cX2_writeAll 4 = .ok (.arraylength, 1) := dk_190 (dk_at dksX2_writeAll_0 4 rfl rfl)
theorem dX2_writeAll_5 : decode cX2_writeAll 5 = .ok (.if_icmp .ge 18, 3) := dk_162 0 18 (dk_at dksX2_writeAll_0 5 rfl rfl)
theorem dX2_writeAll_8 : decode cX2_writeAll 8 = .ok (.aload_n 0, 1) := dk_42 (dk_at dksX2_writeAll_0 8 rfl rfl)
theorem dX2_writeAll_9 : decode cX2_writeAll 9 = .ok (.iload_n 1, 1) := dk_27 (dk_at dksX2_writeAll_0 9 rfl rfl)
theorem dX2_writeAll_10 : decode cX2_writeAll 10 = .ok (.iload_n 3, 1) := dk_29 (dk_at dksX2_writeAll_0 10 rfl rfl)
theorem dX2_writeAll_11 : decode cX2_writeAll 11 = .ok (.aload_n 2, 1) := dk_44 (dk_at dksX2_writeAll_0 11 rfl rfl)
theorem dX2_writeAll_12 : decode cX2_writeAll 12 = .ok (.iload_n 3, 1) := dk_29 (dk_at dksX2_writeAll_0 12 rfl rfl)
theorem dX2_writeAll_13 : decode cX2_writeAll 13 = .ok (.iaload, 1) := dk_46 (dk_at dksX2_writeAll_0 13 rfl rfl)
theorem dX2_writeAll_14 : decode cX2_writeAll 14 = .ok (.invokevirtual 40, 3) := dk_182 0 40 (dk_at dksX2_writeAll_0 14 rfl rfl)
theorem dX2_writeAll_17 : decode cX2_writeAll 17 = .ok (.iinc 3 1, 3) := dk_132 3 1 (dk_at dksX2_writeAll_0 17 rfl rfl)
theorem dX2_writeAll_20 : decode cX2_writeAll 20 = .ok (.goto (-18), 3) := dk_167 255 238 (dk_at dksX2_writeAll_0 20 rfl rfl)
theorem dX2_writeAll_23 : decode cX2_writeAll 23 = .ok (.return_, 1) := dk_177 (dk_at dksX2_writeAll_0 23 rfl rfl)
abbrev cX2_fill : ByteArray := prog_8_method_54_code
def yX2_fill : MethodName := ⟨RX2, "fill", "(II)I"⟩
def dkwX2_fill_2 : List UInt8 := [180, 0, 21, 27, 46, 172]
abbrev dktX2_fill_2 : List UInt8 := dkwX2_fill_2 ++ []
def dkwX2_fill_1 : List UInt8 := [180, 0, 21, 27, 46, 162, 0, 16, 42, 27, 29, 28, 182, 0, 40, 132, 3, 1, 167, 255, 236, 42]
abbrev dktX2_fill_1 : List UInt8 := dkwX2_fill_1 ++ dktX2_fill_2
def dkwX2_fill_0 : List UInt8 := [42, 42, 27, 182, 0, 32, 28, 184, 0, 89, 182, 0, 81, 153, 0, 5, 3, 172, 3, 62, 29, 42]
abbrev dktX2_fill_0 : List UInt8 := dkwX2_fill_0 ++ dktX2_fill_1
theorem dksX2_fill_0 : cX2_fill.data.toList.drop 0 = dktX2_fill_0 := by decide +kernel
theorem dksX2_fill_1 : cX2_fill.data.toList.drop 22 = dktX2_fill_1 := dk_seg dksX2_fill_0 22 rfl rfl
theorem dksX2_fill_2 : cX2_fill.data.toList.drop 44 = dktX2_fill_2 := dk_seg dksX2_fill_1 22 rfl rfl
theorem dX2_fill_0 : decode cX2_fill 0 = .ok (.aload_n 0, 1) := dk_42 (dk_at dksX2_fill_0 0 rfl rfl)
theorem dX2_fill_1 : decode cX2_fill 1 = .ok (.aload_n 0, 1) := dk_42 (dk_at dksX2_fill_0 1 rfl rfl)
theorem dX2_fill_2 : decode cX2_fill 2 = .ok (.iload_n 1, 1) := dk_27 (dk_at dksX2_fill_0 2 rfl rfl)
theorem dX2_fill_3 : decode cX2_fill 3 = .ok (.invokevirtual 32, 3) := dk_182 0 32 (dk_at dksX2_fill_0 3 rfl rfl)
theorem dX2_fill_6 : decode cX2_fill 6 = .ok (.iload_n 2, 1) := dk_28 (dk_at dksX2_fill_0 6 rfl rfl)
theorem dX2_fill_7 : decode cX2_fill 7 = .ok (.invokestatic 89, 3) := dk_184 0 89 (dk_at dksX2_fill_0 7 rfl rfl)
theorem dX2_fill_10 : decode cX2_fill 10 = .ok (.invokevirtual 81, 3) := dk_182 0 81 (dk_at dksX2_fill_0 10 rfl rfl)
theorem dX2_fill_13 : decode cX2_fill 13 = .ok (.ifCond .eq 5, 3) := dk_153 0 5 (dk_at dksX2_fill_0 13 rfl rfl)
theorem dX2_fill_16 : decode cX2_fill 16 = .ok (.iconst 0, 1) := dk_3 (dk_at dksX2_fill_0 16 rfl rfl)
theorem dX2_fill_17 : decode cX2_fill 17 = .ok (.ireturn, 1) := dk_172 (dk_at dksX2_fill_0 17 rfl rfl)
theorem dX2_fill_18 : decode cX2_fill 18 = .ok (.iconst 0, 1) := dk_3 (dk_at dksX2_fill_0 18 rfl rfl)
theorem dX2_fill_19 : decode cX2_fill 19 = .ok (.istore_n 3, 1) := dk_62 (dk_at dksX2_fill_0 19 rfl rfl)
theorem dX2_fill_20 : decode cX2_fill 20 = .ok (.iload_n 3, 1) := dk_29 (dk_at dksX2_fill_0 20 rfl rfl)
theorem dX2_fill_21 : decode cX2_fill 21 = .ok (.aload_n 0, 1) := dk_42 (dk_at dksX2_fill_0 21 rfl rfl)
theorem dX2_fill_22 : decode cX2_fill 22 = .ok (.getfield 21, 3) := dk_180 0 21 (dk_at dksX2_fill_1 0 rfl rfl)
theorem dX2_fill_25 : decode cX2_fill 25 = .ok (.iload_n 1, 1) := dk_27 (dk_at dksX2_fill_1 3 rfl rfl)
theorem dX2_fill_26 : decode cX2_fill 26 = .ok (.iaload, 1) := dk_46 (dk_at dksX2_fill_1 4 rfl rfl)
theorem dX2_fill_27 : decode cX2_fill 27 = .ok (.if_icmp .ge 16, 3) := dk_162 0 16 (dk_at dksX2_fill_1 5 rfl rfl)
theorem dX2_fill_30 : decode cX2_fill 30 = .ok (.aload_n 0, 1) := dk_42 (dk_at dksX2_fill_1 8 rfl rfl)
theorem dX2_fill_31 : decode cX2_fill 31 = .ok (.iload_n 1, 1) := dk_27 (dk_at dksX2_fill_1 9 rfl rfl)
theorem dX2_fill_32 : decode cX2_fill 32 = .ok (.iload_n 3, 1) := dk_29 (dk_at dksX2_fill_1 10 rfl rfl)
theorem dX2_fill_33 : decode cX2_fill 33 = .ok (.iload_n 2, 1) := dk_28 (dk_at dksX2_fill_1 11 rfl rfl)
theorem dX2_fill_34 : decode cX2_fill 34 = .ok (.invokevirtual 40, 3) := dk_182 0 40 (dk_at dksX2_fill_1 12 rfl rfl)
theorem dX2_fill_37 : decode cX2_fill 37 = .ok (.iinc 3 1, 3) := dk_132 3 1 (dk_at dksX2_fill_1 15 rfl rfl)
theorem dX2_fill_40 : decode cX2_fill 40 = .ok (.goto (-20), 3) := dk_167 255 236 (dk_at dksX2_fill_1 18 rfl rfl)
theorem dX2_fill_43 : decode cX2_fill 43 = .ok (.aload_n 0, 1) := dk_42 (dk_at dksX2_fill_1 21 rfl rfl)
theorem dX2_fill_44 : decode cX2_fill 44 = .ok (.getfield 21, 3) := dk_180 0 21 (dk_at dksX2_fill_2 0 rfl rfl)
theorem dX2_fill_47 : decode cX2_fill 47 = .ok (.iload_n 1, 1) := dk_27 (dk_at dksX2_fill_2 3 rfl rfl)
theorem dX2_fill_48 : decode cX2_fill 48 = .ok (.iaload, 1) := dk_46 (dk_at dksX2_fill_2 4 rfl rfl)
theorem dX2_fill_49 : decode cX2_fill 49 = .ok (.ireturn, 1) := dk_172 (dk_at dksX2_fill_2 5 rfl rfl)
abbrev cX2_sort : ByteArray := prog_8_method_55_code
def yX2_sort : MethodName := ⟨RX2, "sort", "(IZ)I"⟩
def dkwX2_sort_4 : List UInt8 := [167, 255, 201, 45, 190, 172]
abbrev dktX2_sort_4 : List UInt8 := dkwX2_sort_4 ++ []
def dkwX2_sort_3 : List UInt8 := [167, 0, 5, 21, 4, 21, 5, 182, 0, 40, 132, 4, 1, 132, 6, 255, 167, 255, 222, 132, 5, 1]
abbrev dktX2_sort_3 : List UInt8 := dkwX2_sort_3 ++ dktX2_sort_4
def dkwX2_sort_2 : List UInt8 := [184, 0, 119, 54, 6, 21, 6, 158, 0, 35, 42, 27, 28, 153, 0, 13, 45, 190, 4, 100, 21, 4, 100]
abbrev dktX2_sort_2 : List UInt8 := dkwX2_sort_2 ++ dktX2_sort_3
def dkwX2_sort_1 : List UInt8 := [42, 27, 182, 0, 95, 78, 3, 54, 4, 17, 252, 24, 54, 5, 21, 5, 16, 99, 163, 0, 54, 45, 21, 5]
abbrev dktX2_sort_1 : List UInt8 := dkwX2_sort_1 ++ dktX2_sort_2
def dkwX2_sort_0 : List UInt8 := [42, 27, 3, 5, 184, 0, 24, 154, 0, 7, 4, 167, 0, 4, 3, 3, 182, 0, 81, 153, 0, 5, 3, 172]
abbrev dktX2_sort_0 : List UInt8 := dkwX2_sort_0 ++ dktX2_sort_1
theorem dksX2_sort_0 : cX2_sort.data.toList.drop 0 = dktX2_sort_0 := by decide +kernel
theorem dksX2_sort_1 : cX2_sort.data.toList.drop 24 = dktX2_sort_1 := dk_seg dksX2_sort_0 24 rfl rfl
theorem dksX2_sort_2 : cX2_sort.data.toList.drop 48 = dktX2_sort_2 := dk_seg dksX2_sort_1 24 rfl rfl
theorem dksX2_sort_3 : cX2_sort.data.toList.drop 71 = dktX2_sort_3 := dk_seg dksX2_sort_2 23 rfl rfl
theorem dksX2_sort_4 : cX2_sort.data.toList.drop 93 = dktX2_sort_4 := dk_seg dksX2_sort_3 22 rfl rfl
theorem dX2_sort_0 : decode cX2_sort 0 = .ok (.aload_n 0, 1) := dk_42 (dk_at dksX2_sort_0 0 rfl rfl)
theorem dX2_sort_1 : decode cX2_sort 1 = .ok (.iload_n 1, 1) := dk_27 (dk_at dksX2_sort_0 1 rfl rfl)
theorem dX2_sort_2 : decode cX2_sort 2 = .ok (.iconst 0, 1) := dk_3 (dk_at dksX2_sort_0 2 rfl rfl)
theorem dX2_sort_3 : decode cX2_sort 3 = .ok (.iconst 2, 1) := dk_5 (dk_at dksX2_sort_0 3 rfl rfl)
theorem dX2_sort_4 : decode cX2_sort 4 = .ok (.invokestatic 24, 3) := dk_184 0 24 (dk_at dksX2_sort_0 4 rfl rfl)
theorem dX2_sort_7 : decode cX2_sort 7 = .ok (.ifCond .ne 7, 3) := dk_154 0 7 (dk_at dksX2_sort_0 7 rfl rfl)
theorem dX2_sort_10 : decode cX2_sort 10 = .ok (.iconst 1, 1) := dk_4 (dk_at dksX2_sort_0 10 rfl rfl)
theorem dX2_sort_11 : decode cX2_sort 11 = .ok (.goto 4, 3) := dk_167 0 4 (dk_at dksX2_sort_0 11 rfl rfl)
theorem dX2_sort_14 : decode cX2_sort 14 = .ok (.iconst 0, 1) := dk_3 (dk_at dksX2_sort_0 14 rfl rfl)
theorem dX2_sort_15 : decode cX2_sort 15 = .ok (.iconst 0, 1) := dk_3 (dk_at dksX2_sort_0 15 rfl rfl)
theorem dX2_sort_16 : decode cX2_sort 16 = .ok (.invokevirtual 81, 3) := dk_182 0 81 (dk_at dksX2_sort_0 16 rfl rfl)
theorem dX2_sort_19 : decode cX2_sort 19 = .ok (.ifCond .eq 5, 3) := dk_153 0 5 (dk_at dksX2_sort_0 19 rfl rfl)
theorem dX2_sort_22 : decode cX2_sort 22 = .ok (.iconst 0, 1) := dk_3 (dk_at dksX2_sort_0 22 rfl rfl)
theorem dX2_sort_23 : decode cX2_sort 23 = .ok (.ireturn, 1) := dk_172 (dk_at dksX2_sort_0 23 rfl rfl)
theorem dX2_sort_24 : decode cX2_sort 24 = .ok (.aload_n 0, 1) := dk_42 (dk_at dksX2_sort_1 0 rfl rfl)
theorem dX2_sort_25 : decode cX2_sort 25 = .ok (.iload_n 1, 1) := dk_27 (dk_at dksX2_sort_1 1 rfl rfl)
theorem dX2_sort_26 : decode cX2_sort 26 = .ok (.invokevirtual 95, 3) := dk_182 0 95 (dk_at dksX2_sort_1 2 rfl rfl)
theorem dX2_sort_29 : decode cX2_sort 29 = .ok (.astore_n 3, 1) := dk_78 (dk_at dksX2_sort_1 5 rfl rfl)
theorem dX2_sort_30 : decode cX2_sort 30 = .ok (.iconst 0, 1) := dk_3 (dk_at dksX2_sort_1 6 rfl rfl)
theorem dX2_sort_31 : decode cX2_sort 31 = .ok (.istore 4, 2) := dk_54 4 (dk_at dksX2_sort_1 7 rfl rfl)
theorem dX2_sort_33 : decode cX2_sort 33 = .ok (.sipush (-1000), 3) := dk_17 252 24 (dk_at dksX2_sort_1 9 rfl rfl)
theorem dX2_sort_36 : decode cX2_sort 36 = .ok (.istore 5, 2) := dk_54 5 (dk_at dksX2_sort_1 12 rfl rfl)
theorem dX2_sort_38 : decode cX2_sort 38 = .ok (.iload 5, 2) := dk_21 5 (dk_at dksX2_sort_1 14 rfl rfl)
theorem dX2_sort_40 : decode cX2_sort 40 = .ok (.bipush 99, 2) := dk_16 99 (dk_at dksX2_sort_1 16 rfl rfl)
theorem dX2_sort_42 : decode cX2_sort 42 = .ok (.if_icmp .gt 54, 3) := dk_163 0 54 (dk_at dksX2_sort_1 18 rfl rfl)
theorem dX2_sort_45 : decode cX2_sort 45 = .ok (.aload_n 3, 1) := dk_45 (dk_at dksX2_sort_1 21 rfl rfl)
theorem dX2_sort_46 : decode cX2_sort 46 = .ok (.iload 5, 2) := dk_21 5 (dk_at dksX2_sort_1 22 rfl rfl)
theorem dX2_sort_48 : decode cX2_sort 48 = .ok (.invokestatic 119, 3) := dk_184 0 119 (dk_at dksX2_sort_2 0 rfl rfl)
theorem dX2_sort_51 : decode cX2_sort 51 = .ok (.istore 6, 2) := dk_54 6 (dk_at dksX2_sort_2 3 rfl rfl)
theorem dX2_sort_53 : decode cX2_sort 53 = .ok (.iload 6, 2) := dk_21 6 (dk_at dksX2_sort_2 5 rfl rfl)
theorem dX2_sort_55 : decode cX2_sort 55 = .ok (.ifCond .le 35, 3) := dk_158 0 35 (dk_at dksX2_sort_2 7 rfl rfl)
theorem dX2_sort_58 : decode cX2_sort 58 = .ok (.aload_n 0, 1) := dk_42 (dk_at dksX2_sort_2 10 rfl rfl)
theorem dX2_sort_59 : decode cX2_sort 59 = .ok (.iload_n 1, 1) := dk_27 (dk_at dksX2_sort_2 11 rfl rfl)
theorem dX2_sort_60 : decode cX2_sort 60 = .ok (.iload_n 2, 1) := dk_28 (dk_at dksX2_sort_2 12 rfl rfl)
theorem dX2_sort_61 : decode cX2_sort 61 = .ok (.ifCond .eq 13, 3) := dk_153 0 13 (dk_at dksX2_sort_2 13 rfl rfl)
theorem dX2_sort_64 : decode cX2_sort 64 = .ok (.aload_n 3, 1) := dk_45 (dk_at dksX2_sort_2 16 rfl rfl)
theorem dX2_sort_65 : decode cX2_sort 65 = .ok (.arraylength, 1) := dk_190 (dk_at dksX2_sort_2 17 rfl rfl)
theorem dX2_sort_66 : decode cX2_sort 66 = .ok (.iconst 1, 1) := dk_4 (dk_at dksX2_sort_2 18 rfl rfl)
theorem dX2_sort_67 : decode cX2_sort 67 = .ok (.isub, 1) := dk_100 (dk_at dksX2_sort_2 19 rfl rfl)
theorem dX2_sort_68 : decode cX2_sort 68 = .ok (.iload 4, 2) := dk_21 4 (dk_at dksX2_sort_2 20 rfl rfl)
theorem dX2_sort_70 : decode cX2_sort 70 = .ok (.isub, 1) := dk_100 (dk_at dksX2_sort_2 22 rfl rfl)
theorem dX2_sort_71 : decode cX2_sort 71 = .ok (.goto 5, 3) := dk_167 0 5 (dk_at dksX2_sort_3 0 rfl rfl)
theorem dX2_sort_74 : decode cX2_sort 74 = .ok (.iload 4, 2) := dk_21 4 (dk_at dksX2_sort_3 3 rfl rfl)
theorem dX2_sort_76 : decode cX2_sort 76 = .ok (.iload 5, 2) := dk_21 5 (dk_at dksX2_sort_3 5 rfl rfl)
theorem dX2_sort_78 : decode cX2_sort 78 = .ok (.invokevirtual 40, 3) := dk_182 0 40 (dk_at dksX2_sort_3 7 rfl rfl)
theorem dX2_sort_81 : decode cX2_sort 81 = .ok (.iinc 4 1, 3) := dk_132 4 1 (dk_at dksX2_sort_3 10 rfl rfl)
theorem dX2_sort_84 : decode cX2_sort 84 = .ok (.iinc 6 (-1), 3) := dk_132 6 255 (dk_at dksX2_sort_3 13 rfl rfl)
theorem dX2_sort_87 : decode cX2_sort 87 = .ok (.goto (-34), 3) := dk_167 255 222 (dk_at dksX2_sort_3 16 rfl rfl)
theorem dX2_sort_90 : decode cX2_sort 90 = .ok (.iinc 5 1, 3) := dk_132 5 1 (dk_at dksX2_sort_3 19 rfl rfl)
theorem dX2_sort_93 : decode cX2_sort 93 = .ok (.goto (-55), 3) := dk_167 255 201 (dk_at dksX2_sort_4 0 rfl rfl)
theorem dX2_sort_96 : decode cX2_sort 96 = .ok (.aload_n 3, 1) := dk_45 (dk_at dksX2_sort_4 3 rfl rfl)
theorem dX2_sort_97 : decode cX2_sort 97 = .ok (.arraylength, 1) := dk_190 (dk_at dksX2_sort_4 4 rfl rfl)
theorem dX2_sort_98 : decode cX2_sort 98 = .ok (.ireturn, 1) := dk_172 (dk_at dksX2_sort_4 5 rfl rfl)
abbrev cX2_reverse : ByteArray := prog_8_method_56_code
def yX2_reverse : MethodName := ⟨RX2, "reverse", "(I)I"⟩
def dkwX2_reverse_2 : List UInt8 := [167, 255, 233, 44, 190, 172]
abbrev dktX2_reverse_2 : List UInt8 := dkwX2_reverse_2 ++ []
def dkwX2_reverse_1 : List UInt8 := [44, 190, 162, 0, 23, 42, 27, 44, 190, 4, 100, 29, 100, 44, 29, 46, 182, 0, 40, 132, 3, 1]
abbrev dktX2_reverse_1 : List UInt8 := dkwX2_reverse_1 ++ dktX2_reverse_2
def dkwX2_reverse_0 : List UInt8 := [42, 42, 27, 182, 0, 32, 3, 182, 0, 81, 153, 0, 5, 3, 172, 42, 27, 182, 0, 95, 77, 3, 62, 29]
abbrev dktX2_reverse_0 : List UInt8 := dkwX2_reverse_0 ++ dktX2_reverse_1
theorem dksX2_reverse_0 : cX2_reverse.data.toList.drop 0 = dktX2_reverse_0 := by decide +kernel
theorem dksX2_reverse_1 : cX2_reverse.data.toList.drop 24 = dktX2_reverse_1 := dk_seg dksX2_reverse_0 24 rfl rfl
theorem dksX2_reverse_2 : cX2_reverse.data.toList.drop 46 = dktX2_reverse_2 := dk_seg dksX2_reverse_1 22 rfl rfl
theorem dX2_reverse_0 : decode cX2_reverse 0 = .ok (.aload_n 0, 1) := dk_42 (dk_at dksX2_reverse_0 0 rfl rfl)
theorem dX2_reverse_1 : decode cX2_reverse 1 = .ok (.aload_n 0, 1) := dk_42 (dk_at dksX2_reverse_0 1 rfl rfl)
theorem dX2_reverse_2 : decode cX2_reverse 2 = .ok (.iload_n 1, 1) := dk_27 (dk_at dksX2_reverse_0 2 rfl rfl)
theorem dX2_reverse_3 : decode cX2_reverse 3 = .ok (.invokevirtual 32, 3) := dk_182 0 32 (dk_at dksX2_reverse_0 3 rfl rfl)
theorem dX2_reverse_6 : decode cX2_reverse 6 = .ok (.iconst 0, 1) := dk_3 (dk_at dksX2_reverse_0 6 rfl rfl)
theorem dX2_reverse_7 : decode cX2_reverse 7 = .ok (.invokevirtual 81, 3) := dk_182 0 81 (dk_at dksX2_reverse_0 7 rfl rfl)
theorem dX2_reverse_10 : decode cX2_reverse 10 = .ok (.ifCond .eq 5, 3) := dk_153 0 5 (dk_at dksX2_reverse_0 10 rfl rfl)
theorem dX2_reverse_13 : decode cX2_reverse 13 = .ok (.iconst 0, 1) := dk_3 (dk_at dksX2_reverse_0 13 rfl rfl)
theorem dX2_reverse_14 : decode cX2_reverse 14 = .ok (.ireturn, 1) := dk_172 (dk_at dksX2_reverse_0 14 rfl rfl)
theorem dX2_reverse_15 : decode cX2_reverse 15 = .ok (.aload_n 0, 1) := dk_42 (dk_at dksX2_reverse_0 15 rfl rfl)
theorem dX2_reverse_16 : decode cX2_reverse 16 = .ok (.iload_n 1, 1) := dk_27 (dk_at dksX2_reverse_0 16 rfl rfl)
theorem dX2_reverse_17 : decode cX2_reverse 17 = .ok (.invokevirtual 95, 3) := dk_182 0 95 (dk_at dksX2_reverse_0 17 rfl rfl)
theorem dX2_reverse_20 : decode cX2_reverse 20 = .ok (.astore_n 2, 1) := dk_77 (dk_at dksX2_reverse_0 20 rfl rfl)
theorem dX2_reverse_21 : decode cX2_reverse 21 = .ok (.iconst 0, 1) := dk_3 (dk_at dksX2_reverse_0 21 rfl rfl)
theorem dX2_reverse_22 : decode cX2_reverse 22 = .ok (.istore_n 3, 1) := dk_62 (dk_at dksX2_reverse_0 22 rfl rfl)
theorem dX2_reverse_23 : decode cX2_reverse 23 = .ok (.iload_n 3, 1) := dk_29 (dk_at dksX2_reverse_0 23 rfl rfl)
theorem dX2_reverse_24 : decode cX2_reverse 24 = .ok (.aload_n 2, 1) := dk_44 (dk_at dksX2_reverse_1 0 rfl rfl)
theorem dX2_reverse_25 : decode cX2_reverse 25 = .ok (.arraylength, 1) := dk_190 (dk_at dksX2_reverse_1 1 rfl rfl)
theorem dX2_reverse_26 : decode cX2_reverse 26 = .ok (.if_icmp .ge 23, 3) := dk_162 0 23 (dk_at dksX2_reverse_1 2 rfl rfl)
theorem dX2_reverse_29 : decode cX2_reverse 29 = .ok (.aload_n 0, 1) := dk_42 (dk_at dksX2_reverse_1 5 rfl rfl)
theorem dX2_reverse_30 : decode cX2_reverse 30 = .ok (.iload_n 1, 1) := dk_27 (dk_at dksX2_reverse_1 6 rfl rfl)
theorem dX2_reverse_31 : decode cX2_reverse 31 = .ok (.aload_n 2, 1) := dk_44 (dk_at dksX2_reverse_1 7 rfl rfl)
theorem dX2_reverse_32 : decode cX2_reverse 32 = .ok (.arraylength, 1) := dk_190 (dk_at dksX2_reverse_1 8 rfl rfl)
theorem dX2_reverse_33 : decode cX2_reverse 33 = .ok (.iconst 1, 1) := dk_4 (dk_at dksX2_reverse_1 9 rfl rfl)
theorem dX2_reverse_34 : decode cX2_reverse 34 = .ok (.isub, 1) := dk_100 (dk_at dksX2_reverse_1 10 rfl rfl)
theorem dX2_reverse_35 : decode cX2_reverse 35 = .ok (.iload_n 3, 1) := dk_29 (dk_at dksX2_reverse_1 11 rfl rfl)
theorem dX2_reverse_36 : decode cX2_reverse 36 = .ok (.isub, 1) := dk_100 (dk_at dksX2_reverse_1 12 rfl rfl)
theorem dX2_reverse_37 : decode cX2_reverse 37 = .ok (.aload_n 2, 1) := dk_44 (dk_at dksX2_reverse_1 13 rfl rfl)
theorem dX2_reverse_38 : decode cX2_reverse 38 = .ok (.iload_n 3, 1) := dk_29 (dk_at dksX2_reverse_1 14 rfl rfl)
theorem dX2_reverse_39 : decode cX2_reverse 39 = .ok (.iaload, 1) := dk_46 (dk_at dksX2_reverse_1 15 rfl rfl)
theorem dX2_reverse_40 : decode cX2_reverse 40 = .ok (.invokevirtual 40, 3) := dk_182 0 40 (dk_at dksX2_reverse_1 16 rfl rfl)
theorem dX2_reverse_43 : decode cX2_reverse 43 = .ok (.iinc 3 1, 3) := dk_132 3 1 (dk_at dksX2_reverse_1 19 rfl rfl)
theorem dX2_reverse_46 : decode cX2_reverse 46 = .ok (.goto (-23), 3) := dk_167 255 233 (dk_at dksX2_reverse_2 0 rfl rfl)
theorem dX2_reverse_49 : decode cX2_reverse 49 = .ok (.aload_n 2, 1) := dk_44 (dk_at dksX2_reverse_2 3 rfl rfl)
theorem dX2_reverse_50 : decode cX2_reverse 50 = .ok (.arraylength, 1) := dk_190 (dk_at dksX2_reverse_2 4 rfl rfl)
theorem dX2_reverse_51 : decode cX2_reverse 51 = .ok (.ireturn, 1) := dk_172 (dk_at dksX2_reverse_2 5 rfl rfl)
abbrev cX2_rotate : ByteArray := prog_8_method_57_code
def yX2_rotate : MethodName := ⟨RX2, "rotate", "(II)I"⟩
def dkwX2_rotate_3 : List UInt8 := [132, 4, 1, 167, 255, 224, 45, 190, 172]
abbrev dktX2_rotate_3 : List UInt8 := dkwX2_rotate_3 ++ []
def dkwX2_rotate_2 : List UInt8 := [42, 27, 21, 4, 28, 96, 45, 190, 112, 45, 190, 96, 45, 190, 112, 45, 21, 4, 46, 182, 0, 40]
abbrev dktX2_rotate_2 : List UInt8 := dkwX2_rotate_2 ++ dktX2_rotate_3
def dkwX2_rotate_1 : List UInt8 := [182, 0, 81, 153, 0, 5, 3, 172, 42, 27, 182, 0, 95, 78, 3, 54, 4, 21, 4, 45, 190, 162, 0, 31]
abbrev dktX2_rotate_1 : List UInt8 := dkwX2_rotate_1 ++ dktX2_rotate_2
def dkwX2_rotate_0 : List UInt8 := [42, 42, 27, 182, 0, 32, 28, 16, 157, 16, 99, 184, 0, 24, 154, 0, 7, 4, 167, 0, 4, 3]
abbrev dktX2_rotate_0 : List UInt8 := dkwX2_rotate_0 ++ dktX2_rotate_1
theorem dksX2_rotate_0 : cX2_rotate.data.toList.drop 0 = dktX2_rotate_0 := by decide +kernel
theorem dksX2_rotate_1 : cX2_rotate.data.toList.drop 22 = dktX2_rotate_1 := dk_seg dksX2_rotate_0 22 rfl rfl
theorem dksX2_rotate_2 : cX2_rotate.data.toList.drop 46 = dktX2_rotate_2 := dk_seg dksX2_rotate_1 24 rfl rfl
theorem dksX2_rotate_3 : cX2_rotate.data.toList.drop 68 = dktX2_rotate_3 := dk_seg dksX2_rotate_2 22 rfl rfl
theorem dX2_rotate_0 : decode cX2_rotate 0 = .ok (.aload_n 0, 1) := dk_42 (dk_at dksX2_rotate_0 0 rfl rfl)
theorem dX2_rotate_1 : decode cX2_rotate 1 = .ok (.aload_n 0, 1) := dk_42 (dk_at dksX2_rotate_0 1 rfl rfl)
theorem dX2_rotate_2 : decode cX2_rotate 2 = .ok (.iload_n 1, 1) := dk_27 (dk_at dksX2_rotate_0 2 rfl rfl)
theorem dX2_rotate_3 : decode cX2_rotate 3 = .ok (.invokevirtual 32, 3) := dk_182 0 32 (dk_at dksX2_rotate_0 3 rfl rfl)
theorem dX2_rotate_6 : decode cX2_rotate 6 = .ok (.iload_n 2, 1) := dk_28 (dk_at dksX2_rotate_0 6 rfl rfl)
theorem dX2_rotate_7 : decode cX2_rotate 7 = .ok (.bipush (-99), 2) := dk_16 157 (dk_at dksX2_rotate_0 7 rfl rfl)
theorem dX2_rotate_9 : decode cX2_rotate 9 = .ok (.bipush 99, 2) := dk_16 99 (dk_at dksX2_rotate_0 9 rfl rfl)
theorem dX2_rotate_11 : decode cX2_rotate 11 = .ok (.invokestatic 24, 3) := dk_184 0 24 (dk_at dksX2_rotate_0 11 rfl rfl)
theorem dX2_rotate_14 : decode cX2_rotate 14 = .ok (.ifCond .ne 7, 3) := dk_154 0 7 (dk_at dksX2_rotate_0 14 rfl rfl)
theorem dX2_rotate_17 : decode cX2_rotate 17 = .ok (.iconst 1, 1) := dk_4 (dk_at dksX2_rotate_0 17 rfl rfl)
theorem dX2_rotate_18 : decode cX2_rotate 18 = .ok (.goto 4, 3) := dk_167 0 4 (dk_at dksX2_rotate_0 18 rfl rfl)
theorem dX2_rotate_21 : decode cX2_rotate 21 = .ok (.iconst 0, 1) := dk_3 (dk_at dksX2_rotate_0 21 rfl rfl)
theorem dX2_rotate_22 : decode cX2_rotate 22 = .ok (.invokevirtual 81, 3) := dk_182 0 81 (dk_at dksX2_rotate_1 0 rfl rfl)
theorem dX2_rotate_25 : decode cX2_rotate 25 = .ok (.ifCond .eq 5, 3) := dk_153 0 5 (dk_at dksX2_rotate_1 3 rfl rfl)
theorem dX2_rotate_28 : decode cX2_rotate 28 = .ok (.iconst 0, 1) := dk_3 (dk_at dksX2_rotate_1 6 rfl rfl)
theorem dX2_rotate_29 : decode cX2_rotate 29 = .ok (.ireturn, 1) := dk_172 (dk_at dksX2_rotate_1 7 rfl rfl)
theorem dX2_rotate_30 : decode cX2_rotate 30 = .ok (.aload_n 0, 1) := dk_42 (dk_at dksX2_rotate_1 8 rfl rfl)
theorem dX2_rotate_31 : decode cX2_rotate 31 = .ok (.iload_n 1, 1) := dk_27 (dk_at dksX2_rotate_1 9 rfl rfl)
theorem dX2_rotate_32 : decode cX2_rotate 32 = .ok (.invokevirtual 95, 3) := dk_182 0 95 (dk_at dksX2_rotate_1 10 rfl rfl)
theorem dX2_rotate_35 : decode cX2_rotate 35 = .ok (.astore_n 3, 1) := dk_78 (dk_at dksX2_rotate_1 13 rfl rfl)
theorem dX2_rotate_36 : decode cX2_rotate 36 = .ok (.iconst 0, 1) := dk_3 (dk_at dksX2_rotate_1 14 rfl rfl)
theorem dX2_rotate_37 : decode cX2_rotate 37 = .ok (.istore 4, 2) := dk_54 4 (dk_at dksX2_rotate_1 15 rfl rfl)
theorem dX2_rotate_39 : decode cX2_rotate 39 = .ok (.iload 4, 2) := dk_21 4 (dk_at dksX2_rotate_1 17 rfl rfl)
theorem dX2_rotate_41 : decode cX2_rotate 41 = .ok (.aload_n 3, 1) := dk_45 (dk_at dksX2_rotate_1 19 rfl rfl)
theorem dX2_rotate_42 : decode cX2_rotate 42 = .ok (.arraylength, 1) := dk_190 (dk_at dksX2_rotate_1 20 rfl rfl)
theorem dX2_rotate_43 : decode cX2_rotate 43 = .ok (.if_icmp .ge 31, 3) := dk_162 0 31 (dk_at dksX2_rotate_1 21 rfl rfl)
theorem dX2_rotate_46 : decode cX2_rotate 46 = .ok (.aload_n 0, 1) := dk_42 (dk_at dksX2_rotate_2 0 rfl rfl)
theorem dX2_rotate_47 : decode cX2_rotate 47 = .ok (.iload_n 1, 1) := dk_27 (dk_at dksX2_rotate_2 1 rfl rfl)
theorem dX2_rotate_48 : decode cX2_rotate 48 = .ok (.iload 4, 2) := dk_21 4 (dk_at dksX2_rotate_2 2 rfl rfl)
theorem dX2_rotate_50 : decode cX2_rotate 50 = .ok (.iload_n 2, 1) := dk_28 (dk_at dksX2_rotate_2 4 rfl rfl)
theorem dX2_rotate_51 : decode cX2_rotate 51 = .ok (.iadd, 1) := dk_96 (dk_at dksX2_rotate_2 5 rfl rfl)
theorem dX2_rotate_52 : decode cX2_rotate 52 = .ok (.aload_n 3, 1) := dk_45 (dk_at dksX2_rotate_2 6 rfl rfl)
theorem dX2_rotate_53 : decode cX2_rotate 53 = .ok (.arraylength, 1) := dk_190 (dk_at dksX2_rotate_2 7 rfl rfl)
theorem dX2_rotate_54 : decode cX2_rotate 54 = .ok (.irem, 1) := dk_112 (dk_at dksX2_rotate_2 8 rfl rfl)
theorem dX2_rotate_55 : decode cX2_rotate 55 = .ok (.aload_n 3, 1) := dk_45 (dk_at dksX2_rotate_2 9 rfl rfl)
theorem dX2_rotate_56 : decode cX2_rotate 56 = .ok (.arraylength, 1) := dk_190 (dk_at dksX2_rotate_2 10 rfl rfl)
theorem dX2_rotate_57 : decode cX2_rotate 57 = .ok (.iadd, 1) := dk_96 (dk_at dksX2_rotate_2 11 rfl rfl)
theorem dX2_rotate_58 : decode cX2_rotate 58 = .ok (.aload_n 3, 1) := dk_45 (dk_at dksX2_rotate_2 12 rfl rfl)
theorem dX2_rotate_59 : decode cX2_rotate 59 = .ok (.arraylength, 1) := dk_190 (dk_at dksX2_rotate_2 13 rfl rfl)
theorem dX2_rotate_60 : decode cX2_rotate 60 = .ok (.irem, 1) := dk_112 (dk_at dksX2_rotate_2 14 rfl rfl)
theorem dX2_rotate_61 : decode cX2_rotate 61 = .ok (.aload_n 3, 1) := dk_45 (dk_at dksX2_rotate_2 15 rfl rfl)
theorem dX2_rotate_62 : decode cX2_rotate 62 = .ok (.iload 4, 2) := dk_21 4 (dk_at dksX2_rotate_2 16 rfl rfl)
theorem dX2_rotate_64 : decode cX2_rotate 64 = .ok (.iaload, 1) := dk_46 (dk_at dksX2_rotate_2 18 rfl rfl)
theorem dX2_rotate_65 : decode cX2_rotate 65 = .ok (.invokevirtual 40, 3) := dk_182 0 40 (dk_at dksX2_rotate_2 19 rfl rfl)
theorem dX2_rotate_68 : decode cX2_rotate 68 = .ok (.iinc 4 1, 3) := dk_132 4 1 (dk_at dksX2_rotate_3 0 rfl rfl)
theorem dX2_rotate_71 : decode cX2_rotate 71 = .ok (.goto (-32), 3) := dk_167 255 224 (dk_at dksX2_rotate_3 3 rfl rfl)
theorem dX2_rotate_74 : decode cX2_rotate 74 = .ok (.aload_n 3, 1) := dk_45 (dk_at dksX2_rotate_3 6 rfl rfl)
theorem dX2_rotate_75 : decode cX2_rotate 75 = .ok (.arraylength, 1) := dk_190 (dk_at dksX2_rotate_3 7 rfl rfl)
theorem dX2_rotate_76 : decode cX2_rotate 76 = .ok (.ireturn, 1) := dk_172 (dk_at dksX2_rotate_3 8 rfl rfl)
abbrev cX2_swap : ByteArray := prog_8_method_58_code
def yX2_swap : MethodName := ⟨RX2, "swap", "(III)I"⟩
def dkwX2_swap_3 : List UInt8 := [159, 0, 7, 4, 167, 0, 4, 3, 184, 0, 59, 172]
abbrev dktX2_swap_3 : List UInt8 := dkwX2_swap_3 ++ []
def dkwX2_swap_2 : List UInt8 := [54, 5, 42, 27, 28, 21, 5, 182, 0, 40, 42, 27, 29, 21, 4, 182, 0, 40, 21, 4, 21, 5]
abbrev dktX2_swap_2 : List UInt8 := dkwX2_swap_2 ++ dktX2_swap_3
def dkwX2_swap_1 : List UInt8 := [3, 182, 0, 81, 153, 0, 5, 3, 172, 42, 27, 28, 182, 0, 36, 54, 4, 42, 27, 29, 182, 0, 36]
abbrev dktX2_swap_1 : List UInt8 := dkwX2_swap_1 ++ dktX2_swap_2
def dkwX2_swap_0 : List UInt8 := [42, 42, 27, 28, 182, 0, 92, 154, 0, 12, 42, 27, 29, 182, 0, 92, 153, 0, 7, 4, 167, 0, 4, 3]
abbrev dktX2_swap_0 : List UInt8 := dkwX2_swap_0 ++ dktX2_swap_1
theorem dksX2_swap_0 : cX2_swap.data.toList.drop 0 = dktX2_swap_0 := by decide +kernel
theorem dksX2_swap_1 : cX2_swap.data.toList.drop 24 = dktX2_swap_1 := dk_seg dksX2_swap_0 24 rfl rfl
theorem dksX2_swap_2 : cX2_swap.data.toList.drop 47 = dktX2_swap_2 := dk_seg dksX2_swap_1 23 rfl rfl
theorem dksX2_swap_3 : cX2_swap.data.toList.drop 69 = dktX2_swap_3 := dk_seg dksX2_swap_2 22 rfl rfl
theorem dX2_swap_0 : decode cX2_swap 0 = .ok (.aload_n 0, 1) := dk_42 (dk_at dksX2_swap_0 0 rfl rfl)
theorem dX2_swap_1 : decode cX2_swap 1 = .ok (.aload_n 0, 1) := dk_42 (dk_at dksX2_swap_0 1 rfl rfl)
theorem dX2_swap_2 : decode cX2_swap 2 = .ok (.iload_n 1, 1) := dk_27 (dk_at dksX2_swap_0 2 rfl rfl)
theorem dX2_swap_3 : decode cX2_swap 3 = .ok (.iload_n 2, 1) := dk_28 (dk_at dksX2_swap_0 3 rfl rfl)
theorem dX2_swap_4 : decode cX2_swap 4 = .ok (.invokevirtual 92, 3) := dk_182 0 92 (dk_at dksX2_swap_0 4 rfl rfl)
theorem dX2_swap_7 : decode cX2_swap 7 = .ok (.ifCond .ne 12, 3) := dk_154 0 12 (dk_at dksX2_swap_0 7 rfl rfl)
theorem dX2_swap_10 : decode cX2_swap 10 = .ok (.aload_n 0, 1) := dk_42 (dk_at dksX2_swap_0 10 rfl rfl)
theorem dX2_swap_11 : decode cX2_swap 11 = .ok (.iload_n 1, 1) := dk_27 (dk_at dksX2_swap_0 11 rfl rfl)
theorem dX2_swap_12 : decode cX2_swap 12 = .ok (.iload_n 3, 1) := dk_29 (dk_at dksX2_swap_0 12 rfl rfl)
theorem dX2_swap_13 : decode cX2_swap 13 = .ok (.invokevirtual 92, 3) := dk_182 0 92 (dk_at dksX2_swap_0 13 rfl rfl)
theorem dX2_swap_16 : decode cX2_swap 16 = .ok (.ifCond .eq 7, 3) := dk_153 0 7 (dk_at dksX2_swap_0 16 rfl rfl)
theorem dX2_swap_19 : decode cX2_swap 19 = .ok (.iconst 1, 1) := dk_4 (dk_at dksX2_swap_0 19 rfl rfl)
theorem dX2_swap_20 : decode cX2_swap 20 = .ok (.goto 4, 3) := dk_167 0 4 (dk_at dksX2_swap_0 20 rfl rfl)
theorem dX2_swap_23 : decode cX2_swap 23 = .ok (.iconst 0, 1) := dk_3 (dk_at dksX2_swap_0 23 rfl rfl)
theorem dX2_swap_24 : decode cX2_swap 24 = .ok (.iconst 0, 1) := dk_3 (dk_at dksX2_swap_1 0 rfl rfl)
theorem dX2_swap_25 : decode cX2_swap 25 = .ok (.invokevirtual 81, 3) := dk_182 0 81 (dk_at dksX2_swap_1 1 rfl rfl)
theorem dX2_swap_28 : decode cX2_swap 28 = .ok (.ifCond .eq 5, 3) := dk_153 0 5 (dk_at dksX2_swap_1 4 rfl rfl)
theorem dX2_swap_31 : decode cX2_swap 31 = .ok (.iconst 0, 1) := dk_3 (dk_at dksX2_swap_1 7 rfl rfl)
theorem dX2_swap_32 : decode cX2_swap 32 = .ok (.ireturn, 1) := dk_172 (dk_at dksX2_swap_1 8 rfl rfl)
theorem dX2_swap_33 : decode cX2_swap 33 = .ok (.aload_n 0, 1) := dk_42 (dk_at dksX2_swap_1 9 rfl rfl)
theorem dX2_swap_34 : decode cX2_swap 34 = .ok (.iload_n 1, 1) := dk_27 (dk_at dksX2_swap_1 10 rfl rfl)
theorem dX2_swap_35 : decode cX2_swap 35 = .ok (.iload_n 2, 1) := dk_28 (dk_at dksX2_swap_1 11 rfl rfl)
theorem dX2_swap_36 : decode cX2_swap 36 = .ok (.invokevirtual 36, 3) := dk_182 0 36 (dk_at dksX2_swap_1 12 rfl rfl)
theorem dX2_swap_39 : decode cX2_swap 39 = .ok (.istore 4, 2) := dk_54 4 (dk_at dksX2_swap_1 15 rfl rfl)
theorem dX2_swap_41 : decode cX2_swap 41 = .ok (.aload_n 0, 1) := dk_42 (dk_at dksX2_swap_1 17 rfl rfl)
theorem dX2_swap_42 : decode cX2_swap 42 = .ok (.iload_n 1, 1) := dk_27 (dk_at dksX2_swap_1 18 rfl rfl)
theorem dX2_swap_43 : decode cX2_swap 43 = .ok (.iload_n 3, 1) := dk_29 (dk_at dksX2_swap_1 19 rfl rfl)
theorem dX2_swap_44 : decode cX2_swap 44 = .ok (.invokevirtual 36, 3) := dk_182 0 36 (dk_at dksX2_swap_1 20 rfl rfl)
theorem dX2_swap_47 : decode cX2_swap 47 = .ok (.istore 5, 2) := dk_54 5 (dk_at dksX2_swap_2 0 rfl rfl)
theorem dX2_swap_49 : decode cX2_swap 49 = .ok (.aload_n 0, 1) := dk_42 (dk_at dksX2_swap_2 2 rfl rfl)
theorem dX2_swap_50 : decode cX2_swap 50 = .ok (.iload_n 1, 1) := dk_27 (dk_at dksX2_swap_2 3 rfl rfl)
theorem dX2_swap_51 : decode cX2_swap 51 = .ok (.iload_n 2, 1) := dk_28 (dk_at dksX2_swap_2 4 rfl rfl)
theorem dX2_swap_52 : decode cX2_swap 52 = .ok (.iload 5, 2) := dk_21 5 (dk_at dksX2_swap_2 5 rfl rfl)
theorem dX2_swap_54 : decode cX2_swap 54 = .ok (.invokevirtual 40, 3) := dk_182 0 40 (dk_at dksX2_swap_2 7 rfl rfl)
theorem dX2_swap_57 : decode cX2_swap 57 = .ok (.aload_n 0, 1) := dk_42 (dk_at dksX2_swap_2 10 rfl rfl)
theorem dX2_swap_58 : decode cX2_swap 58 = .ok (.iload_n 1, 1) := dk_27 (dk_at dksX2_swap_2 11 rfl rfl)
theorem dX2_swap_59 : decode cX2_swap 59 = .ok (.iload_n 3, 1) := dk_29 (dk_at dksX2_swap_2 12 rfl rfl)
theorem dX2_swap_60 : decode cX2_swap 60 = .ok (.iload 4, 2) := dk_21 4 (dk_at dksX2_swap_2 13 rfl rfl)
theorem dX2_swap_62 : decode cX2_swap 62 = .ok (.invokevirtual 40, 3) := dk_182 0 40 (dk_at dksX2_swap_2 15 rfl rfl)
theorem dX2_swap_65 : decode cX2_swap 65 = .ok (.iload 4, 2) := dk_21 4 (dk_at dksX2_swap_2 18 rfl rfl)
theorem dX2_swap_67 : decode cX2_swap 67 = .ok (.iload 5, 2) := dk_21 5 (dk_at dksX2_swap_2 20 rfl rfl)
theorem dX2_swap_69 : decode cX2_swap 69 = .ok (.if_icmp .eq 7, 3) := dk_159 0 7 (dk_at dksX2_swap_3 0 rfl rfl)
theorem dX2_swap_72 : decode cX2_swap 72 = .ok (.iconst 1, 1) := dk_4 (dk_at dksX2_swap_3 3 rfl rfl)
theorem dX2_swap_73 : decode cX2_swap 73 = .ok (.goto 4, 3) := dk_167 0 4 (dk_at dksX2_swap_3 4 rfl rfl)
theorem dX2_swap_76 : decode cX2_swap 76 = .ok (.iconst 0, 1) := dk_3 (dk_at dksX2_swap_3 7 rfl rfl)
theorem dX2_swap_77 : decode cX2_swap 77 = .ok (.invokestatic 59, 3) := dk_184 0 59 (dk_at dksX2_swap_3 8 rfl rfl)
theorem dX2_swap_80 : decode cX2_swap 80 = .ok (.ireturn, 1) := dk_172 (dk_at dksX2_swap_3 11 rfl rfl)
abbrev cX2_add : ByteArray := prog_8_method_60_code
def yX2_add : MethodName := ⟨RX2, "add", "(II)I"⟩
def dkwX2_add_1 : List UInt8 := [172]
abbrev dktX2_add_1 : List UInt8 := dkwX2_add_1 ++ []
def dkwX2_add_0 : List UInt8 := [42, 42, 27, 182, 0, 32, 28, 184, 0, 89, 182, 0, 81, 153, 0, 7, 3, 167, 0, 7, 42, 182, 0, 158]
abbrev dktX2_add_0 : List UInt8 := dkwX2_add_0 ++ dktX2_add_1
theorem dksX2_add_0 : cX2_add.data.toList.drop 0 = dktX2_add_0 := by decide +kernel
theorem dksX2_add_1 : cX2_add.data.toList.drop 24 = dktX2_add_1 := dk_seg dksX2_add_0 24 rfl rfl
theorem dX2_add_0 : decode cX2_add 0 = .ok (.aload_n 0, 1) := dk_42 (dk_at dksX2_add_0 0 rfl rfl)
theorem dX2_add_1 : decode cX2_add 1 = .ok (.aload_n 0, 1) := dk_42 (dk_at dksX2_add_0 1 rfl rfl)
theorem dX2_add_2 : decode cX2_add 2 = .ok (.iload_n 1, 1) := dk_27 (dk_at dksX2_add_0 2 rfl rfl)
theorem dX2_add_3 : decode cX2_add 3 = .ok (.invokevirtual 32, 3) := dk_182 0 32 (dk_at dksX2_add_0 3 rfl rfl)
theorem dX2_add_6 : decode cX2_add 6 = .ok (.iload_n 2, 1) := dk_28 (dk_at dksX2_add_0 6 rfl rfl)
theorem dX2_add_7 : decode cX2_add 7 = .ok (.invokestatic 89, 3) := dk_184 0 89 (dk_at dksX2_add_0 7 rfl rfl)
theorem dX2_add_10 : decode cX2_add 10 = .ok (.invokevirtual 81, 3) := dk_182 0 81 (dk_at dksX2_add_0 10 rfl rfl)
theorem dX2_add_13 : decode cX2_add 13 = .ok (.ifCond .eq 7, 3) := dk_153 0 7 (dk_at dksX2_add_0 13 rfl rfl)
theorem dX2_add_16 : decode cX2_add 16 = .ok (.iconst 0, 1) := dk_3 (dk_at dksX2_add_0 16 rfl rfl)
theorem dX2_add_17 : decode cX2_add 17 = .ok (.goto 7, 3) := dk_167 0 7 (dk_at dksX2_add_0 17 rfl rfl)
theorem dX2_add_20 : decode cX2_add 20 = .ok (.aload_n 0, 1) := dk_42 (dk_at dksX2_add_0 20 rfl rfl)
theorem dX2_add_21 : decode cX2_add 21 = .ok (.invokevirtual 158, 3) := dk_182 0 158 (dk_at dksX2_add_0 21 rfl rfl)
theorem dX2_add_24 : decode cX2_add 24 = .ok (.ireturn, 1) := dk_172 (dk_at dksX2_add_1 0 rfl rfl)
abbrev cX2_refused : ByteArray := prog_8_method_14_code
def yX2_refused : MethodName := ⟨RX2, "refused", "()I"⟩
def dkwX2_refused_0 : List UInt8 := [42, 89, 180, 0, 44, 4, 96, 181, 0, 44, 16, 247, 172]
abbrev dktX2_refused_0 : List UInt8 := dkwX2_refused_0 ++ []
theorem dksX2_refused_0 : cX2_refused.data.toList.drop 0 = dktX2_refused_0 := by decide +kernel
theorem dX2_refused_0 : decode cX2_refused 0 = .ok (.aload_n 0, 1) := dk_42 (dk_at dksX2_refused_0 0 rfl rfl)
theorem dX2_refused_1 : decode cX2_refused 1 = .ok (.dup, 1) := dk_89 (dk_at dksX2_refused_0 1 rfl rfl)
theorem dX2_refused_2 : decode cX2_refused 2 = .ok (.getfield 44, 3) := dk_180 0 44 (dk_at dksX2_refused_0 2 rfl rfl)
theorem dX2_refused_5 : decode cX2_refused 5 = .ok (.iconst 1, 1) := dk_4 (dk_at dksX2_refused_0 5 rfl rfl)
theorem dX2_refused_6 : decode cX2_refused 6 = .ok (.iadd, 1) := dk_96 (dk_at dksX2_refused_0 6 rfl rfl)
theorem dX2_refused_7 : decode cX2_refused 7 = .ok (.putfield 44, 3) := dk_181 0 44 (dk_at dksX2_refused_0 7 rfl rfl)
theorem dX2_refused_10 : decode cX2_refused 10 = .ok (.bipush (-9), 2) := dk_16 247 (dk_at dksX2_refused_0 10 rfl rfl)
theorem dX2_refused_12 : decode cX2_refused 12 = .ok (.ireturn, 1) := dk_172 (dk_at dksX2_refused_0 12 rfl rfl)
abbrev cX2_addAt : ByteArray := prog_8_method_61_code
def yX2_addAt : MethodName := ⟨RX2, "addAt", "(III)I"⟩
def dkwX2_addAt_1 : List UInt8 := [167, 0, 4, 3, 182, 0, 81, 153, 0, 7, 3, 167, 0, 7, 42, 182, 0, 158, 172]
abbrev dktX2_addAt_1 : List UInt8 := dkwX2_addAt_1 ++ []
def dkwX2_addAt_0 : List UInt8 := [42, 42, 27, 182, 0, 32, 42, 27, 28, 182, 0, 135, 154, 0, 10, 29, 184, 0, 89, 153, 0, 7, 4]
abbrev dktX2_addAt_0 : List UInt8 := dkwX2_addAt_0 ++ dktX2_addAt_1
theorem dksX2_addAt_0 : cX2_addAt.data.toList.drop 0 = dktX2_addAt_0 := by decide +kernel
theorem dksX2_addAt_1 : cX2_addAt.data.toList.drop 23 = dktX2_addAt_1 := dk_seg dksX2_addAt_0 23 rfl rfl
theorem dX2_addAt_0 : decode cX2_addAt 0 = .ok (.aload_n 0, 1) := dk_42 (dk_at dksX2_addAt_0 0 rfl rfl)
theorem dX2_addAt_1 : decode cX2_addAt 1 = .ok (.aload_n 0, 1) := dk_42 (dk_at dksX2_addAt_0 1 rfl rfl)
theorem dX2_addAt_2 : decode cX2_addAt 2 = .ok (.iload_n 1, 1) := dk_27 (dk_at dksX2_addAt_0 2 rfl rfl)
theorem dX2_addAt_3 : decode cX2_addAt 3 = .ok (.invokevirtual 32, 3) := dk_182 0 32 (dk_at dksX2_addAt_0 3 rfl rfl)
theorem dX2_addAt_6 : decode cX2_addAt 6 = .ok (.aload_n 0, 1) := dk_42 (dk_at dksX2_addAt_0 6 rfl rfl)
theorem dX2_addAt_7 : decode cX2_addAt 7 = .ok (.iload_n 1, 1) := dk_27 (dk_at dksX2_addAt_0 7 rfl rfl)
theorem dX2_addAt_8 : decode cX2_addAt 8 = .ok (.iload_n 2, 1) := dk_28 (dk_at dksX2_addAt_0 8 rfl rfl)
theorem dX2_addAt_9 : decode cX2_addAt 9 = .ok (.invokevirtual 135, 3) := dk_182 0 135 (dk_at dksX2_addAt_0 9 rfl rfl)
theorem dX2_addAt_12 : decode cX2_addAt 12 = .ok (.ifCond .ne 10, 3) := dk_154 0 10 (dk_at dksX2_addAt_0 12 rfl rfl)
theorem dX2_addAt_15 : decode cX2_addAt 15 = .ok (.iload_n 3, 1) := dk_29 (dk_at dksX2_addAt_0 15 rfl rfl)
theorem dX2_addAt_16 : decode cX2_addAt 16 = .ok (.invokestatic 89, 3) := dk_184 0 89 (dk_at dksX2_addAt_0 16 rfl rfl)
theorem dX2_addAt_19 : decode cX2_addAt 19 = .ok (.ifCond .eq 7, 3) := dk_153 0 7 (dk_at dksX2_addAt_0 19 rfl rfl)
theorem dX2_addAt_22 : decode cX2_addAt 22 = .ok (.iconst 1, 1) := dk_4 (dk_at dksX2_addAt_0 22 rfl rfl)
theorem dX2_addAt_23 : decode cX2_addAt 23 = .ok (.goto 4, 3) := dk_167 0 4 (dk_at dksX2_addAt_1 0 rfl rfl)
theorem dX2_addAt_26 : decode cX2_addAt 26 = .ok (.iconst 0, 1) := dk_3 (dk_at dksX2_addAt_1 3 rfl rfl)
theorem dX2_addAt_27 : decode cX2_addAt 27 = .ok (.invokevirtual 81, 3) := dk_182 0 81 (dk_at dksX2_addAt_1 4 rfl rfl)
theorem dX2_addAt_30 : decode cX2_addAt 30 = .ok (.ifCond .eq 7, 3) := dk_153 0 7 (dk_at dksX2_addAt_1 7 rfl rfl)
theorem dX2_addAt_33 : decode cX2_addAt 33 = .ok (.iconst 0, 1) := dk_3 (dk_at dksX2_addAt_1 10 rfl rfl)
theorem dX2_addAt_34 : decode cX2_addAt 34 = .ok (.goto 7, 3) := dk_167 0 7 (dk_at dksX2_addAt_1 11 rfl rfl)
theorem dX2_addAt_37 : decode cX2_addAt 37 = .ok (.aload_n 0, 1) := dk_42 (dk_at dksX2_addAt_1 14 rfl rfl)
theorem dX2_addAt_38 : decode cX2_addAt 38 = .ok (.invokevirtual 158, 3) := dk_182 0 158 (dk_at dksX2_addAt_1 15 rfl rfl)
theorem dX2_addAt_41 : decode cX2_addAt 41 = .ok (.ireturn, 1) := dk_172 (dk_at dksX2_addAt_1 18 rfl rfl)
abbrev cX2_addAll : ByteArray := prog_8_method_62_code
def yX2_addAll : MethodName := ⟨RX2, "addAll", "(II)I"⟩
def dkwX2_addAll_1 : List UInt8 := [46, 158, 0, 7, 4, 167, 0, 4, 3, 182, 0, 162, 172]
abbrev dktX2_addAll_1 : List UInt8 := dkwX2_addAll_1 ++ []
def dkwX2_addAll_0 : List UInt8 := [42, 42, 27, 28, 182, 0, 122, 3, 182, 0, 81, 153, 0, 7, 3, 167, 0, 21, 42, 42, 180, 0, 21, 28]
abbrev dktX2_addAll_0 : List UInt8 := dkwX2_addAll_0 ++ dktX2_addAll_1
theorem dksX2_addAll_0 : cX2_addAll.data.toList.drop 0 = dktX2_addAll_0 := by decide +kernel
theorem dksX2_addAll_1 : cX2_addAll.data.toList.drop 24 = dktX2_addAll_1 := dk_seg dksX2_addAll_0 24 rfl rfl
theorem dX2_addAll_0 : decode cX2_addAll 0 = .ok (.aload_n 0, 1) := dk_42 (dk_at dksX2_addAll_0 0 rfl rfl)
theorem dX2_addAll_1 : decode cX2_addAll 1 = .ok (.aload_n 0, 1) := dk_42 (dk_at dksX2_addAll_0 1 rfl rfl)
theorem dX2_addAll_2 : decode cX2_addAll 2 = .ok (.iload_n 1, 1) := dk_27 (dk_at dksX2_addAll_0 2 rfl rfl)
theorem dX2_addAll_3 : decode cX2_addAll 3 = .ok (.iload_n 2, 1) := dk_28 (dk_at dksX2_addAll_0 3 rfl rfl)
theorem dX2_addAll_4 : decode cX2_addAll 4 = .ok (.invokevirtual 122, 3) := dk_182 0 122 (dk_at dksX2_addAll_0 4 rfl rfl)
theorem dX2_addAll_7 : decode cX2_addAll 7 = .ok (.iconst 0, 1) := dk_3 (dk_at dksX2_addAll_0 7 rfl rfl)
theorem dX2_addAll_8 : decode cX2_addAll 8 = .ok (.invokevirtual 81, 3) := dk_182 0 81 (dk_at dksX2_addAll_0 8 rfl rfl)
theorem dX2_addAll_11 : decode cX2_addAll 11 = .ok (.ifCond .eq 7, 3) := dk_153 0 7 (dk_at dksX2_addAll_0 11 rfl rfl)
theorem dX2_addAll_14 : decode cX2_addAll 14 = .ok (.iconst 0, 1) := dk_3 (dk_at dksX2_addAll_0 14 rfl rfl)
theorem dX2_addAll_15 : decode cX2_addAll 15 = .ok (.goto 21, 3) := dk_167 0 21 (dk_at dksX2_addAll_0 15 rfl rfl)
theorem dX2_addAll_18 : decode cX2_addAll 18 = .ok (.aload_n 0, 1) := dk_42 (dk_at dksX2_addAll_0 18 rfl rfl)
theorem dX2_addAll_19 : decode cX2_addAll 19 = .ok (.aload_n 0, 1) := dk_42 (dk_at dksX2_addAll_0 19 rfl rfl)
theorem dX2_addAll_20 : decode cX2_addAll 20 = .ok (.getfield 21, 3) := dk_180 0 21 (dk_at dksX2_addAll_0 20 rfl rfl)
theorem dX2_addAll_23 : decode cX2_addAll 23 = .ok (.iload_n 2, 1) := dk_28 (dk_at dksX2_addAll_0 23 rfl rfl)
theorem dX2_addAll_24 : decode cX2_addAll 24 = .ok (.iaload, 1) := dk_46 (dk_at dksX2_addAll_1 0 rfl rfl)
theorem dX2_addAll_25 : decode cX2_addAll 25 = .ok (.ifCond .le 7, 3) := dk_158 0 7 (dk_at dksX2_addAll_1 1 rfl rfl)
theorem dX2_addAll_28 : decode cX2_addAll 28 = .ok (.iconst 1, 1) := dk_4 (dk_at dksX2_addAll_1 4 rfl rfl)
theorem dX2_addAll_29 : decode cX2_addAll 29 = .ok (.goto 4, 3) := dk_167 0 4 (dk_at dksX2_addAll_1 5 rfl rfl)
theorem dX2_addAll_32 : decode cX2_addAll 32 = .ok (.iconst 0, 1) := dk_3 (dk_at dksX2_addAll_1 8 rfl rfl)
theorem dX2_addAll_33 : decode cX2_addAll 33 = .ok (.invokevirtual 162, 3) := dk_182 0 162 (dk_at dksX2_addAll_1 9 rfl rfl)
theorem dX2_addAll_36 : decode cX2_addAll 36 = .ok (.ireturn, 1) := dk_172 (dk_at dksX2_addAll_1 12 rfl rfl)
abbrev cX2_refusedIf : ByteArray := prog_8_method_59_code
def yX2_refusedIf : MethodName := ⟨RX2, "refusedIf", "(Z)I"⟩
def dkwX2_refusedIf_0 : List UInt8 := [27, 153, 0, 10, 42, 182, 0, 158, 167, 0, 4, 3, 172]
abbrev dktX2_refusedIf_0 : List UInt8 := dkwX2_refusedIf_0 ++ []
theorem dksX2_refusedIf_0 : cX2_refusedIf.data.toList.drop 0 = dktX2_refusedIf_0 := by decide +kernel
theorem dX2_refusedIf_0 : decode cX2_refusedIf 0 = .ok (.iload_n 1, 1) := dk_27 (dk_at dksX2_refusedIf_0 0 rfl rfl)
theorem dX2_refusedIf_1 : decode cX2_refusedIf 1 = .ok (.ifCond .eq 10, 3) := dk_153 0 10 (dk_at dksX2_refusedIf_0 1 rfl rfl)
theorem dX2_refusedIf_4 : decode cX2_refusedIf 4 = .ok (.aload_n 0, 1) := dk_42 (dk_at dksX2_refusedIf_0 4 rfl rfl)
theorem dX2_refusedIf_5 : decode cX2_refusedIf 5 = .ok (.invokevirtual 158, 3) := dk_182 0 158 (dk_at dksX2_refusedIf_0 5 rfl rfl)
theorem dX2_refusedIf_8 : decode cX2_refusedIf 8 = .ok (.goto 4, 3) := dk_167 0 4 (dk_at dksX2_refusedIf_0 8 rfl rfl)
theorem dX2_refusedIf_11 : decode cX2_refusedIf 11 = .ok (.iconst 0, 1) := dk_3 (dk_at dksX2_refusedIf_0 11 rfl rfl)
theorem dX2_refusedIf_12 : decode cX2_refusedIf 12 = .ok (.ireturn, 1) := dk_172 (dk_at dksX2_refusedIf_0 12 rfl rfl)
abbrev cX2_remove : ByteArray := prog_8_method_63_code
def yX2_remove : MethodName := ⟨RX2, "remove", "(II)I"⟩
def dkwX2_remove_0 : List UInt8 := [42, 42, 27, 28, 182, 0, 92, 3, 182, 0, 81, 153, 0, 7, 3, 167, 0, 7, 42, 182, 0, 158, 172]
abbrev dktX2_remove_0 : List UInt8 := dkwX2_remove_0 ++ []
theorem dksX2_remove_0 : cX2_remove.data.toList.drop 0 = dktX2_remove_0 := by decide +kernel
theorem dX2_remove_0 : decode cX2_remove 0 = .ok (.aload_n 0, 1) := dk_42 (dk_at dksX2_remove_0 0 rfl rfl)
theorem dX2_remove_1 : decode cX2_remove 1 = .ok (.aload_n 0, 1) := dk_42 (dk_at dksX2_remove_0 1 rfl rfl)
theorem dX2_remove_2 : decode cX2_remove 2 = .ok (.iload_n 1, 1) := dk_27 (dk_at dksX2_remove_0 2 rfl rfl)
theorem dX2_remove_3 : decode cX2_remove 3 = .ok (.iload_n 2, 1) := dk_28 (dk_at dksX2_remove_0 3 rfl rfl)
theorem dX2_remove_4 : decode cX2_remove 4 = .ok (.invokevirtual 92, 3) := dk_182 0 92 (dk_at dksX2_remove_0 4 rfl rfl)
theorem dX2_remove_7 : decode cX2_remove 7 = .ok (.iconst 0, 1) := dk_3 (dk_at dksX2_remove_0 7 rfl rfl)
theorem dX2_remove_8 : decode cX2_remove 8 = .ok (.invokevirtual 81, 3) := dk_182 0 81 (dk_at dksX2_remove_0 8 rfl rfl)
theorem dX2_remove_11 : decode cX2_remove 11 = .ok (.ifCond .eq 7, 3) := dk_153 0 7 (dk_at dksX2_remove_0 11 rfl rfl)
theorem dX2_remove_14 : decode cX2_remove 14 = .ok (.iconst 0, 1) := dk_3 (dk_at dksX2_remove_0 14 rfl rfl)
theorem dX2_remove_15 : decode cX2_remove 15 = .ok (.goto 7, 3) := dk_167 0 7 (dk_at dksX2_remove_0 15 rfl rfl)
theorem dX2_remove_18 : decode cX2_remove 18 = .ok (.aload_n 0, 1) := dk_42 (dk_at dksX2_remove_0 18 rfl rfl)
theorem dX2_remove_19 : decode cX2_remove 19 = .ok (.invokevirtual 158, 3) := dk_182 0 158 (dk_at dksX2_remove_0 19 rfl rfl)
theorem dX2_remove_22 : decode cX2_remove 22 = .ok (.ireturn, 1) := dk_172 (dk_at dksX2_remove_0 22 rfl rfl)
abbrev cX2_removeValue : ByteArray := prog_8_method_64_code
def yX2_removeValue : MethodName := ⟨RX2, "removeValue", "(II)I"⟩
def dkwX2_removeValue_1 : List UInt8 := [182, 0, 95, 28, 184, 0, 119, 158, 0, 7, 4, 167, 0, 4, 3, 182, 0, 162, 172]
abbrev dktX2_removeValue_1 : List UInt8 := dkwX2_removeValue_1 ++ []
def dkwX2_removeValue_0 : List UInt8 := [42, 42, 27, 182, 0, 32, 28, 184, 0, 89, 182, 0, 81, 153, 0, 7, 3, 167, 0, 24, 42, 42, 27]
abbrev dktX2_removeValue_0 : List UInt8 := dkwX2_removeValue_0 ++ dktX2_removeValue_1
theorem dksX2_removeValue_0 : cX2_removeValue.data.toList.drop 0 = dktX2_removeValue_0 := by decide +kernel
theorem dksX2_removeValue_1 : cX2_removeValue.data.toList.drop 23 = dktX2_removeValue_1 := dk_seg dksX2_removeValue_0 23 rfl rfl
theorem dX2_removeValue_0 : decode cX2_removeValue 0 = .ok (.aload_n 0, 1) := dk_42 (dk_at dksX2_removeValue_0 0 rfl rfl)
theorem dX2_removeValue_1 : decode cX2_removeValue 1 = .ok (.aload_n 0, 1) := dk_42 (dk_at dksX2_removeValue_0 1 rfl rfl)
theorem dX2_removeValue_2 : decode cX2_removeValue 2 = .ok (.iload_n 1, 1) := dk_27 (dk_at dksX2_removeValue_0 2 rfl rfl)
theorem dX2_removeValue_3 : decode cX2_removeValue 3 = .ok (.invokevirtual 32, 3) := dk_182 0 32 (dk_at dksX2_removeValue_0 3 rfl rfl)
theorem dX2_removeValue_6 : decode cX2_removeValue 6 = .ok (.iload_n 2, 1) := dk_28 (dk_at dksX2_removeValue_0 6 rfl rfl)
theorem dX2_removeValue_7 : decode cX2_removeValue 7 = .ok (.invokestatic 89, 3) := dk_184 0 89 (dk_at dksX2_removeValue_0 7 rfl rfl)
theorem dX2_removeValue_10 : decode cX2_removeValue 10 = .ok (.invokevirtual 81, 3) := dk_182 0 81 (dk_at dksX2_removeValue_0 10 rfl rfl)
theorem dX2_removeValue_13 : decode cX2_removeValue 13 = .ok (.ifCond .eq 7, 3) := dk_153 0 7 (dk_at dksX2_removeValue_0 13 rfl rfl)
theorem dX2_removeValue_16 : decode cX2_removeValue 16 = .ok (.iconst 0, 1) := dk_3 (dk_at dksX2_removeValue_0 16 rfl rfl)
theorem dX2_removeValue_17 : decode cX2_removeValue 17 = .ok (.goto 24, 3) := dk_167 0 24 (dk_at dksX2_removeValue_0 17 rfl rfl)
theorem dX2_removeValue_20 : decode cX2_removeValue 20 = .ok (.aload_n 0, 1) := dk_42 (dk_at dksX2_removeValue_0 20 rfl rfl)
theorem dX2_removeValue_21 : decode cX2_removeValue 21 = .ok (.aload_n 0, 1) := dk_42 (dk_at dksX2_removeValue_0 21 rfl rfl)
theorem dX2_removeValue_22 : decode cX2_removeValue 22 = .ok (.iload_n 1, 1) := dk_27 (dk_at dksX2_removeValue_0 22 rfl rfl)
theorem dX2_removeValue_23 : decode cX2_removeValue 23 = .ok (.invokevirtual 95, 3) := dk_182 0 95 (dk_at dksX2_removeValue_1 0 rfl rfl)
theorem dX2_removeValue_26 : decode cX2_removeValue 26 = .ok (.iload_n 2, 1) := dk_28 (dk_at dksX2_removeValue_1 3 rfl rfl)
theorem dX2_removeValue_27 : decode cX2_removeValue 27 = .ok (.invokestatic 119, 3) := dk_184 0 119 (dk_at dksX2_removeValue_1 4 rfl rfl)
theorem dX2_removeValue_30 : decode cX2_removeValue 30 = .ok (.ifCond .le 7, 3) := dk_158 0 7 (dk_at dksX2_removeValue_1 7 rfl rfl)
theorem dX2_removeValue_33 : decode cX2_removeValue 33 = .ok (.iconst 1, 1) := dk_4 (dk_at dksX2_removeValue_1 10 rfl rfl)
theorem dX2_removeValue_34 : decode cX2_removeValue 34 = .ok (.goto 4, 3) := dk_167 0 4 (dk_at dksX2_removeValue_1 11 rfl rfl)
theorem dX2_removeValue_37 : decode cX2_removeValue 37 = .ok (.iconst 0, 1) := dk_3 (dk_at dksX2_removeValue_1 14 rfl rfl)
theorem dX2_removeValue_38 : decode cX2_removeValue 38 = .ok (.invokevirtual 162, 3) := dk_182 0 162 (dk_at dksX2_removeValue_1 15 rfl rfl)
theorem dX2_removeValue_41 : decode cX2_removeValue 41 = .ok (.ireturn, 1) := dk_172 (dk_at dksX2_removeValue_1 18 rfl rfl)
abbrev cX2_removeAll : ByteArray := prog_8_method_65_code
def yX2_removeAll : MethodName := ⟨RX2, "removeAll", "(II)I"⟩
def dkwX2_removeAll_1 : List UInt8 := [182, 0, 125, 158, 0, 7, 4, 167, 0, 4, 3, 182, 0, 162, 172]
abbrev dktX2_removeAll_1 : List UInt8 := dkwX2_removeAll_1 ++ []
def dkwX2_removeAll_0 : List UInt8 := [42, 42, 27, 28, 182, 0, 122, 3, 182, 0, 81, 153, 0, 7, 3, 167, 0, 21, 42, 42, 27, 28]
abbrev dktX2_removeAll_0 : List UInt8 := dkwX2_removeAll_0 ++ dktX2_removeAll_1
theorem dksX2_removeAll_0 : cX2_removeAll.data.toList.drop 0 = dktX2_removeAll_0 := by decide +kernel
theorem dksX2_removeAll_1 : cX2_removeAll.data.toList.drop 22 = dktX2_removeAll_1 := dk_seg dksX2_removeAll_0 22 rfl rfl
theorem dX2_removeAll_0 : decode cX2_removeAll 0 = .ok (.aload_n 0, 1) := dk_42 (dk_at dksX2_removeAll_0 0 rfl rfl)
theorem dX2_removeAll_1 : decode cX2_removeAll 1 = .ok (.aload_n 0, 1) := dk_42 (dk_at dksX2_removeAll_0 1 rfl rfl)
theorem dX2_removeAll_2 : decode cX2_removeAll 2 = .ok (.iload_n 1, 1) := dk_27 (dk_at dksX2_removeAll_0 2 rfl rfl)
theorem dX2_removeAll_3 : decode cX2_removeAll 3 = .ok (.iload_n 2, 1) := dk_28 (dk_at dksX2_removeAll_0 3 rfl rfl)
theorem dX2_removeAll_4 : decode cX2_removeAll 4 = .ok (.invokevirtual 122, 3) := dk_182 0 122 (dk_at dksX2_removeAll_0 4 rfl rfl)
theorem dX2_removeAll_7 : decode cX2_removeAll 7 = .ok (.iconst 0, 1) := dk_3 (dk_at dksX2_removeAll_0 7 rfl rfl)
theorem dX2_removeAll_8 : decode cX2_removeAll 8 = .ok (.invokevirtual 81, 3) := dk_182 0 81 (dk_at dksX2_removeAll_0 8 rfl rfl)
theorem dX2_removeAll_11 : decode cX2_removeAll 11 = .ok (.ifCond .eq 7, 3) := dk_153 0 7 (dk_at dksX2_removeAll_0 11 rfl rfl)
theorem dX2_removeAll_14 : decode cX2_removeAll 14 = .ok (.iconst 0, 1) := dk_3 (dk_at dksX2_removeAll_0 14 rfl rfl)
theorem dX2_removeAll_15 : decode cX2_removeAll 15 = .ok (.goto 21, 3) := dk_167 0 21 (dk_at dksX2_removeAll_0 15 rfl rfl)
theorem dX2_removeAll_18 : decode cX2_removeAll 18 = .ok (.aload_n 0, 1) := dk_42 (dk_at dksX2_removeAll_0 18 rfl rfl)
theorem dX2_removeAll_19 : decode cX2_removeAll 19 = .ok (.aload_n 0, 1) := dk_42 (dk_at dksX2_removeAll_0 19 rfl rfl)
theorem dX2_removeAll_20 : decode cX2_removeAll 20 = .ok (.iload_n 1, 1) := dk_27 (dk_at dksX2_removeAll_0 20 rfl rfl)
theorem dX2_removeAll_21 : decode cX2_removeAll 21 = .ok (.iload_n 2, 1) := dk_28 (dk_at dksX2_removeAll_0 21 rfl rfl)
theorem dX2_removeAll_22 : decode cX2_removeAll 22 = .ok (.invokevirtual 125, 3) := dk_182 0 125 (dk_at dksX2_removeAll_1 0 rfl rfl)
theorem dX2_removeAll_25 : decode cX2_removeAll 25 = .ok (.ifCond .le 7, 3) := dk_158 0 7 (dk_at dksX2_removeAll_1 3 rfl rfl)
theorem dX2_removeAll_28 : decode cX2_removeAll 28 = .ok (.iconst 1, 1) := dk_4 (dk_at dksX2_removeAll_1 6 rfl rfl)
theorem dX2_removeAll_29 : decode cX2_removeAll 29 = .ok (.goto 4, 3) := dk_167 0 4 (dk_at dksX2_removeAll_1 7 rfl rfl)
theorem dX2_removeAll_32 : decode cX2_removeAll 32 = .ok (.iconst 0, 1) := dk_3 (dk_at dksX2_removeAll_1 10 rfl rfl)
theorem dX2_removeAll_33 : decode cX2_removeAll 33 = .ok (.invokevirtual 162, 3) := dk_182 0 162 (dk_at dksX2_removeAll_1 11 rfl rfl)
theorem dX2_removeAll_36 : decode cX2_removeAll 36 = .ok (.ireturn, 1) := dk_172 (dk_at dksX2_removeAll_1 14 rfl rfl)
abbrev cX2_retainAll : ByteArray := prog_8_method_66_code
def yX2_retainAll : MethodName := ⟨RX2, "retainAll", "(II)I"⟩
def dkwX2_retainAll_1 : List UInt8 := [182, 0, 125, 42, 180, 0, 21, 27, 46, 162, 0, 7, 4, 167, 0, 4, 3, 182, 0, 162, 172]
abbrev dktX2_retainAll_1 : List UInt8 := dkwX2_retainAll_1 ++ []
def dkwX2_retainAll_0 : List UInt8 := [42, 42, 27, 28, 182, 0, 122, 3, 182, 0, 81, 153, 0, 7, 3, 167, 0, 27, 42, 42, 27, 28]
abbrev dktX2_retainAll_0 : List UInt8 := dkwX2_retainAll_0 ++ dktX2_retainAll_1
theorem dksX2_retainAll_0 : cX2_retainAll.data.toList.drop 0 = dktX2_retainAll_0 := by decide +kernel
theorem dksX2_retainAll_1 : cX2_retainAll.data.toList.drop 22 = dktX2_retainAll_1 := dk_seg dksX2_retainAll_0 22 rfl rfl
theorem dX2_retainAll_0 : decode cX2_retainAll 0 = .ok (.aload_n 0, 1) := dk_42 (dk_at dksX2_retainAll_0 0 rfl rfl)
theorem dX2_retainAll_1 : decode cX2_retainAll 1 = .ok (.aload_n 0, 1) := dk_42 (dk_at dksX2_retainAll_0 1 rfl rfl)
theorem dX2_retainAll_2 : decode cX2_retainAll 2 = .ok (.iload_n 1, 1) := dk_27 (dk_at dksX2_retainAll_0 2 rfl rfl)
theorem dX2_retainAll_3 : decode cX2_retainAll 3 = .ok (.iload_n 2, 1) := dk_28 (dk_at dksX2_retainAll_0 3 rfl rfl)
theorem dX2_retainAll_4 : decode cX2_retainAll 4 = .ok (.invokevirtual 122, 3) := dk_182 0 122 (dk_at dksX2_retainAll_0 4 rfl rfl)
theorem dX2_retainAll_7 : decode cX2_retainAll 7 = .ok (.iconst 0, 1) := dk_3 (dk_at dksX2_retainAll_0 7 rfl rfl)
theorem dX2_retainAll_8 : decode cX2_retainAll 8 = .ok (.invokevirtual 81, 3) := dk_182 0 81 (dk_at dksX2_retainAll_0 8 rfl rfl)
theorem dX2_retainAll_11 : decode cX2_retainAll 11 = .ok (.ifCond .eq 7, 3) := dk_153 0 7 (dk_at dksX2_retainAll_0 11 rfl rfl)
theorem dX2_retainAll_14 : decode cX2_retainAll 14 = .ok (.iconst 0, 1) := dk_3 (dk_at dksX2_retainAll_0 14 rfl rfl)
theorem dX2_retainAll_15 : decode cX2_retainAll 15 = .ok (.goto 27, 3) := dk_167 0 27 (dk_at dksX2_retainAll_0 15 rfl rfl)
theorem dX2_retainAll_18 : decode cX2_retainAll 18 = .ok (.aload_n 0, 1) := dk_42 (dk_at dksX2_retainAll_0 18 rfl rfl)
theorem dX2_retainAll_19 : decode cX2_retainAll 19 = .ok (.aload_n 0, 1) := dk_42 (dk_at dksX2_retainAll_0 19 rfl rfl)
theorem dX2_retainAll_20 : decode cX2_retainAll 20 = .ok (.iload_n 1, 1) := dk_27 (dk_at dksX2_retainAll_0 20 rfl rfl)
theorem dX2_retainAll_21 : decode cX2_retainAll 21 = .ok (.iload_n 2, 1) := dk_28 (dk_at dksX2_retainAll_0 21 rfl rfl)
theorem dX2_retainAll_22 : decode cX2_retainAll 22 = .ok (.invokevirtual 125, 3) := dk_182 0 125 (dk_at dksX2_retainAll_1 0 rfl rfl)
theorem dX2_retainAll_25 : decode cX2_retainAll 25 = .ok (.aload_n 0, 1) := dk_42 (dk_at dksX2_retainAll_1 3 rfl rfl)
theorem dX2_retainAll_26 : decode cX2_retainAll 26 = .ok (.getfield 21, 3) := dk_180 0 21 (dk_at dksX2_retainAll_1 4 rfl rfl)
theorem dX2_retainAll_29 : decode cX2_retainAll 29 = .ok (.iload_n 1, 1) := dk_27 (dk_at dksX2_retainAll_1 7 rfl rfl)
theorem dX2_retainAll_30 : decode cX2_retainAll 30 = .ok (.iaload, 1) := dk_46 (dk_at dksX2_retainAll_1 8 rfl rfl)
theorem dX2_retainAll_31 : decode cX2_retainAll 31 = .ok (.if_icmp .ge 7, 3) := dk_162 0 7 (dk_at dksX2_retainAll_1 9 rfl rfl)
theorem dX2_retainAll_34 : decode cX2_retainAll 34 = .ok (.iconst 1, 1) := dk_4 (dk_at dksX2_retainAll_1 12 rfl rfl)
theorem dX2_retainAll_35 : decode cX2_retainAll 35 = .ok (.goto 4, 3) := dk_167 0 4 (dk_at dksX2_retainAll_1 13 rfl rfl)
theorem dX2_retainAll_38 : decode cX2_retainAll 38 = .ok (.iconst 0, 1) := dk_3 (dk_at dksX2_retainAll_1 16 rfl rfl)
theorem dX2_retainAll_39 : decode cX2_retainAll 39 = .ok (.invokevirtual 162, 3) := dk_182 0 162 (dk_at dksX2_retainAll_1 17 rfl rfl)
theorem dX2_retainAll_42 : decode cX2_retainAll 42 = .ok (.ireturn, 1) := dk_172 (dk_at dksX2_retainAll_1 20 rfl rfl)
abbrev cX2_removeIf : ByteArray := prog_8_method_67_code
def yX2_removeIf : MethodName := ⟨RX2, "removeIf", "(III)I"⟩
def dkwX2_removeIf_4 : List UInt8 := [172]
abbrev dktX2_removeIf_4 : List UInt8 := dkwX2_removeIf_4 ++ []
def dkwX2_removeIf_3 : List UInt8 := [21, 4, 28, 21, 8, 29, 184, 0, 165, 128, 54, 4, 132, 7, 1, 167, 255, 227, 42, 21, 4, 182, 0, 162]
abbrev dktX2_removeIf_3 : List UInt8 := dkwX2_removeIf_3 ++ dktX2_removeIf_4
def dkwX2_removeIf_2 : List UInt8 := [58, 5, 25, 5, 190, 54, 6, 3, 54, 7, 21, 7, 21, 6, 162, 0, 28, 25, 5, 21, 7, 46, 54, 8]
abbrev dktX2_removeIf_2 : List UInt8 := dkwX2_removeIf_2 ++ dktX2_removeIf_3
def dkwX2_removeIf_1 : List UInt8 := [154, 0, 7, 4, 167, 0, 4, 3, 182, 0, 81, 153, 0, 5, 3, 172, 3, 54, 4, 42, 27, 182, 0, 95]
abbrev dktX2_removeIf_1 : List UInt8 := dkwX2_removeIf_1 ++ dktX2_removeIf_2
def dkwX2_removeIf_0 : List UInt8 := [42, 42, 27, 182, 0, 32, 28, 3, 5, 184, 0, 24, 153, 0, 14, 29, 16, 157, 16, 99, 184, 0, 24]
abbrev dktX2_removeIf_0 : List UInt8 := dkwX2_removeIf_0 ++ dktX2_removeIf_1
theorem dksX2_removeIf_0 : cX2_removeIf.data.toList.drop 0 = dktX2_removeIf_0 := by decide +kernel
theorem dksX2_removeIf_1 : cX2_removeIf.data.toList.drop 23 = dktX2_removeIf_1 := dk_seg dksX2_removeIf_0 23 rfl rfl
theorem dksX2_removeIf_2 : cX2_removeIf.data.toList.drop 47 = dktX2_removeIf_2 := dk_seg dksX2_removeIf_1 24 rfl rfl
theorem dksX2_removeIf_3 : cX2_removeIf.data.toList.drop 71 = dktX2_removeIf_3 := dk_seg dksX2_removeIf_2 24 rfl rfl
theorem dksX2_removeIf_4 : cX2_removeIf.data.toList.drop 95 = dktX2_removeIf_4 := dk_seg dksX2_removeIf_3 24 rfl rfl
theorem dX2_removeIf_0 : decode cX2_removeIf 0 = .ok (.aload_n 0, 1) := dk_42 (dk_at dksX2_removeIf_0 0 rfl rfl)
theorem dX2_removeIf_1 : decode cX2_removeIf 1 = .ok (.aload_n 0, 1) := dk_42 (dk_at dksX2_removeIf_0 1 rfl rfl)
theorem dX2_removeIf_2 : decode cX2_removeIf 2 = .ok (.iload_n 1, 1) := dk_27 (dk_at dksX2_removeIf_0 2 rfl rfl)
theorem dX2_removeIf_3 : decode cX2_removeIf 3 = .ok (.invokevirtual 32, 3) := dk_182 0 32 (dk_at dksX2_removeIf_0 3 rfl rfl)
theorem dX2_removeIf_6 : decode cX2_removeIf 6 = .ok (.iload_n 2, 1) := dk_28 (dk_at dksX2_removeIf_0 6 rfl rfl)
theorem dX2_removeIf_7 : decode cX2_removeIf 7 = .ok (.iconst 0, 1) := dk_3 (dk_at dksX2_removeIf_0 7 rfl rfl)
theorem dX2_removeIf_8 : decode cX2_removeIf 8 = .ok (.iconst 2, 1) := dk_5 (dk_at dksX2_removeIf_0 8 rfl rfl)
theorem dX2_removeIf_9 : decode cX2_removeIf 9 = .ok (.invokestatic 24, 3) := dk_184 0 24 (dk_at dksX2_removeIf_0 9 rfl rfl)
theorem dX2_removeIf_12 : decode cX2_removeIf 12 = .ok (.ifCond .eq 14, 3) := dk_153 0 14 (dk_at dksX2_removeIf_0 12 rfl rfl)
theorem dX2_removeIf_15 : decode cX2_removeIf 15 = .ok (.iload_n 3, 1) := dk_29 (dk_at dksX2_removeIf_0 15 rfl rfl)
theorem dX2_removeIf_16 : decode cX2_removeIf 16 = .ok (.bipush (-99), 2) := dk_16 157 (dk_at dksX2_removeIf_0 16 rfl rfl)
theorem dX2_removeIf_18 : decode cX2_removeIf 18 = .ok (.bipush 99, 2) := dk_16 99 (dk_at dksX2_removeIf_0 18 rfl rfl)
theorem dX2_removeIf_20 : decode cX2_removeIf 20 = .ok (.invokestatic 24, 3) := dk_184 0 24 (dk_at dksX2_removeIf_0 20 rfl rfl)
theorem dX2_removeIf_23 : decode cX2_removeIf 23 = .ok (.ifCond .ne 7, 3) := dk_154 0 7 (dk_at dksX2_removeIf_1 0 rfl rfl)
theorem dX2_removeIf_26 : decode cX2_removeIf 26 = .ok (.iconst 1, 1) := dk_4 (dk_at dksX2_removeIf_1 3 rfl rfl)
theorem dX2_removeIf_27 : decode cX2_removeIf 27 = .ok (.goto 4, 3) := dk_167 0 4 (dk_at dksX2_removeIf_1 4 rfl rfl)
theorem dX2_removeIf_30 : decode cX2_removeIf 30 = .ok (.iconst 0, 1) := dk_3 (dk_at dksX2_removeIf_1 7 rfl rfl)
theorem dX2_removeIf_31 : decode cX2_removeIf 31 = .ok (.invokevirtual 81, 3) := dk_182 0 81 (dk_at dksX2_removeIf_1 8 rfl rfl)
theorem dX2_removeIf_34 : decode cX2_removeIf 34 = .ok (.ifCond .eq 5, 3) := dk_153 0 5 (dk_at dksX2_removeIf_1 11 rfl rfl)
theorem dX2_removeIf_37 : decode cX2_removeIf 37 = .ok (.iconst 0, 1) := dk_3 (dk_at dksX2_removeIf_1 14 rfl rfl)
theorem dX2_removeIf_38 : decode cX2_removeIf 38 = .ok (.ireturn, 1) := dk_172 (dk_at dksX2_removeIf_1 15 rfl rfl)
theorem dX2_removeIf_39 : decode cX2_removeIf 39 = .ok (.iconst 0, 1) := dk_3 (dk_at dksX2_removeIf_1 16 rfl rfl)
theorem dX2_removeIf_40 : decode cX2_removeIf 40 = .ok (.istore 4, 2) := dk_54 4 (dk_at dksX2_removeIf_1 17 rfl rfl)
theorem dX2_removeIf_42 : decode cX2_removeIf 42 = .ok (.aload_n 0, 1) := dk_42 (dk_at dksX2_removeIf_1 19 rfl rfl)
theorem dX2_removeIf_43 : decode cX2_removeIf 43 = .ok (.iload_n 1, 1) := dk_27 (dk_at dksX2_removeIf_1 20 rfl rfl)
theorem dX2_removeIf_44 : decode cX2_removeIf 44 = .ok (.invokevirtual 95, 3) := dk_182 0 95 (dk_at dksX2_removeIf_1 21 rfl rfl)
theorem dX2_removeIf_47 : decode cX2_removeIf 47 = .ok (.astore 5, 2) := dk_58 5 (dk_at dksX2_removeIf_2 0 rfl rfl)
theorem dX2_removeIf_49 : decode cX2_removeIf 49 = .ok (.aload 5, 2) := dk_25 5 (dk_at dksX2_removeIf_2 2 rfl rfl)
theorem dX2_removeIf_51 : decode cX2_removeIf 51 = .ok (.arraylength, 1) := dk_190 (dk_at dksX2_removeIf_2 4 rfl rfl)
theorem dX2_removeIf_52 : decode cX2_removeIf 52 = .ok (.istore 6, 2) := dk_54 6 (dk_at dksX2_removeIf_2 5 rfl rfl)
theorem dX2_removeIf_54 : decode cX2_removeIf 54 = .ok (.iconst 0, 1) := dk_3 (dk_at dksX2_removeIf_2 7 rfl rfl)
theorem dX2_removeIf_55 : decode cX2_removeIf 55 = .ok (.istore 7, 2) := dk_54 7 (dk_at dksX2_removeIf_2 8 rfl rfl)
theorem dX2_removeIf_57 : decode cX2_removeIf 57 = .ok (.iload 7, 2) := dk_21 7 (dk_at dksX2_removeIf_2 10 rfl rfl)
theorem dX2_removeIf_59 : decode cX2_removeIf 59 = .ok (.iload 6, 2) := dk_21 6 (dk_at dksX2_removeIf_2 12 rfl rfl)
theorem dX2_removeIf_61 : decode cX2_removeIf 61 = .ok (.if_icmp .ge 28, 3) := dk_162 0 28 (dk_at dksX2_removeIf_2 14 rfl rfl)
theorem dX2_removeIf_64 : decode cX2_removeIf 64 = .ok (.aload 5, 2) := dk_25 5 (dk_at dksX2_removeIf_2 17 rfl rfl)
theorem dX2_removeIf_66 : decode cX2_removeIf 66 = .ok (.iload 7, 2) := dk_21 7 (dk_at dksX2_removeIf_2 19 rfl rfl)
theorem dX2_removeIf_68 : decode cX2_removeIf 68 = .ok (.iaload, 1) := dk_46 (dk_at dksX2_removeIf_2 21 rfl rfl)
theorem dX2_removeIf_69 : decode cX2_removeIf 69 = .ok (.istore 8, 2) := dk_54 8 (dk_at dksX2_removeIf_2 22 rfl rfl)
theorem dX2_removeIf_71 : decode cX2_removeIf 71 = .ok (.iload 4, 2) := dk_21 4 (dk_at dksX2_removeIf_3 0 rfl rfl)
theorem dX2_removeIf_73 : decode cX2_removeIf 73 = .ok (.iload_n 2, 1) := dk_28 (dk_at dksX2_removeIf_3 2 rfl rfl)
theorem dX2_removeIf_74 : decode cX2_removeIf 74 = .ok (.iload 8, 2) := dk_21 8 (dk_at dksX2_removeIf_3 3 rfl rfl)
theorem dX2_removeIf_76 : decode cX2_removeIf 76 = .ok (.iload_n 3, 1) := dk_29 (dk_at dksX2_removeIf_3 5 rfl rfl)
theorem dX2_removeIf_77 : decode cX2_removeIf 77 = .ok (.invokestatic 165, 3) := dk_184 0 165 (dk_at dksX2_removeIf_3 6 rfl rfl)
theorem dX2_removeIf_80 : decode cX2_removeIf 80 = .ok (.ior, 1) := dk_128 (dk_at dksX2_removeIf_3 9 rfl rfl)
theorem dX2_removeIf_81 : decode cX2_removeIf 81 = .ok (.istore 4, 2) := dk_54 4 (dk_at dksX2_removeIf_3 10 rfl rfl)
theorem dX2_removeIf_83 : decode cX2_removeIf 83 = .ok (.iinc 7 1, 3) := dk_132 7 1 (dk_at dksX2_removeIf_3 12 rfl rfl)
theorem dX2_removeIf_86 : decode cX2_removeIf 86 = .ok (.goto (-29), 3) := dk_167 255 227 (dk_at dksX2_removeIf_3 15 rfl rfl)
theorem dX2_removeIf_89 : decode cX2_removeIf 89 = .ok (.aload_n 0, 1) := dk_42 (dk_at dksX2_removeIf_3 18 rfl rfl)
theorem dX2_removeIf_90 : decode cX2_removeIf 90 = .ok (.iload 4, 2) := dk_21 4 (dk_at dksX2_removeIf_3 19 rfl rfl)
theorem dX2_removeIf_92 : decode cX2_removeIf 92 = .ok (.invokevirtual 162, 3) := dk_182 0 162 (dk_at dksX2_removeIf_3 21 rfl rfl)
theorem dX2_removeIf_95 : decode cX2_removeIf 95 = .ok (.ireturn, 1) := dk_172 (dk_at dksX2_removeIf_4 0 rfl rfl)
abbrev cX2_tested : ByteArray := prog_8_method_17_code
def yX2_tested : MethodName := ⟨RX2, "tested", "(III)Z"⟩
def dkwX2_tested_2 : List UInt8 := [162, 0, 7, 4, 167, 0, 4, 3, 172]
abbrev dktX2_tested_2 : List UInt8 := dkwX2_tested_2 ++ []
def dkwX2_tested_1 : List UInt8 := [27, 28, 160, 0, 7, 4, 167, 0, 24, 3, 167, 0, 20, 27, 17, 252, 24, 159, 0, 12, 27, 28]
abbrev dktX2_tested_1 : List UInt8 := dkwX2_tested_1 ++ dktX2_tested_2
def dkwX2_tested_0 : List UInt8 := [26, 154, 0, 18, 27, 17, 252, 24, 160, 0, 7, 4, 167, 0, 42, 3, 167, 0, 38, 26, 4, 160, 0, 16]
abbrev dktX2_tested_0 : List UInt8 := dkwX2_tested_0 ++ dktX2_tested_1
theorem dksX2_tested_0 : cX2_tested.data.toList.drop 0 = dktX2_tested_0 := by decide +kernel
theorem dksX2_tested_1 : cX2_tested.data.toList.drop 24 = dktX2_tested_1 := dk_seg dksX2_tested_0 24 rfl rfl
theorem dksX2_tested_2 : cX2_tested.data.toList.drop 46 = dktX2_tested_2 := dk_seg dksX2_tested_1 22 rfl rfl
theorem dX2_tested_0 : decode cX2_tested 0 = .ok (.iload_n 0, 1) := dk_26 (dk_at dksX2_tested_0 0 rfl rfl)
theorem dX2_tested_1 : decode cX2_tested 1 = .ok (.ifCond .ne 18, 3) := dk_154 0 18 (dk_at dksX2_tested_0 1 rfl rfl)
theorem dX2_tested_4 : decode cX2_tested 4 = .ok (.iload_n 1, 1) := dk_27 (dk_at dksX2_tested_0 4 rfl rfl)
theorem dX2_tested_5 : decode cX2_tested 5 = .ok (.sipush (-1000), 3) := dk_17 252 24 (dk_at dksX2_tested_0 5 rfl rfl)
theorem dX2_tested_8 : decode cX2_tested 8 = .ok (.if_icmp .ne 7, 3) := dk_160 0 7 (dk_at dksX2_tested_0 8 rfl rfl)
theorem dX2_tested_11 : decode cX2_tested 11 = .ok (.iconst 1, 1) := dk_4 (dk_at dksX2_tested_0 11 rfl rfl)
theorem dX2_tested_12 : decode cX2_tested 12 = .ok (.goto 42, 3) := dk_167 0 42 (dk_at dksX2_tested_0 12 rfl rfl)
theorem dX2_tested_15 : decode cX2_tested 15 = .ok (.iconst 0, 1) := dk_3 (dk_at dksX2_tested_0 15 rfl rfl)
theorem dX2_tested_16 : decode cX2_tested 16 = .ok (.goto 38, 3) := dk_167 0 38 (dk_at dksX2_tested_0 16 rfl rfl)
theorem dX2_tested_19 : decode cX2_tested 19 = .ok (.iload_n 0, 1) := dk_26 (dk_at dksX2_tested_0 19 rfl rfl)
theorem dX2_tested_20 : decode cX2_tested 20 = .ok (.iconst 1, 1) := dk_4 (dk_at dksX2_tested_0 20 rfl rfl)
theorem dX2_tested_21 : decode cX2_tested 21 = .ok (.if_icmp .ne 16, 3) := dk_160 0 16 (dk_at dksX2_tested_0 21 rfl rfl)
theorem dX2_tested_24 : decode cX2_tested 24 = .ok (.iload_n 1, 1) := dk_27 (dk_at dksX2_tested_1 0 rfl rfl)
theorem dX2_tested_25 : decode cX2_tested 25 = .ok (.iload_n 2, 1) := dk_28 (dk_at dksX2_tested_1 1 rfl rfl)
theorem dX2_tested_26 : decode cX2_tested 26 = .ok (.if_icmp .ne 7, 3) := dk_160 0 7 (dk_at dksX2_tested_1 2 rfl rfl)
theorem dX2_tested_29 : decode cX2_tested 29 = .ok (.iconst 1, 1) := dk_4 (dk_at dksX2_tested_1 5 rfl rfl)
theorem dX2_tested_30 : decode cX2_tested 30 = .ok (.goto 24, 3) := dk_167 0 24 (dk_at dksX2_tested_1 6 rfl rfl)
theorem dX2_tested_33 : decode cX2_tested 33 = .ok (.iconst 0, 1) := dk_3 (dk_at dksX2_tested_1 9 rfl rfl)
theorem dX2_tested_34 : decode cX2_tested 34 = .ok (.goto 20, 3) := dk_167 0 20 (dk_at dksX2_tested_1 10 rfl rfl)
theorem dX2_tested_37 : decode cX2_tested 37 = .ok (.iload_n 1, 1) := dk_27 (dk_at dksX2_tested_1 13 rfl rfl)
theorem dX2_tested_38 : decode cX2_tested 38 = .ok (.sipush (-1000), 3) := dk_17 252 24 (dk_at dksX2_tested_1 14 rfl rfl)
theorem dX2_tested_41 : decode cX2_tested 41 = .ok (.if_icmp .eq 12, 3) := dk_159 0 12 (dk_at dksX2_tested_1 17 rfl rfl)
theorem dX2_tested_44 : decode cX2_tested 44 = .ok (.iload_n 1, 1) := dk_27 (dk_at dksX2_tested_1 20 rfl rfl)
theorem dX2_tested_45 : decode cX2_tested 45 = .ok (.iload_n 2, 1) := dk_28 (dk_at dksX2_tested_1 21 rfl rfl)
theorem dX2_tested_46 : decode cX2_tested 46 = .ok (.if_icmp .ge 7, 3) := dk_162 0 7 (dk_at dksX2_tested_2 0 rfl rfl)
theorem dX2_tested_49 : decode cX2_tested 49 = .ok (.iconst 1, 1) := dk_4 (dk_at dksX2_tested_2 3 rfl rfl)
theorem dX2_tested_50 : decode cX2_tested 50 = .ok (.goto 4, 3) := dk_167 0 4 (dk_at dksX2_tested_2 4 rfl rfl)
theorem dX2_tested_53 : decode cX2_tested 53 = .ok (.iconst 0, 1) := dk_3 (dk_at dksX2_tested_2 7 rfl rfl)
theorem dX2_tested_54 : decode cX2_tested 54 = .ok (.ireturn, 1) := dk_172 (dk_at dksX2_tested_2 8 rfl rfl)
abbrev cX2_clear : ByteArray := prog_8_method_68_code
def yX2_clear : MethodName := ⟨RX2, "clear", "(I)I"⟩
def dkwX2_clear_1 : List UInt8 := [158, 0, 7, 4, 167, 0, 4, 3, 182, 0, 162, 172]
abbrev dktX2_clear_1 : List UInt8 := dkwX2_clear_1 ++ []
def dkwX2_clear_0 : List UInt8 := [42, 42, 27, 182, 0, 32, 3, 182, 0, 81, 153, 0, 7, 3, 167, 0, 21, 42, 42, 180, 0, 21, 27, 46]
abbrev dktX2_clear_0 : List UInt8 := dkwX2_clear_0 ++ dktX2_clear_1
theorem dksX2_clear_0 : cX2_clear.data.toList.drop 0 = dktX2_clear_0 := by decide +kernel
theorem dksX2_clear_1 : cX2_clear.data.toList.drop 24 = dktX2_clear_1 := dk_seg dksX2_clear_0 24 rfl rfl
theorem dX2_clear_0 : decode cX2_clear 0 = .ok (.aload_n 0, 1) := dk_42 (dk_at dksX2_clear_0 0 rfl rfl)
theorem dX2_clear_1 : decode cX2_clear 1 = .ok (.aload_n 0, 1) := dk_42 (dk_at dksX2_clear_0 1 rfl rfl)
theorem dX2_clear_2 : decode cX2_clear 2 = .ok (.iload_n 1, 1) := dk_27 (dk_at dksX2_clear_0 2 rfl rfl)
theorem dX2_clear_3 : decode cX2_clear 3 = .ok (.invokevirtual 32, 3) := dk_182 0 32 (dk_at dksX2_clear_0 3 rfl rfl)
theorem dX2_clear_6 : decode cX2_clear 6 = .ok (.iconst 0, 1) := dk_3 (dk_at dksX2_clear_0 6 rfl rfl)
theorem dX2_clear_7 : decode cX2_clear 7 = .ok (.invokevirtual 81, 3) := dk_182 0 81 (dk_at dksX2_clear_0 7 rfl rfl)
theorem dX2_clear_10 : decode cX2_clear 10 = .ok (.ifCond .eq 7, 3) := dk_153 0 7 (dk_at dksX2_clear_0 10 rfl rfl)
theorem dX2_clear_13 : decode cX2_clear 13 = .ok (.iconst 0, 1) := dk_3 (dk_at dksX2_clear_0 13 rfl rfl)
theorem dX2_clear_14 : decode cX2_clear 14 = .ok (.goto 21, 3) := dk_167 0 21 (dk_at dksX2_clear_0 14 rfl rfl)
theorem dX2_clear_17 : decode cX2_clear 17 = .ok (.aload_n 0, 1) := dk_42 (dk_at dksX2_clear_0 17 rfl rfl)
theorem dX2_clear_18 : decode cX2_clear 18 = .ok (.aload_n 0, 1) := dk_42 (dk_at dksX2_clear_0 18 rfl rfl)
theorem dX2_clear_19 : decode cX2_clear 19 = .ok (.getfield 21, 3) := dk_180 0 21 (dk_at dksX2_clear_0 19 rfl rfl)
theorem dX2_clear_22 : decode cX2_clear 22 = .ok (.iload_n 1, 1) := dk_27 (dk_at dksX2_clear_0 22 rfl rfl)
theorem dX2_clear_23 : decode cX2_clear 23 = .ok (.iaload, 1) := dk_46 (dk_at dksX2_clear_0 23 rfl rfl)
theorem dX2_clear_24 : decode cX2_clear 24 = .ok (.ifCond .le 7, 3) := dk_158 0 7 (dk_at dksX2_clear_1 0 rfl rfl)
theorem dX2_clear_27 : decode cX2_clear 27 = .ok (.iconst 1, 1) := dk_4 (dk_at dksX2_clear_1 3 rfl rfl)
theorem dX2_clear_28 : decode cX2_clear 28 = .ok (.goto 4, 3) := dk_167 0 4 (dk_at dksX2_clear_1 4 rfl rfl)
theorem dX2_clear_31 : decode cX2_clear 31 = .ok (.iconst 0, 1) := dk_3 (dk_at dksX2_clear_1 7 rfl rfl)
theorem dX2_clear_32 : decode cX2_clear 32 = .ok (.invokevirtual 162, 3) := dk_182 0 162 (dk_at dksX2_clear_1 8 rfl rfl)
theorem dX2_clear_35 : decode cX2_clear 35 = .ok (.ireturn, 1) := dk_172 (dk_at dksX2_clear_1 11 rfl rfl)
abbrev cX2_walkChange : ByteArray := prog_8_method_69_code
def yX2_walkChange : MethodName := ⟨RX2, "walkChange", "(III)I"⟩
def dkwX2_walkChange_1 : List UInt8 := [153, 0, 7, 3, 167, 0, 7, 42, 182, 0, 158, 172]
abbrev dktX2_walkChange_1 : List UInt8 := dkwX2_walkChange_1 ++ []
def dkwX2_walkChange_0 : List UInt8 := [42, 42, 27, 28, 182, 0, 92, 29, 3, 5, 184, 0, 24, 154, 0, 7, 4, 167, 0, 4, 3, 182, 0, 81]
abbrev dktX2_walkChange_0 : List UInt8 := dkwX2_walkChange_0 ++ dktX2_walkChange_1
theorem dksX2_walkChange_0 : cX2_walkChange.data.toList.drop 0 = dktX2_walkChange_0 := by decide +kernel
theorem dksX2_walkChange_1 : cX2_walkChange.data.toList.drop 24 = dktX2_walkChange_1 := dk_seg dksX2_walkChange_0 24 rfl rfl
theorem dX2_walkChange_0 : decode cX2_walkChange 0 = .ok (.aload_n 0, 1) := dk_42 (dk_at dksX2_walkChange_0 0 rfl rfl)
theorem dX2_walkChange_1 : decode cX2_walkChange 1 = .ok (.aload_n 0, 1) := dk_42 (dk_at dksX2_walkChange_0 1 rfl rfl)
theorem dX2_walkChange_2 : decode cX2_walkChange 2 = .ok (.iload_n 1, 1) := dk_27 (dk_at dksX2_walkChange_0 2 rfl rfl)
theorem dX2_walkChange_3 : decode cX2_walkChange 3 = .ok (.iload_n 2, 1) := dk_28 (dk_at dksX2_walkChange_0 3 rfl rfl)
theorem dX2_walkChange_4 : decode cX2_walkChange 4 = .ok (.invokevirtual 92, 3) := dk_182 0 92 (dk_at dksX2_walkChange_0 4 rfl rfl)
theorem dX2_walkChange_7 : decode cX2_walkChange 7 = .ok (.iload_n 3, 1) := dk_29 (dk_at dksX2_walkChange_0 7 rfl rfl)
theorem dX2_walkChange_8 : decode cX2_walkChange 8 = .ok (.iconst 0, 1) := dk_3 (dk_at dksX2_walkChange_0 8 rfl rfl)
theorem dX2_walkChange_9 : decode cX2_walkChange 9 = .ok (.iconst 2, 1) := dk_5 (dk_at dksX2_walkChange_0 9 rfl rfl)
theorem dX2_walkChange_10 : decode cX2_walkChange 10 = .ok (.invokestatic 24, 3) := dk_184 0 24 (dk_at dksX2_walkChange_0 10 rfl rfl)
theorem dX2_walkChange_13 : decode cX2_walkChange 13 = .ok (.ifCond .ne 7, 3) := dk_154 0 7 (dk_at dksX2_walkChange_0 13 rfl rfl)
theorem dX2_walkChange_16 : decode cX2_walkChange 16 = .ok (.iconst 1, 1) := dk_4 (dk_at dksX2_walkChange_0 16 rfl rfl)
theorem dX2_walkChange_17 : decode cX2_walkChange 17 = .ok (.goto 4, 3) := dk_167 0 4 (dk_at dksX2_walkChange_0 17 rfl rfl)
theorem dX2_walkChange_20 : decode cX2_walkChange 20 = .ok (.iconst 0, 1) := dk_3 (dk_at dksX2_walkChange_0 20 rfl rfl)
theorem dX2_walkChange_21 : decode cX2_walkChange 21 = .ok (.invokevirtual 81, 3) := dk_182 0 81 (dk_at dksX2_walkChange_0 21 rfl rfl)
theorem dX2_walkChange_24 : decode cX2_walkChange 24 = .ok (.ifCond .eq 7, 3) := dk_153 0 7 (dk_at dksX2_walkChange_1 0 rfl rfl)
theorem dX2_walkChange_27 : decode cX2_walkChange 27 = .ok (.iconst 0, 1) := dk_3 (dk_at dksX2_walkChange_1 3 rfl rfl)
theorem dX2_walkChange_28 : decode cX2_walkChange 28 = .ok (.goto 7, 3) := dk_167 0 7 (dk_at dksX2_walkChange_1 4 rfl rfl)
theorem dX2_walkChange_31 : decode cX2_walkChange 31 = .ok (.aload_n 0, 1) := dk_42 (dk_at dksX2_walkChange_1 7 rfl rfl)
theorem dX2_walkChange_32 : decode cX2_walkChange 32 = .ok (.invokevirtual 158, 3) := dk_182 0 158 (dk_at dksX2_walkChange_1 8 rfl rfl)
theorem dX2_walkChange_35 : decode cX2_walkChange 35 = .ok (.ireturn, 1) := dk_172 (dk_at dksX2_walkChange_1 11 rfl rfl)
abbrev cX2_knock : ByteArray := prog_8_method_70_code
def yX2_knock : MethodName := ⟨RX2, "knock", "()I"⟩
def dkwX2_knock_0 : List UInt8 := [42, 3, 181, 0, 28, 42, 89, 180, 0, 168, 4, 96, 181, 0, 168, 42, 180, 0, 168, 172]
abbrev dktX2_knock_0 : List UInt8 := dkwX2_knock_0 ++ []
theorem dksX2_knock_0 : cX2_knock.data.toList.drop 0 = dktX2_knock_0 := by decide +kernel
theorem dX2_knock_0 : decode cX2_knock 0 = .ok (.aload_n 0, 1) := dk_42 (dk_at dksX2_knock_0 0 rfl rfl)
theorem dX2_knock_1 : decode cX2_knock 1 = .ok (.iconst 0, 1) := dk_3 (dk_at dksX2_knock_0 1 rfl rfl)
theorem dX2_knock_2 : decode cX2_knock 2 = .ok (.putfield 28, 3) := dk_181 0 28 (dk_at dksX2_knock_0 2 rfl rfl)
theorem dX2_knock_5 : decode cX2_knock 5 = .ok (.aload_n 0, 1) := dk_42 (dk_at dksX2_knock_0 5 rfl rfl)
theorem dX2_knock_6 : decode cX2_knock 6 = .ok (.dup, 1) := dk_89 (dk_at dksX2_knock_0 6 rfl rfl)
theorem dX2_knock_7 : decode cX2_knock 7 = .ok (.getfield 168, 3) := dk_180 0 168 (dk_at dksX2_knock_0 7 rfl rfl)
theorem dX2_knock_10 : decode cX2_knock 10 = .ok (.iconst 1, 1) := dk_4 (dk_at dksX2_knock_0 10 rfl rfl)
theorem dX2_knock_11 : decode cX2_knock 11 = .ok (.iadd, 1) := dk_96 (dk_at dksX2_knock_0 11 rfl rfl)
theorem dX2_knock_12 : decode cX2_knock 12 = .ok (.putfield 168, 3) := dk_181 0 168 (dk_at dksX2_knock_0 12 rfl rfl)
theorem dX2_knock_15 : decode cX2_knock 15 = .ok (.aload_n 0, 1) := dk_42 (dk_at dksX2_knock_0 15 rfl rfl)
theorem dX2_knock_16 : decode cX2_knock 16 = .ok (.getfield 168, 3) := dk_180 0 168 (dk_at dksX2_knock_0 16 rfl rfl)
theorem dX2_knock_19 : decode cX2_knock 19 = .ok (.ireturn, 1) := dk_172 (dk_at dksX2_knock_0 19 rfl rfl)
abbrev cX2_house : ByteArray := prog_8_method_72_code
def yX2_house : MethodName := ⟨RX2, "house", "(I)I"⟩
def dkwX2_house_1 : List UInt8 := [167, 0, 8, 42, 27, 182, 0, 171, 172]
abbrev dktX2_house_1 : List UInt8 := dkwX2_house_1 ++ []
def dkwX2_house_0 : List UInt8 := [42, 27, 3, 6, 184, 0, 24, 154, 0, 7, 4, 167, 0, 4, 3, 3, 182, 0, 81, 153, 0, 7, 3]
abbrev dktX2_house_0 : List UInt8 := dkwX2_house_0 ++ dktX2_house_1
theorem dksX2_house_0 : cX2_house.data.toList.drop 0 = dktX2_house_0 := by decide +kernel
theorem dksX2_house_1 : cX2_house.data.toList.drop 23 = dktX2_house_1 := dk_seg dksX2_house_0 23 rfl rfl
theorem dX2_house_0 : decode cX2_house 0 = .ok (.aload_n 0, 1) := dk_42 (dk_at dksX2_house_0 0 rfl rfl)
theorem dX2_house_1 : decode cX2_house 1 = .ok (.iload_n 1, 1) := dk_27 (dk_at dksX2_house_0 1 rfl rfl)
theorem dX2_house_2 : decode cX2_house 2 = .ok (.iconst 0, 1) := dk_3 (dk_at dksX2_house_0 2 rfl rfl)
theorem dX2_house_3 : decode cX2_house 3 = .ok (.iconst 3, 1) := dk_6 (dk_at dksX2_house_0 3 rfl rfl)
theorem dX2_house_4 : decode cX2_house 4 = .ok (.invokestatic 24, 3) := dk_184 0 24 (dk_at dksX2_house_0 4 rfl rfl)
theorem dX2_house_7 : decode cX2_house 7 = .ok (.ifCond .ne 7, 3) := dk_154 0 7 (dk_at dksX2_house_0 7 rfl rfl)
theorem dX2_house_10 : decode cX2_house 10 = .ok (.iconst 1, 1) := dk_4 (dk_at dksX2_house_0 10 rfl rfl)
theorem dX2_house_11 : decode cX2_house 11 = .ok (.goto 4, 3) := dk_167 0 4 (dk_at dksX2_house_0 11 rfl rfl)
theorem dX2_house_14 : decode cX2_house 14 = .ok (.iconst 0, 1) := dk_3 (dk_at dksX2_house_0 14 rfl rfl)
theorem dX2_house_15 : decode cX2_house 15 = .ok (.iconst 0, 1) := dk_3 (dk_at dksX2_house_0 15 rfl rfl)
theorem dX2_house_16 : decode cX2_house 16 = .ok (.invokevirtual 81, 3) := dk_182 0 81 (dk_at dksX2_house_0 16 rfl rfl)
theorem dX2_house_19 : decode cX2_house 19 = .ok (.ifCond .eq 7, 3) := dk_153 0 7 (dk_at dksX2_house_0 19 rfl rfl)
theorem dX2_house_22 : decode cX2_house 22 = .ok (.iconst 0, 1) := dk_3 (dk_at dksX2_house_0 22 rfl rfl)
theorem dX2_house_23 : decode cX2_house 23 = .ok (.goto 8, 3) := dk_167 0 8 (dk_at dksX2_house_1 0 rfl rfl)
theorem dX2_house_26 : decode cX2_house 26 = .ok (.aload_n 0, 1) := dk_42 (dk_at dksX2_house_1 3 rfl rfl)
theorem dX2_house_27 : decode cX2_house 27 = .ok (.iload_n 1, 1) := dk_27 (dk_at dksX2_house_1 4 rfl rfl)
theorem dX2_house_28 : decode cX2_house 28 = .ok (.invokevirtual 171, 3) := dk_182 0 171 (dk_at dksX2_house_1 5 rfl rfl)
theorem dX2_house_31 : decode cX2_house 31 = .ok (.ireturn, 1) := dk_172 (dk_at dksX2_house_1 8 rfl rfl)
abbrev cX2_houseNow : ByteArray := prog_8_method_71_code
def yX2_houseNow : MethodName := ⟨RX2, "houseNow", "(I)I"⟩
def dkwX2_houseNow_3 : List UInt8 := [180, 0, 9, 4, 50, 190, 96, 42, 180, 0, 9, 5, 50, 190, 96, 79, 78, 45, 27, 46, 172]
abbrev dktX2_houseNow_3 : List UInt8 := dkwX2_houseNow_3 ++ []
def dkwX2_houseNow_2 : List UInt8 := [79, 89, 4, 42, 180, 0, 44, 79, 89, 5, 28, 79, 89, 6, 42, 180, 0, 9, 3, 50, 190, 42]
abbrev dktX2_houseNow_2 : List UInt8 := dkwX2_houseNow_2 ++ dktX2_houseNow_3
def dkwX2_houseNow_1 : List UInt8 := [167, 0, 4, 3, 184, 0, 59, 96, 61, 132, 3, 1, 167, 255, 226, 7, 188, 10, 89, 3, 42, 180, 0, 168]
abbrev dktX2_houseNow_1 : List UInt8 := dkwX2_houseNow_1 ++ dktX2_houseNow_2
def dkwX2_houseNow_0 : List UInt8 := [3, 61, 6, 62, 29, 16, 7, 162, 0, 30, 28, 42, 180, 0, 15, 29, 46, 2, 159, 0, 7, 4]
abbrev dktX2_houseNow_0 : List UInt8 := dkwX2_houseNow_0 ++ dktX2_houseNow_1
theorem dksX2_houseNow_0 : cX2_houseNow.data.toList.drop 0 = dktX2_houseNow_0 := by decide +kernel
theorem dksX2_houseNow_1 : cX2_houseNow.data.toList.drop 22 = dktX2_houseNow_1 := dk_seg dksX2_houseNow_0 22 rfl rfl
theorem dksX2_houseNow_2 : cX2_houseNow.data.toList.drop 46 = dktX2_houseNow_2 := dk_seg dksX2_houseNow_1 24 rfl rfl
theorem dksX2_houseNow_3 : cX2_houseNow.data.toList.drop 68 = dktX2_houseNow_3 := dk_seg dksX2_houseNow_2 22 rfl rfl
theorem dX2_houseNow_0 : decode cX2_houseNow 0 = .ok (.iconst 0, 1) := dk_3 (dk_at dksX2_houseNow_0 0 rfl rfl)
theorem dX2_houseNow_1 : decode cX2_houseNow 1 = .ok (.istore_n 2, 1) := dk_61 (dk_at dksX2_houseNow_0 1 rfl rfl)
theorem dX2_houseNow_2 : decode cX2_houseNow 2 = .ok (.iconst 3, 1) := dk_6 (dk_at dksX2_houseNow_0 2 rfl rfl)
theorem dX2_houseNow_3 : decode cX2_houseNow 3 = .ok (.istore_n 3, 1) := dk_62 (dk_at dksX2_houseNow_0 3 rfl rfl)
theorem dX2_houseNow_4 : decode cX2_houseNow 4 = .ok (.iload_n 3, 1) := dk_29 (dk_at dksX2_houseNow_0 4 rfl rfl)
theorem dX2_houseNow_5 : decode cX2_houseNow 5 = .ok (.bipush 7, 2) := dk_16 7 (dk_at dksX2_houseNow_0 5 rfl rfl)
theorem dX2_houseNow_7 : decode cX2_houseNow 7 = .ok (.if_icmp .ge 30, 3) := dk_162 0 30 (dk_at dksX2_houseNow_0 7 rfl rfl)
theorem dX2_houseNow_10 : decode cX2_houseNow 10 = .ok (.iload_n 2, 1) := dk_28 (dk_at dksX2_houseNow_0 10 rfl rfl)
theorem dX2_houseNow_11 : decode cX2_houseNow 11 = .ok (.aload_n 0, 1) := dk_42 (dk_at dksX2_houseNow_0 11 rfl rfl)
theorem dX2_houseNow_12 : decode cX2_houseNow 12 = .ok (.getfield 15, 3) := dk_180 0 15 (dk_at dksX2_houseNow_0 12 rfl rfl)
theorem dX2_houseNow_15 : decode cX2_houseNow 15 = .ok (.iload_n 3, 1) := dk_29 (dk_at dksX2_houseNow_0 15 rfl rfl)
theorem dX2_houseNow_16 : decode cX2_houseNow 16 = .ok (.iaload, 1) := dk_46 (dk_at dksX2_houseNow_0 16 rfl rfl)
theorem dX2_houseNow_17 : decode cX2_houseNow 17 = .ok (.iconst (-1), 1) := dk_2 (dk_at dksX2_houseNow_0 17 rfl rfl)
theorem dX2_houseNow_18 : decode cX2_houseNow 18 = .ok (.if_icmp .eq 7, 3) := dk_159 0 7 (dk_at dksX2_houseNow_0 18 rfl rfl)
theorem dX2_houseNow_21 : decode cX2_houseNow 21 = .ok (.iconst 1, 1) := dk_4 (dk_at dksX2_houseNow_0 21 rfl rfl)
theorem dX2_houseNow_22 : decode cX2_houseNow 22 = .ok (.goto 4, 3) := dk_167 0 4 (dk_at dksX2_houseNow_1 0 rfl rfl)
theorem dX2_houseNow_25 : decode cX2_houseNow 25 = .ok (.iconst 0, 1) := dk_3 (dk_at dksX2_houseNow_1 3 rfl rfl)
theorem dX2_houseNow_26 : decode cX2_houseNow 26 = .ok (.invokestatic 59, 3) := dk_184 0 59 (dk_at dksX2_houseNow_1 4 rfl rfl)
theorem dX2_houseNow_29 : decode cX2_houseNow 29 = .ok (.iadd, 1) := dk_96 (dk_at dksX2_houseNow_1 7 rfl rfl)
theorem dX2_houseNow_30 : decode cX2_houseNow 30 = .ok (.istore_n 2, 1) := dk_61 (dk_at dksX2_houseNow_1 8 rfl rfl)
theorem dX2_houseNow_31 : decode cX2_houseNow 31 = .ok (.iinc 3 1, 3) := dk_132 3 1 (dk_at dksX2_houseNow_1 9 rfl rfl)
theorem dX2_houseNow_34 : decode cX2_houseNow 34 = .ok (.goto (-30), 3) := dk_167 255 226 (dk_at dksX2_houseNow_1 12 rfl rfl)
theorem dX2_houseNow_37 : decode cX2_houseNow 37 = .ok (.iconst 4, 1) := dk_7 (dk_at dksX2_houseNow_1 15 rfl rfl)
theorem dX2_houseNow_38 : decode cX2_houseNow 38 = .ok (.newarray .int, 2) := dk_188_10 (dk_at dksX2_houseNow_1 16 rfl rfl)
theorem dX2_houseNow_40 : decode cX2_houseNow 40 = .ok (.dup, 1) := dk_89 (dk_at dksX2_houseNow_1 18 rfl rfl)
theorem dX2_houseNow_41 : decode cX2_houseNow 41 = .ok (.iconst 0, 1) := dk_3 (dk_at dksX2_houseNow_1 19 rfl rfl)
theorem dX2_houseNow_42 : decode cX2_houseNow 42 = .ok (.aload_n 0, 1) := dk_42 (dk_at dksX2_houseNow_1 20 rfl rfl)
theorem dX2_houseNow_43 : decode cX2_houseNow 43 = .ok (.getfield 168, 3) := dk_180 0 168 (dk_at dksX2_houseNow_1 21 rfl rfl)
theorem dX2_houseNow_46 : decode cX2_houseNow 46 = .ok (.iastore, 1) := dk_79 (dk_at dksX2_houseNow_2 0 rfl rfl)
theorem dX2_houseNow_47 : decode cX2_houseNow 47 = .ok (.dup, 1) := dk_89 (dk_at dksX2_houseNow_2 1 rfl rfl)
theorem dX2_houseNow_48 : decode cX2_houseNow 48 = .ok (.iconst 1, 1) := dk_4 (dk_at dksX2_houseNow_2 2 rfl rfl)
theorem dX2_houseNow_49 : decode cX2_houseNow 49 = .ok (.aload_n 0, 1) := dk_42 (dk_at dksX2_houseNow_2 3 rfl rfl)
theorem dX2_houseNow_50 : decode cX2_houseNow 50 = .ok (.getfield 44, 3) := dk_180 0 44 (dk_at dksX2_houseNow_2 4 rfl rfl)
theorem dX2_houseNow_53 : decode cX2_houseNow 53 = .ok (.iastore, 1) := dk_79 (dk_at dksX2_houseNow_2 7 rfl rfl)
theorem dX2_houseNow_54 : decode cX2_houseNow 54 = .ok (.dup, 1) := dk_89 (dk_at dksX2_houseNow_2 8 rfl rfl)
theorem dX2_houseNow_55 : decode cX2_houseNow 55 = .ok (.iconst 2, 1) := dk_5 (dk_at dksX2_houseNow_2 9 rfl rfl)
theorem dX2_houseNow_56 : decode cX2_houseNow 56 = .ok (.iload_n 2, 1) := dk_28 (dk_at dksX2_houseNow_2 10 rfl rfl)
theorem dX2_houseNow_57 : decode cX2_houseNow 57 = .ok (.iastore, 1) := dk_79 (dk_at dksX2_houseNow_2 11 rfl rfl)
theorem dX2_houseNow_58 : decode cX2_houseNow 58 = .ok (.dup, 1) := dk_89 (dk_at dksX2_houseNow_2 12 rfl rfl)
theorem dX2_houseNow_59 : decode cX2_houseNow 59 = .ok (.iconst 3, 1) := dk_6 (dk_at dksX2_houseNow_2 13 rfl rfl)
theorem dX2_houseNow_60 : decode cX2_houseNow 60 = .ok (.aload_n 0, 1) := dk_42 (dk_at dksX2_houseNow_2 14 rfl rfl)
theorem dX2_houseNow_61 : decode cX2_houseNow 61 = .ok (.getfield 9, 3) := dk_180 0 9 (dk_at dksX2_houseNow_2 15 rfl rfl)
theorem dX2_houseNow_64 : decode cX2_houseNow 64 = .ok (.iconst 0, 1) := dk_3 (dk_at dksX2_houseNow_2 18 rfl rfl)
theorem dX2_houseNow_65 : decode cX2_houseNow 65 = .ok (.aaload, 1) := dk_50 (dk_at dksX2_houseNow_2 19 rfl rfl)
theorem dX2_houseNow_66 : decode cX2_houseNow 66 = .ok (.arraylength, 1) := dk_190 (dk_at dksX2_houseNow_2 20 rfl rfl)
theorem dX2_houseNow_67 : decode cX2_houseNow 67 = .ok (.aload_n 0, 1) := dk_42 (dk_at dksX2_houseNow_2 21 rfl rfl)
theorem dX2_houseNow_68 : decode cX2_houseNow 68 = .ok (.getfield 9, 3) := dk_180 0 9 (dk_at dksX2_houseNow_3 0 rfl rfl)
theorem dX2_houseNow_71 : decode cX2_houseNow 71 = .ok (.iconst 1, 1) := dk_4 (dk_at dksX2_houseNow_3 3 rfl rfl)
theorem dX2_houseNow_72 : decode cX2_houseNow 72 = .ok (.aaload, 1) := dk_50 (dk_at dksX2_houseNow_3 4 rfl rfl)
theorem dX2_houseNow_73 : decode cX2_houseNow 73 = .ok (.arraylength, 1) := dk_190 (dk_at dksX2_houseNow_3 5 rfl rfl)
theorem dX2_houseNow_74 : decode cX2_houseNow 74 = .ok (.iadd, 1) := dk_96 (dk_at dksX2_houseNow_3 6 rfl rfl)
theorem dX2_houseNow_75 : decode cX2_houseNow 75 = .ok (.aload_n 0, 1) := dk_42 (dk_at dksX2_houseNow_3 7 rfl rfl)
theorem dX2_houseNow_76 : decode cX2_houseNow 76 = .ok (.getfield 9, 3) := dk_180 0 9 (dk_at dksX2_houseNow_3 8 rfl rfl)
theorem dX2_houseNow_79 : decode cX2_houseNow 79 = .ok (.iconst 2, 1) := dk_5 (dk_at dksX2_houseNow_3 11 rfl rfl)
theorem dX2_houseNow_80 : decode cX2_houseNow 80 = .ok (.aaload, 1) := dk_50 (dk_at dksX2_houseNow_3 12 rfl rfl)
theorem dX2_houseNow_81 : decode cX2_houseNow 81 = .ok (.arraylength, 1) := dk_190 (dk_at dksX2_houseNow_3 13 rfl rfl)
theorem dX2_houseNow_82 : decode cX2_houseNow 82 = .ok (.iadd, 1) := dk_96 (dk_at dksX2_houseNow_3 14 rfl rfl)
theorem dX2_houseNow_83 : decode cX2_houseNow 83 = .ok (.iastore, 1) := dk_79 (dk_at dksX2_houseNow_3 15 rfl rfl)
theorem dX2_houseNow_84 : decode cX2_houseNow 84 = .ok (.astore_n 3, 1) := dk_78 (dk_at dksX2_houseNow_3 16 rfl rfl)
theorem dX2_houseNow_85 : decode cX2_houseNow 85 = .ok (.aload_n 3, 1) := dk_45 (dk_at dksX2_houseNow_3 17 rfl rfl)
theorem dX2_houseNow_86 : decode cX2_houseNow 86 = .ok (.iload_n 1, 1) := dk_27 (dk_at dksX2_houseNow_3 18 rfl rfl)
theorem dX2_houseNow_87 : decode cX2_houseNow 87 = .ok (.iaload, 1) := dk_46 (dk_at dksX2_houseNow_3 19 rfl rfl)
theorem dX2_houseNow_88 : decode cX2_houseNow 88 = .ok (.ireturn, 1) := dk_172 (dk_at dksX2_houseNow_3 20 rfl rfl)
abbrev cX2_rowOf : ByteArray := prog_8_method_74_code
def yX2_rowOf : MethodName := ⟨RX2, "rowOf", "(I)I"⟩
def dkwX2_rowOf_1 : List UInt8 := [167, 0, 9, 42, 180, 0, 15, 27, 46, 172]
abbrev dktX2_rowOf_1 : List UInt8 := dkwX2_rowOf_1 ++ []
def dkwX2_rowOf_0 : List UInt8 := [42, 27, 3, 16, 6, 184, 0, 24, 154, 0, 7, 4, 167, 0, 4, 3, 3, 182, 0, 81, 153, 0, 7, 3]
abbrev dktX2_rowOf_0 : List UInt8 := dkwX2_rowOf_0 ++ dktX2_rowOf_1
theorem dksX2_rowOf_0 : cX2_rowOf.data.toList.drop 0 = dktX2_rowOf_0 := by decide +kernel
theorem dksX2_rowOf_1 : cX2_rowOf.data.toList.drop 24 = dktX2_rowOf_1 := dk_seg dksX2_rowOf_0 24 rfl rfl
theorem dX2_rowOf_0 : decode cX2_rowOf 0 = .ok (.aload_n 0, 1) := dk_42 (dk_at dksX2_rowOf_0 0 rfl rfl)
theorem dX2_rowOf_1 : decode cX2_rowOf 1 = .ok (.iload_n 1, 1) := dk_27 (dk_at dksX2_rowOf_0 1 rfl rfl)
theorem dX2_rowOf_2 : decode cX2_rowOf 2 = .ok (.iconst 0, 1) := dk_3 (dk_at dksX2_rowOf_0 2 rfl rfl)
theorem dX2_rowOf_3 : decode cX2_rowOf 3 = .ok (.bipush 6, 2) := dk_16 6 (dk_at dksX2_rowOf_0 3 rfl rfl)
theorem dX2_rowOf_5 : decode cX2_rowOf 5 = .ok (.invokestatic 24, 3) := dk_184 0 24 (dk_at dksX2_rowOf_0 5 rfl rfl)
theorem dX2_rowOf_8 : decode cX2_rowOf 8 = .ok (.ifCond .ne 7, 3) := dk_154 0 7 (dk_at dksX2_rowOf_0 8 rfl rfl)
theorem dX2_rowOf_11 : decode cX2_rowOf 11 = .ok (.iconst 1, 1) := dk_4 (dk_at dksX2_rowOf_0 11 rfl rfl)
theorem dX2_rowOf_12 : decode cX2_rowOf 12 = .ok (.goto 4, 3) := dk_167 0 4 (dk_at dksX2_rowOf_0 12 rfl rfl)
theorem dX2_rowOf_15 : decode cX2_rowOf 15 = .ok (.iconst 0, 1) := dk_3 (dk_at dksX2_rowOf_0 15 rfl rfl)
theorem dX2_rowOf_16 : decode cX2_rowOf 16 = .ok (.iconst 0, 1) := dk_3 (dk_at dksX2_rowOf_0 16 rfl rfl)
theorem dX2_rowOf_17 : decode cX2_rowOf 17 = .ok (.invokevirtual 81, 3) := dk_182 0 81 (dk_at dksX2_rowOf_0 17 rfl rfl)
theorem dX2_rowOf_20 : decode cX2_rowOf 20 = .ok (.ifCond .eq 7, 3) := dk_153 0 7 (dk_at dksX2_rowOf_0 20 rfl rfl)
theorem dX2_rowOf_23 : decode cX2_rowOf 23 = .ok (.iconst 0, 1) := dk_3 (dk_at dksX2_rowOf_0 23 rfl rfl)
theorem dX2_rowOf_24 : decode cX2_rowOf 24 = .ok (.goto 9, 3) := dk_167 0 9 (dk_at dksX2_rowOf_1 0 rfl rfl)
theorem dX2_rowOf_27 : decode cX2_rowOf 27 = .ok (.aload_n 0, 1) := dk_42 (dk_at dksX2_rowOf_1 3 rfl rfl)
theorem dX2_rowOf_28 : decode cX2_rowOf 28 = .ok (.getfield 15, 3) := dk_180 0 15 (dk_at dksX2_rowOf_1 4 rfl rfl)
theorem dX2_rowOf_31 : decode cX2_rowOf 31 = .ok (.iload_n 1, 1) := dk_27 (dk_at dksX2_rowOf_1 7 rfl rfl)
theorem dX2_rowOf_32 : decode cX2_rowOf 32 = .ok (.iaload, 1) := dk_46 (dk_at dksX2_rowOf_1 8 rfl rfl)
theorem dX2_rowOf_33 : decode cX2_rowOf 33 = .ok (.ireturn, 1) := dk_172 (dk_at dksX2_rowOf_1 9 rfl rfl)
abbrev cX2_begin : ByteArray := prog_8_method_75_code
def yX2_begin : MethodName := ⟨RX2, "begin", "(I)I"⟩
def dkwX2_begin_1 : List UInt8 := [167, 0, 8, 42, 27, 182, 0, 174, 172]
abbrev dktX2_begin_1 : List UInt8 := dkwX2_begin_1 ++ []
def dkwX2_begin_0 : List UInt8 := [42, 27, 3, 16, 6, 184, 0, 24, 154, 0, 7, 4, 167, 0, 4, 3, 3, 182, 0, 81, 153, 0, 7, 3]
abbrev dktX2_begin_0 : List UInt8 := dkwX2_begin_0 ++ dktX2_begin_1
theorem dksX2_begin_0 : cX2_begin.data.toList.drop 0 = dktX2_begin_0 := by decide +kernel
theorem dksX2_begin_1 : cX2_begin.data.toList.drop 24 = dktX2_begin_1 := dk_seg dksX2_begin_0 24 rfl rfl
theorem dX2_begin_0 : decode cX2_begin 0 = .ok (.aload_n 0, 1) := dk_42 (dk_at dksX2_begin_0 0 rfl rfl)
theorem dX2_begin_1 : decode cX2_begin 1 = .ok (.iload_n 1, 1) := dk_27 (dk_at dksX2_begin_0 1 rfl rfl)
theorem dX2_begin_2 : decode cX2_begin 2 = .ok (.iconst 0, 1) := dk_3 (dk_at dksX2_begin_0 2 rfl rfl)
theorem dX2_begin_3 : decode cX2_begin 3 = .ok (.bipush 6, 2) := dk_16 6 (dk_at dksX2_begin_0 3 rfl rfl)
theorem dX2_begin_5 : decode cX2_begin 5 = .ok (.invokestatic 24, 3) := dk_184 0 24 (dk_at dksX2_begin_0 5 rfl rfl)
theorem dX2_begin_8 : decode cX2_begin 8 = .ok (.ifCond .ne 7, 3) := dk_154 0 7 (dk_at dksX2_begin_0 8 rfl rfl)
theorem dX2_begin_11 : decode cX2_begin 11 = .ok (.iconst 1, 1) := dk_4 (dk_at dksX2_begin_0 11 rfl rfl)
theorem dX2_begin_12 : decode cX2_begin 12 = .ok (.goto 4, 3) := dk_167 0 4 (dk_at dksX2_begin_0 12 rfl rfl)
theorem dX2_begin_15 : decode cX2_begin 15 = .ok (.iconst 0, 1) := dk_3 (dk_at dksX2_begin_0 15 rfl rfl)
theorem dX2_begin_16 : decode cX2_begin 16 = .ok (.iconst 0, 1) := dk_3 (dk_at dksX2_begin_0 16 rfl rfl)
theorem dX2_begin_17 : decode cX2_begin 17 = .ok (.invokevirtual 81, 3) := dk_182 0 81 (dk_at dksX2_begin_0 17 rfl rfl)
theorem dX2_begin_20 : decode cX2_begin 20 = .ok (.ifCond .eq 7, 3) := dk_153 0 7 (dk_at dksX2_begin_0 20 rfl rfl)
theorem dX2_begin_23 : decode cX2_begin 23 = .ok (.iconst 0, 1) := dk_3 (dk_at dksX2_begin_0 23 rfl rfl)
theorem dX2_begin_24 : decode cX2_begin 24 = .ok (.goto 8, 3) := dk_167 0 8 (dk_at dksX2_begin_1 0 rfl rfl)
theorem dX2_begin_27 : decode cX2_begin 27 = .ok (.aload_n 0, 1) := dk_42 (dk_at dksX2_begin_1 3 rfl rfl)
theorem dX2_begin_28 : decode cX2_begin 28 = .ok (.iload_n 1, 1) := dk_27 (dk_at dksX2_begin_1 4 rfl rfl)
theorem dX2_begin_29 : decode cX2_begin 29 = .ok (.invokevirtual 174, 3) := dk_182 0 174 (dk_at dksX2_begin_1 5 rfl rfl)
theorem dX2_begin_32 : decode cX2_begin 32 = .ok (.ireturn, 1) := dk_172 (dk_at dksX2_begin_1 8 rfl rfl)
abbrev cX2_beginNow : ByteArray := prog_8_method_73_code
def yX2_beginNow : MethodName := ⟨RX2, "beginNow", "(I)I"⟩
def dkwX2_beginNow_0 : List UInt8 := [42, 180, 0, 15, 27, 46, 2, 160, 0, 7, 2, 167, 0, 9, 42, 180, 0, 18, 27, 46, 172]
abbrev dktX2_beginNow_0 : List UInt8 := dkwX2_beginNow_0 ++ []
theorem dksX2_beginNow_0 : cX2_beginNow.data.toList.drop 0 = dktX2_beginNow_0 := by decide +kernel
theorem dX2_beginNow_0 : decode cX2_beginNow 0 = .ok (.aload_n 0, 1) := dk_42 (dk_at dksX2_beginNow_0 0 rfl rfl)
theorem dX2_beginNow_1 : decode cX2_beginNow 1 = .ok (.getfield 15, 3) := dk_180 0 15 (dk_at dksX2_beginNow_0 1 rfl rfl)
theorem dX2_beginNow_4 : decode cX2_beginNow 4 = .ok (.iload_n 1, 1) := dk_27 (dk_at dksX2_beginNow_0 4 rfl rfl)
theorem dX2_beginNow_5 : decode cX2_beginNow 5 = .ok (.iaload, 1) := dk_46 (dk_at dksX2_beginNow_0 5 rfl rfl)
theorem dX2_beginNow_6 : decode cX2_beginNow 6 = .ok (.iconst (-1), 1) := dk_2 (dk_at dksX2_beginNow_0 6 rfl rfl)
theorem dX2_beginNow_7 : decode cX2_beginNow 7 = .ok (.if_icmp .ne 7, 3) := dk_160 0 7 (dk_at dksX2_beginNow_0 7 rfl rfl)
theorem dX2_beginNow_10 : decode cX2_beginNow 10 = .ok (.iconst (-1), 1) := dk_2 (dk_at dksX2_beginNow_0 10 rfl rfl)
theorem dX2_beginNow_11 : decode cX2_beginNow 11 = .ok (.goto 9, 3) := dk_167 0 9 (dk_at dksX2_beginNow_0 11 rfl rfl)
theorem dX2_beginNow_14 : decode cX2_beginNow 14 = .ok (.aload_n 0, 1) := dk_42 (dk_at dksX2_beginNow_0 14 rfl rfl)
theorem dX2_beginNow_15 : decode cX2_beginNow 15 = .ok (.getfield 18, 3) := dk_180 0 18 (dk_at dksX2_beginNow_0 15 rfl rfl)
theorem dX2_beginNow_18 : decode cX2_beginNow 18 = .ok (.iload_n 1, 1) := dk_27 (dk_at dksX2_beginNow_0 18 rfl rfl)
theorem dX2_beginNow_19 : decode cX2_beginNow 19 = .ok (.iaload, 1) := dk_46 (dk_at dksX2_beginNow_0 19 rfl rfl)
theorem dX2_beginNow_20 : decode cX2_beginNow 20 = .ok (.ireturn, 1) := dk_172 (dk_at dksX2_beginNow_0 20 rfl rfl)
abbrev cX2_isSound : ByteArray := prog_8_method_76_code
def yX2_isSound : MethodName := ⟨RX2, "isSound", "()Z"⟩
def dkwX2_isSound_0 : List UInt8 := [42, 3, 181, 0, 28, 4, 172]
abbrev dktX2_isSound_0 : List UInt8 := dkwX2_isSound_0 ++ []
theorem dksX2_isSound_0 : cX2_isSound.data.toList.drop 0 = dktX2_isSound_0 := by decide +kernel
theorem dX2_isSound_0 : decode cX2_isSound 0 = .ok (.aload_n 0, 1) := dk_42 (dk_at dksX2_isSound_0 0 rfl rfl)
theorem dX2_isSound_1 : decode cX2_isSound 1 = .ok (.iconst 0, 1) := dk_3 (dk_at dksX2_isSound_0 1 rfl rfl)
theorem dX2_isSound_2 : decode cX2_isSound 2 = .ok (.putfield 28, 3) := dk_181 0 28 (dk_at dksX2_isSound_0 2 rfl rfl)
theorem dX2_isSound_5 : decode cX2_isSound 5 = .ok (.iconst 1, 1) := dk_4 (dk_at dksX2_isSound_0 5 rfl rfl)
theorem dX2_isSound_6 : decode cX2_isSound 6 = .ok (.ireturn, 1) := dk_172 (dk_at dksX2_isSound_0 6 rfl rfl)
abbrev cX2_digest : ByteArray := prog_8_method_78_code
def yX2_digest : MethodName := ⟨RX2, "digest", "()J"⟩
def dkwX2_digest_8 : List UInt8 := [10, 182, 0, 185, 42, 180, 0, 177, 173]
abbrev dktX2_digest_8 : List UInt8 := dkwX2_digest_8 ++ []
def dkwX2_digest_7 : List UInt8 := [182, 0, 132, 133, 182, 0, 185, 42, 42, 27, 182, 0, 140, 133, 182, 0, 185, 132, 1, 1, 167, 255, 182, 42]
abbrev dktX2_digest_7 : List UInt8 := dkwX2_digest_7 ++ dktX2_digest_8
def dkwX2_digest_6 : List UInt8 := [27, 46, 2, 160, 0, 6, 167, 0, 34, 42, 42, 180, 0, 21, 27, 46, 133, 182, 0, 185, 42, 42, 27]
abbrev dktX2_digest_6 : List UInt8 := dkwX2_digest_6 ++ dktX2_digest_7
def dkwX2_digest_5 : List UInt8 := [42, 180, 0, 15, 27, 46, 133, 182, 0, 185, 42, 42, 27, 182, 0, 174, 133, 182, 0, 185, 42, 180, 0, 15]
abbrev dktX2_digest_5 : List UInt8 := dkwX2_digest_5 ++ dktX2_digest_6
def dkwX2_digest_4 : List UInt8 := [182, 0, 185, 132, 7, 1, 167, 255, 232, 132, 3, 1, 167, 255, 196, 3, 60, 27, 16, 7, 162, 0, 74, 42]
abbrev dktX2_digest_4 : List UInt8 := dkwX2_digest_4 ++ dktX2_digest_5
def dkwX2_digest_3 : List UInt8 := [54, 6, 3, 54, 7, 21, 7, 21, 6, 162, 0, 23, 25, 5, 21, 7, 46, 54, 8, 42, 21, 8, 133]
abbrev dktX2_digest_3 : List UInt8 := dkwX2_digest_3 ++ dktX2_digest_4
def dkwX2_digest_2 : List UInt8 := [28, 162, 0, 61, 43, 29, 50, 58, 4, 42, 25, 4, 190, 133, 182, 0, 185, 25, 4, 58, 5, 25, 5, 190]
abbrev dktX2_digest_2 : List UInt8 := dkwX2_digest_2 ++ dktX2_digest_3
def dkwX2_digest_1 : List UInt8 := [182, 0, 171, 133, 182, 0, 185, 132, 1, 1, 167, 255, 238, 42, 180, 0, 9, 76, 43, 190, 61, 3, 62, 29]
abbrev dktX2_digest_1 : List UInt8 := dkwX2_digest_1 ++ dktX2_digest_2
def dkwX2_digest_0 : List UInt8 := [42, 3, 181, 0, 28, 42, 20, 0, 183, 181, 0, 177, 3, 60, 27, 7, 162, 0, 19, 42, 42, 27]
abbrev dktX2_digest_0 : List UInt8 := dkwX2_digest_0 ++ dktX2_digest_1
theorem dksX2_digest_0 : cX2_digest.data.toList.drop 0 = dktX2_digest_0 := by decide +kernel
theorem dksX2_digest_1 : cX2_digest.data.toList.drop 22 = dktX2_digest_1 := dk_seg dksX2_digest_0 22 rfl rfl
theorem dksX2_digest_2 : cX2_digest.data.toList.drop 46 = dktX2_digest_2 := dk_seg dksX2_digest_1 24 rfl rfl
theorem dksX2_digest_3 : cX2_digest.data.toList.drop 70 = dktX2_digest_3 := dk_seg dksX2_digest_2 24 rfl rfl
theorem dksX2_digest_4 : cX2_digest.data.toList.drop 93 = dktX2_digest_4 := dk_seg dksX2_digest_3 23 rfl rfl
theorem dksX2_digest_5 : cX2_digest.data.toList.drop 117 = dktX2_digest_5 := dk_seg dksX2_digest_4 24 rfl rfl
theorem dksX2_digest_6 : cX2_digest.data.toList.drop 141 = dktX2_digest_6 := dk_seg dksX2_digest_5 24 rfl rfl
theorem dksX2_digest_7 : cX2_digest.data.toList.drop 164 = dktX2_digest_7 := dk_seg dksX2_digest_6 23 rfl rfl
theorem dksX2_digest_8 : cX2_digest.data.toList.drop 188 = dktX2_digest_8 := dk_seg dksX2_digest_7 24 rfl rfl
theorem dX2_digest_0 : decode cX2_digest 0 = .ok (.aload_n 0, 1) := dk_42 (dk_at dksX2_digest_0 0 rfl rfl)
theorem dX2_digest_1 : decode cX2_digest 1 = .ok (.iconst 0, 1) := dk_3 (dk_at dksX2_digest_0 1 rfl rfl)
theorem dX2_digest_2 : decode cX2_digest 2 = .ok (.putfield 28, 3) := dk_181 0 28 (dk_at dksX2_digest_0 2 rfl rfl)
theorem dX2_digest_5 : decode cX2_digest 5 = .ok (.aload_n 0, 1) := dk_42 (dk_at dksX2_digest_0 5 rfl rfl)
theorem dX2_digest_6 : decode cX2_digest 6 = .ok (.ldc2_w 183, 3) := dk_20 0 183 (dk_at dksX2_digest_0 6 rfl rfl)
theorem dX2_digest_9 : decode cX2_digest 9 = .ok (.putfield 177, 3) := dk_181 0 177 (dk_at dksX2_digest_0 9 rfl rfl)
theorem dX2_digest_12 : decode cX2_digest 12 = .ok (.iconst 0, 1) := dk_3 (dk_at dksX2_digest_0 12 rfl rfl)
theorem dX2_digest_13 : decode cX2_digest 13 = .ok (.istore_n 1, 1) := dk_60 (dk_at dksX2_digest_0 13 rfl rfl)
theorem dX2_digest_14 : decode cX2_digest 14 = .ok (.iload_n 1, 1) := dk_27 (dk_at dksX2_digest_0 14 rfl rfl)
theorem dX2_digest_15 : decode cX2_digest 15 = .ok (.iconst 4, 1) := dk_7 (dk_at dksX2_digest_0 15 rfl rfl)
theorem dX2_digest_16 : decode cX2_digest 16 = .ok (.if_icmp .ge 19, 3) := dk_162 0 19 (dk_at dksX2_digest_0 16 rfl rfl)
theorem dX2_digest_19 : decode cX2_digest 19 = .ok (.aload_n 0, 1) := dk_42 (dk_at dksX2_digest_0 19 rfl rfl)
theorem dX2_digest_20 : decode cX2_digest 20 = .ok (.aload_n 0, 1) := dk_42 (dk_at dksX2_digest_0 20 rfl rfl)
theorem dX2_digest_21 : decode cX2_digest 21 = .ok (.iload_n 1, 1) := dk_27 (dk_at dksX2_digest_0 21 rfl rfl)
theorem dX2_digest_22 : decode cX2_digest 22 = .ok (.invokevirtual 171, 3) := dk_182 0 171 (dk_at dksX2_digest_1 0 rfl rfl)
theorem dX2_digest_25 : decode cX2_digest 25 = .ok (.i2l, 1) := dk_133 (dk_at dksX2_digest_1 3 rfl rfl)
theorem dX2_digest_26 : decode cX2_digest 26 = .ok (.invokevirtual 185, 3) := dk_182 0 185 (dk_at dksX2_digest_1 4 rfl rfl)
theorem dX2_digest_29 : decode cX2_digest 29 = .ok (.iinc 1 1, 3) := dk_132 1 1 (dk_at dksX2_digest_1 7 rfl rfl)
theorem dX2_digest_32 : decode cX2_digest 32 = .ok (.goto (-18), 3) := dk_167 255 238 (dk_at dksX2_digest_1 10 rfl rfl)
theorem dX2_digest_35 : decode cX2_digest 35 = .ok (.aload_n 0, 1) := dk_42 (dk_at dksX2_digest_1 13 rfl rfl)
theorem dX2_digest_36 : decode cX2_digest 36 = .ok (.getfield 9, 3) := dk_180 0 9 (dk_at dksX2_digest_1 14 rfl rfl)
theorem dX2_digest_39 : decode cX2_digest 39 = .ok (.astore_n 1, 1) := dk_76 (dk_at dksX2_digest_1 17 rfl rfl)
theorem dX2_digest_40 : decode cX2_digest 40 = .ok (.aload_n 1, 1) := dk_43 (dk_at dksX2_digest_1 18 rfl rfl)
theorem dX2_digest_41 : decode cX2_digest 41 = .ok (.arraylength, 1) := dk_190 (dk_at dksX2_digest_1 19 rfl rfl)
theorem dX2_digest_42 : decode cX2_digest 42 = .ok (.istore_n 2, 1) := dk_61 (dk_at dksX2_digest_1 20 rfl rfl)
theorem dX2_digest_43 : decode cX2_digest 43 = .ok (.iconst 0, 1) := dk_3 (dk_at dksX2_digest_1 21 rfl rfl)
theorem dX2_digest_44 : decode cX2_digest 44 = .ok (.istore_n 3, 1) := dk_62 (dk_at dksX2_digest_1 22 rfl rfl)
theorem dX2_digest_45 : decode cX2_digest 45 = .ok (.iload_n 3, 1) := dk_29 (dk_at dksX2_digest_1 23 rfl rfl)
theorem dX2_digest_46 : decode cX2_digest 46 = .ok (.iload_n 2, 1) := dk_28 (dk_at dksX2_digest_2 0 rfl rfl)
theorem dX2_digest_47 : decode cX2_digest 47 = .ok (.if_icmp .ge 61, 3) := dk_162 0 61 (dk_at dksX2_digest_2 1 rfl rfl)
theorem dX2_digest_50 : decode cX2_digest 50 = .ok (.aload_n 1, 1) := dk_43 (dk_at dksX2_digest_2 4 rfl rfl)
theorem dX2_digest_51 : decode cX2_digest 51 = .ok (.iload_n 3, 1) := dk_29 (dk_at dksX2_digest_2 5 rfl rfl)
theorem dX2_digest_52 : decode cX2_digest 52 = .ok (.aaload, 1) := dk_50 (dk_at dksX2_digest_2 6 rfl rfl)
theorem dX2_digest_53 : decode cX2_digest 53 = .ok (.astore 4, 2) := dk_58 4 (dk_at dksX2_digest_2 7 rfl rfl)
theorem dX2_digest_55 : decode cX2_digest 55 = .ok (.aload_n 0, 1) := dk_42 (dk_at dksX2_digest_2 9 rfl rfl)
theorem dX2_digest_56 : decode cX2_digest 56 = .ok (.aload 4, 2) := dk_25 4 (dk_at dksX2_digest_2 10 rfl rfl)
theorem dX2_digest_58 : decode cX2_digest 58 = .ok (.arraylength, 1) := dk_190 (dk_at dksX2_digest_2 12 rfl rfl)
theorem dX2_digest_59 : decode cX2_digest 59 = .ok (.i2l, 1) := dk_133 (dk_at dksX2_digest_2 13 rfl rfl)
theorem dX2_digest_60 : decode cX2_digest 60 = .ok (.invokevirtual 185, 3) := dk_182 0 185 (dk_at dksX2_digest_2 14 rfl rfl)
theorem dX2_digest_63 : decode cX2_digest 63 = .ok (.aload 4, 2) := dk_25 4 (dk_at dksX2_digest_2 17 rfl rfl)
theorem dX2_digest_65 : decode cX2_digest 65 = .ok (.astore 5, 2) := dk_58 5 (dk_at dksX2_digest_2 19 rfl rfl)
theorem dX2_digest_67 : decode cX2_digest 67 = .ok (.aload 5, 2) := dk_25 5 (dk_at dksX2_digest_2 21 rfl rfl)
theorem dX2_digest_69 : decode cX2_digest 69 = .ok (.arraylength, 1) := dk_190 (dk_at dksX2_digest_2 23 rfl rfl)
theorem dX2_digest_70 : decode cX2_digest 70 = .ok (.istore 6, 2) := dk_54 6 (dk_at dksX2_digest_3 0 rfl rfl)
theorem dX2_digest_72 : decode cX2_digest 72 = .ok (.iconst 0, 1) := dk_3 (dk_at dksX2_digest_3 2 rfl rfl)
theorem dX2_digest_73 : decode cX2_digest 73 = .ok (.istore 7, 2) := dk_54 7 (dk_at dksX2_digest_3 3 rfl rfl)
theorem dX2_digest_75 : decode cX2_digest 75 = .ok (.iload 7, 2) := dk_21 7 (dk_at dksX2_digest_3 5 rfl rfl)
theorem dX2_digest_77 : decode cX2_digest 77 = .ok (.iload 6, 2) := dk_21 6 (dk_at dksX2_digest_3 7 rfl rfl)
theorem dX2_digest_79 : decode cX2_digest 79 = .ok (.if_icmp .ge 23, 3) := dk_162 0 23 (dk_at dksX2_digest_3 9 rfl rfl)
theorem dX2_digest_82 : decode cX2_digest 82 = .ok (.aload 5, 2) := dk_25 5 (dk_at dksX2_digest_3 12 rfl rfl)
theorem dX2_digest_84 : decode cX2_digest 84 = .ok (.iload 7, 2) := dk_21 7 (dk_at dksX2_digest_3 14 rfl rfl)
theorem dX2_digest_86 : decode cX2_digest 86 = .ok (.iaload, 1) := dk_46 (dk_at dksX2_digest_3 16 rfl rfl)
theorem dX2_digest_87 : decode cX2_digest 87 = .ok (.istore 8, 2) := dk_54 8 (dk_at dksX2_digest_3 17 rfl rfl)
theorem dX2_digest_89 : decode cX2_digest 89 = .ok (.aload_n 0, 1) := dk_42 (dk_at dksX2_digest_3 19 rfl rfl)
theorem dX2_digest_90 : decode cX2_digest 90 = .ok (.iload 8, 2) := dk_21 8 (dk_at dksX2_digest_3 20 rfl rfl)
theorem dX2_digest_92 : decode cX2_digest 92 = .ok (.i2l, 1) := dk_133 (dk_at dksX2_digest_3 22 rfl rfl)
theorem dX2_digest_93 : decode cX2_digest 93 = .ok (.invokevirtual 185, 3) := dk_182 0 185 (dk_at dksX2_digest_4 0 rfl rfl)
theorem dX2_digest_96 : decode cX2_digest 96 = .ok (.iinc 7 1, 3) := dk_132 7 1 (dk_at dksX2_digest_4 3 rfl rfl)
theorem dX2_digest_99 : decode cX2_digest 99 = .ok (.goto (-24), 3) := dk_167 255 232 (dk_at dksX2_digest_4 6 rfl rfl)
theorem dX2_digest_102 : decode cX2_digest 102 = .ok (.iinc 3 1, 3) := dk_132 3 1 (dk_at dksX2_digest_4 9 rfl rfl)
theorem dX2_digest_105 : decode cX2_digest 105 = .ok (.goto (-60), 3) := dk_167 255 196 (dk_at dksX2_digest_4 12 rfl rfl)
theorem dX2_digest_108 : decode cX2_digest 108 = .ok (.iconst 0, 1) := dk_3 (dk_at dksX2_digest_4 15 rfl rfl)
theorem dX2_digest_109 : decode cX2_digest 109 = .ok (.istore_n 1, 1) := dk_60 (dk_at dksX2_digest_4 16 rfl rfl)
theorem dX2_digest_110 : decode cX2_digest 110 = .ok (.iload_n 1, 1) := dk_27 (dk_at dksX2_digest_4 17 rfl rfl)
theorem dX2_digest_111 : decode cX2_digest 111 = .ok (.bipush 7, 2) := dk_16 7 (dk_at dksX2_digest_4 18 rfl rfl)
theorem dX2_digest_113 : decode cX2_digest 113 = .ok (.if_icmp .ge 74, 3) := dk_162 0 74 (dk_at dksX2_digest_4 20 rfl rfl)
theorem dX2_digest_116 : decode cX2_digest 116 = .ok (.aload_n 0, 1) := dk_42 (dk_at dksX2_digest_4 23 rfl rfl)
theorem dX2_digest_117 : decode cX2_digest 117 = .ok (.aload_n 0, 1) := dk_42 (dk_at dksX2_digest_5 0 rfl rfl)
theorem dX2_digest_118 : decode cX2_digest 118 = .ok (.getfield 15, 3) := dk_180 0 15 (dk_at dksX2_digest_5 1 rfl rfl)
theorem dX2_digest_121 : decode cX2_digest 121 = .ok (.iload_n 1, 1) := dk_27 (dk_at dksX2_digest_5 4 rfl rfl)
theorem dX2_digest_122 : decode cX2_digest 122 = .ok (.iaload, 1) := dk_46 (dk_at dksX2_digest_5 5 rfl rfl)
theorem dX2_digest_123 : decode cX2_digest 123 = .ok (.i2l, 1) := dk_133 (dk_at dksX2_digest_5 6 rfl rfl)
theorem dX2_digest_124 : decode cX2_digest 124 = .ok (.invokevirtual 185, 3) := dk_182 0 185 (dk_at dksX2_digest_5 7 rfl rfl)
theorem dX2_digest_127 : decode cX2_digest 127 = .ok (.aload_n 0, 1) := dk_42 (dk_at dksX2_digest_5 10 rfl rfl)
theorem dX2_digest_128 : decode cX2_digest 128 = .ok (.aload_n 0, 1) := dk_42 (dk_at dksX2_digest_5 11 rfl rfl)
theorem dX2_digest_129 : decode cX2_digest 129 = .ok (.iload_n 1, 1) := dk_27 (dk_at dksX2_digest_5 12 rfl rfl)
theorem dX2_digest_130 : decode cX2_digest 130 = .ok (.invokevirtual 174, 3) := dk_182 0 174 (dk_at dksX2_digest_5 13 rfl rfl)
theorem dX2_digest_133 : decode cX2_digest 133 = .ok (.i2l, 1) := dk_133 (dk_at dksX2_digest_5 16 rfl rfl)
theorem dX2_digest_134 : decode cX2_digest 134 = .ok (.invokevirtual 185, 3) := dk_182 0 185 (dk_at dksX2_digest_5 17 rfl rfl)
theorem dX2_digest_137 : decode cX2_digest 137 = .ok (.aload_n 0, 1) := dk_42 (dk_at dksX2_digest_5 20 rfl rfl)
theorem dX2_digest_138 : decode cX2_digest 138 = .ok (.getfield 15, 3) := dk_180 0 15 (dk_at dksX2_digest_5 21 rfl rfl)
theorem dX2_digest_141 : decode cX2_digest 141 = .ok (.iload_n 1, 1) := dk_27 (dk_at dksX2_digest_6 0 rfl rfl)
theorem dX2_digest_142 : decode cX2_digest 142 = .ok (.iaload, 1) := dk_46 (dk_at dksX2_digest_6 1 rfl rfl)
theorem dX2_digest_143 : decode cX2_digest 143 = .ok (.iconst (-1), 1) := dk_2 (dk_at dksX2_digest_6 2 rfl rfl)
theorem dX2_digest_144 : decode cX2_digest 144 = .ok (.if_icmp .ne 6, 3) := dk_160 0 6 (dk_at dksX2_digest_6 3 rfl rfl)
theorem dX2_digest_147 : decode cX2_digest 147 = .ok (.goto 34, 3) := dk_167 0 34 (dk_at dksX2_digest_6 6 rfl rfl)
theorem dX2_digest_150 : decode cX2_digest 150 = .ok (.aload_n 0, 1) := dk_42 (dk_at dksX2_digest_6 9 rfl rfl)
theorem dX2_digest_151 : decode cX2_digest 151 = .ok (.aload_n 0, 1) := dk_42 (dk_at dksX2_digest_6 10 rfl rfl)
theorem dX2_digest_152 : decode cX2_digest 152 = .ok (.getfield 21, 3) := dk_180 0 21 (dk_at dksX2_digest_6 11 rfl rfl)
theorem dX2_digest_155 : decode cX2_digest 155 = .ok (.iload_n 1, 1) := dk_27 (dk_at dksX2_digest_6 14 rfl rfl)
theorem dX2_digest_156 : decode cX2_digest 156 = .ok (.iaload, 1) := dk_46 (dk_at dksX2_digest_6 15 rfl rfl)
theorem dX2_digest_157 : decode cX2_digest 157 = .ok (.i2l, 1) := dk_133 (dk_at dksX2_digest_6 16 rfl rfl)
theorem dX2_digest_158 : decode cX2_digest 158 = .ok (.invokevirtual 185, 3) := dk_182 0 185 (dk_at dksX2_digest_6 17 rfl rfl)
theorem dX2_digest_161 : decode cX2_digest 161 = .ok (.aload_n 0, 1) := dk_42 (dk_at dksX2_digest_6 20 rfl rfl)
theorem dX2_digest_162 : decode cX2_digest 162 = .ok (.aload_n 0, 1) := dk_42 (dk_at dksX2_digest_6 21 rfl rfl)
theorem dX2_digest_163 : decode cX2_digest 163 = .ok (.iload_n 1, 1) := dk_27 (dk_at dksX2_digest_6 22 rfl rfl)
theorem dX2_digest_164 : decode cX2_digest 164 = .ok (.invokevirtual 132, 3) := dk_182 0 132 (dk_at dksX2_digest_7 0 rfl rfl)
theorem dX2_digest_167 : decode cX2_digest 167 = .ok (.i2l, 1) := dk_133 (dk_at dksX2_digest_7 3 rfl rfl)
theorem dX2_digest_168 : decode cX2_digest 168 = .ok (.invokevirtual 185, 3) := dk_182 0 185 (dk_at dksX2_digest_7 4 rfl rfl)
theorem dX2_digest_171 : decode cX2_digest 171 = .ok (.aload_n 0, 1) := dk_42 (dk_at dksX2_digest_7 7 rfl rfl)
theorem dX2_digest_172 : decode cX2_digest 172 = .ok (.aload_n 0, 1) := dk_42 (dk_at dksX2_digest_7 8 rfl rfl)
theorem dX2_digest_173 : decode cX2_digest 173 = .ok (.iload_n 1, 1) := dk_27 (dk_at dksX2_digest_7 9 rfl rfl)
theorem dX2_digest_174 : decode cX2_digest 174 = .ok (.invokevirtual 140, 3) := dk_182 0 140 (dk_at dksX2_digest_7 10 rfl rfl)
theorem dX2_digest_177 : decode cX2_digest 177 = .ok (.i2l, 1) := dk_133 (dk_at dksX2_digest_7 13 rfl rfl)
theorem dX2_digest_178 : decode cX2_digest 178 = .ok (.invokevirtual 185, 3) := dk_182 0 185 (dk_at dksX2_digest_7 14 rfl rfl)
theorem dX2_digest_181 : decode cX2_digest 181 = .ok (.iinc 1 1, 3) := dk_132 1 1 (dk_at dksX2_digest_7 17 rfl rfl)
theorem dX2_digest_184 : decode cX2_digest 184 = .ok (.goto (-74), 3) := dk_167 255 182 (dk_at dksX2_digest_7 20 rfl rfl)
theorem dX2_digest_187 : decode cX2_digest 187 = .ok (.aload_n 0, 1) := dk_42 (dk_at dksX2_digest_7 23 rfl rfl)
theorem dX2_digest_188 : decode cX2_digest 188 = .ok (.lconst 1, 1) := dk_10 (dk_at dksX2_digest_8 0 rfl rfl)
theorem dX2_digest_189 : decode cX2_digest 189 = .ok (.invokevirtual 185, 3) := dk_182 0 185 (dk_at dksX2_digest_8 1 rfl rfl)
theorem dX2_digest_192 : decode cX2_digest 192 = .ok (.aload_n 0, 1) := dk_42 (dk_at dksX2_digest_8 4 rfl rfl)
theorem dX2_digest_193 : decode cX2_digest 193 = .ok (.getfield 177, 3) := dk_180 0 177 (dk_at dksX2_digest_8 5 rfl rfl)
theorem dX2_digest_196 : decode cX2_digest 196 = .ok (.lreturn, 1) := dk_173 (dk_at dksX2_digest_8 8 rfl rfl)
abbrev cX2_add_2 : ByteArray := prog_8_method_77_code
def yX2_add_2 : MethodName := ⟨RX2, "add", "(J)V"⟩
def dkwX2_add_2_0 : List UInt8 := [42, 42, 180, 0, 177, 20, 0, 181, 105, 31, 97, 181, 0, 177, 177]
abbrev dktX2_add_2_0 : List UInt8 := dkwX2_add_2_0 ++ []
theorem dksX2_add_2_0 : cX2_add_2.data.toList.drop 0 = dktX2_add_2_0 := by decide +kernel
theorem dX2_add_2_0 : decode cX2_add_2 0 = .ok (.aload_n 0, 1) := dk_42 (dk_at dksX2_add_2_0 0 rfl rfl)
theorem dX2_add_2_1 : decode cX2_add_2 1 = .ok (.aload_n 0, 1) := dk_42 (dk_at dksX2_add_2_0 1 rfl rfl)
theorem dX2_add_2_2 : decode cX2_add_2 2 = .ok (.getfield 177, 3) := dk_180 0 177 (dk_at dksX2_add_2_0 2 rfl rfl)
theorem dX2_add_2_5 : decode cX2_add_2 5 = .ok (.ldc2_w 181, 3) := dk_20 0 181 (dk_at dksX2_add_2_0 5 rfl rfl)
theorem dX2_add_2_8 : decode cX2_add_2 8 = .ok (.lmul, 1) := dk_105 (dk_at dksX2_add_2_0 8 rfl rfl)
theorem dX2_add_2_9 : decode cX2_add_2 9 = .ok (.lload_n 1, 1) := dk_31 (dk_at dksX2_add_2_0 9 rfl rfl)
theorem dX2_add_2_10 : decode cX2_add_2 10 = .ok (.ladd, 1) := dk_97 (dk_at dksX2_add_2_0 10 rfl rfl)
theorem dX2_add_2_11 : decode cX2_add_2 11 = .ok (.putfield 177, 3) := dk_181 0 177 (dk_at dksX2_add_2_0 11 rfl rfl)
theorem dX2_add_2_14 : decode cX2_add_2 14 = .ok (.return_, 1) := dk_177 (dk_at dksX2_add_2_0 14 rfl rfl)
theorem q70 : (Jvm.Cond.initialized "TwinrowModel") ∈ lw_all := lw_g (lw_at lw_m1 15 rfl) rfl
theorem q224 : (Jvm.Cond.selects "TwinrowModel" ({ cls := "java/lang/Object", name := "getClass", desc := "()Ljava/lang/Class;" } : Jvm.MethodName) ({ cls := "java/lang/Object", name := "getClass", desc := "()Ljava/lang/Class;" } : Jvm.MethodName)) ∈ lw_all := lw_g (lw_at lw_m1 169 rfl) rfl
theorem q1112 : (Jvm.Cond.selects "TwinrowModel" ({ cls := "java/lang/Object", name := "equals", desc := "(Ljava/lang/Object;)Z" } : Jvm.MethodName) ({ cls := "java/lang/Object", name := "equals", desc := "(Ljava/lang/Object;)Z" } : Jvm.MethodName)) ∈ lw_all := lw_g (lw_at lw_m5 97 rfl) rfl
theorem q1300 : (Jvm.Cond.selects "TwinrowModel" ({ cls := "java/lang/Object", name := "hashCode", desc := "()I" } : Jvm.MethodName) ({ cls := "java/lang/Object", name := "hashCode", desc := "()I" } : Jvm.MethodName)) ∈ lw_all := lw_g (lw_at lw_m6 45 rfl) rfl
theorem q3499 : (Jvm.Cond.instantiable "TwinrowModel" (8 : Nat)) ∈ lw_all := lw_g (lw_at lw_m15 84 rfl) rfl
theorem q3501 : (Jvm.Cond.instanceMethod ({ cls := "TwinrowModel", name := "<init>", desc := "()V" } : Jvm.MethodName)) ∈ lw_all := lw_g (lw_at lw_m15 86 rfl) rfl
theorem q3502 : (Jvm.Cond.code ({ cls := "TwinrowModel", name := "<init>", desc := "()V" } : Jvm.MethodName) prog_8_method_1_code (1 : Nat) (Option.none : Option Jvm.ClassFile.FieldType)) ∈ lw_all := lw_g (lw_at lw_m15 87 rfl) rfl
theorem q3503 : (Jvm.Cond.methodLink "TwinrowModel" (1 : Nat) ({ cls := "java/lang/Object", name := "<init>", desc := "()V" } : Jvm.MethodName)) ∈ lw_all := lw_g (lw_at lw_m15 88 rfl) rfl
theorem q3504 : (Jvm.Cond.classLink "TwinrowModel" (7 : Nat) "[I") ∈ lw_all := lw_g (lw_at lw_m15 89 rfl) rfl
theorem q3506 : (Jvm.Cond.fieldLink "TwinrowModel" (9 : Nat) "TwinrowModel" "rows" "[[I") ∈ lw_all := lw_g (lw_at lw_m15 91 rfl) rfl
theorem q3507 : (Jvm.Cond.fieldLink "TwinrowModel" (15 : Nat) "TwinrowModel" "rowsOf" "[I") ∈ lw_all := lw_g (lw_at lw_m15 92 rfl) rfl
theorem q3508 : (Jvm.Cond.fieldLink "TwinrowModel" (18 : Nat) "TwinrowModel" "begins" "[I") ∈ lw_all := lw_g (lw_at lw_m15 93 rfl) rfl
theorem q3509 : (Jvm.Cond.fieldLink "TwinrowModel" (21 : Nat) "TwinrowModel" "lengths" "[I") ∈ lw_all := lw_g (lw_at lw_m15 94 rfl) rfl
theorem q3510 : (Jvm.Cond.fieldLink "TwinrowModel" (168 : Nat) "TwinrowModel" "knocks" "I") ∈ lw_all := lw_g (lw_at lw_m15 95 rfl) rfl
theorem q3511 : (Jvm.Cond.fieldLink "TwinrowModel" (44 : Nat) "TwinrowModel" "refusals" "I") ∈ lw_all := lw_g (lw_at lw_m15 96 rfl) rfl
theorem q3512 : (Jvm.Cond.fieldLink "TwinrowModel" (28 : Nat) "TwinrowModel" "thrown" "I") ∈ lw_all := lw_g (lw_at lw_m15 97 rfl) rfl
theorem q3513 : (Jvm.Cond.fieldLink "TwinrowModel" (177 : Nat) "TwinrowModel" "sum" "J") ∈ lw_all := lw_g (lw_at lw_m15 98 rfl) rfl
theorem q3514 : (Jvm.Cond.laysFinal "TwinrowModel" "TwinrowModel" "rows" "[[I") ∈ lw_all := lw_g (lw_at lw_m15 99 rfl) rfl
theorem q3515 : (Jvm.Cond.soleField "TwinrowModel" "rows") ∈ lw_all := lw_g (lw_at lw_m15 100 rfl) rfl
theorem q3516 : (Jvm.Cond.laysFinal "TwinrowModel" "TwinrowModel" "rowsOf" "[I") ∈ lw_all := lw_g (lw_at lw_m15 101 rfl) rfl
theorem q3517 : (Jvm.Cond.soleField "TwinrowModel" "rowsOf") ∈ lw_all := lw_g (lw_at lw_m15 102 rfl) rfl
theorem q3518 : (Jvm.Cond.laysFinal "TwinrowModel" "TwinrowModel" "begins" "[I") ∈ lw_all := lw_g (lw_at lw_m15 103 rfl) rfl
theorem q3519 : (Jvm.Cond.soleField "TwinrowModel" "begins") ∈ lw_all := lw_g (lw_at lw_m15 104 rfl) rfl
theorem q3520 : (Jvm.Cond.laysFinal "TwinrowModel" "TwinrowModel" "lengths" "[I") ∈ lw_all := lw_g (lw_at lw_m15 105 rfl) rfl
theorem q3521 : (Jvm.Cond.soleField "TwinrowModel" "lengths") ∈ lw_all := lw_g (lw_at lw_m15 106 rfl) rfl
theorem q3522 : (Jvm.Cond.lays "TwinrowModel" "TwinrowModel" "knocks" "I") ∈ lw_all := lw_g (lw_at lw_m15 107 rfl) rfl
theorem q3523 : (Jvm.Cond.soleField "TwinrowModel" "knocks") ∈ lw_all := lw_g (lw_at lw_m15 108 rfl) rfl
theorem q3524 : (Jvm.Cond.lays "TwinrowModel" "TwinrowModel" "refusals" "I") ∈ lw_all := lw_g (lw_at lw_m15 109 rfl) rfl
theorem q3525 : (Jvm.Cond.soleField "TwinrowModel" "refusals") ∈ lw_all := lw_g (lw_at lw_m15 110 rfl) rfl
theorem q3526 : (Jvm.Cond.lays "TwinrowModel" "TwinrowModel" "thrown" "I") ∈ lw_all := lw_g (lw_at lw_m15 111 rfl) rfl
theorem q3527 : (Jvm.Cond.soleField "TwinrowModel" "thrown") ∈ lw_all := lw_g (lw_at lw_m15 112 rfl) rfl
theorem q3528 : (Jvm.Cond.lays "TwinrowModel" "TwinrowModel" "sum" "J") ∈ lw_all := lw_g (lw_at lw_m15 113 rfl) rfl
theorem q3529 : (Jvm.Cond.soleField "TwinrowModel" "sum") ∈ lw_all := lw_g (lw_at lw_m15 114 rfl) rfl
theorem q3530 : (Jvm.Cond.superclass "TwinrowModel" "java/lang/Object") ∈ lw_all := lw_g (lw_at lw_m15 115 rfl) rfl
theorem q3532 : (Jvm.Cond.instanceMethod ({ cls := "TwinrowModel", name := "thrown", desc := "()I" } : Jvm.MethodName)) ∈ lw_all := lw_g (lw_at lw_m15 117 rfl) rfl
theorem q3533 : (Jvm.Cond.selects "TwinrowModel" ({ cls := "TwinrowModel", name := "thrown", desc := "()I" } : Jvm.MethodName) ({ cls := "TwinrowModel", name := "thrown", desc := "()I" } : Jvm.MethodName)) ∈ lw_all := lw_g (lw_at lw_m15 118 rfl) rfl
theorem q3534 : (Jvm.Cond.code ({ cls := "TwinrowModel", name := "thrown", desc := "()I" } : Jvm.MethodName) prog_8_method_5_code (1 : Nat) (Option.some Jvm.ClassFile.FieldType.int)) ∈ lw_all := lw_g (lw_at lw_m15 119 rfl) rfl
theorem q3536 : (Jvm.Cond.instanceMethod ({ cls := "TwinrowModel", name := "lay", desc := "(II)I" } : Jvm.MethodName)) ∈ lw_all := lw_g (lw_at lw_m15 121 rfl) rfl
theorem q3537 : (Jvm.Cond.selects "TwinrowModel" ({ cls := "TwinrowModel", name := "lay", desc := "(II)I" } : Jvm.MethodName) ({ cls := "TwinrowModel", name := "lay", desc := "(II)I" } : Jvm.MethodName)) ∈ lw_all := lw_g (lw_at lw_m15 122 rfl) rfl
theorem q3538 : (Jvm.Cond.code ({ cls := "TwinrowModel", name := "lay", desc := "(II)I" } : Jvm.MethodName) prog_8_method_21_code (5 : Nat) (Option.some Jvm.ClassFile.FieldType.int)) ∈ lw_all := lw_g (lw_at lw_m15 123 rfl) rfl
theorem q3539 : (Jvm.Cond.methodLink "TwinrowModel" (24 : Nat) ({ cls := "TwinrowModel", name := "isIn", desc := "(III)Z" } : Jvm.MethodName)) ∈ lw_all := lw_g (lw_at lw_m15 124 rfl) rfl
theorem q3540 : (Jvm.Cond.static ({ cls := "TwinrowModel", name := "isIn", desc := "(III)Z" } : Jvm.MethodName)) ∈ lw_all := lw_g (lw_at lw_m15 125 rfl) rfl
theorem q3541 : (Jvm.Cond.code ({ cls := "TwinrowModel", name := "isIn", desc := "(III)Z" } : Jvm.MethodName) prog_8_method_2_code (3 : Nat) (Option.some Jvm.ClassFile.FieldType.boolean)) ∈ lw_all := lw_g (lw_at lw_m15 126 rfl) rfl
theorem q3542 : (Jvm.Cond.methodLink "TwinrowModel" (81 : Nat) ({ cls := "TwinrowModel", name := "fails", desc := "(ZZ)Z" } : Jvm.MethodName)) ∈ lw_all := lw_g (lw_at lw_m15 127 rfl) rfl
theorem q3543 : (Jvm.Cond.privateMethod ({ cls := "TwinrowModel", name := "fails", desc := "(ZZ)Z" } : Jvm.MethodName)) ∈ lw_tbl := lw_at lw_m15 128 rfl
theorem q3544 : (Jvm.Cond.instanceMethod ({ cls := "TwinrowModel", name := "fails", desc := "(ZZ)Z" } : Jvm.MethodName)) ∈ lw_all := lw_g (lw_at lw_m15 129 rfl) rfl
theorem q3545 : (Jvm.Cond.code ({ cls := "TwinrowModel", name := "fails", desc := "(ZZ)Z" } : Jvm.MethodName) prog_8_method_6_code (3 : Nat) (Option.some Jvm.ClassFile.FieldType.boolean)) ∈ lw_all := lw_g (lw_at lw_m15 130 rfl) rfl
theorem q3547 : (Jvm.Cond.instanceMethod ({ cls := "TwinrowModel", name := "put", desc := "(III)I" } : Jvm.MethodName)) ∈ lw_all := lw_g (lw_at lw_m15 132 rfl) rfl
theorem q3548 : (Jvm.Cond.selects "TwinrowModel" ({ cls := "TwinrowModel", name := "put", desc := "(III)I" } : Jvm.MethodName) ({ cls := "TwinrowModel", name := "put", desc := "(III)I" } : Jvm.MethodName)) ∈ lw_all := lw_g (lw_at lw_m15 133 rfl) rfl
theorem q3549 : (Jvm.Cond.code ({ cls := "TwinrowModel", name := "put", desc := "(III)I" } : Jvm.MethodName) prog_8_method_22_code (5 : Nat) (Option.some Jvm.ClassFile.FieldType.int)) ∈ lw_all := lw_g (lw_at lw_m15 134 rfl) rfl
theorem q3550 : (Jvm.Cond.methodLink "TwinrowModel" (85 : Nat) ({ cls := "TwinrowModel", name := "isNoRowPlace", desc := "(II)Z" } : Jvm.MethodName)) ∈ lw_all := lw_g (lw_at lw_m15 135 rfl) rfl
theorem q3551 : (Jvm.Cond.privateMethod ({ cls := "TwinrowModel", name := "isNoRowPlace", desc := "(II)Z" } : Jvm.MethodName)) ∈ lw_tbl := lw_at lw_m15 136 rfl
theorem q3552 : (Jvm.Cond.instanceMethod ({ cls := "TwinrowModel", name := "isNoRowPlace", desc := "(II)Z" } : Jvm.MethodName)) ∈ lw_all := lw_g (lw_at lw_m15 137 rfl) rfl
theorem q3553 : (Jvm.Cond.code ({ cls := "TwinrowModel", name := "isNoRowPlace", desc := "(II)Z" } : Jvm.MethodName) prog_8_method_9_code (3 : Nat) (Option.some Jvm.ClassFile.FieldType.boolean)) ∈ lw_all := lw_g (lw_at lw_m15 138 rfl) rfl
theorem q3554 : (Jvm.Cond.methodLink "TwinrowModel" (89 : Nat) ({ cls := "TwinrowModel", name := "isNoValue", desc := "(I)Z" } : Jvm.MethodName)) ∈ lw_all := lw_g (lw_at lw_m15 139 rfl) rfl
theorem q3555 : (Jvm.Cond.static ({ cls := "TwinrowModel", name := "isNoValue", desc := "(I)Z" } : Jvm.MethodName)) ∈ lw_all := lw_g (lw_at lw_m15 140 rfl) rfl
theorem q3556 : (Jvm.Cond.code ({ cls := "TwinrowModel", name := "isNoValue", desc := "(I)Z" } : Jvm.MethodName) prog_8_method_4_code (1 : Nat) (Option.some Jvm.ClassFile.FieldType.boolean)) ∈ lw_all := lw_g (lw_at lw_m15 141 rfl) rfl
theorem q3558 : (Jvm.Cond.instanceMethod ({ cls := "TwinrowModel", name := "at", desc := "(II)I" } : Jvm.MethodName)) ∈ lw_all := lw_g (lw_at lw_m15 143 rfl) rfl
theorem q3559 : (Jvm.Cond.selects "TwinrowModel" ({ cls := "TwinrowModel", name := "at", desc := "(II)I" } : Jvm.MethodName) ({ cls := "TwinrowModel", name := "at", desc := "(II)I" } : Jvm.MethodName)) ∈ lw_all := lw_g (lw_at lw_m15 144 rfl) rfl
theorem q3560 : (Jvm.Cond.code ({ cls := "TwinrowModel", name := "at", desc := "(II)I" } : Jvm.MethodName) prog_8_method_23_code (3 : Nat) (Option.some Jvm.ClassFile.FieldType.int)) ∈ lw_all := lw_g (lw_at lw_m15 145 rfl) rfl
theorem q3562 : (Jvm.Cond.instanceMethod ({ cls := "TwinrowModel", name := "part", desc := "(IIII)I" } : Jvm.MethodName)) ∈ lw_all := lw_g (lw_at lw_m15 147 rfl) rfl
theorem q3563 : (Jvm.Cond.selects "TwinrowModel" ({ cls := "TwinrowModel", name := "part", desc := "(IIII)I" } : Jvm.MethodName) ({ cls := "TwinrowModel", name := "part", desc := "(IIII)I" } : Jvm.MethodName)) ∈ lw_all := lw_g (lw_at lw_m15 148 rfl) rfl
theorem q3564 : (Jvm.Cond.code ({ cls := "TwinrowModel", name := "part", desc := "(IIII)I" } : Jvm.MethodName) prog_8_method_24_code (8 : Nat) (Option.some Jvm.ClassFile.FieldType.int)) ∈ lw_all := lw_g (lw_at lw_m15 149 rfl) rfl
theorem q3565 : (Jvm.Cond.methodLink "TwinrowModel" (32 : Nat) ({ cls := "TwinrowModel", name := "isNoList", desc := "(I)Z" } : Jvm.MethodName)) ∈ lw_all := lw_g (lw_at lw_m15 150 rfl) rfl
theorem q3566 : (Jvm.Cond.privateMethod ({ cls := "TwinrowModel", name := "isNoList", desc := "(I)Z" } : Jvm.MethodName)) ∈ lw_tbl := lw_at lw_m15 151 rfl
theorem q3567 : (Jvm.Cond.instanceMethod ({ cls := "TwinrowModel", name := "isNoList", desc := "(I)Z" } : Jvm.MethodName)) ∈ lw_all := lw_g (lw_at lw_m15 152 rfl) rfl
theorem q3568 : (Jvm.Cond.code ({ cls := "TwinrowModel", name := "isNoList", desc := "(I)Z" } : Jvm.MethodName) prog_8_method_7_code (2 : Nat) (Option.some Jvm.ClassFile.FieldType.boolean)) ∈ lw_all := lw_g (lw_at lw_m15 153 rfl) rfl
theorem q3570 : (Jvm.Cond.instanceMethod ({ cls := "TwinrowModel", name := "set", desc := "(III)I" } : Jvm.MethodName)) ∈ lw_all := lw_g (lw_at lw_m15 155 rfl) rfl
theorem q3571 : (Jvm.Cond.selects "TwinrowModel" ({ cls := "TwinrowModel", name := "set", desc := "(III)I" } : Jvm.MethodName) ({ cls := "TwinrowModel", name := "set", desc := "(III)I" } : Jvm.MethodName)) ∈ lw_all := lw_g (lw_at lw_m15 156 rfl) rfl
theorem q3572 : (Jvm.Cond.code ({ cls := "TwinrowModel", name := "set", desc := "(III)I" } : Jvm.MethodName) prog_8_method_25_code (5 : Nat) (Option.some Jvm.ClassFile.FieldType.int)) ∈ lw_all := lw_g (lw_at lw_m15 157 rfl) rfl
theorem q3573 : (Jvm.Cond.methodLink "TwinrowModel" (92 : Nat) ({ cls := "TwinrowModel", name := "isNoPlace", desc := "(II)Z" } : Jvm.MethodName)) ∈ lw_all := lw_g (lw_at lw_m15 158 rfl) rfl
theorem q3574 : (Jvm.Cond.privateMethod ({ cls := "TwinrowModel", name := "isNoPlace", desc := "(II)Z" } : Jvm.MethodName)) ∈ lw_tbl := lw_at lw_m15 159 rfl
theorem q3575 : (Jvm.Cond.instanceMethod ({ cls := "TwinrowModel", name := "isNoPlace", desc := "(II)Z" } : Jvm.MethodName)) ∈ lw_all := lw_g (lw_at lw_m15 160 rfl) rfl
theorem q3576 : (Jvm.Cond.code ({ cls := "TwinrowModel", name := "isNoPlace", desc := "(II)Z" } : Jvm.MethodName) prog_8_method_8_code (3 : Nat) (Option.some Jvm.ClassFile.FieldType.boolean)) ∈ lw_all := lw_g (lw_at lw_m15 161 rfl) rfl
theorem q3577 : (Jvm.Cond.methodLink "TwinrowModel" (36 : Nat) ({ cls := "TwinrowModel", name := "value", desc := "(II)I" } : Jvm.MethodName)) ∈ lw_all := lw_g (lw_at lw_m15 162 rfl) rfl
theorem q3578 : (Jvm.Cond.privateMethod ({ cls := "TwinrowModel", name := "value", desc := "(II)I" } : Jvm.MethodName)) ∈ lw_tbl := lw_at lw_m15 163 rfl
theorem q3579 : (Jvm.Cond.instanceMethod ({ cls := "TwinrowModel", name := "value", desc := "(II)I" } : Jvm.MethodName)) ∈ lw_all := lw_g (lw_at lw_m15 164 rfl) rfl
theorem q3580 : (Jvm.Cond.code ({ cls := "TwinrowModel", name := "value", desc := "(II)I" } : Jvm.MethodName) prog_8_method_10_code (3 : Nat) (Option.some Jvm.ClassFile.FieldType.int)) ∈ lw_all := lw_g (lw_at lw_m15 165 rfl) rfl
theorem q3581 : (Jvm.Cond.methodLink "TwinrowModel" (40 : Nat) ({ cls := "TwinrowModel", name := "write", desc := "(III)V" } : Jvm.MethodName)) ∈ lw_all := lw_g (lw_at lw_m15 166 rfl) rfl
theorem q3582 : (Jvm.Cond.privateMethod ({ cls := "TwinrowModel", name := "write", desc := "(III)V" } : Jvm.MethodName)) ∈ lw_tbl := lw_at lw_m15 167 rfl
theorem q3583 : (Jvm.Cond.instanceMethod ({ cls := "TwinrowModel", name := "write", desc := "(III)V" } : Jvm.MethodName)) ∈ lw_all := lw_g (lw_at lw_m15 168 rfl) rfl
theorem q3584 : (Jvm.Cond.code ({ cls := "TwinrowModel", name := "write", desc := "(III)V" } : Jvm.MethodName) prog_8_method_11_code (4 : Nat) (Option.none : Option Jvm.ClassFile.FieldType)) ∈ lw_all := lw_g (lw_at lw_m15 169 rfl) rfl
theorem q3586 : (Jvm.Cond.instanceMethod ({ cls := "TwinrowModel", name := "get", desc := "(II)I" } : Jvm.MethodName)) ∈ lw_all := lw_g (lw_at lw_m15 171 rfl) rfl
theorem q3587 : (Jvm.Cond.selects "TwinrowModel" ({ cls := "TwinrowModel", name := "get", desc := "(II)I" } : Jvm.MethodName) ({ cls := "TwinrowModel", name := "get", desc := "(II)I" } : Jvm.MethodName)) ∈ lw_all := lw_g (lw_at lw_m15 172 rfl) rfl
theorem q3588 : (Jvm.Cond.code ({ cls := "TwinrowModel", name := "get", desc := "(II)I" } : Jvm.MethodName) prog_8_method_26_code (3 : Nat) (Option.some Jvm.ClassFile.FieldType.int)) ∈ lw_all := lw_g (lw_at lw_m15 173 rfl) rfl
theorem q3590 : (Jvm.Cond.instanceMethod ({ cls := "TwinrowModel", name := "length", desc := "(I)I" } : Jvm.MethodName)) ∈ lw_all := lw_g (lw_at lw_m15 175 rfl) rfl
theorem q3591 : (Jvm.Cond.selects "TwinrowModel" ({ cls := "TwinrowModel", name := "length", desc := "(I)I" } : Jvm.MethodName) ({ cls := "TwinrowModel", name := "length", desc := "(I)I" } : Jvm.MethodName)) ∈ lw_all := lw_g (lw_at lw_m15 176 rfl) rfl
theorem q3592 : (Jvm.Cond.code ({ cls := "TwinrowModel", name := "length", desc := "(I)I" } : Jvm.MethodName) prog_8_method_27_code (2 : Nat) (Option.some Jvm.ClassFile.FieldType.int)) ∈ lw_all := lw_g (lw_at lw_m15 177 rfl) rfl
theorem q3594 : (Jvm.Cond.instanceMethod ({ cls := "TwinrowModel", name := "isEmpty", desc := "(I)Z" } : Jvm.MethodName)) ∈ lw_all := lw_g (lw_at lw_m15 179 rfl) rfl
theorem q3595 : (Jvm.Cond.selects "TwinrowModel" ({ cls := "TwinrowModel", name := "isEmpty", desc := "(I)Z" } : Jvm.MethodName) ({ cls := "TwinrowModel", name := "isEmpty", desc := "(I)Z" } : Jvm.MethodName)) ∈ lw_all := lw_g (lw_at lw_m15 180 rfl) rfl
theorem q3596 : (Jvm.Cond.code ({ cls := "TwinrowModel", name := "isEmpty", desc := "(I)Z" } : Jvm.MethodName) prog_8_method_28_code (2 : Nat) (Option.some Jvm.ClassFile.FieldType.boolean)) ∈ lw_all := lw_g (lw_at lw_m15 181 rfl) rfl
theorem q3598 : (Jvm.Cond.instanceMethod ({ cls := "TwinrowModel", name := "text", desc := "(I)Ljava/lang/String;" } : Jvm.MethodName)) ∈ lw_all := lw_g (lw_at lw_m15 183 rfl) rfl
theorem q3599 : (Jvm.Cond.selects "TwinrowModel" ({ cls := "TwinrowModel", name := "text", desc := "(I)Ljava/lang/String;" } : Jvm.MethodName) ({ cls := "TwinrowModel", name := "text", desc := "(I)Ljava/lang/String;" } : Jvm.MethodName)) ∈ lw_all := lw_g (lw_at lw_m15 184 rfl) rfl
theorem q3600 : (Jvm.Cond.code ({ cls := "TwinrowModel", name := "text", desc := "(I)Ljava/lang/String;" } : Jvm.MethodName) prog_8_method_30_code (2 : Nat) (Option.some (Jvm.ClassFile.FieldType.object "java/lang/String"))) ∈ lw_all := lw_g (lw_at lw_m15 185 rfl) rfl
theorem q3601 : (Jvm.Cond.methodLink "TwinrowModel" (111 : Nat) ({ cls := "TwinrowModel", name := "line", desc := "(IZ)Ljava/lang/String;" } : Jvm.MethodName)) ∈ lw_all := lw_g (lw_at lw_m15 186 rfl) rfl
theorem q3602 : (Jvm.Cond.privateMethod ({ cls := "TwinrowModel", name := "line", desc := "(IZ)Ljava/lang/String;" } : Jvm.MethodName)) ∈ lw_tbl := lw_at lw_m15 187 rfl
theorem q3603 : (Jvm.Cond.instanceMethod ({ cls := "TwinrowModel", name := "line", desc := "(IZ)Ljava/lang/String;" } : Jvm.MethodName)) ∈ lw_all := lw_g (lw_at lw_m15 188 rfl) rfl
theorem q3604 : (Jvm.Cond.code ({ cls := "TwinrowModel", name := "line", desc := "(IZ)Ljava/lang/String;" } : Jvm.MethodName) prog_8_method_29_code (8 : Nat) (Option.some (Jvm.ClassFile.FieldType.object "java/lang/String"))) ∈ lw_all := lw_g (lw_at lw_m15 189 rfl) rfl
theorem q3605 : (Jvm.Cond.stringRef "TwinrowModel" (68 : Nat) "") ∈ lw_tbl := lw_at lw_m15 190 rfl
theorem q3606 : (Jvm.Cond.methodLink "TwinrowModel" (95 : Nat) ({ cls := "TwinrowModel", name := "all", desc := "(I)[I" } : Jvm.MethodName)) ∈ lw_all := lw_g (lw_at lw_m15 191 rfl) rfl
theorem q3607 : (Jvm.Cond.privateMethod ({ cls := "TwinrowModel", name := "all", desc := "(I)[I" } : Jvm.MethodName)) ∈ lw_tbl := lw_at lw_m15 192 rfl
theorem q3608 : (Jvm.Cond.instanceMethod ({ cls := "TwinrowModel", name := "all", desc := "(I)[I" } : Jvm.MethodName)) ∈ lw_all := lw_g (lw_at lw_m15 193 rfl) rfl
theorem q3609 : (Jvm.Cond.code ({ cls := "TwinrowModel", name := "all", desc := "(I)[I" } : Jvm.MethodName) prog_8_method_12_code (4 : Nat) (Option.some (Jvm.ClassFile.FieldType.array Jvm.ClassFile.FieldType.int))) ∈ lw_all := lw_g (lw_at lw_m15 194 rfl) rfl
theorem q3610 : (Jvm.Cond.methodLink "TwinrowModel" (99 : Nat) ({ cls := "java/lang/String", name := "isEmpty", desc := "()Z" } : Jvm.MethodName)) ∈ lw_all := lw_g (lw_at lw_m15 195 rfl) rfl
theorem q3614 : (Jvm.Cond.methodLink "TwinrowModel" (105 : Nat) ({ cls := "TwinrowModel", name := "shown", desc := "(I)Ljava/lang/String;" } : Jvm.MethodName)) ∈ lw_all := lw_g (lw_at lw_m15 199 rfl) rfl
theorem q3615 : (Jvm.Cond.static ({ cls := "TwinrowModel", name := "shown", desc := "(I)Ljava/lang/String;" } : Jvm.MethodName)) ∈ lw_all := lw_g (lw_at lw_m15 200 rfl) rfl
theorem q3616 : (Jvm.Cond.code ({ cls := "TwinrowModel", name := "shown", desc := "(I)Ljava/lang/String;" } : Jvm.MethodName) prog_8_method_20_code (1 : Nat) (Option.some (Jvm.ClassFile.FieldType.object "java/lang/String"))) ∈ lw_all := lw_g (lw_at lw_m15 201 rfl) rfl
theorem q3617 : (Jvm.Cond.stringRef "TwinrowModel" (63 : Nat) "-") ∈ lw_tbl := lw_at lw_m15 202 rfl
theorem q3618 : (Jvm.Cond.classLink "TwinrowModel" (65 : Nat) "java/lang/StringBuilder") ∈ lw_all := lw_g (lw_at lw_m15 203 rfl) rfl
theorem q3619 : (Jvm.Cond.methodLink "TwinrowModel" (67 : Nat) ({ cls := "java/lang/StringBuilder", name := "<init>", desc := "()V" } : Jvm.MethodName)) ∈ lw_all := lw_g (lw_at lw_m15 204 rfl) rfl
theorem q3620 : (Jvm.Cond.methodLink "TwinrowModel" (70 : Nat) ({ cls := "java/lang/StringBuilder", name := "append", desc := "(Ljava/lang/String;)Ljava/lang/StringBuilder;" } : Jvm.MethodName)) ∈ lw_all := lw_g (lw_at lw_m15 205 rfl) rfl
theorem q3621 : (Jvm.Cond.methodLink "TwinrowModel" (74 : Nat) ({ cls := "java/lang/StringBuilder", name := "append", desc := "(I)Ljava/lang/StringBuilder;" } : Jvm.MethodName)) ∈ lw_all := lw_g (lw_at lw_m15 206 rfl) rfl
theorem q3622 : (Jvm.Cond.methodLink "TwinrowModel" (77 : Nat) ({ cls := "java/lang/StringBuilder", name := "toString", desc := "()Ljava/lang/String;" } : Jvm.MethodName)) ∈ lw_all := lw_g (lw_at lw_m15 207 rfl) rfl
theorem q3623 : (Jvm.Cond.stringRef "TwinrowModel" (109 : Nat) " ") ∈ lw_tbl := lw_at lw_m15 208 rfl
theorem q3625 : (Jvm.Cond.instanceMethod ({ cls := "TwinrowModel", name := "back", desc := "(I)Ljava/lang/String;" } : Jvm.MethodName)) ∈ lw_all := lw_g (lw_at lw_m15 210 rfl) rfl
theorem q3626 : (Jvm.Cond.selects "TwinrowModel" ({ cls := "TwinrowModel", name := "back", desc := "(I)Ljava/lang/String;" } : Jvm.MethodName) ({ cls := "TwinrowModel", name := "back", desc := "(I)Ljava/lang/String;" } : Jvm.MethodName)) ∈ lw_all := lw_g (lw_at lw_m15 211 rfl) rfl
theorem q3627 : (Jvm.Cond.code ({ cls := "TwinrowModel", name := "back", desc := "(I)Ljava/lang/String;" } : Jvm.MethodName) prog_8_method_31_code (2 : Nat) (Option.some (Jvm.ClassFile.FieldType.object "java/lang/String"))) ∈ lw_all := lw_g (lw_at lw_m15 212 rfl) rfl
theorem q3629 : (Jvm.Cond.instanceMethod ({ cls := "TwinrowModel", name := "indexOf", desc := "(II)I" } : Jvm.MethodName)) ∈ lw_all := lw_g (lw_at lw_m15 214 rfl) rfl
theorem q3630 : (Jvm.Cond.selects "TwinrowModel" ({ cls := "TwinrowModel", name := "indexOf", desc := "(II)I" } : Jvm.MethodName) ({ cls := "TwinrowModel", name := "indexOf", desc := "(II)I" } : Jvm.MethodName)) ∈ lw_all := lw_g (lw_at lw_m15 215 rfl) rfl
theorem q3631 : (Jvm.Cond.code ({ cls := "TwinrowModel", name := "indexOf", desc := "(II)I" } : Jvm.MethodName) prog_8_method_32_code (3 : Nat) (Option.some Jvm.ClassFile.FieldType.int)) ∈ lw_all := lw_g (lw_at lw_m15 216 rfl) rfl
theorem q3632 : (Jvm.Cond.methodLink "TwinrowModel" (115 : Nat) ({ cls := "TwinrowModel", name := "placeOf", desc := "([II)I" } : Jvm.MethodName)) ∈ lw_all := lw_g (lw_at lw_m15 217 rfl) rfl
theorem q3633 : (Jvm.Cond.static ({ cls := "TwinrowModel", name := "placeOf", desc := "([II)I" } : Jvm.MethodName)) ∈ lw_all := lw_g (lw_at lw_m15 218 rfl) rfl
theorem q3634 : (Jvm.Cond.code ({ cls := "TwinrowModel", name := "placeOf", desc := "([II)I" } : Jvm.MethodName) prog_8_method_18_code (3 : Nat) (Option.some Jvm.ClassFile.FieldType.int)) ∈ lw_all := lw_g (lw_at lw_m15 219 rfl) rfl
theorem q3636 : (Jvm.Cond.instanceMethod ({ cls := "TwinrowModel", name := "lastIndexOf", desc := "(II)I" } : Jvm.MethodName)) ∈ lw_all := lw_g (lw_at lw_m15 221 rfl) rfl
theorem q3637 : (Jvm.Cond.selects "TwinrowModel" ({ cls := "TwinrowModel", name := "lastIndexOf", desc := "(II)I" } : Jvm.MethodName) ({ cls := "TwinrowModel", name := "lastIndexOf", desc := "(II)I" } : Jvm.MethodName)) ∈ lw_all := lw_g (lw_at lw_m15 222 rfl) rfl
theorem q3638 : (Jvm.Cond.code ({ cls := "TwinrowModel", name := "lastIndexOf", desc := "(II)I" } : Jvm.MethodName) prog_8_method_33_code (5 : Nat) (Option.some Jvm.ClassFile.FieldType.int)) ∈ lw_all := lw_g (lw_at lw_m15 223 rfl) rfl
theorem q3640 : (Jvm.Cond.instanceMethod ({ cls := "TwinrowModel", name := "has", desc := "(II)Z" } : Jvm.MethodName)) ∈ lw_all := lw_g (lw_at lw_m15 225 rfl) rfl
theorem q3641 : (Jvm.Cond.selects "TwinrowModel" ({ cls := "TwinrowModel", name := "has", desc := "(II)Z" } : Jvm.MethodName) ({ cls := "TwinrowModel", name := "has", desc := "(II)Z" } : Jvm.MethodName)) ∈ lw_all := lw_g (lw_at lw_m15 226 rfl) rfl
theorem q3642 : (Jvm.Cond.code ({ cls := "TwinrowModel", name := "has", desc := "(II)Z" } : Jvm.MethodName) prog_8_method_34_code (3 : Nat) (Option.some Jvm.ClassFile.FieldType.boolean)) ∈ lw_all := lw_g (lw_at lw_m15 227 rfl) rfl
theorem q3644 : (Jvm.Cond.instanceMethod ({ cls := "TwinrowModel", name := "often", desc := "(II)I" } : Jvm.MethodName)) ∈ lw_all := lw_g (lw_at lw_m15 229 rfl) rfl
theorem q3645 : (Jvm.Cond.selects "TwinrowModel" ({ cls := "TwinrowModel", name := "often", desc := "(II)I" } : Jvm.MethodName) ({ cls := "TwinrowModel", name := "often", desc := "(II)I" } : Jvm.MethodName)) ∈ lw_all := lw_g (lw_at lw_m15 230 rfl) rfl
theorem q3646 : (Jvm.Cond.code ({ cls := "TwinrowModel", name := "often", desc := "(II)I" } : Jvm.MethodName) prog_8_method_35_code (3 : Nat) (Option.some Jvm.ClassFile.FieldType.int)) ∈ lw_all := lw_g (lw_at lw_m15 231 rfl) rfl
theorem q3647 : (Jvm.Cond.methodLink "TwinrowModel" (119 : Nat) ({ cls := "TwinrowModel", name := "oftenIn", desc := "([II)I" } : Jvm.MethodName)) ∈ lw_all := lw_g (lw_at lw_m15 232 rfl) rfl
theorem q3648 : (Jvm.Cond.static ({ cls := "TwinrowModel", name := "oftenIn", desc := "([II)I" } : Jvm.MethodName)) ∈ lw_all := lw_g (lw_at lw_m15 233 rfl) rfl
theorem q3649 : (Jvm.Cond.code ({ cls := "TwinrowModel", name := "oftenIn", desc := "([II)I" } : Jvm.MethodName) prog_8_method_19_code (7 : Nat) (Option.some Jvm.ClassFile.FieldType.int)) ∈ lw_all := lw_g (lw_at lw_m15 234 rfl) rfl
theorem q3650 : (Jvm.Cond.methodLink "TwinrowModel" (59 : Nat) ({ cls := "TwinrowModel", name := "one", desc := "(Z)I" } : Jvm.MethodName)) ∈ lw_all := lw_g (lw_at lw_m15 235 rfl) rfl
theorem q3651 : (Jvm.Cond.static ({ cls := "TwinrowModel", name := "one", desc := "(Z)I" } : Jvm.MethodName)) ∈ lw_all := lw_g (lw_at lw_m15 236 rfl) rfl
theorem q3652 : (Jvm.Cond.code ({ cls := "TwinrowModel", name := "one", desc := "(Z)I" } : Jvm.MethodName) prog_8_method_3_code (1 : Nat) (Option.some Jvm.ClassFile.FieldType.int)) ∈ lw_all := lw_g (lw_at lw_m15 237 rfl) rfl
theorem q3654 : (Jvm.Cond.instanceMethod ({ cls := "TwinrowModel", name := "hasAll", desc := "(II)Z" } : Jvm.MethodName)) ∈ lw_all := lw_g (lw_at lw_m15 239 rfl) rfl
theorem q3655 : (Jvm.Cond.selects "TwinrowModel" ({ cls := "TwinrowModel", name := "hasAll", desc := "(II)Z" } : Jvm.MethodName) ({ cls := "TwinrowModel", name := "hasAll", desc := "(II)Z" } : Jvm.MethodName)) ∈ lw_all := lw_g (lw_at lw_m16 0 rfl) rfl
theorem q3656 : (Jvm.Cond.code ({ cls := "TwinrowModel", name := "hasAll", desc := "(II)Z" } : Jvm.MethodName) prog_8_method_38_code (3 : Nat) (Option.some Jvm.ClassFile.FieldType.boolean)) ∈ lw_all := lw_g (lw_at lw_m16 1 rfl) rfl
theorem q3657 : (Jvm.Cond.methodLink "TwinrowModel" (122 : Nat) ({ cls := "TwinrowModel", name := "isNoPair", desc := "(II)Z" } : Jvm.MethodName)) ∈ lw_all := lw_g (lw_at lw_m16 2 rfl) rfl
theorem q3658 : (Jvm.Cond.privateMethod ({ cls := "TwinrowModel", name := "isNoPair", desc := "(II)Z" } : Jvm.MethodName)) ∈ lw_tbl := lw_at lw_m16 3 rfl
theorem q3659 : (Jvm.Cond.instanceMethod ({ cls := "TwinrowModel", name := "isNoPair", desc := "(II)Z" } : Jvm.MethodName)) ∈ lw_all := lw_g (lw_at lw_m16 4 rfl) rfl
theorem q3660 : (Jvm.Cond.code ({ cls := "TwinrowModel", name := "isNoPair", desc := "(II)Z" } : Jvm.MethodName) prog_8_method_37_code (3 : Nat) (Option.some Jvm.ClassFile.FieldType.boolean)) ∈ lw_all := lw_g (lw_at lw_m16 5 rfl) rfl
theorem q3661 : (Jvm.Cond.methodLink "TwinrowModel" (125 : Nat) ({ cls := "TwinrowModel", name := "shared", desc := "(II)I" } : Jvm.MethodName)) ∈ lw_all := lw_g (lw_at lw_m16 6 rfl) rfl
theorem q3662 : (Jvm.Cond.privateMethod ({ cls := "TwinrowModel", name := "shared", desc := "(II)I" } : Jvm.MethodName)) ∈ lw_tbl := lw_at lw_m16 7 rfl
theorem q3663 : (Jvm.Cond.instanceMethod ({ cls := "TwinrowModel", name := "shared", desc := "(II)I" } : Jvm.MethodName)) ∈ lw_all := lw_g (lw_at lw_m16 8 rfl) rfl
theorem q3664 : (Jvm.Cond.code ({ cls := "TwinrowModel", name := "shared", desc := "(II)I" } : Jvm.MethodName) prog_8_method_36_code (8 : Nat) (Option.some Jvm.ClassFile.FieldType.int)) ∈ lw_all := lw_g (lw_at lw_m16 9 rfl) rfl
theorem q3666 : (Jvm.Cond.instanceMethod ({ cls := "TwinrowModel", name := "areApart", desc := "(II)Z" } : Jvm.MethodName)) ∈ lw_all := lw_g (lw_at lw_m16 11 rfl) rfl
theorem q3667 : (Jvm.Cond.selects "TwinrowModel" ({ cls := "TwinrowModel", name := "areApart", desc := "(II)Z" } : Jvm.MethodName) ({ cls := "TwinrowModel", name := "areApart", desc := "(II)Z" } : Jvm.MethodName)) ∈ lw_all := lw_g (lw_at lw_m16 12 rfl) rfl
theorem q3668 : (Jvm.Cond.code ({ cls := "TwinrowModel", name := "areApart", desc := "(II)Z" } : Jvm.MethodName) prog_8_method_39_code (3 : Nat) (Option.some Jvm.ClassFile.FieldType.boolean)) ∈ lw_all := lw_g (lw_at lw_m16 13 rfl) rfl
theorem q3670 : (Jvm.Cond.instanceMethod ({ cls := "TwinrowModel", name := "indexOfAll", desc := "(II)I" } : Jvm.MethodName)) ∈ lw_all := lw_g (lw_at lw_m16 15 rfl) rfl
theorem q3671 : (Jvm.Cond.selects "TwinrowModel" ({ cls := "TwinrowModel", name := "indexOfAll", desc := "(II)I" } : Jvm.MethodName) ({ cls := "TwinrowModel", name := "indexOfAll", desc := "(II)I" } : Jvm.MethodName)) ∈ lw_all := lw_g (lw_at lw_m16 16 rfl) rfl
theorem q3672 : (Jvm.Cond.code ({ cls := "TwinrowModel", name := "indexOfAll", desc := "(II)I" } : Jvm.MethodName) prog_8_method_41_code (4 : Nat) (Option.some Jvm.ClassFile.FieldType.int)) ∈ lw_all := lw_g (lw_at lw_m16 17 rfl) rfl
theorem q3673 : (Jvm.Cond.methodLink "TwinrowModel" (128 : Nat) ({ cls := "TwinrowModel", name := "isAt", desc := "([II[I)Z" } : Jvm.MethodName)) ∈ lw_all := lw_g (lw_at lw_m16 18 rfl) rfl
theorem q3674 : (Jvm.Cond.static ({ cls := "TwinrowModel", name := "isAt", desc := "([II[I)Z" } : Jvm.MethodName)) ∈ lw_all := lw_g (lw_at lw_m16 19 rfl) rfl
theorem q3675 : (Jvm.Cond.code ({ cls := "TwinrowModel", name := "isAt", desc := "([II[I)Z" } : Jvm.MethodName) prog_8_method_40_code (5 : Nat) (Option.some Jvm.ClassFile.FieldType.boolean)) ∈ lw_all := lw_g (lw_at lw_m16 20 rfl) rfl
theorem q3677 : (Jvm.Cond.instanceMethod ({ cls := "TwinrowModel", name := "areEqual", desc := "(II)Z" } : Jvm.MethodName)) ∈ lw_all := lw_g (lw_at lw_m16 22 rfl) rfl
theorem q3678 : (Jvm.Cond.selects "TwinrowModel" ({ cls := "TwinrowModel", name := "areEqual", desc := "(II)Z" } : Jvm.MethodName) ({ cls := "TwinrowModel", name := "areEqual", desc := "(II)Z" } : Jvm.MethodName)) ∈ lw_all := lw_g (lw_at lw_m16 23 rfl) rfl
theorem q3679 : (Jvm.Cond.code ({ cls := "TwinrowModel", name := "areEqual", desc := "(II)Z" } : Jvm.MethodName) prog_8_method_42_code (3 : Nat) (Option.some Jvm.ClassFile.FieldType.boolean)) ∈ lw_all := lw_g (lw_at lw_m16 24 rfl) rfl
theorem q3681 : (Jvm.Cond.instanceMethod ({ cls := "TwinrowModel", name := "code", desc := "(I)I" } : Jvm.MethodName)) ∈ lw_all := lw_g (lw_at lw_m16 26 rfl) rfl
theorem q3682 : (Jvm.Cond.selects "TwinrowModel" ({ cls := "TwinrowModel", name := "code", desc := "(I)I" } : Jvm.MethodName) ({ cls := "TwinrowModel", name := "code", desc := "(I)I" } : Jvm.MethodName)) ∈ lw_all := lw_g (lw_at lw_m16 27 rfl) rfl
theorem q3683 : (Jvm.Cond.code ({ cls := "TwinrowModel", name := "code", desc := "(I)I" } : Jvm.MethodName) prog_8_method_44_code (2 : Nat) (Option.some Jvm.ClassFile.FieldType.int)) ∈ lw_all := lw_g (lw_at lw_m16 28 rfl) rfl
theorem q3684 : (Jvm.Cond.methodLink "TwinrowModel" (132 : Nat) ({ cls := "TwinrowModel", name := "codeNow", desc := "(I)I" } : Jvm.MethodName)) ∈ lw_all := lw_g (lw_at lw_m16 29 rfl) rfl
theorem q3685 : (Jvm.Cond.privateMethod ({ cls := "TwinrowModel", name := "codeNow", desc := "(I)I" } : Jvm.MethodName)) ∈ lw_tbl := lw_at lw_m16 30 rfl
theorem q3686 : (Jvm.Cond.instanceMethod ({ cls := "TwinrowModel", name := "codeNow", desc := "(I)I" } : Jvm.MethodName)) ∈ lw_all := lw_g (lw_at lw_m16 31 rfl) rfl
theorem q3687 : (Jvm.Cond.code ({ cls := "TwinrowModel", name := "codeNow", desc := "(I)I" } : Jvm.MethodName) prog_8_method_43_code (7 : Nat) (Option.some Jvm.ClassFile.FieldType.int)) ∈ lw_all := lw_g (lw_at lw_m16 32 rfl) rfl
theorem q3689 : (Jvm.Cond.instanceMethod ({ cls := "TwinrowModel", name := "walk", desc := "(IIIZ)Ljava/lang/String;" } : Jvm.MethodName)) ∈ lw_all := lw_g (lw_at lw_m16 34 rfl) rfl
theorem q3690 : (Jvm.Cond.selects "TwinrowModel" ({ cls := "TwinrowModel", name := "walk", desc := "(IIIZ)Ljava/lang/String;" } : Jvm.MethodName) ({ cls := "TwinrowModel", name := "walk", desc := "(IIIZ)Ljava/lang/String;" } : Jvm.MethodName)) ∈ lw_all := lw_g (lw_at lw_m16 35 rfl) rfl
theorem q3691 : (Jvm.Cond.code ({ cls := "TwinrowModel", name := "walk", desc := "(IIIZ)Ljava/lang/String;" } : Jvm.MethodName) prog_8_method_46_code (8 : Nat) (Option.some (Jvm.ClassFile.FieldType.object "java/lang/String"))) ∈ lw_all := lw_g (lw_at lw_m16 36 rfl) rfl
theorem q3692 : (Jvm.Cond.methodLink "TwinrowModel" (135 : Nat) ({ cls := "TwinrowModel", name := "isBeyond", desc := "(II)Z" } : Jvm.MethodName)) ∈ lw_all := lw_g (lw_at lw_m16 37 rfl) rfl
theorem q3693 : (Jvm.Cond.privateMethod ({ cls := "TwinrowModel", name := "isBeyond", desc := "(II)Z" } : Jvm.MethodName)) ∈ lw_tbl := lw_at lw_m16 38 rfl
theorem q3694 : (Jvm.Cond.instanceMethod ({ cls := "TwinrowModel", name := "isBeyond", desc := "(II)Z" } : Jvm.MethodName)) ∈ lw_all := lw_g (lw_at lw_m16 39 rfl) rfl
theorem q3695 : (Jvm.Cond.code ({ cls := "TwinrowModel", name := "isBeyond", desc := "(II)Z" } : Jvm.MethodName) prog_8_method_45_code (3 : Nat) (Option.some Jvm.ClassFile.FieldType.boolean)) ∈ lw_all := lw_g (lw_at lw_m16 40 rfl) rfl
theorem q3696 : (Jvm.Cond.stringRef "TwinrowModel" (138 : Nat) ":") ∈ lw_tbl := lw_at lw_m16 41 rfl
theorem q3698 : (Jvm.Cond.instanceMethod ({ cls := "TwinrowModel", name := "sum", desc := "(I)I" } : Jvm.MethodName)) ∈ lw_all := lw_g (lw_at lw_m16 43 rfl) rfl
theorem q3699 : (Jvm.Cond.selects "TwinrowModel" ({ cls := "TwinrowModel", name := "sum", desc := "(I)I" } : Jvm.MethodName) ({ cls := "TwinrowModel", name := "sum", desc := "(I)I" } : Jvm.MethodName)) ∈ lw_all := lw_g (lw_at lw_m16 44 rfl) rfl
theorem q3700 : (Jvm.Cond.code ({ cls := "TwinrowModel", name := "sum", desc := "(I)I" } : Jvm.MethodName) prog_8_method_48_code (2 : Nat) (Option.some Jvm.ClassFile.FieldType.int)) ∈ lw_all := lw_g (lw_at lw_m16 45 rfl) rfl
theorem q3701 : (Jvm.Cond.methodLink "TwinrowModel" (140 : Nat) ({ cls := "TwinrowModel", name := "sumNow", desc := "(I)I" } : Jvm.MethodName)) ∈ lw_all := lw_g (lw_at lw_m16 46 rfl) rfl
theorem q3702 : (Jvm.Cond.privateMethod ({ cls := "TwinrowModel", name := "sumNow", desc := "(I)I" } : Jvm.MethodName)) ∈ lw_tbl := lw_at lw_m16 47 rfl
theorem q3703 : (Jvm.Cond.instanceMethod ({ cls := "TwinrowModel", name := "sumNow", desc := "(I)I" } : Jvm.MethodName)) ∈ lw_all := lw_g (lw_at lw_m16 48 rfl) rfl
theorem q3704 : (Jvm.Cond.code ({ cls := "TwinrowModel", name := "sumNow", desc := "(I)I" } : Jvm.MethodName) prog_8_method_47_code (7 : Nat) (Option.some Jvm.ClassFile.FieldType.int)) ∈ lw_all := lw_g (lw_at lw_m16 49 rfl) rfl
theorem q3706 : (Jvm.Cond.instanceMethod ({ cls := "TwinrowModel", name := "walkSet", desc := "(IIIIZ)I" } : Jvm.MethodName)) ∈ lw_all := lw_g (lw_at lw_m16 51 rfl) rfl
theorem q3707 : (Jvm.Cond.selects "TwinrowModel" ({ cls := "TwinrowModel", name := "walkSet", desc := "(IIIIZ)I" } : Jvm.MethodName) ({ cls := "TwinrowModel", name := "walkSet", desc := "(IIIIZ)I" } : Jvm.MethodName)) ∈ lw_all := lw_g (lw_at lw_m16 52 rfl) rfl
theorem q3708 : (Jvm.Cond.code ({ cls := "TwinrowModel", name := "walkSet", desc := "(IIIIZ)I" } : Jvm.MethodName) prog_8_method_51_code (6 : Nat) (Option.some Jvm.ClassFile.FieldType.int)) ∈ lw_all := lw_g (lw_at lw_m16 53 rfl) rfl
theorem q3709 : (Jvm.Cond.methodLink "TwinrowModel" (147 : Nat) ({ cls := "TwinrowModel", name := "isNoRule", desc := "(II)Z" } : Jvm.MethodName)) ∈ lw_all := lw_g (lw_at lw_m16 54 rfl) rfl
theorem q3710 : (Jvm.Cond.static ({ cls := "TwinrowModel", name := "isNoRule", desc := "(II)Z" } : Jvm.MethodName)) ∈ lw_all := lw_g (lw_at lw_m16 55 rfl) rfl
theorem q3711 : (Jvm.Cond.code ({ cls := "TwinrowModel", name := "isNoRule", desc := "(II)Z" } : Jvm.MethodName) prog_8_method_49_code (2 : Nat) (Option.some Jvm.ClassFile.FieldType.boolean)) ∈ lw_all := lw_g (lw_at lw_m16 56 rfl) rfl
theorem q3712 : (Jvm.Cond.methodLink "TwinrowModel" (150 : Nat) ({ cls := "TwinrowModel", name := "ruledAll", desc := "(IIIII)I" } : Jvm.MethodName)) ∈ lw_all := lw_g (lw_at lw_m16 57 rfl) rfl
theorem q3713 : (Jvm.Cond.privateMethod ({ cls := "TwinrowModel", name := "ruledAll", desc := "(IIIII)I" } : Jvm.MethodName)) ∈ lw_tbl := lw_at lw_m16 58 rfl
theorem q3714 : (Jvm.Cond.instanceMethod ({ cls := "TwinrowModel", name := "ruledAll", desc := "(IIIII)I" } : Jvm.MethodName)) ∈ lw_all := lw_g (lw_at lw_m16 59 rfl) rfl
theorem q3715 : (Jvm.Cond.code ({ cls := "TwinrowModel", name := "ruledAll", desc := "(IIIII)I" } : Jvm.MethodName) prog_8_method_50_code (7 : Nat) (Option.some Jvm.ClassFile.FieldType.int)) ∈ lw_all := lw_g (lw_at lw_m16 60 rfl) rfl
theorem q3716 : (Jvm.Cond.methodLink "TwinrowModel" (143 : Nat) ({ cls := "TwinrowModel", name := "ruled", desc := "(III)I" } : Jvm.MethodName)) ∈ lw_all := lw_g (lw_at lw_m16 61 rfl) rfl
theorem q3717 : (Jvm.Cond.static ({ cls := "TwinrowModel", name := "ruled", desc := "(III)I" } : Jvm.MethodName)) ∈ lw_all := lw_g (lw_at lw_m16 62 rfl) rfl
theorem q3718 : (Jvm.Cond.code ({ cls := "TwinrowModel", name := "ruled", desc := "(III)I" } : Jvm.MethodName) prog_8_method_16_code (4 : Nat) (Option.some Jvm.ClassFile.FieldType.int)) ∈ lw_all := lw_g (lw_at lw_m16 63 rfl) rfl
theorem q3719 : (Jvm.Cond.methodLink "TwinrowModel" (55 : Nat) ({ cls := "TwinrowModel", name := "bounded", desc := "(I)I" } : Jvm.MethodName)) ∈ lw_all := lw_g (lw_at lw_m16 64 rfl) rfl
theorem q3720 : (Jvm.Cond.static ({ cls := "TwinrowModel", name := "bounded", desc := "(I)I" } : Jvm.MethodName)) ∈ lw_all := lw_g (lw_at lw_m16 65 rfl) rfl
theorem q3721 : (Jvm.Cond.code ({ cls := "TwinrowModel", name := "bounded", desc := "(I)I" } : Jvm.MethodName) prog_8_method_15_code (1 : Nat) (Option.some Jvm.ClassFile.FieldType.int)) ∈ lw_all := lw_g (lw_at lw_m16 66 rfl) rfl
theorem q3722 : (Jvm.Cond.methodLink "TwinrowModel" (47 : Nat) ({ cls := "java/lang/Math", name := "min", desc := "(II)I" } : Jvm.MethodName)) ∈ lw_all := lw_g (lw_at lw_m16 67 rfl) rfl
theorem q3723 : (Jvm.Cond.methodLink "TwinrowModel" (52 : Nat) ({ cls := "java/lang/Math", name := "max", desc := "(II)I" } : Jvm.MethodName)) ∈ lw_all := lw_g (lw_at lw_m16 68 rfl) rfl
theorem q3725 : (Jvm.Cond.instanceMethod ({ cls := "TwinrowModel", name := "replaceAll", desc := "(III)I" } : Jvm.MethodName)) ∈ lw_all := lw_g (lw_at lw_m16 70 rfl) rfl
theorem q3726 : (Jvm.Cond.selects "TwinrowModel" ({ cls := "TwinrowModel", name := "replaceAll", desc := "(III)I" } : Jvm.MethodName) ({ cls := "TwinrowModel", name := "replaceAll", desc := "(III)I" } : Jvm.MethodName)) ∈ lw_all := lw_g (lw_at lw_m16 71 rfl) rfl
theorem q3727 : (Jvm.Cond.code ({ cls := "TwinrowModel", name := "replaceAll", desc := "(III)I" } : Jvm.MethodName) prog_8_method_52_code (4 : Nat) (Option.some Jvm.ClassFile.FieldType.int)) ∈ lw_all := lw_g (lw_at lw_m16 72 rfl) rfl
theorem q3729 : (Jvm.Cond.instanceMethod ({ cls := "TwinrowModel", name := "replaceOld", desc := "(III)I" } : Jvm.MethodName)) ∈ lw_all := lw_g (lw_at lw_m16 74 rfl) rfl
theorem q3730 : (Jvm.Cond.selects "TwinrowModel" ({ cls := "TwinrowModel", name := "replaceOld", desc := "(III)I" } : Jvm.MethodName) ({ cls := "TwinrowModel", name := "replaceOld", desc := "(III)I" } : Jvm.MethodName)) ∈ lw_all := lw_g (lw_at lw_m16 75 rfl) rfl
theorem q3731 : (Jvm.Cond.code ({ cls := "TwinrowModel", name := "replaceOld", desc := "(III)I" } : Jvm.MethodName) prog_8_method_53_code (7 : Nat) (Option.some Jvm.ClassFile.FieldType.int)) ∈ lw_all := lw_g (lw_at lw_m16 76 rfl) rfl
theorem q3732 : (Jvm.Cond.methodLink "TwinrowModel" (154 : Nat) ({ cls := "TwinrowModel", name := "writeAll", desc := "(I[I)V" } : Jvm.MethodName)) ∈ lw_all := lw_g (lw_at lw_m16 77 rfl) rfl
theorem q3733 : (Jvm.Cond.privateMethod ({ cls := "TwinrowModel", name := "writeAll", desc := "(I[I)V" } : Jvm.MethodName)) ∈ lw_tbl := lw_at lw_m16 78 rfl
theorem q3734 : (Jvm.Cond.instanceMethod ({ cls := "TwinrowModel", name := "writeAll", desc := "(I[I)V" } : Jvm.MethodName)) ∈ lw_all := lw_g (lw_at lw_m16 79 rfl) rfl
theorem q3735 : (Jvm.Cond.code ({ cls := "TwinrowModel", name := "writeAll", desc := "(I[I)V" } : Jvm.MethodName) prog_8_method_13_code (4 : Nat) (Option.none : Option Jvm.ClassFile.FieldType)) ∈ lw_all := lw_g (lw_at lw_m16 80 rfl) rfl
theorem q3737 : (Jvm.Cond.instanceMethod ({ cls := "TwinrowModel", name := "fill", desc := "(II)I" } : Jvm.MethodName)) ∈ lw_all := lw_g (lw_at lw_m16 82 rfl) rfl
theorem q3738 : (Jvm.Cond.selects "TwinrowModel" ({ cls := "TwinrowModel", name := "fill", desc := "(II)I" } : Jvm.MethodName) ({ cls := "TwinrowModel", name := "fill", desc := "(II)I" } : Jvm.MethodName)) ∈ lw_all := lw_g (lw_at lw_m16 83 rfl) rfl
theorem q3739 : (Jvm.Cond.code ({ cls := "TwinrowModel", name := "fill", desc := "(II)I" } : Jvm.MethodName) prog_8_method_54_code (4 : Nat) (Option.some Jvm.ClassFile.FieldType.int)) ∈ lw_all := lw_g (lw_at lw_m16 84 rfl) rfl
theorem q3741 : (Jvm.Cond.instanceMethod ({ cls := "TwinrowModel", name := "sort", desc := "(IZ)I" } : Jvm.MethodName)) ∈ lw_all := lw_g (lw_at lw_m16 86 rfl) rfl
theorem q3742 : (Jvm.Cond.selects "TwinrowModel" ({ cls := "TwinrowModel", name := "sort", desc := "(IZ)I" } : Jvm.MethodName) ({ cls := "TwinrowModel", name := "sort", desc := "(IZ)I" } : Jvm.MethodName)) ∈ lw_all := lw_g (lw_at lw_m16 87 rfl) rfl
theorem q3743 : (Jvm.Cond.code ({ cls := "TwinrowModel", name := "sort", desc := "(IZ)I" } : Jvm.MethodName) prog_8_method_55_code (7 : Nat) (Option.some Jvm.ClassFile.FieldType.int)) ∈ lw_all := lw_g (lw_at lw_m16 88 rfl) rfl
theorem q3745 : (Jvm.Cond.instanceMethod ({ cls := "TwinrowModel", name := "reverse", desc := "(I)I" } : Jvm.MethodName)) ∈ lw_all := lw_g (lw_at lw_m16 90 rfl) rfl
theorem q3746 : (Jvm.Cond.selects "TwinrowModel" ({ cls := "TwinrowModel", name := "reverse", desc := "(I)I" } : Jvm.MethodName) ({ cls := "TwinrowModel", name := "reverse", desc := "(I)I" } : Jvm.MethodName)) ∈ lw_all := lw_g (lw_at lw_m16 91 rfl) rfl
theorem q3747 : (Jvm.Cond.code ({ cls := "TwinrowModel", name := "reverse", desc := "(I)I" } : Jvm.MethodName) prog_8_method_56_code (4 : Nat) (Option.some Jvm.ClassFile.FieldType.int)) ∈ lw_all := lw_g (lw_at lw_m16 92 rfl) rfl
theorem q3749 : (Jvm.Cond.instanceMethod ({ cls := "TwinrowModel", name := "rotate", desc := "(II)I" } : Jvm.MethodName)) ∈ lw_all := lw_g (lw_at lw_m16 94 rfl) rfl
theorem q3750 : (Jvm.Cond.selects "TwinrowModel" ({ cls := "TwinrowModel", name := "rotate", desc := "(II)I" } : Jvm.MethodName) ({ cls := "TwinrowModel", name := "rotate", desc := "(II)I" } : Jvm.MethodName)) ∈ lw_all := lw_g (lw_at lw_m16 95 rfl) rfl
theorem q3751 : (Jvm.Cond.code ({ cls := "TwinrowModel", name := "rotate", desc := "(II)I" } : Jvm.MethodName) prog_8_method_57_code (5 : Nat) (Option.some Jvm.ClassFile.FieldType.int)) ∈ lw_all := lw_g (lw_at lw_m16 96 rfl) rfl
theorem q3753 : (Jvm.Cond.instanceMethod ({ cls := "TwinrowModel", name := "swap", desc := "(III)I" } : Jvm.MethodName)) ∈ lw_all := lw_g (lw_at lw_m16 98 rfl) rfl
theorem q3754 : (Jvm.Cond.selects "TwinrowModel" ({ cls := "TwinrowModel", name := "swap", desc := "(III)I" } : Jvm.MethodName) ({ cls := "TwinrowModel", name := "swap", desc := "(III)I" } : Jvm.MethodName)) ∈ lw_all := lw_g (lw_at lw_m16 99 rfl) rfl
theorem q3755 : (Jvm.Cond.code ({ cls := "TwinrowModel", name := "swap", desc := "(III)I" } : Jvm.MethodName) prog_8_method_58_code (6 : Nat) (Option.some Jvm.ClassFile.FieldType.int)) ∈ lw_all := lw_g (lw_at lw_m16 100 rfl) rfl
theorem q3757 : (Jvm.Cond.instanceMethod ({ cls := "TwinrowModel", name := "add", desc := "(II)I" } : Jvm.MethodName)) ∈ lw_all := lw_g (lw_at lw_m16 102 rfl) rfl
theorem q3758 : (Jvm.Cond.selects "TwinrowModel" ({ cls := "TwinrowModel", name := "add", desc := "(II)I" } : Jvm.MethodName) ({ cls := "TwinrowModel", name := "add", desc := "(II)I" } : Jvm.MethodName)) ∈ lw_all := lw_g (lw_at lw_m16 103 rfl) rfl
theorem q3759 : (Jvm.Cond.code ({ cls := "TwinrowModel", name := "add", desc := "(II)I" } : Jvm.MethodName) prog_8_method_60_code (3 : Nat) (Option.some Jvm.ClassFile.FieldType.int)) ∈ lw_all := lw_g (lw_at lw_m16 104 rfl) rfl
theorem q3760 : (Jvm.Cond.methodLink "TwinrowModel" (158 : Nat) ({ cls := "TwinrowModel", name := "refused", desc := "()I" } : Jvm.MethodName)) ∈ lw_all := lw_g (lw_at lw_m16 105 rfl) rfl
theorem q3761 : (Jvm.Cond.privateMethod ({ cls := "TwinrowModel", name := "refused", desc := "()I" } : Jvm.MethodName)) ∈ lw_tbl := lw_at lw_m16 106 rfl
theorem q3762 : (Jvm.Cond.instanceMethod ({ cls := "TwinrowModel", name := "refused", desc := "()I" } : Jvm.MethodName)) ∈ lw_all := lw_g (lw_at lw_m16 107 rfl) rfl
theorem q3763 : (Jvm.Cond.code ({ cls := "TwinrowModel", name := "refused", desc := "()I" } : Jvm.MethodName) prog_8_method_14_code (1 : Nat) (Option.some Jvm.ClassFile.FieldType.int)) ∈ lw_all := lw_g (lw_at lw_m16 108 rfl) rfl
theorem q3765 : (Jvm.Cond.instanceMethod ({ cls := "TwinrowModel", name := "addAt", desc := "(III)I" } : Jvm.MethodName)) ∈ lw_all := lw_g (lw_at lw_m16 110 rfl) rfl
theorem q3766 : (Jvm.Cond.selects "TwinrowModel" ({ cls := "TwinrowModel", name := "addAt", desc := "(III)I" } : Jvm.MethodName) ({ cls := "TwinrowModel", name := "addAt", desc := "(III)I" } : Jvm.MethodName)) ∈ lw_all := lw_g (lw_at lw_m16 111 rfl) rfl
theorem q3767 : (Jvm.Cond.code ({ cls := "TwinrowModel", name := "addAt", desc := "(III)I" } : Jvm.MethodName) prog_8_method_61_code (4 : Nat) (Option.some Jvm.ClassFile.FieldType.int)) ∈ lw_all := lw_g (lw_at lw_m16 112 rfl) rfl
theorem q3769 : (Jvm.Cond.instanceMethod ({ cls := "TwinrowModel", name := "addAll", desc := "(II)I" } : Jvm.MethodName)) ∈ lw_all := lw_g (lw_at lw_m16 114 rfl) rfl
theorem q3770 : (Jvm.Cond.selects "TwinrowModel" ({ cls := "TwinrowModel", name := "addAll", desc := "(II)I" } : Jvm.MethodName) ({ cls := "TwinrowModel", name := "addAll", desc := "(II)I" } : Jvm.MethodName)) ∈ lw_all := lw_g (lw_at lw_m16 115 rfl) rfl
theorem q3771 : (Jvm.Cond.code ({ cls := "TwinrowModel", name := "addAll", desc := "(II)I" } : Jvm.MethodName) prog_8_method_62_code (3 : Nat) (Option.some Jvm.ClassFile.FieldType.int)) ∈ lw_all := lw_g (lw_at lw_m16 116 rfl) rfl
theorem q3772 : (Jvm.Cond.methodLink "TwinrowModel" (162 : Nat) ({ cls := "TwinrowModel", name := "refusedIf", desc := "(Z)I" } : Jvm.MethodName)) ∈ lw_all := lw_g (lw_at lw_m16 117 rfl) rfl
theorem q3773 : (Jvm.Cond.privateMethod ({ cls := "TwinrowModel", name := "refusedIf", desc := "(Z)I" } : Jvm.MethodName)) ∈ lw_tbl := lw_at lw_m16 118 rfl
theorem q3774 : (Jvm.Cond.instanceMethod ({ cls := "TwinrowModel", name := "refusedIf", desc := "(Z)I" } : Jvm.MethodName)) ∈ lw_all := lw_g (lw_at lw_m16 119 rfl) rfl
theorem q3775 : (Jvm.Cond.code ({ cls := "TwinrowModel", name := "refusedIf", desc := "(Z)I" } : Jvm.MethodName) prog_8_method_59_code (2 : Nat) (Option.some Jvm.ClassFile.FieldType.int)) ∈ lw_all := lw_g (lw_at lw_m16 120 rfl) rfl
theorem q3777 : (Jvm.Cond.instanceMethod ({ cls := "TwinrowModel", name := "remove", desc := "(II)I" } : Jvm.MethodName)) ∈ lw_all := lw_g (lw_at lw_m16 122 rfl) rfl
theorem q3778 : (Jvm.Cond.selects "TwinrowModel" ({ cls := "TwinrowModel", name := "remove", desc := "(II)I" } : Jvm.MethodName) ({ cls := "TwinrowModel", name := "remove", desc := "(II)I" } : Jvm.MethodName)) ∈ lw_all := lw_g (lw_at lw_m16 123 rfl) rfl
theorem q3779 : (Jvm.Cond.code ({ cls := "TwinrowModel", name := "remove", desc := "(II)I" } : Jvm.MethodName) prog_8_method_63_code (3 : Nat) (Option.some Jvm.ClassFile.FieldType.int)) ∈ lw_all := lw_g (lw_at lw_m16 124 rfl) rfl
theorem q3781 : (Jvm.Cond.instanceMethod ({ cls := "TwinrowModel", name := "removeValue", desc := "(II)I" } : Jvm.MethodName)) ∈ lw_all := lw_g (lw_at lw_m16 126 rfl) rfl
theorem q3782 : (Jvm.Cond.selects "TwinrowModel" ({ cls := "TwinrowModel", name := "removeValue", desc := "(II)I" } : Jvm.MethodName) ({ cls := "TwinrowModel", name := "removeValue", desc := "(II)I" } : Jvm.MethodName)) ∈ lw_all := lw_g (lw_at lw_m16 127 rfl) rfl
theorem q3783 : (Jvm.Cond.code ({ cls := "TwinrowModel", name := "removeValue", desc := "(II)I" } : Jvm.MethodName) prog_8_method_64_code (3 : Nat) (Option.some Jvm.ClassFile.FieldType.int)) ∈ lw_all := lw_g (lw_at lw_m16 128 rfl) rfl
theorem q3785 : (Jvm.Cond.instanceMethod ({ cls := "TwinrowModel", name := "removeAll", desc := "(II)I" } : Jvm.MethodName)) ∈ lw_all := lw_g (lw_at lw_m16 130 rfl) rfl
theorem q3786 : (Jvm.Cond.selects "TwinrowModel" ({ cls := "TwinrowModel", name := "removeAll", desc := "(II)I" } : Jvm.MethodName) ({ cls := "TwinrowModel", name := "removeAll", desc := "(II)I" } : Jvm.MethodName)) ∈ lw_all := lw_g (lw_at lw_m16 131 rfl) rfl
theorem q3787 : (Jvm.Cond.code ({ cls := "TwinrowModel", name := "removeAll", desc := "(II)I" } : Jvm.MethodName) prog_8_method_65_code (3 : Nat) (Option.some Jvm.ClassFile.FieldType.int)) ∈ lw_all := lw_g (lw_at lw_m16 132 rfl) rfl
theorem q3789 : (Jvm.Cond.instanceMethod ({ cls := "TwinrowModel", name := "retainAll", desc := "(II)I" } : Jvm.MethodName)) ∈ lw_all := lw_g (lw_at lw_m16 134 rfl) rfl
theorem q3790 : (Jvm.Cond.selects "TwinrowModel" ({ cls := "TwinrowModel", name := "retainAll", desc := "(II)I" } : Jvm.MethodName) ({ cls := "TwinrowModel", name := "retainAll", desc := "(II)I" } : Jvm.MethodName)) ∈ lw_all := lw_g (lw_at lw_m16 135 rfl) rfl
theorem q3791 : (Jvm.Cond.code ({ cls := "TwinrowModel", name := "retainAll", desc := "(II)I" } : Jvm.MethodName) prog_8_method_66_code (3 : Nat) (Option.some Jvm.ClassFile.FieldType.int)) ∈ lw_all := lw_g (lw_at lw_m16 136 rfl) rfl
theorem q3793 : (Jvm.Cond.instanceMethod ({ cls := "TwinrowModel", name := "removeIf", desc := "(III)I" } : Jvm.MethodName)) ∈ lw_all := lw_g (lw_at lw_m16 138 rfl) rfl
theorem q3794 : (Jvm.Cond.selects "TwinrowModel" ({ cls := "TwinrowModel", name := "removeIf", desc := "(III)I" } : Jvm.MethodName) ({ cls := "TwinrowModel", name := "removeIf", desc := "(III)I" } : Jvm.MethodName)) ∈ lw_all := lw_g (lw_at lw_m16 139 rfl) rfl
theorem q3795 : (Jvm.Cond.code ({ cls := "TwinrowModel", name := "removeIf", desc := "(III)I" } : Jvm.MethodName) prog_8_method_67_code (9 : Nat) (Option.some Jvm.ClassFile.FieldType.int)) ∈ lw_all := lw_g (lw_at lw_m16 140 rfl) rfl
theorem q3796 : (Jvm.Cond.methodLink "TwinrowModel" (165 : Nat) ({ cls := "TwinrowModel", name := "tested", desc := "(III)Z" } : Jvm.MethodName)) ∈ lw_all := lw_g (lw_at lw_m16 141 rfl) rfl
theorem q3797 : (Jvm.Cond.static ({ cls := "TwinrowModel", name := "tested", desc := "(III)Z" } : Jvm.MethodName)) ∈ lw_all := lw_g (lw_at lw_m16 142 rfl) rfl
theorem q3798 : (Jvm.Cond.code ({ cls := "TwinrowModel", name := "tested", desc := "(III)Z" } : Jvm.MethodName) prog_8_method_17_code (3 : Nat) (Option.some Jvm.ClassFile.FieldType.boolean)) ∈ lw_all := lw_g (lw_at lw_m16 143 rfl) rfl
theorem q3800 : (Jvm.Cond.instanceMethod ({ cls := "TwinrowModel", name := "clear", desc := "(I)I" } : Jvm.MethodName)) ∈ lw_all := lw_g (lw_at lw_m16 145 rfl) rfl
theorem q3801 : (Jvm.Cond.selects "TwinrowModel" ({ cls := "TwinrowModel", name := "clear", desc := "(I)I" } : Jvm.MethodName) ({ cls := "TwinrowModel", name := "clear", desc := "(I)I" } : Jvm.MethodName)) ∈ lw_all := lw_g (lw_at lw_m16 146 rfl) rfl
theorem q3802 : (Jvm.Cond.code ({ cls := "TwinrowModel", name := "clear", desc := "(I)I" } : Jvm.MethodName) prog_8_method_68_code (2 : Nat) (Option.some Jvm.ClassFile.FieldType.int)) ∈ lw_all := lw_g (lw_at lw_m16 147 rfl) rfl
theorem q3804 : (Jvm.Cond.instanceMethod ({ cls := "TwinrowModel", name := "walkChange", desc := "(III)I" } : Jvm.MethodName)) ∈ lw_all := lw_g (lw_at lw_m16 149 rfl) rfl
theorem q3805 : (Jvm.Cond.selects "TwinrowModel" ({ cls := "TwinrowModel", name := "walkChange", desc := "(III)I" } : Jvm.MethodName) ({ cls := "TwinrowModel", name := "walkChange", desc := "(III)I" } : Jvm.MethodName)) ∈ lw_all := lw_g (lw_at lw_m16 150 rfl) rfl
theorem q3806 : (Jvm.Cond.code ({ cls := "TwinrowModel", name := "walkChange", desc := "(III)I" } : Jvm.MethodName) prog_8_method_69_code (4 : Nat) (Option.some Jvm.ClassFile.FieldType.int)) ∈ lw_all := lw_g (lw_at lw_m16 151 rfl) rfl
theorem q3808 : (Jvm.Cond.instanceMethod ({ cls := "TwinrowModel", name := "knock", desc := "()I" } : Jvm.MethodName)) ∈ lw_all := lw_g (lw_at lw_m16 153 rfl) rfl
theorem q3809 : (Jvm.Cond.selects "TwinrowModel" ({ cls := "TwinrowModel", name := "knock", desc := "()I" } : Jvm.MethodName) ({ cls := "TwinrowModel", name := "knock", desc := "()I" } : Jvm.MethodName)) ∈ lw_all := lw_g (lw_at lw_m16 154 rfl) rfl
theorem q3810 : (Jvm.Cond.code ({ cls := "TwinrowModel", name := "knock", desc := "()I" } : Jvm.MethodName) prog_8_method_70_code (1 : Nat) (Option.some Jvm.ClassFile.FieldType.int)) ∈ lw_all := lw_g (lw_at lw_m16 155 rfl) rfl
theorem q3812 : (Jvm.Cond.instanceMethod ({ cls := "TwinrowModel", name := "house", desc := "(I)I" } : Jvm.MethodName)) ∈ lw_all := lw_g (lw_at lw_m16 157 rfl) rfl
theorem q3813 : (Jvm.Cond.selects "TwinrowModel" ({ cls := "TwinrowModel", name := "house", desc := "(I)I" } : Jvm.MethodName) ({ cls := "TwinrowModel", name := "house", desc := "(I)I" } : Jvm.MethodName)) ∈ lw_all := lw_g (lw_at lw_m16 158 rfl) rfl
theorem q3814 : (Jvm.Cond.code ({ cls := "TwinrowModel", name := "house", desc := "(I)I" } : Jvm.MethodName) prog_8_method_72_code (2 : Nat) (Option.some Jvm.ClassFile.FieldType.int)) ∈ lw_all := lw_g (lw_at lw_m16 159 rfl) rfl
theorem q3815 : (Jvm.Cond.methodLink "TwinrowModel" (171 : Nat) ({ cls := "TwinrowModel", name := "houseNow", desc := "(I)I" } : Jvm.MethodName)) ∈ lw_all := lw_g (lw_at lw_m16 160 rfl) rfl
theorem q3816 : (Jvm.Cond.privateMethod ({ cls := "TwinrowModel", name := "houseNow", desc := "(I)I" } : Jvm.MethodName)) ∈ lw_tbl := lw_at lw_m16 161 rfl
theorem q3817 : (Jvm.Cond.instanceMethod ({ cls := "TwinrowModel", name := "houseNow", desc := "(I)I" } : Jvm.MethodName)) ∈ lw_all := lw_g (lw_at lw_m16 162 rfl) rfl
theorem q3818 : (Jvm.Cond.code ({ cls := "TwinrowModel", name := "houseNow", desc := "(I)I" } : Jvm.MethodName) prog_8_method_71_code (4 : Nat) (Option.some Jvm.ClassFile.FieldType.int)) ∈ lw_all := lw_g (lw_at lw_m16 163 rfl) rfl
theorem q3820 : (Jvm.Cond.instanceMethod ({ cls := "TwinrowModel", name := "rowOf", desc := "(I)I" } : Jvm.MethodName)) ∈ lw_all := lw_g (lw_at lw_m16 165 rfl) rfl
theorem q3821 : (Jvm.Cond.selects "TwinrowModel" ({ cls := "TwinrowModel", name := "rowOf", desc := "(I)I" } : Jvm.MethodName) ({ cls := "TwinrowModel", name := "rowOf", desc := "(I)I" } : Jvm.MethodName)) ∈ lw_all := lw_g (lw_at lw_m16 166 rfl) rfl
theorem q3822 : (Jvm.Cond.code ({ cls := "TwinrowModel", name := "rowOf", desc := "(I)I" } : Jvm.MethodName) prog_8_method_74_code (2 : Nat) (Option.some Jvm.ClassFile.FieldType.int)) ∈ lw_all := lw_g (lw_at lw_m16 167 rfl) rfl
theorem q3824 : (Jvm.Cond.instanceMethod ({ cls := "TwinrowModel", name := "begin", desc := "(I)I" } : Jvm.MethodName)) ∈ lw_all := lw_g (lw_at lw_m16 169 rfl) rfl
theorem q3825 : (Jvm.Cond.selects "TwinrowModel" ({ cls := "TwinrowModel", name := "begin", desc := "(I)I" } : Jvm.MethodName) ({ cls := "TwinrowModel", name := "begin", desc := "(I)I" } : Jvm.MethodName)) ∈ lw_all := lw_g (lw_at lw_m16 170 rfl) rfl
theorem q3826 : (Jvm.Cond.code ({ cls := "TwinrowModel", name := "begin", desc := "(I)I" } : Jvm.MethodName) prog_8_method_75_code (2 : Nat) (Option.some Jvm.ClassFile.FieldType.int)) ∈ lw_all := lw_g (lw_at lw_m16 171 rfl) rfl
theorem q3827 : (Jvm.Cond.methodLink "TwinrowModel" (174 : Nat) ({ cls := "TwinrowModel", name := "beginNow", desc := "(I)I" } : Jvm.MethodName)) ∈ lw_all := lw_g (lw_at lw_m16 172 rfl) rfl
theorem q3828 : (Jvm.Cond.privateMethod ({ cls := "TwinrowModel", name := "beginNow", desc := "(I)I" } : Jvm.MethodName)) ∈ lw_tbl := lw_at lw_m16 173 rfl
theorem q3829 : (Jvm.Cond.instanceMethod ({ cls := "TwinrowModel", name := "beginNow", desc := "(I)I" } : Jvm.MethodName)) ∈ lw_all := lw_g (lw_at lw_m16 174 rfl) rfl
theorem q3830 : (Jvm.Cond.code ({ cls := "TwinrowModel", name := "beginNow", desc := "(I)I" } : Jvm.MethodName) prog_8_method_73_code (2 : Nat) (Option.some Jvm.ClassFile.FieldType.int)) ∈ lw_all := lw_g (lw_at lw_m16 175 rfl) rfl
theorem q3832 : (Jvm.Cond.instanceMethod ({ cls := "TwinrowModel", name := "isSound", desc := "()Z" } : Jvm.MethodName)) ∈ lw_all := lw_g (lw_at lw_m16 177 rfl) rfl
theorem q3833 : (Jvm.Cond.selects "TwinrowModel" ({ cls := "TwinrowModel", name := "isSound", desc := "()Z" } : Jvm.MethodName) ({ cls := "TwinrowModel", name := "isSound", desc := "()Z" } : Jvm.MethodName)) ∈ lw_all := lw_g (lw_at lw_m16 178 rfl) rfl
theorem q3834 : (Jvm.Cond.code ({ cls := "TwinrowModel", name := "isSound", desc := "()Z" } : Jvm.MethodName) prog_8_method_76_code (1 : Nat) (Option.some Jvm.ClassFile.FieldType.boolean)) ∈ lw_all := lw_g (lw_at lw_m16 179 rfl) rfl
theorem q3836 : (Jvm.Cond.instanceMethod ({ cls := "TwinrowModel", name := "digest", desc := "()J" } : Jvm.MethodName)) ∈ lw_all := lw_g (lw_at lw_m16 181 rfl) rfl
theorem q3837 : (Jvm.Cond.selects "TwinrowModel" ({ cls := "TwinrowModel", name := "digest", desc := "()J" } : Jvm.MethodName) ({ cls := "TwinrowModel", name := "digest", desc := "()J" } : Jvm.MethodName)) ∈ lw_all := lw_g (lw_at lw_m16 182 rfl) rfl
theorem q3838 : (Jvm.Cond.code ({ cls := "TwinrowModel", name := "digest", desc := "()J" } : Jvm.MethodName) prog_8_method_78_code (9 : Nat) (Option.some Jvm.ClassFile.FieldType.long)) ∈ lw_all := lw_g (lw_at lw_m16 183 rfl) rfl
theorem q3839 : (Jvm.Cond.constantLong "TwinrowModel" (183 : Nat) (7778 : Int64)) ∈ lw_all := lw_g (lw_at lw_m16 184 rfl) rfl
theorem q3840 : (Jvm.Cond.methodLink "TwinrowModel" (185 : Nat) ({ cls := "TwinrowModel", name := "add", desc := "(J)V" } : Jvm.MethodName)) ∈ lw_all := lw_g (lw_at lw_m16 185 rfl) rfl
theorem q3841 : (Jvm.Cond.privateMethod ({ cls := "TwinrowModel", name := "add", desc := "(J)V" } : Jvm.MethodName)) ∈ lw_tbl := lw_at lw_m16 186 rfl
theorem q3842 : (Jvm.Cond.instanceMethod ({ cls := "TwinrowModel", name := "add", desc := "(J)V" } : Jvm.MethodName)) ∈ lw_all := lw_g (lw_at lw_m16 187 rfl) rfl
theorem q3843 : (Jvm.Cond.code ({ cls := "TwinrowModel", name := "add", desc := "(J)V" } : Jvm.MethodName) prog_8_method_77_code (3 : Nat) (Option.none : Option Jvm.ClassFile.FieldType)) ∈ lw_all := lw_g (lw_at lw_m16 188 rfl) rfl
theorem q3844 : (Jvm.Cond.constantLong "TwinrowModel" (181 : Nat) (31 : Int64)) ∈ lw_all := lw_g (lw_at lw_m16 189 rfl) rfl
theorem q3903 : (Jvm.Cond.castable "TwinrowModel" "java/lang/Object") ∈ lw_tbl := lw_at lw_m17 8 rfl
theorem in_X2 : ∀ w ∈ wsX20, w ∈ lw_all := lw_in wsX20 [3514, 3516, 3518, 3520, 3522, 3524, 3526, 3528] (by decide +kernel) (by decide +kernel)
