set_option maxRecDepth 100000
def dkwX8_init_0 : List UInt8 := [42, 43, 181, 0, 3, 42, 183, 0, 9, 177]
abbrev dktX8_init_0 : List UInt8 := dkwX8_init_0 ++ []
theorem dksX8_init_0 : cX8_init.data.toList.drop 0 = dktX8_init_0 := by decide +kernel
theorem dX8_init_0 : decode cX8_init 0 = .ok (.aload_n 0, 1) := dk_42 (dk_at dksX8_init_0 0 rfl rfl)
theorem dX8_init_1 : decode cX8_init 1 = .ok (.aload_n 1, 1) := dk_43 (dk_at dksX8_init_0 1 rfl rfl)
theorem dX8_init_2 : decode cX8_init 2 = .ok (.putfield 3, 3) := dk_181 0 3 (dk_at dksX8_init_0 2 rfl rfl)
theorem dX8_init_5 : decode cX8_init 5 = .ok (.aload_n 0, 1) := dk_42 (dk_at dksX8_init_0 5 rfl rfl)
theorem dX8_init_6 : decode cX8_init 6 = .ok (.invokespecial 9, 3) := dk_183 0 9 (dk_at dksX8_init_0 6 rfl rfl)
theorem dX8_init_9 : decode cX8_init 9 = .ok (.return_, 1) := dk_177 (dk_at dksX8_init_0 9 rfl rfl)
def dkwX8_addition_3 : List UInt8 := [153, 0, 15, 42, 16, 48, 17, 39, 15, 182, 0, 52, 167, 0, 4, 3, 79, 43, 176]
abbrev dktX8_addition_3 : List UInt8 := dkwX8_addition_3 ++ []
def dkwX8_addition_2 : List UInt8 := [183, 0, 39, 191, 43, 4, 42, 16, 49, 16, 40, 182, 0, 52, 79, 43, 5, 42, 16, 44, 182, 0, 48]
abbrev dktX8_addition_2 : List UInt8 := dkwX8_addition_2 ++ dktX8_addition_3
def dkwX8_addition_1 : List UInt8 := [182, 0, 45, 79, 43, 176, 42, 16, 61, 182, 0, 48, 154, 0, 15, 187, 0, 37, 89, 42, 180, 0, 15]
abbrev dktX8_addition_1 : List UInt8 := dkwX8_addition_1 ++ dktX8_addition_2
def dkwX8_addition_0 : List UInt8 := [6, 188, 10, 76, 43, 3, 42, 182, 0, 45, 79, 42, 16, 62, 182, 0, 48, 153, 0, 12, 43, 5, 42]
abbrev dktX8_addition_0 : List UInt8 := dkwX8_addition_0 ++ dktX8_addition_1
theorem dksX8_addition_0 : cX8_addition.data.toList.drop 0 = dktX8_addition_0 := by decide +kernel
theorem dksX8_addition_1 : cX8_addition.data.toList.drop 23 = dktX8_addition_1 := dk_seg dksX8_addition_0 23 rfl rfl
theorem dksX8_addition_2 : cX8_addition.data.toList.drop 46 = dktX8_addition_2 := dk_seg dksX8_addition_1 23 rfl rfl
theorem dksX8_addition_3 : cX8_addition.data.toList.drop 69 = dktX8_addition_3 := dk_seg dksX8_addition_2 23 rfl rfl
theorem dX8_addition_0 : decode cX8_addition 0 = .ok (.iconst 3, 1) := dk_6 (dk_at dksX8_addition_0 0 rfl rfl)
theorem dX8_addition_1 : decode cX8_addition 1 = .ok (.newarray .int, 2) := dk_188_10 (dk_at dksX8_addition_0 1 rfl rfl)
theorem dX8_addition_3 : decode cX8_addition 3 = .ok (.astore_n 1, 1) := dk_76 (dk_at dksX8_addition_0 3 rfl rfl)
theorem dX8_addition_4 : decode cX8_addition 4 = .ok (.aload_n 1, 1) := dk_43 (dk_at dksX8_addition_0 4 rfl rfl)
theorem dX8_addition_5 : decode cX8_addition 5 = .ok (.iconst 0, 1) := dk_3 (dk_at dksX8_addition_0 5 rfl rfl)
theorem dX8_addition_6 : decode cX8_addition 6 = .ok (.aload_n 0, 1) := dk_42 (dk_at dksX8_addition_0 6 rfl rfl)
theorem dX8_addition_7 : decode cX8_addition 7 = .ok (.invokevirtual 45, 3) := dk_182 0 45 (dk_at dksX8_addition_0 7 rfl rfl)
theorem dX8_addition_10 : decode cX8_addition 10 = .ok (.iastore, 1) := dk_79 (dk_at dksX8_addition_0 10 rfl rfl)
theorem dX8_addition_11 : decode cX8_addition 11 = .ok (.aload_n 0, 1) := dk_42 (dk_at dksX8_addition_0 11 rfl rfl)
theorem dX8_addition_12 : decode cX8_addition 12 = .ok (.bipush 62, 2) := dk_16 62 (dk_at dksX8_addition_0 12 rfl rfl)
theorem dX8_addition_14 : decode cX8_addition 14 = .ok (.invokevirtual 48, 3) := dk_182 0 48 (dk_at dksX8_addition_0 14 rfl rfl)
theorem dX8_addition_17 : decode cX8_addition 17 = .ok (.ifCond .eq 12, 3) := dk_153 0 12 (dk_at dksX8_addition_0 17 rfl rfl)
theorem dX8_addition_20 : decode cX8_addition 20 = .ok (.aload_n 1, 1) := dk_43 (dk_at dksX8_addition_0 20 rfl rfl)
theorem dX8_addition_21 : decode cX8_addition 21 = .ok (.iconst 2, 1) := dk_5 (dk_at dksX8_addition_0 21 rfl rfl)
theorem dX8_addition_22 : decode cX8_addition 22 = .ok (.aload_n 0, 1) := dk_42 (dk_at dksX8_addition_0 22 rfl rfl)
theorem dX8_addition_23 : decode cX8_addition 23 = .ok (.invokevirtual 45, 3) := dk_182 0 45 (dk_at dksX8_addition_1 0 rfl rfl)
theorem dX8_addition_26 : decode cX8_addition 26 = .ok (.iastore, 1) := dk_79 (dk_at dksX8_addition_1 3 rfl rfl)
theorem dX8_addition_27 : decode cX8_addition 27 = .ok (.aload_n 1, 1) := dk_43 (dk_at dksX8_addition_1 4 rfl rfl)
theorem dX8_addition_28 : decode cX8_addition 28 = .ok (.areturn, 1) := dk_176 (dk_at dksX8_addition_1 5 rfl rfl)
theorem dX8_addition_29 : decode cX8_addition 29 = .ok (.aload_n 0, 1) := dk_42 (dk_at dksX8_addition_1 6 rfl rfl)
theorem dX8_addition_30 : decode cX8_addition 30 = .ok (.bipush 61, 2) := dk_16 61 (dk_at dksX8_addition_1 7 rfl rfl)
theorem dX8_addition_32 : decode cX8_addition 32 = .ok (.invokevirtual 48, 3) := dk_182 0 48 (dk_at dksX8_addition_1 9 rfl rfl)
theorem dX8_addition_35 : decode cX8_addition 35 = .ok (.ifCond .ne 15, 3) := dk_154 0 15 (dk_at dksX8_addition_1 12 rfl rfl)
theorem dX8_addition_38 : decode cX8_addition 38 = .ok (.new 37, 3) := dk_187 0 37 (dk_at dksX8_addition_1 15 rfl rfl)
theorem dX8_addition_41 : decode cX8_addition 41 = .ok (.dup, 1) := dk_89 (dk_at dksX8_addition_1 18 rfl rfl)
theorem dX8_addition_42 : decode cX8_addition 42 = .ok (.aload_n 0, 1) := dk_42 (dk_at dksX8_addition_1 19 rfl rfl)
theorem dX8_addition_43 : decode cX8_addition 43 = .ok (.getfield 15, 3) := dk_180 0 15 (dk_at dksX8_addition_1 20 rfl rfl)
theorem dX8_addition_46 : decode cX8_addition 46 = .ok (.invokespecial 39, 3) := dk_183 0 39 (dk_at dksX8_addition_2 0 rfl rfl)
theorem dX8_addition_49 : decode cX8_addition 49 = .ok (.athrow, 1) := dk_191 (dk_at dksX8_addition_2 3 rfl rfl)
theorem dX8_addition_50 : decode cX8_addition 50 = .ok (.aload_n 1, 1) := dk_43 (dk_at dksX8_addition_2 4 rfl rfl)
theorem dX8_addition_51 : decode cX8_addition 51 = .ok (.iconst 1, 1) := dk_4 (dk_at dksX8_addition_2 5 rfl rfl)
theorem dX8_addition_52 : decode cX8_addition 52 = .ok (.aload_n 0, 1) := dk_42 (dk_at dksX8_addition_2 6 rfl rfl)
theorem dX8_addition_53 : decode cX8_addition 53 = .ok (.bipush 49, 2) := dk_16 49 (dk_at dksX8_addition_2 7 rfl rfl)
theorem dX8_addition_55 : decode cX8_addition 55 = .ok (.bipush 40, 2) := dk_16 40 (dk_at dksX8_addition_2 9 rfl rfl)
theorem dX8_addition_57 : decode cX8_addition 57 = .ok (.invokevirtual 52, 3) := dk_182 0 52 (dk_at dksX8_addition_2 11 rfl rfl)
theorem dX8_addition_60 : decode cX8_addition 60 = .ok (.iastore, 1) := dk_79 (dk_at dksX8_addition_2 14 rfl rfl)
theorem dX8_addition_61 : decode cX8_addition 61 = .ok (.aload_n 1, 1) := dk_43 (dk_at dksX8_addition_2 15 rfl rfl)
theorem dX8_addition_62 : decode cX8_addition 62 = .ok (.iconst 2, 1) := dk_5 (dk_at dksX8_addition_2 16 rfl rfl)
theorem dX8_addition_63 : decode cX8_addition 63 = .ok (.aload_n 0, 1) := dk_42 (dk_at dksX8_addition_2 17 rfl rfl)
theorem dX8_addition_64 : decode cX8_addition 64 = .ok (.bipush 44, 2) := dk_16 44 (dk_at dksX8_addition_2 18 rfl rfl)
theorem dX8_addition_66 : decode cX8_addition 66 = .ok (.invokevirtual 48, 3) := dk_182 0 48 (dk_at dksX8_addition_2 20 rfl rfl)
theorem dX8_addition_69 : decode cX8_addition 69 = .ok (.ifCond .eq 15, 3) := dk_153 0 15 (dk_at dksX8_addition_3 0 rfl rfl)
theorem dX8_addition_72 : decode cX8_addition 72 = .ok (.aload_n 0, 1) := dk_42 (dk_at dksX8_addition_3 3 rfl rfl)
theorem dX8_addition_73 : decode cX8_addition 73 = .ok (.bipush 48, 2) := dk_16 48 (dk_at dksX8_addition_3 4 rfl rfl)
theorem dX8_addition_75 : decode cX8_addition 75 = .ok (.sipush 9999, 3) := dk_17 39 15 (dk_at dksX8_addition_3 6 rfl rfl)
theorem dX8_addition_78 : decode cX8_addition 78 = .ok (.invokevirtual 52, 3) := dk_182 0 52 (dk_at dksX8_addition_3 9 rfl rfl)
theorem dX8_addition_81 : decode cX8_addition 81 = .ok (.goto 4, 3) := dk_167 0 4 (dk_at dksX8_addition_3 12 rfl rfl)
theorem dX8_addition_84 : decode cX8_addition 84 = .ok (.iconst 0, 1) := dk_3 (dk_at dksX8_addition_3 15 rfl rfl)
theorem dX8_addition_85 : decode cX8_addition 85 = .ok (.iastore, 1) := dk_79 (dk_at dksX8_addition_3 16 rfl rfl)
theorem dX8_addition_86 : decode cX8_addition 86 = .ok (.aload_n 1, 1) := dk_43 (dk_at dksX8_addition_3 17 rfl rfl)
theorem dX8_addition_87 : decode cX8_addition 87 = .ok (.areturn, 1) := dk_176 (dk_at dksX8_addition_3 18 rfl rfl)
def dkwX8_name_0 : List UInt8 := [42, 182, 0, 42, 60, 16, 26, 27, 104, 42, 182, 0, 42, 96, 172]
abbrev dktX8_name_0 : List UInt8 := dkwX8_name_0 ++ []
theorem dksX8_name_0 : cX8_name.data.toList.drop 0 = dktX8_name_0 := by decide +kernel
theorem dX8_name_0 : decode cX8_name 0 = .ok (.aload_n 0, 1) := dk_42 (dk_at dksX8_name_0 0 rfl rfl)
theorem dX8_name_1 : decode cX8_name 1 = .ok (.invokevirtual 42, 3) := dk_182 0 42 (dk_at dksX8_name_0 1 rfl rfl)
theorem dX8_name_4 : decode cX8_name 4 = .ok (.istore_n 1, 1) := dk_60 (dk_at dksX8_name_0 4 rfl rfl)
theorem dX8_name_5 : decode cX8_name 5 = .ok (.bipush 26, 2) := dk_16 26 (dk_at dksX8_name_0 5 rfl rfl)
theorem dX8_name_7 : decode cX8_name 7 = .ok (.iload_n 1, 1) := dk_27 (dk_at dksX8_name_0 7 rfl rfl)
theorem dX8_name_8 : decode cX8_name 8 = .ok (.imul, 1) := dk_104 (dk_at dksX8_name_0 8 rfl rfl)
theorem dX8_name_9 : decode cX8_name 9 = .ok (.aload_n 0, 1) := dk_42 (dk_at dksX8_name_0 9 rfl rfl)
theorem dX8_name_10 : decode cX8_name 10 = .ok (.invokevirtual 42, 3) := dk_182 0 42 (dk_at dksX8_name_0 10 rfl rfl)
theorem dX8_name_13 : decode cX8_name 13 = .ok (.iadd, 1) := dk_96 (dk_at dksX8_name_0 13 rfl rfl)
theorem dX8_name_14 : decode cX8_name 14 = .ok (.ireturn, 1) := dk_172 (dk_at dksX8_name_0 14 rfl rfl)
def dkwX8_letter_2 : List UInt8 := [16, 65, 100, 172]
abbrev dktX8_letter_2 : List UInt8 := dkwX8_letter_2 ++ []
def dkwX8_letter_1 : List UInt8 := [89, 180, 0, 15, 4, 96, 181, 0, 15, 42, 180, 0, 3, 42, 180, 0, 15, 4, 100, 185, 0, 25, 2, 0]
abbrev dktX8_letter_1 : List UInt8 := dkwX8_letter_1 ++ dktX8_letter_2
def dkwX8_letter_0 : List UInt8 := [42, 16, 65, 16, 90, 182, 0, 33, 154, 0, 15, 187, 0, 37, 89, 42, 180, 0, 15, 183, 0, 39, 191, 42]
abbrev dktX8_letter_0 : List UInt8 := dkwX8_letter_0 ++ dktX8_letter_1
theorem dksX8_letter_0 : cX8_letter.data.toList.drop 0 = dktX8_letter_0 := by decide +kernel
theorem dksX8_letter_1 : cX8_letter.data.toList.drop 24 = dktX8_letter_1 := dk_seg dksX8_letter_0 24 rfl rfl
theorem dksX8_letter_2 : cX8_letter.data.toList.drop 48 = dktX8_letter_2 := dk_seg dksX8_letter_1 24 rfl rfl
theorem dX8_letter_0 : decode cX8_letter 0 = .ok (.aload_n 0, 1) := dk_42 (dk_at dksX8_letter_0 0 rfl rfl)
theorem dX8_letter_1 : decode cX8_letter 1 = .ok (.bipush 65, 2) := dk_16 65 (dk_at dksX8_letter_0 1 rfl rfl)
theorem dX8_letter_3 : decode cX8_letter 3 = .ok (.bipush 90, 2) := dk_16 90 (dk_at dksX8_letter_0 3 rfl rfl)
theorem dX8_letter_5 : decode cX8_letter 5 = .ok (.invokevirtual 33, 3) := dk_182 0 33 (dk_at dksX8_letter_0 5 rfl rfl)
theorem dX8_letter_8 : decode cX8_letter 8 = .ok (.ifCond .ne 15, 3) := dk_154 0 15 (dk_at dksX8_letter_0 8 rfl rfl)
theorem dX8_letter_11 : decode cX8_letter 11 = .ok (.new 37, 3) := dk_187 0 37 (dk_at dksX8_letter_0 11 rfl rfl)
theorem dX8_letter_14 : decode cX8_letter 14 = .ok (.dup, 1) := dk_89 (dk_at dksX8_letter_0 14 rfl rfl)
theorem dX8_letter_15 : decode cX8_letter 15 = .ok (.aload_n 0, 1) := dk_42 (dk_at dksX8_letter_0 15 rfl rfl)
theorem dX8_letter_16 : decode cX8_letter 16 = .ok (.getfield 15, 3) := dk_180 0 15 (dk_at dksX8_letter_0 16 rfl rfl)
theorem dX8_letter_19 : decode cX8_letter 19 = .ok (.invokespecial 39, 3) := dk_183 0 39 (dk_at dksX8_letter_0 19 rfl rfl)
theorem dX8_letter_22 : decode cX8_letter 22 = .ok (.athrow, 1) := dk_191 (dk_at dksX8_letter_0 22 rfl rfl)
theorem dX8_letter_23 : decode cX8_letter 23 = .ok (.aload_n 0, 1) := dk_42 (dk_at dksX8_letter_0 23 rfl rfl)
theorem dX8_letter_24 : decode cX8_letter 24 = .ok (.dup, 1) := dk_89 (dk_at dksX8_letter_1 0 rfl rfl)
theorem dX8_letter_25 : decode cX8_letter 25 = .ok (.getfield 15, 3) := dk_180 0 15 (dk_at dksX8_letter_1 1 rfl rfl)
theorem dX8_letter_28 : decode cX8_letter 28 = .ok (.iconst 1, 1) := dk_4 (dk_at dksX8_letter_1 4 rfl rfl)
theorem dX8_letter_29 : decode cX8_letter 29 = .ok (.iadd, 1) := dk_96 (dk_at dksX8_letter_1 5 rfl rfl)
theorem dX8_letter_30 : decode cX8_letter 30 = .ok (.putfield 15, 3) := dk_181 0 15 (dk_at dksX8_letter_1 6 rfl rfl)
theorem dX8_letter_33 : decode cX8_letter 33 = .ok (.aload_n 0, 1) := dk_42 (dk_at dksX8_letter_1 9 rfl rfl)
theorem dX8_letter_34 : decode cX8_letter 34 = .ok (.getfield 3, 3) := dk_180 0 3 (dk_at dksX8_letter_1 10 rfl rfl)
theorem dX8_letter_37 : decode cX8_letter 37 = .ok (.aload_n 0, 1) := dk_42 (dk_at dksX8_letter_1 13 rfl rfl)
theorem dX8_letter_38 : decode cX8_letter 38 = .ok (.getfield 15, 3) := dk_180 0 15 (dk_at dksX8_letter_1 14 rfl rfl)
theorem dX8_letter_41 : decode cX8_letter 41 = .ok (.iconst 1, 1) := dk_4 (dk_at dksX8_letter_1 17 rfl rfl)
theorem dX8_letter_42 : decode cX8_letter 42 = .ok (.isub, 1) := dk_100 (dk_at dksX8_letter_1 18 rfl rfl)
theorem dX8_letter_43 : decode cX8_letter 43 = .ok (.invokeinterface 25 2, 5) := by decide +kernel
theorem dX8_letter_48 : decode cX8_letter 48 = .ok (.bipush 65, 2) := dk_16 65 (dk_at dksX8_letter_2 0 rfl rfl)
theorem dX8_letter_50 : decode cX8_letter 50 = .ok (.isub, 1) := dk_100 (dk_at dksX8_letter_2 2 rfl rfl)
theorem dX8_letter_51 : decode cX8_letter 51 = .ok (.ireturn, 1) := dk_172 (dk_at dksX8_letter_2 3 rfl rfl)
def dkwX8_sees_1 : List UInt8 := [185, 0, 25, 2, 0, 27, 28, 184, 0, 29, 153, 0, 7, 4, 167, 0, 4, 3, 172]
abbrev dktX8_sees_1 : List UInt8 := dkwX8_sees_1 ++ []
def dkwX8_sees_0 : List UInt8 := [42, 180, 0, 15, 42, 180, 0, 3, 185, 0, 19, 1, 0, 162, 0, 28, 42, 180, 0, 3, 42, 180, 0, 15]
abbrev dktX8_sees_0 : List UInt8 := dkwX8_sees_0 ++ dktX8_sees_1
theorem dksX8_sees_0 : cX8_sees.data.toList.drop 0 = dktX8_sees_0 := by decide +kernel
theorem dksX8_sees_1 : cX8_sees.data.toList.drop 24 = dktX8_sees_1 := dk_seg dksX8_sees_0 24 rfl rfl
theorem dX8_sees_0 : decode cX8_sees 0 = .ok (.aload_n 0, 1) := dk_42 (dk_at dksX8_sees_0 0 rfl rfl)
theorem dX8_sees_1 : decode cX8_sees 1 = .ok (.getfield 15, 3) := dk_180 0 15 (dk_at dksX8_sees_0 1 rfl rfl)
theorem dX8_sees_4 : decode cX8_sees 4 = .ok (.aload_n 0, 1) := dk_42 (dk_at dksX8_sees_0 4 rfl rfl)
theorem dX8_sees_5 : decode cX8_sees 5 = .ok (.getfield 3, 3) := dk_180 0 3 (dk_at dksX8_sees_0 5 rfl rfl)
theorem dX8_sees_8 : decode cX8_sees 8 = .ok (.invokeinterface 19 1, 5) := by decide +kernel
theorem dX8_sees_13 : decode cX8_sees 13 = .ok (.if_icmp .ge 28, 3) := dk_162 0 28 (dk_at dksX8_sees_0 13 rfl rfl)
theorem dX8_sees_16 : decode cX8_sees 16 = .ok (.aload_n 0, 1) := dk_42 (dk_at dksX8_sees_0 16 rfl rfl)
theorem dX8_sees_17 : decode cX8_sees 17 = .ok (.getfield 3, 3) := dk_180 0 3 (dk_at dksX8_sees_0 17 rfl rfl)
theorem dX8_sees_20 : decode cX8_sees 20 = .ok (.aload_n 0, 1) := dk_42 (dk_at dksX8_sees_0 20 rfl rfl)
theorem dX8_sees_21 : decode cX8_sees 21 = .ok (.getfield 15, 3) := dk_180 0 15 (dk_at dksX8_sees_0 21 rfl rfl)
theorem dX8_sees_24 : decode cX8_sees 24 = .ok (.invokeinterface 25 2, 5) := by decide +kernel
theorem dX8_sees_29 : decode cX8_sees 29 = .ok (.iload_n 1, 1) := dk_27 (dk_at dksX8_sees_1 5 rfl rfl)
theorem dX8_sees_30 : decode cX8_sees 30 = .ok (.iload_n 2, 1) := dk_28 (dk_at dksX8_sees_1 6 rfl rfl)
theorem dX8_sees_31 : decode cX8_sees 31 = .ok (.invokestatic 29, 3) := dk_184 0 29 (dk_at dksX8_sees_1 7 rfl rfl)
theorem dX8_sees_34 : decode cX8_sees 34 = .ok (.ifCond .eq 7, 3) := dk_153 0 7 (dk_at dksX8_sees_1 10 rfl rfl)
theorem dX8_sees_37 : decode cX8_sees 37 = .ok (.iconst 1, 1) := dk_4 (dk_at dksX8_sees_1 13 rfl rfl)
theorem dX8_sees_38 : decode cX8_sees 38 = .ok (.goto 4, 3) := dk_167 0 4 (dk_at dksX8_sees_1 14 rfl rfl)
theorem dX8_sees_41 : decode cX8_sees 41 = .ok (.iconst 0, 1) := dk_3 (dk_at dksX8_sees_1 17 rfl rfl)
theorem dX8_sees_42 : decode cX8_sees 42 = .ok (.ireturn, 1) := dk_172 (dk_at dksX8_sees_1 18 rfl rfl)
def dkwX8_takes_1 : List UInt8 := [181, 0, 15, 28, 172]
abbrev dktX8_takes_1 : List UInt8 := dkwX8_takes_1 ++ []
def dkwX8_takes_0 : List UInt8 := [42, 27, 27, 182, 0, 33, 61, 42, 89, 180, 0, 15, 28, 153, 0, 7, 4, 167, 0, 4, 3, 96]
abbrev dktX8_takes_0 : List UInt8 := dkwX8_takes_0 ++ dktX8_takes_1
theorem dksX8_takes_0 : cX8_takes.data.toList.drop 0 = dktX8_takes_0 := by decide +kernel
theorem dksX8_takes_1 : cX8_takes.data.toList.drop 22 = dktX8_takes_1 := dk_seg dksX8_takes_0 22 rfl rfl
theorem dX8_takes_0 : decode cX8_takes 0 = .ok (.aload_n 0, 1) := dk_42 (dk_at dksX8_takes_0 0 rfl rfl)
theorem dX8_takes_1 : decode cX8_takes 1 = .ok (.iload_n 1, 1) := dk_27 (dk_at dksX8_takes_0 1 rfl rfl)
theorem dX8_takes_2 : decode cX8_takes 2 = .ok (.iload_n 1, 1) := dk_27 (dk_at dksX8_takes_0 2 rfl rfl)
theorem dX8_takes_3 : decode cX8_takes 3 = .ok (.invokevirtual 33, 3) := dk_182 0 33 (dk_at dksX8_takes_0 3 rfl rfl)
theorem dX8_takes_6 : decode cX8_takes 6 = .ok (.istore_n 2, 1) := dk_61 (dk_at dksX8_takes_0 6 rfl rfl)
theorem dX8_takes_7 : decode cX8_takes 7 = .ok (.aload_n 0, 1) := dk_42 (dk_at dksX8_takes_0 7 rfl rfl)
theorem dX8_takes_8 : decode cX8_takes 8 = .ok (.dup, 1) := dk_89 (dk_at dksX8_takes_0 8 rfl rfl)
theorem dX8_takes_9 : decode cX8_takes 9 = .ok (.getfield 15, 3) := dk_180 0 15 (dk_at dksX8_takes_0 9 rfl rfl)
theorem dX8_takes_12 : decode cX8_takes 12 = .ok (.iload_n 2, 1) := dk_28 (dk_at dksX8_takes_0 12 rfl rfl)
theorem dX8_takes_13 : decode cX8_takes 13 = .ok (.ifCond .eq 7, 3) := dk_153 0 7 (dk_at dksX8_takes_0 13 rfl rfl)
theorem dX8_takes_16 : decode cX8_takes 16 = .ok (.iconst 1, 1) := dk_4 (dk_at dksX8_takes_0 16 rfl rfl)
theorem dX8_takes_17 : decode cX8_takes 17 = .ok (.goto 4, 3) := dk_167 0 4 (dk_at dksX8_takes_0 17 rfl rfl)
theorem dX8_takes_20 : decode cX8_takes 20 = .ok (.iconst 0, 1) := dk_3 (dk_at dksX8_takes_0 20 rfl rfl)
theorem dX8_takes_21 : decode cX8_takes 21 = .ok (.iadd, 1) := dk_96 (dk_at dksX8_takes_0 21 rfl rfl)
theorem dX8_takes_22 : decode cX8_takes 22 = .ok (.putfield 15, 3) := dk_181 0 15 (dk_at dksX8_takes_1 0 rfl rfl)
theorem dX8_takes_25 : decode cX8_takes 25 = .ok (.iload_n 2, 1) := dk_28 (dk_at dksX8_takes_1 3 rfl rfl)
theorem dX8_takes_26 : decode cX8_takes 26 = .ok (.ireturn, 1) := dk_172 (dk_at dksX8_takes_1 4 rfl rfl)
def dkwX8_number_5 : List UInt8 := [96, 181, 0, 15, 167, 255, 184, 29, 172]
abbrev dktX8_number_5 : List UInt8 := dkwX8_number_5 ++ []
def dkwX8_number_4 : List UInt8 := [42, 180, 0, 3, 42, 180, 0, 15, 185, 0, 25, 2, 0, 96, 16, 48, 100, 62, 42, 89, 180, 0, 15, 4]
abbrev dktX8_number_4 : List UInt8 := dkwX8_number_4 ++ dktX8_number_5
def dkwX8_number_3 : List UInt8 := [180, 0, 3, 42, 180, 0, 15, 185, 0, 25, 2, 0, 96, 16, 48, 100, 28, 163, 0, 38, 16, 10, 29, 104]
abbrev dktX8_number_3 : List UInt8 := dkwX8_number_3 ++ dktX8_number_4
def dkwX8_number_2 : List UInt8 := [181, 0, 15, 29, 158, 0, 74, 42, 16, 48, 16, 57, 182, 0, 33, 153, 0, 63, 16, 10, 29, 104, 42]
abbrev dktX8_number_2 : List UInt8 := dkwX8_number_2 ++ dktX8_number_3
def dkwX8_number_1 : List UInt8 := [180, 0, 3, 42, 180, 0, 15, 185, 0, 25, 2, 0, 16, 48, 100, 62, 42, 89, 180, 0, 15, 4, 96]
abbrev dktX8_number_1 : List UInt8 := dkwX8_number_1 ++ dktX8_number_2
def dkwX8_number_0 : List UInt8 := [42, 27, 16, 57, 182, 0, 33, 154, 0, 15, 187, 0, 37, 89, 42, 180, 0, 15, 183, 0, 39, 191, 42]
abbrev dktX8_number_0 : List UInt8 := dkwX8_number_0 ++ dktX8_number_1
theorem dksX8_number_0 : cX8_number.data.toList.drop 0 = dktX8_number_0 := by decide +kernel
theorem dksX8_number_1 : cX8_number.data.toList.drop 23 = dktX8_number_1 := dk_seg dksX8_number_0 23 rfl rfl
theorem dksX8_number_2 : cX8_number.data.toList.drop 46 = dktX8_number_2 := dk_seg dksX8_number_1 23 rfl rfl
theorem dksX8_number_3 : cX8_number.data.toList.drop 69 = dktX8_number_3 := dk_seg dksX8_number_2 23 rfl rfl
theorem dksX8_number_4 : cX8_number.data.toList.drop 93 = dktX8_number_4 := dk_seg dksX8_number_3 24 rfl rfl
theorem dksX8_number_5 : cX8_number.data.toList.drop 117 = dktX8_number_5 := dk_seg dksX8_number_4 24 rfl rfl
theorem dX8_number_0 : decode cX8_number 0 = .ok (.aload_n 0, 1) := dk_42 (dk_at dksX8_number_0 0 rfl rfl)
theorem dX8_number_1 : decode cX8_number 1 = .ok (.iload_n 1, 1) := dk_27 (dk_at dksX8_number_0 1 rfl rfl)
theorem dX8_number_2 : decode cX8_number 2 = .ok (.bipush 57, 2) := dk_16 57 (dk_at dksX8_number_0 2 rfl rfl)
theorem dX8_number_4 : decode cX8_number 4 = .ok (.invokevirtual 33, 3) := dk_182 0 33 (dk_at dksX8_number_0 4 rfl rfl)
theorem dX8_number_7 : decode cX8_number 7 = .ok (.ifCond .ne 15, 3) := dk_154 0 15 (dk_at dksX8_number_0 7 rfl rfl)
theorem dX8_number_10 : decode cX8_number 10 = .ok (.new 37, 3) := dk_187 0 37 (dk_at dksX8_number_0 10 rfl rfl)
theorem dX8_number_13 : decode cX8_number 13 = .ok (.dup, 1) := dk_89 (dk_at dksX8_number_0 13 rfl rfl)
theorem dX8_number_14 : decode cX8_number 14 = .ok (.aload_n 0, 1) := dk_42 (dk_at dksX8_number_0 14 rfl rfl)
theorem dX8_number_15 : decode cX8_number 15 = .ok (.getfield 15, 3) := dk_180 0 15 (dk_at dksX8_number_0 15 rfl rfl)
theorem dX8_number_18 : decode cX8_number 18 = .ok (.invokespecial 39, 3) := dk_183 0 39 (dk_at dksX8_number_0 18 rfl rfl)
theorem dX8_number_21 : decode cX8_number 21 = .ok (.athrow, 1) := dk_191 (dk_at dksX8_number_0 21 rfl rfl)
theorem dX8_number_22 : decode cX8_number 22 = .ok (.aload_n 0, 1) := dk_42 (dk_at dksX8_number_0 22 rfl rfl)
theorem dX8_number_23 : decode cX8_number 23 = .ok (.getfield 3, 3) := dk_180 0 3 (dk_at dksX8_number_1 0 rfl rfl)
theorem dX8_number_26 : decode cX8_number 26 = .ok (.aload_n 0, 1) := dk_42 (dk_at dksX8_number_1 3 rfl rfl)
theorem dX8_number_27 : decode cX8_number 27 = .ok (.getfield 15, 3) := dk_180 0 15 (dk_at dksX8_number_1 4 rfl rfl)
theorem dX8_number_30 : decode cX8_number 30 = .ok (.invokeinterface 25 2, 5) := by decide +kernel
theorem dX8_number_35 : decode cX8_number 35 = .ok (.bipush 48, 2) := dk_16 48 (dk_at dksX8_number_1 12 rfl rfl)
theorem dX8_number_37 : decode cX8_number 37 = .ok (.isub, 1) := dk_100 (dk_at dksX8_number_1 14 rfl rfl)
theorem dX8_number_38 : decode cX8_number 38 = .ok (.istore_n 3, 1) := dk_62 (dk_at dksX8_number_1 15 rfl rfl)
theorem dX8_number_39 : decode cX8_number 39 = .ok (.aload_n 0, 1) := dk_42 (dk_at dksX8_number_1 16 rfl rfl)
theorem dX8_number_40 : decode cX8_number 40 = .ok (.dup, 1) := dk_89 (dk_at dksX8_number_1 17 rfl rfl)
theorem dX8_number_41 : decode cX8_number 41 = .ok (.getfield 15, 3) := dk_180 0 15 (dk_at dksX8_number_1 18 rfl rfl)
theorem dX8_number_44 : decode cX8_number 44 = .ok (.iconst 1, 1) := dk_4 (dk_at dksX8_number_1 21 rfl rfl)
theorem dX8_number_45 : decode cX8_number 45 = .ok (.iadd, 1) := dk_96 (dk_at dksX8_number_1 22 rfl rfl)
theorem dX8_number_46 : decode cX8_number 46 = .ok (.putfield 15, 3) := dk_181 0 15 (dk_at dksX8_number_2 0 rfl rfl)
theorem dX8_number_49 : decode cX8_number 49 = .ok (.iload_n 3, 1) := dk_29 (dk_at dksX8_number_2 3 rfl rfl)
theorem dX8_number_50 : decode cX8_number 50 = .ok (.ifCond .le 74, 3) := dk_158 0 74 (dk_at dksX8_number_2 4 rfl rfl)
theorem dX8_number_53 : decode cX8_number 53 = .ok (.aload_n 0, 1) := dk_42 (dk_at dksX8_number_2 7 rfl rfl)
theorem dX8_number_54 : decode cX8_number 54 = .ok (.bipush 48, 2) := dk_16 48 (dk_at dksX8_number_2 8 rfl rfl)
theorem dX8_number_56 : decode cX8_number 56 = .ok (.bipush 57, 2) := dk_16 57 (dk_at dksX8_number_2 10 rfl rfl)
theorem dX8_number_58 : decode cX8_number 58 = .ok (.invokevirtual 33, 3) := dk_182 0 33 (dk_at dksX8_number_2 12 rfl rfl)
theorem dX8_number_61 : decode cX8_number 61 = .ok (.ifCond .eq 63, 3) := dk_153 0 63 (dk_at dksX8_number_2 15 rfl rfl)
theorem dX8_number_64 : decode cX8_number 64 = .ok (.bipush 10, 2) := dk_16 10 (dk_at dksX8_number_2 18 rfl rfl)
theorem dX8_number_66 : decode cX8_number 66 = .ok (.iload_n 3, 1) := dk_29 (dk_at dksX8_number_2 20 rfl rfl)
theorem dX8_number_67 : decode cX8_number 67 = .ok (.imul, 1) := dk_104 (dk_at dksX8_number_2 21 rfl rfl)
theorem dX8_number_68 : decode cX8_number 68 = .ok (.aload_n 0, 1) := dk_42 (dk_at dksX8_number_2 22 rfl rfl)
theorem dX8_number_69 : decode cX8_number 69 = .ok (.getfield 3, 3) := dk_180 0 3 (dk_at dksX8_number_3 0 rfl rfl)
theorem dX8_number_72 : decode cX8_number 72 = .ok (.aload_n 0, 1) := dk_42 (dk_at dksX8_number_3 3 rfl rfl)
theorem dX8_number_73 : decode cX8_number 73 = .ok (.getfield 15, 3) := dk_180 0 15 (dk_at dksX8_number_3 4 rfl rfl)
theorem dX8_number_76 : decode cX8_number 76 = .ok (.invokeinterface 25 2, 5) := by decide +kernel
theorem dX8_number_81 : decode cX8_number 81 = .ok (.iadd, 1) := dk_96 (dk_at dksX8_number_3 12 rfl rfl)
theorem dX8_number_82 : decode cX8_number 82 = .ok (.bipush 48, 2) := dk_16 48 (dk_at dksX8_number_3 13 rfl rfl)
theorem dX8_number_84 : decode cX8_number 84 = .ok (.isub, 1) := dk_100 (dk_at dksX8_number_3 15 rfl rfl)
theorem dX8_number_85 : decode cX8_number 85 = .ok (.iload_n 2, 1) := dk_28 (dk_at dksX8_number_3 16 rfl rfl)
theorem dX8_number_86 : decode cX8_number 86 = .ok (.if_icmp .gt 38, 3) := dk_163 0 38 (dk_at dksX8_number_3 17 rfl rfl)
theorem dX8_number_89 : decode cX8_number 89 = .ok (.bipush 10, 2) := dk_16 10 (dk_at dksX8_number_3 20 rfl rfl)
theorem dX8_number_91 : decode cX8_number 91 = .ok (.iload_n 3, 1) := dk_29 (dk_at dksX8_number_3 22 rfl rfl)
theorem dX8_number_92 : decode cX8_number 92 = .ok (.imul, 1) := dk_104 (dk_at dksX8_number_3 23 rfl rfl)
theorem dX8_number_93 : decode cX8_number 93 = .ok (.aload_n 0, 1) := dk_42 (dk_at dksX8_number_4 0 rfl rfl)
theorem dX8_number_94 : decode cX8_number 94 = .ok (.getfield 3, 3) := dk_180 0 3 (dk_at dksX8_number_4 1 rfl rfl)
theorem dX8_number_97 : decode cX8_number 97 = .ok (.aload_n 0, 1) := dk_42 (dk_at dksX8_number_4 4 rfl rfl)
theorem dX8_number_98 : decode cX8_number 98 = .ok (.getfield 15, 3) := dk_180 0 15 (dk_at dksX8_number_4 5 rfl rfl)
theorem dX8_number_101 : decode cX8_number 101 = .ok (.invokeinterface 25 2, 5) := by decide +kernel
theorem dX8_number_106 : decode cX8_number 106 = .ok (.iadd, 1) := dk_96 (dk_at dksX8_number_4 13 rfl rfl)
theorem dX8_number_107 : decode cX8_number 107 = .ok (.bipush 48, 2) := dk_16 48 (dk_at dksX8_number_4 14 rfl rfl)
theorem dX8_number_109 : decode cX8_number 109 = .ok (.isub, 1) := dk_100 (dk_at dksX8_number_4 16 rfl rfl)
theorem dX8_number_110 : decode cX8_number 110 = .ok (.istore_n 3, 1) := dk_62 (dk_at dksX8_number_4 17 rfl rfl)
theorem dX8_number_111 : decode cX8_number 111 = .ok (.aload_n 0, 1) := dk_42 (dk_at dksX8_number_4 18 rfl rfl)
theorem dX8_number_112 : decode cX8_number 112 = .ok (.dup, 1) := dk_89 (dk_at dksX8_number_4 19 rfl rfl)
theorem dX8_number_113 : decode cX8_number 113 = .ok (.getfield 15, 3) := dk_180 0 15 (dk_at dksX8_number_4 20 rfl rfl)
theorem dX8_number_116 : decode cX8_number 116 = .ok (.iconst 1, 1) := dk_4 (dk_at dksX8_number_4 23 rfl rfl)
theorem dX8_number_117 : decode cX8_number 117 = .ok (.iadd, 1) := dk_96 (dk_at dksX8_number_5 0 rfl rfl)
theorem dX8_number_118 : decode cX8_number 118 = .ok (.putfield 15, 3) := dk_181 0 15 (dk_at dksX8_number_5 1 rfl rfl)
theorem dX8_number_121 : decode cX8_number 121 = .ok (.goto (-72), 3) := dk_167 255 184 (dk_at dksX8_number_5 4 rfl rfl)
theorem dX8_number_124 : decode cX8_number 124 = .ok (.iload_n 3, 1) := dk_29 (dk_at dksX8_number_5 7 rfl rfl)
theorem dX8_number_125 : decode cX8_number 125 = .ok (.ireturn, 1) := dk_172 (dk_at dksX8_number_5 8 rfl rfl)
def dkwX9_init_0 : List UInt8 := [42, 183, 0, 1, 42, 27, 181, 0, 7, 177]
abbrev dktX9_init_0 : List UInt8 := dkwX9_init_0 ++ []
theorem dksX9_init_0 : cX9_init.data.toList.drop 0 = dktX9_init_0 := by decide +kernel
theorem dX9_init_0 : decode cX9_init 0 = .ok (.aload_n 0, 1) := dk_42 (dk_at dksX9_init_0 0 rfl rfl)
theorem dX9_init_1 : decode cX9_init 1 = .ok (.invokespecial 1, 3) := dk_183 0 1 (dk_at dksX9_init_0 1 rfl rfl)
theorem dX9_init_4 : decode cX9_init 4 = .ok (.aload_n 0, 1) := dk_42 (dk_at dksX9_init_0 4 rfl rfl)
theorem dX9_init_5 : decode cX9_init 5 = .ok (.iload_n 1, 1) := dk_27 (dk_at dksX9_init_0 5 rfl rfl)
theorem dX9_init_6 : decode cX9_init 6 = .ok (.putfield 7, 3) := dk_181 0 7 (dk_at dksX9_init_0 6 rfl rfl)
theorem dX9_init_9 : decode cX9_init 9 = .ok (.return_, 1) := dk_177 (dk_at dksX9_init_0 9 rfl rfl)
