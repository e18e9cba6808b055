set_option maxRecDepth 100000
def dkwX3_init_2 : List UInt8 := [181, 0, 22, 42, 16, 60, 188, 10, 181, 0, 25, 42, 180, 0, 7, 4, 5, 79, 177]
abbrev dktX3_init_2 : List UInt8 := dkwX3_init_2 ++ []
def dkwX3_init_1 : List UInt8 := [17, 2, 84, 188, 10, 181, 0, 16, 42, 17, 0, 149, 188, 10, 181, 0, 19, 42, 16, 6, 188, 10]
abbrev dktX3_init_1 : List UInt8 := dkwX3_init_1 ++ dktX3_init_2
def dkwX3_init_0 : List UInt8 := [42, 183, 0, 1, 42, 17, 0, 149, 188, 10, 181, 0, 7, 42, 17, 0, 149, 188, 10, 181, 0, 13, 42]
abbrev dktX3_init_0 : List UInt8 := dkwX3_init_0 ++ dktX3_init_1
theorem dksX3_init_0 : cX3_init.data.toList.drop 0 = dktX3_init_0 := by decide +kernel
theorem dksX3_init_1 : cX3_init.data.toList.drop 23 = dktX3_init_1 := dk_seg dksX3_init_0 23 rfl rfl
theorem dksX3_init_2 : cX3_init.data.toList.drop 45 = dktX3_init_2 := dk_seg dksX3_init_1 22 rfl rfl
theorem dX3_init_0 : decode cX3_init 0 = .ok (.aload_n 0, 1) := dk_42 (dk_at dksX3_init_0 0 rfl rfl)
theorem dX3_init_1 : decode cX3_init 1 = .ok (.invokespecial 1, 3) := dk_183 0 1 (dk_at dksX3_init_0 1 rfl rfl)
theorem dX3_init_4 : decode cX3_init 4 = .ok (.aload_n 0, 1) := dk_42 (dk_at dksX3_init_0 4 rfl rfl)
theorem dX3_init_5 : decode cX3_init 5 = .ok (.sipush 149, 3) := dk_17 0 149 (dk_at dksX3_init_0 5 rfl rfl)
theorem dX3_init_8 : decode cX3_init 8 = .ok (.newarray .int, 2) := dk_188_10 (dk_at dksX3_init_0 8 rfl rfl)
theorem dX3_init_10 : decode cX3_init 10 = .ok (.putfield 7, 3) := dk_181 0 7 (dk_at dksX3_init_0 10 rfl rfl)
theorem dX3_init_13 : decode cX3_init 13 = .ok (.aload_n 0, 1) := dk_42 (dk_at dksX3_init_0 13 rfl rfl)
theorem dX3_init_14 : decode cX3_init 14 = .ok (.sipush 149, 3) := dk_17 0 149 (dk_at dksX3_init_0 14 rfl rfl)
theorem dX3_init_17 : decode cX3_init 17 = .ok (.newarray .int, 2) := dk_188_10 (dk_at dksX3_init_0 17 rfl rfl)
theorem dX3_init_19 : decode cX3_init 19 = .ok (.putfield 13, 3) := dk_181 0 13 (dk_at dksX3_init_0 19 rfl rfl)
theorem dX3_init_22 : decode cX3_init 22 = .ok (.aload_n 0, 1) := dk_42 (dk_at dksX3_init_0 22 rfl rfl)
theorem dX3_init_23 : decode cX3_init 23 = .ok (.sipush 596, 3) := dk_17 2 84 (dk_at dksX3_init_1 0 rfl rfl)
theorem dX3_init_26 : decode cX3_init 26 = .ok (.newarray .int, 2) := dk_188_10 (dk_at dksX3_init_1 3 rfl rfl)
theorem dX3_init_28 : decode cX3_init 28 = .ok (.putfield 16, 3) := dk_181 0 16 (dk_at dksX3_init_1 5 rfl rfl)
theorem dX3_init_31 : decode cX3_init 31 = .ok (.aload_n 0, 1) := dk_42 (dk_at dksX3_init_1 8 rfl rfl)
theorem dX3_init_32 : decode cX3_init 32 = .ok (.sipush 149, 3) := dk_17 0 149 (dk_at dksX3_init_1 9 rfl rfl)
theorem dX3_init_35 : decode cX3_init 35 = .ok (.newarray .int, 2) := dk_188_10 (dk_at dksX3_init_1 12 rfl rfl)
theorem dX3_init_37 : decode cX3_init 37 = .ok (.putfield 19, 3) := dk_181 0 19 (dk_at dksX3_init_1 14 rfl rfl)
theorem dX3_init_40 : decode cX3_init 40 = .ok (.aload_n 0, 1) := dk_42 (dk_at dksX3_init_1 17 rfl rfl)
theorem dX3_init_41 : decode cX3_init 41 = .ok (.bipush 6, 2) := dk_16 6 (dk_at dksX3_init_1 18 rfl rfl)
theorem dX3_init_43 : decode cX3_init 43 = .ok (.newarray .int, 2) := dk_188_10 (dk_at dksX3_init_1 20 rfl rfl)
theorem dX3_init_45 : decode cX3_init 45 = .ok (.putfield 22, 3) := dk_181 0 22 (dk_at dksX3_init_2 0 rfl rfl)
theorem dX3_init_48 : decode cX3_init 48 = .ok (.aload_n 0, 1) := dk_42 (dk_at dksX3_init_2 3 rfl rfl)
theorem dX3_init_49 : decode cX3_init 49 = .ok (.bipush 60, 2) := dk_16 60 (dk_at dksX3_init_2 4 rfl rfl)
theorem dX3_init_51 : decode cX3_init 51 = .ok (.newarray .int, 2) := dk_188_10 (dk_at dksX3_init_2 6 rfl rfl)
theorem dX3_init_53 : decode cX3_init 53 = .ok (.putfield 25, 3) := dk_181 0 25 (dk_at dksX3_init_2 8 rfl rfl)
theorem dX3_init_56 : decode cX3_init 56 = .ok (.aload_n 0, 1) := dk_42 (dk_at dksX3_init_2 11 rfl rfl)
theorem dX3_init_57 : decode cX3_init 57 = .ok (.getfield 7, 3) := dk_180 0 7 (dk_at dksX3_init_2 12 rfl rfl)
theorem dX3_init_60 : decode cX3_init 60 = .ok (.iconst 1, 1) := dk_4 (dk_at dksX3_init_2 15 rfl rfl)
theorem dX3_init_61 : decode cX3_init 61 = .ok (.iconst 2, 1) := dk_5 (dk_at dksX3_init_2 16 rfl rfl)
theorem dX3_init_62 : decode cX3_init 62 = .ok (.iastore, 1) := dk_79 (dk_at dksX3_init_2 17 rfl rfl)
theorem dX3_init_63 : decode cX3_init 63 = .ok (.return_, 1) := dk_177 (dk_at dksX3_init_2 18 rfl rfl)
def dkwX3_add_1 : List UInt8 := [21, 4, 182, 0, 89, 172]
abbrev dktX3_add_1 : List UInt8 := dkwX3_add_1 ++ []
def dkwX3_add_0 : List UInt8 := [42, 182, 0, 82, 42, 27, 28, 29, 182, 0, 85, 54, 4, 21, 4, 156, 0, 8, 21, 4, 167, 0, 9, 42]
abbrev dktX3_add_0 : List UInt8 := dkwX3_add_0 ++ dktX3_add_1
theorem dksX3_add_0 : cX3_add.data.toList.drop 0 = dktX3_add_0 := by decide +kernel
theorem dksX3_add_1 : cX3_add.data.toList.drop 24 = dktX3_add_1 := dk_seg dksX3_add_0 24 rfl rfl
theorem dX3_add_0 : decode cX3_add 0 = .ok (.aload_n 0, 1) := dk_42 (dk_at dksX3_add_0 0 rfl rfl)
theorem dX3_add_1 : decode cX3_add 1 = .ok (.invokevirtual 82, 3) := dk_182 0 82 (dk_at dksX3_add_0 1 rfl rfl)
theorem dX3_add_4 : decode cX3_add 4 = .ok (.aload_n 0, 1) := dk_42 (dk_at dksX3_add_0 4 rfl rfl)
theorem dX3_add_5 : decode cX3_add 5 = .ok (.iload_n 1, 1) := dk_27 (dk_at dksX3_add_0 5 rfl rfl)
theorem dX3_add_6 : decode cX3_add 6 = .ok (.iload_n 2, 1) := dk_28 (dk_at dksX3_add_0 6 rfl rfl)
theorem dX3_add_7 : decode cX3_add 7 = .ok (.iload_n 3, 1) := dk_29 (dk_at dksX3_add_0 7 rfl rfl)
theorem dX3_add_8 : decode cX3_add 8 = .ok (.invokevirtual 85, 3) := dk_182 0 85 (dk_at dksX3_add_0 8 rfl rfl)
theorem dX3_add_11 : decode cX3_add 11 = .ok (.istore 4, 2) := dk_54 4 (dk_at dksX3_add_0 11 rfl rfl)
theorem dX3_add_13 : decode cX3_add 13 = .ok (.iload 4, 2) := dk_21 4 (dk_at dksX3_add_0 13 rfl rfl)
theorem dX3_add_15 : decode cX3_add 15 = .ok (.ifCond .ge 8, 3) := dk_156 0 8 (dk_at dksX3_add_0 15 rfl rfl)
theorem dX3_add_18 : decode cX3_add 18 = .ok (.iload 4, 2) := dk_21 4 (dk_at dksX3_add_0 18 rfl rfl)
theorem dX3_add_20 : decode cX3_add 20 = .ok (.goto 9, 3) := dk_167 0 9 (dk_at dksX3_add_0 20 rfl rfl)
theorem dX3_add_23 : decode cX3_add 23 = .ok (.aload_n 0, 1) := dk_42 (dk_at dksX3_add_0 23 rfl rfl)
theorem dX3_add_24 : decode cX3_add 24 = .ok (.iload 4, 2) := dk_21 4 (dk_at dksX3_add_1 0 rfl rfl)
theorem dX3_add_26 : decode cX3_add 26 = .ok (.invokevirtual 89, 3) := dk_182 0 89 (dk_at dksX3_add_1 2 rfl rfl)
theorem dX3_add_29 : decode cX3_add 29 = .ok (.ireturn, 1) := dk_172 (dk_at dksX3_add_1 5 rfl rfl)
def dkwX3_remember_1 : List UInt8 := [167, 255, 234, 177]
abbrev dktX3_remember_1 : List UInt8 := dkwX3_remember_1 ++ []
def dkwX3_remember_0 : List UInt8 := [3, 60, 27, 17, 0, 149, 162, 0, 21, 42, 180, 0, 13, 27, 42, 180, 0, 7, 27, 46, 79, 132, 1, 1]
abbrev dktX3_remember_0 : List UInt8 := dkwX3_remember_0 ++ dktX3_remember_1
theorem dksX3_remember_0 : cX3_remember.data.toList.drop 0 = dktX3_remember_0 := by decide +kernel
theorem dksX3_remember_1 : cX3_remember.data.toList.drop 24 = dktX3_remember_1 := dk_seg dksX3_remember_0 24 rfl rfl
theorem dX3_remember_0 : decode cX3_remember 0 = .ok (.iconst 0, 1) := dk_3 (dk_at dksX3_remember_0 0 rfl rfl)
theorem dX3_remember_1 : decode cX3_remember 1 = .ok (.istore_n 1, 1) := dk_60 (dk_at dksX3_remember_0 1 rfl rfl)
theorem dX3_remember_2 : decode cX3_remember 2 = .ok (.iload_n 1, 1) := dk_27 (dk_at dksX3_remember_0 2 rfl rfl)
theorem dX3_remember_3 : decode cX3_remember 3 = .ok (.sipush 149, 3) := dk_17 0 149 (dk_at dksX3_remember_0 3 rfl rfl)
theorem dX3_remember_6 : decode cX3_remember 6 = .ok (.if_icmp .ge 21, 3) := dk_162 0 21 (dk_at dksX3_remember_0 6 rfl rfl)
theorem dX3_remember_9 : decode cX3_remember 9 = .ok (.aload_n 0, 1) := dk_42 (dk_at dksX3_remember_0 9 rfl rfl)
theorem dX3_remember_10 : decode cX3_remember 10 = .ok (.getfield 13, 3) := dk_180 0 13 (dk_at dksX3_remember_0 10 rfl rfl)
theorem dX3_remember_13 : decode cX3_remember 13 = .ok (.iload_n 1, 1) := dk_27 (dk_at dksX3_remember_0 13 rfl rfl)
theorem dX3_remember_14 : decode cX3_remember 14 = .ok (.aload_n 0, 1) := dk_42 (dk_at dksX3_remember_0 14 rfl rfl)
theorem dX3_remember_15 : decode cX3_remember 15 = .ok (.getfield 7, 3) := dk_180 0 7 (dk_at dksX3_remember_0 15 rfl rfl)
theorem dX3_remember_18 : decode cX3_remember 18 = .ok (.iload_n 1, 1) := dk_27 (dk_at dksX3_remember_0 18 rfl rfl)
theorem dX3_remember_19 : decode cX3_remember 19 = .ok (.iaload, 1) := dk_46 (dk_at dksX3_remember_0 19 rfl rfl)
theorem dX3_remember_20 : decode cX3_remember 20 = .ok (.iastore, 1) := dk_79 (dk_at dksX3_remember_0 20 rfl rfl)
theorem dX3_remember_21 : decode cX3_remember 21 = .ok (.iinc 1 1, 3) := dk_132 1 1 (dk_at dksX3_remember_0 21 rfl rfl)
theorem dX3_remember_24 : decode cX3_remember 24 = .ok (.goto (-22), 3) := dk_167 255 234 (dk_at dksX3_remember_1 0 rfl rfl)
theorem dX3_remember_27 : decode cX3_remember 27 = .ok (.return_, 1) := dk_177 (dk_at dksX3_remember_1 3 rfl rfl)
def dkwX3_doAdd_4 : List UInt8 := [182, 0, 71, 54, 4, 42, 21, 4, 28, 29, 182, 0, 75, 42, 21, 4, 5, 182, 0, 38, 172]
abbrev dktX3_doAdd_4 : List UInt8 := dkwX3_doAdd_4 ++ []
def dkwX3_doAdd_3 : List UInt8 := [180, 0, 22, 3, 27, 79, 42, 180, 0, 22, 4, 3, 79, 42, 180, 0, 22, 8, 16, 251, 79, 42]
abbrev dktX3_doAdd_3 : List UInt8 := dkwX3_doAdd_3 ++ dktX3_doAdd_4
def dkwX3_doAdd_2 : List UInt8 := [172, 42, 182, 0, 64, 153, 0, 6, 16, 250, 172, 42, 28, 182, 0, 68, 154, 0, 6, 16, 253, 172, 42]
abbrev dktX3_doAdd_2 : List UInt8 := dkwX3_doAdd_2 ++ dktX3_doAdd_3
def dkwX3_doAdd_1 : List UInt8 := [20, 0, 62, 184, 0, 34, 154, 0, 6, 16, 254, 172, 42, 27, 182, 0, 50, 16, 251, 159, 0, 6, 16, 249]
abbrev dktX3_doAdd_1 : List UInt8 := dkwX3_doAdd_1 ++ dktX3_doAdd_2
def dkwX3_doAdd_0 : List UInt8 := [27, 184, 0, 57, 153, 0, 27, 28, 133, 10, 20, 0, 60, 184, 0, 34, 153, 0, 15, 29, 133, 9]
abbrev dktX3_doAdd_0 : List UInt8 := dkwX3_doAdd_0 ++ dktX3_doAdd_1
theorem dksX3_doAdd_0 : cX3_doAdd.data.toList.drop 0 = dktX3_doAdd_0 := by decide +kernel
theorem dksX3_doAdd_1 : cX3_doAdd.data.toList.drop 22 = dktX3_doAdd_1 := dk_seg dksX3_doAdd_0 22 rfl rfl
theorem dksX3_doAdd_2 : cX3_doAdd.data.toList.drop 46 = dktX3_doAdd_2 := dk_seg dksX3_doAdd_1 24 rfl rfl
theorem dksX3_doAdd_3 : cX3_doAdd.data.toList.drop 69 = dktX3_doAdd_3 := dk_seg dksX3_doAdd_2 23 rfl rfl
theorem dksX3_doAdd_4 : cX3_doAdd.data.toList.drop 91 = dktX3_doAdd_4 := dk_seg dksX3_doAdd_3 22 rfl rfl
theorem dX3_doAdd_0 : decode cX3_doAdd 0 = .ok (.iload_n 1, 1) := dk_27 (dk_at dksX3_doAdd_0 0 rfl rfl)
theorem dX3_doAdd_1 : decode cX3_doAdd 1 = .ok (.invokestatic 57, 3) := dk_184 0 57 (dk_at dksX3_doAdd_0 1 rfl rfl)
theorem dX3_doAdd_4 : decode cX3_doAdd 4 = .ok (.ifCond .eq 27, 3) := dk_153 0 27 (dk_at dksX3_doAdd_0 4 rfl rfl)
theorem dX3_doAdd_7 : decode cX3_doAdd 7 = .ok (.iload_n 2, 1) := dk_28 (dk_at dksX3_doAdd_0 7 rfl rfl)
theorem dX3_doAdd_8 : decode cX3_doAdd 8 = .ok (.i2l, 1) := dk_133 (dk_at dksX3_doAdd_0 8 rfl rfl)
theorem dX3_doAdd_9 : decode cX3_doAdd 9 = .ok (.lconst 1, 1) := dk_10 (dk_at dksX3_doAdd_0 9 rfl rfl)
theorem dX3_doAdd_10 : decode cX3_doAdd 10 = .ok (.ldc2_w 60, 3) := dk_20 0 60 (dk_at dksX3_doAdd_0 10 rfl rfl)
theorem dX3_doAdd_13 : decode cX3_doAdd 13 = .ok (.invokestatic 34, 3) := dk_184 0 34 (dk_at dksX3_doAdd_0 13 rfl rfl)
theorem dX3_doAdd_16 : decode cX3_doAdd 16 = .ok (.ifCond .eq 15, 3) := dk_153 0 15 (dk_at dksX3_doAdd_0 16 rfl rfl)
theorem dX3_doAdd_19 : decode cX3_doAdd 19 = .ok (.iload_n 3, 1) := dk_29 (dk_at dksX3_doAdd_0 19 rfl rfl)
theorem dX3_doAdd_20 : decode cX3_doAdd 20 = .ok (.i2l, 1) := dk_133 (dk_at dksX3_doAdd_0 20 rfl rfl)
theorem dX3_doAdd_21 : decode cX3_doAdd 21 = .ok (.lconst 0, 1) := dk_9 (dk_at dksX3_doAdd_0 21 rfl rfl)
theorem dX3_doAdd_22 : decode cX3_doAdd 22 = .ok (.ldc2_w 62, 3) := dk_20 0 62 (dk_at dksX3_doAdd_1 0 rfl rfl)
theorem dX3_doAdd_25 : decode cX3_doAdd 25 = .ok (.invokestatic 34, 3) := dk_184 0 34 (dk_at dksX3_doAdd_1 3 rfl rfl)
theorem dX3_doAdd_28 : decode cX3_doAdd 28 = .ok (.ifCond .ne 6, 3) := dk_154 0 6 (dk_at dksX3_doAdd_1 6 rfl rfl)
theorem dX3_doAdd_31 : decode cX3_doAdd 31 = .ok (.bipush (-2), 2) := dk_16 254 (dk_at dksX3_doAdd_1 9 rfl rfl)
theorem dX3_doAdd_33 : decode cX3_doAdd 33 = .ok (.ireturn, 1) := dk_172 (dk_at dksX3_doAdd_1 11 rfl rfl)
theorem dX3_doAdd_34 : decode cX3_doAdd 34 = .ok (.aload_n 0, 1) := dk_42 (dk_at dksX3_doAdd_1 12 rfl rfl)
theorem dX3_doAdd_35 : decode cX3_doAdd 35 = .ok (.iload_n 1, 1) := dk_27 (dk_at dksX3_doAdd_1 13 rfl rfl)
theorem dX3_doAdd_36 : decode cX3_doAdd 36 = .ok (.invokevirtual 50, 3) := dk_182 0 50 (dk_at dksX3_doAdd_1 14 rfl rfl)
theorem dX3_doAdd_39 : decode cX3_doAdd 39 = .ok (.bipush (-5), 2) := dk_16 251 (dk_at dksX3_doAdd_1 17 rfl rfl)
theorem dX3_doAdd_41 : decode cX3_doAdd 41 = .ok (.if_icmp .eq 6, 3) := dk_159 0 6 (dk_at dksX3_doAdd_1 19 rfl rfl)
theorem dX3_doAdd_44 : decode cX3_doAdd 44 = .ok (.bipush (-7), 2) := dk_16 249 (dk_at dksX3_doAdd_1 22 rfl rfl)
theorem dX3_doAdd_46 : decode cX3_doAdd 46 = .ok (.ireturn, 1) := dk_172 (dk_at dksX3_doAdd_2 0 rfl rfl)
theorem dX3_doAdd_47 : decode cX3_doAdd 47 = .ok (.aload_n 0, 1) := dk_42 (dk_at dksX3_doAdd_2 1 rfl rfl)
theorem dX3_doAdd_48 : decode cX3_doAdd 48 = .ok (.invokevirtual 64, 3) := dk_182 0 64 (dk_at dksX3_doAdd_2 2 rfl rfl)
theorem dX3_doAdd_51 : decode cX3_doAdd 51 = .ok (.ifCond .eq 6, 3) := dk_153 0 6 (dk_at dksX3_doAdd_2 5 rfl rfl)
theorem dX3_doAdd_54 : decode cX3_doAdd 54 = .ok (.bipush (-6), 2) := dk_16 250 (dk_at dksX3_doAdd_2 8 rfl rfl)
theorem dX3_doAdd_56 : decode cX3_doAdd 56 = .ok (.ireturn, 1) := dk_172 (dk_at dksX3_doAdd_2 10 rfl rfl)
theorem dX3_doAdd_57 : decode cX3_doAdd 57 = .ok (.aload_n 0, 1) := dk_42 (dk_at dksX3_doAdd_2 11 rfl rfl)
theorem dX3_doAdd_58 : decode cX3_doAdd 58 = .ok (.iload_n 2, 1) := dk_28 (dk_at dksX3_doAdd_2 12 rfl rfl)
theorem dX3_doAdd_59 : decode cX3_doAdd 59 = .ok (.invokevirtual 68, 3) := dk_182 0 68 (dk_at dksX3_doAdd_2 13 rfl rfl)
theorem dX3_doAdd_62 : decode cX3_doAdd 62 = .ok (.ifCond .ne 6, 3) := dk_154 0 6 (dk_at dksX3_doAdd_2 16 rfl rfl)
theorem dX3_doAdd_65 : decode cX3_doAdd 65 = .ok (.bipush (-3), 2) := dk_16 253 (dk_at dksX3_doAdd_2 19 rfl rfl)
theorem dX3_doAdd_67 : decode cX3_doAdd 67 = .ok (.ireturn, 1) := dk_172 (dk_at dksX3_doAdd_2 21 rfl rfl)
theorem dX3_doAdd_68 : decode cX3_doAdd 68 = .ok (.aload_n 0, 1) := dk_42 (dk_at dksX3_doAdd_2 22 rfl rfl)
theorem dX3_doAdd_69 : decode cX3_doAdd 69 = .ok (.getfield 22, 3) := dk_180 0 22 (dk_at dksX3_doAdd_3 0 rfl rfl)
theorem dX3_doAdd_72 : decode cX3_doAdd 72 = .ok (.iconst 0, 1) := dk_3 (dk_at dksX3_doAdd_3 3 rfl rfl)
theorem dX3_doAdd_73 : decode cX3_doAdd 73 = .ok (.iload_n 1, 1) := dk_27 (dk_at dksX3_doAdd_3 4 rfl rfl)
theorem dX3_doAdd_74 : decode cX3_doAdd 74 = .ok (.iastore, 1) := dk_79 (dk_at dksX3_doAdd_3 5 rfl rfl)
theorem dX3_doAdd_75 : decode cX3_doAdd 75 = .ok (.aload_n 0, 1) := dk_42 (dk_at dksX3_doAdd_3 6 rfl rfl)
theorem dX3_doAdd_76 : decode cX3_doAdd 76 = .ok (.getfield 22, 3) := dk_180 0 22 (dk_at dksX3_doAdd_3 7 rfl rfl)
theorem dX3_doAdd_79 : decode cX3_doAdd 79 = .ok (.iconst 1, 1) := dk_4 (dk_at dksX3_doAdd_3 10 rfl rfl)
theorem dX3_doAdd_80 : decode cX3_doAdd 80 = .ok (.iconst 0, 1) := dk_3 (dk_at dksX3_doAdd_3 11 rfl rfl)
theorem dX3_doAdd_81 : decode cX3_doAdd 81 = .ok (.iastore, 1) := dk_79 (dk_at dksX3_doAdd_3 12 rfl rfl)
theorem dX3_doAdd_82 : decode cX3_doAdd 82 = .ok (.aload_n 0, 1) := dk_42 (dk_at dksX3_doAdd_3 13 rfl rfl)
theorem dX3_doAdd_83 : decode cX3_doAdd 83 = .ok (.getfield 22, 3) := dk_180 0 22 (dk_at dksX3_doAdd_3 14 rfl rfl)
theorem dX3_doAdd_86 : decode cX3_doAdd 86 = .ok (.iconst 5, 1) := dk_8 (dk_at dksX3_doAdd_3 17 rfl rfl)
theorem dX3_doAdd_87 : decode cX3_doAdd 87 = .ok (.bipush (-5), 2) := dk_16 251 (dk_at dksX3_doAdd_3 18 rfl rfl)
theorem dX3_doAdd_89 : decode cX3_doAdd 89 = .ok (.iastore, 1) := dk_79 (dk_at dksX3_doAdd_3 20 rfl rfl)
theorem dX3_doAdd_90 : decode cX3_doAdd 90 = .ok (.aload_n 0, 1) := dk_42 (dk_at dksX3_doAdd_3 21 rfl rfl)
theorem dX3_doAdd_91 : decode cX3_doAdd 91 = .ok (.invokevirtual 71, 3) := dk_182 0 71 (dk_at dksX3_doAdd_4 0 rfl rfl)
theorem dX3_doAdd_94 : decode cX3_doAdd 94 = .ok (.istore 4, 2) := dk_54 4 (dk_at dksX3_doAdd_4 3 rfl rfl)
theorem dX3_doAdd_96 : decode cX3_doAdd 96 = .ok (.aload_n 0, 1) := dk_42 (dk_at dksX3_doAdd_4 5 rfl rfl)
theorem dX3_doAdd_97 : decode cX3_doAdd 97 = .ok (.iload 4, 2) := dk_21 4 (dk_at dksX3_doAdd_4 6 rfl rfl)
theorem dX3_doAdd_99 : decode cX3_doAdd 99 = .ok (.iload_n 2, 1) := dk_28 (dk_at dksX3_doAdd_4 8 rfl rfl)
theorem dX3_doAdd_100 : decode cX3_doAdd 100 = .ok (.iload_n 3, 1) := dk_29 (dk_at dksX3_doAdd_4 9 rfl rfl)
theorem dX3_doAdd_101 : decode cX3_doAdd 101 = .ok (.invokevirtual 75, 3) := dk_182 0 75 (dk_at dksX3_doAdd_4 10 rfl rfl)
theorem dX3_doAdd_104 : decode cX3_doAdd 104 = .ok (.aload_n 0, 1) := dk_42 (dk_at dksX3_doAdd_4 13 rfl rfl)
theorem dX3_doAdd_105 : decode cX3_doAdd 105 = .ok (.iload 4, 2) := dk_21 4 (dk_at dksX3_doAdd_4 14 rfl rfl)
theorem dX3_doAdd_107 : decode cX3_doAdd 107 = .ok (.iconst 2, 1) := dk_5 (dk_at dksX3_doAdd_4 16 rfl rfl)
theorem dX3_doAdd_108 : decode cX3_doAdd 108 = .ok (.invokevirtual 38, 3) := dk_182 0 38 (dk_at dksX3_doAdd_4 17 rfl rfl)
theorem dX3_doAdd_111 : decode cX3_doAdd 111 = .ok (.ireturn, 1) := dk_172 (dk_at dksX3_doAdd_4 20 rfl rfl)
def dkwX3_isName_0 : List UInt8 := [26, 133, 9, 20, 0, 32, 184, 0, 34, 172]
abbrev dktX3_isName_0 : List UInt8 := dkwX3_isName_0 ++ []
theorem dksX3_isName_0 : cX3_isName.data.toList.drop 0 = dktX3_isName_0 := by decide +kernel
theorem dX3_isName_0 : decode cX3_isName 0 = .ok (.iload_n 0, 1) := dk_26 (dk_at dksX3_isName_0 0 rfl rfl)
theorem dX3_isName_1 : decode cX3_isName 1 = .ok (.i2l, 1) := dk_133 (dk_at dksX3_isName_0 1 rfl rfl)
theorem dX3_isName_2 : decode cX3_isName 2 = .ok (.lconst 0, 1) := dk_9 (dk_at dksX3_isName_0 2 rfl rfl)
theorem dX3_isName_3 : decode cX3_isName 3 = .ok (.ldc2_w 32, 3) := dk_20 0 32 (dk_at dksX3_isName_0 3 rfl rfl)
theorem dX3_isName_6 : decode cX3_isName 6 = .ok (.invokestatic 34, 3) := dk_184 0 34 (dk_at dksX3_isName_0 6 rfl rfl)
theorem dX3_isName_9 : decode cX3_isName 9 = .ok (.ireturn, 1) := dk_172 (dk_at dksX3_isName_0 9 rfl rfl)
def dkwX3_in_0 : List UInt8 := [30, 32, 148, 155, 0, 14, 30, 22, 4, 148, 157, 0, 7, 4, 167, 0, 4, 3, 172]
abbrev dktX3_in_0 : List UInt8 := dkwX3_in_0 ++ []
theorem dksX3_in_0 : cX3_in.data.toList.drop 0 = dktX3_in_0 := by decide +kernel
theorem dX3_in_0 : decode cX3_in 0 = .ok (.lload_n 0, 1) := dk_30 (dk_at dksX3_in_0 0 rfl rfl)
theorem dX3_in_1 : decode cX3_in 1 = .ok (.lload_n 2, 1) := dk_32 (dk_at dksX3_in_0 1 rfl rfl)
theorem dX3_in_2 : decode cX3_in 2 = .ok (.lcmp, 1) := dk_148 (dk_at dksX3_in_0 2 rfl rfl)
theorem dX3_in_3 : decode cX3_in 3 = .ok (.ifCond .lt 14, 3) := dk_155 0 14 (dk_at dksX3_in_0 3 rfl rfl)
theorem dX3_in_6 : decode cX3_in 6 = .ok (.lload_n 0, 1) := dk_30 (dk_at dksX3_in_0 6 rfl rfl)
theorem dX3_in_7 : decode cX3_in 7 = .ok (.lload 4, 2) := dk_22 4 (dk_at dksX3_in_0 7 rfl rfl)
theorem dX3_in_9 : decode cX3_in 9 = .ok (.lcmp, 1) := dk_148 (dk_at dksX3_in_0 9 rfl rfl)
theorem dX3_in_10 : decode cX3_in 10 = .ok (.ifCond .gt 7, 3) := dk_157 0 7 (dk_at dksX3_in_0 10 rfl rfl)
theorem dX3_in_13 : decode cX3_in 13 = .ok (.iconst 1, 1) := dk_4 (dk_at dksX3_in_0 13 rfl rfl)
theorem dX3_in_14 : decode cX3_in 14 = .ok (.goto 4, 3) := dk_167 0 4 (dk_at dksX3_in_0 14 rfl rfl)
theorem dX3_in_17 : decode cX3_in 17 = .ok (.iconst 0, 1) := dk_3 (dk_at dksX3_in_0 17 rfl rfl)
theorem dX3_in_18 : decode cX3_in 18 = .ok (.ireturn, 1) := dk_172 (dk_at dksX3_in_0 18 rfl rfl)
def dkwX3_rankOf_1 : List UInt8 := [132, 2, 1, 167, 255, 231, 16, 251, 172]
abbrev dktX3_rankOf_1 : List UInt8 := dkwX3_rankOf_1 ++ []
def dkwX3_rankOf_0 : List UInt8 := [3, 61, 28, 42, 180, 0, 7, 3, 46, 162, 0, 21, 42, 28, 3, 182, 0, 38, 27, 160, 0, 5, 28, 172]
abbrev dktX3_rankOf_0 : List UInt8 := dkwX3_rankOf_0 ++ dktX3_rankOf_1
theorem dksX3_rankOf_0 : cX3_rankOf.data.toList.drop 0 = dktX3_rankOf_0 := by decide +kernel
theorem dksX3_rankOf_1 : cX3_rankOf.data.toList.drop 24 = dktX3_rankOf_1 := dk_seg dksX3_rankOf_0 24 rfl rfl
theorem dX3_rankOf_0 : decode cX3_rankOf 0 = .ok (.iconst 0, 1) := dk_3 (dk_at dksX3_rankOf_0 0 rfl rfl)
theorem dX3_rankOf_1 : decode cX3_rankOf 1 = .ok (.istore_n 2, 1) := dk_61 (dk_at dksX3_rankOf_0 1 rfl rfl)
theorem dX3_rankOf_2 : decode cX3_rankOf 2 = .ok (.iload_n 2, 1) := dk_28 (dk_at dksX3_rankOf_0 2 rfl rfl)
theorem dX3_rankOf_3 : decode cX3_rankOf 3 = .ok (.aload_n 0, 1) := dk_42 (dk_at dksX3_rankOf_0 3 rfl rfl)
theorem dX3_rankOf_4 : decode cX3_rankOf 4 = .ok (.getfield 7, 3) := dk_180 0 7 (dk_at dksX3_rankOf_0 4 rfl rfl)
theorem dX3_rankOf_7 : decode cX3_rankOf 7 = .ok (.iconst 0, 1) := dk_3 (dk_at dksX3_rankOf_0 7 rfl rfl)
theorem dX3_rankOf_8 : decode cX3_rankOf 8 = .ok (.iaload, 1) := dk_46 (dk_at dksX3_rankOf_0 8 rfl rfl)
theorem dX3_rankOf_9 : decode cX3_rankOf 9 = .ok (.if_icmp .ge 21, 3) := dk_162 0 21 (dk_at dksX3_rankOf_0 9 rfl rfl)
theorem dX3_rankOf_12 : decode cX3_rankOf 12 = .ok (.aload_n 0, 1) := dk_42 (dk_at dksX3_rankOf_0 12 rfl rfl)
theorem dX3_rankOf_13 : decode cX3_rankOf 13 = .ok (.iload_n 2, 1) := dk_28 (dk_at dksX3_rankOf_0 13 rfl rfl)
theorem dX3_rankOf_14 : decode cX3_rankOf 14 = .ok (.iconst 0, 1) := dk_3 (dk_at dksX3_rankOf_0 14 rfl rfl)
theorem dX3_rankOf_15 : decode cX3_rankOf 15 = .ok (.invokevirtual 38, 3) := dk_182 0 38 (dk_at dksX3_rankOf_0 15 rfl rfl)
theorem dX3_rankOf_18 : decode cX3_rankOf 18 = .ok (.iload_n 1, 1) := dk_27 (dk_at dksX3_rankOf_0 18 rfl rfl)
theorem dX3_rankOf_19 : decode cX3_rankOf 19 = .ok (.if_icmp .ne 5, 3) := dk_160 0 5 (dk_at dksX3_rankOf_0 19 rfl rfl)
theorem dX3_rankOf_22 : decode cX3_rankOf 22 = .ok (.iload_n 2, 1) := dk_28 (dk_at dksX3_rankOf_0 22 rfl rfl)
theorem dX3_rankOf_23 : decode cX3_rankOf 23 = .ok (.ireturn, 1) := dk_172 (dk_at dksX3_rankOf_0 23 rfl rfl)
theorem dX3_rankOf_24 : decode cX3_rankOf 24 = .ok (.iinc 2 1, 3) := dk_132 2 1 (dk_at dksX3_rankOf_1 0 rfl rfl)
theorem dX3_rankOf_27 : decode cX3_rankOf 27 = .ok (.goto (-25), 3) := dk_167 255 231 (dk_at dksX3_rankOf_1 3 rfl rfl)
theorem dX3_rankOf_30 : decode cX3_rankOf 30 = .ok (.bipush (-5), 2) := dk_16 251 (dk_at dksX3_rankOf_1 6 rfl rfl)
theorem dX3_rankOf_32 : decode cX3_rankOf 32 = .ok (.ireturn, 1) := dk_172 (dk_at dksX3_rankOf_1 8 rfl rfl)
def dkwX3_of_0 : List UInt8 := [42, 180, 0, 7, 8, 16, 6, 27, 104, 96, 28, 96, 46, 172]
abbrev dktX3_of_0 : List UInt8 := dkwX3_of_0 ++ []
theorem dksX3_of_0 : cX3_of.data.toList.drop 0 = dktX3_of_0 := by decide +kernel
theorem dX3_of_0 : decode cX3_of 0 = .ok (.aload_n 0, 1) := dk_42 (dk_at dksX3_of_0 0 rfl rfl)
theorem dX3_of_1 : decode cX3_of 1 = .ok (.getfield 7, 3) := dk_180 0 7 (dk_at dksX3_of_0 1 rfl rfl)
theorem dX3_of_4 : decode cX3_of 4 = .ok (.iconst 5, 1) := dk_8 (dk_at dksX3_of_0 4 rfl rfl)
theorem dX3_of_5 : decode cX3_of 5 = .ok (.bipush 6, 2) := dk_16 6 (dk_at dksX3_of_0 5 rfl rfl)
theorem dX3_of_7 : decode cX3_of 7 = .ok (.iload_n 1, 1) := dk_27 (dk_at dksX3_of_0 7 rfl rfl)
theorem dX3_of_8 : decode cX3_of 8 = .ok (.imul, 1) := dk_104 (dk_at dksX3_of_0 8 rfl rfl)
theorem dX3_of_9 : decode cX3_of 9 = .ok (.iadd, 1) := dk_96 (dk_at dksX3_of_0 9 rfl rfl)
theorem dX3_of_10 : decode cX3_of 10 = .ok (.iload_n 2, 1) := dk_28 (dk_at dksX3_of_0 10 rfl rfl)
theorem dX3_of_11 : decode cX3_of 11 = .ok (.iadd, 1) := dk_96 (dk_at dksX3_of_0 11 rfl rfl)
theorem dX3_of_12 : decode cX3_of 12 = .ok (.iaload, 1) := dk_46 (dk_at dksX3_of_0 12 rfl rfl)
theorem dX3_of_13 : decode cX3_of 13 = .ok (.ireturn, 1) := dk_172 (dk_at dksX3_of_0 13 rfl rfl)
def dkwX3_isDirectoryFull_0 : List UInt8 := [42, 180, 0, 7, 3, 46, 7, 42, 180, 0, 7, 4, 46, 104, 160, 0, 7, 4, 167, 0, 4, 3, 172]
abbrev dktX3_isDirectoryFull_0 : List UInt8 := dkwX3_isDirectoryFull_0 ++ []
theorem dksX3_isDirectoryFull_0 : cX3_isDirectoryFull.data.toList.drop 0 = dktX3_isDirectoryFull_0 := by decide +kernel
theorem dX3_isDirectoryFull_0 : decode cX3_isDirectoryFull 0 = .ok (.aload_n 0, 1) := dk_42 (dk_at dksX3_isDirectoryFull_0 0 rfl rfl)
theorem dX3_isDirectoryFull_1 : decode cX3_isDirectoryFull 1 = .ok (.getfield 7, 3) := dk_180 0 7 (dk_at dksX3_isDirectoryFull_0 1 rfl rfl)
theorem dX3_isDirectoryFull_4 : decode cX3_isDirectoryFull 4 = .ok (.iconst 0, 1) := dk_3 (dk_at dksX3_isDirectoryFull_0 4 rfl rfl)
theorem dX3_isDirectoryFull_5 : decode cX3_isDirectoryFull 5 = .ok (.iaload, 1) := dk_46 (dk_at dksX3_isDirectoryFull_0 5 rfl rfl)
theorem dX3_isDirectoryFull_6 : decode cX3_isDirectoryFull 6 = .ok (.iconst 4, 1) := dk_7 (dk_at dksX3_isDirectoryFull_0 6 rfl rfl)
theorem dX3_isDirectoryFull_7 : decode cX3_isDirectoryFull 7 = .ok (.aload_n 0, 1) := dk_42 (dk_at dksX3_isDirectoryFull_0 7 rfl rfl)
theorem dX3_isDirectoryFull_8 : decode cX3_isDirectoryFull 8 = .ok (.getfield 7, 3) := dk_180 0 7 (dk_at dksX3_isDirectoryFull_0 8 rfl rfl)
theorem dX3_isDirectoryFull_11 : decode cX3_isDirectoryFull 11 = .ok (.iconst 1, 1) := dk_4 (dk_at dksX3_isDirectoryFull_0 11 rfl rfl)
theorem dX3_isDirectoryFull_12 : decode cX3_isDirectoryFull 12 = .ok (.iaload, 1) := dk_46 (dk_at dksX3_isDirectoryFull_0 12 rfl rfl)
theorem dX3_isDirectoryFull_13 : decode cX3_isDirectoryFull 13 = .ok (.imul, 1) := dk_104 (dk_at dksX3_isDirectoryFull_0 13 rfl rfl)
theorem dX3_isDirectoryFull_14 : decode cX3_isDirectoryFull 14 = .ok (.if_icmp .ne 7, 3) := dk_160 0 7 (dk_at dksX3_isDirectoryFull_0 14 rfl rfl)
theorem dX3_isDirectoryFull_17 : decode cX3_isDirectoryFull 17 = .ok (.iconst 1, 1) := dk_4 (dk_at dksX3_isDirectoryFull_0 17 rfl rfl)
theorem dX3_isDirectoryFull_18 : decode cX3_isDirectoryFull 18 = .ok (.goto 4, 3) := dk_167 0 4 (dk_at dksX3_isDirectoryFull_0 18 rfl rfl)
theorem dX3_isDirectoryFull_21 : decode cX3_isDirectoryFull 21 = .ok (.iconst 0, 1) := dk_3 (dk_at dksX3_isDirectoryFull_0 21 rfl rfl)
theorem dX3_isDirectoryFull_22 : decode cX3_isDirectoryFull 22 = .ok (.ireturn, 1) := dk_172 (dk_at dksX3_isDirectoryFull_0 22 rfl rfl)
def dkwX3_isRoomFor_0 : List UInt8 := [42, 180, 0, 7, 5, 46, 27, 96, 16, 100, 163, 0, 7, 4, 167, 0, 4, 3, 172]
abbrev dktX3_isRoomFor_0 : List UInt8 := dkwX3_isRoomFor_0 ++ []
theorem dksX3_isRoomFor_0 : cX3_isRoomFor.data.toList.drop 0 = dktX3_isRoomFor_0 := by decide +kernel
theorem dX3_isRoomFor_0 : decode cX3_isRoomFor 0 = .ok (.aload_n 0, 1) := dk_42 (dk_at dksX3_isRoomFor_0 0 rfl rfl)
theorem dX3_isRoomFor_1 : decode cX3_isRoomFor 1 = .ok (.getfield 7, 3) := dk_180 0 7 (dk_at dksX3_isRoomFor_0 1 rfl rfl)
theorem dX3_isRoomFor_4 : decode cX3_isRoomFor 4 = .ok (.iconst 2, 1) := dk_5 (dk_at dksX3_isRoomFor_0 4 rfl rfl)
theorem dX3_isRoomFor_5 : decode cX3_isRoomFor 5 = .ok (.iaload, 1) := dk_46 (dk_at dksX3_isRoomFor_0 5 rfl rfl)
theorem dX3_isRoomFor_6 : decode cX3_isRoomFor 6 = .ok (.iload_n 1, 1) := dk_27 (dk_at dksX3_isRoomFor_0 6 rfl rfl)
theorem dX3_isRoomFor_7 : decode cX3_isRoomFor 7 = .ok (.iadd, 1) := dk_96 (dk_at dksX3_isRoomFor_0 7 rfl rfl)
theorem dX3_isRoomFor_8 : decode cX3_isRoomFor 8 = .ok (.bipush 100, 2) := dk_16 100 (dk_at dksX3_isRoomFor_0 8 rfl rfl)
theorem dX3_isRoomFor_10 : decode cX3_isRoomFor 10 = .ok (.if_icmp .gt 7, 3) := dk_163 0 7 (dk_at dksX3_isRoomFor_0 10 rfl rfl)
theorem dX3_isRoomFor_13 : decode cX3_isRoomFor 13 = .ok (.iconst 1, 1) := dk_4 (dk_at dksX3_isRoomFor_0 13 rfl rfl)
theorem dX3_isRoomFor_14 : decode cX3_isRoomFor 14 = .ok (.goto 4, 3) := dk_167 0 4 (dk_at dksX3_isRoomFor_0 14 rfl rfl)
theorem dX3_isRoomFor_17 : decode cX3_isRoomFor 17 = .ok (.iconst 0, 1) := dk_3 (dk_at dksX3_isRoomFor_0 17 rfl rfl)
theorem dX3_isRoomFor_18 : decode cX3_isRoomFor 18 = .ok (.ireturn, 1) := dk_172 (dk_at dksX3_isRoomFor_0 18 rfl rfl)
def dkwX3_putsIn_4 : List UInt8 := [42, 27, 28, 42, 180, 0, 22, 28, 46, 182, 0, 42, 132, 2, 1, 167, 255, 235, 27, 172]
abbrev dktX3_putsIn_4 : List UInt8 := dkwX3_putsIn_4 ++ []
def dkwX3_putsIn_3 : List UInt8 := [132, 2, 255, 167, 255, 228, 42, 180, 0, 7, 3, 92, 46, 4, 96, 79, 3, 61, 28, 16, 6, 162, 0, 21]
abbrev dktX3_putsIn_3 : List UInt8 := dkwX3_putsIn_3 ++ dktX3_putsIn_4
def dkwX3_putsIn_2 : List UInt8 := [8, 16, 6, 27, 104, 96, 161, 0, 24, 42, 180, 0, 7, 28, 16, 6, 96, 42, 180, 0, 7, 28, 46, 79]
abbrev dktX3_putsIn_2 : List UInt8 := dkwX3_putsIn_2 ++ dktX3_putsIn_3
def dkwX3_putsIn_1 : List UInt8 := [162, 0, 9, 132, 1, 1, 167, 255, 228, 8, 16, 6, 42, 180, 0, 7, 3, 46, 104, 96, 4, 100, 61, 28]
abbrev dktX3_putsIn_1 : List UInt8 := dkwX3_putsIn_1 ++ dktX3_putsIn_2
def dkwX3_putsIn_0 : List UInt8 := [3, 60, 27, 42, 180, 0, 7, 3, 46, 162, 0, 24, 42, 27, 3, 182, 0, 38, 42, 180, 0, 22, 3, 46]
abbrev dktX3_putsIn_0 : List UInt8 := dkwX3_putsIn_0 ++ dktX3_putsIn_1
theorem dksX3_putsIn_0 : cX3_putsIn.data.toList.drop 0 = dktX3_putsIn_0 := by decide +kernel
theorem dksX3_putsIn_1 : cX3_putsIn.data.toList.drop 24 = dktX3_putsIn_1 := dk_seg dksX3_putsIn_0 24 rfl rfl
theorem dksX3_putsIn_2 : cX3_putsIn.data.toList.drop 48 = dktX3_putsIn_2 := dk_seg dksX3_putsIn_1 24 rfl rfl
theorem dksX3_putsIn_3 : cX3_putsIn.data.toList.drop 72 = dktX3_putsIn_3 := dk_seg dksX3_putsIn_2 24 rfl rfl
theorem dksX3_putsIn_4 : cX3_putsIn.data.toList.drop 96 = dktX3_putsIn_4 := dk_seg dksX3_putsIn_3 24 rfl rfl
theorem dX3_putsIn_0 : decode cX3_putsIn 0 = .ok (.iconst 0, 1) := dk_3 (dk_at dksX3_putsIn_0 0 rfl rfl)
theorem dX3_putsIn_1 : decode cX3_putsIn 1 = .ok (.istore_n 1, 1) := dk_60 (dk_at dksX3_putsIn_0 1 rfl rfl)
theorem dX3_putsIn_2 : decode cX3_putsIn 2 = .ok (.iload_n 1, 1) := dk_27 (dk_at dksX3_putsIn_0 2 rfl rfl)
theorem dX3_putsIn_3 : decode cX3_putsIn 3 = .ok (.aload_n 0, 1) := dk_42 (dk_at dksX3_putsIn_0 3 rfl rfl)
theorem dX3_putsIn_4 : decode cX3_putsIn 4 = .ok (.getfield 7, 3) := dk_180 0 7 (dk_at dksX3_putsIn_0 4 rfl rfl)
theorem dX3_putsIn_7 : decode cX3_putsIn 7 = .ok (.iconst 0, 1) := dk_3 (dk_at dksX3_putsIn_0 7 rfl rfl)
theorem dX3_putsIn_8 : decode cX3_putsIn 8 = .ok (.iaload, 1) := dk_46 (dk_at dksX3_putsIn_0 8 rfl rfl)
theorem dX3_putsIn_9 : decode cX3_putsIn 9 = .ok (.if_icmp .ge 24, 3) := dk_162 0 24 (dk_at dksX3_putsIn_0 9 rfl rfl)
theorem dX3_putsIn_12 : decode cX3_putsIn 12 = .ok (.aload_n 0, 1) := dk_42 (dk_at dksX3_putsIn_0 12 rfl rfl)
theorem dX3_putsIn_13 : decode cX3_putsIn 13 = .ok (.iload_n 1, 1) := dk_27 (dk_at dksX3_putsIn_0 13 rfl rfl)
theorem dX3_putsIn_14 : decode cX3_putsIn 14 = .ok (.iconst 0, 1) := dk_3 (dk_at dksX3_putsIn_0 14 rfl rfl)
theorem dX3_putsIn_15 : decode cX3_putsIn 15 = .ok (.invokevirtual 38, 3) := dk_182 0 38 (dk_at dksX3_putsIn_0 15 rfl rfl)
theorem dX3_putsIn_18 : decode cX3_putsIn 18 = .ok (.aload_n 0, 1) := dk_42 (dk_at dksX3_putsIn_0 18 rfl rfl)
theorem dX3_putsIn_19 : decode cX3_putsIn 19 = .ok (.getfield 22, 3) := dk_180 0 22 (dk_at dksX3_putsIn_0 19 rfl rfl)
theorem dX3_putsIn_22 : decode cX3_putsIn 22 = .ok (.iconst 0, 1) := dk_3 (dk_at dksX3_putsIn_0 22 rfl rfl)
theorem dX3_putsIn_23 : decode cX3_putsIn 23 = .ok (.iaload, 1) := dk_46 (dk_at dksX3_putsIn_0 23 rfl rfl)
theorem dX3_putsIn_24 : decode cX3_putsIn 24 = .ok (.if_icmp .ge 9, 3) := dk_162 0 9 (dk_at dksX3_putsIn_1 0 rfl rfl)
theorem dX3_putsIn_27 : decode cX3_putsIn 27 = .ok (.iinc 1 1, 3) := dk_132 1 1 (dk_at dksX3_putsIn_1 3 rfl rfl)
theorem dX3_putsIn_30 : decode cX3_putsIn 30 = .ok (.goto (-28), 3) := dk_167 255 228 (dk_at dksX3_putsIn_1 6 rfl rfl)
theorem dX3_putsIn_33 : decode cX3_putsIn 33 = .ok (.iconst 5, 1) := dk_8 (dk_at dksX3_putsIn_1 9 rfl rfl)
theorem dX3_putsIn_34 : decode cX3_putsIn 34 = .ok (.bipush 6, 2) := dk_16 6 (dk_at dksX3_putsIn_1 10 rfl rfl)
theorem dX3_putsIn_36 : decode cX3_putsIn 36 = .ok (.aload_n 0, 1) := dk_42 (dk_at dksX3_putsIn_1 12 rfl rfl)
theorem dX3_putsIn_37 : decode cX3_putsIn 37 = .ok (.getfield 7, 3) := dk_180 0 7 (dk_at dksX3_putsIn_1 13 rfl rfl)
theorem dX3_putsIn_40 : decode cX3_putsIn 40 = .ok (.iconst 0, 1) := dk_3 (dk_at dksX3_putsIn_1 16 rfl rfl)
theorem dX3_putsIn_41 : decode cX3_putsIn 41 = .ok (.iaload, 1) := dk_46 (dk_at dksX3_putsIn_1 17 rfl rfl)
theorem dX3_putsIn_42 : decode cX3_putsIn 42 = .ok (.imul, 1) := dk_104 (dk_at dksX3_putsIn_1 18 rfl rfl)
theorem dX3_putsIn_43 : decode cX3_putsIn 43 = .ok (.iadd, 1) := dk_96 (dk_at dksX3_putsIn_1 19 rfl rfl)
theorem dX3_putsIn_44 : decode cX3_putsIn 44 = .ok (.iconst 1, 1) := dk_4 (dk_at dksX3_putsIn_1 20 rfl rfl)
theorem dX3_putsIn_45 : decode cX3_putsIn 45 = .ok (.isub, 1) := dk_100 (dk_at dksX3_putsIn_1 21 rfl rfl)
theorem dX3_putsIn_46 : decode cX3_putsIn 46 = .ok (.istore_n 2, 1) := dk_61 (dk_at dksX3_putsIn_1 22 rfl rfl)
theorem dX3_putsIn_47 : decode cX3_putsIn 47 = .ok (.iload_n 2, 1) := dk_28 (dk_at dksX3_putsIn_1 23 rfl rfl)
theorem dX3_putsIn_48 : decode cX3_putsIn 48 = .ok (.iconst 5, 1) := dk_8 (dk_at dksX3_putsIn_2 0 rfl rfl)
theorem dX3_putsIn_49 : decode cX3_putsIn 49 = .ok (.bipush 6, 2) := dk_16 6 (dk_at dksX3_putsIn_2 1 rfl rfl)
theorem dX3_putsIn_51 : decode cX3_putsIn 51 = .ok (.iload_n 1, 1) := dk_27 (dk_at dksX3_putsIn_2 3 rfl rfl)
theorem dX3_putsIn_52 : decode cX3_putsIn 52 = .ok (.imul, 1) := dk_104 (dk_at dksX3_putsIn_2 4 rfl rfl)
theorem dX3_putsIn_53 : decode cX3_putsIn 53 = .ok (.iadd, 1) := dk_96 (dk_at dksX3_putsIn_2 5 rfl rfl)
theorem dX3_putsIn_54 : decode cX3_putsIn 54 = .ok (.if_icmp .lt 24, 3) := dk_161 0 24 (dk_at dksX3_putsIn_2 6 rfl rfl)
theorem dX3_putsIn_57 : decode cX3_putsIn 57 = .ok (.aload_n 0, 1) := dk_42 (dk_at dksX3_putsIn_2 9 rfl rfl)
theorem dX3_putsIn_58 : decode cX3_putsIn 58 = .ok (.getfield 7, 3) := dk_180 0 7 (dk_at dksX3_putsIn_2 10 rfl rfl)
theorem dX3_putsIn_61 : decode cX3_putsIn 61 = .ok (.iload_n 2, 1) := dk_28 (dk_at dksX3_putsIn_2 13 rfl rfl)
theorem dX3_putsIn_62 : decode cX3_putsIn 62 = .ok (.bipush 6, 2) := dk_16 6 (dk_at dksX3_putsIn_2 14 rfl rfl)
theorem dX3_putsIn_64 : decode cX3_putsIn 64 = .ok (.iadd, 1) := dk_96 (dk_at dksX3_putsIn_2 16 rfl rfl)
theorem dX3_putsIn_65 : decode cX3_putsIn 65 = .ok (.aload_n 0, 1) := dk_42 (dk_at dksX3_putsIn_2 17 rfl rfl)
theorem dX3_putsIn_66 : decode cX3_putsIn 66 = .ok (.getfield 7, 3) := dk_180 0 7 (dk_at dksX3_putsIn_2 18 rfl rfl)
theorem dX3_putsIn_69 : decode cX3_putsIn 69 = .ok (.iload_n 2, 1) := dk_28 (dk_at dksX3_putsIn_2 21 rfl rfl)
theorem dX3_putsIn_70 : decode cX3_putsIn 70 = .ok (.iaload, 1) := dk_46 (dk_at dksX3_putsIn_2 22 rfl rfl)
theorem dX3_putsIn_71 : decode cX3_putsIn 71 = .ok (.iastore, 1) := dk_79 (dk_at dksX3_putsIn_2 23 rfl rfl)
theorem dX3_putsIn_72 : decode cX3_putsIn 72 = .ok (.iinc 2 (-1), 3) := dk_132 2 255 (dk_at dksX3_putsIn_3 0 rfl rfl)
theorem dX3_putsIn_75 : decode cX3_putsIn 75 = .ok (.goto (-28), 3) := dk_167 255 228 (dk_at dksX3_putsIn_3 3 rfl rfl)
theorem dX3_putsIn_78 : decode cX3_putsIn 78 = .ok (.aload_n 0, 1) := dk_42 (dk_at dksX3_putsIn_3 6 rfl rfl)
theorem dX3_putsIn_79 : decode cX3_putsIn 79 = .ok (.getfield 7, 3) := dk_180 0 7 (dk_at dksX3_putsIn_3 7 rfl rfl)
theorem dX3_putsIn_82 : decode cX3_putsIn 82 = .ok (.iconst 0, 1) := dk_3 (dk_at dksX3_putsIn_3 10 rfl rfl)
theorem dX3_putsIn_83 : decode cX3_putsIn 83 = .ok (.dup2, 1) := dk_92 (dk_at dksX3_putsIn_3 11 rfl rfl)
theorem dX3_putsIn_84 : decode cX3_putsIn 84 = .ok (.iaload, 1) := dk_46 (dk_at dksX3_putsIn_3 12 rfl rfl)
theorem dX3_putsIn_85 : decode cX3_putsIn 85 = .ok (.iconst 1, 1) := dk_4 (dk_at dksX3_putsIn_3 13 rfl rfl)
theorem dX3_putsIn_86 : decode cX3_putsIn 86 = .ok (.iadd, 1) := dk_96 (dk_at dksX3_putsIn_3 14 rfl rfl)
theorem dX3_putsIn_87 : decode cX3_putsIn 87 = .ok (.iastore, 1) := dk_79 (dk_at dksX3_putsIn_3 15 rfl rfl)
theorem dX3_putsIn_88 : decode cX3_putsIn 88 = .ok (.iconst 0, 1) := dk_3 (dk_at dksX3_putsIn_3 16 rfl rfl)
theorem dX3_putsIn_89 : decode cX3_putsIn 89 = .ok (.istore_n 2, 1) := dk_61 (dk_at dksX3_putsIn_3 17 rfl rfl)
theorem dX3_putsIn_90 : decode cX3_putsIn 90 = .ok (.iload_n 2, 1) := dk_28 (dk_at dksX3_putsIn_3 18 rfl rfl)
theorem dX3_putsIn_91 : decode cX3_putsIn 91 = .ok (.bipush 6, 2) := dk_16 6 (dk_at dksX3_putsIn_3 19 rfl rfl)
theorem dX3_putsIn_93 : decode cX3_putsIn 93 = .ok (.if_icmp .ge 21, 3) := dk_162 0 21 (dk_at dksX3_putsIn_3 21 rfl rfl)
theorem dX3_putsIn_96 : decode cX3_putsIn 96 = .ok (.aload_n 0, 1) := dk_42 (dk_at dksX3_putsIn_4 0 rfl rfl)
theorem dX3_putsIn_97 : decode cX3_putsIn 97 = .ok (.iload_n 1, 1) := dk_27 (dk_at dksX3_putsIn_4 1 rfl rfl)
theorem dX3_putsIn_98 : decode cX3_putsIn 98 = .ok (.iload_n 2, 1) := dk_28 (dk_at dksX3_putsIn_4 2 rfl rfl)
theorem dX3_putsIn_99 : decode cX3_putsIn 99 = .ok (.aload_n 0, 1) := dk_42 (dk_at dksX3_putsIn_4 3 rfl rfl)
theorem dX3_putsIn_100 : decode cX3_putsIn 100 = .ok (.getfield 22, 3) := dk_180 0 22 (dk_at dksX3_putsIn_4 4 rfl rfl)
theorem dX3_putsIn_103 : decode cX3_putsIn 103 = .ok (.iload_n 2, 1) := dk_28 (dk_at dksX3_putsIn_4 7 rfl rfl)
theorem dX3_putsIn_104 : decode cX3_putsIn 104 = .ok (.iaload, 1) := dk_46 (dk_at dksX3_putsIn_4 8 rfl rfl)
theorem dX3_putsIn_105 : decode cX3_putsIn 105 = .ok (.invokevirtual 42, 3) := dk_182 0 42 (dk_at dksX3_putsIn_4 9 rfl rfl)
theorem dX3_putsIn_108 : decode cX3_putsIn 108 = .ok (.iinc 2 1, 3) := dk_132 2 1 (dk_at dksX3_putsIn_4 12 rfl rfl)
theorem dX3_putsIn_111 : decode cX3_putsIn 111 = .ok (.goto (-21), 3) := dk_167 255 235 (dk_at dksX3_putsIn_4 15 rfl rfl)
theorem dX3_putsIn_114 : decode cX3_putsIn 114 = .ok (.iload_n 1, 1) := dk_27 (dk_at dksX3_putsIn_4 18 rfl rfl)
theorem dX3_putsIn_115 : decode cX3_putsIn 115 = .ok (.ireturn, 1) := dk_172 (dk_at dksX3_putsIn_4 19 rfl rfl)
def dkwX3_sets_0 : List UInt8 := [42, 180, 0, 7, 8, 16, 6, 27, 104, 96, 28, 96, 29, 79, 177]
abbrev dktX3_sets_0 : List UInt8 := dkwX3_sets_0 ++ []
theorem dksX3_sets_0 : cX3_sets.data.toList.drop 0 = dktX3_sets_0 := by decide +kernel
theorem dX3_sets_0 : decode cX3_sets 0 = .ok (.aload_n 0, 1) := dk_42 (dk_at dksX3_sets_0 0 rfl rfl)
theorem dX3_sets_1 : decode cX3_sets 1 = .ok (.getfield 7, 3) := dk_180 0 7 (dk_at dksX3_sets_0 1 rfl rfl)
theorem dX3_sets_4 : decode cX3_sets 4 = .ok (.iconst 5, 1) := dk_8 (dk_at dksX3_sets_0 4 rfl rfl)
theorem dX3_sets_5 : decode cX3_sets 5 = .ok (.bipush 6, 2) := dk_16 6 (dk_at dksX3_sets_0 5 rfl rfl)
theorem dX3_sets_7 : decode cX3_sets 7 = .ok (.iload_n 1, 1) := dk_27 (dk_at dksX3_sets_0 7 rfl rfl)
theorem dX3_sets_8 : decode cX3_sets 8 = .ok (.imul, 1) := dk_104 (dk_at dksX3_sets_0 8 rfl rfl)
theorem dX3_sets_9 : decode cX3_sets 9 = .ok (.iadd, 1) := dk_96 (dk_at dksX3_sets_0 9 rfl rfl)
theorem dX3_sets_10 : decode cX3_sets 10 = .ok (.iload_n 2, 1) := dk_28 (dk_at dksX3_sets_0 10 rfl rfl)
theorem dX3_sets_11 : decode cX3_sets 11 = .ok (.iadd, 1) := dk_96 (dk_at dksX3_sets_0 11 rfl rfl)
theorem dX3_sets_12 : decode cX3_sets 12 = .ok (.iload_n 3, 1) := dk_29 (dk_at dksX3_sets_0 12 rfl rfl)
theorem dX3_sets_13 : decode cX3_sets 13 = .ok (.iastore, 1) := dk_79 (dk_at dksX3_sets_0 13 rfl rfl)
theorem dX3_sets_14 : decode cX3_sets 14 = .ok (.return_, 1) := dk_177 (dk_at dksX3_sets_0 14 rfl rfl)
def dkwX3_laysText_1 : List UInt8 := [182, 0, 42, 42, 180, 0, 7, 5, 92, 46, 28, 96, 79, 177]
abbrev dktX3_laysText_1 : List UInt8 := dkwX3_laysText_1 ++ []
def dkwX3_laysText_0 : List UInt8 := [42, 27, 5, 42, 180, 0, 7, 5, 46, 182, 0, 42, 42, 27, 6, 28, 182, 0, 42, 42, 27, 7, 29]
abbrev dktX3_laysText_0 : List UInt8 := dkwX3_laysText_0 ++ dktX3_laysText_1
theorem dksX3_laysText_0 : cX3_laysText.data.toList.drop 0 = dktX3_laysText_0 := by decide +kernel
theorem dksX3_laysText_1 : cX3_laysText.data.toList.drop 23 = dktX3_laysText_1 := dk_seg dksX3_laysText_0 23 rfl rfl
theorem dX3_laysText_0 : decode cX3_laysText 0 = .ok (.aload_n 0, 1) := dk_42 (dk_at dksX3_laysText_0 0 rfl rfl)
theorem dX3_laysText_1 : decode cX3_laysText 1 = .ok (.iload_n 1, 1) := dk_27 (dk_at dksX3_laysText_0 1 rfl rfl)
theorem dX3_laysText_2 : decode cX3_laysText 2 = .ok (.iconst 2, 1) := dk_5 (dk_at dksX3_laysText_0 2 rfl rfl)
theorem dX3_laysText_3 : decode cX3_laysText 3 = .ok (.aload_n 0, 1) := dk_42 (dk_at dksX3_laysText_0 3 rfl rfl)
theorem dX3_laysText_4 : decode cX3_laysText 4 = .ok (.getfield 7, 3) := dk_180 0 7 (dk_at dksX3_laysText_0 4 rfl rfl)
theorem dX3_laysText_7 : decode cX3_laysText 7 = .ok (.iconst 2, 1) := dk_5 (dk_at dksX3_laysText_0 7 rfl rfl)
theorem dX3_laysText_8 : decode cX3_laysText 8 = .ok (.iaload, 1) := dk_46 (dk_at dksX3_laysText_0 8 rfl rfl)
theorem dX3_laysText_9 : decode cX3_laysText 9 = .ok (.invokevirtual 42, 3) := dk_182 0 42 (dk_at dksX3_laysText_0 9 rfl rfl)
theorem dX3_laysText_12 : decode cX3_laysText 12 = .ok (.aload_n 0, 1) := dk_42 (dk_at dksX3_laysText_0 12 rfl rfl)
theorem dX3_laysText_13 : decode cX3_laysText 13 = .ok (.iload_n 1, 1) := dk_27 (dk_at dksX3_laysText_0 13 rfl rfl)
theorem dX3_laysText_14 : decode cX3_laysText 14 = .ok (.iconst 3, 1) := dk_6 (dk_at dksX3_laysText_0 14 rfl rfl)
theorem dX3_laysText_15 : decode cX3_laysText 15 = .ok (.iload_n 2, 1) := dk_28 (dk_at dksX3_laysText_0 15 rfl rfl)
theorem dX3_laysText_16 : decode cX3_laysText 16 = .ok (.invokevirtual 42, 3) := dk_182 0 42 (dk_at dksX3_laysText_0 16 rfl rfl)
theorem dX3_laysText_19 : decode cX3_laysText 19 = .ok (.aload_n 0, 1) := dk_42 (dk_at dksX3_laysText_0 19 rfl rfl)
theorem dX3_laysText_20 : decode cX3_laysText 20 = .ok (.iload_n 1, 1) := dk_27 (dk_at dksX3_laysText_0 20 rfl rfl)
theorem dX3_laysText_21 : decode cX3_laysText 21 = .ok (.iconst 4, 1) := dk_7 (dk_at dksX3_laysText_0 21 rfl rfl)
theorem dX3_laysText_22 : decode cX3_laysText 22 = .ok (.iload_n 3, 1) := dk_29 (dk_at dksX3_laysText_0 22 rfl rfl)
theorem dX3_laysText_23 : decode cX3_laysText 23 = .ok (.invokevirtual 42, 3) := dk_182 0 42 (dk_at dksX3_laysText_1 0 rfl rfl)
theorem dX3_laysText_26 : decode cX3_laysText 26 = .ok (.aload_n 0, 1) := dk_42 (dk_at dksX3_laysText_1 3 rfl rfl)
theorem dX3_laysText_27 : decode cX3_laysText 27 = .ok (.getfield 7, 3) := dk_180 0 7 (dk_at dksX3_laysText_1 4 rfl rfl)
theorem dX3_laysText_30 : decode cX3_laysText 30 = .ok (.iconst 2, 1) := dk_5 (dk_at dksX3_laysText_1 7 rfl rfl)
theorem dX3_laysText_31 : decode cX3_laysText 31 = .ok (.dup2, 1) := dk_92 (dk_at dksX3_laysText_1 8 rfl rfl)
theorem dX3_laysText_32 : decode cX3_laysText 32 = .ok (.iaload, 1) := dk_46 (dk_at dksX3_laysText_1 9 rfl rfl)
theorem dX3_laysText_33 : decode cX3_laysText 33 = .ok (.iload_n 2, 1) := dk_28 (dk_at dksX3_laysText_1 10 rfl rfl)
theorem dX3_laysText_34 : decode cX3_laysText 34 = .ok (.iadd, 1) := dk_96 (dk_at dksX3_laysText_1 11 rfl rfl)
theorem dX3_laysText_35 : decode cX3_laysText 35 = .ok (.iastore, 1) := dk_79 (dk_at dksX3_laysText_1 12 rfl rfl)
theorem dX3_laysText_36 : decode cX3_laysText 36 = .ok (.return_, 1) := dk_177 (dk_at dksX3_laysText_1 13 rfl rfl)
def dkwX3_acted_4 : List UInt8 := [181, 0, 28, 27, 172]
abbrev dktX3_acted_4 : List UInt8 := dkwX3_acted_4 ++ []
def dkwX3_acted_3 : List UInt8 := [28, 96, 42, 180, 0, 13, 28, 46, 79, 132, 2, 1, 167, 255, 225, 42, 89, 180, 0, 28, 4, 96]
abbrev dktX3_acted_3 : List UInt8 := dkwX3_acted_3 ++ dktX3_acted_4
def dkwX3_acted_2 : List UInt8 := [181, 0, 28, 3, 61, 28, 17, 0, 149, 162, 0, 30, 42, 180, 0, 16, 17, 0, 149, 42, 180, 0, 28, 104]
abbrev dktX3_acted_2 : List UInt8 := dkwX3_acted_2 ++ dktX3_acted_3
def dkwX3_acted_1 : List UInt8 := [180, 0, 16, 28, 17, 0, 149, 96, 46, 79, 132, 2, 1, 167, 255, 230, 42, 89, 180, 0, 28, 4, 100]
abbrev dktX3_acted_1 : List UInt8 := dkwX3_acted_1 ++ dktX3_acted_2
def dkwX3_acted_0 : List UInt8 := [42, 180, 0, 28, 7, 160, 0, 44, 3, 61, 28, 17, 1, 191, 162, 0, 25, 42, 180, 0, 16, 28, 42]
abbrev dktX3_acted_0 : List UInt8 := dkwX3_acted_0 ++ dktX3_acted_1
theorem dksX3_acted_0 : cX3_acted.data.toList.drop 0 = dktX3_acted_0 := by decide +kernel
theorem dksX3_acted_1 : cX3_acted.data.toList.drop 23 = dktX3_acted_1 := dk_seg dksX3_acted_0 23 rfl rfl
theorem dksX3_acted_2 : cX3_acted.data.toList.drop 46 = dktX3_acted_2 := dk_seg dksX3_acted_1 23 rfl rfl
theorem dksX3_acted_3 : cX3_acted.data.toList.drop 70 = dktX3_acted_3 := dk_seg dksX3_acted_2 24 rfl rfl
theorem dksX3_acted_4 : cX3_acted.data.toList.drop 92 = dktX3_acted_4 := dk_seg dksX3_acted_3 22 rfl rfl
theorem dX3_acted_0 : decode cX3_acted 0 = .ok (.aload_n 0, 1) := dk_42 (dk_at dksX3_acted_0 0 rfl rfl)
theorem dX3_acted_1 : decode cX3_acted 1 = .ok (.getfield 28, 3) := dk_180 0 28 (dk_at dksX3_acted_0 1 rfl rfl)
theorem dX3_acted_4 : decode cX3_acted 4 = .ok (.iconst 4, 1) := dk_7 (dk_at dksX3_acted_0 4 rfl rfl)
theorem dX3_acted_5 : decode cX3_acted 5 = .ok (.if_icmp .ne 44, 3) := dk_160 0 44 (dk_at dksX3_acted_0 5 rfl rfl)
theorem dX3_acted_8 : decode cX3_acted 8 = .ok (.iconst 0, 1) := dk_3 (dk_at dksX3_acted_0 8 rfl rfl)
theorem dX3_acted_9 : decode cX3_acted 9 = .ok (.istore_n 2, 1) := dk_61 (dk_at dksX3_acted_0 9 rfl rfl)
theorem dX3_acted_10 : decode cX3_acted 10 = .ok (.iload_n 2, 1) := dk_28 (dk_at dksX3_acted_0 10 rfl rfl)
theorem dX3_acted_11 : decode cX3_acted 11 = .ok (.sipush 447, 3) := dk_17 1 191 (dk_at dksX3_acted_0 11 rfl rfl)
theorem dX3_acted_14 : decode cX3_acted 14 = .ok (.if_icmp .ge 25, 3) := dk_162 0 25 (dk_at dksX3_acted_0 14 rfl rfl)
theorem dX3_acted_17 : decode cX3_acted 17 = .ok (.aload_n 0, 1) := dk_42 (dk_at dksX3_acted_0 17 rfl rfl)
theorem dX3_acted_18 : decode cX3_acted 18 = .ok (.getfield 16, 3) := dk_180 0 16 (dk_at dksX3_acted_0 18 rfl rfl)
theorem dX3_acted_21 : decode cX3_acted 21 = .ok (.iload_n 2, 1) := dk_28 (dk_at dksX3_acted_0 21 rfl rfl)
theorem dX3_acted_22 : decode cX3_acted 22 = .ok (.aload_n 0, 1) := dk_42 (dk_at dksX3_acted_0 22 rfl rfl)
theorem dX3_acted_23 : decode cX3_acted 23 = .ok (.getfield 16, 3) := dk_180 0 16 (dk_at dksX3_acted_1 0 rfl rfl)
theorem dX3_acted_26 : decode cX3_acted 26 = .ok (.iload_n 2, 1) := dk_28 (dk_at dksX3_acted_1 3 rfl rfl)
theorem dX3_acted_27 : decode cX3_acted 27 = .ok (.sipush 149, 3) := dk_17 0 149 (dk_at dksX3_acted_1 4 rfl rfl)
theorem dX3_acted_30 : decode cX3_acted 30 = .ok (.iadd, 1) := dk_96 (dk_at dksX3_acted_1 7 rfl rfl)
theorem dX3_acted_31 : decode cX3_acted 31 = .ok (.iaload, 1) := dk_46 (dk_at dksX3_acted_1 8 rfl rfl)
theorem dX3_acted_32 : decode cX3_acted 32 = .ok (.iastore, 1) := dk_79 (dk_at dksX3_acted_1 9 rfl rfl)
theorem dX3_acted_33 : decode cX3_acted 33 = .ok (.iinc 2 1, 3) := dk_132 2 1 (dk_at dksX3_acted_1 10 rfl rfl)
theorem dX3_acted_36 : decode cX3_acted 36 = .ok (.goto (-26), 3) := dk_167 255 230 (dk_at dksX3_acted_1 13 rfl rfl)
theorem dX3_acted_39 : decode cX3_acted 39 = .ok (.aload_n 0, 1) := dk_42 (dk_at dksX3_acted_1 16 rfl rfl)
theorem dX3_acted_40 : decode cX3_acted 40 = .ok (.dup, 1) := dk_89 (dk_at dksX3_acted_1 17 rfl rfl)
theorem dX3_acted_41 : decode cX3_acted 41 = .ok (.getfield 28, 3) := dk_180 0 28 (dk_at dksX3_acted_1 18 rfl rfl)
theorem dX3_acted_44 : decode cX3_acted 44 = .ok (.iconst 1, 1) := dk_4 (dk_at dksX3_acted_1 21 rfl rfl)
theorem dX3_acted_45 : decode cX3_acted 45 = .ok (.isub, 1) := dk_100 (dk_at dksX3_acted_1 22 rfl rfl)
theorem dX3_acted_46 : decode cX3_acted 46 = .ok (.putfield 28, 3) := dk_181 0 28 (dk_at dksX3_acted_2 0 rfl rfl)
theorem dX3_acted_49 : decode cX3_acted 49 = .ok (.iconst 0, 1) := dk_3 (dk_at dksX3_acted_2 3 rfl rfl)
theorem dX3_acted_50 : decode cX3_acted 50 = .ok (.istore_n 2, 1) := dk_61 (dk_at dksX3_acted_2 4 rfl rfl)
theorem dX3_acted_51 : decode cX3_acted 51 = .ok (.iload_n 2, 1) := dk_28 (dk_at dksX3_acted_2 5 rfl rfl)
theorem dX3_acted_52 : decode cX3_acted 52 = .ok (.sipush 149, 3) := dk_17 0 149 (dk_at dksX3_acted_2 6 rfl rfl)
theorem dX3_acted_55 : decode cX3_acted 55 = .ok (.if_icmp .ge 30, 3) := dk_162 0 30 (dk_at dksX3_acted_2 9 rfl rfl)
theorem dX3_acted_58 : decode cX3_acted 58 = .ok (.aload_n 0, 1) := dk_42 (dk_at dksX3_acted_2 12 rfl rfl)
theorem dX3_acted_59 : decode cX3_acted 59 = .ok (.getfield 16, 3) := dk_180 0 16 (dk_at dksX3_acted_2 13 rfl rfl)
theorem dX3_acted_62 : decode cX3_acted 62 = .ok (.sipush 149, 3) := dk_17 0 149 (dk_at dksX3_acted_2 16 rfl rfl)
theorem dX3_acted_65 : decode cX3_acted 65 = .ok (.aload_n 0, 1) := dk_42 (dk_at dksX3_acted_2 19 rfl rfl)
theorem dX3_acted_66 : decode cX3_acted 66 = .ok (.getfield 28, 3) := dk_180 0 28 (dk_at dksX3_acted_2 20 rfl rfl)
theorem dX3_acted_69 : decode cX3_acted 69 = .ok (.imul, 1) := dk_104 (dk_at dksX3_acted_2 23 rfl rfl)
theorem dX3_acted_70 : decode cX3_acted 70 = .ok (.iload_n 2, 1) := dk_28 (dk_at dksX3_acted_3 0 rfl rfl)
theorem dX3_acted_71 : decode cX3_acted 71 = .ok (.iadd, 1) := dk_96 (dk_at dksX3_acted_3 1 rfl rfl)
theorem dX3_acted_72 : decode cX3_acted 72 = .ok (.aload_n 0, 1) := dk_42 (dk_at dksX3_acted_3 2 rfl rfl)
theorem dX3_acted_73 : decode cX3_acted 73 = .ok (.getfield 13, 3) := dk_180 0 13 (dk_at dksX3_acted_3 3 rfl rfl)
theorem dX3_acted_76 : decode cX3_acted 76 = .ok (.iload_n 2, 1) := dk_28 (dk_at dksX3_acted_3 6 rfl rfl)
theorem dX3_acted_77 : decode cX3_acted 77 = .ok (.iaload, 1) := dk_46 (dk_at dksX3_acted_3 7 rfl rfl)
theorem dX3_acted_78 : decode cX3_acted 78 = .ok (.iastore, 1) := dk_79 (dk_at dksX3_acted_3 8 rfl rfl)
theorem dX3_acted_79 : decode cX3_acted 79 = .ok (.iinc 2 1, 3) := dk_132 2 1 (dk_at dksX3_acted_3 9 rfl rfl)
theorem dX3_acted_82 : decode cX3_acted 82 = .ok (.goto (-31), 3) := dk_167 255 225 (dk_at dksX3_acted_3 12 rfl rfl)
theorem dX3_acted_85 : decode cX3_acted 85 = .ok (.aload_n 0, 1) := dk_42 (dk_at dksX3_acted_3 15 rfl rfl)
theorem dX3_acted_86 : decode cX3_acted 86 = .ok (.dup, 1) := dk_89 (dk_at dksX3_acted_3 16 rfl rfl)
theorem dX3_acted_87 : decode cX3_acted 87 = .ok (.getfield 28, 3) := dk_180 0 28 (dk_at dksX3_acted_3 17 rfl rfl)
theorem dX3_acted_90 : decode cX3_acted 90 = .ok (.iconst 1, 1) := dk_4 (dk_at dksX3_acted_3 20 rfl rfl)
theorem dX3_acted_91 : decode cX3_acted 91 = .ok (.iadd, 1) := dk_96 (dk_at dksX3_acted_3 21 rfl rfl)
theorem dX3_acted_92 : decode cX3_acted 92 = .ok (.putfield 28, 3) := dk_181 0 28 (dk_at dksX3_acted_4 0 rfl rfl)
theorem dX3_acted_95 : decode cX3_acted 95 = .ok (.iload_n 1, 1) := dk_27 (dk_at dksX3_acted_4 3 rfl rfl)
theorem dX3_acted_96 : decode cX3_acted 96 = .ok (.ireturn, 1) := dk_172 (dk_at dksX3_acted_4 4 rfl rfl)
def dkwX3_replace_3 : List UInt8 := [21, 4, 5, 182, 0, 38, 182, 0, 89, 172]
abbrev dktX3_replace_3 : List UInt8 := dkwX3_replace_3 ++ []
def dkwX3_replace_2 : List UInt8 := [182, 0, 68, 154, 0, 6, 16, 253, 172, 42, 182, 0, 82, 42, 21, 4, 28, 29, 182, 0, 75, 42, 42]
abbrev dktX3_replace_2 : List UInt8 := dkwX3_replace_2 ++ dktX3_replace_3
def dkwX3_replace_1 : List UInt8 := [184, 0, 34, 153, 0, 15, 29, 133, 9, 20, 0, 62, 184, 0, 34, 154, 0, 6, 16, 254, 172, 42, 28]
abbrev dktX3_replace_1 : List UInt8 := dkwX3_replace_1 ++ dktX3_replace_2
def dkwX3_replace_0 : List UInt8 := [42, 27, 182, 0, 50, 54, 4, 42, 21, 4, 182, 0, 53, 154, 0, 5, 2, 172, 28, 133, 10, 20, 0, 60]
abbrev dktX3_replace_0 : List UInt8 := dkwX3_replace_0 ++ dktX3_replace_1
theorem dksX3_replace_0 : cX3_replace.data.toList.drop 0 = dktX3_replace_0 := by decide +kernel
theorem dksX3_replace_1 : cX3_replace.data.toList.drop 24 = dktX3_replace_1 := dk_seg dksX3_replace_0 24 rfl rfl
theorem dksX3_replace_2 : cX3_replace.data.toList.drop 47 = dktX3_replace_2 := dk_seg dksX3_replace_1 23 rfl rfl
theorem dksX3_replace_3 : cX3_replace.data.toList.drop 70 = dktX3_replace_3 := dk_seg dksX3_replace_2 23 rfl rfl
theorem dX3_replace_0 : decode cX3_replace 0 = .ok (.aload_n 0, 1) := dk_42 (dk_at dksX3_replace_0 0 rfl rfl)
theorem dX3_replace_1 : decode cX3_replace 1 = .ok (.iload_n 1, 1) := dk_27 (dk_at dksX3_replace_0 1 rfl rfl)
theorem dX3_replace_2 : decode cX3_replace 2 = .ok (.invokevirtual 50, 3) := dk_182 0 50 (dk_at dksX3_replace_0 2 rfl rfl)
theorem dX3_replace_5 : decode cX3_replace 5 = .ok (.istore 4, 2) := dk_54 4 (dk_at dksX3_replace_0 5 rfl rfl)
theorem dX3_replace_7 : decode cX3_replace 7 = .ok (.aload_n 0, 1) := dk_42 (dk_at dksX3_replace_0 7 rfl rfl)
theorem dX3_replace_8 : decode cX3_replace 8 = .ok (.iload 4, 2) := dk_21 4 (dk_at dksX3_replace_0 8 rfl rfl)
theorem dX3_replace_10 : decode cX3_replace 10 = .ok (.invokevirtual 53, 3) := dk_182 0 53 (dk_at dksX3_replace_0 10 rfl rfl)
theorem dX3_replace_13 : decode cX3_replace 13 = .ok (.ifCond .ne 5, 3) := dk_154 0 5 (dk_at dksX3_replace_0 13 rfl rfl)
theorem dX3_replace_16 : decode cX3_replace 16 = .ok (.iconst (-1), 1) := dk_2 (dk_at dksX3_replace_0 16 rfl rfl)
theorem dX3_replace_17 : decode cX3_replace 17 = .ok (.ireturn, 1) := dk_172 (dk_at dksX3_replace_0 17 rfl rfl)
theorem dX3_replace_18 : decode cX3_replace 18 = .ok (.iload_n 2, 1) := dk_28 (dk_at dksX3_replace_0 18 rfl rfl)
theorem dX3_replace_19 : decode cX3_replace 19 = .ok (.i2l, 1) := dk_133 (dk_at dksX3_replace_0 19 rfl rfl)
theorem dX3_replace_20 : decode cX3_replace 20 = .ok (.lconst 1, 1) := dk_10 (dk_at dksX3_replace_0 20 rfl rfl)
theorem dX3_replace_21 : decode cX3_replace 21 = .ok (.ldc2_w 60, 3) := dk_20 0 60 (dk_at dksX3_replace_0 21 rfl rfl)
theorem dX3_replace_24 : decode cX3_replace 24 = .ok (.invokestatic 34, 3) := dk_184 0 34 (dk_at dksX3_replace_1 0 rfl rfl)
theorem dX3_replace_27 : decode cX3_replace 27 = .ok (.ifCond .eq 15, 3) := dk_153 0 15 (dk_at dksX3_replace_1 3 rfl rfl)
theorem dX3_replace_30 : decode cX3_replace 30 = .ok (.iload_n 3, 1) := dk_29 (dk_at dksX3_replace_1 6 rfl rfl)
theorem dX3_replace_31 : decode cX3_replace 31 = .ok (.i2l, 1) := dk_133 (dk_at dksX3_replace_1 7 rfl rfl)
theorem dX3_replace_32 : decode cX3_replace 32 = .ok (.lconst 0, 1) := dk_9 (dk_at dksX3_replace_1 8 rfl rfl)
theorem dX3_replace_33 : decode cX3_replace 33 = .ok (.ldc2_w 62, 3) := dk_20 0 62 (dk_at dksX3_replace_1 9 rfl rfl)
theorem dX3_replace_36 : decode cX3_replace 36 = .ok (.invokestatic 34, 3) := dk_184 0 34 (dk_at dksX3_replace_1 12 rfl rfl)
theorem dX3_replace_39 : decode cX3_replace 39 = .ok (.ifCond .ne 6, 3) := dk_154 0 6 (dk_at dksX3_replace_1 15 rfl rfl)
theorem dX3_replace_42 : decode cX3_replace 42 = .ok (.bipush (-2), 2) := dk_16 254 (dk_at dksX3_replace_1 18 rfl rfl)
theorem dX3_replace_44 : decode cX3_replace 44 = .ok (.ireturn, 1) := dk_172 (dk_at dksX3_replace_1 20 rfl rfl)
theorem dX3_replace_45 : decode cX3_replace 45 = .ok (.aload_n 0, 1) := dk_42 (dk_at dksX3_replace_1 21 rfl rfl)
theorem dX3_replace_46 : decode cX3_replace 46 = .ok (.iload_n 2, 1) := dk_28 (dk_at dksX3_replace_1 22 rfl rfl)
theorem dX3_replace_47 : decode cX3_replace 47 = .ok (.invokevirtual 68, 3) := dk_182 0 68 (dk_at dksX3_replace_2 0 rfl rfl)
theorem dX3_replace_50 : decode cX3_replace 50 = .ok (.ifCond .ne 6, 3) := dk_154 0 6 (dk_at dksX3_replace_2 3 rfl rfl)
theorem dX3_replace_53 : decode cX3_replace 53 = .ok (.bipush (-3), 2) := dk_16 253 (dk_at dksX3_replace_2 6 rfl rfl)
theorem dX3_replace_55 : decode cX3_replace 55 = .ok (.ireturn, 1) := dk_172 (dk_at dksX3_replace_2 8 rfl rfl)
theorem dX3_replace_56 : decode cX3_replace 56 = .ok (.aload_n 0, 1) := dk_42 (dk_at dksX3_replace_2 9 rfl rfl)
theorem dX3_replace_57 : decode cX3_replace 57 = .ok (.invokevirtual 82, 3) := dk_182 0 82 (dk_at dksX3_replace_2 10 rfl rfl)
theorem dX3_replace_60 : decode cX3_replace 60 = .ok (.aload_n 0, 1) := dk_42 (dk_at dksX3_replace_2 13 rfl rfl)
theorem dX3_replace_61 : decode cX3_replace 61 = .ok (.iload 4, 2) := dk_21 4 (dk_at dksX3_replace_2 14 rfl rfl)
theorem dX3_replace_63 : decode cX3_replace 63 = .ok (.iload_n 2, 1) := dk_28 (dk_at dksX3_replace_2 16 rfl rfl)
theorem dX3_replace_64 : decode cX3_replace 64 = .ok (.iload_n 3, 1) := dk_29 (dk_at dksX3_replace_2 17 rfl rfl)
theorem dX3_replace_65 : decode cX3_replace 65 = .ok (.invokevirtual 75, 3) := dk_182 0 75 (dk_at dksX3_replace_2 18 rfl rfl)
theorem dX3_replace_68 : decode cX3_replace 68 = .ok (.aload_n 0, 1) := dk_42 (dk_at dksX3_replace_2 21 rfl rfl)
theorem dX3_replace_69 : decode cX3_replace 69 = .ok (.aload_n 0, 1) := dk_42 (dk_at dksX3_replace_2 22 rfl rfl)
theorem dX3_replace_70 : decode cX3_replace 70 = .ok (.iload 4, 2) := dk_21 4 (dk_at dksX3_replace_3 0 rfl rfl)
theorem dX3_replace_72 : decode cX3_replace 72 = .ok (.iconst 2, 1) := dk_5 (dk_at dksX3_replace_3 2 rfl rfl)
theorem dX3_replace_73 : decode cX3_replace 73 = .ok (.invokevirtual 38, 3) := dk_182 0 38 (dk_at dksX3_replace_3 3 rfl rfl)
theorem dX3_replace_76 : decode cX3_replace 76 = .ok (.invokevirtual 89, 3) := dk_182 0 89 (dk_at dksX3_replace_3 6 rfl rfl)
theorem dX3_replace_79 : decode cX3_replace 79 = .ok (.ireturn, 1) := dk_172 (dk_at dksX3_replace_3 9 rfl rfl)
def dkwX3_isMember_0 : List UInt8 := [27, 16, 251, 159, 0, 16, 42, 27, 4, 182, 0, 38, 154, 0, 7, 4, 167, 0, 4, 3, 172]
abbrev dktX3_isMember_0 : List UInt8 := dkwX3_isMember_0 ++ []
theorem dksX3_isMember_0 : cX3_isMember.data.toList.drop 0 = dktX3_isMember_0 := by decide +kernel
theorem dX3_isMember_0 : decode cX3_isMember 0 = .ok (.iload_n 1, 1) := dk_27 (dk_at dksX3_isMember_0 0 rfl rfl)
theorem dX3_isMember_1 : decode cX3_isMember 1 = .ok (.bipush (-5), 2) := dk_16 251 (dk_at dksX3_isMember_0 1 rfl rfl)
theorem dX3_isMember_3 : decode cX3_isMember 3 = .ok (.if_icmp .eq 16, 3) := dk_159 0 16 (dk_at dksX3_isMember_0 3 rfl rfl)
theorem dX3_isMember_6 : decode cX3_isMember 6 = .ok (.aload_n 0, 1) := dk_42 (dk_at dksX3_isMember_0 6 rfl rfl)
theorem dX3_isMember_7 : decode cX3_isMember 7 = .ok (.iload_n 1, 1) := dk_27 (dk_at dksX3_isMember_0 7 rfl rfl)
theorem dX3_isMember_8 : decode cX3_isMember 8 = .ok (.iconst 1, 1) := dk_4 (dk_at dksX3_isMember_0 8 rfl rfl)
theorem dX3_isMember_9 : decode cX3_isMember 9 = .ok (.invokevirtual 38, 3) := dk_182 0 38 (dk_at dksX3_isMember_0 9 rfl rfl)
theorem dX3_isMember_12 : decode cX3_isMember 12 = .ok (.ifCond .ne 7, 3) := dk_154 0 7 (dk_at dksX3_isMember_0 12 rfl rfl)
theorem dX3_isMember_15 : decode cX3_isMember 15 = .ok (.iconst 1, 1) := dk_4 (dk_at dksX3_isMember_0 15 rfl rfl)
theorem dX3_isMember_16 : decode cX3_isMember 16 = .ok (.goto 4, 3) := dk_167 0 4 (dk_at dksX3_isMember_0 16 rfl rfl)
theorem dX3_isMember_19 : decode cX3_isMember 19 = .ok (.iconst 0, 1) := dk_3 (dk_at dksX3_isMember_0 19 rfl rfl)
theorem dX3_isMember_20 : decode cX3_isMember 20 = .ok (.ireturn, 1) := dk_172 (dk_at dksX3_isMember_0 20 rfl rfl)
def dkwX3_remove_1 : List UInt8 := [42, 180, 0, 7, 3, 46, 182, 0, 89, 172]
abbrev dktX3_remove_1 : List UInt8 := dkwX3_remove_1 ++ []
def dkwX3_remove_0 : List UInt8 := [42, 27, 182, 0, 50, 61, 28, 16, 251, 160, 0, 5, 2, 172, 42, 182, 0, 82, 42, 28, 182, 0, 78, 42]
abbrev dktX3_remove_0 : List UInt8 := dkwX3_remove_0 ++ dktX3_remove_1
theorem dksX3_remove_0 : cX3_remove.data.toList.drop 0 = dktX3_remove_0 := by decide +kernel
theorem dksX3_remove_1 : cX3_remove.data.toList.drop 24 = dktX3_remove_1 := dk_seg dksX3_remove_0 24 rfl rfl
theorem dX3_remove_0 : decode cX3_remove 0 = .ok (.aload_n 0, 1) := dk_42 (dk_at dksX3_remove_0 0 rfl rfl)
theorem dX3_remove_1 : decode cX3_remove 1 = .ok (.iload_n 1, 1) := dk_27 (dk_at dksX3_remove_0 1 rfl rfl)
theorem dX3_remove_2 : decode cX3_remove 2 = .ok (.invokevirtual 50, 3) := dk_182 0 50 (dk_at dksX3_remove_0 2 rfl rfl)
theorem dX3_remove_5 : decode cX3_remove 5 = .ok (.istore_n 2, 1) := dk_61 (dk_at dksX3_remove_0 5 rfl rfl)
theorem dX3_remove_6 : decode cX3_remove 6 = .ok (.iload_n 2, 1) := dk_28 (dk_at dksX3_remove_0 6 rfl rfl)
theorem dX3_remove_7 : decode cX3_remove 7 = .ok (.bipush (-5), 2) := dk_16 251 (dk_at dksX3_remove_0 7 rfl rfl)
theorem dX3_remove_9 : decode cX3_remove 9 = .ok (.if_icmp .ne 5, 3) := dk_160 0 5 (dk_at dksX3_remove_0 9 rfl rfl)
theorem dX3_remove_12 : decode cX3_remove 12 = .ok (.iconst (-1), 1) := dk_2 (dk_at dksX3_remove_0 12 rfl rfl)
theorem dX3_remove_13 : decode cX3_remove 13 = .ok (.ireturn, 1) := dk_172 (dk_at dksX3_remove_0 13 rfl rfl)
theorem dX3_remove_14 : decode cX3_remove 14 = .ok (.aload_n 0, 1) := dk_42 (dk_at dksX3_remove_0 14 rfl rfl)
theorem dX3_remove_15 : decode cX3_remove 15 = .ok (.invokevirtual 82, 3) := dk_182 0 82 (dk_at dksX3_remove_0 15 rfl rfl)
theorem dX3_remove_18 : decode cX3_remove 18 = .ok (.aload_n 0, 1) := dk_42 (dk_at dksX3_remove_0 18 rfl rfl)
theorem dX3_remove_19 : decode cX3_remove 19 = .ok (.iload_n 2, 1) := dk_28 (dk_at dksX3_remove_0 19 rfl rfl)
theorem dX3_remove_20 : decode cX3_remove 20 = .ok (.invokevirtual 78, 3) := dk_182 0 78 (dk_at dksX3_remove_0 20 rfl rfl)
theorem dX3_remove_23 : decode cX3_remove 23 = .ok (.aload_n 0, 1) := dk_42 (dk_at dksX3_remove_0 23 rfl rfl)
theorem dX3_remove_24 : decode cX3_remove 24 = .ok (.aload_n 0, 1) := dk_42 (dk_at dksX3_remove_1 0 rfl rfl)
theorem dX3_remove_25 : decode cX3_remove 25 = .ok (.getfield 7, 3) := dk_180 0 7 (dk_at dksX3_remove_1 1 rfl rfl)
theorem dX3_remove_28 : decode cX3_remove 28 = .ok (.iconst 0, 1) := dk_3 (dk_at dksX3_remove_1 4 rfl rfl)
theorem dX3_remove_29 : decode cX3_remove 29 = .ok (.iaload, 1) := dk_46 (dk_at dksX3_remove_1 5 rfl rfl)
theorem dX3_remove_30 : decode cX3_remove 30 = .ok (.invokevirtual 89, 3) := dk_182 0 89 (dk_at dksX3_remove_1 6 rfl rfl)
theorem dX3_remove_33 : decode cX3_remove 33 = .ok (.ireturn, 1) := dk_172 (dk_at dksX3_remove_1 9 rfl rfl)
def dkwX3_takesOut_3 : List UInt8 := [46, 79, 132, 2, 1, 167, 255, 223, 177]
abbrev dktX3_takesOut_3 : List UInt8 := dkwX3_takesOut_3 ++ []
def dkwX3_takesOut_2 : List UInt8 := [42, 180, 0, 7, 3, 46, 104, 96, 162, 0, 24, 42, 180, 0, 7, 28, 42, 180, 0, 7, 28, 16, 6, 96]
abbrev dktX3_takesOut_2 : List UInt8 := dkwX3_takesOut_2 ++ dktX3_takesOut_3
def dkwX3_takesOut_1 : List UInt8 := [167, 255, 235, 42, 180, 0, 7, 3, 92, 46, 4, 100, 79, 8, 16, 6, 27, 104, 96, 61, 28, 8, 16, 6]
abbrev dktX3_takesOut_1 : List UInt8 := dkwX3_takesOut_1 ++ dktX3_takesOut_2
def dkwX3_takesOut_0 : List UInt8 := [3, 61, 28, 16, 6, 162, 0, 21, 42, 180, 0, 22, 28, 42, 27, 28, 182, 0, 38, 79, 132, 2, 1]
abbrev dktX3_takesOut_0 : List UInt8 := dkwX3_takesOut_0 ++ dktX3_takesOut_1
theorem dksX3_takesOut_0 : cX3_takesOut.data.toList.drop 0 = dktX3_takesOut_0 := by decide +kernel
theorem dksX3_takesOut_1 : cX3_takesOut.data.toList.drop 23 = dktX3_takesOut_1 := dk_seg dksX3_takesOut_0 23 rfl rfl
theorem dksX3_takesOut_2 : cX3_takesOut.data.toList.drop 47 = dktX3_takesOut_2 := dk_seg dksX3_takesOut_1 24 rfl rfl
theorem dksX3_takesOut_3 : cX3_takesOut.data.toList.drop 71 = dktX3_takesOut_3 := dk_seg dksX3_takesOut_2 24 rfl rfl
theorem dX3_takesOut_0 : decode cX3_takesOut 0 = .ok (.iconst 0, 1) := dk_3 (dk_at dksX3_takesOut_0 0 rfl rfl)
theorem dX3_takesOut_1 : decode cX3_takesOut 1 = .ok (.istore_n 2, 1) := dk_61 (dk_at dksX3_takesOut_0 1 rfl rfl)
theorem dX3_takesOut_2 : decode cX3_takesOut 2 = .ok (.iload_n 2, 1) := dk_28 (dk_at dksX3_takesOut_0 2 rfl rfl)
theorem dX3_takesOut_3 : decode cX3_takesOut 3 = .ok (.bipush 6, 2) := dk_16 6 (dk_at dksX3_takesOut_0 3 rfl rfl)
theorem dX3_takesOut_5 : decode cX3_takesOut 5 = .ok (.if_icmp .ge 21, 3) := dk_162 0 21 (dk_at dksX3_takesOut_0 5 rfl rfl)
theorem dX3_takesOut_8 : decode cX3_takesOut 8 = .ok (.aload_n 0, 1) := dk_42 (dk_at dksX3_takesOut_0 8 rfl rfl)
theorem dX3_takesOut_9 : decode cX3_takesOut 9 = .ok (.getfield 22, 3) := dk_180 0 22 (dk_at dksX3_takesOut_0 9 rfl rfl)
theorem dX3_takesOut_12 : decode cX3_takesOut 12 = .ok (.iload_n 2, 1) := dk_28 (dk_at dksX3_takesOut_0 12 rfl rfl)
theorem dX3_takesOut_13 : decode cX3_takesOut 13 = .ok (.aload_n 0, 1) := dk_42 (dk_at dksX3_takesOut_0 13 rfl rfl)
theorem dX3_takesOut_14 : decode cX3_takesOut 14 = .ok (.iload_n 1, 1) := dk_27 (dk_at dksX3_takesOut_0 14 rfl rfl)
theorem dX3_takesOut_15 : decode cX3_takesOut 15 = .ok (.iload_n 2, 1) := dk_28 (dk_at dksX3_takesOut_0 15 rfl rfl)
theorem dX3_takesOut_16 : decode cX3_takesOut 16 = .ok (.invokevirtual 38, 3) := dk_182 0 38 (dk_at dksX3_takesOut_0 16 rfl rfl)
theorem dX3_takesOut_19 : decode cX3_takesOut 19 = .ok (.iastore, 1) := dk_79 (dk_at dksX3_takesOut_0 19 rfl rfl)
theorem dX3_takesOut_20 : decode cX3_takesOut 20 = .ok (.iinc 2 1, 3) := dk_132 2 1 (dk_at dksX3_takesOut_0 20 rfl rfl)
theorem dX3_takesOut_23 : decode cX3_takesOut 23 = .ok (.goto (-21), 3) := dk_167 255 235 (dk_at dksX3_takesOut_1 0 rfl rfl)
theorem dX3_takesOut_26 : decode cX3_takesOut 26 = .ok (.aload_n 0, 1) := dk_42 (dk_at dksX3_takesOut_1 3 rfl rfl)
theorem dX3_takesOut_27 : decode cX3_takesOut 27 = .ok (.getfield 7, 3) := dk_180 0 7 (dk_at dksX3_takesOut_1 4 rfl rfl)
theorem dX3_takesOut_30 : decode cX3_takesOut 30 = .ok (.iconst 0, 1) := dk_3 (dk_at dksX3_takesOut_1 7 rfl rfl)
theorem dX3_takesOut_31 : decode cX3_takesOut 31 = .ok (.dup2, 1) := dk_92 (dk_at dksX3_takesOut_1 8 rfl rfl)
theorem dX3_takesOut_32 : decode cX3_takesOut 32 = .ok (.iaload, 1) := dk_46 (dk_at dksX3_takesOut_1 9 rfl rfl)
theorem dX3_takesOut_33 : decode cX3_takesOut 33 = .ok (.iconst 1, 1) := dk_4 (dk_at dksX3_takesOut_1 10 rfl rfl)
theorem dX3_takesOut_34 : decode cX3_takesOut 34 = .ok (.isub, 1) := dk_100 (dk_at dksX3_takesOut_1 11 rfl rfl)
theorem dX3_takesOut_35 : decode cX3_takesOut 35 = .ok (.iastore, 1) := dk_79 (dk_at dksX3_takesOut_1 12 rfl rfl)
theorem dX3_takesOut_36 : decode cX3_takesOut 36 = .ok (.iconst 5, 1) := dk_8 (dk_at dksX3_takesOut_1 13 rfl rfl)
theorem dX3_takesOut_37 : decode cX3_takesOut 37 = .ok (.bipush 6, 2) := dk_16 6 (dk_at dksX3_takesOut_1 14 rfl rfl)
theorem dX3_takesOut_39 : decode cX3_takesOut 39 = .ok (.iload_n 1, 1) := dk_27 (dk_at dksX3_takesOut_1 16 rfl rfl)
theorem dX3_takesOut_40 : decode cX3_takesOut 40 = .ok (.imul, 1) := dk_104 (dk_at dksX3_takesOut_1 17 rfl rfl)
theorem dX3_takesOut_41 : decode cX3_takesOut 41 = .ok (.iadd, 1) := dk_96 (dk_at dksX3_takesOut_1 18 rfl rfl)
theorem dX3_takesOut_42 : decode cX3_takesOut 42 = .ok (.istore_n 2, 1) := dk_61 (dk_at dksX3_takesOut_1 19 rfl rfl)
theorem dX3_takesOut_43 : decode cX3_takesOut 43 = .ok (.iload_n 2, 1) := dk_28 (dk_at dksX3_takesOut_1 20 rfl rfl)
theorem dX3_takesOut_44 : decode cX3_takesOut 44 = .ok (.iconst 5, 1) := dk_8 (dk_at dksX3_takesOut_1 21 rfl rfl)
theorem dX3_takesOut_45 : decode cX3_takesOut 45 = .ok (.bipush 6, 2) := dk_16 6 (dk_at dksX3_takesOut_1 22 rfl rfl)
theorem dX3_takesOut_47 : decode cX3_takesOut 47 = .ok (.aload_n 0, 1) := dk_42 (dk_at dksX3_takesOut_2 0 rfl rfl)
theorem dX3_takesOut_48 : decode cX3_takesOut 48 = .ok (.getfield 7, 3) := dk_180 0 7 (dk_at dksX3_takesOut_2 1 rfl rfl)
theorem dX3_takesOut_51 : decode cX3_takesOut 51 = .ok (.iconst 0, 1) := dk_3 (dk_at dksX3_takesOut_2 4 rfl rfl)
theorem dX3_takesOut_52 : decode cX3_takesOut 52 = .ok (.iaload, 1) := dk_46 (dk_at dksX3_takesOut_2 5 rfl rfl)
theorem dX3_takesOut_53 : decode cX3_takesOut 53 = .ok (.imul, 1) := dk_104 (dk_at dksX3_takesOut_2 6 rfl rfl)
theorem dX3_takesOut_54 : decode cX3_takesOut 54 = .ok (.iadd, 1) := dk_96 (dk_at dksX3_takesOut_2 7 rfl rfl)
theorem dX3_takesOut_55 : decode cX3_takesOut 55 = .ok (.if_icmp .ge 24, 3) := dk_162 0 24 (dk_at dksX3_takesOut_2 8 rfl rfl)
theorem dX3_takesOut_58 : decode cX3_takesOut 58 = .ok (.aload_n 0, 1) := dk_42 (dk_at dksX3_takesOut_2 11 rfl rfl)
theorem dX3_takesOut_59 : decode cX3_takesOut 59 = .ok (.getfield 7, 3) := dk_180 0 7 (dk_at dksX3_takesOut_2 12 rfl rfl)
theorem dX3_takesOut_62 : decode cX3_takesOut 62 = .ok (.iload_n 2, 1) := dk_28 (dk_at dksX3_takesOut_2 15 rfl rfl)
theorem dX3_takesOut_63 : decode cX3_takesOut 63 = .ok (.aload_n 0, 1) := dk_42 (dk_at dksX3_takesOut_2 16 rfl rfl)
theorem dX3_takesOut_64 : decode cX3_takesOut 64 = .ok (.getfield 7, 3) := dk_180 0 7 (dk_at dksX3_takesOut_2 17 rfl rfl)
theorem dX3_takesOut_67 : decode cX3_takesOut 67 = .ok (.iload_n 2, 1) := dk_28 (dk_at dksX3_takesOut_2 20 rfl rfl)
theorem dX3_takesOut_68 : decode cX3_takesOut 68 = .ok (.bipush 6, 2) := dk_16 6 (dk_at dksX3_takesOut_2 21 rfl rfl)
theorem dX3_takesOut_70 : decode cX3_takesOut 70 = .ok (.iadd, 1) := dk_96 (dk_at dksX3_takesOut_2 23 rfl rfl)
theorem dX3_takesOut_71 : decode cX3_takesOut 71 = .ok (.iaload, 1) := dk_46 (dk_at dksX3_takesOut_3 0 rfl rfl)
theorem dX3_takesOut_72 : decode cX3_takesOut 72 = .ok (.iastore, 1) := dk_79 (dk_at dksX3_takesOut_3 1 rfl rfl)
theorem dX3_takesOut_73 : decode cX3_takesOut 73 = .ok (.iinc 2 1, 3) := dk_132 2 1 (dk_at dksX3_takesOut_3 2 rfl rfl)
theorem dX3_takesOut_76 : decode cX3_takesOut 76 = .ok (.goto (-33), 3) := dk_167 255 223 (dk_at dksX3_takesOut_3 5 rfl rfl)
theorem dX3_takesOut_79 : decode cX3_takesOut 79 = .ok (.return_, 1) := dk_177 (dk_at dksX3_takesOut_3 8 rfl rfl)
def dkwX3_rename_5 : List UInt8 := [182, 0, 38, 182, 0, 42, 132, 6, 1, 167, 255, 208, 42, 21, 5, 182, 0, 89, 172]
abbrev dktX3_rename_5 : List UInt8 := dkwX3_rename_5 ++ []
def dkwX3_rename_4 : List UInt8 := [21, 4, 153, 0, 18, 42, 21, 6, 8, 182, 0, 38, 27, 160, 0, 7, 28, 167, 0, 10, 42, 21, 6, 8]
abbrev dktX3_rename_4 : List UInt8 := dkwX3_rename_4 ++ dktX3_rename_5
def dkwX3_rename_3 : List UInt8 := [182, 0, 71, 54, 5, 3, 54, 6, 21, 6, 42, 180, 0, 7, 3, 46, 162, 0, 43, 42, 21, 6, 8]
abbrev dktX3_rename_3 : List UInt8 := dkwX3_rename_3 ++ dktX3_rename_4
def dkwX3_rename_2 : List UInt8 := [182, 0, 82, 42, 29, 182, 0, 53, 54, 4, 42, 29, 182, 0, 78, 42, 180, 0, 22, 3, 28, 79, 42]
abbrev dktX3_rename_2 : List UInt8 := dkwX3_rename_2 ++ dktX3_rename_3
def dkwX3_rename_1 : List UInt8 := [28, 27, 160, 0, 6, 16, 251, 172, 42, 28, 182, 0, 50, 16, 251, 159, 0, 6, 16, 249, 172, 42]
abbrev dktX3_rename_1 : List UInt8 := dkwX3_rename_1 ++ dktX3_rename_2
def dkwX3_rename_0 : List UInt8 := [42, 27, 182, 0, 50, 62, 29, 16, 251, 160, 0, 5, 2, 172, 28, 184, 0, 57, 154, 0, 6, 16, 254, 172]
abbrev dktX3_rename_0 : List UInt8 := dkwX3_rename_0 ++ dktX3_rename_1
theorem dksX3_rename_0 : cX3_rename.data.toList.drop 0 = dktX3_rename_0 := by decide +kernel
theorem dksX3_rename_1 : cX3_rename.data.toList.drop 24 = dktX3_rename_1 := dk_seg dksX3_rename_0 24 rfl rfl
theorem dksX3_rename_2 : cX3_rename.data.toList.drop 46 = dktX3_rename_2 := dk_seg dksX3_rename_1 22 rfl rfl
theorem dksX3_rename_3 : cX3_rename.data.toList.drop 69 = dktX3_rename_3 := dk_seg dksX3_rename_2 23 rfl rfl
theorem dksX3_rename_4 : cX3_rename.data.toList.drop 92 = dktX3_rename_4 := dk_seg dksX3_rename_3 23 rfl rfl
theorem dksX3_rename_5 : cX3_rename.data.toList.drop 116 = dktX3_rename_5 := dk_seg dksX3_rename_4 24 rfl rfl
theorem dX3_rename_0 : decode cX3_rename 0 = .ok (.aload_n 0, 1) := dk_42 (dk_at dksX3_rename_0 0 rfl rfl)
theorem dX3_rename_1 : decode cX3_rename 1 = .ok (.iload_n 1, 1) := dk_27 (dk_at dksX3_rename_0 1 rfl rfl)
theorem dX3_rename_2 : decode cX3_rename 2 = .ok (.invokevirtual 50, 3) := dk_182 0 50 (dk_at dksX3_rename_0 2 rfl rfl)
theorem dX3_rename_5 : decode cX3_rename 5 = .ok (.istore_n 3, 1) := dk_62 (dk_at dksX3_rename_0 5 rfl rfl)
theorem dX3_rename_6 : decode cX3_rename 6 = .ok (.iload_n 3, 1) := dk_29 (dk_at dksX3_rename_0 6 rfl rfl)
theorem dX3_rename_7 : decode cX3_rename 7 = .ok (.bipush (-5), 2) := dk_16 251 (dk_at dksX3_rename_0 7 rfl rfl)
theorem dX3_rename_9 : decode cX3_rename 9 = .ok (.if_icmp .ne 5, 3) := dk_160 0 5 (dk_at dksX3_rename_0 9 rfl rfl)
theorem dX3_rename_12 : decode cX3_rename 12 = .ok (.iconst (-1), 1) := dk_2 (dk_at dksX3_rename_0 12 rfl rfl)
theorem dX3_rename_13 : decode cX3_rename 13 = .ok (.ireturn, 1) := dk_172 (dk_at dksX3_rename_0 13 rfl rfl)
theorem dX3_rename_14 : decode cX3_rename 14 = .ok (.iload_n 2, 1) := dk_28 (dk_at dksX3_rename_0 14 rfl rfl)
theorem dX3_rename_15 : decode cX3_rename 15 = .ok (.invokestatic 57, 3) := dk_184 0 57 (dk_at dksX3_rename_0 15 rfl rfl)
theorem dX3_rename_18 : decode cX3_rename 18 = .ok (.ifCond .ne 6, 3) := dk_154 0 6 (dk_at dksX3_rename_0 18 rfl rfl)
theorem dX3_rename_21 : decode cX3_rename 21 = .ok (.bipush (-2), 2) := dk_16 254 (dk_at dksX3_rename_0 21 rfl rfl)
theorem dX3_rename_23 : decode cX3_rename 23 = .ok (.ireturn, 1) := dk_172 (dk_at dksX3_rename_0 23 rfl rfl)
theorem dX3_rename_24 : decode cX3_rename 24 = .ok (.iload_n 2, 1) := dk_28 (dk_at dksX3_rename_1 0 rfl rfl)
theorem dX3_rename_25 : decode cX3_rename 25 = .ok (.iload_n 1, 1) := dk_27 (dk_at dksX3_rename_1 1 rfl rfl)
theorem dX3_rename_26 : decode cX3_rename 26 = .ok (.if_icmp .ne 6, 3) := dk_160 0 6 (dk_at dksX3_rename_1 2 rfl rfl)
theorem dX3_rename_29 : decode cX3_rename 29 = .ok (.bipush (-5), 2) := dk_16 251 (dk_at dksX3_rename_1 5 rfl rfl)
theorem dX3_rename_31 : decode cX3_rename 31 = .ok (.ireturn, 1) := dk_172 (dk_at dksX3_rename_1 7 rfl rfl)
theorem dX3_rename_32 : decode cX3_rename 32 = .ok (.aload_n 0, 1) := dk_42 (dk_at dksX3_rename_1 8 rfl rfl)
theorem dX3_rename_33 : decode cX3_rename 33 = .ok (.iload_n 2, 1) := dk_28 (dk_at dksX3_rename_1 9 rfl rfl)
theorem dX3_rename_34 : decode cX3_rename 34 = .ok (.invokevirtual 50, 3) := dk_182 0 50 (dk_at dksX3_rename_1 10 rfl rfl)
theorem dX3_rename_37 : decode cX3_rename 37 = .ok (.bipush (-5), 2) := dk_16 251 (dk_at dksX3_rename_1 13 rfl rfl)
theorem dX3_rename_39 : decode cX3_rename 39 = .ok (.if_icmp .eq 6, 3) := dk_159 0 6 (dk_at dksX3_rename_1 15 rfl rfl)
theorem dX3_rename_42 : decode cX3_rename 42 = .ok (.bipush (-7), 2) := dk_16 249 (dk_at dksX3_rename_1 18 rfl rfl)
theorem dX3_rename_44 : decode cX3_rename 44 = .ok (.ireturn, 1) := dk_172 (dk_at dksX3_rename_1 20 rfl rfl)
theorem dX3_rename_45 : decode cX3_rename 45 = .ok (.aload_n 0, 1) := dk_42 (dk_at dksX3_rename_1 21 rfl rfl)
theorem dX3_rename_46 : decode cX3_rename 46 = .ok (.invokevirtual 82, 3) := dk_182 0 82 (dk_at dksX3_rename_2 0 rfl rfl)
theorem dX3_rename_49 : decode cX3_rename 49 = .ok (.aload_n 0, 1) := dk_42 (dk_at dksX3_rename_2 3 rfl rfl)
theorem dX3_rename_50 : decode cX3_rename 50 = .ok (.iload_n 3, 1) := dk_29 (dk_at dksX3_rename_2 4 rfl rfl)
theorem dX3_rename_51 : decode cX3_rename 51 = .ok (.invokevirtual 53, 3) := dk_182 0 53 (dk_at dksX3_rename_2 5 rfl rfl)
theorem dX3_rename_54 : decode cX3_rename 54 = .ok (.istore 4, 2) := dk_54 4 (dk_at dksX3_rename_2 8 rfl rfl)
theorem dX3_rename_56 : decode cX3_rename 56 = .ok (.aload_n 0, 1) := dk_42 (dk_at dksX3_rename_2 10 rfl rfl)
theorem dX3_rename_57 : decode cX3_rename 57 = .ok (.iload_n 3, 1) := dk_29 (dk_at dksX3_rename_2 11 rfl rfl)
theorem dX3_rename_58 : decode cX3_rename 58 = .ok (.invokevirtual 78, 3) := dk_182 0 78 (dk_at dksX3_rename_2 12 rfl rfl)
theorem dX3_rename_61 : decode cX3_rename 61 = .ok (.aload_n 0, 1) := dk_42 (dk_at dksX3_rename_2 15 rfl rfl)
theorem dX3_rename_62 : decode cX3_rename 62 = .ok (.getfield 22, 3) := dk_180 0 22 (dk_at dksX3_rename_2 16 rfl rfl)
theorem dX3_rename_65 : decode cX3_rename 65 = .ok (.iconst 0, 1) := dk_3 (dk_at dksX3_rename_2 19 rfl rfl)
theorem dX3_rename_66 : decode cX3_rename 66 = .ok (.iload_n 2, 1) := dk_28 (dk_at dksX3_rename_2 20 rfl rfl)
theorem dX3_rename_67 : decode cX3_rename 67 = .ok (.iastore, 1) := dk_79 (dk_at dksX3_rename_2 21 rfl rfl)
theorem dX3_rename_68 : decode cX3_rename 68 = .ok (.aload_n 0, 1) := dk_42 (dk_at dksX3_rename_2 22 rfl rfl)
theorem dX3_rename_69 : decode cX3_rename 69 = .ok (.invokevirtual 71, 3) := dk_182 0 71 (dk_at dksX3_rename_3 0 rfl rfl)
theorem dX3_rename_72 : decode cX3_rename 72 = .ok (.istore 5, 2) := dk_54 5 (dk_at dksX3_rename_3 3 rfl rfl)
theorem dX3_rename_74 : decode cX3_rename 74 = .ok (.iconst 0, 1) := dk_3 (dk_at dksX3_rename_3 5 rfl rfl)
theorem dX3_rename_75 : decode cX3_rename 75 = .ok (.istore 6, 2) := dk_54 6 (dk_at dksX3_rename_3 6 rfl rfl)
theorem dX3_rename_77 : decode cX3_rename 77 = .ok (.iload 6, 2) := dk_21 6 (dk_at dksX3_rename_3 8 rfl rfl)
theorem dX3_rename_79 : decode cX3_rename 79 = .ok (.aload_n 0, 1) := dk_42 (dk_at dksX3_rename_3 10 rfl rfl)
theorem dX3_rename_80 : decode cX3_rename 80 = .ok (.getfield 7, 3) := dk_180 0 7 (dk_at dksX3_rename_3 11 rfl rfl)
theorem dX3_rename_83 : decode cX3_rename 83 = .ok (.iconst 0, 1) := dk_3 (dk_at dksX3_rename_3 14 rfl rfl)
theorem dX3_rename_84 : decode cX3_rename 84 = .ok (.iaload, 1) := dk_46 (dk_at dksX3_rename_3 15 rfl rfl)
theorem dX3_rename_85 : decode cX3_rename 85 = .ok (.if_icmp .ge 43, 3) := dk_162 0 43 (dk_at dksX3_rename_3 16 rfl rfl)
theorem dX3_rename_88 : decode cX3_rename 88 = .ok (.aload_n 0, 1) := dk_42 (dk_at dksX3_rename_3 19 rfl rfl)
theorem dX3_rename_89 : decode cX3_rename 89 = .ok (.iload 6, 2) := dk_21 6 (dk_at dksX3_rename_3 20 rfl rfl)
theorem dX3_rename_91 : decode cX3_rename 91 = .ok (.iconst 5, 1) := dk_8 (dk_at dksX3_rename_3 22 rfl rfl)
theorem dX3_rename_92 : decode cX3_rename 92 = .ok (.iload 4, 2) := dk_21 4 (dk_at dksX3_rename_4 0 rfl rfl)
theorem dX3_rename_94 : decode cX3_rename 94 = .ok (.ifCond .eq 18, 3) := dk_153 0 18 (dk_at dksX3_rename_4 2 rfl rfl)
theorem dX3_rename_97 : decode cX3_rename 97 = .ok (.aload_n 0, 1) := dk_42 (dk_at dksX3_rename_4 5 rfl rfl)
theorem dX3_rename_98 : decode cX3_rename 98 = .ok (.iload 6, 2) := dk_21 6 (dk_at dksX3_rename_4 6 rfl rfl)
theorem dX3_rename_100 : decode cX3_rename 100 = .ok (.iconst 5, 1) := dk_8 (dk_at dksX3_rename_4 8 rfl rfl)
theorem dX3_rename_101 : decode cX3_rename 101 = .ok (.invokevirtual 38, 3) := dk_182 0 38 (dk_at dksX3_rename_4 9 rfl rfl)
theorem dX3_rename_104 : decode cX3_rename 104 = .ok (.iload_n 1, 1) := dk_27 (dk_at dksX3_rename_4 12 rfl rfl)
theorem dX3_rename_105 : decode cX3_rename 105 = .ok (.if_icmp .ne 7, 3) := dk_160 0 7 (dk_at dksX3_rename_4 13 rfl rfl)
theorem dX3_rename_108 : decode cX3_rename 108 = .ok (.iload_n 2, 1) := dk_28 (dk_at dksX3_rename_4 16 rfl rfl)
theorem dX3_rename_109 : decode cX3_rename 109 = .ok (.goto 10, 3) := dk_167 0 10 (dk_at dksX3_rename_4 17 rfl rfl)
theorem dX3_rename_112 : decode cX3_rename 112 = .ok (.aload_n 0, 1) := dk_42 (dk_at dksX3_rename_4 20 rfl rfl)
theorem dX3_rename_113 : decode cX3_rename 113 = .ok (.iload 6, 2) := dk_21 6 (dk_at dksX3_rename_4 21 rfl rfl)
theorem dX3_rename_115 : decode cX3_rename 115 = .ok (.iconst 5, 1) := dk_8 (dk_at dksX3_rename_4 23 rfl rfl)
theorem dX3_rename_116 : decode cX3_rename 116 = .ok (.invokevirtual 38, 3) := dk_182 0 38 (dk_at dksX3_rename_5 0 rfl rfl)
theorem dX3_rename_119 : decode cX3_rename 119 = .ok (.invokevirtual 42, 3) := dk_182 0 42 (dk_at dksX3_rename_5 3 rfl rfl)
theorem dX3_rename_122 : decode cX3_rename 122 = .ok (.iinc 6 1, 3) := dk_132 6 1 (dk_at dksX3_rename_5 6 rfl rfl)
theorem dX3_rename_125 : decode cX3_rename 125 = .ok (.goto (-48), 3) := dk_167 255 208 (dk_at dksX3_rename_5 9 rfl rfl)
theorem dX3_rename_128 : decode cX3_rename 128 = .ok (.aload_n 0, 1) := dk_42 (dk_at dksX3_rename_5 12 rfl rfl)
theorem dX3_rename_129 : decode cX3_rename 129 = .ok (.iload 5, 2) := dk_21 5 (dk_at dksX3_rename_5 13 rfl rfl)
theorem dX3_rename_131 : decode cX3_rename 131 = .ok (.invokevirtual 89, 3) := dk_182 0 89 (dk_at dksX3_rename_5 15 rfl rfl)
theorem dX3_rename_134 : decode cX3_rename 134 = .ok (.ireturn, 1) := dk_172 (dk_at dksX3_rename_5 18 rfl rfl)
def dkwX3_alias_1 : List UInt8 := [172]
abbrev dktX3_alias_1 : List UInt8 := dkwX3_alias_1 ++ []
def dkwX3_alias_0 : List UInt8 := [42, 182, 0, 82, 42, 27, 28, 182, 0, 92, 62, 29, 156, 0, 7, 29, 167, 0, 8, 42, 29, 182, 0, 89]
abbrev dktX3_alias_0 : List UInt8 := dkwX3_alias_0 ++ dktX3_alias_1
theorem dksX3_alias_0 : cX3_alias.data.toList.drop 0 = dktX3_alias_0 := by decide +kernel
theorem dksX3_alias_1 : cX3_alias.data.toList.drop 24 = dktX3_alias_1 := dk_seg dksX3_alias_0 24 rfl rfl
theorem dX3_alias_0 : decode cX3_alias 0 = .ok (.aload_n 0, 1) := dk_42 (dk_at dksX3_alias_0 0 rfl rfl)
theorem dX3_alias_1 : decode cX3_alias 1 = .ok (.invokevirtual 82, 3) := dk_182 0 82 (dk_at dksX3_alias_0 1 rfl rfl)
theorem dX3_alias_4 : decode cX3_alias 4 = .ok (.aload_n 0, 1) := dk_42 (dk_at dksX3_alias_0 4 rfl rfl)
theorem dX3_alias_5 : decode cX3_alias 5 = .ok (.iload_n 1, 1) := dk_27 (dk_at dksX3_alias_0 5 rfl rfl)
theorem dX3_alias_6 : decode cX3_alias 6 = .ok (.iload_n 2, 1) := dk_28 (dk_at dksX3_alias_0 6 rfl rfl)
theorem dX3_alias_7 : decode cX3_alias 7 = .ok (.invokevirtual 92, 3) := dk_182 0 92 (dk_at dksX3_alias_0 7 rfl rfl)
theorem dX3_alias_10 : decode cX3_alias 10 = .ok (.istore_n 3, 1) := dk_62 (dk_at dksX3_alias_0 10 rfl rfl)
theorem dX3_alias_11 : decode cX3_alias 11 = .ok (.iload_n 3, 1) := dk_29 (dk_at dksX3_alias_0 11 rfl rfl)
theorem dX3_alias_12 : decode cX3_alias 12 = .ok (.ifCond .ge 7, 3) := dk_156 0 7 (dk_at dksX3_alias_0 12 rfl rfl)
theorem dX3_alias_15 : decode cX3_alias 15 = .ok (.iload_n 3, 1) := dk_29 (dk_at dksX3_alias_0 15 rfl rfl)
theorem dX3_alias_16 : decode cX3_alias 16 = .ok (.goto 8, 3) := dk_167 0 8 (dk_at dksX3_alias_0 16 rfl rfl)
theorem dX3_alias_19 : decode cX3_alias 19 = .ok (.aload_n 0, 1) := dk_42 (dk_at dksX3_alias_0 19 rfl rfl)
theorem dX3_alias_20 : decode cX3_alias 20 = .ok (.iload_n 3, 1) := dk_29 (dk_at dksX3_alias_0 20 rfl rfl)
theorem dX3_alias_21 : decode cX3_alias 21 = .ok (.invokevirtual 89, 3) := dk_182 0 89 (dk_at dksX3_alias_0 21 rfl rfl)
theorem dX3_alias_24 : decode cX3_alias 24 = .ok (.ireturn, 1) := dk_172 (dk_at dksX3_alias_1 0 rfl rfl)
def dkwX3_doAlias_8 : List UInt8 := [172]
abbrev dktX3_doAlias_8 : List UInt8 := dkwX3_doAlias_8 ++ []
def dkwX3_doAlias_7 : List UInt8 := [79, 42, 180, 0, 22, 7, 21, 7, 79, 42, 180, 0, 22, 8, 28, 79, 42, 182, 0, 71, 54, 8, 21, 5]
abbrev dktX3_doAlias_7 : List UInt8 := dkwX3_doAlias_7 ++ dktX3_doAlias_8
def dkwX3_doAlias_6 : List UInt8 := [27, 79, 42, 180, 0, 22, 4, 4, 79, 42, 180, 0, 22, 5, 21, 5, 79, 42, 180, 0, 22, 6, 21, 6]
abbrev dktX3_doAlias_6 : List UInt8 := dkwX3_doAlias_6 ++ dktX3_doAlias_7
def dkwX3_doAlias_5 : List UInt8 := [7, 182, 0, 38, 54, 7, 21, 4, 16, 251, 159, 0, 9, 42, 21, 4, 182, 0, 78, 42, 180, 0, 22, 3]
abbrev dktX3_doAlias_5 : List UInt8 := dkwX3_doAlias_5 ++ dktX3_doAlias_6
def dkwX3_doAlias_4 : List UInt8 := [160, 0, 6, 16, 251, 172, 42, 29, 5, 182, 0, 38, 54, 5, 42, 29, 6, 182, 0, 38, 54, 6, 42, 29]
abbrev dktX3_doAlias_4 : List UInt8 := dkwX3_doAlias_4 ++ dktX3_doAlias_5
def dkwX3_doAlias_3 : List UInt8 := [21, 4, 5, 182, 0, 38, 42, 29, 5, 182, 0, 38, 160, 0, 17, 42, 21, 4, 8, 182, 0, 38, 28]
abbrev dktX3_doAlias_3 : List UInt8 := dkwX3_doAlias_3 ++ dktX3_doAlias_4
def dkwX3_doAlias_2 : List UInt8 := [16, 251, 160, 0, 13, 42, 182, 0, 64, 153, 0, 6, 16, 250, 172, 21, 4, 16, 251, 159, 0, 33, 42]
abbrev dktX3_doAlias_2 : List UInt8 := dkwX3_doAlias_2 ++ dktX3_doAlias_3
def dkwX3_doAlias_1 : List UInt8 := [16, 254, 172, 42, 27, 182, 0, 50, 54, 4, 42, 21, 4, 182, 0, 53, 153, 0, 6, 16, 249, 172, 21, 4]
abbrev dktX3_doAlias_1 : List UInt8 := dkwX3_doAlias_1 ++ dktX3_doAlias_2
def dkwX3_doAlias_0 : List UInt8 := [42, 28, 182, 0, 50, 62, 42, 29, 182, 0, 53, 154, 0, 5, 2, 172, 27, 184, 0, 57, 154, 0, 6]
abbrev dktX3_doAlias_0 : List UInt8 := dkwX3_doAlias_0 ++ dktX3_doAlias_1
theorem dksX3_doAlias_0 : cX3_doAlias.data.toList.drop 0 = dktX3_doAlias_0 := by decide +kernel
theorem dksX3_doAlias_1 : cX3_doAlias.data.toList.drop 23 = dktX3_doAlias_1 := dk_seg dksX3_doAlias_0 23 rfl rfl
theorem dksX3_doAlias_2 : cX3_doAlias.data.toList.drop 47 = dktX3_doAlias_2 := dk_seg dksX3_doAlias_1 24 rfl rfl
theorem dksX3_doAlias_3 : cX3_doAlias.data.toList.drop 70 = dktX3_doAlias_3 := dk_seg dksX3_doAlias_2 23 rfl rfl
theorem dksX3_doAlias_4 : cX3_doAlias.data.toList.drop 93 = dktX3_doAlias_4 := dk_seg dksX3_doAlias_3 23 rfl rfl
theorem dksX3_doAlias_5 : cX3_doAlias.data.toList.drop 117 = dktX3_doAlias_5 := dk_seg dksX3_doAlias_4 24 rfl rfl
theorem dksX3_doAlias_6 : cX3_doAlias.data.toList.drop 141 = dktX3_doAlias_6 := dk_seg dksX3_doAlias_5 24 rfl rfl
theorem dksX3_doAlias_7 : cX3_doAlias.data.toList.drop 165 = dktX3_doAlias_7 := dk_seg dksX3_doAlias_6 24 rfl rfl
theorem dksX3_doAlias_8 : cX3_doAlias.data.toList.drop 189 = dktX3_doAlias_8 := dk_seg dksX3_doAlias_7 24 rfl rfl
theorem dX3_doAlias_0 : decode cX3_doAlias 0 = .ok (.aload_n 0, 1) := dk_42 (dk_at dksX3_doAlias_0 0 rfl rfl)
theorem dX3_doAlias_1 : decode cX3_doAlias 1 = .ok (.iload_n 2, 1) := dk_28 (dk_at dksX3_doAlias_0 1 rfl rfl)
theorem dX3_doAlias_2 : decode cX3_doAlias 2 = .ok (.invokevirtual 50, 3) := dk_182 0 50 (dk_at dksX3_doAlias_0 2 rfl rfl)
theorem dX3_doAlias_5 : decode cX3_doAlias 5 = .ok (.istore_n 3, 1) := dk_62 (dk_at dksX3_doAlias_0 5 rfl rfl)
theorem dX3_doAlias_6 : decode cX3_doAlias 6 = .ok (.aload_n 0, 1) := dk_42 (dk_at dksX3_doAlias_0 6 rfl rfl)
theorem dX3_doAlias_7 : decode cX3_doAlias 7 = .ok (.iload_n 3, 1) := dk_29 (dk_at dksX3_doAlias_0 7 rfl rfl)
theorem dX3_doAlias_8 : decode cX3_doAlias 8 = .ok (.invokevirtual 53, 3) := dk_182 0 53 (dk_at dksX3_doAlias_0 8 rfl rfl)
theorem dX3_doAlias_11 : decode cX3_doAlias 11 = .ok (.ifCond .ne 5, 3) := dk_154 0 5 (dk_at dksX3_doAlias_0 11 rfl rfl)
theorem dX3_doAlias_14 : decode cX3_doAlias 14 = .ok (.iconst (-1), 1) := dk_2 (dk_at dksX3_doAlias_0 14 rfl rfl)
theorem dX3_doAlias_15 : decode cX3_doAlias 15 = .ok (.ireturn, 1) := dk_172 (dk_at dksX3_doAlias_0 15 rfl rfl)
theorem dX3_doAlias_16 : decode cX3_doAlias 16 = .ok (.iload_n 1, 1) := dk_27 (dk_at dksX3_doAlias_0 16 rfl rfl)
theorem dX3_doAlias_17 : decode cX3_doAlias 17 = .ok (.invokestatic 57, 3) := dk_184 0 57 (dk_at dksX3_doAlias_0 17 rfl rfl)
theorem dX3_doAlias_20 : decode cX3_doAlias 20 = .ok (.ifCond .ne 6, 3) := dk_154 0 6 (dk_at dksX3_doAlias_0 20 rfl rfl)
theorem dX3_doAlias_23 : decode cX3_doAlias 23 = .ok (.bipush (-2), 2) := dk_16 254 (dk_at dksX3_doAlias_1 0 rfl rfl)
theorem dX3_doAlias_25 : decode cX3_doAlias 25 = .ok (.ireturn, 1) := dk_172 (dk_at dksX3_doAlias_1 2 rfl rfl)
theorem dX3_doAlias_26 : decode cX3_doAlias 26 = .ok (.aload_n 0, 1) := dk_42 (dk_at dksX3_doAlias_1 3 rfl rfl)
theorem dX3_doAlias_27 : decode cX3_doAlias 27 = .ok (.iload_n 1, 1) := dk_27 (dk_at dksX3_doAlias_1 4 rfl rfl)
theorem dX3_doAlias_28 : decode cX3_doAlias 28 = .ok (.invokevirtual 50, 3) := dk_182 0 50 (dk_at dksX3_doAlias_1 5 rfl rfl)
theorem dX3_doAlias_31 : decode cX3_doAlias 31 = .ok (.istore 4, 2) := dk_54 4 (dk_at dksX3_doAlias_1 8 rfl rfl)
theorem dX3_doAlias_33 : decode cX3_doAlias 33 = .ok (.aload_n 0, 1) := dk_42 (dk_at dksX3_doAlias_1 10 rfl rfl)
theorem dX3_doAlias_34 : decode cX3_doAlias 34 = .ok (.iload 4, 2) := dk_21 4 (dk_at dksX3_doAlias_1 11 rfl rfl)
theorem dX3_doAlias_36 : decode cX3_doAlias 36 = .ok (.invokevirtual 53, 3) := dk_182 0 53 (dk_at dksX3_doAlias_1 13 rfl rfl)
theorem dX3_doAlias_39 : decode cX3_doAlias 39 = .ok (.ifCond .eq 6, 3) := dk_153 0 6 (dk_at dksX3_doAlias_1 16 rfl rfl)
theorem dX3_doAlias_42 : decode cX3_doAlias 42 = .ok (.bipush (-7), 2) := dk_16 249 (dk_at dksX3_doAlias_1 19 rfl rfl)
theorem dX3_doAlias_44 : decode cX3_doAlias 44 = .ok (.ireturn, 1) := dk_172 (dk_at dksX3_doAlias_1 21 rfl rfl)
theorem dX3_doAlias_45 : decode cX3_doAlias 45 = .ok (.iload 4, 2) := dk_21 4 (dk_at dksX3_doAlias_1 22 rfl rfl)
theorem dX3_doAlias_47 : decode cX3_doAlias 47 = .ok (.bipush (-5), 2) := dk_16 251 (dk_at dksX3_doAlias_2 0 rfl rfl)
theorem dX3_doAlias_49 : decode cX3_doAlias 49 = .ok (.if_icmp .ne 13, 3) := dk_160 0 13 (dk_at dksX3_doAlias_2 2 rfl rfl)
theorem dX3_doAlias_52 : decode cX3_doAlias 52 = .ok (.aload_n 0, 1) := dk_42 (dk_at dksX3_doAlias_2 5 rfl rfl)
theorem dX3_doAlias_53 : decode cX3_doAlias 53 = .ok (.invokevirtual 64, 3) := dk_182 0 64 (dk_at dksX3_doAlias_2 6 rfl rfl)
theorem dX3_doAlias_56 : decode cX3_doAlias 56 = .ok (.ifCond .eq 6, 3) := dk_153 0 6 (dk_at dksX3_doAlias_2 9 rfl rfl)
theorem dX3_doAlias_59 : decode cX3_doAlias 59 = .ok (.bipush (-6), 2) := dk_16 250 (dk_at dksX3_doAlias_2 12 rfl rfl)
theorem dX3_doAlias_61 : decode cX3_doAlias 61 = .ok (.ireturn, 1) := dk_172 (dk_at dksX3_doAlias_2 14 rfl rfl)
theorem dX3_doAlias_62 : decode cX3_doAlias 62 = .ok (.iload 4, 2) := dk_21 4 (dk_at dksX3_doAlias_2 15 rfl rfl)
theorem dX3_doAlias_64 : decode cX3_doAlias 64 = .ok (.bipush (-5), 2) := dk_16 251 (dk_at dksX3_doAlias_2 17 rfl rfl)
theorem dX3_doAlias_66 : decode cX3_doAlias 66 = .ok (.if_icmp .eq 33, 3) := dk_159 0 33 (dk_at dksX3_doAlias_2 19 rfl rfl)
theorem dX3_doAlias_69 : decode cX3_doAlias 69 = .ok (.aload_n 0, 1) := dk_42 (dk_at dksX3_doAlias_2 22 rfl rfl)
theorem dX3_doAlias_70 : decode cX3_doAlias 70 = .ok (.iload 4, 2) := dk_21 4 (dk_at dksX3_doAlias_3 0 rfl rfl)
theorem dX3_doAlias_72 : decode cX3_doAlias 72 = .ok (.iconst 2, 1) := dk_5 (dk_at dksX3_doAlias_3 2 rfl rfl)
theorem dX3_doAlias_73 : decode cX3_doAlias 73 = .ok (.invokevirtual 38, 3) := dk_182 0 38 (dk_at dksX3_doAlias_3 3 rfl rfl)
theorem dX3_doAlias_76 : decode cX3_doAlias 76 = .ok (.aload_n 0, 1) := dk_42 (dk_at dksX3_doAlias_3 6 rfl rfl)
theorem dX3_doAlias_77 : decode cX3_doAlias 77 = .ok (.iload_n 3, 1) := dk_29 (dk_at dksX3_doAlias_3 7 rfl rfl)
theorem dX3_doAlias_78 : decode cX3_doAlias 78 = .ok (.iconst 2, 1) := dk_5 (dk_at dksX3_doAlias_3 8 rfl rfl)
theorem dX3_doAlias_79 : decode cX3_doAlias 79 = .ok (.invokevirtual 38, 3) := dk_182 0 38 (dk_at dksX3_doAlias_3 9 rfl rfl)
theorem dX3_doAlias_82 : decode cX3_doAlias 82 = .ok (.if_icmp .ne 17, 3) := dk_160 0 17 (dk_at dksX3_doAlias_3 12 rfl rfl)
theorem dX3_doAlias_85 : decode cX3_doAlias 85 = .ok (.aload_n 0, 1) := dk_42 (dk_at dksX3_doAlias_3 15 rfl rfl)
theorem dX3_doAlias_86 : decode cX3_doAlias 86 = .ok (.iload 4, 2) := dk_21 4 (dk_at dksX3_doAlias_3 16 rfl rfl)
theorem dX3_doAlias_88 : decode cX3_doAlias 88 = .ok (.iconst 5, 1) := dk_8 (dk_at dksX3_doAlias_3 18 rfl rfl)
theorem dX3_doAlias_89 : decode cX3_doAlias 89 = .ok (.invokevirtual 38, 3) := dk_182 0 38 (dk_at dksX3_doAlias_3 19 rfl rfl)
theorem dX3_doAlias_92 : decode cX3_doAlias 92 = .ok (.iload_n 2, 1) := dk_28 (dk_at dksX3_doAlias_3 22 rfl rfl)
theorem dX3_doAlias_93 : decode cX3_doAlias 93 = .ok (.if_icmp .ne 6, 3) := dk_160 0 6 (dk_at dksX3_doAlias_4 0 rfl rfl)
theorem dX3_doAlias_96 : decode cX3_doAlias 96 = .ok (.bipush (-5), 2) := dk_16 251 (dk_at dksX3_doAlias_4 3 rfl rfl)
theorem dX3_doAlias_98 : decode cX3_doAlias 98 = .ok (.ireturn, 1) := dk_172 (dk_at dksX3_doAlias_4 5 rfl rfl)
theorem dX3_doAlias_99 : decode cX3_doAlias 99 = .ok (.aload_n 0, 1) := dk_42 (dk_at dksX3_doAlias_4 6 rfl rfl)
theorem dX3_doAlias_100 : decode cX3_doAlias 100 = .ok (.iload_n 3, 1) := dk_29 (dk_at dksX3_doAlias_4 7 rfl rfl)
theorem dX3_doAlias_101 : decode cX3_doAlias 101 = .ok (.iconst 2, 1) := dk_5 (dk_at dksX3_doAlias_4 8 rfl rfl)
theorem dX3_doAlias_102 : decode cX3_doAlias 102 = .ok (.invokevirtual 38, 3) := dk_182 0 38 (dk_at dksX3_doAlias_4 9 rfl rfl)
theorem dX3_doAlias_105 : decode cX3_doAlias 105 = .ok (.istore 5, 2) := dk_54 5 (dk_at dksX3_doAlias_4 12 rfl rfl)
theorem dX3_doAlias_107 : decode cX3_doAlias 107 = .ok (.aload_n 0, 1) := dk_42 (dk_at dksX3_doAlias_4 14 rfl rfl)
theorem dX3_doAlias_108 : decode cX3_doAlias 108 = .ok (.iload_n 3, 1) := dk_29 (dk_at dksX3_doAlias_4 15 rfl rfl)
theorem dX3_doAlias_109 : decode cX3_doAlias 109 = .ok (.iconst 3, 1) := dk_6 (dk_at dksX3_doAlias_4 16 rfl rfl)
theorem dX3_doAlias_110 : decode cX3_doAlias 110 = .ok (.invokevirtual 38, 3) := dk_182 0 38 (dk_at dksX3_doAlias_4 17 rfl rfl)
theorem dX3_doAlias_113 : decode cX3_doAlias 113 = .ok (.istore 6, 2) := dk_54 6 (dk_at dksX3_doAlias_4 20 rfl rfl)
theorem dX3_doAlias_115 : decode cX3_doAlias 115 = .ok (.aload_n 0, 1) := dk_42 (dk_at dksX3_doAlias_4 22 rfl rfl)
theorem dX3_doAlias_116 : decode cX3_doAlias 116 = .ok (.iload_n 3, 1) := dk_29 (dk_at dksX3_doAlias_4 23 rfl rfl)
theorem dX3_doAlias_117 : decode cX3_doAlias 117 = .ok (.iconst 4, 1) := dk_7 (dk_at dksX3_doAlias_5 0 rfl rfl)
theorem dX3_doAlias_118 : decode cX3_doAlias 118 = .ok (.invokevirtual 38, 3) := dk_182 0 38 (dk_at dksX3_doAlias_5 1 rfl rfl)
theorem dX3_doAlias_121 : decode cX3_doAlias 121 = .ok (.istore 7, 2) := dk_54 7 (dk_at dksX3_doAlias_5 4 rfl rfl)
theorem dX3_doAlias_123 : decode cX3_doAlias 123 = .ok (.iload 4, 2) := dk_21 4 (dk_at dksX3_doAlias_5 6 rfl rfl)
theorem dX3_doAlias_125 : decode cX3_doAlias 125 = .ok (.bipush (-5), 2) := dk_16 251 (dk_at dksX3_doAlias_5 8 rfl rfl)
theorem dX3_doAlias_127 : decode cX3_doAlias 127 = .ok (.if_icmp .eq 9, 3) := dk_159 0 9 (dk_at dksX3_doAlias_5 10 rfl rfl)
theorem dX3_doAlias_130 : decode cX3_doAlias 130 = .ok (.aload_n 0, 1) := dk_42 (dk_at dksX3_doAlias_5 13 rfl rfl)
theorem dX3_doAlias_131 : decode cX3_doAlias 131 = .ok (.iload 4, 2) := dk_21 4 (dk_at dksX3_doAlias_5 14 rfl rfl)
theorem dX3_doAlias_133 : decode cX3_doAlias 133 = .ok (.invokevirtual 78, 3) := dk_182 0 78 (dk_at dksX3_doAlias_5 16 rfl rfl)
theorem dX3_doAlias_136 : decode cX3_doAlias 136 = .ok (.aload_n 0, 1) := dk_42 (dk_at dksX3_doAlias_5 19 rfl rfl)
theorem dX3_doAlias_137 : decode cX3_doAlias 137 = .ok (.getfield 22, 3) := dk_180 0 22 (dk_at dksX3_doAlias_5 20 rfl rfl)
theorem dX3_doAlias_140 : decode cX3_doAlias 140 = .ok (.iconst 0, 1) := dk_3 (dk_at dksX3_doAlias_5 23 rfl rfl)
theorem dX3_doAlias_141 : decode cX3_doAlias 141 = .ok (.iload_n 1, 1) := dk_27 (dk_at dksX3_doAlias_6 0 rfl rfl)
theorem dX3_doAlias_142 : decode cX3_doAlias 142 = .ok (.iastore, 1) := dk_79 (dk_at dksX3_doAlias_6 1 rfl rfl)
theorem dX3_doAlias_143 : decode cX3_doAlias 143 = .ok (.aload_n 0, 1) := dk_42 (dk_at dksX3_doAlias_6 2 rfl rfl)
theorem dX3_doAlias_144 : decode cX3_doAlias 144 = .ok (.getfield 22, 3) := dk_180 0 22 (dk_at dksX3_doAlias_6 3 rfl rfl)
theorem dX3_doAlias_147 : decode cX3_doAlias 147 = .ok (.iconst 1, 1) := dk_4 (dk_at dksX3_doAlias_6 6 rfl rfl)
theorem dX3_doAlias_148 : decode cX3_doAlias 148 = .ok (.iconst 1, 1) := dk_4 (dk_at dksX3_doAlias_6 7 rfl rfl)
theorem dX3_doAlias_149 : decode cX3_doAlias 149 = .ok (.iastore, 1) := dk_79 (dk_at dksX3_doAlias_6 8 rfl rfl)
theorem dX3_doAlias_150 : decode cX3_doAlias 150 = .ok (.aload_n 0, 1) := dk_42 (dk_at dksX3_doAlias_6 9 rfl rfl)
theorem dX3_doAlias_151 : decode cX3_doAlias 151 = .ok (.getfield 22, 3) := dk_180 0 22 (dk_at dksX3_doAlias_6 10 rfl rfl)
theorem dX3_doAlias_154 : decode cX3_doAlias 154 = .ok (.iconst 2, 1) := dk_5 (dk_at dksX3_doAlias_6 13 rfl rfl)
theorem dX3_doAlias_155 : decode cX3_doAlias 155 = .ok (.iload 5, 2) := dk_21 5 (dk_at dksX3_doAlias_6 14 rfl rfl)
theorem dX3_doAlias_157 : decode cX3_doAlias 157 = .ok (.iastore, 1) := dk_79 (dk_at dksX3_doAlias_6 16 rfl rfl)
theorem dX3_doAlias_158 : decode cX3_doAlias 158 = .ok (.aload_n 0, 1) := dk_42 (dk_at dksX3_doAlias_6 17 rfl rfl)
theorem dX3_doAlias_159 : decode cX3_doAlias 159 = .ok (.getfield 22, 3) := dk_180 0 22 (dk_at dksX3_doAlias_6 18 rfl rfl)
theorem dX3_doAlias_162 : decode cX3_doAlias 162 = .ok (.iconst 3, 1) := dk_6 (dk_at dksX3_doAlias_6 21 rfl rfl)
theorem dX3_doAlias_163 : decode cX3_doAlias 163 = .ok (.iload 6, 2) := dk_21 6 (dk_at dksX3_doAlias_6 22 rfl rfl)
theorem dX3_doAlias_165 : decode cX3_doAlias 165 = .ok (.iastore, 1) := dk_79 (dk_at dksX3_doAlias_7 0 rfl rfl)
theorem dX3_doAlias_166 : decode cX3_doAlias 166 = .ok (.aload_n 0, 1) := dk_42 (dk_at dksX3_doAlias_7 1 rfl rfl)
theorem dX3_doAlias_167 : decode cX3_doAlias 167 = .ok (.getfield 22, 3) := dk_180 0 22 (dk_at dksX3_doAlias_7 2 rfl rfl)
theorem dX3_doAlias_170 : decode cX3_doAlias 170 = .ok (.iconst 4, 1) := dk_7 (dk_at dksX3_doAlias_7 5 rfl rfl)
theorem dX3_doAlias_171 : decode cX3_doAlias 171 = .ok (.iload 7, 2) := dk_21 7 (dk_at dksX3_doAlias_7 6 rfl rfl)
theorem dX3_doAlias_173 : decode cX3_doAlias 173 = .ok (.iastore, 1) := dk_79 (dk_at dksX3_doAlias_7 8 rfl rfl)
theorem dX3_doAlias_174 : decode cX3_doAlias 174 = .ok (.aload_n 0, 1) := dk_42 (dk_at dksX3_doAlias_7 9 rfl rfl)
theorem dX3_doAlias_175 : decode cX3_doAlias 175 = .ok (.getfield 22, 3) := dk_180 0 22 (dk_at dksX3_doAlias_7 10 rfl rfl)
theorem dX3_doAlias_178 : decode cX3_doAlias 178 = .ok (.iconst 5, 1) := dk_8 (dk_at dksX3_doAlias_7 13 rfl rfl)
theorem dX3_doAlias_179 : decode cX3_doAlias 179 = .ok (.iload_n 2, 1) := dk_28 (dk_at dksX3_doAlias_7 14 rfl rfl)
theorem dX3_doAlias_180 : decode cX3_doAlias 180 = .ok (.iastore, 1) := dk_79 (dk_at dksX3_doAlias_7 15 rfl rfl)
theorem dX3_doAlias_181 : decode cX3_doAlias 181 = .ok (.aload_n 0, 1) := dk_42 (dk_at dksX3_doAlias_7 16 rfl rfl)
theorem dX3_doAlias_182 : decode cX3_doAlias 182 = .ok (.invokevirtual 71, 3) := dk_182 0 71 (dk_at dksX3_doAlias_7 17 rfl rfl)
theorem dX3_doAlias_185 : decode cX3_doAlias 185 = .ok (.istore 8, 2) := dk_54 8 (dk_at dksX3_doAlias_7 20 rfl rfl)
theorem dX3_doAlias_187 : decode cX3_doAlias 187 = .ok (.iload 5, 2) := dk_21 5 (dk_at dksX3_doAlias_7 22 rfl rfl)
theorem dX3_doAlias_189 : decode cX3_doAlias 189 = .ok (.ireturn, 1) := dk_172 (dk_at dksX3_doAlias_8 0 rfl rfl)
def dkwX3_type_1 : List UInt8 := [180, 0, 95, 4, 96, 181, 0, 95, 42, 180, 0, 95, 172]
abbrev dktX3_type_1 : List UInt8 := dkwX3_type_1 ++ []
def dkwX3_type_0 : List UInt8 := [42, 180, 0, 95, 16, 60, 160, 0, 6, 16, 253, 172, 42, 180, 0, 25, 42, 180, 0, 95, 27, 79, 42, 89]
abbrev dktX3_type_0 : List UInt8 := dkwX3_type_0 ++ dktX3_type_1
theorem dksX3_type_0 : cX3_type.data.toList.drop 0 = dktX3_type_0 := by decide +kernel
theorem dksX3_type_1 : cX3_type.data.toList.drop 24 = dktX3_type_1 := dk_seg dksX3_type_0 24 rfl rfl
theorem dX3_type_0 : decode cX3_type 0 = .ok (.aload_n 0, 1) := dk_42 (dk_at dksX3_type_0 0 rfl rfl)
theorem dX3_type_1 : decode cX3_type 1 = .ok (.getfield 95, 3) := dk_180 0 95 (dk_at dksX3_type_0 1 rfl rfl)
theorem dX3_type_4 : decode cX3_type 4 = .ok (.bipush 60, 2) := dk_16 60 (dk_at dksX3_type_0 4 rfl rfl)
theorem dX3_type_6 : decode cX3_type 6 = .ok (.if_icmp .ne 6, 3) := dk_160 0 6 (dk_at dksX3_type_0 6 rfl rfl)
theorem dX3_type_9 : decode cX3_type 9 = .ok (.bipush (-3), 2) := dk_16 253 (dk_at dksX3_type_0 9 rfl rfl)
theorem dX3_type_11 : decode cX3_type 11 = .ok (.ireturn, 1) := dk_172 (dk_at dksX3_type_0 11 rfl rfl)
theorem dX3_type_12 : decode cX3_type 12 = .ok (.aload_n 0, 1) := dk_42 (dk_at dksX3_type_0 12 rfl rfl)
theorem dX3_type_13 : decode cX3_type 13 = .ok (.getfield 25, 3) := dk_180 0 25 (dk_at dksX3_type_0 13 rfl rfl)
theorem dX3_type_16 : decode cX3_type 16 = .ok (.aload_n 0, 1) := dk_42 (dk_at dksX3_type_0 16 rfl rfl)
theorem dX3_type_17 : decode cX3_type 17 = .ok (.getfield 95, 3) := dk_180 0 95 (dk_at dksX3_type_0 17 rfl rfl)
theorem dX3_type_20 : decode cX3_type 20 = .ok (.iload_n 1, 1) := dk_27 (dk_at dksX3_type_0 20 rfl rfl)
theorem dX3_type_21 : decode cX3_type 21 = .ok (.iastore, 1) := dk_79 (dk_at dksX3_type_0 21 rfl rfl)
theorem dX3_type_22 : decode cX3_type 22 = .ok (.aload_n 0, 1) := dk_42 (dk_at dksX3_type_0 22 rfl rfl)
theorem dX3_type_23 : decode cX3_type 23 = .ok (.dup, 1) := dk_89 (dk_at dksX3_type_0 23 rfl rfl)
theorem dX3_type_24 : decode cX3_type 24 = .ok (.getfield 95, 3) := dk_180 0 95 (dk_at dksX3_type_1 0 rfl rfl)
theorem dX3_type_27 : decode cX3_type 27 = .ok (.iconst 1, 1) := dk_4 (dk_at dksX3_type_1 3 rfl rfl)
theorem dX3_type_28 : decode cX3_type 28 = .ok (.iadd, 1) := dk_96 (dk_at dksX3_type_1 4 rfl rfl)
theorem dX3_type_29 : decode cX3_type 29 = .ok (.putfield 95, 3) := dk_181 0 95 (dk_at dksX3_type_1 5 rfl rfl)
theorem dX3_type_32 : decode cX3_type 32 = .ok (.aload_n 0, 1) := dk_42 (dk_at dksX3_type_1 8 rfl rfl)
theorem dX3_type_33 : decode cX3_type 33 = .ok (.getfield 95, 3) := dk_180 0 95 (dk_at dksX3_type_1 9 rfl rfl)
theorem dX3_type_36 : decode cX3_type 36 = .ok (.ireturn, 1) := dk_172 (dk_at dksX3_type_1 12 rfl rfl)
def dkwX3_clearPad_0 : List UInt8 := [42, 180, 0, 95, 60, 42, 3, 181, 0, 95, 27, 172]
abbrev dktX3_clearPad_0 : List UInt8 := dkwX3_clearPad_0 ++ []
theorem dksX3_clearPad_0 : cX3_clearPad.data.toList.drop 0 = dktX3_clearPad_0 := by decide +kernel
theorem dX3_clearPad_0 : decode cX3_clearPad 0 = .ok (.aload_n 0, 1) := dk_42 (dk_at dksX3_clearPad_0 0 rfl rfl)
theorem dX3_clearPad_1 : decode cX3_clearPad 1 = .ok (.getfield 95, 3) := dk_180 0 95 (dk_at dksX3_clearPad_0 1 rfl rfl)
theorem dX3_clearPad_4 : decode cX3_clearPad 4 = .ok (.istore_n 1, 1) := dk_60 (dk_at dksX3_clearPad_0 4 rfl rfl)
theorem dX3_clearPad_5 : decode cX3_clearPad 5 = .ok (.aload_n 0, 1) := dk_42 (dk_at dksX3_clearPad_0 5 rfl rfl)
theorem dX3_clearPad_6 : decode cX3_clearPad 6 = .ok (.iconst 0, 1) := dk_3 (dk_at dksX3_clearPad_0 6 rfl rfl)
theorem dX3_clearPad_7 : decode cX3_clearPad 7 = .ok (.putfield 95, 3) := dk_181 0 95 (dk_at dksX3_clearPad_0 7 rfl rfl)
theorem dX3_clearPad_10 : decode cX3_clearPad 10 = .ok (.iload_n 1, 1) := dk_27 (dk_at dksX3_clearPad_0 10 rfl rfl)
theorem dX3_clearPad_11 : decode cX3_clearPad 11 = .ok (.ireturn, 1) := dk_172 (dk_at dksX3_clearPad_0 11 rfl rfl)
def dkwX3_addAll_4 : List UInt8 := [132, 2, 1, 42, 16, 59, 182, 0, 111, 62, 167, 255, 183, 42, 28, 182, 0, 89, 172]
abbrev dktX3_addAll_4 : List UInt8 := dkwX3_addAll_4 ++ []
def dkwX3_addAll_3 : List UInt8 := [180, 0, 7, 21, 5, 42, 180, 0, 13, 21, 5, 46, 79, 132, 5, 1, 167, 255, 231, 42, 180, 0, 114, 172]
abbrev dktX3_addAll_3 : List UInt8 := dkwX3_addAll_3 ++ dktX3_addAll_4
def dkwX3_addAll_2 : List UInt8 := [156, 0, 48, 42, 180, 0, 114, 16, 251, 159, 0, 39, 3, 54, 5, 21, 5, 17, 0, 149, 162, 0, 23, 42]
abbrev dktX3_addAll_2 : List UInt8 := dkwX3_addAll_2 ++ dktX3_addAll_3
def dkwX3_addAll_1 : List UInt8 := [181, 0, 98, 3, 61, 4, 62, 29, 153, 0, 75, 42, 4, 182, 0, 120, 54, 4, 42, 180, 0, 114]
abbrev dktX3_addAll_1 : List UInt8 := dkwX3_addAll_1 ++ dktX3_addAll_2
def dkwX3_addAll_0 : List UInt8 := [42, 182, 0, 124, 60, 27, 16, 251, 159, 0, 8, 16, 156, 27, 100, 172, 42, 182, 0, 82, 42, 3]
abbrev dktX3_addAll_0 : List UInt8 := dkwX3_addAll_0 ++ dktX3_addAll_1
theorem dksX3_addAll_0 : cX3_addAll.data.toList.drop 0 = dktX3_addAll_0 := by decide +kernel
theorem dksX3_addAll_1 : cX3_addAll.data.toList.drop 22 = dktX3_addAll_1 := dk_seg dksX3_addAll_0 22 rfl rfl
theorem dksX3_addAll_2 : cX3_addAll.data.toList.drop 44 = dktX3_addAll_2 := dk_seg dksX3_addAll_1 22 rfl rfl
theorem dksX3_addAll_3 : cX3_addAll.data.toList.drop 68 = dktX3_addAll_3 := dk_seg dksX3_addAll_2 24 rfl rfl
theorem dksX3_addAll_4 : cX3_addAll.data.toList.drop 92 = dktX3_addAll_4 := dk_seg dksX3_addAll_3 24 rfl rfl
theorem dX3_addAll_0 : decode cX3_addAll 0 = .ok (.aload_n 0, 1) := dk_42 (dk_at dksX3_addAll_0 0 rfl rfl)
theorem dX3_addAll_1 : decode cX3_addAll 1 = .ok (.invokevirtual 124, 3) := dk_182 0 124 (dk_at dksX3_addAll_0 1 rfl rfl)
theorem dX3_addAll_4 : decode cX3_addAll 4 = .ok (.istore_n 1, 1) := dk_60 (dk_at dksX3_addAll_0 4 rfl rfl)
theorem dX3_addAll_5 : decode cX3_addAll 5 = .ok (.iload_n 1, 1) := dk_27 (dk_at dksX3_addAll_0 5 rfl rfl)
theorem dX3_addAll_6 : decode cX3_addAll 6 = .ok (.bipush (-5), 2) := dk_16 251 (dk_at dksX3_addAll_0 6 rfl rfl)
theorem dX3_addAll_8 : decode cX3_addAll 8 = .ok (.if_icmp .eq 8, 3) := dk_159 0 8 (dk_at dksX3_addAll_0 8 rfl rfl)
theorem dX3_addAll_11 : decode cX3_addAll 11 = .ok (.bipush (-100), 2) := dk_16 156 (dk_at dksX3_addAll_0 11 rfl rfl)
theorem dX3_addAll_13 : decode cX3_addAll 13 = .ok (.iload_n 1, 1) := dk_27 (dk_at dksX3_addAll_0 13 rfl rfl)
theorem dX3_addAll_14 : decode cX3_addAll 14 = .ok (.isub, 1) := dk_100 (dk_at dksX3_addAll_0 14 rfl rfl)
theorem dX3_addAll_15 : decode cX3_addAll 15 = .ok (.ireturn, 1) := dk_172 (dk_at dksX3_addAll_0 15 rfl rfl)
theorem dX3_addAll_16 : decode cX3_addAll 16 = .ok (.aload_n 0, 1) := dk_42 (dk_at dksX3_addAll_0 16 rfl rfl)
theorem dX3_addAll_17 : decode cX3_addAll 17 = .ok (.invokevirtual 82, 3) := dk_182 0 82 (dk_at dksX3_addAll_0 17 rfl rfl)
theorem dX3_addAll_20 : decode cX3_addAll 20 = .ok (.aload_n 0, 1) := dk_42 (dk_at dksX3_addAll_0 20 rfl rfl)
theorem dX3_addAll_21 : decode cX3_addAll 21 = .ok (.iconst 0, 1) := dk_3 (dk_at dksX3_addAll_0 21 rfl rfl)
theorem dX3_addAll_22 : decode cX3_addAll 22 = .ok (.putfield 98, 3) := dk_181 0 98 (dk_at dksX3_addAll_1 0 rfl rfl)
theorem dX3_addAll_25 : decode cX3_addAll 25 = .ok (.iconst 0, 1) := dk_3 (dk_at dksX3_addAll_1 3 rfl rfl)
theorem dX3_addAll_26 : decode cX3_addAll 26 = .ok (.istore_n 2, 1) := dk_61 (dk_at dksX3_addAll_1 4 rfl rfl)
theorem dX3_addAll_27 : decode cX3_addAll 27 = .ok (.iconst 1, 1) := dk_4 (dk_at dksX3_addAll_1 5 rfl rfl)
theorem dX3_addAll_28 : decode cX3_addAll 28 = .ok (.istore_n 3, 1) := dk_62 (dk_at dksX3_addAll_1 6 rfl rfl)
theorem dX3_addAll_29 : decode cX3_addAll 29 = .ok (.iload_n 3, 1) := dk_29 (dk_at dksX3_addAll_1 7 rfl rfl)
theorem dX3_addAll_30 : decode cX3_addAll 30 = .ok (.ifCond .eq 75, 3) := dk_153 0 75 (dk_at dksX3_addAll_1 8 rfl rfl)
theorem dX3_addAll_33 : decode cX3_addAll 33 = .ok (.aload_n 0, 1) := dk_42 (dk_at dksX3_addAll_1 11 rfl rfl)
theorem dX3_addAll_34 : decode cX3_addAll 34 = .ok (.iconst 1, 1) := dk_4 (dk_at dksX3_addAll_1 12 rfl rfl)
theorem dX3_addAll_35 : decode cX3_addAll 35 = .ok (.invokevirtual 120, 3) := dk_182 0 120 (dk_at dksX3_addAll_1 13 rfl rfl)
theorem dX3_addAll_38 : decode cX3_addAll 38 = .ok (.istore 4, 2) := dk_54 4 (dk_at dksX3_addAll_1 16 rfl rfl)
theorem dX3_addAll_40 : decode cX3_addAll 40 = .ok (.aload_n 0, 1) := dk_42 (dk_at dksX3_addAll_1 18 rfl rfl)
theorem dX3_addAll_41 : decode cX3_addAll 41 = .ok (.getfield 114, 3) := dk_180 0 114 (dk_at dksX3_addAll_1 19 rfl rfl)
theorem dX3_addAll_44 : decode cX3_addAll 44 = .ok (.ifCond .ge 48, 3) := dk_156 0 48 (dk_at dksX3_addAll_2 0 rfl rfl)
theorem dX3_addAll_47 : decode cX3_addAll 47 = .ok (.aload_n 0, 1) := dk_42 (dk_at dksX3_addAll_2 3 rfl rfl)
theorem dX3_addAll_48 : decode cX3_addAll 48 = .ok (.getfield 114, 3) := dk_180 0 114 (dk_at dksX3_addAll_2 4 rfl rfl)
theorem dX3_addAll_51 : decode cX3_addAll 51 = .ok (.bipush (-5), 2) := dk_16 251 (dk_at dksX3_addAll_2 7 rfl rfl)
theorem dX3_addAll_53 : decode cX3_addAll 53 = .ok (.if_icmp .eq 39, 3) := dk_159 0 39 (dk_at dksX3_addAll_2 9 rfl rfl)
theorem dX3_addAll_56 : decode cX3_addAll 56 = .ok (.iconst 0, 1) := dk_3 (dk_at dksX3_addAll_2 12 rfl rfl)
theorem dX3_addAll_57 : decode cX3_addAll 57 = .ok (.istore 5, 2) := dk_54 5 (dk_at dksX3_addAll_2 13 rfl rfl)
theorem dX3_addAll_59 : decode cX3_addAll 59 = .ok (.iload 5, 2) := dk_21 5 (dk_at dksX3_addAll_2 15 rfl rfl)
theorem dX3_addAll_61 : decode cX3_addAll 61 = .ok (.sipush 149, 3) := dk_17 0 149 (dk_at dksX3_addAll_2 17 rfl rfl)
theorem dX3_addAll_64 : decode cX3_addAll 64 = .ok (.if_icmp .ge 23, 3) := dk_162 0 23 (dk_at dksX3_addAll_2 20 rfl rfl)
theorem dX3_addAll_67 : decode cX3_addAll 67 = .ok (.aload_n 0, 1) := dk_42 (dk_at dksX3_addAll_2 23 rfl rfl)
theorem dX3_addAll_68 : decode cX3_addAll 68 = .ok (.getfield 7, 3) := dk_180 0 7 (dk_at dksX3_addAll_3 0 rfl rfl)
theorem dX3_addAll_71 : decode cX3_addAll 71 = .ok (.iload 5, 2) := dk_21 5 (dk_at dksX3_addAll_3 3 rfl rfl)
theorem dX3_addAll_73 : decode cX3_addAll 73 = .ok (.aload_n 0, 1) := dk_42 (dk_at dksX3_addAll_3 5 rfl rfl)
theorem dX3_addAll_74 : decode cX3_addAll 74 = .ok (.getfield 13, 3) := dk_180 0 13 (dk_at dksX3_addAll_3 6 rfl rfl)
theorem dX3_addAll_77 : decode cX3_addAll 77 = .ok (.iload 5, 2) := dk_21 5 (dk_at dksX3_addAll_3 9 rfl rfl)
theorem dX3_addAll_79 : decode cX3_addAll 79 = .ok (.iaload, 1) := dk_46 (dk_at dksX3_addAll_3 11 rfl rfl)
theorem dX3_addAll_80 : decode cX3_addAll 80 = .ok (.iastore, 1) := dk_79 (dk_at dksX3_addAll_3 12 rfl rfl)
theorem dX3_addAll_81 : decode cX3_addAll 81 = .ok (.iinc 5 1, 3) := dk_132 5 1 (dk_at dksX3_addAll_3 13 rfl rfl)
theorem dX3_addAll_84 : decode cX3_addAll 84 = .ok (.goto (-25), 3) := dk_167 255 231 (dk_at dksX3_addAll_3 16 rfl rfl)
theorem dX3_addAll_87 : decode cX3_addAll 87 = .ok (.aload_n 0, 1) := dk_42 (dk_at dksX3_addAll_3 19 rfl rfl)
theorem dX3_addAll_88 : decode cX3_addAll 88 = .ok (.getfield 114, 3) := dk_180 0 114 (dk_at dksX3_addAll_3 20 rfl rfl)
theorem dX3_addAll_91 : decode cX3_addAll 91 = .ok (.ireturn, 1) := dk_172 (dk_at dksX3_addAll_3 23 rfl rfl)
theorem dX3_addAll_92 : decode cX3_addAll 92 = .ok (.iinc 2 1, 3) := dk_132 2 1 (dk_at dksX3_addAll_4 0 rfl rfl)
theorem dX3_addAll_95 : decode cX3_addAll 95 = .ok (.aload_n 0, 1) := dk_42 (dk_at dksX3_addAll_4 3 rfl rfl)
theorem dX3_addAll_96 : decode cX3_addAll 96 = .ok (.bipush 59, 2) := dk_16 59 (dk_at dksX3_addAll_4 4 rfl rfl)
theorem dX3_addAll_98 : decode cX3_addAll 98 = .ok (.invokevirtual 111, 3) := dk_182 0 111 (dk_at dksX3_addAll_4 6 rfl rfl)
theorem dX3_addAll_101 : decode cX3_addAll 101 = .ok (.istore_n 3, 1) := dk_62 (dk_at dksX3_addAll_4 9 rfl rfl)
theorem dX3_addAll_102 : decode cX3_addAll 102 = .ok (.goto (-73), 3) := dk_167 255 183 (dk_at dksX3_addAll_4 10 rfl rfl)
theorem dX3_addAll_105 : decode cX3_addAll 105 = .ok (.aload_n 0, 1) := dk_42 (dk_at dksX3_addAll_4 13 rfl rfl)
theorem dX3_addAll_106 : decode cX3_addAll 106 = .ok (.iload_n 2, 1) := dk_28 (dk_at dksX3_addAll_4 14 rfl rfl)
theorem dX3_addAll_107 : decode cX3_addAll 107 = .ok (.invokevirtual 89, 3) := dk_182 0 89 (dk_at dksX3_addAll_4 15 rfl rfl)
theorem dX3_addAll_110 : decode cX3_addAll 110 = .ok (.ireturn, 1) := dk_172 (dk_at dksX3_addAll_4 18 rfl rfl)
def dkwX3_fault_2 : List UInt8 := [167, 0, 7, 42, 180, 0, 98, 172]
abbrev dktX3_fault_2 : List UInt8 := dkwX3_fault_2 ++ []
def dkwX3_fault_1 : List UInt8 := [42, 16, 59, 182, 0, 111, 60, 167, 255, 232, 42, 180, 0, 98, 42, 180, 0, 95, 160, 0, 8, 16, 251]
abbrev dktX3_fault_1 : List UInt8 := dkwX3_fault_1 ++ dktX3_fault_2
def dkwX3_fault_0 : List UInt8 := [42, 3, 181, 0, 98, 4, 60, 27, 153, 0, 26, 42, 3, 182, 0, 120, 154, 0, 8, 42, 180, 0, 98, 172]
abbrev dktX3_fault_0 : List UInt8 := dkwX3_fault_0 ++ dktX3_fault_1
theorem dksX3_fault_0 : cX3_fault.data.toList.drop 0 = dktX3_fault_0 := by decide +kernel
theorem dksX3_fault_1 : cX3_fault.data.toList.drop 24 = dktX3_fault_1 := dk_seg dksX3_fault_0 24 rfl rfl
theorem dksX3_fault_2 : cX3_fault.data.toList.drop 47 = dktX3_fault_2 := dk_seg dksX3_fault_1 23 rfl rfl
theorem dX3_fault_0 : decode cX3_fault 0 = .ok (.aload_n 0, 1) := dk_42 (dk_at dksX3_fault_0 0 rfl rfl)
theorem dX3_fault_1 : decode cX3_fault 1 = .ok (.iconst 0, 1) := dk_3 (dk_at dksX3_fault_0 1 rfl rfl)
theorem dX3_fault_2 : decode cX3_fault 2 = .ok (.putfield 98, 3) := dk_181 0 98 (dk_at dksX3_fault_0 2 rfl rfl)
theorem dX3_fault_5 : decode cX3_fault 5 = .ok (.iconst 1, 1) := dk_4 (dk_at dksX3_fault_0 5 rfl rfl)
theorem dX3_fault_6 : decode cX3_fault 6 = .ok (.istore_n 1, 1) := dk_60 (dk_at dksX3_fault_0 6 rfl rfl)
theorem dX3_fault_7 : decode cX3_fault 7 = .ok (.iload_n 1, 1) := dk_27 (dk_at dksX3_fault_0 7 rfl rfl)
theorem dX3_fault_8 : decode cX3_fault 8 = .ok (.ifCond .eq 26, 3) := dk_153 0 26 (dk_at dksX3_fault_0 8 rfl rfl)
theorem dX3_fault_11 : decode cX3_fault 11 = .ok (.aload_n 0, 1) := dk_42 (dk_at dksX3_fault_0 11 rfl rfl)
theorem dX3_fault_12 : decode cX3_fault 12 = .ok (.iconst 0, 1) := dk_3 (dk_at dksX3_fault_0 12 rfl rfl)
theorem dX3_fault_13 : decode cX3_fault 13 = .ok (.invokevirtual 120, 3) := dk_182 0 120 (dk_at dksX3_fault_0 13 rfl rfl)
theorem dX3_fault_16 : decode cX3_fault 16 = .ok (.ifCond .ne 8, 3) := dk_154 0 8 (dk_at dksX3_fault_0 16 rfl rfl)
theorem dX3_fault_19 : decode cX3_fault 19 = .ok (.aload_n 0, 1) := dk_42 (dk_at dksX3_fault_0 19 rfl rfl)
theorem dX3_fault_20 : decode cX3_fault 20 = .ok (.getfield 98, 3) := dk_180 0 98 (dk_at dksX3_fault_0 20 rfl rfl)
theorem dX3_fault_23 : decode cX3_fault 23 = .ok (.ireturn, 1) := dk_172 (dk_at dksX3_fault_0 23 rfl rfl)
theorem dX3_fault_24 : decode cX3_fault 24 = .ok (.aload_n 0, 1) := dk_42 (dk_at dksX3_fault_1 0 rfl rfl)
theorem dX3_fault_25 : decode cX3_fault 25 = .ok (.bipush 59, 2) := dk_16 59 (dk_at dksX3_fault_1 1 rfl rfl)
theorem dX3_fault_27 : decode cX3_fault 27 = .ok (.invokevirtual 111, 3) := dk_182 0 111 (dk_at dksX3_fault_1 3 rfl rfl)
theorem dX3_fault_30 : decode cX3_fault 30 = .ok (.istore_n 1, 1) := dk_60 (dk_at dksX3_fault_1 6 rfl rfl)
theorem dX3_fault_31 : decode cX3_fault 31 = .ok (.goto (-24), 3) := dk_167 255 232 (dk_at dksX3_fault_1 7 rfl rfl)
theorem dX3_fault_34 : decode cX3_fault 34 = .ok (.aload_n 0, 1) := dk_42 (dk_at dksX3_fault_1 10 rfl rfl)
theorem dX3_fault_35 : decode cX3_fault 35 = .ok (.getfield 98, 3) := dk_180 0 98 (dk_at dksX3_fault_1 11 rfl rfl)
theorem dX3_fault_38 : decode cX3_fault 38 = .ok (.aload_n 0, 1) := dk_42 (dk_at dksX3_fault_1 14 rfl rfl)
theorem dX3_fault_39 : decode cX3_fault 39 = .ok (.getfield 95, 3) := dk_180 0 95 (dk_at dksX3_fault_1 15 rfl rfl)
theorem dX3_fault_42 : decode cX3_fault 42 = .ok (.if_icmp .ne 8, 3) := dk_160 0 8 (dk_at dksX3_fault_1 18 rfl rfl)
theorem dX3_fault_45 : decode cX3_fault 45 = .ok (.bipush (-5), 2) := dk_16 251 (dk_at dksX3_fault_1 21 rfl rfl)
theorem dX3_fault_47 : decode cX3_fault 47 = .ok (.goto 7, 3) := dk_167 0 7 (dk_at dksX3_fault_2 0 rfl rfl)
theorem dX3_fault_50 : decode cX3_fault 50 = .ok (.aload_n 0, 1) := dk_42 (dk_at dksX3_fault_2 3 rfl rfl)
theorem dX3_fault_51 : decode cX3_fault 51 = .ok (.getfield 98, 3) := dk_180 0 98 (dk_at dksX3_fault_2 4 rfl rfl)
theorem dX3_fault_54 : decode cX3_fault 54 = .ok (.ireturn, 1) := dk_172 (dk_at dksX3_fault_2 7 rfl rfl)
def dkwX3_readsAddition_6 : List UInt8 := [21, 4, 172]
abbrev dktX3_readsAddition_6 : List UInt8 := dkwX3_readsAddition_6 ++ []
def dkwX3_readsAddition_5 : List UInt8 := [153, 0, 20, 27, 153, 0, 16, 42, 28, 29, 42, 180, 0, 105, 182, 0, 85, 167, 0, 4, 3, 181, 0, 114]
abbrev dktX3_readsAddition_5 : List UInt8 := dkwX3_readsAddition_5 ++ dktX3_readsAddition_6
def dkwX3_readsAddition_4 : List UInt8 := [153, 0, 14, 42, 3, 17, 39, 15, 182, 0, 117, 153, 0, 7, 4, 167, 0, 4, 3, 54, 4, 42, 21, 4]
abbrev dktX3_readsAddition_4 : List UInt8 := dkwX3_readsAddition_4 ++ dktX3_readsAddition_5
def dkwX3_readsAddition_3 : List UInt8 := [182, 0, 117, 154, 0, 5, 3, 172, 42, 180, 0, 105, 62, 42, 3, 181, 0, 105, 42, 16, 44, 182, 0, 111]
abbrev dktX3_readsAddition_3 : List UInt8 := dkwX3_readsAddition_3 ++ dktX3_readsAddition_4
def dkwX3_readsAddition_2 : List UInt8 := [167, 0, 4, 3, 181, 0, 114, 29, 172, 42, 16, 61, 182, 0, 111, 153, 0, 13, 42, 4, 16, 40]
abbrev dktX3_readsAddition_2 : List UInt8 := dkwX3_readsAddition_2 ++ dktX3_readsAddition_3
def dkwX3_readsAddition_1 : List UInt8 := [182, 0, 108, 62, 42, 29, 153, 0, 19, 27, 153, 0, 15, 42, 28, 42, 180, 0, 105, 182, 0, 92]
abbrev dktX3_readsAddition_1 : List UInt8 := dkwX3_readsAddition_1 ++ dktX3_readsAddition_2
def dkwX3_readsAddition_0 : List UInt8 := [42, 182, 0, 108, 154, 0, 5, 3, 172, 42, 180, 0, 105, 61, 42, 16, 62, 182, 0, 111, 153, 0, 35, 42]
abbrev dktX3_readsAddition_0 : List UInt8 := dkwX3_readsAddition_0 ++ dktX3_readsAddition_1
theorem dksX3_readsAddition_0 : cX3_readsAddition.data.toList.drop 0 = dktX3_readsAddition_0 := by decide +kernel
theorem dksX3_readsAddition_1 : cX3_readsAddition.data.toList.drop 24 = dktX3_readsAddition_1 := dk_seg dksX3_readsAddition_0 24 rfl rfl
theorem dksX3_readsAddition_2 : cX3_readsAddition.data.toList.drop 46 = dktX3_readsAddition_2 := dk_seg dksX3_readsAddition_1 22 rfl rfl
theorem dksX3_readsAddition_3 : cX3_readsAddition.data.toList.drop 68 = dktX3_readsAddition_3 := dk_seg dksX3_readsAddition_2 22 rfl rfl
theorem dksX3_readsAddition_4 : cX3_readsAddition.data.toList.drop 92 = dktX3_readsAddition_4 := dk_seg dksX3_readsAddition_3 24 rfl rfl
theorem dksX3_readsAddition_5 : cX3_readsAddition.data.toList.drop 116 = dktX3_readsAddition_5 := dk_seg dksX3_readsAddition_4 24 rfl rfl
theorem dksX3_readsAddition_6 : cX3_readsAddition.data.toList.drop 140 = dktX3_readsAddition_6 := dk_seg dksX3_readsAddition_5 24 rfl rfl
theorem dX3_readsAddition_0 : decode cX3_readsAddition 0 = .ok (.aload_n 0, 1) := dk_42 (dk_at dksX3_readsAddition_0 0 rfl rfl)
theorem dX3_readsAddition_1 : decode cX3_readsAddition 1 = .ok (.invokevirtual 108, 3) := dk_182 0 108 (dk_at dksX3_readsAddition_0 1 rfl rfl)
theorem dX3_readsAddition_4 : decode cX3_readsAddition 4 = .ok (.ifCond .ne 5, 3) := dk_154 0 5 (dk_at dksX3_readsAddition_0 4 rfl rfl)
theorem dX3_readsAddition_7 : decode cX3_readsAddition 7 = .ok (.iconst 0, 1) := dk_3 (dk_at dksX3_readsAddition_0 7 rfl rfl)
theorem dX3_readsAddition_8 : decode cX3_readsAddition 8 = .ok (.ireturn, 1) := dk_172 (dk_at dksX3_readsAddition_0 8 rfl rfl)
theorem dX3_readsAddition_9 : decode cX3_readsAddition 9 = .ok (.aload_n 0, 1) := dk_42 (dk_at dksX3_readsAddition_0 9 rfl rfl)
theorem dX3_readsAddition_10 : decode cX3_readsAddition 10 = .ok (.getfield 105, 3) := dk_180 0 105 (dk_at dksX3_readsAddition_0 10 rfl rfl)
theorem dX3_readsAddition_13 : decode cX3_readsAddition 13 = .ok (.istore_n 2, 1) := dk_61 (dk_at dksX3_readsAddition_0 13 rfl rfl)
theorem dX3_readsAddition_14 : decode cX3_readsAddition 14 = .ok (.aload_n 0, 1) := dk_42 (dk_at dksX3_readsAddition_0 14 rfl rfl)
theorem dX3_readsAddition_15 : decode cX3_readsAddition 15 = .ok (.bipush 62, 2) := dk_16 62 (dk_at dksX3_readsAddition_0 15 rfl rfl)
theorem dX3_readsAddition_17 : decode cX3_readsAddition 17 = .ok (.invokevirtual 111, 3) := dk_182 0 111 (dk_at dksX3_readsAddition_0 17 rfl rfl)
theorem dX3_readsAddition_20 : decode cX3_readsAddition 20 = .ok (.ifCond .eq 35, 3) := dk_153 0 35 (dk_at dksX3_readsAddition_0 20 rfl rfl)
theorem dX3_readsAddition_23 : decode cX3_readsAddition 23 = .ok (.aload_n 0, 1) := dk_42 (dk_at dksX3_readsAddition_0 23 rfl rfl)
theorem dX3_readsAddition_24 : decode cX3_readsAddition 24 = .ok (.invokevirtual 108, 3) := dk_182 0 108 (dk_at dksX3_readsAddition_1 0 rfl rfl)
theorem dX3_readsAddition_27 : decode cX3_readsAddition 27 = .ok (.istore_n 3, 1) := dk_62 (dk_at dksX3_readsAddition_1 3 rfl rfl)
theorem dX3_readsAddition_28 : decode cX3_readsAddition 28 = .ok (.aload_n 0, 1) := dk_42 (dk_at dksX3_readsAddition_1 4 rfl rfl)
theorem dX3_readsAddition_29 : decode cX3_readsAddition 29 = .ok (.iload_n 3, 1) := dk_29 (dk_at dksX3_readsAddition_1 5 rfl rfl)
theorem dX3_readsAddition_30 : decode cX3_readsAddition 30 = .ok (.ifCond .eq 19, 3) := dk_153 0 19 (dk_at dksX3_readsAddition_1 6 rfl rfl)
theorem dX3_readsAddition_33 : decode cX3_readsAddition 33 = .ok (.iload_n 1, 1) := dk_27 (dk_at dksX3_readsAddition_1 9 rfl rfl)
theorem dX3_readsAddition_34 : decode cX3_readsAddition 34 = .ok (.ifCond .eq 15, 3) := dk_153 0 15 (dk_at dksX3_readsAddition_1 10 rfl rfl)
theorem dX3_readsAddition_37 : decode cX3_readsAddition 37 = .ok (.aload_n 0, 1) := dk_42 (dk_at dksX3_readsAddition_1 13 rfl rfl)
theorem dX3_readsAddition_38 : decode cX3_readsAddition 38 = .ok (.iload_n 2, 1) := dk_28 (dk_at dksX3_readsAddition_1 14 rfl rfl)
theorem dX3_readsAddition_39 : decode cX3_readsAddition 39 = .ok (.aload_n 0, 1) := dk_42 (dk_at dksX3_readsAddition_1 15 rfl rfl)
theorem dX3_readsAddition_40 : decode cX3_readsAddition 40 = .ok (.getfield 105, 3) := dk_180 0 105 (dk_at dksX3_readsAddition_1 16 rfl rfl)
theorem dX3_readsAddition_43 : decode cX3_readsAddition 43 = .ok (.invokevirtual 92, 3) := dk_182 0 92 (dk_at dksX3_readsAddition_1 19 rfl rfl)
theorem dX3_readsAddition_46 : decode cX3_readsAddition 46 = .ok (.goto 4, 3) := dk_167 0 4 (dk_at dksX3_readsAddition_2 0 rfl rfl)
theorem dX3_readsAddition_49 : decode cX3_readsAddition 49 = .ok (.iconst 0, 1) := dk_3 (dk_at dksX3_readsAddition_2 3 rfl rfl)
theorem dX3_readsAddition_50 : decode cX3_readsAddition 50 = .ok (.putfield 114, 3) := dk_181 0 114 (dk_at dksX3_readsAddition_2 4 rfl rfl)
theorem dX3_readsAddition_53 : decode cX3_readsAddition 53 = .ok (.iload_n 3, 1) := dk_29 (dk_at dksX3_readsAddition_2 7 rfl rfl)
theorem dX3_readsAddition_54 : decode cX3_readsAddition 54 = .ok (.ireturn, 1) := dk_172 (dk_at dksX3_readsAddition_2 8 rfl rfl)
theorem dX3_readsAddition_55 : decode cX3_readsAddition 55 = .ok (.aload_n 0, 1) := dk_42 (dk_at dksX3_readsAddition_2 9 rfl rfl)
theorem dX3_readsAddition_56 : decode cX3_readsAddition 56 = .ok (.bipush 61, 2) := dk_16 61 (dk_at dksX3_readsAddition_2 10 rfl rfl)
theorem dX3_readsAddition_58 : decode cX3_readsAddition 58 = .ok (.invokevirtual 111, 3) := dk_182 0 111 (dk_at dksX3_readsAddition_2 12 rfl rfl)
theorem dX3_readsAddition_61 : decode cX3_readsAddition 61 = .ok (.ifCond .eq 13, 3) := dk_153 0 13 (dk_at dksX3_readsAddition_2 15 rfl rfl)
theorem dX3_readsAddition_64 : decode cX3_readsAddition 64 = .ok (.aload_n 0, 1) := dk_42 (dk_at dksX3_readsAddition_2 18 rfl rfl)
theorem dX3_readsAddition_65 : decode cX3_readsAddition 65 = .ok (.iconst 1, 1) := dk_4 (dk_at dksX3_readsAddition_2 19 rfl rfl)
theorem dX3_readsAddition_66 : decode cX3_readsAddition 66 = .ok (.bipush 40, 2) := dk_16 40 (dk_at dksX3_readsAddition_2 20 rfl rfl)
theorem dX3_readsAddition_68 : decode cX3_readsAddition 68 = .ok (.invokevirtual 117, 3) := dk_182 0 117 (dk_at dksX3_readsAddition_3 0 rfl rfl)
theorem dX3_readsAddition_71 : decode cX3_readsAddition 71 = .ok (.ifCond .ne 5, 3) := dk_154 0 5 (dk_at dksX3_readsAddition_3 3 rfl rfl)
theorem dX3_readsAddition_74 : decode cX3_readsAddition 74 = .ok (.iconst 0, 1) := dk_3 (dk_at dksX3_readsAddition_3 6 rfl rfl)
theorem dX3_readsAddition_75 : decode cX3_readsAddition 75 = .ok (.ireturn, 1) := dk_172 (dk_at dksX3_readsAddition_3 7 rfl rfl)
theorem dX3_readsAddition_76 : decode cX3_readsAddition 76 = .ok (.aload_n 0, 1) := dk_42 (dk_at dksX3_readsAddition_3 8 rfl rfl)
theorem dX3_readsAddition_77 : decode cX3_readsAddition 77 = .ok (.getfield 105, 3) := dk_180 0 105 (dk_at dksX3_readsAddition_3 9 rfl rfl)
theorem dX3_readsAddition_80 : decode cX3_readsAddition 80 = .ok (.istore_n 3, 1) := dk_62 (dk_at dksX3_readsAddition_3 12 rfl rfl)
theorem dX3_readsAddition_81 : decode cX3_readsAddition 81 = .ok (.aload_n 0, 1) := dk_42 (dk_at dksX3_readsAddition_3 13 rfl rfl)
theorem dX3_readsAddition_82 : decode cX3_readsAddition 82 = .ok (.iconst 0, 1) := dk_3 (dk_at dksX3_readsAddition_3 14 rfl rfl)
theorem dX3_readsAddition_83 : decode cX3_readsAddition 83 = .ok (.putfield 105, 3) := dk_181 0 105 (dk_at dksX3_readsAddition_3 15 rfl rfl)
theorem dX3_readsAddition_86 : decode cX3_readsAddition 86 = .ok (.aload_n 0, 1) := dk_42 (dk_at dksX3_readsAddition_3 18 rfl rfl)
theorem dX3_readsAddition_87 : decode cX3_readsAddition 87 = .ok (.bipush 44, 2) := dk_16 44 (dk_at dksX3_readsAddition_3 19 rfl rfl)
theorem dX3_readsAddition_89 : decode cX3_readsAddition 89 = .ok (.invokevirtual 111, 3) := dk_182 0 111 (dk_at dksX3_readsAddition_3 21 rfl rfl)
theorem dX3_readsAddition_92 : decode cX3_readsAddition 92 = .ok (.ifCond .eq 14, 3) := dk_153 0 14 (dk_at dksX3_readsAddition_4 0 rfl rfl)
theorem dX3_readsAddition_95 : decode cX3_readsAddition 95 = .ok (.aload_n 0, 1) := dk_42 (dk_at dksX3_readsAddition_4 3 rfl rfl)
theorem dX3_readsAddition_96 : decode cX3_readsAddition 96 = .ok (.iconst 0, 1) := dk_3 (dk_at dksX3_readsAddition_4 4 rfl rfl)
theorem dX3_readsAddition_97 : decode cX3_readsAddition 97 = .ok (.sipush 9999, 3) := dk_17 39 15 (dk_at dksX3_readsAddition_4 5 rfl rfl)
theorem dX3_readsAddition_100 : decode cX3_readsAddition 100 = .ok (.invokevirtual 117, 3) := dk_182 0 117 (dk_at dksX3_readsAddition_4 8 rfl rfl)
theorem dX3_readsAddition_103 : decode cX3_readsAddition 103 = .ok (.ifCond .eq 7, 3) := dk_153 0 7 (dk_at dksX3_readsAddition_4 11 rfl rfl)
theorem dX3_readsAddition_106 : decode cX3_readsAddition 106 = .ok (.iconst 1, 1) := dk_4 (dk_at dksX3_readsAddition_4 14 rfl rfl)
theorem dX3_readsAddition_107 : decode cX3_readsAddition 107 = .ok (.goto 4, 3) := dk_167 0 4 (dk_at dksX3_readsAddition_4 15 rfl rfl)
theorem dX3_readsAddition_110 : decode cX3_readsAddition 110 = .ok (.iconst 0, 1) := dk_3 (dk_at dksX3_readsAddition_4 18 rfl rfl)
theorem dX3_readsAddition_111 : decode cX3_readsAddition 111 = .ok (.istore 4, 2) := dk_54 4 (dk_at dksX3_readsAddition_4 19 rfl rfl)
theorem dX3_readsAddition_113 : decode cX3_readsAddition 113 = .ok (.aload_n 0, 1) := dk_42 (dk_at dksX3_readsAddition_4 21 rfl rfl)
theorem dX3_readsAddition_114 : decode cX3_readsAddition 114 = .ok (.iload 4, 2) := dk_21 4 (dk_at dksX3_readsAddition_4 22 rfl rfl)
theorem dX3_readsAddition_116 : decode cX3_readsAddition 116 = .ok (.ifCond .eq 20, 3) := dk_153 0 20 (dk_at dksX3_readsAddition_5 0 rfl rfl)
theorem dX3_readsAddition_119 : decode cX3_readsAddition 119 = .ok (.iload_n 1, 1) := dk_27 (dk_at dksX3_readsAddition_5 3 rfl rfl)
theorem dX3_readsAddition_120 : decode cX3_readsAddition 120 = .ok (.ifCond .eq 16, 3) := dk_153 0 16 (dk_at dksX3_readsAddition_5 4 rfl rfl)
theorem dX3_readsAddition_123 : decode cX3_readsAddition 123 = .ok (.aload_n 0, 1) := dk_42 (dk_at dksX3_readsAddition_5 7 rfl rfl)
theorem dX3_readsAddition_124 : decode cX3_readsAddition 124 = .ok (.iload_n 2, 1) := dk_28 (dk_at dksX3_readsAddition_5 8 rfl rfl)
theorem dX3_readsAddition_125 : decode cX3_readsAddition 125 = .ok (.iload_n 3, 1) := dk_29 (dk_at dksX3_readsAddition_5 9 rfl rfl)
theorem dX3_readsAddition_126 : decode cX3_readsAddition 126 = .ok (.aload_n 0, 1) := dk_42 (dk_at dksX3_readsAddition_5 10 rfl rfl)
theorem dX3_readsAddition_127 : decode cX3_readsAddition 127 = .ok (.getfield 105, 3) := dk_180 0 105 (dk_at dksX3_readsAddition_5 11 rfl rfl)
theorem dX3_readsAddition_130 : decode cX3_readsAddition 130 = .ok (.invokevirtual 85, 3) := dk_182 0 85 (dk_at dksX3_readsAddition_5 14 rfl rfl)
theorem dX3_readsAddition_133 : decode cX3_readsAddition 133 = .ok (.goto 4, 3) := dk_167 0 4 (dk_at dksX3_readsAddition_5 17 rfl rfl)
theorem dX3_readsAddition_136 : decode cX3_readsAddition 136 = .ok (.iconst 0, 1) := dk_3 (dk_at dksX3_readsAddition_5 20 rfl rfl)
theorem dX3_readsAddition_137 : decode cX3_readsAddition 137 = .ok (.putfield 114, 3) := dk_181 0 114 (dk_at dksX3_readsAddition_5 21 rfl rfl)
theorem dX3_readsAddition_140 : decode cX3_readsAddition 140 = .ok (.iload 4, 2) := dk_21 4 (dk_at dksX3_readsAddition_6 0 rfl rfl)
theorem dX3_readsAddition_142 : decode cX3_readsAddition 142 = .ok (.ireturn, 1) := dk_172 (dk_at dksX3_readsAddition_6 2 rfl rfl)
def dkwX3_readsName_2 : List UInt8 := [181, 0, 105, 42, 89, 180, 0, 98, 4, 96, 181, 0, 98, 132, 1, 1, 167, 255, 201, 4, 172]
abbrev dktX3_readsName_2 : List UInt8 := dkwX3_readsName_2 ++ []
def dkwX3_readsName_1 : List UInt8 := [172, 42, 16, 26, 42, 180, 0, 105, 104, 42, 180, 0, 25, 42, 180, 0, 98, 46, 96, 16, 65, 100]
abbrev dktX3_readsName_1 : List UInt8 := dkwX3_readsName_1 ++ dktX3_readsName_2
def dkwX3_readsName_0 : List UInt8 := [42, 3, 181, 0, 105, 3, 60, 27, 5, 162, 0, 56, 42, 16, 65, 16, 90, 182, 0, 101, 154, 0, 5, 3]
abbrev dktX3_readsName_0 : List UInt8 := dkwX3_readsName_0 ++ dktX3_readsName_1
theorem dksX3_readsName_0 : cX3_readsName.data.toList.drop 0 = dktX3_readsName_0 := by decide +kernel
theorem dksX3_readsName_1 : cX3_readsName.data.toList.drop 24 = dktX3_readsName_1 := dk_seg dksX3_readsName_0 24 rfl rfl
theorem dksX3_readsName_2 : cX3_readsName.data.toList.drop 46 = dktX3_readsName_2 := dk_seg dksX3_readsName_1 22 rfl rfl
theorem dX3_readsName_0 : decode cX3_readsName 0 = .ok (.aload_n 0, 1) := dk_42 (dk_at dksX3_readsName_0 0 rfl rfl)
theorem dX3_readsName_1 : decode cX3_readsName 1 = .ok (.iconst 0, 1) := dk_3 (dk_at dksX3_readsName_0 1 rfl rfl)
theorem dX3_readsName_2 : decode cX3_readsName 2 = .ok (.putfield 105, 3) := dk_181 0 105 (dk_at dksX3_readsName_0 2 rfl rfl)
theorem dX3_readsName_5 : decode cX3_readsName 5 = .ok (.iconst 0, 1) := dk_3 (dk_at dksX3_readsName_0 5 rfl rfl)
theorem dX3_readsName_6 : decode cX3_readsName 6 = .ok (.istore_n 1, 1) := dk_60 (dk_at dksX3_readsName_0 6 rfl rfl)
theorem dX3_readsName_7 : decode cX3_readsName 7 = .ok (.iload_n 1, 1) := dk_27 (dk_at dksX3_readsName_0 7 rfl rfl)
theorem dX3_readsName_8 : decode cX3_readsName 8 = .ok (.iconst 2, 1) := dk_5 (dk_at dksX3_readsName_0 8 rfl rfl)
theorem dX3_readsName_9 : decode cX3_readsName 9 = .ok (.if_icmp .ge 56, 3) := dk_162 0 56 (dk_at dksX3_readsName_0 9 rfl rfl)
theorem dX3_readsName_12 : decode cX3_readsName 12 = .ok (.aload_n 0, 1) := dk_42 (dk_at dksX3_readsName_0 12 rfl rfl)
theorem dX3_readsName_13 : decode cX3_readsName 13 = .ok (.bipush 65, 2) := dk_16 65 (dk_at dksX3_readsName_0 13 rfl rfl)
theorem dX3_readsName_15 : decode cX3_readsName 15 = .ok (.bipush 90, 2) := dk_16 90 (dk_at dksX3_readsName_0 15 rfl rfl)
theorem dX3_readsName_17 : decode cX3_readsName 17 = .ok (.invokevirtual 101, 3) := dk_182 0 101 (dk_at dksX3_readsName_0 17 rfl rfl)
theorem dX3_readsName_20 : decode cX3_readsName 20 = .ok (.ifCond .ne 5, 3) := dk_154 0 5 (dk_at dksX3_readsName_0 20 rfl rfl)
theorem dX3_readsName_23 : decode cX3_readsName 23 = .ok (.iconst 0, 1) := dk_3 (dk_at dksX3_readsName_0 23 rfl rfl)
theorem dX3_readsName_24 : decode cX3_readsName 24 = .ok (.ireturn, 1) := dk_172 (dk_at dksX3_readsName_1 0 rfl rfl)
theorem dX3_readsName_25 : decode cX3_readsName 25 = .ok (.aload_n 0, 1) := dk_42 (dk_at dksX3_readsName_1 1 rfl rfl)
theorem dX3_readsName_26 : decode cX3_readsName 26 = .ok (.bipush 26, 2) := dk_16 26 (dk_at dksX3_readsName_1 2 rfl rfl)
theorem dX3_readsName_28 : decode cX3_readsName 28 = .ok (.aload_n 0, 1) := dk_42 (dk_at dksX3_readsName_1 4 rfl rfl)
theorem dX3_readsName_29 : decode cX3_readsName 29 = .ok (.getfield 105, 3) := dk_180 0 105 (dk_at dksX3_readsName_1 5 rfl rfl)
theorem dX3_readsName_32 : decode cX3_readsName 32 = .ok (.imul, 1) := dk_104 (dk_at dksX3_readsName_1 8 rfl rfl)
theorem dX3_readsName_33 : decode cX3_readsName 33 = .ok (.aload_n 0, 1) := dk_42 (dk_at dksX3_readsName_1 9 rfl rfl)
theorem dX3_readsName_34 : decode cX3_readsName 34 = .ok (.getfield 25, 3) := dk_180 0 25 (dk_at dksX3_readsName_1 10 rfl rfl)
theorem dX3_readsName_37 : decode cX3_readsName 37 = .ok (.aload_n 0, 1) := dk_42 (dk_at dksX3_readsName_1 13 rfl rfl)
theorem dX3_readsName_38 : decode cX3_readsName 38 = .ok (.getfield 98, 3) := dk_180 0 98 (dk_at dksX3_readsName_1 14 rfl rfl)
theorem dX3_readsName_41 : decode cX3_readsName 41 = .ok (.iaload, 1) := dk_46 (dk_at dksX3_readsName_1 17 rfl rfl)
theorem dX3_readsName_42 : decode cX3_readsName 42 = .ok (.iadd, 1) := dk_96 (dk_at dksX3_readsName_1 18 rfl rfl)
theorem dX3_readsName_43 : decode cX3_readsName 43 = .ok (.bipush 65, 2) := dk_16 65 (dk_at dksX3_readsName_1 19 rfl rfl)
theorem dX3_readsName_45 : decode cX3_readsName 45 = .ok (.isub, 1) := dk_100 (dk_at dksX3_readsName_1 21 rfl rfl)
theorem dX3_readsName_46 : decode cX3_readsName 46 = .ok (.putfield 105, 3) := dk_181 0 105 (dk_at dksX3_readsName_2 0 rfl rfl)
theorem dX3_readsName_49 : decode cX3_readsName 49 = .ok (.aload_n 0, 1) := dk_42 (dk_at dksX3_readsName_2 3 rfl rfl)
theorem dX3_readsName_50 : decode cX3_readsName 50 = .ok (.dup, 1) := dk_89 (dk_at dksX3_readsName_2 4 rfl rfl)
theorem dX3_readsName_51 : decode cX3_readsName 51 = .ok (.getfield 98, 3) := dk_180 0 98 (dk_at dksX3_readsName_2 5 rfl rfl)
theorem dX3_readsName_54 : decode cX3_readsName 54 = .ok (.iconst 1, 1) := dk_4 (dk_at dksX3_readsName_2 8 rfl rfl)
theorem dX3_readsName_55 : decode cX3_readsName 55 = .ok (.iadd, 1) := dk_96 (dk_at dksX3_readsName_2 9 rfl rfl)
theorem dX3_readsName_56 : decode cX3_readsName 56 = .ok (.putfield 98, 3) := dk_181 0 98 (dk_at dksX3_readsName_2 10 rfl rfl)
theorem dX3_readsName_59 : decode cX3_readsName 59 = .ok (.iinc 1 1, 3) := dk_132 1 1 (dk_at dksX3_readsName_2 13 rfl rfl)
theorem dX3_readsName_62 : decode cX3_readsName 62 = .ok (.goto (-55), 3) := dk_167 255 201 (dk_at dksX3_readsName_2 16 rfl rfl)
theorem dX3_readsName_65 : decode cX3_readsName 65 = .ok (.iconst 1, 1) := dk_4 (dk_at dksX3_readsName_2 19 rfl rfl)
theorem dX3_readsName_66 : decode cX3_readsName 66 = .ok (.ireturn, 1) := dk_172 (dk_at dksX3_readsName_2 20 rfl rfl)
def dkwX3_isHere_1 : List UInt8 := [133, 184, 0, 34, 153, 0, 7, 4, 167, 0, 4, 3, 172]
abbrev dktX3_isHere_1 : List UInt8 := dkwX3_isHere_1 ++ []
def dkwX3_isHere_0 : List UInt8 := [42, 180, 0, 98, 42, 180, 0, 95, 162, 0, 27, 42, 180, 0, 25, 42, 180, 0, 98, 46, 133, 27, 133, 28]
abbrev dktX3_isHere_0 : List UInt8 := dkwX3_isHere_0 ++ dktX3_isHere_1
theorem dksX3_isHere_0 : cX3_isHere.data.toList.drop 0 = dktX3_isHere_0 := by decide +kernel
theorem dksX3_isHere_1 : cX3_isHere.data.toList.drop 24 = dktX3_isHere_1 := dk_seg dksX3_isHere_0 24 rfl rfl
theorem dX3_isHere_0 : decode cX3_isHere 0 = .ok (.aload_n 0, 1) := dk_42 (dk_at dksX3_isHere_0 0 rfl rfl)
theorem dX3_isHere_1 : decode cX3_isHere 1 = .ok (.getfield 98, 3) := dk_180 0 98 (dk_at dksX3_isHere_0 1 rfl rfl)
theorem dX3_isHere_4 : decode cX3_isHere 4 = .ok (.aload_n 0, 1) := dk_42 (dk_at dksX3_isHere_0 4 rfl rfl)
theorem dX3_isHere_5 : decode cX3_isHere 5 = .ok (.getfield 95, 3) := dk_180 0 95 (dk_at dksX3_isHere_0 5 rfl rfl)
theorem dX3_isHere_8 : decode cX3_isHere 8 = .ok (.if_icmp .ge 27, 3) := dk_162 0 27 (dk_at dksX3_isHere_0 8 rfl rfl)
theorem dX3_isHere_11 : decode cX3_isHere 11 = .ok (.aload_n 0, 1) := dk_42 (dk_at dksX3_isHere_0 11 rfl rfl)
theorem dX3_isHere_12 : decode cX3_isHere 12 = .ok (.getfield 25, 3) := dk_180 0 25 (dk_at dksX3_isHere_0 12 rfl rfl)
theorem dX3_isHere_15 : decode cX3_isHere 15 = .ok (.aload_n 0, 1) := dk_42 (dk_at dksX3_isHere_0 15 rfl rfl)
theorem dX3_isHere_16 : decode cX3_isHere 16 = .ok (.getfield 98, 3) := dk_180 0 98 (dk_at dksX3_isHere_0 16 rfl rfl)
theorem dX3_isHere_19 : decode cX3_isHere 19 = .ok (.iaload, 1) := dk_46 (dk_at dksX3_isHere_0 19 rfl rfl)
theorem dX3_isHere_20 : decode cX3_isHere 20 = .ok (.i2l, 1) := dk_133 (dk_at dksX3_isHere_0 20 rfl rfl)
theorem dX3_isHere_21 : decode cX3_isHere 21 = .ok (.iload_n 1, 1) := dk_27 (dk_at dksX3_isHere_0 21 rfl rfl)
theorem dX3_isHere_22 : decode cX3_isHere 22 = .ok (.i2l, 1) := dk_133 (dk_at dksX3_isHere_0 22 rfl rfl)
theorem dX3_isHere_23 : decode cX3_isHere 23 = .ok (.iload_n 2, 1) := dk_28 (dk_at dksX3_isHere_0 23 rfl rfl)
theorem dX3_isHere_24 : decode cX3_isHere 24 = .ok (.i2l, 1) := dk_133 (dk_at dksX3_isHere_1 0 rfl rfl)
theorem dX3_isHere_25 : decode cX3_isHere 25 = .ok (.invokestatic 34, 3) := dk_184 0 34 (dk_at dksX3_isHere_1 1 rfl rfl)
theorem dX3_isHere_28 : decode cX3_isHere 28 = .ok (.ifCond .eq 7, 3) := dk_153 0 7 (dk_at dksX3_isHere_1 4 rfl rfl)
theorem dX3_isHere_31 : decode cX3_isHere 31 = .ok (.iconst 1, 1) := dk_4 (dk_at dksX3_isHere_1 7 rfl rfl)
theorem dX3_isHere_32 : decode cX3_isHere 32 = .ok (.goto 4, 3) := dk_167 0 4 (dk_at dksX3_isHere_1 8 rfl rfl)
theorem dX3_isHere_35 : decode cX3_isHere 35 = .ok (.iconst 0, 1) := dk_3 (dk_at dksX3_isHere_1 11 rfl rfl)
theorem dX3_isHere_36 : decode cX3_isHere 36 = .ok (.ireturn, 1) := dk_172 (dk_at dksX3_isHere_1 12 rfl rfl)
def dkwX3_takes_1 : List UInt8 := [181, 0, 98, 28, 172]
abbrev dktX3_takes_1 : List UInt8 := dkwX3_takes_1 ++ []
def dkwX3_takes_0 : List UInt8 := [42, 27, 27, 182, 0, 101, 61, 42, 89, 180, 0, 98, 28, 153, 0, 7, 4, 167, 0, 4, 3, 96]
abbrev dktX3_takes_0 : List UInt8 := dkwX3_takes_0 ++ dktX3_takes_1
theorem dksX3_takes_0 : cX3_takes.data.toList.drop 0 = dktX3_takes_0 := by decide +kernel
theorem dksX3_takes_1 : cX3_takes.data.toList.drop 22 = dktX3_takes_1 := dk_seg dksX3_takes_0 22 rfl rfl
theorem dX3_takes_0 : decode cX3_takes 0 = .ok (.aload_n 0, 1) := dk_42 (dk_at dksX3_takes_0 0 rfl rfl)
theorem dX3_takes_1 : decode cX3_takes 1 = .ok (.iload_n 1, 1) := dk_27 (dk_at dksX3_takes_0 1 rfl rfl)
theorem dX3_takes_2 : decode cX3_takes 2 = .ok (.iload_n 1, 1) := dk_27 (dk_at dksX3_takes_0 2 rfl rfl)
theorem dX3_takes_3 : decode cX3_takes 3 = .ok (.invokevirtual 101, 3) := dk_182 0 101 (dk_at dksX3_takes_0 3 rfl rfl)
theorem dX3_takes_6 : decode cX3_takes 6 = .ok (.istore_n 2, 1) := dk_61 (dk_at dksX3_takes_0 6 rfl rfl)
theorem dX3_takes_7 : decode cX3_takes 7 = .ok (.aload_n 0, 1) := dk_42 (dk_at dksX3_takes_0 7 rfl rfl)
theorem dX3_takes_8 : decode cX3_takes 8 = .ok (.dup, 1) := dk_89 (dk_at dksX3_takes_0 8 rfl rfl)
theorem dX3_takes_9 : decode cX3_takes 9 = .ok (.getfield 98, 3) := dk_180 0 98 (dk_at dksX3_takes_0 9 rfl rfl)
theorem dX3_takes_12 : decode cX3_takes 12 = .ok (.iload_n 2, 1) := dk_28 (dk_at dksX3_takes_0 12 rfl rfl)
theorem dX3_takes_13 : decode cX3_takes 13 = .ok (.ifCond .eq 7, 3) := dk_153 0 7 (dk_at dksX3_takes_0 13 rfl rfl)
theorem dX3_takes_16 : decode cX3_takes 16 = .ok (.iconst 1, 1) := dk_4 (dk_at dksX3_takes_0 16 rfl rfl)
theorem dX3_takes_17 : decode cX3_takes 17 = .ok (.goto 4, 3) := dk_167 0 4 (dk_at dksX3_takes_0 17 rfl rfl)
theorem dX3_takes_20 : decode cX3_takes 20 = .ok (.iconst 0, 1) := dk_3 (dk_at dksX3_takes_0 20 rfl rfl)
theorem dX3_takes_21 : decode cX3_takes 21 = .ok (.iadd, 1) := dk_96 (dk_at dksX3_takes_0 21 rfl rfl)
theorem dX3_takes_22 : decode cX3_takes 22 = .ok (.putfield 98, 3) := dk_181 0 98 (dk_at dksX3_takes_1 0 rfl rfl)
theorem dX3_takes_25 : decode cX3_takes 25 = .ok (.iload_n 2, 1) := dk_28 (dk_at dksX3_takes_1 3 rfl rfl)
theorem dX3_takes_26 : decode cX3_takes 26 = .ok (.ireturn, 1) := dk_172 (dk_at dksX3_takes_1 4 rfl rfl)
def dkwX3_readsNumber_5 : List UInt8 := [167, 255, 180, 4, 172]
abbrev dktX3_readsNumber_5 : List UInt8 := dkwX3_readsNumber_5 ++ []
def dkwX3_readsNumber_4 : List UInt8 := [42, 180, 0, 98, 46, 96, 16, 48, 100, 181, 0, 105, 42, 89, 180, 0, 98, 4, 96, 181, 0, 98]
abbrev dktX3_readsNumber_4 : List UInt8 := dkwX3_readsNumber_4 ++ dktX3_readsNumber_5
def dkwX3_readsNumber_3 : List UInt8 := [180, 0, 98, 46, 96, 16, 48, 100, 28, 163, 0, 40, 42, 16, 10, 42, 180, 0, 105, 104, 42, 180, 0, 25]
abbrev dktX3_readsNumber_3 : List UInt8 := dkwX3_readsNumber_3 ++ dktX3_readsNumber_4
def dkwX3_readsNumber_2 : List UInt8 := [42, 16, 48, 16, 57, 182, 0, 101, 153, 0, 64, 16, 10, 42, 180, 0, 105, 104, 42, 180, 0, 25, 42]
abbrev dktX3_readsNumber_2 : List UInt8 := dkwX3_readsNumber_2 ++ dktX3_readsNumber_3
def dkwX3_readsNumber_1 : List UInt8 := [46, 16, 48, 100, 181, 0, 105, 42, 89, 180, 0, 98, 4, 96, 181, 0, 98, 42, 180, 0, 105, 158, 0, 75]
abbrev dktX3_readsNumber_1 : List UInt8 := dkwX3_readsNumber_1 ++ dktX3_readsNumber_2
def dkwX3_readsNumber_0 : List UInt8 := [42, 16, 48, 27, 96, 16, 57, 182, 0, 101, 154, 0, 5, 3, 172, 42, 42, 180, 0, 25, 42, 180, 0, 98]
abbrev dktX3_readsNumber_0 : List UInt8 := dkwX3_readsNumber_0 ++ dktX3_readsNumber_1
theorem dksX3_readsNumber_0 : cX3_readsNumber.data.toList.drop 0 = dktX3_readsNumber_0 := by decide +kernel
theorem dksX3_readsNumber_1 : cX3_readsNumber.data.toList.drop 24 = dktX3_readsNumber_1 := dk_seg dksX3_readsNumber_0 24 rfl rfl
theorem dksX3_readsNumber_2 : cX3_readsNumber.data.toList.drop 48 = dktX3_readsNumber_2 := dk_seg dksX3_readsNumber_1 24 rfl rfl
theorem dksX3_readsNumber_3 : cX3_readsNumber.data.toList.drop 71 = dktX3_readsNumber_3 := dk_seg dksX3_readsNumber_2 23 rfl rfl
theorem dksX3_readsNumber_4 : cX3_readsNumber.data.toList.drop 95 = dktX3_readsNumber_4 := dk_seg dksX3_readsNumber_3 24 rfl rfl
theorem dksX3_readsNumber_5 : cX3_readsNumber.data.toList.drop 117 = dktX3_readsNumber_5 := dk_seg dksX3_readsNumber_4 22 rfl rfl
theorem dX3_readsNumber_0 : decode cX3_readsNumber 0 = .ok (.aload_n 0, 1) := dk_42 (dk_at dksX3_readsNumber_0 0 rfl rfl)
theorem dX3_readsNumber_1 : decode cX3_readsNumber 1 = .ok (.bipush 48, 2) := dk_16 48 (dk_at dksX3_readsNumber_0 1 rfl rfl)
theorem dX3_readsNumber_3 : decode cX3_readsNumber 3 = .ok (.iload_n 1, 1) := dk_27 (dk_at dksX3_readsNumber_0 3 rfl rfl)
theorem dX3_readsNumber_4 : decode cX3_readsNumber 4 = .ok (.iadd, 1) := dk_96 (dk_at dksX3_readsNumber_0 4 rfl rfl)
theorem dX3_readsNumber_5 : decode cX3_readsNumber 5 = .ok (.bipush 57, 2) := dk_16 57 (dk_at dksX3_readsNumber_0 5 rfl rfl)
theorem dX3_readsNumber_7 : decode cX3_readsNumber 7 = .ok (.invokevirtual 101, 3) := dk_182 0 101 (dk_at dksX3_readsNumber_0 7 rfl rfl)
theorem dX3_readsNumber_10 : decode cX3_readsNumber 10 = .ok (.ifCond .ne 5, 3) := dk_154 0 5 (dk_at dksX3_readsNumber_0 10 rfl rfl)
theorem dX3_readsNumber_13 : decode cX3_readsNumber 13 = .ok (.iconst 0, 1) := dk_3 (dk_at dksX3_readsNumber_0 13 rfl rfl)
theorem dX3_readsNumber_14 : decode cX3_readsNumber 14 = .ok (.ireturn, 1) := dk_172 (dk_at dksX3_readsNumber_0 14 rfl rfl)
theorem dX3_readsNumber_15 : decode cX3_readsNumber 15 = .ok (.aload_n 0, 1) := dk_42 (dk_at dksX3_readsNumber_0 15 rfl rfl)
theorem dX3_readsNumber_16 : decode cX3_readsNumber 16 = .ok (.aload_n 0, 1) := dk_42 (dk_at dksX3_readsNumber_0 16 rfl rfl)
theorem dX3_readsNumber_17 : decode cX3_readsNumber 17 = .ok (.getfield 25, 3) := dk_180 0 25 (dk_at dksX3_readsNumber_0 17 rfl rfl)
theorem dX3_readsNumber_20 : decode cX3_readsNumber 20 = .ok (.aload_n 0, 1) := dk_42 (dk_at dksX3_readsNumber_0 20 rfl rfl)
theorem dX3_readsNumber_21 : decode cX3_readsNumber 21 = .ok (.getfield 98, 3) := dk_180 0 98 (dk_at dksX3_readsNumber_0 21 rfl rfl)
theorem dX3_readsNumber_24 : decode cX3_readsNumber 24 = .ok (.iaload, 1) := dk_46 (dk_at dksX3_readsNumber_1 0 rfl rfl)
theorem dX3_readsNumber_25 : decode cX3_readsNumber 25 = .ok (.bipush 48, 2) := dk_16 48 (dk_at dksX3_readsNumber_1 1 rfl rfl)
theorem dX3_readsNumber_27 : decode cX3_readsNumber 27 = .ok (.isub, 1) := dk_100 (dk_at dksX3_readsNumber_1 3 rfl rfl)
theorem dX3_readsNumber_28 : decode cX3_readsNumber 28 = .ok (.putfield 105, 3) := dk_181 0 105 (dk_at dksX3_readsNumber_1 4 rfl rfl)
theorem dX3_readsNumber_31 : decode cX3_readsNumber 31 = .ok (.aload_n 0, 1) := dk_42 (dk_at dksX3_readsNumber_1 7 rfl rfl)
theorem dX3_readsNumber_32 : decode cX3_readsNumber 32 = .ok (.dup, 1) := dk_89 (dk_at dksX3_readsNumber_1 8 rfl rfl)
theorem dX3_readsNumber_33 : decode cX3_readsNumber 33 = .ok (.getfield 98, 3) := dk_180 0 98 (dk_at dksX3_readsNumber_1 9 rfl rfl)
theorem dX3_readsNumber_36 : decode cX3_readsNumber 36 = .ok (.iconst 1, 1) := dk_4 (dk_at dksX3_readsNumber_1 12 rfl rfl)
theorem dX3_readsNumber_37 : decode cX3_readsNumber 37 = .ok (.iadd, 1) := dk_96 (dk_at dksX3_readsNumber_1 13 rfl rfl)
theorem dX3_readsNumber_38 : decode cX3_readsNumber 38 = .ok (.putfield 98, 3) := dk_181 0 98 (dk_at dksX3_readsNumber_1 14 rfl rfl)
theorem dX3_readsNumber_41 : decode cX3_readsNumber 41 = .ok (.aload_n 0, 1) := dk_42 (dk_at dksX3_readsNumber_1 17 rfl rfl)
theorem dX3_readsNumber_42 : decode cX3_readsNumber 42 = .ok (.getfield 105, 3) := dk_180 0 105 (dk_at dksX3_readsNumber_1 18 rfl rfl)
theorem dX3_readsNumber_45 : decode cX3_readsNumber 45 = .ok (.ifCond .le 75, 3) := dk_158 0 75 (dk_at dksX3_readsNumber_1 21 rfl rfl)
theorem dX3_readsNumber_48 : decode cX3_readsNumber 48 = .ok (.aload_n 0, 1) := dk_42 (dk_at dksX3_readsNumber_2 0 rfl rfl)
theorem dX3_readsNumber_49 : decode cX3_readsNumber 49 = .ok (.bipush 48, 2) := dk_16 48 (dk_at dksX3_readsNumber_2 1 rfl rfl)
theorem dX3_readsNumber_51 : decode cX3_readsNumber 51 = .ok (.bipush 57, 2) := dk_16 57 (dk_at dksX3_readsNumber_2 3 rfl rfl)
theorem dX3_readsNumber_53 : decode cX3_readsNumber 53 = .ok (.invokevirtual 101, 3) := dk_182 0 101 (dk_at dksX3_readsNumber_2 5 rfl rfl)
theorem dX3_readsNumber_56 : decode cX3_readsNumber 56 = .ok (.ifCond .eq 64, 3) := dk_153 0 64 (dk_at dksX3_readsNumber_2 8 rfl rfl)
theorem dX3_readsNumber_59 : decode cX3_readsNumber 59 = .ok (.bipush 10, 2) := dk_16 10 (dk_at dksX3_readsNumber_2 11 rfl rfl)
theorem dX3_readsNumber_61 : decode cX3_readsNumber 61 = .ok (.aload_n 0, 1) := dk_42 (dk_at dksX3_readsNumber_2 13 rfl rfl)
theorem dX3_readsNumber_62 : decode cX3_readsNumber 62 = .ok (.getfield 105, 3) := dk_180 0 105 (dk_at dksX3_readsNumber_2 14 rfl rfl)
theorem dX3_readsNumber_65 : decode cX3_readsNumber 65 = .ok (.imul, 1) := dk_104 (dk_at dksX3_readsNumber_2 17 rfl rfl)
theorem dX3_readsNumber_66 : decode cX3_readsNumber 66 = .ok (.aload_n 0, 1) := dk_42 (dk_at dksX3_readsNumber_2 18 rfl rfl)
theorem dX3_readsNumber_67 : decode cX3_readsNumber 67 = .ok (.getfield 25, 3) := dk_180 0 25 (dk_at dksX3_readsNumber_2 19 rfl rfl)
theorem dX3_readsNumber_70 : decode cX3_readsNumber 70 = .ok (.aload_n 0, 1) := dk_42 (dk_at dksX3_readsNumber_2 22 rfl rfl)
theorem dX3_readsNumber_71 : decode cX3_readsNumber 71 = .ok (.getfield 98, 3) := dk_180 0 98 (dk_at dksX3_readsNumber_3 0 rfl rfl)
theorem dX3_readsNumber_74 : decode cX3_readsNumber 74 = .ok (.iaload, 1) := dk_46 (dk_at dksX3_readsNumber_3 3 rfl rfl)
theorem dX3_readsNumber_75 : decode cX3_readsNumber 75 = .ok (.iadd, 1) := dk_96 (dk_at dksX3_readsNumber_3 4 rfl rfl)
theorem dX3_readsNumber_76 : decode cX3_readsNumber 76 = .ok (.bipush 48, 2) := dk_16 48 (dk_at dksX3_readsNumber_3 5 rfl rfl)
theorem dX3_readsNumber_78 : decode cX3_readsNumber 78 = .ok (.isub, 1) := dk_100 (dk_at dksX3_readsNumber_3 7 rfl rfl)
theorem dX3_readsNumber_79 : decode cX3_readsNumber 79 = .ok (.iload_n 2, 1) := dk_28 (dk_at dksX3_readsNumber_3 8 rfl rfl)
theorem dX3_readsNumber_80 : decode cX3_readsNumber 80 = .ok (.if_icmp .gt 40, 3) := dk_163 0 40 (dk_at dksX3_readsNumber_3 9 rfl rfl)
theorem dX3_readsNumber_83 : decode cX3_readsNumber 83 = .ok (.aload_n 0, 1) := dk_42 (dk_at dksX3_readsNumber_3 12 rfl rfl)
theorem dX3_readsNumber_84 : decode cX3_readsNumber 84 = .ok (.bipush 10, 2) := dk_16 10 (dk_at dksX3_readsNumber_3 13 rfl rfl)
theorem dX3_readsNumber_86 : decode cX3_readsNumber 86 = .ok (.aload_n 0, 1) := dk_42 (dk_at dksX3_readsNumber_3 15 rfl rfl)
theorem dX3_readsNumber_87 : decode cX3_readsNumber 87 = .ok (.getfield 105, 3) := dk_180 0 105 (dk_at dksX3_readsNumber_3 16 rfl rfl)
theorem dX3_readsNumber_90 : decode cX3_readsNumber 90 = .ok (.imul, 1) := dk_104 (dk_at dksX3_readsNumber_3 19 rfl rfl)
theorem dX3_readsNumber_91 : decode cX3_readsNumber 91 = .ok (.aload_n 0, 1) := dk_42 (dk_at dksX3_readsNumber_3 20 rfl rfl)
theorem dX3_readsNumber_92 : decode cX3_readsNumber 92 = .ok (.getfield 25, 3) := dk_180 0 25 (dk_at dksX3_readsNumber_3 21 rfl rfl)
theorem dX3_readsNumber_95 : decode cX3_readsNumber 95 = .ok (.aload_n 0, 1) := dk_42 (dk_at dksX3_readsNumber_4 0 rfl rfl)
theorem dX3_readsNumber_96 : decode cX3_readsNumber 96 = .ok (.getfield 98, 3) := dk_180 0 98 (dk_at dksX3_readsNumber_4 1 rfl rfl)
theorem dX3_readsNumber_99 : decode cX3_readsNumber 99 = .ok (.iaload, 1) := dk_46 (dk_at dksX3_readsNumber_4 4 rfl rfl)
theorem dX3_readsNumber_100 : decode cX3_readsNumber 100 = .ok (.iadd, 1) := dk_96 (dk_at dksX3_readsNumber_4 5 rfl rfl)
theorem dX3_readsNumber_101 : decode cX3_readsNumber 101 = .ok (.bipush 48, 2) := dk_16 48 (dk_at dksX3_readsNumber_4 6 rfl rfl)
theorem dX3_readsNumber_103 : decode cX3_readsNumber 103 = .ok (.isub, 1) := dk_100 (dk_at dksX3_readsNumber_4 8 rfl rfl)
theorem dX3_readsNumber_104 : decode cX3_readsNumber 104 = .ok (.putfield 105, 3) := dk_181 0 105 (dk_at dksX3_readsNumber_4 9 rfl rfl)
theorem dX3_readsNumber_107 : decode cX3_readsNumber 107 = .ok (.aload_n 0, 1) := dk_42 (dk_at dksX3_readsNumber_4 12 rfl rfl)
theorem dX3_readsNumber_108 : decode cX3_readsNumber 108 = .ok (.dup, 1) := dk_89 (dk_at dksX3_readsNumber_4 13 rfl rfl)
theorem dX3_readsNumber_109 : decode cX3_readsNumber 109 = .ok (.getfield 98, 3) := dk_180 0 98 (dk_at dksX3_readsNumber_4 14 rfl rfl)
theorem dX3_readsNumber_112 : decode cX3_readsNumber 112 = .ok (.iconst 1, 1) := dk_4 (dk_at dksX3_readsNumber_4 17 rfl rfl)
theorem dX3_readsNumber_113 : decode cX3_readsNumber 113 = .ok (.iadd, 1) := dk_96 (dk_at dksX3_readsNumber_4 18 rfl rfl)
theorem dX3_readsNumber_114 : decode cX3_readsNumber 114 = .ok (.putfield 98, 3) := dk_181 0 98 (dk_at dksX3_readsNumber_4 19 rfl rfl)
theorem dX3_readsNumber_117 : decode cX3_readsNumber 117 = .ok (.goto (-76), 3) := dk_167 255 180 (dk_at dksX3_readsNumber_5 0 rfl rfl)
theorem dX3_readsNumber_120 : decode cX3_readsNumber 120 = .ok (.iconst 1, 1) := dk_4 (dk_at dksX3_readsNumber_5 3 rfl rfl)
theorem dX3_readsNumber_121 : decode cX3_readsNumber 121 = .ok (.ireturn, 1) := dk_172 (dk_at dksX3_readsNumber_5 4 rfl rfl)
def dkwX3_squeeze_1 : List UInt8 := [182, 0, 131, 182, 0, 89, 172]
abbrev dktX3_squeeze_1 : List UInt8 := dkwX3_squeeze_1 ++ []
def dkwX3_squeeze_0 : List UInt8 := [42, 4, 182, 0, 127, 42, 180, 0, 7, 5, 46, 160, 0, 6, 16, 251, 172, 42, 182, 0, 82, 42, 42]
abbrev dktX3_squeeze_0 : List UInt8 := dkwX3_squeeze_0 ++ dktX3_squeeze_1
theorem dksX3_squeeze_0 : cX3_squeeze.data.toList.drop 0 = dktX3_squeeze_0 := by decide +kernel
theorem dksX3_squeeze_1 : cX3_squeeze.data.toList.drop 23 = dktX3_squeeze_1 := dk_seg dksX3_squeeze_0 23 rfl rfl
theorem dX3_squeeze_0 : decode cX3_squeeze 0 = .ok (.aload_n 0, 1) := dk_42 (dk_at dksX3_squeeze_0 0 rfl rfl)
theorem dX3_squeeze_1 : decode cX3_squeeze 1 = .ok (.iconst 1, 1) := dk_4 (dk_at dksX3_squeeze_0 1 rfl rfl)
theorem dX3_squeeze_2 : decode cX3_squeeze 2 = .ok (.invokevirtual 127, 3) := dk_182 0 127 (dk_at dksX3_squeeze_0 2 rfl rfl)
theorem dX3_squeeze_5 : decode cX3_squeeze 5 = .ok (.aload_n 0, 1) := dk_42 (dk_at dksX3_squeeze_0 5 rfl rfl)
theorem dX3_squeeze_6 : decode cX3_squeeze 6 = .ok (.getfield 7, 3) := dk_180 0 7 (dk_at dksX3_squeeze_0 6 rfl rfl)
theorem dX3_squeeze_9 : decode cX3_squeeze 9 = .ok (.iconst 2, 1) := dk_5 (dk_at dksX3_squeeze_0 9 rfl rfl)
theorem dX3_squeeze_10 : decode cX3_squeeze 10 = .ok (.iaload, 1) := dk_46 (dk_at dksX3_squeeze_0 10 rfl rfl)
theorem dX3_squeeze_11 : decode cX3_squeeze 11 = .ok (.if_icmp .ne 6, 3) := dk_160 0 6 (dk_at dksX3_squeeze_0 11 rfl rfl)
theorem dX3_squeeze_14 : decode cX3_squeeze 14 = .ok (.bipush (-5), 2) := dk_16 251 (dk_at dksX3_squeeze_0 14 rfl rfl)
theorem dX3_squeeze_16 : decode cX3_squeeze 16 = .ok (.ireturn, 1) := dk_172 (dk_at dksX3_squeeze_0 16 rfl rfl)
theorem dX3_squeeze_17 : decode cX3_squeeze 17 = .ok (.aload_n 0, 1) := dk_42 (dk_at dksX3_squeeze_0 17 rfl rfl)
theorem dX3_squeeze_18 : decode cX3_squeeze 18 = .ok (.invokevirtual 82, 3) := dk_182 0 82 (dk_at dksX3_squeeze_0 18 rfl rfl)
theorem dX3_squeeze_21 : decode cX3_squeeze 21 = .ok (.aload_n 0, 1) := dk_42 (dk_at dksX3_squeeze_0 21 rfl rfl)
theorem dX3_squeeze_22 : decode cX3_squeeze 22 = .ok (.aload_n 0, 1) := dk_42 (dk_at dksX3_squeeze_0 22 rfl rfl)
theorem dX3_squeeze_23 : decode cX3_squeeze 23 = .ok (.invokevirtual 131, 3) := dk_182 0 131 (dk_at dksX3_squeeze_1 0 rfl rfl)
theorem dX3_squeeze_26 : decode cX3_squeeze 26 = .ok (.invokevirtual 89, 3) := dk_182 0 89 (dk_at dksX3_squeeze_1 3 rfl rfl)
theorem dX3_squeeze_29 : decode cX3_squeeze 29 = .ok (.ireturn, 1) := dk_172 (dk_at dksX3_squeeze_1 6 rfl rfl)
def dkwX3_living_2 : List UInt8 := [167, 255, 220, 28, 172]
abbrev dktX3_living_2 : List UInt8 := dkwX3_living_2 ++ []
def dkwX3_living_1 : List UInt8 := [182, 0, 38, 167, 0, 4, 4, 96, 61, 42, 42, 29, 5, 182, 0, 38, 4, 96, 182, 0, 46, 62]
abbrev dktX3_living_1 : List UInt8 := dkwX3_living_1 ++ dktX3_living_2
def dkwX3_living_0 : List UInt8 := [3, 61, 42, 3, 182, 0, 46, 62, 29, 16, 251, 159, 0, 36, 28, 27, 153, 0, 12, 42, 29, 6]
abbrev dktX3_living_0 : List UInt8 := dkwX3_living_0 ++ dktX3_living_1
theorem dksX3_living_0 : cX3_living.data.toList.drop 0 = dktX3_living_0 := by decide +kernel
theorem dksX3_living_1 : cX3_living.data.toList.drop 22 = dktX3_living_1 := dk_seg dksX3_living_0 22 rfl rfl
theorem dksX3_living_2 : cX3_living.data.toList.drop 44 = dktX3_living_2 := dk_seg dksX3_living_1 22 rfl rfl
theorem dX3_living_0 : decode cX3_living 0 = .ok (.iconst 0, 1) := dk_3 (dk_at dksX3_living_0 0 rfl rfl)
theorem dX3_living_1 : decode cX3_living 1 = .ok (.istore_n 2, 1) := dk_61 (dk_at dksX3_living_0 1 rfl rfl)
theorem dX3_living_2 : decode cX3_living 2 = .ok (.aload_n 0, 1) := dk_42 (dk_at dksX3_living_0 2 rfl rfl)
theorem dX3_living_3 : decode cX3_living 3 = .ok (.iconst 0, 1) := dk_3 (dk_at dksX3_living_0 3 rfl rfl)
theorem dX3_living_4 : decode cX3_living 4 = .ok (.invokevirtual 46, 3) := dk_182 0 46 (dk_at dksX3_living_0 4 rfl rfl)
theorem dX3_living_7 : decode cX3_living 7 = .ok (.istore_n 3, 1) := dk_62 (dk_at dksX3_living_0 7 rfl rfl)
theorem dX3_living_8 : decode cX3_living 8 = .ok (.iload_n 3, 1) := dk_29 (dk_at dksX3_living_0 8 rfl rfl)
theorem dX3_living_9 : decode cX3_living 9 = .ok (.bipush (-5), 2) := dk_16 251 (dk_at dksX3_living_0 9 rfl rfl)
theorem dX3_living_11 : decode cX3_living 11 = .ok (.if_icmp .eq 36, 3) := dk_159 0 36 (dk_at dksX3_living_0 11 rfl rfl)
theorem dX3_living_14 : decode cX3_living 14 = .ok (.iload_n 2, 1) := dk_28 (dk_at dksX3_living_0 14 rfl rfl)
theorem dX3_living_15 : decode cX3_living 15 = .ok (.iload_n 1, 1) := dk_27 (dk_at dksX3_living_0 15 rfl rfl)
theorem dX3_living_16 : decode cX3_living 16 = .ok (.ifCond .eq 12, 3) := dk_153 0 12 (dk_at dksX3_living_0 16 rfl rfl)
theorem dX3_living_19 : decode cX3_living 19 = .ok (.aload_n 0, 1) := dk_42 (dk_at dksX3_living_0 19 rfl rfl)
theorem dX3_living_20 : decode cX3_living 20 = .ok (.iload_n 3, 1) := dk_29 (dk_at dksX3_living_0 20 rfl rfl)
theorem dX3_living_21 : decode cX3_living 21 = .ok (.iconst 3, 1) := dk_6 (dk_at dksX3_living_0 21 rfl rfl)
theorem dX3_living_22 : decode cX3_living 22 = .ok (.invokevirtual 38, 3) := dk_182 0 38 (dk_at dksX3_living_1 0 rfl rfl)
theorem dX3_living_25 : decode cX3_living 25 = .ok (.goto 4, 3) := dk_167 0 4 (dk_at dksX3_living_1 3 rfl rfl)
theorem dX3_living_28 : decode cX3_living 28 = .ok (.iconst 1, 1) := dk_4 (dk_at dksX3_living_1 6 rfl rfl)
theorem dX3_living_29 : decode cX3_living 29 = .ok (.iadd, 1) := dk_96 (dk_at dksX3_living_1 7 rfl rfl)
theorem dX3_living_30 : decode cX3_living 30 = .ok (.istore_n 2, 1) := dk_61 (dk_at dksX3_living_1 8 rfl rfl)
theorem dX3_living_31 : decode cX3_living 31 = .ok (.aload_n 0, 1) := dk_42 (dk_at dksX3_living_1 9 rfl rfl)
theorem dX3_living_32 : decode cX3_living 32 = .ok (.aload_n 0, 1) := dk_42 (dk_at dksX3_living_1 10 rfl rfl)
theorem dX3_living_33 : decode cX3_living 33 = .ok (.iload_n 3, 1) := dk_29 (dk_at dksX3_living_1 11 rfl rfl)
theorem dX3_living_34 : decode cX3_living 34 = .ok (.iconst 2, 1) := dk_5 (dk_at dksX3_living_1 12 rfl rfl)
theorem dX3_living_35 : decode cX3_living 35 = .ok (.invokevirtual 38, 3) := dk_182 0 38 (dk_at dksX3_living_1 13 rfl rfl)
theorem dX3_living_38 : decode cX3_living 38 = .ok (.iconst 1, 1) := dk_4 (dk_at dksX3_living_1 16 rfl rfl)
theorem dX3_living_39 : decode cX3_living 39 = .ok (.iadd, 1) := dk_96 (dk_at dksX3_living_1 17 rfl rfl)
theorem dX3_living_40 : decode cX3_living 40 = .ok (.invokevirtual 46, 3) := dk_182 0 46 (dk_at dksX3_living_1 18 rfl rfl)
theorem dX3_living_43 : decode cX3_living 43 = .ok (.istore_n 3, 1) := dk_62 (dk_at dksX3_living_1 21 rfl rfl)
theorem dX3_living_44 : decode cX3_living 44 = .ok (.goto (-36), 3) := dk_167 255 220 (dk_at dksX3_living_2 0 rfl rfl)
theorem dX3_living_47 : decode cX3_living 47 = .ok (.iload_n 2, 1) := dk_28 (dk_at dksX3_living_2 3 rfl rfl)
theorem dX3_living_48 : decode cX3_living 48 = .ok (.ireturn, 1) := dk_172 (dk_at dksX3_living_2 4 rfl rfl)
def dkwX3_nextText_3 : List UInt8 := [28, 172]
abbrev dktX3_nextText_3 : List UInt8 := dkwX3_nextText_3 ++ []
def dkwX3_nextText_2 : List UInt8 := [4, 167, 0, 4, 3, 54, 4, 21, 4, 153, 0, 7, 29, 167, 0, 4, 28, 61, 132, 3, 1, 167, 255, 194]
abbrev dktX3_nextText_2 : List UInt8 := dkwX3_nextText_2 ++ dktX3_nextText_3
def dkwX3_nextText_1 : List UInt8 := [161, 0, 28, 28, 16, 251, 159, 0, 18, 42, 29, 5, 182, 0, 38, 42, 28, 5, 182, 0, 38, 162, 0, 7]
abbrev dktX3_nextText_1 : List UInt8 := dkwX3_nextText_1 ++ dktX3_nextText_2
def dkwX3_nextText_0 : List UInt8 := [16, 251, 61, 3, 62, 29, 42, 180, 0, 7, 3, 46, 162, 0, 58, 42, 29, 5, 182, 0, 38, 27]
abbrev dktX3_nextText_0 : List UInt8 := dkwX3_nextText_0 ++ dktX3_nextText_1
theorem dksX3_nextText_0 : cX3_nextText.data.toList.drop 0 = dktX3_nextText_0 := by decide +kernel
theorem dksX3_nextText_1 : cX3_nextText.data.toList.drop 22 = dktX3_nextText_1 := dk_seg dksX3_nextText_0 22 rfl rfl
theorem dksX3_nextText_2 : cX3_nextText.data.toList.drop 46 = dktX3_nextText_2 := dk_seg dksX3_nextText_1 24 rfl rfl
theorem dksX3_nextText_3 : cX3_nextText.data.toList.drop 70 = dktX3_nextText_3 := dk_seg dksX3_nextText_2 24 rfl rfl
theorem dX3_nextText_0 : decode cX3_nextText 0 = .ok (.bipush (-5), 2) := dk_16 251 (dk_at dksX3_nextText_0 0 rfl rfl)
theorem dX3_nextText_2 : decode cX3_nextText 2 = .ok (.istore_n 2, 1) := dk_61 (dk_at dksX3_nextText_0 2 rfl rfl)
theorem dX3_nextText_3 : decode cX3_nextText 3 = .ok (.iconst 0, 1) := dk_3 (dk_at dksX3_nextText_0 3 rfl rfl)
theorem dX3_nextText_4 : decode cX3_nextText 4 = .ok (.istore_n 3, 1) := dk_62 (dk_at dksX3_nextText_0 4 rfl rfl)
theorem dX3_nextText_5 : decode cX3_nextText 5 = .ok (.iload_n 3, 1) := dk_29 (dk_at dksX3_nextText_0 5 rfl rfl)
theorem dX3_nextText_6 : decode cX3_nextText 6 = .ok (.aload_n 0, 1) := dk_42 (dk_at dksX3_nextText_0 6 rfl rfl)
theorem dX3_nextText_7 : decode cX3_nextText 7 = .ok (.getfield 7, 3) := dk_180 0 7 (dk_at dksX3_nextText_0 7 rfl rfl)
theorem dX3_nextText_10 : decode cX3_nextText 10 = .ok (.iconst 0, 1) := dk_3 (dk_at dksX3_nextText_0 10 rfl rfl)
theorem dX3_nextText_11 : decode cX3_nextText 11 = .ok (.iaload, 1) := dk_46 (dk_at dksX3_nextText_0 11 rfl rfl)
theorem dX3_nextText_12 : decode cX3_nextText 12 = .ok (.if_icmp .ge 58, 3) := dk_162 0 58 (dk_at dksX3_nextText_0 12 rfl rfl)
theorem dX3_nextText_15 : decode cX3_nextText 15 = .ok (.aload_n 0, 1) := dk_42 (dk_at dksX3_nextText_0 15 rfl rfl)
theorem dX3_nextText_16 : decode cX3_nextText 16 = .ok (.iload_n 3, 1) := dk_29 (dk_at dksX3_nextText_0 16 rfl rfl)
theorem dX3_nextText_17 : decode cX3_nextText 17 = .ok (.iconst 2, 1) := dk_5 (dk_at dksX3_nextText_0 17 rfl rfl)
theorem dX3_nextText_18 : decode cX3_nextText 18 = .ok (.invokevirtual 38, 3) := dk_182 0 38 (dk_at dksX3_nextText_0 18 rfl rfl)
theorem dX3_nextText_21 : decode cX3_nextText 21 = .ok (.iload_n 1, 1) := dk_27 (dk_at dksX3_nextText_0 21 rfl rfl)
theorem dX3_nextText_22 : decode cX3_nextText 22 = .ok (.if_icmp .lt 28, 3) := dk_161 0 28 (dk_at dksX3_nextText_1 0 rfl rfl)
theorem dX3_nextText_25 : decode cX3_nextText 25 = .ok (.iload_n 2, 1) := dk_28 (dk_at dksX3_nextText_1 3 rfl rfl)
theorem dX3_nextText_26 : decode cX3_nextText 26 = .ok (.bipush (-5), 2) := dk_16 251 (dk_at dksX3_nextText_1 4 rfl rfl)
theorem dX3_nextText_28 : decode cX3_nextText 28 = .ok (.if_icmp .eq 18, 3) := dk_159 0 18 (dk_at dksX3_nextText_1 6 rfl rfl)
theorem dX3_nextText_31 : decode cX3_nextText 31 = .ok (.aload_n 0, 1) := dk_42 (dk_at dksX3_nextText_1 9 rfl rfl)
theorem dX3_nextText_32 : decode cX3_nextText 32 = .ok (.iload_n 3, 1) := dk_29 (dk_at dksX3_nextText_1 10 rfl rfl)
theorem dX3_nextText_33 : decode cX3_nextText 33 = .ok (.iconst 2, 1) := dk_5 (dk_at dksX3_nextText_1 11 rfl rfl)
theorem dX3_nextText_34 : decode cX3_nextText 34 = .ok (.invokevirtual 38, 3) := dk_182 0 38 (dk_at dksX3_nextText_1 12 rfl rfl)
theorem dX3_nextText_37 : decode cX3_nextText 37 = .ok (.aload_n 0, 1) := dk_42 (dk_at dksX3_nextText_1 15 rfl rfl)
theorem dX3_nextText_38 : decode cX3_nextText 38 = .ok (.iload_n 2, 1) := dk_28 (dk_at dksX3_nextText_1 16 rfl rfl)
theorem dX3_nextText_39 : decode cX3_nextText 39 = .ok (.iconst 2, 1) := dk_5 (dk_at dksX3_nextText_1 17 rfl rfl)
theorem dX3_nextText_40 : decode cX3_nextText 40 = .ok (.invokevirtual 38, 3) := dk_182 0 38 (dk_at dksX3_nextText_1 18 rfl rfl)
theorem dX3_nextText_43 : decode cX3_nextText 43 = .ok (.if_icmp .ge 7, 3) := dk_162 0 7 (dk_at dksX3_nextText_1 21 rfl rfl)
theorem dX3_nextText_46 : decode cX3_nextText 46 = .ok (.iconst 1, 1) := dk_4 (dk_at dksX3_nextText_2 0 rfl rfl)
theorem dX3_nextText_47 : decode cX3_nextText 47 = .ok (.goto 4, 3) := dk_167 0 4 (dk_at dksX3_nextText_2 1 rfl rfl)
theorem dX3_nextText_50 : decode cX3_nextText 50 = .ok (.iconst 0, 1) := dk_3 (dk_at dksX3_nextText_2 4 rfl rfl)
theorem dX3_nextText_51 : decode cX3_nextText 51 = .ok (.istore 4, 2) := dk_54 4 (dk_at dksX3_nextText_2 5 rfl rfl)
theorem dX3_nextText_53 : decode cX3_nextText 53 = .ok (.iload 4, 2) := dk_21 4 (dk_at dksX3_nextText_2 7 rfl rfl)
theorem dX3_nextText_55 : decode cX3_nextText 55 = .ok (.ifCond .eq 7, 3) := dk_153 0 7 (dk_at dksX3_nextText_2 9 rfl rfl)
theorem dX3_nextText_58 : decode cX3_nextText 58 = .ok (.iload_n 3, 1) := dk_29 (dk_at dksX3_nextText_2 12 rfl rfl)
theorem dX3_nextText_59 : decode cX3_nextText 59 = .ok (.goto 4, 3) := dk_167 0 4 (dk_at dksX3_nextText_2 13 rfl rfl)
theorem dX3_nextText_62 : decode cX3_nextText 62 = .ok (.iload_n 2, 1) := dk_28 (dk_at dksX3_nextText_2 16 rfl rfl)
theorem dX3_nextText_63 : decode cX3_nextText 63 = .ok (.istore_n 2, 1) := dk_61 (dk_at dksX3_nextText_2 17 rfl rfl)
theorem dX3_nextText_64 : decode cX3_nextText 64 = .ok (.iinc 3 1, 3) := dk_132 3 1 (dk_at dksX3_nextText_2 18 rfl rfl)
theorem dX3_nextText_67 : decode cX3_nextText 67 = .ok (.goto (-62), 3) := dk_167 255 194 (dk_at dksX3_nextText_2 21 rfl rfl)
theorem dX3_nextText_70 : decode cX3_nextText 70 = .ok (.iload_n 2, 1) := dk_28 (dk_at dksX3_nextText_3 0 rfl rfl)
theorem dX3_nextText_71 : decode cX3_nextText 71 = .ok (.ireturn, 1) := dk_172 (dk_at dksX3_nextText_3 1 rfl rfl)
def dkwX3_squeezes_5 : List UInt8 := [4, 96, 79, 42, 180, 0, 7, 7, 92, 46, 27, 28, 100, 96, 79, 27, 28, 100, 172]
abbrev dktX3_squeezes_5 : List UInt8 := dkwX3_squeezes_5 ++ []
def dkwX3_squeezes_4 : List UInt8 := [21, 5, 96, 182, 0, 46, 62, 167, 255, 169, 42, 180, 0, 7, 5, 28, 79, 42, 180, 0, 7, 6, 92, 46]
abbrev dktX3_squeezes_4 : List UInt8 := dkwX3_squeezes_4 ++ dktX3_squeezes_5
def dkwX3_squeezes_3 : List UInt8 := [21, 6, 5, 182, 0, 38, 182, 0, 42, 132, 6, 1, 167, 255, 212, 28, 21, 5, 96, 61, 42, 21, 4]
abbrev dktX3_squeezes_3 : List UInt8 := dkwX3_squeezes_3 ++ dktX3_squeezes_4
def dkwX3_squeezes_2 : List UInt8 := [162, 0, 39, 42, 21, 6, 5, 42, 21, 6, 5, 182, 0, 38, 21, 4, 160, 0, 7, 28, 167, 0, 10, 42]
abbrev dktX3_squeezes_2 : List UInt8 := dkwX3_squeezes_2 ++ dktX3_squeezes_3
def dkwX3_squeezes_1 : List UInt8 := [182, 0, 38, 54, 4, 42, 29, 6, 182, 0, 38, 54, 5, 3, 54, 6, 21, 6, 42, 180, 0, 7, 3, 46]
abbrev dktX3_squeezes_1 : List UInt8 := dkwX3_squeezes_1 ++ dktX3_squeezes_2
def dkwX3_squeezes_0 : List UInt8 := [42, 180, 0, 7, 5, 46, 60, 3, 61, 42, 3, 182, 0, 46, 62, 29, 16, 251, 159, 0, 87, 42, 29, 5]
abbrev dktX3_squeezes_0 : List UInt8 := dkwX3_squeezes_0 ++ dktX3_squeezes_1
theorem dksX3_squeezes_0 : cX3_squeezes.data.toList.drop 0 = dktX3_squeezes_0 := by decide +kernel
theorem dksX3_squeezes_1 : cX3_squeezes.data.toList.drop 24 = dktX3_squeezes_1 := dk_seg dksX3_squeezes_0 24 rfl rfl
theorem dksX3_squeezes_2 : cX3_squeezes.data.toList.drop 48 = dktX3_squeezes_2 := dk_seg dksX3_squeezes_1 24 rfl rfl
theorem dksX3_squeezes_3 : cX3_squeezes.data.toList.drop 72 = dktX3_squeezes_3 := dk_seg dksX3_squeezes_2 24 rfl rfl
theorem dksX3_squeezes_4 : cX3_squeezes.data.toList.drop 95 = dktX3_squeezes_4 := dk_seg dksX3_squeezes_3 23 rfl rfl
theorem dksX3_squeezes_5 : cX3_squeezes.data.toList.drop 119 = dktX3_squeezes_5 := dk_seg dksX3_squeezes_4 24 rfl rfl
theorem dX3_squeezes_0 : decode cX3_squeezes 0 = .ok (.aload_n 0, 1) := dk_42 (dk_at dksX3_squeezes_0 0 rfl rfl)
theorem dX3_squeezes_1 : decode cX3_squeezes 1 = .ok (.getfield 7, 3) := dk_180 0 7 (dk_at dksX3_squeezes_0 1 rfl rfl)
theorem dX3_squeezes_4 : decode cX3_squeezes 4 = .ok (.iconst 2, 1) := dk_5 (dk_at dksX3_squeezes_0 4 rfl rfl)
theorem dX3_squeezes_5 : decode cX3_squeezes 5 = .ok (.iaload, 1) := dk_46 (dk_at dksX3_squeezes_0 5 rfl rfl)
theorem dX3_squeezes_6 : decode cX3_squeezes 6 = .ok (.istore_n 1, 1) := dk_60 (dk_at dksX3_squeezes_0 6 rfl rfl)
theorem dX3_squeezes_7 : decode cX3_squeezes 7 = .ok (.iconst 0, 1) := dk_3 (dk_at dksX3_squeezes_0 7 rfl rfl)
theorem dX3_squeezes_8 : decode cX3_squeezes 8 = .ok (.istore_n 2, 1) := dk_61 (dk_at dksX3_squeezes_0 8 rfl rfl)
theorem dX3_squeezes_9 : decode cX3_squeezes 9 = .ok (.aload_n 0, 1) := dk_42 (dk_at dksX3_squeezes_0 9 rfl rfl)
theorem dX3_squeezes_10 : decode cX3_squeezes 10 = .ok (.iconst 0, 1) := dk_3 (dk_at dksX3_squeezes_0 10 rfl rfl)
theorem dX3_squeezes_11 : decode cX3_squeezes 11 = .ok (.invokevirtual 46, 3) := dk_182 0 46 (dk_at dksX3_squeezes_0 11 rfl rfl)
theorem dX3_squeezes_14 : decode cX3_squeezes 14 = .ok (.istore_n 3, 1) := dk_62 (dk_at dksX3_squeezes_0 14 rfl rfl)
theorem dX3_squeezes_15 : decode cX3_squeezes 15 = .ok (.iload_n 3, 1) := dk_29 (dk_at dksX3_squeezes_0 15 rfl rfl)
theorem dX3_squeezes_16 : decode cX3_squeezes 16 = .ok (.bipush (-5), 2) := dk_16 251 (dk_at dksX3_squeezes_0 16 rfl rfl)
theorem dX3_squeezes_18 : decode cX3_squeezes 18 = .ok (.if_icmp .eq 87, 3) := dk_159 0 87 (dk_at dksX3_squeezes_0 18 rfl rfl)
theorem dX3_squeezes_21 : decode cX3_squeezes 21 = .ok (.aload_n 0, 1) := dk_42 (dk_at dksX3_squeezes_0 21 rfl rfl)
theorem dX3_squeezes_22 : decode cX3_squeezes 22 = .ok (.iload_n 3, 1) := dk_29 (dk_at dksX3_squeezes_0 22 rfl rfl)
theorem dX3_squeezes_23 : decode cX3_squeezes 23 = .ok (.iconst 2, 1) := dk_5 (dk_at dksX3_squeezes_0 23 rfl rfl)
theorem dX3_squeezes_24 : decode cX3_squeezes 24 = .ok (.invokevirtual 38, 3) := dk_182 0 38 (dk_at dksX3_squeezes_1 0 rfl rfl)
theorem dX3_squeezes_27 : decode cX3_squeezes 27 = .ok (.istore 4, 2) := dk_54 4 (dk_at dksX3_squeezes_1 3 rfl rfl)
theorem dX3_squeezes_29 : decode cX3_squeezes 29 = .ok (.aload_n 0, 1) := dk_42 (dk_at dksX3_squeezes_1 5 rfl rfl)
theorem dX3_squeezes_30 : decode cX3_squeezes 30 = .ok (.iload_n 3, 1) := dk_29 (dk_at dksX3_squeezes_1 6 rfl rfl)
theorem dX3_squeezes_31 : decode cX3_squeezes 31 = .ok (.iconst 3, 1) := dk_6 (dk_at dksX3_squeezes_1 7 rfl rfl)
theorem dX3_squeezes_32 : decode cX3_squeezes 32 = .ok (.invokevirtual 38, 3) := dk_182 0 38 (dk_at dksX3_squeezes_1 8 rfl rfl)
theorem dX3_squeezes_35 : decode cX3_squeezes 35 = .ok (.istore 5, 2) := dk_54 5 (dk_at dksX3_squeezes_1 11 rfl rfl)
theorem dX3_squeezes_37 : decode cX3_squeezes 37 = .ok (.iconst 0, 1) := dk_3 (dk_at dksX3_squeezes_1 13 rfl rfl)
theorem dX3_squeezes_38 : decode cX3_squeezes 38 = .ok (.istore 6, 2) := dk_54 6 (dk_at dksX3_squeezes_1 14 rfl rfl)
theorem dX3_squeezes_40 : decode cX3_squeezes 40 = .ok (.iload 6, 2) := dk_21 6 (dk_at dksX3_squeezes_1 16 rfl rfl)
theorem dX3_squeezes_42 : decode cX3_squeezes 42 = .ok (.aload_n 0, 1) := dk_42 (dk_at dksX3_squeezes_1 18 rfl rfl)
theorem dX3_squeezes_43 : decode cX3_squeezes 43 = .ok (.getfield 7, 3) := dk_180 0 7 (dk_at dksX3_squeezes_1 19 rfl rfl)
theorem dX3_squeezes_46 : decode cX3_squeezes 46 = .ok (.iconst 0, 1) := dk_3 (dk_at dksX3_squeezes_1 22 rfl rfl)
theorem dX3_squeezes_47 : decode cX3_squeezes 47 = .ok (.iaload, 1) := dk_46 (dk_at dksX3_squeezes_1 23 rfl rfl)
theorem dX3_squeezes_48 : decode cX3_squeezes 48 = .ok (.if_icmp .ge 39, 3) := dk_162 0 39 (dk_at dksX3_squeezes_2 0 rfl rfl)
theorem dX3_squeezes_51 : decode cX3_squeezes 51 = .ok (.aload_n 0, 1) := dk_42 (dk_at dksX3_squeezes_2 3 rfl rfl)
theorem dX3_squeezes_52 : decode cX3_squeezes 52 = .ok (.iload 6, 2) := dk_21 6 (dk_at dksX3_squeezes_2 4 rfl rfl)
theorem dX3_squeezes_54 : decode cX3_squeezes 54 = .ok (.iconst 2, 1) := dk_5 (dk_at dksX3_squeezes_2 6 rfl rfl)
theorem dX3_squeezes_55 : decode cX3_squeezes 55 = .ok (.aload_n 0, 1) := dk_42 (dk_at dksX3_squeezes_2 7 rfl rfl)
theorem dX3_squeezes_56 : decode cX3_squeezes 56 = .ok (.iload 6, 2) := dk_21 6 (dk_at dksX3_squeezes_2 8 rfl rfl)
theorem dX3_squeezes_58 : decode cX3_squeezes 58 = .ok (.iconst 2, 1) := dk_5 (dk_at dksX3_squeezes_2 10 rfl rfl)
theorem dX3_squeezes_59 : decode cX3_squeezes 59 = .ok (.invokevirtual 38, 3) := dk_182 0 38 (dk_at dksX3_squeezes_2 11 rfl rfl)
theorem dX3_squeezes_62 : decode cX3_squeezes 62 = .ok (.iload 4, 2) := dk_21 4 (dk_at dksX3_squeezes_2 14 rfl rfl)
theorem dX3_squeezes_64 : decode cX3_squeezes 64 = .ok (.if_icmp .ne 7, 3) := dk_160 0 7 (dk_at dksX3_squeezes_2 16 rfl rfl)
theorem dX3_squeezes_67 : decode cX3_squeezes 67 = .ok (.iload_n 2, 1) := dk_28 (dk_at dksX3_squeezes_2 19 rfl rfl)
theorem dX3_squeezes_68 : decode cX3_squeezes 68 = .ok (.goto 10, 3) := dk_167 0 10 (dk_at dksX3_squeezes_2 20 rfl rfl)
theorem dX3_squeezes_71 : decode cX3_squeezes 71 = .ok (.aload_n 0, 1) := dk_42 (dk_at dksX3_squeezes_2 23 rfl rfl)
theorem dX3_squeezes_72 : decode cX3_squeezes 72 = .ok (.iload 6, 2) := dk_21 6 (dk_at dksX3_squeezes_3 0 rfl rfl)
theorem dX3_squeezes_74 : decode cX3_squeezes 74 = .ok (.iconst 2, 1) := dk_5 (dk_at dksX3_squeezes_3 2 rfl rfl)
theorem dX3_squeezes_75 : decode cX3_squeezes 75 = .ok (.invokevirtual 38, 3) := dk_182 0 38 (dk_at dksX3_squeezes_3 3 rfl rfl)
theorem dX3_squeezes_78 : decode cX3_squeezes 78 = .ok (.invokevirtual 42, 3) := dk_182 0 42 (dk_at dksX3_squeezes_3 6 rfl rfl)
theorem dX3_squeezes_81 : decode cX3_squeezes 81 = .ok (.iinc 6 1, 3) := dk_132 6 1 (dk_at dksX3_squeezes_3 9 rfl rfl)
theorem dX3_squeezes_84 : decode cX3_squeezes 84 = .ok (.goto (-44), 3) := dk_167 255 212 (dk_at dksX3_squeezes_3 12 rfl rfl)
theorem dX3_squeezes_87 : decode cX3_squeezes 87 = .ok (.iload_n 2, 1) := dk_28 (dk_at dksX3_squeezes_3 15 rfl rfl)
theorem dX3_squeezes_88 : decode cX3_squeezes 88 = .ok (.iload 5, 2) := dk_21 5 (dk_at dksX3_squeezes_3 16 rfl rfl)
theorem dX3_squeezes_90 : decode cX3_squeezes 90 = .ok (.iadd, 1) := dk_96 (dk_at dksX3_squeezes_3 18 rfl rfl)
theorem dX3_squeezes_91 : decode cX3_squeezes 91 = .ok (.istore_n 2, 1) := dk_61 (dk_at dksX3_squeezes_3 19 rfl rfl)
theorem dX3_squeezes_92 : decode cX3_squeezes 92 = .ok (.aload_n 0, 1) := dk_42 (dk_at dksX3_squeezes_3 20 rfl rfl)
theorem dX3_squeezes_93 : decode cX3_squeezes 93 = .ok (.iload 4, 2) := dk_21 4 (dk_at dksX3_squeezes_3 21 rfl rfl)
theorem dX3_squeezes_95 : decode cX3_squeezes 95 = .ok (.iload 5, 2) := dk_21 5 (dk_at dksX3_squeezes_4 0 rfl rfl)
theorem dX3_squeezes_97 : decode cX3_squeezes 97 = .ok (.iadd, 1) := dk_96 (dk_at dksX3_squeezes_4 2 rfl rfl)
theorem dX3_squeezes_98 : decode cX3_squeezes 98 = .ok (.invokevirtual 46, 3) := dk_182 0 46 (dk_at dksX3_squeezes_4 3 rfl rfl)
theorem dX3_squeezes_101 : decode cX3_squeezes 101 = .ok (.istore_n 3, 1) := dk_62 (dk_at dksX3_squeezes_4 6 rfl rfl)
theorem dX3_squeezes_102 : decode cX3_squeezes 102 = .ok (.goto (-87), 3) := dk_167 255 169 (dk_at dksX3_squeezes_4 7 rfl rfl)
theorem dX3_squeezes_105 : decode cX3_squeezes 105 = .ok (.aload_n 0, 1) := dk_42 (dk_at dksX3_squeezes_4 10 rfl rfl)
theorem dX3_squeezes_106 : decode cX3_squeezes 106 = .ok (.getfield 7, 3) := dk_180 0 7 (dk_at dksX3_squeezes_4 11 rfl rfl)
theorem dX3_squeezes_109 : decode cX3_squeezes 109 = .ok (.iconst 2, 1) := dk_5 (dk_at dksX3_squeezes_4 14 rfl rfl)
theorem dX3_squeezes_110 : decode cX3_squeezes 110 = .ok (.iload_n 2, 1) := dk_28 (dk_at dksX3_squeezes_4 15 rfl rfl)
theorem dX3_squeezes_111 : decode cX3_squeezes 111 = .ok (.iastore, 1) := dk_79 (dk_at dksX3_squeezes_4 16 rfl rfl)
theorem dX3_squeezes_112 : decode cX3_squeezes 112 = .ok (.aload_n 0, 1) := dk_42 (dk_at dksX3_squeezes_4 17 rfl rfl)
theorem dX3_squeezes_113 : decode cX3_squeezes 113 = .ok (.getfield 7, 3) := dk_180 0 7 (dk_at dksX3_squeezes_4 18 rfl rfl)
theorem dX3_squeezes_116 : decode cX3_squeezes 116 = .ok (.iconst 3, 1) := dk_6 (dk_at dksX3_squeezes_4 21 rfl rfl)
theorem dX3_squeezes_117 : decode cX3_squeezes 117 = .ok (.dup2, 1) := dk_92 (dk_at dksX3_squeezes_4 22 rfl rfl)
theorem dX3_squeezes_118 : decode cX3_squeezes 118 = .ok (.iaload, 1) := dk_46 (dk_at dksX3_squeezes_4 23 rfl rfl)
theorem dX3_squeezes_119 : decode cX3_squeezes 119 = .ok (.iconst 1, 1) := dk_4 (dk_at dksX3_squeezes_5 0 rfl rfl)
theorem dX3_squeezes_120 : decode cX3_squeezes 120 = .ok (.iadd, 1) := dk_96 (dk_at dksX3_squeezes_5 1 rfl rfl)
theorem dX3_squeezes_121 : decode cX3_squeezes 121 = .ok (.iastore, 1) := dk_79 (dk_at dksX3_squeezes_5 2 rfl rfl)
theorem dX3_squeezes_122 : decode cX3_squeezes 122 = .ok (.aload_n 0, 1) := dk_42 (dk_at dksX3_squeezes_5 3 rfl rfl)
theorem dX3_squeezes_123 : decode cX3_squeezes 123 = .ok (.getfield 7, 3) := dk_180 0 7 (dk_at dksX3_squeezes_5 4 rfl rfl)
theorem dX3_squeezes_126 : decode cX3_squeezes 126 = .ok (.iconst 4, 1) := dk_7 (dk_at dksX3_squeezes_5 7 rfl rfl)
theorem dX3_squeezes_127 : decode cX3_squeezes 127 = .ok (.dup2, 1) := dk_92 (dk_at dksX3_squeezes_5 8 rfl rfl)
theorem dX3_squeezes_128 : decode cX3_squeezes 128 = .ok (.iaload, 1) := dk_46 (dk_at dksX3_squeezes_5 9 rfl rfl)
theorem dX3_squeezes_129 : decode cX3_squeezes 129 = .ok (.iload_n 1, 1) := dk_27 (dk_at dksX3_squeezes_5 10 rfl rfl)
theorem dX3_squeezes_130 : decode cX3_squeezes 130 = .ok (.iload_n 2, 1) := dk_28 (dk_at dksX3_squeezes_5 11 rfl rfl)
theorem dX3_squeezes_131 : decode cX3_squeezes 131 = .ok (.isub, 1) := dk_100 (dk_at dksX3_squeezes_5 12 rfl rfl)
theorem dX3_squeezes_132 : decode cX3_squeezes 132 = .ok (.iadd, 1) := dk_96 (dk_at dksX3_squeezes_5 13 rfl rfl)
theorem dX3_squeezes_133 : decode cX3_squeezes 133 = .ok (.iastore, 1) := dk_79 (dk_at dksX3_squeezes_5 14 rfl rfl)
theorem dX3_squeezes_134 : decode cX3_squeezes 134 = .ok (.iload_n 1, 1) := dk_27 (dk_at dksX3_squeezes_5 15 rfl rfl)
theorem dX3_squeezes_135 : decode cX3_squeezes 135 = .ok (.iload_n 2, 1) := dk_28 (dk_at dksX3_squeezes_5 16 rfl rfl)
theorem dX3_squeezes_136 : decode cX3_squeezes 136 = .ok (.isub, 1) := dk_100 (dk_at dksX3_squeezes_5 17 rfl rfl)
theorem dX3_squeezes_137 : decode cX3_squeezes 137 = .ok (.ireturn, 1) := dk_172 (dk_at dksX3_squeezes_5 18 rfl rfl)
def dkwX3_makeAnew_2 : List UInt8 := [182, 0, 82, 42, 180, 0, 7, 4, 27, 79, 42, 182, 0, 131, 62, 42, 28, 182, 0, 89, 172]
abbrev dktX3_makeAnew_2 : List UInt8 := dkwX3_makeAnew_2 ++ []
def dkwX3_makeAnew_1 : List UInt8 := [164, 0, 6, 16, 250, 172, 42, 180, 0, 7, 4, 46, 61, 28, 27, 160, 0, 6, 16, 251, 172, 42]
abbrev dktX3_makeAnew_1 : List UInt8 := dkwX3_makeAnew_1 ++ dktX3_makeAnew_2
def dkwX3_makeAnew_0 : List UInt8 := [27, 133, 10, 20, 0, 134, 184, 0, 34, 154, 0, 6, 16, 254, 172, 42, 180, 0, 7, 3, 46, 7, 27, 104]
abbrev dktX3_makeAnew_0 : List UInt8 := dkwX3_makeAnew_0 ++ dktX3_makeAnew_1
theorem dksX3_makeAnew_0 : cX3_makeAnew.data.toList.drop 0 = dktX3_makeAnew_0 := by decide +kernel
theorem dksX3_makeAnew_1 : cX3_makeAnew.data.toList.drop 24 = dktX3_makeAnew_1 := dk_seg dksX3_makeAnew_0 24 rfl rfl
theorem dksX3_makeAnew_2 : cX3_makeAnew.data.toList.drop 46 = dktX3_makeAnew_2 := dk_seg dksX3_makeAnew_1 22 rfl rfl
theorem dX3_makeAnew_0 : decode cX3_makeAnew 0 = .ok (.iload_n 1, 1) := dk_27 (dk_at dksX3_makeAnew_0 0 rfl rfl)
theorem dX3_makeAnew_1 : decode cX3_makeAnew 1 = .ok (.i2l, 1) := dk_133 (dk_at dksX3_makeAnew_0 1 rfl rfl)
theorem dX3_makeAnew_2 : decode cX3_makeAnew 2 = .ok (.lconst 1, 1) := dk_10 (dk_at dksX3_makeAnew_0 2 rfl rfl)
theorem dX3_makeAnew_3 : decode cX3_makeAnew 3 = .ok (.ldc2_w 134, 3) := dk_20 0 134 (dk_at dksX3_makeAnew_0 3 rfl rfl)
theorem dX3_makeAnew_6 : decode cX3_makeAnew 6 = .ok (.invokestatic 34, 3) := dk_184 0 34 (dk_at dksX3_makeAnew_0 6 rfl rfl)
theorem dX3_makeAnew_9 : decode cX3_makeAnew 9 = .ok (.ifCond .ne 6, 3) := dk_154 0 6 (dk_at dksX3_makeAnew_0 9 rfl rfl)
theorem dX3_makeAnew_12 : decode cX3_makeAnew 12 = .ok (.bipush (-2), 2) := dk_16 254 (dk_at dksX3_makeAnew_0 12 rfl rfl)
theorem dX3_makeAnew_14 : decode cX3_makeAnew 14 = .ok (.ireturn, 1) := dk_172 (dk_at dksX3_makeAnew_0 14 rfl rfl)
theorem dX3_makeAnew_15 : decode cX3_makeAnew 15 = .ok (.aload_n 0, 1) := dk_42 (dk_at dksX3_makeAnew_0 15 rfl rfl)
theorem dX3_makeAnew_16 : decode cX3_makeAnew 16 = .ok (.getfield 7, 3) := dk_180 0 7 (dk_at dksX3_makeAnew_0 16 rfl rfl)
theorem dX3_makeAnew_19 : decode cX3_makeAnew 19 = .ok (.iconst 0, 1) := dk_3 (dk_at dksX3_makeAnew_0 19 rfl rfl)
theorem dX3_makeAnew_20 : decode cX3_makeAnew 20 = .ok (.iaload, 1) := dk_46 (dk_at dksX3_makeAnew_0 20 rfl rfl)
theorem dX3_makeAnew_21 : decode cX3_makeAnew 21 = .ok (.iconst 4, 1) := dk_7 (dk_at dksX3_makeAnew_0 21 rfl rfl)
theorem dX3_makeAnew_22 : decode cX3_makeAnew 22 = .ok (.iload_n 1, 1) := dk_27 (dk_at dksX3_makeAnew_0 22 rfl rfl)
theorem dX3_makeAnew_23 : decode cX3_makeAnew 23 = .ok (.imul, 1) := dk_104 (dk_at dksX3_makeAnew_0 23 rfl rfl)
theorem dX3_makeAnew_24 : decode cX3_makeAnew 24 = .ok (.if_icmp .le 6, 3) := dk_164 0 6 (dk_at dksX3_makeAnew_1 0 rfl rfl)
theorem dX3_makeAnew_27 : decode cX3_makeAnew 27 = .ok (.bipush (-6), 2) := dk_16 250 (dk_at dksX3_makeAnew_1 3 rfl rfl)
theorem dX3_makeAnew_29 : decode cX3_makeAnew 29 = .ok (.ireturn, 1) := dk_172 (dk_at dksX3_makeAnew_1 5 rfl rfl)
theorem dX3_makeAnew_30 : decode cX3_makeAnew 30 = .ok (.aload_n 0, 1) := dk_42 (dk_at dksX3_makeAnew_1 6 rfl rfl)
theorem dX3_makeAnew_31 : decode cX3_makeAnew 31 = .ok (.getfield 7, 3) := dk_180 0 7 (dk_at dksX3_makeAnew_1 7 rfl rfl)
theorem dX3_makeAnew_34 : decode cX3_makeAnew 34 = .ok (.iconst 1, 1) := dk_4 (dk_at dksX3_makeAnew_1 10 rfl rfl)
theorem dX3_makeAnew_35 : decode cX3_makeAnew 35 = .ok (.iaload, 1) := dk_46 (dk_at dksX3_makeAnew_1 11 rfl rfl)
theorem dX3_makeAnew_36 : decode cX3_makeAnew 36 = .ok (.istore_n 2, 1) := dk_61 (dk_at dksX3_makeAnew_1 12 rfl rfl)
theorem dX3_makeAnew_37 : decode cX3_makeAnew 37 = .ok (.iload_n 2, 1) := dk_28 (dk_at dksX3_makeAnew_1 13 rfl rfl)
theorem dX3_makeAnew_38 : decode cX3_makeAnew 38 = .ok (.iload_n 1, 1) := dk_27 (dk_at dksX3_makeAnew_1 14 rfl rfl)
theorem dX3_makeAnew_39 : decode cX3_makeAnew 39 = .ok (.if_icmp .ne 6, 3) := dk_160 0 6 (dk_at dksX3_makeAnew_1 15 rfl rfl)
theorem dX3_makeAnew_42 : decode cX3_makeAnew 42 = .ok (.bipush (-5), 2) := dk_16 251 (dk_at dksX3_makeAnew_1 18 rfl rfl)
theorem dX3_makeAnew_44 : decode cX3_makeAnew 44 = .ok (.ireturn, 1) := dk_172 (dk_at dksX3_makeAnew_1 20 rfl rfl)
theorem dX3_makeAnew_45 : decode cX3_makeAnew 45 = .ok (.aload_n 0, 1) := dk_42 (dk_at dksX3_makeAnew_1 21 rfl rfl)
theorem dX3_makeAnew_46 : decode cX3_makeAnew 46 = .ok (.invokevirtual 82, 3) := dk_182 0 82 (dk_at dksX3_makeAnew_2 0 rfl rfl)
theorem dX3_makeAnew_49 : decode cX3_makeAnew 49 = .ok (.aload_n 0, 1) := dk_42 (dk_at dksX3_makeAnew_2 3 rfl rfl)
theorem dX3_makeAnew_50 : decode cX3_makeAnew 50 = .ok (.getfield 7, 3) := dk_180 0 7 (dk_at dksX3_makeAnew_2 4 rfl rfl)
theorem dX3_makeAnew_53 : decode cX3_makeAnew 53 = .ok (.iconst 1, 1) := dk_4 (dk_at dksX3_makeAnew_2 7 rfl rfl)
theorem dX3_makeAnew_54 : decode cX3_makeAnew 54 = .ok (.iload_n 1, 1) := dk_27 (dk_at dksX3_makeAnew_2 8 rfl rfl)
theorem dX3_makeAnew_55 : decode cX3_makeAnew 55 = .ok (.iastore, 1) := dk_79 (dk_at dksX3_makeAnew_2 9 rfl rfl)
theorem dX3_makeAnew_56 : decode cX3_makeAnew 56 = .ok (.aload_n 0, 1) := dk_42 (dk_at dksX3_makeAnew_2 10 rfl rfl)
theorem dX3_makeAnew_57 : decode cX3_makeAnew 57 = .ok (.invokevirtual 131, 3) := dk_182 0 131 (dk_at dksX3_makeAnew_2 11 rfl rfl)
theorem dX3_makeAnew_60 : decode cX3_makeAnew 60 = .ok (.istore_n 3, 1) := dk_62 (dk_at dksX3_makeAnew_2 14 rfl rfl)
theorem dX3_makeAnew_61 : decode cX3_makeAnew 61 = .ok (.aload_n 0, 1) := dk_42 (dk_at dksX3_makeAnew_2 15 rfl rfl)
theorem dX3_makeAnew_62 : decode cX3_makeAnew 62 = .ok (.iload_n 2, 1) := dk_28 (dk_at dksX3_makeAnew_2 16 rfl rfl)
theorem dX3_makeAnew_63 : decode cX3_makeAnew 63 = .ok (.invokevirtual 89, 3) := dk_182 0 89 (dk_at dksX3_makeAnew_2 17 rfl rfl)
theorem dX3_makeAnew_66 : decode cX3_makeAnew 66 = .ok (.ireturn, 1) := dk_172 (dk_at dksX3_makeAnew_2 20 rfl rfl)
def dkwX3_undo_2 : List UInt8 := [96, 46, 79, 132, 1, 1, 167, 255, 225, 42, 180, 0, 28, 172]
abbrev dktX3_undo_2 : List UInt8 := dkwX3_undo_2 ++ []
def dkwX3_undo_1 : List UInt8 := [17, 0, 149, 162, 0, 30, 42, 180, 0, 7, 27, 42, 180, 0, 16, 17, 0, 149, 42, 180, 0, 28, 104, 27]
abbrev dktX3_undo_1 : List UInt8 := dkwX3_undo_1 ++ dktX3_undo_2
def dkwX3_undo_0 : List UInt8 := [42, 180, 0, 28, 154, 0, 6, 16, 251, 172, 42, 89, 180, 0, 28, 4, 100, 181, 0, 28, 3, 60, 27]
abbrev dktX3_undo_0 : List UInt8 := dkwX3_undo_0 ++ dktX3_undo_1
theorem dksX3_undo_0 : cX3_undo.data.toList.drop 0 = dktX3_undo_0 := by decide +kernel
theorem dksX3_undo_1 : cX3_undo.data.toList.drop 23 = dktX3_undo_1 := dk_seg dksX3_undo_0 23 rfl rfl
theorem dksX3_undo_2 : cX3_undo.data.toList.drop 47 = dktX3_undo_2 := dk_seg dksX3_undo_1 24 rfl rfl
theorem dX3_undo_0 : decode cX3_undo 0 = .ok (.aload_n 0, 1) := dk_42 (dk_at dksX3_undo_0 0 rfl rfl)
theorem dX3_undo_1 : decode cX3_undo 1 = .ok (.getfield 28, 3) := dk_180 0 28 (dk_at dksX3_undo_0 1 rfl rfl)
theorem dX3_undo_4 : decode cX3_undo 4 = .ok (.ifCond .ne 6, 3) := dk_154 0 6 (dk_at dksX3_undo_0 4 rfl rfl)
theorem dX3_undo_7 : decode cX3_undo 7 = .ok (.bipush (-5), 2) := dk_16 251 (dk_at dksX3_undo_0 7 rfl rfl)
theorem dX3_undo_9 : decode cX3_undo 9 = .ok (.ireturn, 1) := dk_172 (dk_at dksX3_undo_0 9 rfl rfl)
theorem dX3_undo_10 : decode cX3_undo 10 = .ok (.aload_n 0, 1) := dk_42 (dk_at dksX3_undo_0 10 rfl rfl)
theorem dX3_undo_11 : decode cX3_undo 11 = .ok (.dup, 1) := dk_89 (dk_at dksX3_undo_0 11 rfl rfl)
theorem dX3_undo_12 : decode cX3_undo 12 = .ok (.getfield 28, 3) := dk_180 0 28 (dk_at dksX3_undo_0 12 rfl rfl)
theorem dX3_undo_15 : decode cX3_undo 15 = .ok (.iconst 1, 1) := dk_4 (dk_at dksX3_undo_0 15 rfl rfl)
theorem dX3_undo_16 : decode cX3_undo 16 = .ok (.isub, 1) := dk_100 (dk_at dksX3_undo_0 16 rfl rfl)
theorem dX3_undo_17 : decode cX3_undo 17 = .ok (.putfield 28, 3) := dk_181 0 28 (dk_at dksX3_undo_0 17 rfl rfl)
theorem dX3_undo_20 : decode cX3_undo 20 = .ok (.iconst 0, 1) := dk_3 (dk_at dksX3_undo_0 20 rfl rfl)
theorem dX3_undo_21 : decode cX3_undo 21 = .ok (.istore_n 1, 1) := dk_60 (dk_at dksX3_undo_0 21 rfl rfl)
theorem dX3_undo_22 : decode cX3_undo 22 = .ok (.iload_n 1, 1) := dk_27 (dk_at dksX3_undo_0 22 rfl rfl)
theorem dX3_undo_23 : decode cX3_undo 23 = .ok (.sipush 149, 3) := dk_17 0 149 (dk_at dksX3_undo_1 0 rfl rfl)
theorem dX3_undo_26 : decode cX3_undo 26 = .ok (.if_icmp .ge 30, 3) := dk_162 0 30 (dk_at dksX3_undo_1 3 rfl rfl)
theorem dX3_undo_29 : decode cX3_undo 29 = .ok (.aload_n 0, 1) := dk_42 (dk_at dksX3_undo_1 6 rfl rfl)
theorem dX3_undo_30 : decode cX3_undo 30 = .ok (.getfield 7, 3) := dk_180 0 7 (dk_at dksX3_undo_1 7 rfl rfl)
theorem dX3_undo_33 : decode cX3_undo 33 = .ok (.iload_n 1, 1) := dk_27 (dk_at dksX3_undo_1 10 rfl rfl)
theorem dX3_undo_34 : decode cX3_undo 34 = .ok (.aload_n 0, 1) := dk_42 (dk_at dksX3_undo_1 11 rfl rfl)
theorem dX3_undo_35 : decode cX3_undo 35 = .ok (.getfield 16, 3) := dk_180 0 16 (dk_at dksX3_undo_1 12 rfl rfl)
theorem dX3_undo_38 : decode cX3_undo 38 = .ok (.sipush 149, 3) := dk_17 0 149 (dk_at dksX3_undo_1 15 rfl rfl)
theorem dX3_undo_41 : decode cX3_undo 41 = .ok (.aload_n 0, 1) := dk_42 (dk_at dksX3_undo_1 18 rfl rfl)
theorem dX3_undo_42 : decode cX3_undo 42 = .ok (.getfield 28, 3) := dk_180 0 28 (dk_at dksX3_undo_1 19 rfl rfl)
theorem dX3_undo_45 : decode cX3_undo 45 = .ok (.imul, 1) := dk_104 (dk_at dksX3_undo_1 22 rfl rfl)
theorem dX3_undo_46 : decode cX3_undo 46 = .ok (.iload_n 1, 1) := dk_27 (dk_at dksX3_undo_1 23 rfl rfl)
theorem dX3_undo_47 : decode cX3_undo 47 = .ok (.iadd, 1) := dk_96 (dk_at dksX3_undo_2 0 rfl rfl)
theorem dX3_undo_48 : decode cX3_undo 48 = .ok (.iaload, 1) := dk_46 (dk_at dksX3_undo_2 1 rfl rfl)
theorem dX3_undo_49 : decode cX3_undo 49 = .ok (.iastore, 1) := dk_79 (dk_at dksX3_undo_2 2 rfl rfl)
theorem dX3_undo_50 : decode cX3_undo 50 = .ok (.iinc 1 1, 3) := dk_132 1 1 (dk_at dksX3_undo_2 3 rfl rfl)
theorem dX3_undo_53 : decode cX3_undo 53 = .ok (.goto (-31), 3) := dk_167 255 225 (dk_at dksX3_undo_2 6 rfl rfl)
theorem dX3_undo_56 : decode cX3_undo 56 = .ok (.aload_n 0, 1) := dk_42 (dk_at dksX3_undo_2 9 rfl rfl)
theorem dX3_undo_57 : decode cX3_undo 57 = .ok (.getfield 28, 3) := dk_180 0 28 (dk_at dksX3_undo_2 10 rfl rfl)
theorem dX3_undo_60 : decode cX3_undo 60 = .ok (.ireturn, 1) := dk_172 (dk_at dksX3_undo_2 13 rfl rfl)
def dkwX3_keep_1 : List UInt8 := [167, 255, 234, 42, 4, 181, 0, 136, 42, 180, 0, 7, 3, 46, 172]
abbrev dktX3_keep_1 : List UInt8 := dkwX3_keep_1 ++ []
def dkwX3_keep_0 : List UInt8 := [3, 60, 27, 17, 0, 149, 162, 0, 21, 42, 180, 0, 19, 27, 42, 180, 0, 7, 27, 46, 79, 132, 1, 1]
abbrev dktX3_keep_0 : List UInt8 := dkwX3_keep_0 ++ dktX3_keep_1
theorem dksX3_keep_0 : cX3_keep.data.toList.drop 0 = dktX3_keep_0 := by decide +kernel
theorem dksX3_keep_1 : cX3_keep.data.toList.drop 24 = dktX3_keep_1 := dk_seg dksX3_keep_0 24 rfl rfl
theorem dX3_keep_0 : decode cX3_keep 0 = .ok (.iconst 0, 1) := dk_3 (dk_at dksX3_keep_0 0 rfl rfl)
theorem dX3_keep_1 : decode cX3_keep 1 = .ok (.istore_n 1, 1) := dk_60 (dk_at dksX3_keep_0 1 rfl rfl)
theorem dX3_keep_2 : decode cX3_keep 2 = .ok (.iload_n 1, 1) := dk_27 (dk_at dksX3_keep_0 2 rfl rfl)
theorem dX3_keep_3 : decode cX3_keep 3 = .ok (.sipush 149, 3) := dk_17 0 149 (dk_at dksX3_keep_0 3 rfl rfl)
theorem dX3_keep_6 : decode cX3_keep 6 = .ok (.if_icmp .ge 21, 3) := dk_162 0 21 (dk_at dksX3_keep_0 6 rfl rfl)
theorem dX3_keep_9 : decode cX3_keep 9 = .ok (.aload_n 0, 1) := dk_42 (dk_at dksX3_keep_0 9 rfl rfl)
theorem dX3_keep_10 : decode cX3_keep 10 = .ok (.getfield 19, 3) := dk_180 0 19 (dk_at dksX3_keep_0 10 rfl rfl)
theorem dX3_keep_13 : decode cX3_keep 13 = .ok (.iload_n 1, 1) := dk_27 (dk_at dksX3_keep_0 13 rfl rfl)
theorem dX3_keep_14 : decode cX3_keep 14 = .ok (.aload_n 0, 1) := dk_42 (dk_at dksX3_keep_0 14 rfl rfl)
theorem dX3_keep_15 : decode cX3_keep 15 = .ok (.getfield 7, 3) := dk_180 0 7 (dk_at dksX3_keep_0 15 rfl rfl)
theorem dX3_keep_18 : decode cX3_keep 18 = .ok (.iload_n 1, 1) := dk_27 (dk_at dksX3_keep_0 18 rfl rfl)
theorem dX3_keep_19 : decode cX3_keep 19 = .ok (.iaload, 1) := dk_46 (dk_at dksX3_keep_0 19 rfl rfl)
theorem dX3_keep_20 : decode cX3_keep 20 = .ok (.iastore, 1) := dk_79 (dk_at dksX3_keep_0 20 rfl rfl)
theorem dX3_keep_21 : decode cX3_keep 21 = .ok (.iinc 1 1, 3) := dk_132 1 1 (dk_at dksX3_keep_0 21 rfl rfl)
theorem dX3_keep_24 : decode cX3_keep 24 = .ok (.goto (-22), 3) := dk_167 255 234 (dk_at dksX3_keep_1 0 rfl rfl)
theorem dX3_keep_27 : decode cX3_keep 27 = .ok (.aload_n 0, 1) := dk_42 (dk_at dksX3_keep_1 3 rfl rfl)
theorem dX3_keep_28 : decode cX3_keep 28 = .ok (.iconst 1, 1) := dk_4 (dk_at dksX3_keep_1 4 rfl rfl)
theorem dX3_keep_29 : decode cX3_keep 29 = .ok (.putfield 136, 3) := dk_181 0 136 (dk_at dksX3_keep_1 5 rfl rfl)
theorem dX3_keep_32 : decode cX3_keep 32 = .ok (.aload_n 0, 1) := dk_42 (dk_at dksX3_keep_1 8 rfl rfl)
theorem dX3_keep_33 : decode cX3_keep 33 = .ok (.getfield 7, 3) := dk_180 0 7 (dk_at dksX3_keep_1 9 rfl rfl)
theorem dX3_keep_36 : decode cX3_keep 36 = .ok (.iconst 0, 1) := dk_3 (dk_at dksX3_keep_1 12 rfl rfl)
theorem dX3_keep_37 : decode cX3_keep 37 = .ok (.iaload, 1) := dk_46 (dk_at dksX3_keep_1 13 rfl rfl)
theorem dX3_keep_38 : decode cX3_keep 38 = .ok (.ireturn, 1) := dk_172 (dk_at dksX3_keep_1 14 rfl rfl)
def dkwX3_restore_2 : List UInt8 := [182, 0, 89, 172]
abbrev dktX3_restore_2 : List UInt8 := dkwX3_restore_2 ++ []
def dkwX3_restore_1 : List UInt8 := [180, 0, 7, 27, 42, 180, 0, 19, 27, 46, 79, 132, 1, 1, 167, 255, 234, 42, 42, 180, 0, 7, 3, 46]
abbrev dktX3_restore_1 : List UInt8 := dkwX3_restore_1 ++ dktX3_restore_2
def dkwX3_restore_0 : List UInt8 := [42, 180, 0, 136, 154, 0, 6, 16, 251, 172, 42, 182, 0, 82, 3, 60, 27, 17, 0, 149, 162, 0, 21, 42]
abbrev dktX3_restore_0 : List UInt8 := dkwX3_restore_0 ++ dktX3_restore_1
theorem dksX3_restore_0 : cX3_restore.data.toList.drop 0 = dktX3_restore_0 := by decide +kernel
theorem dksX3_restore_1 : cX3_restore.data.toList.drop 24 = dktX3_restore_1 := dk_seg dksX3_restore_0 24 rfl rfl
theorem dksX3_restore_2 : cX3_restore.data.toList.drop 48 = dktX3_restore_2 := dk_seg dksX3_restore_1 24 rfl rfl
theorem dX3_restore_0 : decode cX3_restore 0 = .ok (.aload_n 0, 1) := dk_42 (dk_at dksX3_restore_0 0 rfl rfl)
theorem dX3_restore_1 : decode cX3_restore 1 = .ok (.getfield 136, 3) := dk_180 0 136 (dk_at dksX3_restore_0 1 rfl rfl)
theorem dX3_restore_4 : decode cX3_restore 4 = .ok (.ifCond .ne 6, 3) := dk_154 0 6 (dk_at dksX3_restore_0 4 rfl rfl)
theorem dX3_restore_7 : decode cX3_restore 7 = .ok (.bipush (-5), 2) := dk_16 251 (dk_at dksX3_restore_0 7 rfl rfl)
theorem dX3_restore_9 : decode cX3_restore 9 = .ok (.ireturn, 1) := dk_172 (dk_at dksX3_restore_0 9 rfl rfl)
theorem dX3_restore_10 : decode cX3_restore 10 = .ok (.aload_n 0, 1) := dk_42 (dk_at dksX3_restore_0 10 rfl rfl)
theorem dX3_restore_11 : decode cX3_restore 11 = .ok (.invokevirtual 82, 3) := dk_182 0 82 (dk_at dksX3_restore_0 11 rfl rfl)
theorem dX3_restore_14 : decode cX3_restore 14 = .ok (.iconst 0, 1) := dk_3 (dk_at dksX3_restore_0 14 rfl rfl)
theorem dX3_restore_15 : decode cX3_restore 15 = .ok (.istore_n 1, 1) := dk_60 (dk_at dksX3_restore_0 15 rfl rfl)
theorem dX3_restore_16 : decode cX3_restore 16 = .ok (.iload_n 1, 1) := dk_27 (dk_at dksX3_restore_0 16 rfl rfl)
theorem dX3_restore_17 : decode cX3_restore 17 = .ok (.sipush 149, 3) := dk_17 0 149 (dk_at dksX3_restore_0 17 rfl rfl)
theorem dX3_restore_20 : decode cX3_restore 20 = .ok (.if_icmp .ge 21, 3) := dk_162 0 21 (dk_at dksX3_restore_0 20 rfl rfl)
theorem dX3_restore_23 : decode cX3_restore 23 = .ok (.aload_n 0, 1) := dk_42 (dk_at dksX3_restore_0 23 rfl rfl)
theorem dX3_restore_24 : decode cX3_restore 24 = .ok (.getfield 7, 3) := dk_180 0 7 (dk_at dksX3_restore_1 0 rfl rfl)
theorem dX3_restore_27 : decode cX3_restore 27 = .ok (.iload_n 1, 1) := dk_27 (dk_at dksX3_restore_1 3 rfl rfl)
theorem dX3_restore_28 : decode cX3_restore 28 = .ok (.aload_n 0, 1) := dk_42 (dk_at dksX3_restore_1 4 rfl rfl)
theorem dX3_restore_29 : decode cX3_restore 29 = .ok (.getfield 19, 3) := dk_180 0 19 (dk_at dksX3_restore_1 5 rfl rfl)
theorem dX3_restore_32 : decode cX3_restore 32 = .ok (.iload_n 1, 1) := dk_27 (dk_at dksX3_restore_1 8 rfl rfl)
theorem dX3_restore_33 : decode cX3_restore 33 = .ok (.iaload, 1) := dk_46 (dk_at dksX3_restore_1 9 rfl rfl)
theorem dX3_restore_34 : decode cX3_restore 34 = .ok (.iastore, 1) := dk_79 (dk_at dksX3_restore_1 10 rfl rfl)
theorem dX3_restore_35 : decode cX3_restore 35 = .ok (.iinc 1 1, 3) := dk_132 1 1 (dk_at dksX3_restore_1 11 rfl rfl)
theorem dX3_restore_38 : decode cX3_restore 38 = .ok (.goto (-22), 3) := dk_167 255 234 (dk_at dksX3_restore_1 14 rfl rfl)
theorem dX3_restore_41 : decode cX3_restore 41 = .ok (.aload_n 0, 1) := dk_42 (dk_at dksX3_restore_1 17 rfl rfl)
theorem dX3_restore_42 : decode cX3_restore 42 = .ok (.aload_n 0, 1) := dk_42 (dk_at dksX3_restore_1 18 rfl rfl)
theorem dX3_restore_43 : decode cX3_restore 43 = .ok (.getfield 7, 3) := dk_180 0 7 (dk_at dksX3_restore_1 19 rfl rfl)
theorem dX3_restore_46 : decode cX3_restore 46 = .ok (.iconst 0, 1) := dk_3 (dk_at dksX3_restore_1 22 rfl rfl)
theorem dX3_restore_47 : decode cX3_restore 47 = .ok (.iaload, 1) := dk_46 (dk_at dksX3_restore_1 23 rfl rfl)
theorem dX3_restore_48 : decode cX3_restore 48 = .ok (.invokevirtual 89, 3) := dk_182 0 89 (dk_at dksX3_restore_2 0 rfl rfl)
theorem dX3_restore_51 : decode cX3_restore 51 = .ok (.ireturn, 1) := dk_172 (dk_at dksX3_restore_2 3 rfl rfl)
def dkwX3_entry_4 : List UInt8 := [153, 0, 7, 4, 167, 0, 4, 3, 172, 16, 254, 172]
abbrev dktX3_entry_4 : List UInt8 := dkwX3_entry_4 ++ []
def dkwX3_entry_3 : List UInt8 := [42, 42, 29, 5, 182, 0, 38, 182, 0, 139, 172, 42, 29, 8, 182, 0, 38, 172, 42, 29, 182, 0, 142]
abbrev dktX3_entry_3 : List UInt8 := dkwX3_entry_3 ++ dktX3_entry_4
def dkwX3_entry_2 : List UInt8 := [29, 172, 29, 7, 108, 172, 42, 29, 4, 182, 0, 38, 172, 42, 29, 5, 28, 96, 6, 100, 182, 0, 38, 172]
abbrev dktX3_entry_2 : List UInt8 := dkwX3_entry_2 ++ dktX3_entry_3
def dkwX3_entry_1 : List UInt8 := [170, 0, 0, 0, 105, 0, 0, 0, 0, 0, 0, 0, 8, 0, 0, 0, 49, 0, 0, 0, 51, 0, 0, 0, 55, 0, 0, 0, 62, 0, 0, 0, 62, 0, 0, 0, 62, 0, 0, 0, 73, 0, 0, 0, 84, 0, 0, 0, 91]
abbrev dktX3_entry_1 : List UInt8 := dkwX3_entry_1 ++ dktX3_entry_2
def dkwX3_entry_0 : List UInt8 := [42, 27, 182, 0, 50, 62, 29, 16, 251, 160, 0, 5, 2, 172, 28]
abbrev dktX3_entry_0 : List UInt8 := dkwX3_entry_0 ++ dktX3_entry_1
theorem dksX3_entry_0 : cX3_entry.data.toList.drop 0 = dktX3_entry_0 := by decide +kernel
theorem dksX3_entry_1 : cX3_entry.data.toList.drop 15 = dktX3_entry_1 := dk_seg dksX3_entry_0 15 rfl rfl
theorem dksX3_entry_2 : cX3_entry.data.toList.drop 64 = dktX3_entry_2 := dk_seg dksX3_entry_1 49 rfl rfl
theorem dksX3_entry_3 : cX3_entry.data.toList.drop 88 = dktX3_entry_3 := dk_seg dksX3_entry_2 24 rfl rfl
theorem dksX3_entry_4 : cX3_entry.data.toList.drop 111 = dktX3_entry_4 := dk_seg dksX3_entry_3 23 rfl rfl
theorem dX3_entry_0 : decode cX3_entry 0 = .ok (.aload_n 0, 1) := dk_42 (dk_at dksX3_entry_0 0 rfl rfl)
theorem dX3_entry_1 : decode cX3_entry 1 = .ok (.iload_n 1, 1) := dk_27 (dk_at dksX3_entry_0 1 rfl rfl)
theorem dX3_entry_2 : decode cX3_entry 2 = .ok (.invokevirtual 50, 3) := dk_182 0 50 (dk_at dksX3_entry_0 2 rfl rfl)
theorem dX3_entry_5 : decode cX3_entry 5 = .ok (.istore_n 3, 1) := dk_62 (dk_at dksX3_entry_0 5 rfl rfl)
theorem dX3_entry_6 : decode cX3_entry 6 = .ok (.iload_n 3, 1) := dk_29 (dk_at dksX3_entry_0 6 rfl rfl)
theorem dX3_entry_7 : decode cX3_entry 7 = .ok (.bipush (-5), 2) := dk_16 251 (dk_at dksX3_entry_0 7 rfl rfl)
theorem dX3_entry_9 : decode cX3_entry 9 = .ok (.if_icmp .ne 5, 3) := dk_160 0 5 (dk_at dksX3_entry_0 9 rfl rfl)
theorem dX3_entry_12 : decode cX3_entry 12 = .ok (.iconst (-1), 1) := dk_2 (dk_at dksX3_entry_0 12 rfl rfl)
theorem dX3_entry_13 : decode cX3_entry 13 = .ok (.ireturn, 1) := dk_172 (dk_at dksX3_entry_0 13 rfl rfl)
theorem dX3_entry_14 : decode cX3_entry 14 = .ok (.iload_n 2, 1) := dk_28 (dk_at dksX3_entry_0 14 rfl rfl)
theorem dX3_entry_15 : decode cX3_entry 15 = .ok (.tableswitch 105 0 8 #[49, 51, 55, 62, 62, 62, 73, 84, 91], 49) := by decide +kernel
theorem dX3_entry_64 : decode cX3_entry 64 = .ok (.iload_n 3, 1) := dk_29 (dk_at dksX3_entry_2 0 rfl rfl)
theorem dX3_entry_65 : decode cX3_entry 65 = .ok (.ireturn, 1) := dk_172 (dk_at dksX3_entry_2 1 rfl rfl)
theorem dX3_entry_66 : decode cX3_entry 66 = .ok (.iload_n 3, 1) := dk_29 (dk_at dksX3_entry_2 2 rfl rfl)
theorem dX3_entry_67 : decode cX3_entry 67 = .ok (.iconst 4, 1) := dk_7 (dk_at dksX3_entry_2 3 rfl rfl)
theorem dX3_entry_68 : decode cX3_entry 68 = .ok (.idiv, 1) := dk_108 (dk_at dksX3_entry_2 4 rfl rfl)
theorem dX3_entry_69 : decode cX3_entry 69 = .ok (.ireturn, 1) := dk_172 (dk_at dksX3_entry_2 5 rfl rfl)
theorem dX3_entry_70 : decode cX3_entry 70 = .ok (.aload_n 0, 1) := dk_42 (dk_at dksX3_entry_2 6 rfl rfl)
theorem dX3_entry_71 : decode cX3_entry 71 = .ok (.iload_n 3, 1) := dk_29 (dk_at dksX3_entry_2 7 rfl rfl)
theorem dX3_entry_72 : decode cX3_entry 72 = .ok (.iconst 1, 1) := dk_4 (dk_at dksX3_entry_2 8 rfl rfl)
theorem dX3_entry_73 : decode cX3_entry 73 = .ok (.invokevirtual 38, 3) := dk_182 0 38 (dk_at dksX3_entry_2 9 rfl rfl)
theorem dX3_entry_76 : decode cX3_entry 76 = .ok (.ireturn, 1) := dk_172 (dk_at dksX3_entry_2 12 rfl rfl)
theorem dX3_entry_77 : decode cX3_entry 77 = .ok (.aload_n 0, 1) := dk_42 (dk_at dksX3_entry_2 13 rfl rfl)
theorem dX3_entry_78 : decode cX3_entry 78 = .ok (.iload_n 3, 1) := dk_29 (dk_at dksX3_entry_2 14 rfl rfl)
theorem dX3_entry_79 : decode cX3_entry 79 = .ok (.iconst 2, 1) := dk_5 (dk_at dksX3_entry_2 15 rfl rfl)
theorem dX3_entry_80 : decode cX3_entry 80 = .ok (.iload_n 2, 1) := dk_28 (dk_at dksX3_entry_2 16 rfl rfl)
theorem dX3_entry_81 : decode cX3_entry 81 = .ok (.iadd, 1) := dk_96 (dk_at dksX3_entry_2 17 rfl rfl)
theorem dX3_entry_82 : decode cX3_entry 82 = .ok (.iconst 3, 1) := dk_6 (dk_at dksX3_entry_2 18 rfl rfl)
theorem dX3_entry_83 : decode cX3_entry 83 = .ok (.isub, 1) := dk_100 (dk_at dksX3_entry_2 19 rfl rfl)
theorem dX3_entry_84 : decode cX3_entry 84 = .ok (.invokevirtual 38, 3) := dk_182 0 38 (dk_at dksX3_entry_2 20 rfl rfl)
theorem dX3_entry_87 : decode cX3_entry 87 = .ok (.ireturn, 1) := dk_172 (dk_at dksX3_entry_2 23 rfl rfl)
theorem dX3_entry_88 : decode cX3_entry 88 = .ok (.aload_n 0, 1) := dk_42 (dk_at dksX3_entry_3 0 rfl rfl)
theorem dX3_entry_89 : decode cX3_entry 89 = .ok (.aload_n 0, 1) := dk_42 (dk_at dksX3_entry_3 1 rfl rfl)
theorem dX3_entry_90 : decode cX3_entry 90 = .ok (.iload_n 3, 1) := dk_29 (dk_at dksX3_entry_3 2 rfl rfl)
theorem dX3_entry_91 : decode cX3_entry 91 = .ok (.iconst 2, 1) := dk_5 (dk_at dksX3_entry_3 3 rfl rfl)
theorem dX3_entry_92 : decode cX3_entry 92 = .ok (.invokevirtual 38, 3) := dk_182 0 38 (dk_at dksX3_entry_3 4 rfl rfl)
theorem dX3_entry_95 : decode cX3_entry 95 = .ok (.invokevirtual 139, 3) := dk_182 0 139 (dk_at dksX3_entry_3 7 rfl rfl)
theorem dX3_entry_98 : decode cX3_entry 98 = .ok (.ireturn, 1) := dk_172 (dk_at dksX3_entry_3 10 rfl rfl)
theorem dX3_entry_99 : decode cX3_entry 99 = .ok (.aload_n 0, 1) := dk_42 (dk_at dksX3_entry_3 11 rfl rfl)
theorem dX3_entry_100 : decode cX3_entry 100 = .ok (.iload_n 3, 1) := dk_29 (dk_at dksX3_entry_3 12 rfl rfl)
theorem dX3_entry_101 : decode cX3_entry 101 = .ok (.iconst 5, 1) := dk_8 (dk_at dksX3_entry_3 13 rfl rfl)
theorem dX3_entry_102 : decode cX3_entry 102 = .ok (.invokevirtual 38, 3) := dk_182 0 38 (dk_at dksX3_entry_3 14 rfl rfl)
theorem dX3_entry_105 : decode cX3_entry 105 = .ok (.ireturn, 1) := dk_172 (dk_at dksX3_entry_3 17 rfl rfl)
theorem dX3_entry_106 : decode cX3_entry 106 = .ok (.aload_n 0, 1) := dk_42 (dk_at dksX3_entry_3 18 rfl rfl)
theorem dX3_entry_107 : decode cX3_entry 107 = .ok (.iload_n 3, 1) := dk_29 (dk_at dksX3_entry_3 19 rfl rfl)
theorem dX3_entry_108 : decode cX3_entry 108 = .ok (.invokevirtual 142, 3) := dk_182 0 142 (dk_at dksX3_entry_3 20 rfl rfl)
theorem dX3_entry_111 : decode cX3_entry 111 = .ok (.ifCond .eq 7, 3) := dk_153 0 7 (dk_at dksX3_entry_4 0 rfl rfl)
theorem dX3_entry_114 : decode cX3_entry 114 = .ok (.iconst 1, 1) := dk_4 (dk_at dksX3_entry_4 3 rfl rfl)
theorem dX3_entry_115 : decode cX3_entry 115 = .ok (.goto 4, 3) := dk_167 0 4 (dk_at dksX3_entry_4 4 rfl rfl)
theorem dX3_entry_118 : decode cX3_entry 118 = .ok (.iconst 0, 1) := dk_3 (dk_at dksX3_entry_4 7 rfl rfl)
theorem dX3_entry_119 : decode cX3_entry 119 = .ok (.ireturn, 1) := dk_172 (dk_at dksX3_entry_4 8 rfl rfl)
theorem dX3_entry_120 : decode cX3_entry 120 = .ok (.bipush (-2), 2) := dk_16 254 (dk_at dksX3_entry_4 9 rfl rfl)
theorem dX3_entry_122 : decode cX3_entry 122 = .ok (.ireturn, 1) := dk_172 (dk_at dksX3_entry_4 11 rfl rfl)
def dkwX3_aliasesOf_2 : List UInt8 := [167, 255, 215, 28, 172]
abbrev dktX3_aliasesOf_2 : List UInt8 := dkwX3_aliasesOf_2 ++ []
def dkwX3_aliasesOf_1 : List UInt8 := [160, 0, 17, 42, 29, 5, 182, 0, 38, 27, 160, 0, 7, 4, 167, 0, 4, 3, 96, 61, 132, 3, 1]
abbrev dktX3_aliasesOf_1 : List UInt8 := dkwX3_aliasesOf_1 ++ dktX3_aliasesOf_2
def dkwX3_aliasesOf_0 : List UInt8 := [3, 61, 3, 62, 29, 42, 180, 0, 7, 3, 46, 162, 0, 37, 28, 42, 29, 4, 182, 0, 38, 4]
abbrev dktX3_aliasesOf_0 : List UInt8 := dkwX3_aliasesOf_0 ++ dktX3_aliasesOf_1
theorem dksX3_aliasesOf_0 : cX3_aliasesOf.data.toList.drop 0 = dktX3_aliasesOf_0 := by decide +kernel
theorem dksX3_aliasesOf_1 : cX3_aliasesOf.data.toList.drop 22 = dktX3_aliasesOf_1 := dk_seg dksX3_aliasesOf_0 22 rfl rfl
theorem dksX3_aliasesOf_2 : cX3_aliasesOf.data.toList.drop 45 = dktX3_aliasesOf_2 := dk_seg dksX3_aliasesOf_1 23 rfl rfl
theorem dX3_aliasesOf_0 : decode cX3_aliasesOf 0 = .ok (.iconst 0, 1) := dk_3 (dk_at dksX3_aliasesOf_0 0 rfl rfl)
theorem dX3_aliasesOf_1 : decode cX3_aliasesOf 1 = .ok (.istore_n 2, 1) := dk_61 (dk_at dksX3_aliasesOf_0 1 rfl rfl)
theorem dX3_aliasesOf_2 : decode cX3_aliasesOf 2 = .ok (.iconst 0, 1) := dk_3 (dk_at dksX3_aliasesOf_0 2 rfl rfl)
theorem dX3_aliasesOf_3 : decode cX3_aliasesOf 3 = .ok (.istore_n 3, 1) := dk_62 (dk_at dksX3_aliasesOf_0 3 rfl rfl)
theorem dX3_aliasesOf_4 : decode cX3_aliasesOf 4 = .ok (.iload_n 3, 1) := dk_29 (dk_at dksX3_aliasesOf_0 4 rfl rfl)
theorem dX3_aliasesOf_5 : decode cX3_aliasesOf 5 = .ok (.aload_n 0, 1) := dk_42 (dk_at dksX3_aliasesOf_0 5 rfl rfl)
theorem dX3_aliasesOf_6 : decode cX3_aliasesOf 6 = .ok (.getfield 7, 3) := dk_180 0 7 (dk_at dksX3_aliasesOf_0 6 rfl rfl)
theorem dX3_aliasesOf_9 : decode cX3_aliasesOf 9 = .ok (.iconst 0, 1) := dk_3 (dk_at dksX3_aliasesOf_0 9 rfl rfl)
theorem dX3_aliasesOf_10 : decode cX3_aliasesOf 10 = .ok (.iaload, 1) := dk_46 (dk_at dksX3_aliasesOf_0 10 rfl rfl)
theorem dX3_aliasesOf_11 : decode cX3_aliasesOf 11 = .ok (.if_icmp .ge 37, 3) := dk_162 0 37 (dk_at dksX3_aliasesOf_0 11 rfl rfl)
theorem dX3_aliasesOf_14 : decode cX3_aliasesOf 14 = .ok (.iload_n 2, 1) := dk_28 (dk_at dksX3_aliasesOf_0 14 rfl rfl)
theorem dX3_aliasesOf_15 : decode cX3_aliasesOf 15 = .ok (.aload_n 0, 1) := dk_42 (dk_at dksX3_aliasesOf_0 15 rfl rfl)
theorem dX3_aliasesOf_16 : decode cX3_aliasesOf 16 = .ok (.iload_n 3, 1) := dk_29 (dk_at dksX3_aliasesOf_0 16 rfl rfl)
theorem dX3_aliasesOf_17 : decode cX3_aliasesOf 17 = .ok (.iconst 1, 1) := dk_4 (dk_at dksX3_aliasesOf_0 17 rfl rfl)
theorem dX3_aliasesOf_18 : decode cX3_aliasesOf 18 = .ok (.invokevirtual 38, 3) := dk_182 0 38 (dk_at dksX3_aliasesOf_0 18 rfl rfl)
theorem dX3_aliasesOf_21 : decode cX3_aliasesOf 21 = .ok (.iconst 1, 1) := dk_4 (dk_at dksX3_aliasesOf_0 21 rfl rfl)
theorem dX3_aliasesOf_22 : decode cX3_aliasesOf 22 = .ok (.if_icmp .ne 17, 3) := dk_160 0 17 (dk_at dksX3_aliasesOf_1 0 rfl rfl)
theorem dX3_aliasesOf_25 : decode cX3_aliasesOf 25 = .ok (.aload_n 0, 1) := dk_42 (dk_at dksX3_aliasesOf_1 3 rfl rfl)
theorem dX3_aliasesOf_26 : decode cX3_aliasesOf 26 = .ok (.iload_n 3, 1) := dk_29 (dk_at dksX3_aliasesOf_1 4 rfl rfl)
theorem dX3_aliasesOf_27 : decode cX3_aliasesOf 27 = .ok (.iconst 2, 1) := dk_5 (dk_at dksX3_aliasesOf_1 5 rfl rfl)
theorem dX3_aliasesOf_28 : decode cX3_aliasesOf 28 = .ok (.invokevirtual 38, 3) := dk_182 0 38 (dk_at dksX3_aliasesOf_1 6 rfl rfl)
theorem dX3_aliasesOf_31 : decode cX3_aliasesOf 31 = .ok (.iload_n 1, 1) := dk_27 (dk_at dksX3_aliasesOf_1 9 rfl rfl)
theorem dX3_aliasesOf_32 : decode cX3_aliasesOf 32 = .ok (.if_icmp .ne 7, 3) := dk_160 0 7 (dk_at dksX3_aliasesOf_1 10 rfl rfl)
theorem dX3_aliasesOf_35 : decode cX3_aliasesOf 35 = .ok (.iconst 1, 1) := dk_4 (dk_at dksX3_aliasesOf_1 13 rfl rfl)
theorem dX3_aliasesOf_36 : decode cX3_aliasesOf 36 = .ok (.goto 4, 3) := dk_167 0 4 (dk_at dksX3_aliasesOf_1 14 rfl rfl)
theorem dX3_aliasesOf_39 : decode cX3_aliasesOf 39 = .ok (.iconst 0, 1) := dk_3 (dk_at dksX3_aliasesOf_1 17 rfl rfl)
theorem dX3_aliasesOf_40 : decode cX3_aliasesOf 40 = .ok (.iadd, 1) := dk_96 (dk_at dksX3_aliasesOf_1 18 rfl rfl)
theorem dX3_aliasesOf_41 : decode cX3_aliasesOf 41 = .ok (.istore_n 2, 1) := dk_61 (dk_at dksX3_aliasesOf_1 19 rfl rfl)
theorem dX3_aliasesOf_42 : decode cX3_aliasesOf 42 = .ok (.iinc 3 1, 3) := dk_132 3 1 (dk_at dksX3_aliasesOf_1 20 rfl rfl)
theorem dX3_aliasesOf_45 : decode cX3_aliasesOf 45 = .ok (.goto (-41), 3) := dk_167 255 215 (dk_at dksX3_aliasesOf_2 0 rfl rfl)
theorem dX3_aliasesOf_48 : decode cX3_aliasesOf 48 = .ok (.iload_n 2, 1) := dk_28 (dk_at dksX3_aliasesOf_2 3 rfl rfl)
theorem dX3_aliasesOf_49 : decode cX3_aliasesOf 49 = .ok (.ireturn, 1) := dk_172 (dk_at dksX3_aliasesOf_2 4 rfl rfl)
def dkwX3_isLost_2 : List UInt8 := [167, 0, 4, 3, 172]
abbrev dktX3_isLost_2 : List UInt8 := dkwX3_isLost_2 ++ []
def dkwX3_isLost_1 : List UInt8 := [182, 0, 53, 153, 0, 18, 42, 28, 5, 182, 0, 38, 42, 27, 5, 182, 0, 38, 159, 0, 7, 4]
abbrev dktX3_isLost_1 : List UInt8 := dkwX3_isLost_1 ++ dktX3_isLost_2
def dkwX3_isLost_0 : List UInt8 := [42, 42, 27, 8, 182, 0, 38, 182, 0, 50, 61, 42, 27, 4, 182, 0, 38, 4, 160, 0, 30, 42, 28]
abbrev dktX3_isLost_0 : List UInt8 := dkwX3_isLost_0 ++ dktX3_isLost_1
theorem dksX3_isLost_0 : cX3_isLost.data.toList.drop 0 = dktX3_isLost_0 := by decide +kernel
theorem dksX3_isLost_1 : cX3_isLost.data.toList.drop 23 = dktX3_isLost_1 := dk_seg dksX3_isLost_0 23 rfl rfl
theorem dksX3_isLost_2 : cX3_isLost.data.toList.drop 45 = dktX3_isLost_2 := dk_seg dksX3_isLost_1 22 rfl rfl
theorem dX3_isLost_0 : decode cX3_isLost 0 = .ok (.aload_n 0, 1) := dk_42 (dk_at dksX3_isLost_0 0 rfl rfl)
theorem dX3_isLost_1 : decode cX3_isLost 1 = .ok (.aload_n 0, 1) := dk_42 (dk_at dksX3_isLost_0 1 rfl rfl)
theorem dX3_isLost_2 : decode cX3_isLost 2 = .ok (.iload_n 1, 1) := dk_27 (dk_at dksX3_isLost_0 2 rfl rfl)
theorem dX3_isLost_3 : decode cX3_isLost 3 = .ok (.iconst 5, 1) := dk_8 (dk_at dksX3_isLost_0 3 rfl rfl)
theorem dX3_isLost_4 : decode cX3_isLost 4 = .ok (.invokevirtual 38, 3) := dk_182 0 38 (dk_at dksX3_isLost_0 4 rfl rfl)
theorem dX3_isLost_7 : decode cX3_isLost 7 = .ok (.invokevirtual 50, 3) := dk_182 0 50 (dk_at dksX3_isLost_0 7 rfl rfl)
theorem dX3_isLost_10 : decode cX3_isLost 10 = .ok (.istore_n 2, 1) := dk_61 (dk_at dksX3_isLost_0 10 rfl rfl)
theorem dX3_isLost_11 : decode cX3_isLost 11 = .ok (.aload_n 0, 1) := dk_42 (dk_at dksX3_isLost_0 11 rfl rfl)
theorem dX3_isLost_12 : decode cX3_isLost 12 = .ok (.iload_n 1, 1) := dk_27 (dk_at dksX3_isLost_0 12 rfl rfl)
theorem dX3_isLost_13 : decode cX3_isLost 13 = .ok (.iconst 1, 1) := dk_4 (dk_at dksX3_isLost_0 13 rfl rfl)
theorem dX3_isLost_14 : decode cX3_isLost 14 = .ok (.invokevirtual 38, 3) := dk_182 0 38 (dk_at dksX3_isLost_0 14 rfl rfl)
theorem dX3_isLost_17 : decode cX3_isLost 17 = .ok (.iconst 1, 1) := dk_4 (dk_at dksX3_isLost_0 17 rfl rfl)
theorem dX3_isLost_18 : decode cX3_isLost 18 = .ok (.if_icmp .ne 30, 3) := dk_160 0 30 (dk_at dksX3_isLost_0 18 rfl rfl)
theorem dX3_isLost_21 : decode cX3_isLost 21 = .ok (.aload_n 0, 1) := dk_42 (dk_at dksX3_isLost_0 21 rfl rfl)
theorem dX3_isLost_22 : decode cX3_isLost 22 = .ok (.iload_n 2, 1) := dk_28 (dk_at dksX3_isLost_0 22 rfl rfl)
theorem dX3_isLost_23 : decode cX3_isLost 23 = .ok (.invokevirtual 53, 3) := dk_182 0 53 (dk_at dksX3_isLost_1 0 rfl rfl)
theorem dX3_isLost_26 : decode cX3_isLost 26 = .ok (.ifCond .eq 18, 3) := dk_153 0 18 (dk_at dksX3_isLost_1 3 rfl rfl)
theorem dX3_isLost_29 : decode cX3_isLost 29 = .ok (.aload_n 0, 1) := dk_42 (dk_at dksX3_isLost_1 6 rfl rfl)
theorem dX3_isLost_30 : decode cX3_isLost 30 = .ok (.iload_n 2, 1) := dk_28 (dk_at dksX3_isLost_1 7 rfl rfl)
theorem dX3_isLost_31 : decode cX3_isLost 31 = .ok (.iconst 2, 1) := dk_5 (dk_at dksX3_isLost_1 8 rfl rfl)
theorem dX3_isLost_32 : decode cX3_isLost 32 = .ok (.invokevirtual 38, 3) := dk_182 0 38 (dk_at dksX3_isLost_1 9 rfl rfl)
theorem dX3_isLost_35 : decode cX3_isLost 35 = .ok (.aload_n 0, 1) := dk_42 (dk_at dksX3_isLost_1 12 rfl rfl)
theorem dX3_isLost_36 : decode cX3_isLost 36 = .ok (.iload_n 1, 1) := dk_27 (dk_at dksX3_isLost_1 13 rfl rfl)
theorem dX3_isLost_37 : decode cX3_isLost 37 = .ok (.iconst 2, 1) := dk_5 (dk_at dksX3_isLost_1 14 rfl rfl)
theorem dX3_isLost_38 : decode cX3_isLost 38 = .ok (.invokevirtual 38, 3) := dk_182 0 38 (dk_at dksX3_isLost_1 15 rfl rfl)
theorem dX3_isLost_41 : decode cX3_isLost 41 = .ok (.if_icmp .eq 7, 3) := dk_159 0 7 (dk_at dksX3_isLost_1 18 rfl rfl)
theorem dX3_isLost_44 : decode cX3_isLost 44 = .ok (.iconst 1, 1) := dk_4 (dk_at dksX3_isLost_1 21 rfl rfl)
theorem dX3_isLost_45 : decode cX3_isLost 45 = .ok (.goto 4, 3) := dk_167 0 4 (dk_at dksX3_isLost_2 0 rfl rfl)
theorem dX3_isLost_48 : decode cX3_isLost 48 = .ok (.iconst 0, 1) := dk_3 (dk_at dksX3_isLost_2 3 rfl rfl)
theorem dX3_isLost_49 : decode cX3_isLost 49 = .ok (.ireturn, 1) := dk_172 (dk_at dksX3_isLost_2 4 rfl rfl)
def dkwX3_named_1 : List UInt8 := [167, 0, 5, 16, 251, 172]
abbrev dktX3_named_1 : List UInt8 := dkwX3_named_1 ++ []
def dkwX3_named_0 : List UInt8 := [27, 156, 0, 6, 16, 254, 172, 27, 42, 180, 0, 7, 3, 46, 162, 0, 12, 42, 27, 3, 182, 0, 38]
abbrev dktX3_named_0 : List UInt8 := dkwX3_named_0 ++ dktX3_named_1
theorem dksX3_named_0 : cX3_named.data.toList.drop 0 = dktX3_named_0 := by decide +kernel
theorem dksX3_named_1 : cX3_named.data.toList.drop 23 = dktX3_named_1 := dk_seg dksX3_named_0 23 rfl rfl
theorem dX3_named_0 : decode cX3_named 0 = .ok (.iload_n 1, 1) := dk_27 (dk_at dksX3_named_0 0 rfl rfl)
theorem dX3_named_1 : decode cX3_named 1 = .ok (.ifCond .ge 6, 3) := dk_156 0 6 (dk_at dksX3_named_0 1 rfl rfl)
theorem dX3_named_4 : decode cX3_named 4 = .ok (.bipush (-2), 2) := dk_16 254 (dk_at dksX3_named_0 4 rfl rfl)
theorem dX3_named_6 : decode cX3_named 6 = .ok (.ireturn, 1) := dk_172 (dk_at dksX3_named_0 6 rfl rfl)
theorem dX3_named_7 : decode cX3_named 7 = .ok (.iload_n 1, 1) := dk_27 (dk_at dksX3_named_0 7 rfl rfl)
theorem dX3_named_8 : decode cX3_named 8 = .ok (.aload_n 0, 1) := dk_42 (dk_at dksX3_named_0 8 rfl rfl)
theorem dX3_named_9 : decode cX3_named 9 = .ok (.getfield 7, 3) := dk_180 0 7 (dk_at dksX3_named_0 9 rfl rfl)
theorem dX3_named_12 : decode cX3_named 12 = .ok (.iconst 0, 1) := dk_3 (dk_at dksX3_named_0 12 rfl rfl)
theorem dX3_named_13 : decode cX3_named 13 = .ok (.iaload, 1) := dk_46 (dk_at dksX3_named_0 13 rfl rfl)
theorem dX3_named_14 : decode cX3_named 14 = .ok (.if_icmp .ge 12, 3) := dk_162 0 12 (dk_at dksX3_named_0 14 rfl rfl)
theorem dX3_named_17 : decode cX3_named 17 = .ok (.aload_n 0, 1) := dk_42 (dk_at dksX3_named_0 17 rfl rfl)
theorem dX3_named_18 : decode cX3_named 18 = .ok (.iload_n 1, 1) := dk_27 (dk_at dksX3_named_0 18 rfl rfl)
theorem dX3_named_19 : decode cX3_named 19 = .ok (.iconst 0, 1) := dk_3 (dk_at dksX3_named_0 19 rfl rfl)
theorem dX3_named_20 : decode cX3_named 20 = .ok (.invokevirtual 38, 3) := dk_182 0 38 (dk_at dksX3_named_0 20 rfl rfl)
theorem dX3_named_23 : decode cX3_named 23 = .ok (.goto 5, 3) := dk_167 0 5 (dk_at dksX3_named_1 0 rfl rfl)
theorem dX3_named_26 : decode cX3_named 26 = .ok (.bipush (-5), 2) := dk_16 251 (dk_at dksX3_named_1 3 rfl rfl)
theorem dX3_named_28 : decode cX3_named 28 = .ok (.ireturn, 1) := dk_172 (dk_at dksX3_named_1 5 rfl rfl)
def dkwX3_block_4 : List UInt8 := [160, 0, 7, 29, 167, 0, 9, 29, 21, 5, 96, 4, 100, 3, 182, 0, 38, 172]
abbrev dktX3_block_4 : List UInt8 := dkwX3_block_4 ++ []
def dkwX3_block_3 : List UInt8 := [54, 5, 28, 154, 0, 8, 21, 5, 167, 0, 33, 21, 5, 154, 0, 8, 16, 251, 167, 0, 23, 42, 28, 4]
abbrev dktX3_block_3 : List UInt8 := dkwX3_block_3 ++ dktX3_block_4
def dkwX3_block_2 : List UInt8 := [54, 4, 21, 4, 156, 0, 7, 3, 167, 0, 15, 21, 4, 7, 162, 0, 8, 21, 4, 167, 0, 4, 7]
abbrev dktX3_block_2 : List UInt8 := dkwX3_block_2 ++ dktX3_block_3
def dkwX3_block_1 : List UInt8 := [20, 0, 145, 184, 0, 34, 154, 0, 6, 16, 254, 172, 7, 27, 104, 62, 42, 180, 0, 7, 3, 46, 29, 100]
abbrev dktX3_block_1 : List UInt8 := dkwX3_block_1 ++ dktX3_block_2
def dkwX3_block_0 : List UInt8 := [27, 133, 9, 42, 180, 0, 7, 4, 46, 133, 10, 101, 184, 0, 34, 154, 0, 5, 2, 172, 28, 133, 9]
abbrev dktX3_block_0 : List UInt8 := dkwX3_block_0 ++ dktX3_block_1
theorem dksX3_block_0 : cX3_block.data.toList.drop 0 = dktX3_block_0 := by decide +kernel
theorem dksX3_block_1 : cX3_block.data.toList.drop 23 = dktX3_block_1 := dk_seg dksX3_block_0 23 rfl rfl
theorem dksX3_block_2 : cX3_block.data.toList.drop 47 = dktX3_block_2 := dk_seg dksX3_block_1 24 rfl rfl
theorem dksX3_block_3 : cX3_block.data.toList.drop 70 = dktX3_block_3 := dk_seg dksX3_block_2 23 rfl rfl
theorem dksX3_block_4 : cX3_block.data.toList.drop 94 = dktX3_block_4 := dk_seg dksX3_block_3 24 rfl rfl
theorem dX3_block_0 : decode cX3_block 0 = .ok (.iload_n 1, 1) := dk_27 (dk_at dksX3_block_0 0 rfl rfl)
theorem dX3_block_1 : decode cX3_block 1 = .ok (.i2l, 1) := dk_133 (dk_at dksX3_block_0 1 rfl rfl)
theorem dX3_block_2 : decode cX3_block 2 = .ok (.lconst 0, 1) := dk_9 (dk_at dksX3_block_0 2 rfl rfl)
theorem dX3_block_3 : decode cX3_block 3 = .ok (.aload_n 0, 1) := dk_42 (dk_at dksX3_block_0 3 rfl rfl)
theorem dX3_block_4 : decode cX3_block 4 = .ok (.getfield 7, 3) := dk_180 0 7 (dk_at dksX3_block_0 4 rfl rfl)
theorem dX3_block_7 : decode cX3_block 7 = .ok (.iconst 1, 1) := dk_4 (dk_at dksX3_block_0 7 rfl rfl)
theorem dX3_block_8 : decode cX3_block 8 = .ok (.iaload, 1) := dk_46 (dk_at dksX3_block_0 8 rfl rfl)
theorem dX3_block_9 : decode cX3_block 9 = .ok (.i2l, 1) := dk_133 (dk_at dksX3_block_0 9 rfl rfl)
theorem dX3_block_10 : decode cX3_block 10 = .ok (.lconst 1, 1) := dk_10 (dk_at dksX3_block_0 10 rfl rfl)
theorem dX3_block_11 : decode cX3_block 11 = .ok (.lsub, 1) := dk_101 (dk_at dksX3_block_0 11 rfl rfl)
theorem dX3_block_12 : decode cX3_block 12 = .ok (.invokestatic 34, 3) := dk_184 0 34 (dk_at dksX3_block_0 12 rfl rfl)
theorem dX3_block_15 : decode cX3_block 15 = .ok (.ifCond .ne 5, 3) := dk_154 0 5 (dk_at dksX3_block_0 15 rfl rfl)
theorem dX3_block_18 : decode cX3_block 18 = .ok (.iconst (-1), 1) := dk_2 (dk_at dksX3_block_0 18 rfl rfl)
theorem dX3_block_19 : decode cX3_block 19 = .ok (.ireturn, 1) := dk_172 (dk_at dksX3_block_0 19 rfl rfl)
theorem dX3_block_20 : decode cX3_block 20 = .ok (.iload_n 2, 1) := dk_28 (dk_at dksX3_block_0 20 rfl rfl)
theorem dX3_block_21 : decode cX3_block 21 = .ok (.i2l, 1) := dk_133 (dk_at dksX3_block_0 21 rfl rfl)
theorem dX3_block_22 : decode cX3_block 22 = .ok (.lconst 0, 1) := dk_9 (dk_at dksX3_block_0 22 rfl rfl)
theorem dX3_block_23 : decode cX3_block 23 = .ok (.ldc2_w 145, 3) := dk_20 0 145 (dk_at dksX3_block_1 0 rfl rfl)
theorem dX3_block_26 : decode cX3_block 26 = .ok (.invokestatic 34, 3) := dk_184 0 34 (dk_at dksX3_block_1 3 rfl rfl)
theorem dX3_block_29 : decode cX3_block 29 = .ok (.ifCond .ne 6, 3) := dk_154 0 6 (dk_at dksX3_block_1 6 rfl rfl)
theorem dX3_block_32 : decode cX3_block 32 = .ok (.bipush (-2), 2) := dk_16 254 (dk_at dksX3_block_1 9 rfl rfl)
theorem dX3_block_34 : decode cX3_block 34 = .ok (.ireturn, 1) := dk_172 (dk_at dksX3_block_1 11 rfl rfl)
theorem dX3_block_35 : decode cX3_block 35 = .ok (.iconst 4, 1) := dk_7 (dk_at dksX3_block_1 12 rfl rfl)
theorem dX3_block_36 : decode cX3_block 36 = .ok (.iload_n 1, 1) := dk_27 (dk_at dksX3_block_1 13 rfl rfl)
theorem dX3_block_37 : decode cX3_block 37 = .ok (.imul, 1) := dk_104 (dk_at dksX3_block_1 14 rfl rfl)
theorem dX3_block_38 : decode cX3_block 38 = .ok (.istore_n 3, 1) := dk_62 (dk_at dksX3_block_1 15 rfl rfl)
theorem dX3_block_39 : decode cX3_block 39 = .ok (.aload_n 0, 1) := dk_42 (dk_at dksX3_block_1 16 rfl rfl)
theorem dX3_block_40 : decode cX3_block 40 = .ok (.getfield 7, 3) := dk_180 0 7 (dk_at dksX3_block_1 17 rfl rfl)
theorem dX3_block_43 : decode cX3_block 43 = .ok (.iconst 0, 1) := dk_3 (dk_at dksX3_block_1 20 rfl rfl)
theorem dX3_block_44 : decode cX3_block 44 = .ok (.iaload, 1) := dk_46 (dk_at dksX3_block_1 21 rfl rfl)
theorem dX3_block_45 : decode cX3_block 45 = .ok (.iload_n 3, 1) := dk_29 (dk_at dksX3_block_1 22 rfl rfl)
theorem dX3_block_46 : decode cX3_block 46 = .ok (.isub, 1) := dk_100 (dk_at dksX3_block_1 23 rfl rfl)
theorem dX3_block_47 : decode cX3_block 47 = .ok (.istore 4, 2) := dk_54 4 (dk_at dksX3_block_2 0 rfl rfl)
theorem dX3_block_49 : decode cX3_block 49 = .ok (.iload 4, 2) := dk_21 4 (dk_at dksX3_block_2 2 rfl rfl)
theorem dX3_block_51 : decode cX3_block 51 = .ok (.ifCond .ge 7, 3) := dk_156 0 7 (dk_at dksX3_block_2 4 rfl rfl)
theorem dX3_block_54 : decode cX3_block 54 = .ok (.iconst 0, 1) := dk_3 (dk_at dksX3_block_2 7 rfl rfl)
theorem dX3_block_55 : decode cX3_block 55 = .ok (.goto 15, 3) := dk_167 0 15 (dk_at dksX3_block_2 8 rfl rfl)
theorem dX3_block_58 : decode cX3_block 58 = .ok (.iload 4, 2) := dk_21 4 (dk_at dksX3_block_2 11 rfl rfl)
theorem dX3_block_60 : decode cX3_block 60 = .ok (.iconst 4, 1) := dk_7 (dk_at dksX3_block_2 13 rfl rfl)
theorem dX3_block_61 : decode cX3_block 61 = .ok (.if_icmp .ge 8, 3) := dk_162 0 8 (dk_at dksX3_block_2 14 rfl rfl)
theorem dX3_block_64 : decode cX3_block 64 = .ok (.iload 4, 2) := dk_21 4 (dk_at dksX3_block_2 17 rfl rfl)
theorem dX3_block_66 : decode cX3_block 66 = .ok (.goto 4, 3) := dk_167 0 4 (dk_at dksX3_block_2 19 rfl rfl)
theorem dX3_block_69 : decode cX3_block 69 = .ok (.iconst 4, 1) := dk_7 (dk_at dksX3_block_2 22 rfl rfl)
theorem dX3_block_70 : decode cX3_block 70 = .ok (.istore 5, 2) := dk_54 5 (dk_at dksX3_block_3 0 rfl rfl)
theorem dX3_block_72 : decode cX3_block 72 = .ok (.iload_n 2, 1) := dk_28 (dk_at dksX3_block_3 2 rfl rfl)
theorem dX3_block_73 : decode cX3_block 73 = .ok (.ifCond .ne 8, 3) := dk_154 0 8 (dk_at dksX3_block_3 3 rfl rfl)
theorem dX3_block_76 : decode cX3_block 76 = .ok (.iload 5, 2) := dk_21 5 (dk_at dksX3_block_3 6 rfl rfl)
theorem dX3_block_78 : decode cX3_block 78 = .ok (.goto 33, 3) := dk_167 0 33 (dk_at dksX3_block_3 8 rfl rfl)
theorem dX3_block_81 : decode cX3_block 81 = .ok (.iload 5, 2) := dk_21 5 (dk_at dksX3_block_3 11 rfl rfl)
theorem dX3_block_83 : decode cX3_block 83 = .ok (.ifCond .ne 8, 3) := dk_154 0 8 (dk_at dksX3_block_3 13 rfl rfl)
theorem dX3_block_86 : decode cX3_block 86 = .ok (.bipush (-5), 2) := dk_16 251 (dk_at dksX3_block_3 16 rfl rfl)
theorem dX3_block_88 : decode cX3_block 88 = .ok (.goto 23, 3) := dk_167 0 23 (dk_at dksX3_block_3 18 rfl rfl)
theorem dX3_block_91 : decode cX3_block 91 = .ok (.aload_n 0, 1) := dk_42 (dk_at dksX3_block_3 21 rfl rfl)
theorem dX3_block_92 : decode cX3_block 92 = .ok (.iload_n 2, 1) := dk_28 (dk_at dksX3_block_3 22 rfl rfl)
theorem dX3_block_93 : decode cX3_block 93 = .ok (.iconst 1, 1) := dk_4 (dk_at dksX3_block_3 23 rfl rfl)
theorem dX3_block_94 : decode cX3_block 94 = .ok (.if_icmp .ne 7, 3) := dk_160 0 7 (dk_at dksX3_block_4 0 rfl rfl)
theorem dX3_block_97 : decode cX3_block 97 = .ok (.iload_n 3, 1) := dk_29 (dk_at dksX3_block_4 3 rfl rfl)
theorem dX3_block_98 : decode cX3_block 98 = .ok (.goto 9, 3) := dk_167 0 9 (dk_at dksX3_block_4 4 rfl rfl)
theorem dX3_block_101 : decode cX3_block 101 = .ok (.iload_n 3, 1) := dk_29 (dk_at dksX3_block_4 7 rfl rfl)
theorem dX3_block_102 : decode cX3_block 102 = .ok (.iload 5, 2) := dk_21 5 (dk_at dksX3_block_4 8 rfl rfl)
theorem dX3_block_104 : decode cX3_block 104 = .ok (.iadd, 1) := dk_96 (dk_at dksX3_block_4 10 rfl rfl)
theorem dX3_block_105 : decode cX3_block 105 = .ok (.iconst 1, 1) := dk_4 (dk_at dksX3_block_4 11 rfl rfl)
theorem dX3_block_106 : decode cX3_block 106 = .ok (.isub, 1) := dk_100 (dk_at dksX3_block_4 12 rfl rfl)
theorem dX3_block_107 : decode cX3_block 107 = .ok (.iconst 0, 1) := dk_3 (dk_at dksX3_block_4 13 rfl rfl)
theorem dX3_block_108 : decode cX3_block 108 = .ok (.invokevirtual 38, 3) := dk_182 0 38 (dk_at dksX3_block_4 14 rfl rfl)
theorem dX3_block_111 : decode cX3_block 111 = .ok (.ireturn, 1) := dk_172 (dk_at dksX3_block_4 17 rfl rfl)
def dkwX3_at_3 : List UInt8 := [3, 182, 0, 38, 172, 132, 2, 1, 167, 255, 205, 17, 3, 232, 172]
abbrev dktX3_at_3 : List UInt8 := dkwX3_at_3 ++ []
def dkwX3_at_2 : List UInt8 := [42, 28, 5, 182, 0, 38, 42, 28, 6, 182, 0, 38, 96, 133, 10, 101, 184, 0, 34, 153, 0, 10, 42, 28]
abbrev dktX3_at_2 : List UInt8 := dkwX3_at_2 ++ dktX3_at_3
def dkwX3_at_1 : List UInt8 := [16, 251, 172, 3, 61, 28, 42, 180, 0, 7, 3, 46, 162, 0, 47, 27, 133, 42, 28, 5, 182, 0, 38, 133]
abbrev dktX3_at_1 : List UInt8 := dkwX3_at_1 ++ dktX3_at_2
def dkwX3_at_0 : List UInt8 := [27, 133, 9, 20, 0, 147, 184, 0, 34, 154, 0, 5, 2, 172, 27, 42, 180, 0, 7, 5, 46, 161, 0, 6]
abbrev dktX3_at_0 : List UInt8 := dkwX3_at_0 ++ dktX3_at_1
theorem dksX3_at_0 : cX3_at.data.toList.drop 0 = dktX3_at_0 := by decide +kernel
theorem dksX3_at_1 : cX3_at.data.toList.drop 24 = dktX3_at_1 := dk_seg dksX3_at_0 24 rfl rfl
theorem dksX3_at_2 : cX3_at.data.toList.drop 48 = dktX3_at_2 := dk_seg dksX3_at_1 24 rfl rfl
theorem dksX3_at_3 : cX3_at.data.toList.drop 72 = dktX3_at_3 := dk_seg dksX3_at_2 24 rfl rfl
theorem dX3_at_0 : decode cX3_at 0 = .ok (.iload_n 1, 1) := dk_27 (dk_at dksX3_at_0 0 rfl rfl)
theorem dX3_at_1 : decode cX3_at 1 = .ok (.i2l, 1) := dk_133 (dk_at dksX3_at_0 1 rfl rfl)
theorem dX3_at_2 : decode cX3_at 2 = .ok (.lconst 0, 1) := dk_9 (dk_at dksX3_at_0 2 rfl rfl)
theorem dX3_at_3 : decode cX3_at 3 = .ok (.ldc2_w 147, 3) := dk_20 0 147 (dk_at dksX3_at_0 3 rfl rfl)
theorem dX3_at_6 : decode cX3_at 6 = .ok (.invokestatic 34, 3) := dk_184 0 34 (dk_at dksX3_at_0 6 rfl rfl)
theorem dX3_at_9 : decode cX3_at 9 = .ok (.ifCond .ne 5, 3) := dk_154 0 5 (dk_at dksX3_at_0 9 rfl rfl)
theorem dX3_at_12 : decode cX3_at 12 = .ok (.iconst (-1), 1) := dk_2 (dk_at dksX3_at_0 12 rfl rfl)
theorem dX3_at_13 : decode cX3_at 13 = .ok (.ireturn, 1) := dk_172 (dk_at dksX3_at_0 13 rfl rfl)
theorem dX3_at_14 : decode cX3_at 14 = .ok (.iload_n 1, 1) := dk_27 (dk_at dksX3_at_0 14 rfl rfl)
theorem dX3_at_15 : decode cX3_at 15 = .ok (.aload_n 0, 1) := dk_42 (dk_at dksX3_at_0 15 rfl rfl)
theorem dX3_at_16 : decode cX3_at 16 = .ok (.getfield 7, 3) := dk_180 0 7 (dk_at dksX3_at_0 16 rfl rfl)
theorem dX3_at_19 : decode cX3_at 19 = .ok (.iconst 2, 1) := dk_5 (dk_at dksX3_at_0 19 rfl rfl)
theorem dX3_at_20 : decode cX3_at 20 = .ok (.iaload, 1) := dk_46 (dk_at dksX3_at_0 20 rfl rfl)
theorem dX3_at_21 : decode cX3_at 21 = .ok (.if_icmp .lt 6, 3) := dk_161 0 6 (dk_at dksX3_at_0 21 rfl rfl)
theorem dX3_at_24 : decode cX3_at 24 = .ok (.bipush (-5), 2) := dk_16 251 (dk_at dksX3_at_1 0 rfl rfl)
theorem dX3_at_26 : decode cX3_at 26 = .ok (.ireturn, 1) := dk_172 (dk_at dksX3_at_1 2 rfl rfl)
theorem dX3_at_27 : decode cX3_at 27 = .ok (.iconst 0, 1) := dk_3 (dk_at dksX3_at_1 3 rfl rfl)
theorem dX3_at_28 : decode cX3_at 28 = .ok (.istore_n 2, 1) := dk_61 (dk_at dksX3_at_1 4 rfl rfl)
theorem dX3_at_29 : decode cX3_at 29 = .ok (.iload_n 2, 1) := dk_28 (dk_at dksX3_at_1 5 rfl rfl)
theorem dX3_at_30 : decode cX3_at 30 = .ok (.aload_n 0, 1) := dk_42 (dk_at dksX3_at_1 6 rfl rfl)
theorem dX3_at_31 : decode cX3_at 31 = .ok (.getfield 7, 3) := dk_180 0 7 (dk_at dksX3_at_1 7 rfl rfl)
theorem dX3_at_34 : decode cX3_at 34 = .ok (.iconst 0, 1) := dk_3 (dk_at dksX3_at_1 10 rfl rfl)
theorem dX3_at_35 : decode cX3_at 35 = .ok (.iaload, 1) := dk_46 (dk_at dksX3_at_1 11 rfl rfl)
theorem dX3_at_36 : decode cX3_at 36 = .ok (.if_icmp .ge 47, 3) := dk_162 0 47 (dk_at dksX3_at_1 12 rfl rfl)
theorem dX3_at_39 : decode cX3_at 39 = .ok (.iload_n 1, 1) := dk_27 (dk_at dksX3_at_1 15 rfl rfl)
theorem dX3_at_40 : decode cX3_at 40 = .ok (.i2l, 1) := dk_133 (dk_at dksX3_at_1 16 rfl rfl)
theorem dX3_at_41 : decode cX3_at 41 = .ok (.aload_n 0, 1) := dk_42 (dk_at dksX3_at_1 17 rfl rfl)
theorem dX3_at_42 : decode cX3_at 42 = .ok (.iload_n 2, 1) := dk_28 (dk_at dksX3_at_1 18 rfl rfl)
theorem dX3_at_43 : decode cX3_at 43 = .ok (.iconst 2, 1) := dk_5 (dk_at dksX3_at_1 19 rfl rfl)
theorem dX3_at_44 : decode cX3_at 44 = .ok (.invokevirtual 38, 3) := dk_182 0 38 (dk_at dksX3_at_1 20 rfl rfl)
theorem dX3_at_47 : decode cX3_at 47 = .ok (.i2l, 1) := dk_133 (dk_at dksX3_at_1 23 rfl rfl)
theorem dX3_at_48 : decode cX3_at 48 = .ok (.aload_n 0, 1) := dk_42 (dk_at dksX3_at_2 0 rfl rfl)
theorem dX3_at_49 : decode cX3_at 49 = .ok (.iload_n 2, 1) := dk_28 (dk_at dksX3_at_2 1 rfl rfl)
theorem dX3_at_50 : decode cX3_at 50 = .ok (.iconst 2, 1) := dk_5 (dk_at dksX3_at_2 2 rfl rfl)
theorem dX3_at_51 : decode cX3_at 51 = .ok (.invokevirtual 38, 3) := dk_182 0 38 (dk_at dksX3_at_2 3 rfl rfl)
theorem dX3_at_54 : decode cX3_at 54 = .ok (.aload_n 0, 1) := dk_42 (dk_at dksX3_at_2 6 rfl rfl)
theorem dX3_at_55 : decode cX3_at 55 = .ok (.iload_n 2, 1) := dk_28 (dk_at dksX3_at_2 7 rfl rfl)
theorem dX3_at_56 : decode cX3_at 56 = .ok (.iconst 3, 1) := dk_6 (dk_at dksX3_at_2 8 rfl rfl)
theorem dX3_at_57 : decode cX3_at 57 = .ok (.invokevirtual 38, 3) := dk_182 0 38 (dk_at dksX3_at_2 9 rfl rfl)
theorem dX3_at_60 : decode cX3_at 60 = .ok (.iadd, 1) := dk_96 (dk_at dksX3_at_2 12 rfl rfl)
theorem dX3_at_61 : decode cX3_at 61 = .ok (.i2l, 1) := dk_133 (dk_at dksX3_at_2 13 rfl rfl)
theorem dX3_at_62 : decode cX3_at 62 = .ok (.lconst 1, 1) := dk_10 (dk_at dksX3_at_2 14 rfl rfl)
theorem dX3_at_63 : decode cX3_at 63 = .ok (.lsub, 1) := dk_101 (dk_at dksX3_at_2 15 rfl rfl)
theorem dX3_at_64 : decode cX3_at 64 = .ok (.invokestatic 34, 3) := dk_184 0 34 (dk_at dksX3_at_2 16 rfl rfl)
theorem dX3_at_67 : decode cX3_at 67 = .ok (.ifCond .eq 10, 3) := dk_153 0 10 (dk_at dksX3_at_2 19 rfl rfl)
theorem dX3_at_70 : decode cX3_at 70 = .ok (.aload_n 0, 1) := dk_42 (dk_at dksX3_at_2 22 rfl rfl)
theorem dX3_at_71 : decode cX3_at 71 = .ok (.iload_n 2, 1) := dk_28 (dk_at dksX3_at_2 23 rfl rfl)
theorem dX3_at_72 : decode cX3_at 72 = .ok (.iconst 0, 1) := dk_3 (dk_at dksX3_at_3 0 rfl rfl)
theorem dX3_at_73 : decode cX3_at 73 = .ok (.invokevirtual 38, 3) := dk_182 0 38 (dk_at dksX3_at_3 1 rfl rfl)
theorem dX3_at_76 : decode cX3_at 76 = .ok (.ireturn, 1) := dk_172 (dk_at dksX3_at_3 4 rfl rfl)
theorem dX3_at_77 : decode cX3_at 77 = .ok (.iinc 2 1, 3) := dk_132 2 1 (dk_at dksX3_at_3 5 rfl rfl)
theorem dX3_at_80 : decode cX3_at 80 = .ok (.goto (-51), 3) := dk_167 255 205 (dk_at dksX3_at_3 8 rfl rfl)
theorem dX3_at_83 : decode cX3_at 83 = .ok (.sipush 1000, 3) := dk_17 3 232 (dk_at dksX3_at_3 11 rfl rfl)
theorem dX3_at_86 : decode cX3_at 86 = .ok (.ireturn, 1) := dk_172 (dk_at dksX3_at_3 14 rfl rfl)
def dkwX3_fits_1 : List UInt8 := [167, 0, 20, 42, 4, 182, 0, 127, 27, 96, 16, 100, 163, 0, 7, 4, 167, 0, 4, 5, 172]
abbrev dktX3_fits_1 : List UInt8 := dkwX3_fits_1 ++ []
def dkwX3_fits_0 : List UInt8 := [27, 133, 10, 20, 0, 60, 184, 0, 34, 154, 0, 6, 16, 254, 172, 42, 27, 182, 0, 68, 153, 0, 7, 3]
abbrev dktX3_fits_0 : List UInt8 := dkwX3_fits_0 ++ dktX3_fits_1
theorem dksX3_fits_0 : cX3_fits.data.toList.drop 0 = dktX3_fits_0 := by decide +kernel
theorem dksX3_fits_1 : cX3_fits.data.toList.drop 24 = dktX3_fits_1 := dk_seg dksX3_fits_0 24 rfl rfl
theorem dX3_fits_0 : decode cX3_fits 0 = .ok (.iload_n 1, 1) := dk_27 (dk_at dksX3_fits_0 0 rfl rfl)
theorem dX3_fits_1 : decode cX3_fits 1 = .ok (.i2l, 1) := dk_133 (dk_at dksX3_fits_0 1 rfl rfl)
theorem dX3_fits_2 : decode cX3_fits 2 = .ok (.lconst 1, 1) := dk_10 (dk_at dksX3_fits_0 2 rfl rfl)
theorem dX3_fits_3 : decode cX3_fits 3 = .ok (.ldc2_w 60, 3) := dk_20 0 60 (dk_at dksX3_fits_0 3 rfl rfl)
theorem dX3_fits_6 : decode cX3_fits 6 = .ok (.invokestatic 34, 3) := dk_184 0 34 (dk_at dksX3_fits_0 6 rfl rfl)
theorem dX3_fits_9 : decode cX3_fits 9 = .ok (.ifCond .ne 6, 3) := dk_154 0 6 (dk_at dksX3_fits_0 9 rfl rfl)
theorem dX3_fits_12 : decode cX3_fits 12 = .ok (.bipush (-2), 2) := dk_16 254 (dk_at dksX3_fits_0 12 rfl rfl)
theorem dX3_fits_14 : decode cX3_fits 14 = .ok (.ireturn, 1) := dk_172 (dk_at dksX3_fits_0 14 rfl rfl)
theorem dX3_fits_15 : decode cX3_fits 15 = .ok (.aload_n 0, 1) := dk_42 (dk_at dksX3_fits_0 15 rfl rfl)
theorem dX3_fits_16 : decode cX3_fits 16 = .ok (.iload_n 1, 1) := dk_27 (dk_at dksX3_fits_0 16 rfl rfl)
theorem dX3_fits_17 : decode cX3_fits 17 = .ok (.invokevirtual 68, 3) := dk_182 0 68 (dk_at dksX3_fits_0 17 rfl rfl)
theorem dX3_fits_20 : decode cX3_fits 20 = .ok (.ifCond .eq 7, 3) := dk_153 0 7 (dk_at dksX3_fits_0 20 rfl rfl)
theorem dX3_fits_23 : decode cX3_fits 23 = .ok (.iconst 0, 1) := dk_3 (dk_at dksX3_fits_0 23 rfl rfl)
theorem dX3_fits_24 : decode cX3_fits 24 = .ok (.goto 20, 3) := dk_167 0 20 (dk_at dksX3_fits_1 0 rfl rfl)
theorem dX3_fits_27 : decode cX3_fits 27 = .ok (.aload_n 0, 1) := dk_42 (dk_at dksX3_fits_1 3 rfl rfl)
theorem dX3_fits_28 : decode cX3_fits 28 = .ok (.iconst 1, 1) := dk_4 (dk_at dksX3_fits_1 4 rfl rfl)
theorem dX3_fits_29 : decode cX3_fits 29 = .ok (.invokevirtual 127, 3) := dk_182 0 127 (dk_at dksX3_fits_1 5 rfl rfl)
theorem dX3_fits_32 : decode cX3_fits 32 = .ok (.iload_n 1, 1) := dk_27 (dk_at dksX3_fits_1 8 rfl rfl)
theorem dX3_fits_33 : decode cX3_fits 33 = .ok (.iadd, 1) := dk_96 (dk_at dksX3_fits_1 9 rfl rfl)
theorem dX3_fits_34 : decode cX3_fits 34 = .ok (.bipush 100, 2) := dk_16 100 (dk_at dksX3_fits_1 10 rfl rfl)
theorem dX3_fits_36 : decode cX3_fits 36 = .ok (.if_icmp .gt 7, 3) := dk_163 0 7 (dk_at dksX3_fits_1 12 rfl rfl)
theorem dX3_fits_39 : decode cX3_fits 39 = .ok (.iconst 1, 1) := dk_4 (dk_at dksX3_fits_1 15 rfl rfl)
theorem dX3_fits_40 : decode cX3_fits 40 = .ok (.goto 4, 3) := dk_167 0 4 (dk_at dksX3_fits_1 16 rfl rfl)
theorem dX3_fits_43 : decode cX3_fits 43 = .ok (.iconst 2, 1) := dk_5 (dk_at dksX3_fits_1 19 rfl rfl)
theorem dX3_fits_44 : decode cX3_fits 44 = .ok (.ireturn, 1) := dk_172 (dk_at dksX3_fits_1 20 rfl rfl)
def dkwX3_beginning_3 : List UInt8 := [16, 251, 172]
abbrev dktX3_beginning_3 : List UInt8 := dkwX3_beginning_3 ++ []
def dkwX3_beginning_2 : List UInt8 := [160, 0, 18, 29, 154, 0, 11, 42, 21, 4, 3, 182, 0, 38, 172, 132, 3, 255, 132, 4, 1, 167, 255, 213]
abbrev dktX3_beginning_2 : List UInt8 := dkwX3_beginning_2 ++ dktX3_beginning_3
def dkwX3_beginning_1 : List UInt8 := [21, 4, 42, 180, 0, 7, 3, 46, 162, 0, 38, 42, 21, 4, 3, 182, 0, 38, 16, 26, 108, 27]
abbrev dktX3_beginning_1 : List UInt8 := dkwX3_beginning_1 ++ dktX3_beginning_2
def dkwX3_beginning_0 : List UInt8 := [27, 133, 9, 20, 0, 149, 184, 0, 34, 153, 0, 7, 28, 156, 0, 6, 16, 254, 172, 28, 62, 3, 54, 4]
abbrev dktX3_beginning_0 : List UInt8 := dkwX3_beginning_0 ++ dktX3_beginning_1
theorem dksX3_beginning_0 : cX3_beginning.data.toList.drop 0 = dktX3_beginning_0 := by decide +kernel
theorem dksX3_beginning_1 : cX3_beginning.data.toList.drop 24 = dktX3_beginning_1 := dk_seg dksX3_beginning_0 24 rfl rfl
theorem dksX3_beginning_2 : cX3_beginning.data.toList.drop 46 = dktX3_beginning_2 := dk_seg dksX3_beginning_1 22 rfl rfl
theorem dksX3_beginning_3 : cX3_beginning.data.toList.drop 70 = dktX3_beginning_3 := dk_seg dksX3_beginning_2 24 rfl rfl
theorem dX3_beginning_0 : decode cX3_beginning 0 = .ok (.iload_n 1, 1) := dk_27 (dk_at dksX3_beginning_0 0 rfl rfl)
theorem dX3_beginning_1 : decode cX3_beginning 1 = .ok (.i2l, 1) := dk_133 (dk_at dksX3_beginning_0 1 rfl rfl)
theorem dX3_beginning_2 : decode cX3_beginning 2 = .ok (.lconst 0, 1) := dk_9 (dk_at dksX3_beginning_0 2 rfl rfl)
theorem dX3_beginning_3 : decode cX3_beginning 3 = .ok (.ldc2_w 149, 3) := dk_20 0 149 (dk_at dksX3_beginning_0 3 rfl rfl)
theorem dX3_beginning_6 : decode cX3_beginning 6 = .ok (.invokestatic 34, 3) := dk_184 0 34 (dk_at dksX3_beginning_0 6 rfl rfl)
theorem dX3_beginning_9 : decode cX3_beginning 9 = .ok (.ifCond .eq 7, 3) := dk_153 0 7 (dk_at dksX3_beginning_0 9 rfl rfl)
theorem dX3_beginning_12 : decode cX3_beginning 12 = .ok (.iload_n 2, 1) := dk_28 (dk_at dksX3_beginning_0 12 rfl rfl)
theorem dX3_beginning_13 : decode cX3_beginning 13 = .ok (.ifCond .ge 6, 3) := dk_156 0 6 (dk_at dksX3_beginning_0 13 rfl rfl)
theorem dX3_beginning_16 : decode cX3_beginning 16 = .ok (.bipush (-2), 2) := dk_16 254 (dk_at dksX3_beginning_0 16 rfl rfl)
theorem dX3_beginning_18 : decode cX3_beginning 18 = .ok (.ireturn, 1) := dk_172 (dk_at dksX3_beginning_0 18 rfl rfl)
theorem dX3_beginning_19 : decode cX3_beginning 19 = .ok (.iload_n 2, 1) := dk_28 (dk_at dksX3_beginning_0 19 rfl rfl)
theorem dX3_beginning_20 : decode cX3_beginning 20 = .ok (.istore_n 3, 1) := dk_62 (dk_at dksX3_beginning_0 20 rfl rfl)
theorem dX3_beginning_21 : decode cX3_beginning 21 = .ok (.iconst 0, 1) := dk_3 (dk_at dksX3_beginning_0 21 rfl rfl)
theorem dX3_beginning_22 : decode cX3_beginning 22 = .ok (.istore 4, 2) := dk_54 4 (dk_at dksX3_beginning_0 22 rfl rfl)
theorem dX3_beginning_24 : decode cX3_beginning 24 = .ok (.iload 4, 2) := dk_21 4 (dk_at dksX3_beginning_1 0 rfl rfl)
theorem dX3_beginning_26 : decode cX3_beginning 26 = .ok (.aload_n 0, 1) := dk_42 (dk_at dksX3_beginning_1 2 rfl rfl)
theorem dX3_beginning_27 : decode cX3_beginning 27 = .ok (.getfield 7, 3) := dk_180 0 7 (dk_at dksX3_beginning_1 3 rfl rfl)
theorem dX3_beginning_30 : decode cX3_beginning 30 = .ok (.iconst 0, 1) := dk_3 (dk_at dksX3_beginning_1 6 rfl rfl)
theorem dX3_beginning_31 : decode cX3_beginning 31 = .ok (.iaload, 1) := dk_46 (dk_at dksX3_beginning_1 7 rfl rfl)
theorem dX3_beginning_32 : decode cX3_beginning 32 = .ok (.if_icmp .ge 38, 3) := dk_162 0 38 (dk_at dksX3_beginning_1 8 rfl rfl)
theorem dX3_beginning_35 : decode cX3_beginning 35 = .ok (.aload_n 0, 1) := dk_42 (dk_at dksX3_beginning_1 11 rfl rfl)
theorem dX3_beginning_36 : decode cX3_beginning 36 = .ok (.iload 4, 2) := dk_21 4 (dk_at dksX3_beginning_1 12 rfl rfl)
theorem dX3_beginning_38 : decode cX3_beginning 38 = .ok (.iconst 0, 1) := dk_3 (dk_at dksX3_beginning_1 14 rfl rfl)
theorem dX3_beginning_39 : decode cX3_beginning 39 = .ok (.invokevirtual 38, 3) := dk_182 0 38 (dk_at dksX3_beginning_1 15 rfl rfl)
theorem dX3_beginning_42 : decode cX3_beginning 42 = .ok (.bipush 26, 2) := dk_16 26 (dk_at dksX3_beginning_1 18 rfl rfl)
theorem dX3_beginning_44 : decode cX3_beginning 44 = .ok (.idiv, 1) := dk_108 (dk_at dksX3_beginning_1 20 rfl rfl)
theorem dX3_beginning_45 : decode cX3_beginning 45 = .ok (.iload_n 1, 1) := dk_27 (dk_at dksX3_beginning_1 21 rfl rfl)
theorem dX3_beginning_46 : decode cX3_beginning 46 = .ok (.if_icmp .ne 18, 3) := dk_160 0 18 (dk_at dksX3_beginning_2 0 rfl rfl)
theorem dX3_beginning_49 : decode cX3_beginning 49 = .ok (.iload_n 3, 1) := dk_29 (dk_at dksX3_beginning_2 3 rfl rfl)
theorem dX3_beginning_50 : decode cX3_beginning 50 = .ok (.ifCond .ne 11, 3) := dk_154 0 11 (dk_at dksX3_beginning_2 4 rfl rfl)
theorem dX3_beginning_53 : decode cX3_beginning 53 = .ok (.aload_n 0, 1) := dk_42 (dk_at dksX3_beginning_2 7 rfl rfl)
theorem dX3_beginning_54 : decode cX3_beginning 54 = .ok (.iload 4, 2) := dk_21 4 (dk_at dksX3_beginning_2 8 rfl rfl)
theorem dX3_beginning_56 : decode cX3_beginning 56 = .ok (.iconst 0, 1) := dk_3 (dk_at dksX3_beginning_2 10 rfl rfl)
theorem dX3_beginning_57 : decode cX3_beginning 57 = .ok (.invokevirtual 38, 3) := dk_182 0 38 (dk_at dksX3_beginning_2 11 rfl rfl)
theorem dX3_beginning_60 : decode cX3_beginning 60 = .ok (.ireturn, 1) := dk_172 (dk_at dksX3_beginning_2 14 rfl rfl)
theorem dX3_beginning_61 : decode cX3_beginning 61 = .ok (.iinc 3 (-1), 3) := dk_132 3 255 (dk_at dksX3_beginning_2 15 rfl rfl)
theorem dX3_beginning_64 : decode cX3_beginning 64 = .ok (.iinc 4 1, 3) := dk_132 4 1 (dk_at dksX3_beginning_2 18 rfl rfl)
theorem dX3_beginning_67 : decode cX3_beginning 67 = .ok (.goto (-43), 3) := dk_167 255 213 (dk_at dksX3_beginning_2 21 rfl rfl)
theorem dX3_beginning_70 : decode cX3_beginning 70 = .ok (.bipush (-5), 2) := dk_16 251 (dk_at dksX3_beginning_3 0 rfl rfl)
theorem dX3_beginning_72 : decode cX3_beginning 72 = .ok (.ireturn, 1) := dk_172 (dk_at dksX3_beginning_3 2 rfl rfl)
def dkwX3_count_7 : List UInt8 := [16, 254, 172]
abbrev dktX3_count_7 : List UInt8 := dkwX3_count_7 ++ []
def dkwX3_count_6 : List UInt8 := [180, 0, 7, 6, 46, 172, 42, 180, 0, 7, 7, 46, 172, 42, 180, 0, 28, 172, 42, 180, 0, 95, 172]
abbrev dktX3_count_6 : List UInt8 := dkwX3_count_6 ++ dktX3_count_7
def dkwX3_count_5 : List UInt8 := [4, 182, 0, 127, 100, 172, 16, 100, 42, 180, 0, 7, 5, 46, 100, 172, 42, 3, 182, 0, 127, 172, 42]
abbrev dktX3_count_5 : List UInt8 := dkwX3_count_5 ++ dktX3_count_6
def dkwX3_count_4 : List UInt8 := [3, 46, 100, 172, 42, 180, 0, 7, 5, 46, 172, 42, 4, 182, 0, 127, 172, 42, 180, 0, 7, 5, 46, 42]
abbrev dktX3_count_4 : List UInt8 := dkwX3_count_4 ++ dktX3_count_5
def dkwX3_count_3 : List UInt8 := [42, 182, 0, 154, 172, 42, 180, 0, 7, 4, 46, 172, 7, 42, 180, 0, 7, 4, 46, 104, 42, 180, 0, 7]
abbrev dktX3_count_3 : List UInt8 := dkwX3_count_3 ++ dktX3_count_4
def dkwX3_count_2 : List UInt8 := [42, 180, 0, 7, 3, 46, 172, 42, 182, 0, 151, 172, 42, 180, 0, 7, 3, 46, 42, 182, 0, 151, 100, 172]
abbrev dktX3_count_2 : List UInt8 := dkwX3_count_2 ++ dktX3_count_3
def dkwX3_count_1 : List UInt8 := [170, 0, 0, 0, 0, 0, 193, 0, 0, 0, 0, 0, 0, 0, 14, 0, 0, 0, 75, 0, 0, 0, 82, 0, 0, 0, 87, 0, 0, 0, 99, 0, 0, 0, 104, 0, 0, 0, 111, 0, 0, 0, 127, 0, 0, 0, 134, 0, 0, 0, 140, 0, 0, 0, 153, 0, 0, 0, 163, 0, 0, 0, 169, 0, 0, 0, 176, 0, 0, 0, 183, 0, 0, 0, 188]
abbrev dktX3_count_1 : List UInt8 := dkwX3_count_1 ++ dktX3_count_2
def dkwX3_count_0 : List UInt8 := [27]
abbrev dktX3_count_0 : List UInt8 := dkwX3_count_0 ++ dktX3_count_1
theorem dksX3_count_0 : cX3_count.data.toList.drop 0 = dktX3_count_0 := by decide +kernel
theorem dksX3_count_1 : cX3_count.data.toList.drop 1 = dktX3_count_1 := dk_seg dksX3_count_0 1 rfl rfl
theorem dksX3_count_2 : cX3_count.data.toList.drop 76 = dktX3_count_2 := dk_seg dksX3_count_1 75 rfl rfl
theorem dksX3_count_3 : cX3_count.data.toList.drop 100 = dktX3_count_3 := dk_seg dksX3_count_2 24 rfl rfl
theorem dksX3_count_4 : cX3_count.data.toList.drop 124 = dktX3_count_4 := dk_seg dksX3_count_3 24 rfl rfl
theorem dksX3_count_5 : cX3_count.data.toList.drop 148 = dktX3_count_5 := dk_seg dksX3_count_4 24 rfl rfl
theorem dksX3_count_6 : cX3_count.data.toList.drop 171 = dktX3_count_6 := dk_seg dksX3_count_5 23 rfl rfl
theorem dksX3_count_7 : cX3_count.data.toList.drop 194 = dktX3_count_7 := dk_seg dksX3_count_6 23 rfl rfl
theorem dX3_count_0 : decode cX3_count 0 = .ok (.iload_n 1, 1) := dk_27 (dk_at dksX3_count_0 0 rfl rfl)
theorem dX3_count_1 : decode cX3_count 1 = .ok (.tableswitch 193 0 14 #[75, 82, 87, 99, 104, 111, 127, 134, 140, 153, 163, 169, 176, 183, 188], 75) := by decide +kernel
theorem dX3_count_76 : decode cX3_count 76 = .ok (.aload_n 0, 1) := dk_42 (dk_at dksX3_count_2 0 rfl rfl)
theorem dX3_count_77 : decode cX3_count 77 = .ok (.getfield 7, 3) := dk_180 0 7 (dk_at dksX3_count_2 1 rfl rfl)
theorem dX3_count_80 : decode cX3_count 80 = .ok (.iconst 0, 1) := dk_3 (dk_at dksX3_count_2 4 rfl rfl)
theorem dX3_count_81 : decode cX3_count 81 = .ok (.iaload, 1) := dk_46 (dk_at dksX3_count_2 5 rfl rfl)
theorem dX3_count_82 : decode cX3_count 82 = .ok (.ireturn, 1) := dk_172 (dk_at dksX3_count_2 6 rfl rfl)
theorem dX3_count_83 : decode cX3_count 83 = .ok (.aload_n 0, 1) := dk_42 (dk_at dksX3_count_2 7 rfl rfl)
theorem dX3_count_84 : decode cX3_count 84 = .ok (.invokevirtual 151, 3) := dk_182 0 151 (dk_at dksX3_count_2 8 rfl rfl)
theorem dX3_count_87 : decode cX3_count 87 = .ok (.ireturn, 1) := dk_172 (dk_at dksX3_count_2 11 rfl rfl)
theorem dX3_count_88 : decode cX3_count 88 = .ok (.aload_n 0, 1) := dk_42 (dk_at dksX3_count_2 12 rfl rfl)
theorem dX3_count_89 : decode cX3_count 89 = .ok (.getfield 7, 3) := dk_180 0 7 (dk_at dksX3_count_2 13 rfl rfl)
theorem dX3_count_92 : decode cX3_count 92 = .ok (.iconst 0, 1) := dk_3 (dk_at dksX3_count_2 16 rfl rfl)
theorem dX3_count_93 : decode cX3_count 93 = .ok (.iaload, 1) := dk_46 (dk_at dksX3_count_2 17 rfl rfl)
theorem dX3_count_94 : decode cX3_count 94 = .ok (.aload_n 0, 1) := dk_42 (dk_at dksX3_count_2 18 rfl rfl)
theorem dX3_count_95 : decode cX3_count 95 = .ok (.invokevirtual 151, 3) := dk_182 0 151 (dk_at dksX3_count_2 19 rfl rfl)
theorem dX3_count_98 : decode cX3_count 98 = .ok (.isub, 1) := dk_100 (dk_at dksX3_count_2 22 rfl rfl)
theorem dX3_count_99 : decode cX3_count 99 = .ok (.ireturn, 1) := dk_172 (dk_at dksX3_count_2 23 rfl rfl)
theorem dX3_count_100 : decode cX3_count 100 = .ok (.aload_n 0, 1) := dk_42 (dk_at dksX3_count_3 0 rfl rfl)
theorem dX3_count_101 : decode cX3_count 101 = .ok (.invokevirtual 154, 3) := dk_182 0 154 (dk_at dksX3_count_3 1 rfl rfl)
theorem dX3_count_104 : decode cX3_count 104 = .ok (.ireturn, 1) := dk_172 (dk_at dksX3_count_3 4 rfl rfl)
theorem dX3_count_105 : decode cX3_count 105 = .ok (.aload_n 0, 1) := dk_42 (dk_at dksX3_count_3 5 rfl rfl)
theorem dX3_count_106 : decode cX3_count 106 = .ok (.getfield 7, 3) := dk_180 0 7 (dk_at dksX3_count_3 6 rfl rfl)
theorem dX3_count_109 : decode cX3_count 109 = .ok (.iconst 1, 1) := dk_4 (dk_at dksX3_count_3 9 rfl rfl)
theorem dX3_count_110 : decode cX3_count 110 = .ok (.iaload, 1) := dk_46 (dk_at dksX3_count_3 10 rfl rfl)
theorem dX3_count_111 : decode cX3_count 111 = .ok (.ireturn, 1) := dk_172 (dk_at dksX3_count_3 11 rfl rfl)
theorem dX3_count_112 : decode cX3_count 112 = .ok (.iconst 4, 1) := dk_7 (dk_at dksX3_count_3 12 rfl rfl)
theorem dX3_count_113 : decode cX3_count 113 = .ok (.aload_n 0, 1) := dk_42 (dk_at dksX3_count_3 13 rfl rfl)
theorem dX3_count_114 : decode cX3_count 114 = .ok (.getfield 7, 3) := dk_180 0 7 (dk_at dksX3_count_3 14 rfl rfl)
theorem dX3_count_117 : decode cX3_count 117 = .ok (.iconst 1, 1) := dk_4 (dk_at dksX3_count_3 17 rfl rfl)
theorem dX3_count_118 : decode cX3_count 118 = .ok (.iaload, 1) := dk_46 (dk_at dksX3_count_3 18 rfl rfl)
theorem dX3_count_119 : decode cX3_count 119 = .ok (.imul, 1) := dk_104 (dk_at dksX3_count_3 19 rfl rfl)
theorem dX3_count_120 : decode cX3_count 120 = .ok (.aload_n 0, 1) := dk_42 (dk_at dksX3_count_3 20 rfl rfl)
theorem dX3_count_121 : decode cX3_count 121 = .ok (.getfield 7, 3) := dk_180 0 7 (dk_at dksX3_count_3 21 rfl rfl)
theorem dX3_count_124 : decode cX3_count 124 = .ok (.iconst 0, 1) := dk_3 (dk_at dksX3_count_4 0 rfl rfl)
theorem dX3_count_125 : decode cX3_count 125 = .ok (.iaload, 1) := dk_46 (dk_at dksX3_count_4 1 rfl rfl)
theorem dX3_count_126 : decode cX3_count 126 = .ok (.isub, 1) := dk_100 (dk_at dksX3_count_4 2 rfl rfl)
theorem dX3_count_127 : decode cX3_count 127 = .ok (.ireturn, 1) := dk_172 (dk_at dksX3_count_4 3 rfl rfl)
theorem dX3_count_128 : decode cX3_count 128 = .ok (.aload_n 0, 1) := dk_42 (dk_at dksX3_count_4 4 rfl rfl)
theorem dX3_count_129 : decode cX3_count 129 = .ok (.getfield 7, 3) := dk_180 0 7 (dk_at dksX3_count_4 5 rfl rfl)
theorem dX3_count_132 : decode cX3_count 132 = .ok (.iconst 2, 1) := dk_5 (dk_at dksX3_count_4 8 rfl rfl)
theorem dX3_count_133 : decode cX3_count 133 = .ok (.iaload, 1) := dk_46 (dk_at dksX3_count_4 9 rfl rfl)
theorem dX3_count_134 : decode cX3_count 134 = .ok (.ireturn, 1) := dk_172 (dk_at dksX3_count_4 10 rfl rfl)
theorem dX3_count_135 : decode cX3_count 135 = .ok (.aload_n 0, 1) := dk_42 (dk_at dksX3_count_4 11 rfl rfl)
theorem dX3_count_136 : decode cX3_count 136 = .ok (.iconst 1, 1) := dk_4 (dk_at dksX3_count_4 12 rfl rfl)
theorem dX3_count_137 : decode cX3_count 137 = .ok (.invokevirtual 127, 3) := dk_182 0 127 (dk_at dksX3_count_4 13 rfl rfl)
theorem dX3_count_140 : decode cX3_count 140 = .ok (.ireturn, 1) := dk_172 (dk_at dksX3_count_4 16 rfl rfl)
theorem dX3_count_141 : decode cX3_count 141 = .ok (.aload_n 0, 1) := dk_42 (dk_at dksX3_count_4 17 rfl rfl)
theorem dX3_count_142 : decode cX3_count 142 = .ok (.getfield 7, 3) := dk_180 0 7 (dk_at dksX3_count_4 18 rfl rfl)
theorem dX3_count_145 : decode cX3_count 145 = .ok (.iconst 2, 1) := dk_5 (dk_at dksX3_count_4 21 rfl rfl)
theorem dX3_count_146 : decode cX3_count 146 = .ok (.iaload, 1) := dk_46 (dk_at dksX3_count_4 22 rfl rfl)
theorem dX3_count_147 : decode cX3_count 147 = .ok (.aload_n 0, 1) := dk_42 (dk_at dksX3_count_4 23 rfl rfl)
theorem dX3_count_148 : decode cX3_count 148 = .ok (.iconst 1, 1) := dk_4 (dk_at dksX3_count_5 0 rfl rfl)
theorem dX3_count_149 : decode cX3_count 149 = .ok (.invokevirtual 127, 3) := dk_182 0 127 (dk_at dksX3_count_5 1 rfl rfl)
theorem dX3_count_152 : decode cX3_count 152 = .ok (.isub, 1) := dk_100 (dk_at dksX3_count_5 4 rfl rfl)
theorem dX3_count_153 : decode cX3_count 153 = .ok (.ireturn, 1) := dk_172 (dk_at dksX3_count_5 5 rfl rfl)
theorem dX3_count_154 : decode cX3_count 154 = .ok (.bipush 100, 2) := dk_16 100 (dk_at dksX3_count_5 6 rfl rfl)
theorem dX3_count_156 : decode cX3_count 156 = .ok (.aload_n 0, 1) := dk_42 (dk_at dksX3_count_5 8 rfl rfl)
theorem dX3_count_157 : decode cX3_count 157 = .ok (.getfield 7, 3) := dk_180 0 7 (dk_at dksX3_count_5 9 rfl rfl)
theorem dX3_count_160 : decode cX3_count 160 = .ok (.iconst 2, 1) := dk_5 (dk_at dksX3_count_5 12 rfl rfl)
theorem dX3_count_161 : decode cX3_count 161 = .ok (.iaload, 1) := dk_46 (dk_at dksX3_count_5 13 rfl rfl)
theorem dX3_count_162 : decode cX3_count 162 = .ok (.isub, 1) := dk_100 (dk_at dksX3_count_5 14 rfl rfl)
theorem dX3_count_163 : decode cX3_count 163 = .ok (.ireturn, 1) := dk_172 (dk_at dksX3_count_5 15 rfl rfl)
theorem dX3_count_164 : decode cX3_count 164 = .ok (.aload_n 0, 1) := dk_42 (dk_at dksX3_count_5 16 rfl rfl)
theorem dX3_count_165 : decode cX3_count 165 = .ok (.iconst 0, 1) := dk_3 (dk_at dksX3_count_5 17 rfl rfl)
theorem dX3_count_166 : decode cX3_count 166 = .ok (.invokevirtual 127, 3) := dk_182 0 127 (dk_at dksX3_count_5 18 rfl rfl)
theorem dX3_count_169 : decode cX3_count 169 = .ok (.ireturn, 1) := dk_172 (dk_at dksX3_count_5 21 rfl rfl)
theorem dX3_count_170 : decode cX3_count 170 = .ok (.aload_n 0, 1) := dk_42 (dk_at dksX3_count_5 22 rfl rfl)
theorem dX3_count_171 : decode cX3_count 171 = .ok (.getfield 7, 3) := dk_180 0 7 (dk_at dksX3_count_6 0 rfl rfl)
theorem dX3_count_174 : decode cX3_count 174 = .ok (.iconst 3, 1) := dk_6 (dk_at dksX3_count_6 3 rfl rfl)
theorem dX3_count_175 : decode cX3_count 175 = .ok (.iaload, 1) := dk_46 (dk_at dksX3_count_6 4 rfl rfl)
theorem dX3_count_176 : decode cX3_count 176 = .ok (.ireturn, 1) := dk_172 (dk_at dksX3_count_6 5 rfl rfl)
theorem dX3_count_177 : decode cX3_count 177 = .ok (.aload_n 0, 1) := dk_42 (dk_at dksX3_count_6 6 rfl rfl)
theorem dX3_count_178 : decode cX3_count 178 = .ok (.getfield 7, 3) := dk_180 0 7 (dk_at dksX3_count_6 7 rfl rfl)
theorem dX3_count_181 : decode cX3_count 181 = .ok (.iconst 4, 1) := dk_7 (dk_at dksX3_count_6 10 rfl rfl)
theorem dX3_count_182 : decode cX3_count 182 = .ok (.iaload, 1) := dk_46 (dk_at dksX3_count_6 11 rfl rfl)
theorem dX3_count_183 : decode cX3_count 183 = .ok (.ireturn, 1) := dk_172 (dk_at dksX3_count_6 12 rfl rfl)
theorem dX3_count_184 : decode cX3_count 184 = .ok (.aload_n 0, 1) := dk_42 (dk_at dksX3_count_6 13 rfl rfl)
theorem dX3_count_185 : decode cX3_count 185 = .ok (.getfield 28, 3) := dk_180 0 28 (dk_at dksX3_count_6 14 rfl rfl)
theorem dX3_count_188 : decode cX3_count 188 = .ok (.ireturn, 1) := dk_172 (dk_at dksX3_count_6 17 rfl rfl)
theorem dX3_count_189 : decode cX3_count 189 = .ok (.aload_n 0, 1) := dk_42 (dk_at dksX3_count_6 18 rfl rfl)
theorem dX3_count_190 : decode cX3_count 190 = .ok (.getfield 95, 3) := dk_180 0 95 (dk_at dksX3_count_6 19 rfl rfl)
theorem dX3_count_193 : decode cX3_count 193 = .ok (.ireturn, 1) := dk_172 (dk_at dksX3_count_6 22 rfl rfl)
theorem dX3_count_194 : decode cX3_count 194 = .ok (.bipush (-2), 2) := dk_16 254 (dk_at dksX3_count_7 0 rfl rfl)
theorem dX3_count_196 : decode cX3_count 196 = .ok (.ireturn, 1) := dk_172 (dk_at dksX3_count_7 2 rfl rfl)
def dkwX3_members_1 : List UInt8 := [60, 132, 2, 1, 167, 255, 232, 27, 172]
abbrev dktX3_members_1 : List UInt8 := dkwX3_members_1 ++ []
def dkwX3_members_0 : List UInt8 := [3, 60, 3, 61, 28, 42, 180, 0, 7, 3, 46, 162, 0, 20, 27, 4, 42, 28, 4, 182, 0, 38, 100, 96]
abbrev dktX3_members_0 : List UInt8 := dkwX3_members_0 ++ dktX3_members_1
theorem dksX3_members_0 : cX3_members.data.toList.drop 0 = dktX3_members_0 := by decide +kernel
theorem dksX3_members_1 : cX3_members.data.toList.drop 24 = dktX3_members_1 := dk_seg dksX3_members_0 24 rfl rfl
theorem dX3_members_0 : decode cX3_members 0 = .ok (.iconst 0, 1) := dk_3 (dk_at dksX3_members_0 0 rfl rfl)
theorem dX3_members_1 : decode cX3_members 1 = .ok (.istore_n 1, 1) := dk_60 (dk_at dksX3_members_0 1 rfl rfl)
theorem dX3_members_2 : decode cX3_members 2 = .ok (.iconst 0, 1) := dk_3 (dk_at dksX3_members_0 2 rfl rfl)
theorem dX3_members_3 : decode cX3_members 3 = .ok (.istore_n 2, 1) := dk_61 (dk_at dksX3_members_0 3 rfl rfl)
theorem dX3_members_4 : decode cX3_members 4 = .ok (.iload_n 2, 1) := dk_28 (dk_at dksX3_members_0 4 rfl rfl)
theorem dX3_members_5 : decode cX3_members 5 = .ok (.aload_n 0, 1) := dk_42 (dk_at dksX3_members_0 5 rfl rfl)
theorem dX3_members_6 : decode cX3_members 6 = .ok (.getfield 7, 3) := dk_180 0 7 (dk_at dksX3_members_0 6 rfl rfl)
theorem dX3_members_9 : decode cX3_members 9 = .ok (.iconst 0, 1) := dk_3 (dk_at dksX3_members_0 9 rfl rfl)
theorem dX3_members_10 : decode cX3_members 10 = .ok (.iaload, 1) := dk_46 (dk_at dksX3_members_0 10 rfl rfl)
theorem dX3_members_11 : decode cX3_members 11 = .ok (.if_icmp .ge 20, 3) := dk_162 0 20 (dk_at dksX3_members_0 11 rfl rfl)
theorem dX3_members_14 : decode cX3_members 14 = .ok (.iload_n 1, 1) := dk_27 (dk_at dksX3_members_0 14 rfl rfl)
theorem dX3_members_15 : decode cX3_members 15 = .ok (.iconst 1, 1) := dk_4 (dk_at dksX3_members_0 15 rfl rfl)
theorem dX3_members_16 : decode cX3_members 16 = .ok (.aload_n 0, 1) := dk_42 (dk_at dksX3_members_0 16 rfl rfl)
theorem dX3_members_17 : decode cX3_members 17 = .ok (.iload_n 2, 1) := dk_28 (dk_at dksX3_members_0 17 rfl rfl)
theorem dX3_members_18 : decode cX3_members 18 = .ok (.iconst 1, 1) := dk_4 (dk_at dksX3_members_0 18 rfl rfl)
theorem dX3_members_19 : decode cX3_members 19 = .ok (.invokevirtual 38, 3) := dk_182 0 38 (dk_at dksX3_members_0 19 rfl rfl)
theorem dX3_members_22 : decode cX3_members 22 = .ok (.isub, 1) := dk_100 (dk_at dksX3_members_0 22 rfl rfl)
theorem dX3_members_23 : decode cX3_members 23 = .ok (.iadd, 1) := dk_96 (dk_at dksX3_members_0 23 rfl rfl)
theorem dX3_members_24 : decode cX3_members 24 = .ok (.istore_n 1, 1) := dk_60 (dk_at dksX3_members_1 0 rfl rfl)
theorem dX3_members_25 : decode cX3_members 25 = .ok (.iinc 2 1, 3) := dk_132 2 1 (dk_at dksX3_members_1 1 rfl rfl)
theorem dX3_members_28 : decode cX3_members 28 = .ok (.goto (-24), 3) := dk_167 255 232 (dk_at dksX3_members_1 4 rfl rfl)
theorem dX3_members_31 : decode cX3_members 31 = .ok (.iload_n 1, 1) := dk_27 (dk_at dksX3_members_1 7 rfl rfl)
theorem dX3_members_32 : decode cX3_members 32 = .ok (.ireturn, 1) := dk_172 (dk_at dksX3_members_1 8 rfl rfl)
def dkwX3_lostOnes_1 : List UInt8 := [167, 0, 4, 3, 96, 60, 132, 2, 1, 167, 255, 227, 27, 172]
abbrev dktX3_lostOnes_1 : List UInt8 := dkwX3_lostOnes_1 ++ []
def dkwX3_lostOnes_0 : List UInt8 := [3, 60, 3, 61, 28, 42, 180, 0, 7, 3, 46, 162, 0, 25, 27, 42, 28, 182, 0, 142, 153, 0, 7, 4]
abbrev dktX3_lostOnes_0 : List UInt8 := dkwX3_lostOnes_0 ++ dktX3_lostOnes_1
theorem dksX3_lostOnes_0 : cX3_lostOnes.data.toList.drop 0 = dktX3_lostOnes_0 := by decide +kernel
theorem dksX3_lostOnes_1 : cX3_lostOnes.data.toList.drop 24 = dktX3_lostOnes_1 := dk_seg dksX3_lostOnes_0 24 rfl rfl
theorem dX3_lostOnes_0 : decode cX3_lostOnes 0 = .ok (.iconst 0, 1) := dk_3 (dk_at dksX3_lostOnes_0 0 rfl rfl)
theorem dX3_lostOnes_1 : decode cX3_lostOnes 1 = .ok (.istore_n 1, 1) := dk_60 (dk_at dksX3_lostOnes_0 1 rfl rfl)
theorem dX3_lostOnes_2 : decode cX3_lostOnes 2 = .ok (.iconst 0, 1) := dk_3 (dk_at dksX3_lostOnes_0 2 rfl rfl)
theorem dX3_lostOnes_3 : decode cX3_lostOnes 3 = .ok (.istore_n 2, 1) := dk_61 (dk_at dksX3_lostOnes_0 3 rfl rfl)
theorem dX3_lostOnes_4 : decode cX3_lostOnes 4 = .ok (.iload_n 2, 1) := dk_28 (dk_at dksX3_lostOnes_0 4 rfl rfl)
theorem dX3_lostOnes_5 : decode cX3_lostOnes 5 = .ok (.aload_n 0, 1) := dk_42 (dk_at dksX3_lostOnes_0 5 rfl rfl)
theorem dX3_lostOnes_6 : decode cX3_lostOnes 6 = .ok (.getfield 7, 3) := dk_180 0 7 (dk_at dksX3_lostOnes_0 6 rfl rfl)
theorem dX3_lostOnes_9 : decode cX3_lostOnes 9 = .ok (.iconst 0, 1) := dk_3 (dk_at dksX3_lostOnes_0 9 rfl rfl)
theorem dX3_lostOnes_10 : decode cX3_lostOnes 10 = .ok (.iaload, 1) := dk_46 (dk_at dksX3_lostOnes_0 10 rfl rfl)
theorem dX3_lostOnes_11 : decode cX3_lostOnes 11 = .ok (.if_icmp .ge 25, 3) := dk_162 0 25 (dk_at dksX3_lostOnes_0 11 rfl rfl)
theorem dX3_lostOnes_14 : decode cX3_lostOnes 14 = .ok (.iload_n 1, 1) := dk_27 (dk_at dksX3_lostOnes_0 14 rfl rfl)
theorem dX3_lostOnes_15 : decode cX3_lostOnes 15 = .ok (.aload_n 0, 1) := dk_42 (dk_at dksX3_lostOnes_0 15 rfl rfl)
theorem dX3_lostOnes_16 : decode cX3_lostOnes 16 = .ok (.iload_n 2, 1) := dk_28 (dk_at dksX3_lostOnes_0 16 rfl rfl)
theorem dX3_lostOnes_17 : decode cX3_lostOnes 17 = .ok (.invokevirtual 142, 3) := dk_182 0 142 (dk_at dksX3_lostOnes_0 17 rfl rfl)
theorem dX3_lostOnes_20 : decode cX3_lostOnes 20 = .ok (.ifCond .eq 7, 3) := dk_153 0 7 (dk_at dksX3_lostOnes_0 20 rfl rfl)
theorem dX3_lostOnes_23 : decode cX3_lostOnes 23 = .ok (.iconst 1, 1) := dk_4 (dk_at dksX3_lostOnes_0 23 rfl rfl)
theorem dX3_lostOnes_24 : decode cX3_lostOnes 24 = .ok (.goto 4, 3) := dk_167 0 4 (dk_at dksX3_lostOnes_1 0 rfl rfl)
theorem dX3_lostOnes_27 : decode cX3_lostOnes 27 = .ok (.iconst 0, 1) := dk_3 (dk_at dksX3_lostOnes_1 3 rfl rfl)
theorem dX3_lostOnes_28 : decode cX3_lostOnes 28 = .ok (.iadd, 1) := dk_96 (dk_at dksX3_lostOnes_1 4 rfl rfl)
theorem dX3_lostOnes_29 : decode cX3_lostOnes 29 = .ok (.istore_n 1, 1) := dk_60 (dk_at dksX3_lostOnes_1 5 rfl rfl)
theorem dX3_lostOnes_30 : decode cX3_lostOnes 30 = .ok (.iinc 2 1, 3) := dk_132 2 1 (dk_at dksX3_lostOnes_1 6 rfl rfl)
theorem dX3_lostOnes_33 : decode cX3_lostOnes 33 = .ok (.goto (-29), 3) := dk_167 255 227 (dk_at dksX3_lostOnes_1 9 rfl rfl)
theorem dX3_lostOnes_36 : decode cX3_lostOnes 36 = .ok (.iload_n 1, 1) := dk_27 (dk_at dksX3_lostOnes_1 12 rfl rfl)
theorem dX3_lostOnes_37 : decode cX3_lostOnes 37 = .ok (.ireturn, 1) := dk_172 (dk_at dksX3_lostOnes_1 13 rfl rfl)
