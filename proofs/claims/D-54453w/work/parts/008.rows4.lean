set_option maxRecDepth 100000
def dkwX1_init_1 : List UInt8 := [181, 0, 21, 177]
abbrev dktX1_init_1 : List UInt8 := dkwX1_init_1 ++ []
def dkwX1_init_0 : List UInt8 := [42, 183, 0, 3, 42, 187, 0, 9, 89, 183, 0, 11, 181, 0, 12, 42, 187, 0, 18, 89, 183, 0, 20]
abbrev dktX1_init_0 : List UInt8 := dkwX1_init_0 ++ dktX1_init_1
theorem dksX1_init_0 : cX1_init.data.toList.drop 0 = dktX1_init_0 := by decide +kernel
theorem dksX1_init_1 : cX1_init.data.toList.drop 23 = dktX1_init_1 := dk_seg dksX1_init_0 23 rfl rfl
theorem dX1_init_0 : decode cX1_init 0 = .ok (.aload_n 0, 1) := dk_42 (dk_at dksX1_init_0 0 rfl rfl)
theorem dX1_init_1 : decode cX1_init 1 = .ok (.invokespecial 3, 3) := dk_183 0 3 (dk_at dksX1_init_0 1 rfl rfl)
theorem dX1_init_4 : decode cX1_init 4 = .ok (.aload_n 0, 1) := dk_42 (dk_at dksX1_init_0 4 rfl rfl)
theorem dX1_init_5 : decode cX1_init 5 = .ok (.new 9, 3) := dk_187 0 9 (dk_at dksX1_init_0 5 rfl rfl)
theorem dX1_init_8 : decode cX1_init 8 = .ok (.dup, 1) := dk_89 (dk_at dksX1_init_0 8 rfl rfl)
theorem dX1_init_9 : decode cX1_init 9 = .ok (.invokespecial 11, 3) := dk_183 0 11 (dk_at dksX1_init_0 9 rfl rfl)
theorem dX1_init_12 : decode cX1_init 12 = .ok (.putfield 12, 3) := dk_181 0 12 (dk_at dksX1_init_0 12 rfl rfl)
theorem dX1_init_15 : decode cX1_init 15 = .ok (.aload_n 0, 1) := dk_42 (dk_at dksX1_init_0 15 rfl rfl)
theorem dX1_init_16 : decode cX1_init 16 = .ok (.new 18, 3) := dk_187 0 18 (dk_at dksX1_init_0 16 rfl rfl)
theorem dX1_init_19 : decode cX1_init 19 = .ok (.dup, 1) := dk_89 (dk_at dksX1_init_0 19 rfl rfl)
theorem dX1_init_20 : decode cX1_init 20 = .ok (.invokespecial 20, 3) := dk_183 0 20 (dk_at dksX1_init_0 20 rfl rfl)
theorem dX1_init_23 : decode cX1_init 23 = .ok (.putfield 21, 3) := dk_181 0 21 (dk_at dksX1_init_1 0 rfl rfl)
theorem dX1_init_26 : decode cX1_init 26 = .ok (.return_, 1) := dk_177 (dk_at dksX1_init_1 3 rfl rfl)
def dkwX1_copy_3 : List UInt8 := [181, 0, 55, 43, 42, 180, 0, 59, 181, 0, 59, 43, 176]
abbrev dktX1_copy_3 : List UInt8 := dkwX1_copy_3 ++ []
def dkwX1_copy_2 : List UInt8 := [78, 43, 180, 0, 21, 45, 185, 0, 48, 2, 0, 87, 167, 255, 226, 43, 182, 0, 52, 43, 42, 180, 0, 55]
abbrev dktX1_copy_2 : List UInt8 := dkwX1_copy_2 ++ dktX1_copy_3
def dkwX1_copy_1 : List UInt8 := [185, 0, 30, 1, 0, 77, 44, 185, 0, 36, 1, 0, 153, 0, 27, 44, 185, 0, 42, 1, 0, 192, 0, 46]
abbrev dktX1_copy_1 : List UInt8 := dkwX1_copy_1 ++ dktX1_copy_2
def dkwX1_copy_0 : List UInt8 := [187, 0, 13, 89, 183, 0, 25, 76, 43, 42, 180, 0, 12, 182, 0, 26, 181, 0, 12, 42, 180, 0, 21]
abbrev dktX1_copy_0 : List UInt8 := dkwX1_copy_0 ++ dktX1_copy_1
theorem dksX1_copy_0 : cX1_copy.data.toList.drop 0 = dktX1_copy_0 := by decide +kernel
theorem dksX1_copy_1 : cX1_copy.data.toList.drop 23 = dktX1_copy_1 := dk_seg dksX1_copy_0 23 rfl rfl
theorem dksX1_copy_2 : cX1_copy.data.toList.drop 47 = dktX1_copy_2 := dk_seg dksX1_copy_1 24 rfl rfl
theorem dksX1_copy_3 : cX1_copy.data.toList.drop 71 = dktX1_copy_3 := dk_seg dksX1_copy_2 24 rfl rfl
theorem dX1_copy_0 : decode cX1_copy 0 = .ok (.new 13, 3) := dk_187 0 13 (dk_at dksX1_copy_0 0 rfl rfl)
theorem dX1_copy_3 : decode cX1_copy 3 = .ok (.dup, 1) := dk_89 (dk_at dksX1_copy_0 3 rfl rfl)
theorem dX1_copy_4 : decode cX1_copy 4 = .ok (.invokespecial 25, 3) := dk_183 0 25 (dk_at dksX1_copy_0 4 rfl rfl)
theorem dX1_copy_7 : decode cX1_copy 7 = .ok (.astore_n 1, 1) := dk_76 (dk_at dksX1_copy_0 7 rfl rfl)
theorem dX1_copy_8 : decode cX1_copy 8 = .ok (.aload_n 1, 1) := dk_43 (dk_at dksX1_copy_0 8 rfl rfl)
theorem dX1_copy_9 : decode cX1_copy 9 = .ok (.aload_n 0, 1) := dk_42 (dk_at dksX1_copy_0 9 rfl rfl)
theorem dX1_copy_10 : decode cX1_copy 10 = .ok (.getfield 12, 3) := dk_180 0 12 (dk_at dksX1_copy_0 10 rfl rfl)
theorem dX1_copy_13 : decode cX1_copy 13 = .ok (.invokevirtual 26, 3) := dk_182 0 26 (dk_at dksX1_copy_0 13 rfl rfl)
theorem dX1_copy_16 : decode cX1_copy 16 = .ok (.putfield 12, 3) := dk_181 0 12 (dk_at dksX1_copy_0 16 rfl rfl)
theorem dX1_copy_19 : decode cX1_copy 19 = .ok (.aload_n 0, 1) := dk_42 (dk_at dksX1_copy_0 19 rfl rfl)
theorem dX1_copy_20 : decode cX1_copy 20 = .ok (.getfield 21, 3) := dk_180 0 21 (dk_at dksX1_copy_0 20 rfl rfl)
theorem dX1_copy_23 : decode cX1_copy 23 = .ok (.invokeinterface 30 1, 5) := by decide +kernel
theorem dX1_copy_28 : decode cX1_copy 28 = .ok (.astore_n 2, 1) := dk_77 (dk_at dksX1_copy_1 5 rfl rfl)
theorem dX1_copy_29 : decode cX1_copy 29 = .ok (.aload_n 2, 1) := dk_44 (dk_at dksX1_copy_1 6 rfl rfl)
theorem dX1_copy_30 : decode cX1_copy 30 = .ok (.invokeinterface 36 1, 5) := by decide +kernel
theorem dX1_copy_35 : decode cX1_copy 35 = .ok (.ifCond .eq 27, 3) := dk_153 0 27 (dk_at dksX1_copy_1 12 rfl rfl)
theorem dX1_copy_38 : decode cX1_copy 38 = .ok (.aload_n 2, 1) := dk_44 (dk_at dksX1_copy_1 15 rfl rfl)
theorem dX1_copy_39 : decode cX1_copy 39 = .ok (.invokeinterface 42 1, 5) := by decide +kernel
theorem dX1_copy_44 : decode cX1_copy 44 = .ok (.checkcast 46, 3) := dk_192 0 46 (dk_at dksX1_copy_1 21 rfl rfl)
theorem dX1_copy_47 : decode cX1_copy 47 = .ok (.astore_n 3, 1) := dk_78 (dk_at dksX1_copy_2 0 rfl rfl)
theorem dX1_copy_48 : decode cX1_copy 48 = .ok (.aload_n 1, 1) := dk_43 (dk_at dksX1_copy_2 1 rfl rfl)
theorem dX1_copy_49 : decode cX1_copy 49 = .ok (.getfield 21, 3) := dk_180 0 21 (dk_at dksX1_copy_2 2 rfl rfl)
theorem dX1_copy_52 : decode cX1_copy 52 = .ok (.aload_n 3, 1) := dk_45 (dk_at dksX1_copy_2 5 rfl rfl)
theorem dX1_copy_53 : decode cX1_copy 53 = .ok (.invokeinterface 48 2, 5) := by decide +kernel
theorem dX1_copy_58 : decode cX1_copy 58 = .ok (.pop, 1) := dk_87 (dk_at dksX1_copy_2 11 rfl rfl)
theorem dX1_copy_59 : decode cX1_copy 59 = .ok (.goto (-30), 3) := dk_167 255 226 (dk_at dksX1_copy_2 12 rfl rfl)
theorem dX1_copy_62 : decode cX1_copy 62 = .ok (.aload_n 1, 1) := dk_43 (dk_at dksX1_copy_2 15 rfl rfl)
theorem dX1_copy_63 : decode cX1_copy 63 = .ok (.invokevirtual 52, 3) := dk_182 0 52 (dk_at dksX1_copy_2 16 rfl rfl)
theorem dX1_copy_66 : decode cX1_copy 66 = .ok (.aload_n 1, 1) := dk_43 (dk_at dksX1_copy_2 19 rfl rfl)
theorem dX1_copy_67 : decode cX1_copy 67 = .ok (.aload_n 0, 1) := dk_42 (dk_at dksX1_copy_2 20 rfl rfl)
theorem dX1_copy_68 : decode cX1_copy 68 = .ok (.getfield 55, 3) := dk_180 0 55 (dk_at dksX1_copy_2 21 rfl rfl)
theorem dX1_copy_71 : decode cX1_copy 71 = .ok (.putfield 55, 3) := dk_181 0 55 (dk_at dksX1_copy_3 0 rfl rfl)
theorem dX1_copy_74 : decode cX1_copy 74 = .ok (.aload_n 1, 1) := dk_43 (dk_at dksX1_copy_3 3 rfl rfl)
theorem dX1_copy_75 : decode cX1_copy 75 = .ok (.aload_n 0, 1) := dk_42 (dk_at dksX1_copy_3 4 rfl rfl)
theorem dX1_copy_76 : decode cX1_copy 76 = .ok (.getfield 59, 3) := dk_180 0 59 (dk_at dksX1_copy_3 5 rfl rfl)
theorem dX1_copy_79 : decode cX1_copy 79 = .ok (.putfield 59, 3) := dk_181 0 59 (dk_at dksX1_copy_3 8 rfl rfl)
theorem dX1_copy_82 : decode cX1_copy 82 = .ok (.aload_n 1, 1) := dk_43 (dk_at dksX1_copy_3 11 rfl rfl)
theorem dX1_copy_83 : decode cX1_copy 83 = .ok (.areturn, 1) := dk_176 (dk_at dksX1_copy_3 12 rfl rfl)
def dkwX1_detach_3 : List UInt8 := [185, 0, 85, 3, 0, 132, 1, 1, 167, 255, 185, 177]
abbrev dktX1_detach_3 : List UInt8 := dkwX1_detach_3 ++ []
def dkwX1_detach_2 : List UInt8 := [185, 0, 75, 2, 0, 87, 42, 180, 0, 12, 180, 0, 62, 27, 44, 44, 180, 0, 78, 182, 0, 81]
abbrev dktX1_detach_2 : List UInt8 := dkwX1_detach_2 ++ dktX1_detach_3
def dkwX1_detach_1 : List UInt8 := [180, 0, 62, 27, 185, 0, 69, 2, 0, 192, 0, 73, 77, 42, 180, 0, 12, 180, 0, 62, 27]
abbrev dktX1_detach_1 : List UInt8 := dkwX1_detach_1 ++ dktX1_detach_2
def dkwX1_detach_0 : List UInt8 := [3, 60, 27, 42, 180, 0, 12, 180, 0, 62, 185, 0, 65, 1, 0, 162, 0, 61, 42, 180, 0, 12]
abbrev dktX1_detach_0 : List UInt8 := dkwX1_detach_0 ++ dktX1_detach_1
theorem dksX1_detach_0 : cX1_detach.data.toList.drop 0 = dktX1_detach_0 := by decide +kernel
theorem dksX1_detach_1 : cX1_detach.data.toList.drop 22 = dktX1_detach_1 := dk_seg dksX1_detach_0 22 rfl rfl
theorem dksX1_detach_2 : cX1_detach.data.toList.drop 43 = dktX1_detach_2 := dk_seg dksX1_detach_1 21 rfl rfl
theorem dksX1_detach_3 : cX1_detach.data.toList.drop 65 = dktX1_detach_3 := dk_seg dksX1_detach_2 22 rfl rfl
theorem dX1_detach_0 : decode cX1_detach 0 = .ok (.iconst 0, 1) := dk_3 (dk_at dksX1_detach_0 0 rfl rfl)
theorem dX1_detach_1 : decode cX1_detach 1 = .ok (.istore_n 1, 1) := dk_60 (dk_at dksX1_detach_0 1 rfl rfl)
theorem dX1_detach_2 : decode cX1_detach 2 = .ok (.iload_n 1, 1) := dk_27 (dk_at dksX1_detach_0 2 rfl rfl)
theorem dX1_detach_3 : decode cX1_detach 3 = .ok (.aload_n 0, 1) := dk_42 (dk_at dksX1_detach_0 3 rfl rfl)
theorem dX1_detach_4 : decode cX1_detach 4 = .ok (.getfield 12, 3) := dk_180 0 12 (dk_at dksX1_detach_0 4 rfl rfl)
theorem dX1_detach_7 : decode cX1_detach 7 = .ok (.getfield 62, 3) := dk_180 0 62 (dk_at dksX1_detach_0 7 rfl rfl)
theorem dX1_detach_10 : decode cX1_detach 10 = .ok (.invokeinterface 65 1, 5) := by decide +kernel
theorem dX1_detach_15 : decode cX1_detach 15 = .ok (.if_icmp .ge 61, 3) := dk_162 0 61 (dk_at dksX1_detach_0 15 rfl rfl)
theorem dX1_detach_18 : decode cX1_detach 18 = .ok (.aload_n 0, 1) := dk_42 (dk_at dksX1_detach_0 18 rfl rfl)
theorem dX1_detach_19 : decode cX1_detach 19 = .ok (.getfield 12, 3) := dk_180 0 12 (dk_at dksX1_detach_0 19 rfl rfl)
theorem dX1_detach_22 : decode cX1_detach 22 = .ok (.getfield 62, 3) := dk_180 0 62 (dk_at dksX1_detach_1 0 rfl rfl)
theorem dX1_detach_25 : decode cX1_detach 25 = .ok (.iload_n 1, 1) := dk_27 (dk_at dksX1_detach_1 3 rfl rfl)
theorem dX1_detach_26 : decode cX1_detach 26 = .ok (.invokeinterface 69 2, 5) := by decide +kernel
theorem dX1_detach_31 : decode cX1_detach 31 = .ok (.checkcast 73, 3) := dk_192 0 73 (dk_at dksX1_detach_1 9 rfl rfl)
theorem dX1_detach_34 : decode cX1_detach 34 = .ok (.astore_n 2, 1) := dk_77 (dk_at dksX1_detach_1 12 rfl rfl)
theorem dX1_detach_35 : decode cX1_detach 35 = .ok (.aload_n 0, 1) := dk_42 (dk_at dksX1_detach_1 13 rfl rfl)
theorem dX1_detach_36 : decode cX1_detach 36 = .ok (.getfield 12, 3) := dk_180 0 12 (dk_at dksX1_detach_1 14 rfl rfl)
theorem dX1_detach_39 : decode cX1_detach 39 = .ok (.getfield 62, 3) := dk_180 0 62 (dk_at dksX1_detach_1 17 rfl rfl)
theorem dX1_detach_42 : decode cX1_detach 42 = .ok (.iload_n 1, 1) := dk_27 (dk_at dksX1_detach_1 20 rfl rfl)
theorem dX1_detach_43 : decode cX1_detach 43 = .ok (.invokeinterface 75 2, 5) := by decide +kernel
theorem dX1_detach_48 : decode cX1_detach 48 = .ok (.pop, 1) := dk_87 (dk_at dksX1_detach_2 5 rfl rfl)
theorem dX1_detach_49 : decode cX1_detach 49 = .ok (.aload_n 0, 1) := dk_42 (dk_at dksX1_detach_2 6 rfl rfl)
theorem dX1_detach_50 : decode cX1_detach 50 = .ok (.getfield 12, 3) := dk_180 0 12 (dk_at dksX1_detach_2 7 rfl rfl)
theorem dX1_detach_53 : decode cX1_detach 53 = .ok (.getfield 62, 3) := dk_180 0 62 (dk_at dksX1_detach_2 10 rfl rfl)
theorem dX1_detach_56 : decode cX1_detach 56 = .ok (.iload_n 1, 1) := dk_27 (dk_at dksX1_detach_2 13 rfl rfl)
theorem dX1_detach_57 : decode cX1_detach 57 = .ok (.aload_n 2, 1) := dk_44 (dk_at dksX1_detach_2 14 rfl rfl)
theorem dX1_detach_58 : decode cX1_detach 58 = .ok (.aload_n 2, 1) := dk_44 (dk_at dksX1_detach_2 15 rfl rfl)
theorem dX1_detach_59 : decode cX1_detach 59 = .ok (.getfield 78, 3) := dk_180 0 78 (dk_at dksX1_detach_2 16 rfl rfl)
theorem dX1_detach_62 : decode cX1_detach 62 = .ok (.invokevirtual 81, 3) := dk_182 0 81 (dk_at dksX1_detach_2 19 rfl rfl)
theorem dX1_detach_65 : decode cX1_detach 65 = .ok (.invokeinterface 85 3, 5) := by decide +kernel
theorem dX1_detach_70 : decode cX1_detach 70 = .ok (.iinc 1 1, 3) := dk_132 1 1 (dk_at dksX1_detach_3 5 rfl rfl)
theorem dX1_detach_73 : decode cX1_detach 73 = .ok (.goto (-71), 3) := dk_167 255 185 (dk_at dksX1_detach_3 8 rfl rfl)
theorem dX1_detach_76 : decode cX1_detach 76 = .ok (.return_, 1) := dk_177 (dk_at dksX1_detach_3 11 rfl rfl)
def dkwX1_add_3 : List UInt8 := [180, 0, 133, 172]
abbrev dktX1_add_3 : List UInt8 := dkwX1_add_3 ++ []
def dkwX1_add_2 : List UInt8 := [28, 29, 182, 0, 118, 183, 0, 122, 182, 0, 125, 42, 180, 0, 12, 27, 182, 0, 108, 180, 0, 129]
abbrev dktX1_add_2 : List UInt8 := dkwX1_add_2 ++ dktX1_add_3
def dkwX1_add_1 : List UInt8 := [16, 250, 172, 42, 28, 182, 0, 114, 154, 0, 6, 16, 253, 172, 42, 180, 0, 12, 187, 0, 73, 89, 27, 42]
abbrev dktX1_add_1 : List UInt8 := dkwX1_add_1 ++ dktX1_add_2
def dkwX1_add_0 : List UInt8 := [42, 180, 0, 12, 27, 182, 0, 108, 198, 0, 6, 16, 249, 172, 42, 180, 0, 12, 182, 0, 111, 154, 0, 6]
abbrev dktX1_add_0 : List UInt8 := dkwX1_add_0 ++ dktX1_add_1
theorem dksX1_add_0 : cX1_add.data.toList.drop 0 = dktX1_add_0 := by decide +kernel
theorem dksX1_add_1 : cX1_add.data.toList.drop 24 = dktX1_add_1 := dk_seg dksX1_add_0 24 rfl rfl
theorem dksX1_add_2 : cX1_add.data.toList.drop 48 = dktX1_add_2 := dk_seg dksX1_add_1 24 rfl rfl
theorem dksX1_add_3 : cX1_add.data.toList.drop 70 = dktX1_add_3 := dk_seg dksX1_add_2 22 rfl rfl
theorem dX1_add_0 : decode cX1_add 0 = .ok (.aload_n 0, 1) := dk_42 (dk_at dksX1_add_0 0 rfl rfl)
theorem dX1_add_1 : decode cX1_add 1 = .ok (.getfield 12, 3) := dk_180 0 12 (dk_at dksX1_add_0 1 rfl rfl)
theorem dX1_add_4 : decode cX1_add 4 = .ok (.iload_n 1, 1) := dk_27 (dk_at dksX1_add_0 4 rfl rfl)
theorem dX1_add_5 : decode cX1_add 5 = .ok (.invokevirtual 108, 3) := dk_182 0 108 (dk_at dksX1_add_0 5 rfl rfl)
theorem dX1_add_8 : decode cX1_add 8 = .ok (.ifnull 6, 3) := dk_198 0 6 (dk_at dksX1_add_0 8 rfl rfl)
theorem dX1_add_11 : decode cX1_add 11 = .ok (.bipush (-7), 2) := dk_16 249 (dk_at dksX1_add_0 11 rfl rfl)
theorem dX1_add_13 : decode cX1_add 13 = .ok (.ireturn, 1) := dk_172 (dk_at dksX1_add_0 13 rfl rfl)
theorem dX1_add_14 : decode cX1_add 14 = .ok (.aload_n 0, 1) := dk_42 (dk_at dksX1_add_0 14 rfl rfl)
theorem dX1_add_15 : decode cX1_add 15 = .ok (.getfield 12, 3) := dk_180 0 12 (dk_at dksX1_add_0 15 rfl rfl)
theorem dX1_add_18 : decode cX1_add 18 = .ok (.invokevirtual 111, 3) := dk_182 0 111 (dk_at dksX1_add_0 18 rfl rfl)
theorem dX1_add_21 : decode cX1_add 21 = .ok (.ifCond .ne 6, 3) := dk_154 0 6 (dk_at dksX1_add_0 21 rfl rfl)
theorem dX1_add_24 : decode cX1_add 24 = .ok (.bipush (-6), 2) := dk_16 250 (dk_at dksX1_add_1 0 rfl rfl)
theorem dX1_add_26 : decode cX1_add 26 = .ok (.ireturn, 1) := dk_172 (dk_at dksX1_add_1 2 rfl rfl)
theorem dX1_add_27 : decode cX1_add 27 = .ok (.aload_n 0, 1) := dk_42 (dk_at dksX1_add_1 3 rfl rfl)
theorem dX1_add_28 : decode cX1_add 28 = .ok (.iload_n 2, 1) := dk_28 (dk_at dksX1_add_1 4 rfl rfl)
theorem dX1_add_29 : decode cX1_add 29 = .ok (.invokevirtual 114, 3) := dk_182 0 114 (dk_at dksX1_add_1 5 rfl rfl)
theorem dX1_add_32 : decode cX1_add 32 = .ok (.ifCond .ne 6, 3) := dk_154 0 6 (dk_at dksX1_add_1 8 rfl rfl)
theorem dX1_add_35 : decode cX1_add 35 = .ok (.bipush (-3), 2) := dk_16 253 (dk_at dksX1_add_1 11 rfl rfl)
theorem dX1_add_37 : decode cX1_add 37 = .ok (.ireturn, 1) := dk_172 (dk_at dksX1_add_1 13 rfl rfl)
theorem dX1_add_38 : decode cX1_add 38 = .ok (.aload_n 0, 1) := dk_42 (dk_at dksX1_add_1 14 rfl rfl)
theorem dX1_add_39 : decode cX1_add 39 = .ok (.getfield 12, 3) := dk_180 0 12 (dk_at dksX1_add_1 15 rfl rfl)
theorem dX1_add_42 : decode cX1_add 42 = .ok (.new 73, 3) := dk_187 0 73 (dk_at dksX1_add_1 18 rfl rfl)
theorem dX1_add_45 : decode cX1_add 45 = .ok (.dup, 1) := dk_89 (dk_at dksX1_add_1 21 rfl rfl)
theorem dX1_add_46 : decode cX1_add 46 = .ok (.iload_n 1, 1) := dk_27 (dk_at dksX1_add_1 22 rfl rfl)
theorem dX1_add_47 : decode cX1_add 47 = .ok (.aload_n 0, 1) := dk_42 (dk_at dksX1_add_1 23 rfl rfl)
theorem dX1_add_48 : decode cX1_add 48 = .ok (.iload_n 2, 1) := dk_28 (dk_at dksX1_add_2 0 rfl rfl)
theorem dX1_add_49 : decode cX1_add 49 = .ok (.iload_n 3, 1) := dk_29 (dk_at dksX1_add_2 1 rfl rfl)
theorem dX1_add_50 : decode cX1_add 50 = .ok (.invokevirtual 118, 3) := dk_182 0 118 (dk_at dksX1_add_2 2 rfl rfl)
theorem dX1_add_53 : decode cX1_add 53 = .ok (.invokespecial 122, 3) := dk_183 0 122 (dk_at dksX1_add_2 5 rfl rfl)
theorem dX1_add_56 : decode cX1_add 56 = .ok (.invokevirtual 125, 3) := dk_182 0 125 (dk_at dksX1_add_2 8 rfl rfl)
theorem dX1_add_59 : decode cX1_add 59 = .ok (.aload_n 0, 1) := dk_42 (dk_at dksX1_add_2 11 rfl rfl)
theorem dX1_add_60 : decode cX1_add 60 = .ok (.getfield 12, 3) := dk_180 0 12 (dk_at dksX1_add_2 12 rfl rfl)
theorem dX1_add_63 : decode cX1_add 63 = .ok (.iload_n 1, 1) := dk_27 (dk_at dksX1_add_2 15 rfl rfl)
theorem dX1_add_64 : decode cX1_add 64 = .ok (.invokevirtual 108, 3) := dk_182 0 108 (dk_at dksX1_add_2 16 rfl rfl)
theorem dX1_add_67 : decode cX1_add 67 = .ok (.getfield 129, 3) := dk_180 0 129 (dk_at dksX1_add_2 19 rfl rfl)
theorem dX1_add_70 : decode cX1_add 70 = .ok (.getfield 133, 3) := dk_180 0 133 (dk_at dksX1_add_3 0 rfl rfl)
theorem dX1_add_73 : decode cX1_add 73 = .ok (.ireturn, 1) := dk_172 (dk_at dksX1_add_3 3 rfl rfl)
def dkwX1_fits_0 : List UInt8 := [42, 182, 0, 104, 27, 96, 16, 100, 163, 0, 7, 4, 167, 0, 4, 3, 172]
abbrev dktX1_fits_0 : List UInt8 := dkwX1_fits_0 ++ []
theorem dksX1_fits_0 : cX1_fits.data.toList.drop 0 = dktX1_fits_0 := by decide +kernel
theorem dX1_fits_0 : decode cX1_fits 0 = .ok (.aload_n 0, 1) := dk_42 (dk_at dksX1_fits_0 0 rfl rfl)
theorem dX1_fits_1 : decode cX1_fits 1 = .ok (.invokevirtual 104, 3) := dk_182 0 104 (dk_at dksX1_fits_0 1 rfl rfl)
theorem dX1_fits_4 : decode cX1_fits 4 = .ok (.iload_n 1, 1) := dk_27 (dk_at dksX1_fits_0 4 rfl rfl)
theorem dX1_fits_5 : decode cX1_fits 5 = .ok (.iadd, 1) := dk_96 (dk_at dksX1_fits_0 5 rfl rfl)
theorem dX1_fits_6 : decode cX1_fits 6 = .ok (.bipush 100, 2) := dk_16 100 (dk_at dksX1_fits_0 6 rfl rfl)
theorem dX1_fits_8 : decode cX1_fits 8 = .ok (.if_icmp .gt 7, 3) := dk_163 0 7 (dk_at dksX1_fits_0 8 rfl rfl)
theorem dX1_fits_11 : decode cX1_fits 11 = .ok (.iconst 1, 1) := dk_4 (dk_at dksX1_fits_0 11 rfl rfl)
theorem dX1_fits_12 : decode cX1_fits 12 = .ok (.goto 4, 3) := dk_167 0 4 (dk_at dksX1_fits_0 12 rfl rfl)
theorem dX1_fits_15 : decode cX1_fits 15 = .ok (.iconst 0, 1) := dk_3 (dk_at dksX1_fits_0 15 rfl rfl)
theorem dX1_fits_16 : decode cX1_fits 16 = .ok (.ireturn, 1) := dk_172 (dk_at dksX1_fits_0 16 rfl rfl)
def dkwX1_end_1 : List UInt8 := [185, 0, 65, 1, 0, 4, 100, 185, 0, 69, 2, 0, 192, 0, 46, 182, 0, 91, 172]
abbrev dktX1_end_1 : List UInt8 := dkwX1_end_1 ++ []
def dkwX1_end_0 : List UInt8 := [42, 180, 0, 21, 185, 0, 88, 1, 0, 153, 0, 7, 3, 167, 0, 29, 42, 180, 0, 21, 42, 180, 0, 21]
abbrev dktX1_end_0 : List UInt8 := dkwX1_end_0 ++ dktX1_end_1
theorem dksX1_end_0 : cX1_end.data.toList.drop 0 = dktX1_end_0 := by decide +kernel
theorem dksX1_end_1 : cX1_end.data.toList.drop 24 = dktX1_end_1 := dk_seg dksX1_end_0 24 rfl rfl
theorem dX1_end_0 : decode cX1_end 0 = .ok (.aload_n 0, 1) := dk_42 (dk_at dksX1_end_0 0 rfl rfl)
theorem dX1_end_1 : decode cX1_end 1 = .ok (.getfield 21, 3) := dk_180 0 21 (dk_at dksX1_end_0 1 rfl rfl)
theorem dX1_end_4 : decode cX1_end 4 = .ok (.invokeinterface 88 1, 5) := by decide +kernel
theorem dX1_end_9 : decode cX1_end 9 = .ok (.ifCond .eq 7, 3) := dk_153 0 7 (dk_at dksX1_end_0 9 rfl rfl)
theorem dX1_end_12 : decode cX1_end 12 = .ok (.iconst 0, 1) := dk_3 (dk_at dksX1_end_0 12 rfl rfl)
theorem dX1_end_13 : decode cX1_end 13 = .ok (.goto 29, 3) := dk_167 0 29 (dk_at dksX1_end_0 13 rfl rfl)
theorem dX1_end_16 : decode cX1_end 16 = .ok (.aload_n 0, 1) := dk_42 (dk_at dksX1_end_0 16 rfl rfl)
theorem dX1_end_17 : decode cX1_end 17 = .ok (.getfield 21, 3) := dk_180 0 21 (dk_at dksX1_end_0 17 rfl rfl)
theorem dX1_end_20 : decode cX1_end 20 = .ok (.aload_n 0, 1) := dk_42 (dk_at dksX1_end_0 20 rfl rfl)
theorem dX1_end_21 : decode cX1_end 21 = .ok (.getfield 21, 3) := dk_180 0 21 (dk_at dksX1_end_0 21 rfl rfl)
theorem dX1_end_24 : decode cX1_end 24 = .ok (.invokeinterface 65 1, 5) := by decide +kernel
theorem dX1_end_29 : decode cX1_end 29 = .ok (.iconst 1, 1) := dk_4 (dk_at dksX1_end_1 5 rfl rfl)
theorem dX1_end_30 : decode cX1_end 30 = .ok (.isub, 1) := dk_100 (dk_at dksX1_end_1 6 rfl rfl)
theorem dX1_end_31 : decode cX1_end 31 = .ok (.invokeinterface 69 2, 5) := by decide +kernel
theorem dX1_end_36 : decode cX1_end 36 = .ok (.checkcast 46, 3) := dk_192 0 46 (dk_at dksX1_end_1 12 rfl rfl)
theorem dX1_end_39 : decode cX1_end 39 = .ok (.invokevirtual 91, 3) := dk_182 0 91 (dk_at dksX1_end_1 15 rfl rfl)
theorem dX1_end_42 : decode cX1_end 42 = .ok (.ireturn, 1) := dk_172 (dk_at dksX1_end_1 18 rfl rfl)
def dkwX1_lay_1 : List UInt8 := [87, 45, 176]
abbrev dktX1_lay_1 : List UInt8 := dkwX1_lay_1 ++ []
def dkwX1_lay_0 : List UInt8 := [187, 0, 46, 89, 42, 182, 0, 104, 27, 28, 183, 0, 105, 78, 42, 180, 0, 21, 45, 185, 0, 48, 2, 0]
abbrev dktX1_lay_0 : List UInt8 := dkwX1_lay_0 ++ dktX1_lay_1
theorem dksX1_lay_0 : cX1_lay.data.toList.drop 0 = dktX1_lay_0 := by decide +kernel
theorem dksX1_lay_1 : cX1_lay.data.toList.drop 24 = dktX1_lay_1 := dk_seg dksX1_lay_0 24 rfl rfl
theorem dX1_lay_0 : decode cX1_lay 0 = .ok (.new 46, 3) := dk_187 0 46 (dk_at dksX1_lay_0 0 rfl rfl)
theorem dX1_lay_3 : decode cX1_lay 3 = .ok (.dup, 1) := dk_89 (dk_at dksX1_lay_0 3 rfl rfl)
theorem dX1_lay_4 : decode cX1_lay 4 = .ok (.aload_n 0, 1) := dk_42 (dk_at dksX1_lay_0 4 rfl rfl)
theorem dX1_lay_5 : decode cX1_lay 5 = .ok (.invokevirtual 104, 3) := dk_182 0 104 (dk_at dksX1_lay_0 5 rfl rfl)
theorem dX1_lay_8 : decode cX1_lay 8 = .ok (.iload_n 1, 1) := dk_27 (dk_at dksX1_lay_0 8 rfl rfl)
theorem dX1_lay_9 : decode cX1_lay 9 = .ok (.iload_n 2, 1) := dk_28 (dk_at dksX1_lay_0 9 rfl rfl)
theorem dX1_lay_10 : decode cX1_lay 10 = .ok (.invokespecial 105, 3) := dk_183 0 105 (dk_at dksX1_lay_0 10 rfl rfl)
theorem dX1_lay_13 : decode cX1_lay 13 = .ok (.astore_n 3, 1) := dk_78 (dk_at dksX1_lay_0 13 rfl rfl)
theorem dX1_lay_14 : decode cX1_lay 14 = .ok (.aload_n 0, 1) := dk_42 (dk_at dksX1_lay_0 14 rfl rfl)
theorem dX1_lay_15 : decode cX1_lay 15 = .ok (.getfield 21, 3) := dk_180 0 21 (dk_at dksX1_lay_0 15 rfl rfl)
theorem dX1_lay_18 : decode cX1_lay 18 = .ok (.aload_n 3, 1) := dk_45 (dk_at dksX1_lay_0 18 rfl rfl)
theorem dX1_lay_19 : decode cX1_lay 19 = .ok (.invokeinterface 48 2, 5) := by decide +kernel
theorem dX1_lay_24 : decode cX1_lay 24 = .ok (.pop, 1) := dk_87 (dk_at dksX1_lay_1 0 rfl rfl)
theorem dX1_lay_25 : decode cX1_lay 25 = .ok (.aload_n 3, 1) := dk_45 (dk_at dksX1_lay_1 1 rfl rfl)
theorem dX1_lay_26 : decode cX1_lay 26 = .ok (.areturn, 1) := dk_176 (dk_at dksX1_lay_1 2 rfl rfl)
def dkwX1_replace_1 : List UInt8 := [28, 29, 182, 0, 118, 181, 0, 129, 25, 4, 180, 0, 129, 180, 0, 133, 172]
abbrev dktX1_replace_1 : List UInt8 := dkwX1_replace_1 ++ []
def dkwX1_replace_0 : List UInt8 := [42, 28, 182, 0, 114, 154, 0, 6, 16, 253, 172, 42, 180, 0, 12, 27, 182, 0, 108, 58, 4, 25, 4, 42]
abbrev dktX1_replace_0 : List UInt8 := dkwX1_replace_0 ++ dktX1_replace_1
theorem dksX1_replace_0 : cX1_replace.data.toList.drop 0 = dktX1_replace_0 := by decide +kernel
theorem dksX1_replace_1 : cX1_replace.data.toList.drop 24 = dktX1_replace_1 := dk_seg dksX1_replace_0 24 rfl rfl
theorem dX1_replace_0 : decode cX1_replace 0 = .ok (.aload_n 0, 1) := dk_42 (dk_at dksX1_replace_0 0 rfl rfl)
theorem dX1_replace_1 : decode cX1_replace 1 = .ok (.iload_n 2, 1) := dk_28 (dk_at dksX1_replace_0 1 rfl rfl)
theorem dX1_replace_2 : decode cX1_replace 2 = .ok (.invokevirtual 114, 3) := dk_182 0 114 (dk_at dksX1_replace_0 2 rfl rfl)
theorem dX1_replace_5 : decode cX1_replace 5 = .ok (.ifCond .ne 6, 3) := dk_154 0 6 (dk_at dksX1_replace_0 5 rfl rfl)
theorem dX1_replace_8 : decode cX1_replace 8 = .ok (.bipush (-3), 2) := dk_16 253 (dk_at dksX1_replace_0 8 rfl rfl)
theorem dX1_replace_10 : decode cX1_replace 10 = .ok (.ireturn, 1) := dk_172 (dk_at dksX1_replace_0 10 rfl rfl)
theorem dX1_replace_11 : decode cX1_replace 11 = .ok (.aload_n 0, 1) := dk_42 (dk_at dksX1_replace_0 11 rfl rfl)
theorem dX1_replace_12 : decode cX1_replace 12 = .ok (.getfield 12, 3) := dk_180 0 12 (dk_at dksX1_replace_0 12 rfl rfl)
theorem dX1_replace_15 : decode cX1_replace 15 = .ok (.iload_n 1, 1) := dk_27 (dk_at dksX1_replace_0 15 rfl rfl)
theorem dX1_replace_16 : decode cX1_replace 16 = .ok (.invokevirtual 108, 3) := dk_182 0 108 (dk_at dksX1_replace_0 16 rfl rfl)
theorem dX1_replace_19 : decode cX1_replace 19 = .ok (.astore 4, 2) := dk_58 4 (dk_at dksX1_replace_0 19 rfl rfl)
theorem dX1_replace_21 : decode cX1_replace 21 = .ok (.aload 4, 2) := dk_25 4 (dk_at dksX1_replace_0 21 rfl rfl)
theorem dX1_replace_23 : decode cX1_replace 23 = .ok (.aload_n 0, 1) := dk_42 (dk_at dksX1_replace_0 23 rfl rfl)
theorem dX1_replace_24 : decode cX1_replace 24 = .ok (.iload_n 2, 1) := dk_28 (dk_at dksX1_replace_1 0 rfl rfl)
theorem dX1_replace_25 : decode cX1_replace 25 = .ok (.iload_n 3, 1) := dk_29 (dk_at dksX1_replace_1 1 rfl rfl)
theorem dX1_replace_26 : decode cX1_replace 26 = .ok (.invokevirtual 118, 3) := dk_182 0 118 (dk_at dksX1_replace_1 2 rfl rfl)
theorem dX1_replace_29 : decode cX1_replace 29 = .ok (.putfield 129, 3) := dk_181 0 129 (dk_at dksX1_replace_1 5 rfl rfl)
theorem dX1_replace_32 : decode cX1_replace 32 = .ok (.aload 4, 2) := dk_25 4 (dk_at dksX1_replace_1 8 rfl rfl)
theorem dX1_replace_34 : decode cX1_replace 34 = .ok (.getfield 129, 3) := dk_180 0 129 (dk_at dksX1_replace_1 10 rfl rfl)
theorem dX1_replace_37 : decode cX1_replace 37 = .ok (.getfield 133, 3) := dk_180 0 133 (dk_at dksX1_replace_1 13 rfl rfl)
theorem dX1_replace_40 : decode cX1_replace 40 = .ok (.ireturn, 1) := dk_172 (dk_at dksX1_replace_1 16 rfl rfl)
def dkwX1_rename_4 : List UInt8 := [25, 6, 182, 0, 125, 167, 255, 204, 42, 25, 4, 181, 0, 12, 177]
abbrev dktX1_rename_4 : List UInt8 := dkwX1_rename_4 ++ []
def dkwX1_rename_3 : List UInt8 := [29, 154, 0, 12, 25, 6, 180, 0, 78, 27, 160, 0, 13, 25, 6, 27, 28, 182, 0, 158, 167, 0, 5]
abbrev dktX1_rename_3 : List UInt8 := dkwX1_rename_3 ++ dktX1_rename_4
def dkwX1_rename_2 : List UInt8 := [25, 5, 185, 0, 36, 1, 0, 153, 0, 48, 25, 5, 185, 0, 42, 1, 0, 192, 0, 73, 58, 6, 25, 4]
abbrev dktX1_rename_2 : List UInt8 := dkwX1_rename_2 ++ dktX1_rename_3
def dkwX1_rename_1 : List UInt8 := [58, 4, 25, 4, 42, 180, 0, 12, 180, 0, 154, 181, 0, 154, 42, 180, 0, 12, 182, 0, 157, 58, 5]
abbrev dktX1_rename_1 : List UInt8 := dkwX1_rename_1 ++ dktX1_rename_2
def dkwX1_rename_0 : List UInt8 := [42, 180, 0, 12, 27, 182, 0, 136, 198, 0, 7, 4, 167, 0, 4, 3, 62, 187, 0, 9, 89, 183, 0, 11]
abbrev dktX1_rename_0 : List UInt8 := dkwX1_rename_0 ++ dktX1_rename_1
theorem dksX1_rename_0 : cX1_rename.data.toList.drop 0 = dktX1_rename_0 := by decide +kernel
theorem dksX1_rename_1 : cX1_rename.data.toList.drop 24 = dktX1_rename_1 := dk_seg dksX1_rename_0 24 rfl rfl
theorem dksX1_rename_2 : cX1_rename.data.toList.drop 47 = dktX1_rename_2 := dk_seg dksX1_rename_1 23 rfl rfl
theorem dksX1_rename_3 : cX1_rename.data.toList.drop 71 = dktX1_rename_3 := dk_seg dksX1_rename_2 24 rfl rfl
theorem dksX1_rename_4 : cX1_rename.data.toList.drop 94 = dktX1_rename_4 := dk_seg dksX1_rename_3 23 rfl rfl
theorem dX1_rename_0 : decode cX1_rename 0 = .ok (.aload_n 0, 1) := dk_42 (dk_at dksX1_rename_0 0 rfl rfl)
theorem dX1_rename_1 : decode cX1_rename 1 = .ok (.getfield 12, 3) := dk_180 0 12 (dk_at dksX1_rename_0 1 rfl rfl)
theorem dX1_rename_4 : decode cX1_rename 4 = .ok (.iload_n 1, 1) := dk_27 (dk_at dksX1_rename_0 4 rfl rfl)
theorem dX1_rename_5 : decode cX1_rename 5 = .ok (.invokevirtual 136, 3) := dk_182 0 136 (dk_at dksX1_rename_0 5 rfl rfl)
theorem dX1_rename_8 : decode cX1_rename 8 = .ok (.ifnull 7, 3) := dk_198 0 7 (dk_at dksX1_rename_0 8 rfl rfl)
theorem dX1_rename_11 : decode cX1_rename 11 = .ok (.iconst 1, 1) := dk_4 (dk_at dksX1_rename_0 11 rfl rfl)
theorem dX1_rename_12 : decode cX1_rename 12 = .ok (.goto 4, 3) := dk_167 0 4 (dk_at dksX1_rename_0 12 rfl rfl)
theorem dX1_rename_15 : decode cX1_rename 15 = .ok (.iconst 0, 1) := dk_3 (dk_at dksX1_rename_0 15 rfl rfl)
theorem dX1_rename_16 : decode cX1_rename 16 = .ok (.istore_n 3, 1) := dk_62 (dk_at dksX1_rename_0 16 rfl rfl)
theorem dX1_rename_17 : decode cX1_rename 17 = .ok (.new 9, 3) := dk_187 0 9 (dk_at dksX1_rename_0 17 rfl rfl)
theorem dX1_rename_20 : decode cX1_rename 20 = .ok (.dup, 1) := dk_89 (dk_at dksX1_rename_0 20 rfl rfl)
theorem dX1_rename_21 : decode cX1_rename 21 = .ok (.invokespecial 11, 3) := dk_183 0 11 (dk_at dksX1_rename_0 21 rfl rfl)
theorem dX1_rename_24 : decode cX1_rename 24 = .ok (.astore 4, 2) := dk_58 4 (dk_at dksX1_rename_1 0 rfl rfl)
theorem dX1_rename_26 : decode cX1_rename 26 = .ok (.aload 4, 2) := dk_25 4 (dk_at dksX1_rename_1 2 rfl rfl)
theorem dX1_rename_28 : decode cX1_rename 28 = .ok (.aload_n 0, 1) := dk_42 (dk_at dksX1_rename_1 4 rfl rfl)
theorem dX1_rename_29 : decode cX1_rename 29 = .ok (.getfield 12, 3) := dk_180 0 12 (dk_at dksX1_rename_1 5 rfl rfl)
theorem dX1_rename_32 : decode cX1_rename 32 = .ok (.getfield 154, 3) := dk_180 0 154 (dk_at dksX1_rename_1 8 rfl rfl)
theorem dX1_rename_35 : decode cX1_rename 35 = .ok (.putfield 154, 3) := dk_181 0 154 (dk_at dksX1_rename_1 11 rfl rfl)
theorem dX1_rename_38 : decode cX1_rename 38 = .ok (.aload_n 0, 1) := dk_42 (dk_at dksX1_rename_1 14 rfl rfl)
theorem dX1_rename_39 : decode cX1_rename 39 = .ok (.getfield 12, 3) := dk_180 0 12 (dk_at dksX1_rename_1 15 rfl rfl)
theorem dX1_rename_42 : decode cX1_rename 42 = .ok (.invokevirtual 157, 3) := dk_182 0 157 (dk_at dksX1_rename_1 18 rfl rfl)
theorem dX1_rename_45 : decode cX1_rename 45 = .ok (.astore 5, 2) := dk_58 5 (dk_at dksX1_rename_1 21 rfl rfl)
theorem dX1_rename_47 : decode cX1_rename 47 = .ok (.aload 5, 2) := dk_25 5 (dk_at dksX1_rename_2 0 rfl rfl)
theorem dX1_rename_49 : decode cX1_rename 49 = .ok (.invokeinterface 36 1, 5) := by decide +kernel
theorem dX1_rename_54 : decode cX1_rename 54 = .ok (.ifCond .eq 48, 3) := dk_153 0 48 (dk_at dksX1_rename_2 7 rfl rfl)
theorem dX1_rename_57 : decode cX1_rename 57 = .ok (.aload 5, 2) := dk_25 5 (dk_at dksX1_rename_2 10 rfl rfl)
theorem dX1_rename_59 : decode cX1_rename 59 = .ok (.invokeinterface 42 1, 5) := by decide +kernel
theorem dX1_rename_64 : decode cX1_rename 64 = .ok (.checkcast 73, 3) := dk_192 0 73 (dk_at dksX1_rename_2 17 rfl rfl)
theorem dX1_rename_67 : decode cX1_rename 67 = .ok (.astore 6, 2) := dk_58 6 (dk_at dksX1_rename_2 20 rfl rfl)
theorem dX1_rename_69 : decode cX1_rename 69 = .ok (.aload 4, 2) := dk_25 4 (dk_at dksX1_rename_2 22 rfl rfl)
theorem dX1_rename_71 : decode cX1_rename 71 = .ok (.iload_n 3, 1) := dk_29 (dk_at dksX1_rename_3 0 rfl rfl)
theorem dX1_rename_72 : decode cX1_rename 72 = .ok (.ifCond .ne 12, 3) := dk_154 0 12 (dk_at dksX1_rename_3 1 rfl rfl)
theorem dX1_rename_75 : decode cX1_rename 75 = .ok (.aload 6, 2) := dk_25 6 (dk_at dksX1_rename_3 4 rfl rfl)
theorem dX1_rename_77 : decode cX1_rename 77 = .ok (.getfield 78, 3) := dk_180 0 78 (dk_at dksX1_rename_3 6 rfl rfl)
theorem dX1_rename_80 : decode cX1_rename 80 = .ok (.iload_n 1, 1) := dk_27 (dk_at dksX1_rename_3 9 rfl rfl)
theorem dX1_rename_81 : decode cX1_rename 81 = .ok (.if_icmp .ne 13, 3) := dk_160 0 13 (dk_at dksX1_rename_3 10 rfl rfl)
theorem dX1_rename_84 : decode cX1_rename 84 = .ok (.aload 6, 2) := dk_25 6 (dk_at dksX1_rename_3 13 rfl rfl)
theorem dX1_rename_86 : decode cX1_rename 86 = .ok (.iload_n 1, 1) := dk_27 (dk_at dksX1_rename_3 15 rfl rfl)
theorem dX1_rename_87 : decode cX1_rename 87 = .ok (.iload_n 2, 1) := dk_28 (dk_at dksX1_rename_3 16 rfl rfl)
theorem dX1_rename_88 : decode cX1_rename 88 = .ok (.invokevirtual 158, 3) := dk_182 0 158 (dk_at dksX1_rename_3 17 rfl rfl)
theorem dX1_rename_91 : decode cX1_rename 91 = .ok (.goto 5, 3) := dk_167 0 5 (dk_at dksX1_rename_3 20 rfl rfl)
theorem dX1_rename_94 : decode cX1_rename 94 = .ok (.aload 6, 2) := dk_25 6 (dk_at dksX1_rename_4 0 rfl rfl)
theorem dX1_rename_96 : decode cX1_rename 96 = .ok (.invokevirtual 125, 3) := dk_182 0 125 (dk_at dksX1_rename_4 2 rfl rfl)
theorem dX1_rename_99 : decode cX1_rename 99 = .ok (.goto (-52), 3) := dk_167 255 204 (dk_at dksX1_rename_4 5 rfl rfl)
theorem dX1_rename_102 : decode cX1_rename 102 = .ok (.aload_n 0, 1) := dk_42 (dk_at dksX1_rename_4 8 rfl rfl)
theorem dX1_rename_103 : decode cX1_rename 103 = .ok (.aload 4, 2) := dk_25 4 (dk_at dksX1_rename_4 9 rfl rfl)
theorem dX1_rename_105 : decode cX1_rename 105 = .ok (.putfield 12, 3) := dk_181 0 12 (dk_at dksX1_rename_4 11 rfl rfl)
theorem dX1_rename_108 : decode cX1_rename 108 = .ok (.return_, 1) := dk_177 (dk_at dksX1_rename_4 14 rfl rfl)
def dkwX1_alias_5 : List UInt8 := [182, 0, 125, 45, 180, 0, 129, 180, 0, 133, 172]
abbrev dktX1_alias_5 : List UInt8 := dkwX1_alias_5 ++ []
def dkwX1_alias_4 : List UInt8 := [180, 0, 12, 27, 182, 0, 145, 42, 180, 0, 12, 187, 0, 149, 89, 27, 45, 180, 0, 129, 28, 183, 0, 151]
abbrev dktX1_alias_4 : List UInt8 := dkwX1_alias_4 ++ dktX1_alias_5
def dkwX1_alias_3 : List UInt8 := [180, 0, 129, 166, 0, 15, 25, 4, 182, 0, 142, 28, 160, 0, 6, 16, 251, 172, 25, 4, 198, 0, 11, 42]
abbrev dktX1_alias_3 : List UInt8 := dkwX1_alias_3 ++ dktX1_alias_4
def dkwX1_alias_2 : List UInt8 := [180, 0, 12, 182, 0, 111, 154, 0, 6, 16, 250, 172, 25, 4, 198, 0, 27, 25, 4, 180, 0, 129, 45]
abbrev dktX1_alias_2 : List UInt8 := dkwX1_alias_2 ++ dktX1_alias_3
def dkwX1_alias_1 : List UInt8 := [58, 4, 25, 4, 198, 0, 14, 25, 4, 182, 0, 139, 154, 0, 6, 16, 249, 172, 25, 4, 199, 0, 16, 42]
abbrev dktX1_alias_1 : List UInt8 := dkwX1_alias_1 ++ dktX1_alias_2
def dkwX1_alias_0 : List UInt8 := [42, 180, 0, 12, 28, 182, 0, 136, 78, 45, 199, 0, 5, 2, 172, 42, 180, 0, 12, 27, 182, 0, 108]
abbrev dktX1_alias_0 : List UInt8 := dkwX1_alias_0 ++ dktX1_alias_1
theorem dksX1_alias_0 : cX1_alias.data.toList.drop 0 = dktX1_alias_0 := by decide +kernel
theorem dksX1_alias_1 : cX1_alias.data.toList.drop 23 = dktX1_alias_1 := dk_seg dksX1_alias_0 23 rfl rfl
theorem dksX1_alias_2 : cX1_alias.data.toList.drop 47 = dktX1_alias_2 := dk_seg dksX1_alias_1 24 rfl rfl
theorem dksX1_alias_3 : cX1_alias.data.toList.drop 70 = dktX1_alias_3 := dk_seg dksX1_alias_2 23 rfl rfl
theorem dksX1_alias_4 : cX1_alias.data.toList.drop 94 = dktX1_alias_4 := dk_seg dksX1_alias_3 24 rfl rfl
theorem dksX1_alias_5 : cX1_alias.data.toList.drop 118 = dktX1_alias_5 := dk_seg dksX1_alias_4 24 rfl rfl
theorem dX1_alias_0 : decode cX1_alias 0 = .ok (.aload_n 0, 1) := dk_42 (dk_at dksX1_alias_0 0 rfl rfl)
theorem dX1_alias_1 : decode cX1_alias 1 = .ok (.getfield 12, 3) := dk_180 0 12 (dk_at dksX1_alias_0 1 rfl rfl)
theorem dX1_alias_4 : decode cX1_alias 4 = .ok (.iload_n 2, 1) := dk_28 (dk_at dksX1_alias_0 4 rfl rfl)
theorem dX1_alias_5 : decode cX1_alias 5 = .ok (.invokevirtual 136, 3) := dk_182 0 136 (dk_at dksX1_alias_0 5 rfl rfl)
theorem dX1_alias_8 : decode cX1_alias 8 = .ok (.astore_n 3, 1) := dk_78 (dk_at dksX1_alias_0 8 rfl rfl)
theorem dX1_alias_9 : decode cX1_alias 9 = .ok (.aload_n 3, 1) := dk_45 (dk_at dksX1_alias_0 9 rfl rfl)
theorem dX1_alias_10 : decode cX1_alias 10 = .ok (.ifnonnull 5, 3) := dk_199 0 5 (dk_at dksX1_alias_0 10 rfl rfl)
theorem dX1_alias_13 : decode cX1_alias 13 = .ok (.iconst (-1), 1) := dk_2 (dk_at dksX1_alias_0 13 rfl rfl)
theorem dX1_alias_14 : decode cX1_alias 14 = .ok (.ireturn, 1) := dk_172 (dk_at dksX1_alias_0 14 rfl rfl)
theorem dX1_alias_15 : decode cX1_alias 15 = .ok (.aload_n 0, 1) := dk_42 (dk_at dksX1_alias_0 15 rfl rfl)
theorem dX1_alias_16 : decode cX1_alias 16 = .ok (.getfield 12, 3) := dk_180 0 12 (dk_at dksX1_alias_0 16 rfl rfl)
theorem dX1_alias_19 : decode cX1_alias 19 = .ok (.iload_n 1, 1) := dk_27 (dk_at dksX1_alias_0 19 rfl rfl)
theorem dX1_alias_20 : decode cX1_alias 20 = .ok (.invokevirtual 108, 3) := dk_182 0 108 (dk_at dksX1_alias_0 20 rfl rfl)
theorem dX1_alias_23 : decode cX1_alias 23 = .ok (.astore 4, 2) := dk_58 4 (dk_at dksX1_alias_1 0 rfl rfl)
theorem dX1_alias_25 : decode cX1_alias 25 = .ok (.aload 4, 2) := dk_25 4 (dk_at dksX1_alias_1 2 rfl rfl)
theorem dX1_alias_27 : decode cX1_alias 27 = .ok (.ifnull 14, 3) := dk_198 0 14 (dk_at dksX1_alias_1 4 rfl rfl)
theorem dX1_alias_30 : decode cX1_alias 30 = .ok (.aload 4, 2) := dk_25 4 (dk_at dksX1_alias_1 7 rfl rfl)
theorem dX1_alias_32 : decode cX1_alias 32 = .ok (.invokevirtual 139, 3) := dk_182 0 139 (dk_at dksX1_alias_1 9 rfl rfl)
theorem dX1_alias_35 : decode cX1_alias 35 = .ok (.ifCond .ne 6, 3) := dk_154 0 6 (dk_at dksX1_alias_1 12 rfl rfl)
theorem dX1_alias_38 : decode cX1_alias 38 = .ok (.bipush (-7), 2) := dk_16 249 (dk_at dksX1_alias_1 15 rfl rfl)
theorem dX1_alias_40 : decode cX1_alias 40 = .ok (.ireturn, 1) := dk_172 (dk_at dksX1_alias_1 17 rfl rfl)
theorem dX1_alias_41 : decode cX1_alias 41 = .ok (.aload 4, 2) := dk_25 4 (dk_at dksX1_alias_1 18 rfl rfl)
theorem dX1_alias_43 : decode cX1_alias 43 = .ok (.ifnonnull 16, 3) := dk_199 0 16 (dk_at dksX1_alias_1 20 rfl rfl)
theorem dX1_alias_46 : decode cX1_alias 46 = .ok (.aload_n 0, 1) := dk_42 (dk_at dksX1_alias_1 23 rfl rfl)
theorem dX1_alias_47 : decode cX1_alias 47 = .ok (.getfield 12, 3) := dk_180 0 12 (dk_at dksX1_alias_2 0 rfl rfl)
theorem dX1_alias_50 : decode cX1_alias 50 = .ok (.invokevirtual 111, 3) := dk_182 0 111 (dk_at dksX1_alias_2 3 rfl rfl)
theorem dX1_alias_53 : decode cX1_alias 53 = .ok (.ifCond .ne 6, 3) := dk_154 0 6 (dk_at dksX1_alias_2 6 rfl rfl)
theorem dX1_alias_56 : decode cX1_alias 56 = .ok (.bipush (-6), 2) := dk_16 250 (dk_at dksX1_alias_2 9 rfl rfl)
theorem dX1_alias_58 : decode cX1_alias 58 = .ok (.ireturn, 1) := dk_172 (dk_at dksX1_alias_2 11 rfl rfl)
theorem dX1_alias_59 : decode cX1_alias 59 = .ok (.aload 4, 2) := dk_25 4 (dk_at dksX1_alias_2 12 rfl rfl)
theorem dX1_alias_61 : decode cX1_alias 61 = .ok (.ifnull 27, 3) := dk_198 0 27 (dk_at dksX1_alias_2 14 rfl rfl)
theorem dX1_alias_64 : decode cX1_alias 64 = .ok (.aload 4, 2) := dk_25 4 (dk_at dksX1_alias_2 17 rfl rfl)
theorem dX1_alias_66 : decode cX1_alias 66 = .ok (.getfield 129, 3) := dk_180 0 129 (dk_at dksX1_alias_2 19 rfl rfl)
theorem dX1_alias_69 : decode cX1_alias 69 = .ok (.aload_n 3, 1) := dk_45 (dk_at dksX1_alias_2 22 rfl rfl)
theorem dX1_alias_70 : decode cX1_alias 70 = .ok (.getfield 129, 3) := dk_180 0 129 (dk_at dksX1_alias_3 0 rfl rfl)
theorem dX1_alias_73 : decode cX1_alias 73 = .ok (.if_acmp .ne 15, 3) := dk_166 0 15 (dk_at dksX1_alias_3 3 rfl rfl)
theorem dX1_alias_76 : decode cX1_alias 76 = .ok (.aload 4, 2) := dk_25 4 (dk_at dksX1_alias_3 6 rfl rfl)
theorem dX1_alias_78 : decode cX1_alias 78 = .ok (.invokevirtual 142, 3) := dk_182 0 142 (dk_at dksX1_alias_3 8 rfl rfl)
theorem dX1_alias_81 : decode cX1_alias 81 = .ok (.iload_n 2, 1) := dk_28 (dk_at dksX1_alias_3 11 rfl rfl)
theorem dX1_alias_82 : decode cX1_alias 82 = .ok (.if_icmp .ne 6, 3) := dk_160 0 6 (dk_at dksX1_alias_3 12 rfl rfl)
theorem dX1_alias_85 : decode cX1_alias 85 = .ok (.bipush (-5), 2) := dk_16 251 (dk_at dksX1_alias_3 15 rfl rfl)
theorem dX1_alias_87 : decode cX1_alias 87 = .ok (.ireturn, 1) := dk_172 (dk_at dksX1_alias_3 17 rfl rfl)
theorem dX1_alias_88 : decode cX1_alias 88 = .ok (.aload 4, 2) := dk_25 4 (dk_at dksX1_alias_3 18 rfl rfl)
theorem dX1_alias_90 : decode cX1_alias 90 = .ok (.ifnull 11, 3) := dk_198 0 11 (dk_at dksX1_alias_3 20 rfl rfl)
theorem dX1_alias_93 : decode cX1_alias 93 = .ok (.aload_n 0, 1) := dk_42 (dk_at dksX1_alias_3 23 rfl rfl)
theorem dX1_alias_94 : decode cX1_alias 94 = .ok (.getfield 12, 3) := dk_180 0 12 (dk_at dksX1_alias_4 0 rfl rfl)
theorem dX1_alias_97 : decode cX1_alias 97 = .ok (.iload_n 1, 1) := dk_27 (dk_at dksX1_alias_4 3 rfl rfl)
theorem dX1_alias_98 : decode cX1_alias 98 = .ok (.invokevirtual 145, 3) := dk_182 0 145 (dk_at dksX1_alias_4 4 rfl rfl)
theorem dX1_alias_101 : decode cX1_alias 101 = .ok (.aload_n 0, 1) := dk_42 (dk_at dksX1_alias_4 7 rfl rfl)
theorem dX1_alias_102 : decode cX1_alias 102 = .ok (.getfield 12, 3) := dk_180 0 12 (dk_at dksX1_alias_4 8 rfl rfl)
theorem dX1_alias_105 : decode cX1_alias 105 = .ok (.new 149, 3) := dk_187 0 149 (dk_at dksX1_alias_4 11 rfl rfl)
theorem dX1_alias_108 : decode cX1_alias 108 = .ok (.dup, 1) := dk_89 (dk_at dksX1_alias_4 14 rfl rfl)
theorem dX1_alias_109 : decode cX1_alias 109 = .ok (.iload_n 1, 1) := dk_27 (dk_at dksX1_alias_4 15 rfl rfl)
theorem dX1_alias_110 : decode cX1_alias 110 = .ok (.aload_n 3, 1) := dk_45 (dk_at dksX1_alias_4 16 rfl rfl)
theorem dX1_alias_111 : decode cX1_alias 111 = .ok (.getfield 129, 3) := dk_180 0 129 (dk_at dksX1_alias_4 17 rfl rfl)
theorem dX1_alias_114 : decode cX1_alias 114 = .ok (.iload_n 2, 1) := dk_28 (dk_at dksX1_alias_4 20 rfl rfl)
theorem dX1_alias_115 : decode cX1_alias 115 = .ok (.invokespecial 151, 3) := dk_183 0 151 (dk_at dksX1_alias_4 21 rfl rfl)
theorem dX1_alias_118 : decode cX1_alias 118 = .ok (.invokevirtual 125, 3) := dk_182 0 125 (dk_at dksX1_alias_5 0 rfl rfl)
theorem dX1_alias_121 : decode cX1_alias 121 = .ok (.aload_n 3, 1) := dk_45 (dk_at dksX1_alias_5 3 rfl rfl)
theorem dX1_alias_122 : decode cX1_alias 122 = .ok (.getfield 129, 3) := dk_180 0 129 (dk_at dksX1_alias_5 4 rfl rfl)
theorem dX1_alias_125 : decode cX1_alias 125 = .ok (.getfield 133, 3) := dk_180 0 133 (dk_at dksX1_alias_5 7 rfl rfl)
theorem dX1_alias_128 : decode cX1_alias 128 = .ok (.ireturn, 1) := dk_172 (dk_at dksX1_alias_5 10 rfl rfl)
def dkwX1_make_1 : List UInt8 := [4, 46, 43, 5, 46, 182, 0, 166, 172]
abbrev dktX1_make_1 : List UInt8 := dkwX1_make_1 ++ []
def dkwX1_make_0 : List UInt8 := [43, 4, 46, 154, 0, 16, 42, 43, 3, 46, 43, 5, 46, 182, 0, 162, 167, 0, 16, 42, 43, 3, 46, 43]
abbrev dktX1_make_0 : List UInt8 := dkwX1_make_0 ++ dktX1_make_1
theorem dksX1_make_0 : cX1_make.data.toList.drop 0 = dktX1_make_0 := by decide +kernel
theorem dksX1_make_1 : cX1_make.data.toList.drop 24 = dktX1_make_1 := dk_seg dksX1_make_0 24 rfl rfl
theorem dX1_make_0 : decode cX1_make 0 = .ok (.aload_n 1, 1) := dk_43 (dk_at dksX1_make_0 0 rfl rfl)
theorem dX1_make_1 : decode cX1_make 1 = .ok (.iconst 1, 1) := dk_4 (dk_at dksX1_make_0 1 rfl rfl)
theorem dX1_make_2 : decode cX1_make 2 = .ok (.iaload, 1) := dk_46 (dk_at dksX1_make_0 2 rfl rfl)
theorem dX1_make_3 : decode cX1_make 3 = .ok (.ifCond .ne 16, 3) := dk_154 0 16 (dk_at dksX1_make_0 3 rfl rfl)
theorem dX1_make_6 : decode cX1_make 6 = .ok (.aload_n 0, 1) := dk_42 (dk_at dksX1_make_0 6 rfl rfl)
theorem dX1_make_7 : decode cX1_make 7 = .ok (.aload_n 1, 1) := dk_43 (dk_at dksX1_make_0 7 rfl rfl)
theorem dX1_make_8 : decode cX1_make 8 = .ok (.iconst 0, 1) := dk_3 (dk_at dksX1_make_0 8 rfl rfl)
theorem dX1_make_9 : decode cX1_make 9 = .ok (.iaload, 1) := dk_46 (dk_at dksX1_make_0 9 rfl rfl)
theorem dX1_make_10 : decode cX1_make 10 = .ok (.aload_n 1, 1) := dk_43 (dk_at dksX1_make_0 10 rfl rfl)
theorem dX1_make_11 : decode cX1_make 11 = .ok (.iconst 2, 1) := dk_5 (dk_at dksX1_make_0 11 rfl rfl)
theorem dX1_make_12 : decode cX1_make 12 = .ok (.iaload, 1) := dk_46 (dk_at dksX1_make_0 12 rfl rfl)
theorem dX1_make_13 : decode cX1_make 13 = .ok (.invokevirtual 162, 3) := dk_182 0 162 (dk_at dksX1_make_0 13 rfl rfl)
theorem dX1_make_16 : decode cX1_make 16 = .ok (.goto 16, 3) := dk_167 0 16 (dk_at dksX1_make_0 16 rfl rfl)
theorem dX1_make_19 : decode cX1_make 19 = .ok (.aload_n 0, 1) := dk_42 (dk_at dksX1_make_0 19 rfl rfl)
theorem dX1_make_20 : decode cX1_make 20 = .ok (.aload_n 1, 1) := dk_43 (dk_at dksX1_make_0 20 rfl rfl)
theorem dX1_make_21 : decode cX1_make 21 = .ok (.iconst 0, 1) := dk_3 (dk_at dksX1_make_0 21 rfl rfl)
theorem dX1_make_22 : decode cX1_make 22 = .ok (.iaload, 1) := dk_46 (dk_at dksX1_make_0 22 rfl rfl)
theorem dX1_make_23 : decode cX1_make 23 = .ok (.aload_n 1, 1) := dk_43 (dk_at dksX1_make_0 23 rfl rfl)
theorem dX1_make_24 : decode cX1_make 24 = .ok (.iconst 1, 1) := dk_4 (dk_at dksX1_make_1 0 rfl rfl)
theorem dX1_make_25 : decode cX1_make 25 = .ok (.iaload, 1) := dk_46 (dk_at dksX1_make_1 1 rfl rfl)
theorem dX1_make_26 : decode cX1_make 26 = .ok (.aload_n 1, 1) := dk_43 (dk_at dksX1_make_1 2 rfl rfl)
theorem dX1_make_27 : decode cX1_make 27 = .ok (.iconst 2, 1) := dk_5 (dk_at dksX1_make_1 3 rfl rfl)
theorem dX1_make_28 : decode cX1_make 28 = .ok (.iaload, 1) := dk_46 (dk_at dksX1_make_1 4 rfl rfl)
theorem dX1_make_29 : decode cX1_make 29 = .ok (.invokevirtual 166, 3) := dk_182 0 166 (dk_at dksX1_make_1 5 rfl rfl)
theorem dX1_make_32 : decode cX1_make 32 = .ok (.ireturn, 1) := dk_172 (dk_at dksX1_make_1 8 rfl rfl)
def dkwX1_units_2 : List UInt8 := [180, 0, 101, 167, 0, 4, 3, 96, 61, 167, 255, 214, 28, 172]
abbrev dktX1_units_2 : List UInt8 := dkwX1_units_2 ++ []
def dkwX1_units_1 : List UInt8 := [185, 0, 42, 1, 0, 192, 0, 46, 58, 4, 28, 42, 25, 4, 182, 0, 98, 27, 160, 0, 11, 25, 4]
abbrev dktX1_units_1 : List UInt8 := dkwX1_units_1 ++ dktX1_units_2
def dkwX1_units_0 : List UInt8 := [3, 61, 42, 180, 0, 21, 185, 0, 30, 1, 0, 78, 45, 185, 0, 36, 1, 0, 153, 0, 39, 45]
abbrev dktX1_units_0 : List UInt8 := dkwX1_units_0 ++ dktX1_units_1
theorem dksX1_units_0 : cX1_units.data.toList.drop 0 = dktX1_units_0 := by decide +kernel
theorem dksX1_units_1 : cX1_units.data.toList.drop 22 = dktX1_units_1 := dk_seg dksX1_units_0 22 rfl rfl
theorem dksX1_units_2 : cX1_units.data.toList.drop 45 = dktX1_units_2 := dk_seg dksX1_units_1 23 rfl rfl
theorem dX1_units_0 : decode cX1_units 0 = .ok (.iconst 0, 1) := dk_3 (dk_at dksX1_units_0 0 rfl rfl)
theorem dX1_units_1 : decode cX1_units 1 = .ok (.istore_n 2, 1) := dk_61 (dk_at dksX1_units_0 1 rfl rfl)
theorem dX1_units_2 : decode cX1_units 2 = .ok (.aload_n 0, 1) := dk_42 (dk_at dksX1_units_0 2 rfl rfl)
theorem dX1_units_3 : decode cX1_units 3 = .ok (.getfield 21, 3) := dk_180 0 21 (dk_at dksX1_units_0 3 rfl rfl)
theorem dX1_units_6 : decode cX1_units 6 = .ok (.invokeinterface 30 1, 5) := by decide +kernel
theorem dX1_units_11 : decode cX1_units 11 = .ok (.astore_n 3, 1) := dk_78 (dk_at dksX1_units_0 11 rfl rfl)
theorem dX1_units_12 : decode cX1_units 12 = .ok (.aload_n 3, 1) := dk_45 (dk_at dksX1_units_0 12 rfl rfl)
theorem dX1_units_13 : decode cX1_units 13 = .ok (.invokeinterface 36 1, 5) := by decide +kernel
theorem dX1_units_18 : decode cX1_units 18 = .ok (.ifCond .eq 39, 3) := dk_153 0 39 (dk_at dksX1_units_0 18 rfl rfl)
theorem dX1_units_21 : decode cX1_units 21 = .ok (.aload_n 3, 1) := dk_45 (dk_at dksX1_units_0 21 rfl rfl)
theorem dX1_units_22 : decode cX1_units 22 = .ok (.invokeinterface 42 1, 5) := by decide +kernel
theorem dX1_units_27 : decode cX1_units 27 = .ok (.checkcast 46, 3) := dk_192 0 46 (dk_at dksX1_units_1 5 rfl rfl)
theorem dX1_units_30 : decode cX1_units 30 = .ok (.astore 4, 2) := dk_58 4 (dk_at dksX1_units_1 8 rfl rfl)
theorem dX1_units_32 : decode cX1_units 32 = .ok (.iload_n 2, 1) := dk_28 (dk_at dksX1_units_1 10 rfl rfl)
theorem dX1_units_33 : decode cX1_units 33 = .ok (.aload_n 0, 1) := dk_42 (dk_at dksX1_units_1 11 rfl rfl)
theorem dX1_units_34 : decode cX1_units 34 = .ok (.aload 4, 2) := dk_25 4 (dk_at dksX1_units_1 12 rfl rfl)
theorem dX1_units_36 : decode cX1_units 36 = .ok (.invokevirtual 98, 3) := dk_182 0 98 (dk_at dksX1_units_1 14 rfl rfl)
theorem dX1_units_39 : decode cX1_units 39 = .ok (.iload_n 1, 1) := dk_27 (dk_at dksX1_units_1 17 rfl rfl)
theorem dX1_units_40 : decode cX1_units 40 = .ok (.if_icmp .ne 11, 3) := dk_160 0 11 (dk_at dksX1_units_1 18 rfl rfl)
theorem dX1_units_43 : decode cX1_units 43 = .ok (.aload 4, 2) := dk_25 4 (dk_at dksX1_units_1 21 rfl rfl)
theorem dX1_units_45 : decode cX1_units 45 = .ok (.getfield 101, 3) := dk_180 0 101 (dk_at dksX1_units_2 0 rfl rfl)
theorem dX1_units_48 : decode cX1_units 48 = .ok (.goto 4, 3) := dk_167 0 4 (dk_at dksX1_units_2 3 rfl rfl)
theorem dX1_units_51 : decode cX1_units 51 = .ok (.iconst 0, 1) := dk_3 (dk_at dksX1_units_2 6 rfl rfl)
theorem dX1_units_52 : decode cX1_units 52 = .ok (.iadd, 1) := dk_96 (dk_at dksX1_units_2 7 rfl rfl)
theorem dX1_units_53 : decode cX1_units 53 = .ok (.istore_n 2, 1) := dk_61 (dk_at dksX1_units_2 8 rfl rfl)
theorem dX1_units_54 : decode cX1_units 54 = .ok (.goto (-42), 3) := dk_167 255 214 (dk_at dksX1_units_2 9 rfl rfl)
theorem dX1_units_57 : decode cX1_units 57 = .ok (.iload_n 2, 1) := dk_28 (dk_at dksX1_units_2 12 rfl rfl)
theorem dX1_units_58 : decode cX1_units 58 = .ok (.ireturn, 1) := dk_172 (dk_at dksX1_units_2 13 rfl rfl)
def dkwX1_isDead_0 : List UInt8 := [42, 180, 0, 12, 43, 182, 0, 94, 154, 0, 7, 4, 167, 0, 4, 3, 172]
abbrev dktX1_isDead_0 : List UInt8 := dkwX1_isDead_0 ++ []
theorem dksX1_isDead_0 : cX1_isDead.data.toList.drop 0 = dktX1_isDead_0 := by decide +kernel
theorem dX1_isDead_0 : decode cX1_isDead 0 = .ok (.aload_n 0, 1) := dk_42 (dk_at dksX1_isDead_0 0 rfl rfl)
theorem dX1_isDead_1 : decode cX1_isDead 1 = .ok (.getfield 12, 3) := dk_180 0 12 (dk_at dksX1_isDead_0 1 rfl rfl)
theorem dX1_isDead_4 : decode cX1_isDead 4 = .ok (.aload_n 1, 1) := dk_43 (dk_at dksX1_isDead_0 4 rfl rfl)
theorem dX1_isDead_5 : decode cX1_isDead 5 = .ok (.invokevirtual 94, 3) := dk_182 0 94 (dk_at dksX1_isDead_0 5 rfl rfl)
theorem dX1_isDead_8 : decode cX1_isDead 8 = .ok (.ifCond .ne 7, 3) := dk_154 0 7 (dk_at dksX1_isDead_0 8 rfl rfl)
theorem dX1_isDead_11 : decode cX1_isDead 11 = .ok (.iconst 1, 1) := dk_4 (dk_at dksX1_isDead_0 11 rfl rfl)
theorem dX1_isDead_12 : decode cX1_isDead 12 = .ok (.goto 4, 3) := dk_167 0 4 (dk_at dksX1_isDead_0 12 rfl rfl)
theorem dX1_isDead_15 : decode cX1_isDead 15 = .ok (.iconst 0, 1) := dk_3 (dk_at dksX1_isDead_0 15 rfl rfl)
theorem dX1_isDead_16 : decode cX1_isDead 16 = .ok (.ireturn, 1) := dk_172 (dk_at dksX1_isDead_0 16 rfl rfl)
def dkwX1_squeeze_9 : List UInt8 := [96, 181, 0, 59, 27, 42, 182, 0, 104, 100, 172]
abbrev dktX1_squeeze_9 : List UInt8 := dkwX1_squeeze_9 ++ []
def dkwX1_squeeze_8 : List UInt8 := [167, 255, 154, 42, 89, 180, 0, 55, 4, 96, 181, 0, 55, 42, 89, 180, 0, 59, 27, 42, 182, 0, 104, 100]
abbrev dktX1_squeeze_8 : List UInt8 := dkwX1_squeeze_8 ++ dktX1_squeeze_9
def dkwX1_squeeze_7 : List UInt8 := [180, 0, 129, 25, 4, 166, 0, 8, 25, 5, 167, 0, 8, 25, 7, 180, 0, 129, 181, 0, 129, 167, 255, 209]
abbrev dktX1_squeeze_7 : List UInt8 := dkwX1_squeeze_7 ++ dktX1_squeeze_8
def dkwX1_squeeze_6 : List UInt8 := [185, 0, 36, 1, 0, 153, 0, 43, 25, 6, 185, 0, 42, 1, 0, 192, 0, 73, 58, 7, 25, 7, 25, 7]
abbrev dktX1_squeeze_6 : List UInt8 := dkwX1_squeeze_6 ++ dktX1_squeeze_7
def dkwX1_squeeze_5 : List UInt8 := [180, 0, 21, 25, 5, 185, 0, 48, 2, 0, 87, 42, 180, 0, 12, 182, 0, 157, 58, 6, 25, 6]
abbrev dktX1_squeeze_5 : List UInt8 := dkwX1_squeeze_5 ++ dktX1_squeeze_6
def dkwX1_squeeze_4 : List UInt8 := [185, 0, 42, 1, 0, 192, 0, 46, 58, 4, 25, 4, 42, 182, 0, 104, 182, 0, 172, 58, 5, 42]
abbrev dktX1_squeeze_4 : List UInt8 := dkwX1_squeeze_4 ++ dktX1_squeeze_5
def dkwX1_squeeze_3 : List UInt8 := [185, 0, 169, 1, 0, 44, 185, 0, 30, 1, 0, 78, 45, 185, 0, 36, 1, 0, 153, 0, 99, 45]
abbrev dktX1_squeeze_3 : List UInt8 := dkwX1_squeeze_3 ++ dktX1_squeeze_4
def dkwX1_squeeze_2 : List UInt8 := [182, 0, 98, 154, 0, 12, 44, 25, 4, 185, 0, 48, 2, 0, 87, 167, 255, 218, 42, 180, 0, 21]
abbrev dktX1_squeeze_2 : List UInt8 := dkwX1_squeeze_2 ++ dktX1_squeeze_3
def dkwX1_squeeze_1 : List UInt8 := [185, 0, 36, 1, 0, 153, 0, 35, 45, 185, 0, 42, 1, 0, 192, 0, 46, 58, 4, 42, 25, 4]
abbrev dktX1_squeeze_1 : List UInt8 := dkwX1_squeeze_1 ++ dktX1_squeeze_2
def dkwX1_squeeze_0 : List UInt8 := [42, 182, 0, 104, 60, 187, 0, 18, 89, 183, 0, 20, 77, 42, 180, 0, 21, 185, 0, 30, 1, 0, 78, 45]
abbrev dktX1_squeeze_0 : List UInt8 := dkwX1_squeeze_0 ++ dktX1_squeeze_1
theorem dksX1_squeeze_0 : cX1_squeeze.data.toList.drop 0 = dktX1_squeeze_0 := by decide +kernel
theorem dksX1_squeeze_1 : cX1_squeeze.data.toList.drop 24 = dktX1_squeeze_1 := dk_seg dksX1_squeeze_0 24 rfl rfl
theorem dksX1_squeeze_2 : cX1_squeeze.data.toList.drop 46 = dktX1_squeeze_2 := dk_seg dksX1_squeeze_1 22 rfl rfl
theorem dksX1_squeeze_3 : cX1_squeeze.data.toList.drop 68 = dktX1_squeeze_3 := dk_seg dksX1_squeeze_2 22 rfl rfl
theorem dksX1_squeeze_4 : cX1_squeeze.data.toList.drop 90 = dktX1_squeeze_4 := dk_seg dksX1_squeeze_3 22 rfl rfl
theorem dksX1_squeeze_5 : cX1_squeeze.data.toList.drop 112 = dktX1_squeeze_5 := dk_seg dksX1_squeeze_4 22 rfl rfl
theorem dksX1_squeeze_6 : cX1_squeeze.data.toList.drop 134 = dktX1_squeeze_6 := dk_seg dksX1_squeeze_5 22 rfl rfl
theorem dksX1_squeeze_7 : cX1_squeeze.data.toList.drop 158 = dktX1_squeeze_7 := dk_seg dksX1_squeeze_6 24 rfl rfl
theorem dksX1_squeeze_8 : cX1_squeeze.data.toList.drop 182 = dktX1_squeeze_8 := dk_seg dksX1_squeeze_7 24 rfl rfl
theorem dksX1_squeeze_9 : cX1_squeeze.data.toList.drop 206 = dktX1_squeeze_9 := dk_seg dksX1_squeeze_8 24 rfl rfl
theorem dX1_squeeze_0 : decode cX1_squeeze 0 = .ok (.aload_n 0, 1) := dk_42 (dk_at dksX1_squeeze_0 0 rfl rfl)
theorem dX1_squeeze_1 : decode cX1_squeeze 1 = .ok (.invokevirtual 104, 3) := dk_182 0 104 (dk_at dksX1_squeeze_0 1 rfl rfl)
theorem dX1_squeeze_4 : decode cX1_squeeze 4 = .ok (.istore_n 1, 1) := dk_60 (dk_at dksX1_squeeze_0 4 rfl rfl)
theorem dX1_squeeze_5 : decode cX1_squeeze 5 = .ok (.new 18, 3) := dk_187 0 18 (dk_at dksX1_squeeze_0 5 rfl rfl)
theorem dX1_squeeze_8 : decode cX1_squeeze 8 = .ok (.dup, 1) := dk_89 (dk_at dksX1_squeeze_0 8 rfl rfl)
theorem dX1_squeeze_9 : decode cX1_squeeze 9 = .ok (.invokespecial 20, 3) := dk_183 0 20 (dk_at dksX1_squeeze_0 9 rfl rfl)
theorem dX1_squeeze_12 : decode cX1_squeeze 12 = .ok (.astore_n 2, 1) := dk_77 (dk_at dksX1_squeeze_0 12 rfl rfl)
theorem dX1_squeeze_13 : decode cX1_squeeze 13 = .ok (.aload_n 0, 1) := dk_42 (dk_at dksX1_squeeze_0 13 rfl rfl)
theorem dX1_squeeze_14 : decode cX1_squeeze 14 = .ok (.getfield 21, 3) := dk_180 0 21 (dk_at dksX1_squeeze_0 14 rfl rfl)
theorem dX1_squeeze_17 : decode cX1_squeeze 17 = .ok (.invokeinterface 30 1, 5) := by decide +kernel
theorem dX1_squeeze_22 : decode cX1_squeeze 22 = .ok (.astore_n 3, 1) := dk_78 (dk_at dksX1_squeeze_0 22 rfl rfl)
theorem dX1_squeeze_23 : decode cX1_squeeze 23 = .ok (.aload_n 3, 1) := dk_45 (dk_at dksX1_squeeze_0 23 rfl rfl)
theorem dX1_squeeze_24 : decode cX1_squeeze 24 = .ok (.invokeinterface 36 1, 5) := by decide +kernel
theorem dX1_squeeze_29 : decode cX1_squeeze 29 = .ok (.ifCond .eq 35, 3) := dk_153 0 35 (dk_at dksX1_squeeze_1 5 rfl rfl)
theorem dX1_squeeze_32 : decode cX1_squeeze 32 = .ok (.aload_n 3, 1) := dk_45 (dk_at dksX1_squeeze_1 8 rfl rfl)
theorem dX1_squeeze_33 : decode cX1_squeeze 33 = .ok (.invokeinterface 42 1, 5) := by decide +kernel
theorem dX1_squeeze_38 : decode cX1_squeeze 38 = .ok (.checkcast 46, 3) := dk_192 0 46 (dk_at dksX1_squeeze_1 14 rfl rfl)
theorem dX1_squeeze_41 : decode cX1_squeeze 41 = .ok (.astore 4, 2) := dk_58 4 (dk_at dksX1_squeeze_1 17 rfl rfl)
theorem dX1_squeeze_43 : decode cX1_squeeze 43 = .ok (.aload_n 0, 1) := dk_42 (dk_at dksX1_squeeze_1 19 rfl rfl)
theorem dX1_squeeze_44 : decode cX1_squeeze 44 = .ok (.aload 4, 2) := dk_25 4 (dk_at dksX1_squeeze_1 20 rfl rfl)
theorem dX1_squeeze_46 : decode cX1_squeeze 46 = .ok (.invokevirtual 98, 3) := dk_182 0 98 (dk_at dksX1_squeeze_2 0 rfl rfl)
theorem dX1_squeeze_49 : decode cX1_squeeze 49 = .ok (.ifCond .ne 12, 3) := dk_154 0 12 (dk_at dksX1_squeeze_2 3 rfl rfl)
theorem dX1_squeeze_52 : decode cX1_squeeze 52 = .ok (.aload_n 2, 1) := dk_44 (dk_at dksX1_squeeze_2 6 rfl rfl)
theorem dX1_squeeze_53 : decode cX1_squeeze 53 = .ok (.aload 4, 2) := dk_25 4 (dk_at dksX1_squeeze_2 7 rfl rfl)
theorem dX1_squeeze_55 : decode cX1_squeeze 55 = .ok (.invokeinterface 48 2, 5) := by decide +kernel
theorem dX1_squeeze_60 : decode cX1_squeeze 60 = .ok (.pop, 1) := dk_87 (dk_at dksX1_squeeze_2 14 rfl rfl)
theorem dX1_squeeze_61 : decode cX1_squeeze 61 = .ok (.goto (-38), 3) := dk_167 255 218 (dk_at dksX1_squeeze_2 15 rfl rfl)
theorem dX1_squeeze_64 : decode cX1_squeeze 64 = .ok (.aload_n 0, 1) := dk_42 (dk_at dksX1_squeeze_2 18 rfl rfl)
theorem dX1_squeeze_65 : decode cX1_squeeze 65 = .ok (.getfield 21, 3) := dk_180 0 21 (dk_at dksX1_squeeze_2 19 rfl rfl)
theorem dX1_squeeze_68 : decode cX1_squeeze 68 = .ok (.invokeinterface 169 1, 5) := by decide +kernel
theorem dX1_squeeze_73 : decode cX1_squeeze 73 = .ok (.aload_n 2, 1) := dk_44 (dk_at dksX1_squeeze_3 5 rfl rfl)
theorem dX1_squeeze_74 : decode cX1_squeeze 74 = .ok (.invokeinterface 30 1, 5) := by decide +kernel
theorem dX1_squeeze_79 : decode cX1_squeeze 79 = .ok (.astore_n 3, 1) := dk_78 (dk_at dksX1_squeeze_3 11 rfl rfl)
theorem dX1_squeeze_80 : decode cX1_squeeze 80 = .ok (.aload_n 3, 1) := dk_45 (dk_at dksX1_squeeze_3 12 rfl rfl)
theorem dX1_squeeze_81 : decode cX1_squeeze 81 = .ok (.invokeinterface 36 1, 5) := by decide +kernel
theorem dX1_squeeze_86 : decode cX1_squeeze 86 = .ok (.ifCond .eq 99, 3) := dk_153 0 99 (dk_at dksX1_squeeze_3 18 rfl rfl)
theorem dX1_squeeze_89 : decode cX1_squeeze 89 = .ok (.aload_n 3, 1) := dk_45 (dk_at dksX1_squeeze_3 21 rfl rfl)
theorem dX1_squeeze_90 : decode cX1_squeeze 90 = .ok (.invokeinterface 42 1, 5) := by decide +kernel
theorem dX1_squeeze_95 : decode cX1_squeeze 95 = .ok (.checkcast 46, 3) := dk_192 0 46 (dk_at dksX1_squeeze_4 5 rfl rfl)
theorem dX1_squeeze_98 : decode cX1_squeeze 98 = .ok (.astore 4, 2) := dk_58 4 (dk_at dksX1_squeeze_4 8 rfl rfl)
theorem dX1_squeeze_100 : decode cX1_squeeze 100 = .ok (.aload 4, 2) := dk_25 4 (dk_at dksX1_squeeze_4 10 rfl rfl)
theorem dX1_squeeze_102 : decode cX1_squeeze 102 = .ok (.aload_n 0, 1) := dk_42 (dk_at dksX1_squeeze_4 12 rfl rfl)
theorem dX1_squeeze_103 : decode cX1_squeeze 103 = .ok (.invokevirtual 104, 3) := dk_182 0 104 (dk_at dksX1_squeeze_4 13 rfl rfl)
theorem dX1_squeeze_106 : decode cX1_squeeze 106 = .ok (.invokevirtual 172, 3) := dk_182 0 172 (dk_at dksX1_squeeze_4 16 rfl rfl)
theorem dX1_squeeze_109 : decode cX1_squeeze 109 = .ok (.astore 5, 2) := dk_58 5 (dk_at dksX1_squeeze_4 19 rfl rfl)
theorem dX1_squeeze_111 : decode cX1_squeeze 111 = .ok (.aload_n 0, 1) := dk_42 (dk_at dksX1_squeeze_4 21 rfl rfl)
theorem dX1_squeeze_112 : decode cX1_squeeze 112 = .ok (.getfield 21, 3) := dk_180 0 21 (dk_at dksX1_squeeze_5 0 rfl rfl)
theorem dX1_squeeze_115 : decode cX1_squeeze 115 = .ok (.aload 5, 2) := dk_25 5 (dk_at dksX1_squeeze_5 3 rfl rfl)
theorem dX1_squeeze_117 : decode cX1_squeeze 117 = .ok (.invokeinterface 48 2, 5) := by decide +kernel
theorem dX1_squeeze_122 : decode cX1_squeeze 122 = .ok (.pop, 1) := dk_87 (dk_at dksX1_squeeze_5 10 rfl rfl)
theorem dX1_squeeze_123 : decode cX1_squeeze 123 = .ok (.aload_n 0, 1) := dk_42 (dk_at dksX1_squeeze_5 11 rfl rfl)
theorem dX1_squeeze_124 : decode cX1_squeeze 124 = .ok (.getfield 12, 3) := dk_180 0 12 (dk_at dksX1_squeeze_5 12 rfl rfl)
theorem dX1_squeeze_127 : decode cX1_squeeze 127 = .ok (.invokevirtual 157, 3) := dk_182 0 157 (dk_at dksX1_squeeze_5 15 rfl rfl)
theorem dX1_squeeze_130 : decode cX1_squeeze 130 = .ok (.astore 6, 2) := dk_58 6 (dk_at dksX1_squeeze_5 18 rfl rfl)
theorem dX1_squeeze_132 : decode cX1_squeeze 132 = .ok (.aload 6, 2) := dk_25 6 (dk_at dksX1_squeeze_5 20 rfl rfl)
theorem dX1_squeeze_134 : decode cX1_squeeze 134 = .ok (.invokeinterface 36 1, 5) := by decide +kernel
theorem dX1_squeeze_139 : decode cX1_squeeze 139 = .ok (.ifCond .eq 43, 3) := dk_153 0 43 (dk_at dksX1_squeeze_6 5 rfl rfl)
theorem dX1_squeeze_142 : decode cX1_squeeze 142 = .ok (.aload 6, 2) := dk_25 6 (dk_at dksX1_squeeze_6 8 rfl rfl)
theorem dX1_squeeze_144 : decode cX1_squeeze 144 = .ok (.invokeinterface 42 1, 5) := by decide +kernel
theorem dX1_squeeze_149 : decode cX1_squeeze 149 = .ok (.checkcast 73, 3) := dk_192 0 73 (dk_at dksX1_squeeze_6 15 rfl rfl)
theorem dX1_squeeze_152 : decode cX1_squeeze 152 = .ok (.astore 7, 2) := dk_58 7 (dk_at dksX1_squeeze_6 18 rfl rfl)
theorem dX1_squeeze_154 : decode cX1_squeeze 154 = .ok (.aload 7, 2) := dk_25 7 (dk_at dksX1_squeeze_6 20 rfl rfl)
theorem dX1_squeeze_156 : decode cX1_squeeze 156 = .ok (.aload 7, 2) := dk_25 7 (dk_at dksX1_squeeze_6 22 rfl rfl)
theorem dX1_squeeze_158 : decode cX1_squeeze 158 = .ok (.getfield 129, 3) := dk_180 0 129 (dk_at dksX1_squeeze_7 0 rfl rfl)
theorem dX1_squeeze_161 : decode cX1_squeeze 161 = .ok (.aload 4, 2) := dk_25 4 (dk_at dksX1_squeeze_7 3 rfl rfl)
theorem dX1_squeeze_163 : decode cX1_squeeze 163 = .ok (.if_acmp .ne 8, 3) := dk_166 0 8 (dk_at dksX1_squeeze_7 5 rfl rfl)
theorem dX1_squeeze_166 : decode cX1_squeeze 166 = .ok (.aload 5, 2) := dk_25 5 (dk_at dksX1_squeeze_7 8 rfl rfl)
theorem dX1_squeeze_168 : decode cX1_squeeze 168 = .ok (.goto 8, 3) := dk_167 0 8 (dk_at dksX1_squeeze_7 10 rfl rfl)
theorem dX1_squeeze_171 : decode cX1_squeeze 171 = .ok (.aload 7, 2) := dk_25 7 (dk_at dksX1_squeeze_7 13 rfl rfl)
theorem dX1_squeeze_173 : decode cX1_squeeze 173 = .ok (.getfield 129, 3) := dk_180 0 129 (dk_at dksX1_squeeze_7 15 rfl rfl)
theorem dX1_squeeze_176 : decode cX1_squeeze 176 = .ok (.putfield 129, 3) := dk_181 0 129 (dk_at dksX1_squeeze_7 18 rfl rfl)
theorem dX1_squeeze_179 : decode cX1_squeeze 179 = .ok (.goto (-47), 3) := dk_167 255 209 (dk_at dksX1_squeeze_7 21 rfl rfl)
theorem dX1_squeeze_182 : decode cX1_squeeze 182 = .ok (.goto (-102), 3) := dk_167 255 154 (dk_at dksX1_squeeze_8 0 rfl rfl)
theorem dX1_squeeze_185 : decode cX1_squeeze 185 = .ok (.aload_n 0, 1) := dk_42 (dk_at dksX1_squeeze_8 3 rfl rfl)
theorem dX1_squeeze_186 : decode cX1_squeeze 186 = .ok (.dup, 1) := dk_89 (dk_at dksX1_squeeze_8 4 rfl rfl)
theorem dX1_squeeze_187 : decode cX1_squeeze 187 = .ok (.getfield 55, 3) := dk_180 0 55 (dk_at dksX1_squeeze_8 5 rfl rfl)
theorem dX1_squeeze_190 : decode cX1_squeeze 190 = .ok (.iconst 1, 1) := dk_4 (dk_at dksX1_squeeze_8 8 rfl rfl)
theorem dX1_squeeze_191 : decode cX1_squeeze 191 = .ok (.iadd, 1) := dk_96 (dk_at dksX1_squeeze_8 9 rfl rfl)
theorem dX1_squeeze_192 : decode cX1_squeeze 192 = .ok (.putfield 55, 3) := dk_181 0 55 (dk_at dksX1_squeeze_8 10 rfl rfl)
theorem dX1_squeeze_195 : decode cX1_squeeze 195 = .ok (.aload_n 0, 1) := dk_42 (dk_at dksX1_squeeze_8 13 rfl rfl)
theorem dX1_squeeze_196 : decode cX1_squeeze 196 = .ok (.dup, 1) := dk_89 (dk_at dksX1_squeeze_8 14 rfl rfl)
theorem dX1_squeeze_197 : decode cX1_squeeze 197 = .ok (.getfield 59, 3) := dk_180 0 59 (dk_at dksX1_squeeze_8 15 rfl rfl)
theorem dX1_squeeze_200 : decode cX1_squeeze 200 = .ok (.iload_n 1, 1) := dk_27 (dk_at dksX1_squeeze_8 18 rfl rfl)
theorem dX1_squeeze_201 : decode cX1_squeeze 201 = .ok (.aload_n 0, 1) := dk_42 (dk_at dksX1_squeeze_8 19 rfl rfl)
theorem dX1_squeeze_202 : decode cX1_squeeze 202 = .ok (.invokevirtual 104, 3) := dk_182 0 104 (dk_at dksX1_squeeze_8 20 rfl rfl)
theorem dX1_squeeze_205 : decode cX1_squeeze 205 = .ok (.isub, 1) := dk_100 (dk_at dksX1_squeeze_8 23 rfl rfl)
theorem dX1_squeeze_206 : decode cX1_squeeze 206 = .ok (.iadd, 1) := dk_96 (dk_at dksX1_squeeze_9 0 rfl rfl)
theorem dX1_squeeze_207 : decode cX1_squeeze 207 = .ok (.putfield 59, 3) := dk_181 0 59 (dk_at dksX1_squeeze_9 1 rfl rfl)
theorem dX1_squeeze_210 : decode cX1_squeeze 210 = .ok (.iload_n 1, 1) := dk_27 (dk_at dksX1_squeeze_9 4 rfl rfl)
theorem dX1_squeeze_211 : decode cX1_squeeze 211 = .ok (.aload_n 0, 1) := dk_42 (dk_at dksX1_squeeze_9 5 rfl rfl)
theorem dX1_squeeze_212 : decode cX1_squeeze 212 = .ok (.invokevirtual 104, 3) := dk_182 0 104 (dk_at dksX1_squeeze_9 6 rfl rfl)
theorem dX1_squeeze_215 : decode cX1_squeeze 215 = .ok (.isub, 1) := dk_100 (dk_at dksX1_squeeze_9 9 rfl rfl)
theorem dX1_squeeze_216 : decode cX1_squeeze 216 = .ok (.ireturn, 1) := dk_172 (dk_at dksX1_squeeze_9 10 rfl rfl)
