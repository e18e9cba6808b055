set_option maxRecDepth 100000
def dkwX10_iterator_1 : List UInt8 := [180, 0, 15, 104, 7, 96, 184, 0, 31, 182, 0, 37, 176]
abbrev dktX10_iterator_1 : List UInt8 := dkwX10_iterator_1 ++ []
def dkwX10_iterator_0 : List UInt8 := [42, 180, 0, 3, 7, 42, 180, 0, 15, 104, 42, 180, 0, 3, 180, 0, 19, 185, 0, 25, 1, 0, 7, 42]
abbrev dktX10_iterator_0 : List UInt8 := dkwX10_iterator_0 ++ dktX10_iterator_1
theorem dksX10_iterator_0 : cX10_iterator.data.toList.drop 0 = dktX10_iterator_0 := by decide +kernel
theorem dksX10_iterator_1 : cX10_iterator.data.toList.drop 24 = dktX10_iterator_1 := dk_seg dksX10_iterator_0 24 rfl rfl
theorem dX10_iterator_0 : decode cX10_iterator 0 = .ok (.aload_n 0, 1) := dk_42 (dk_at dksX10_iterator_0 0 rfl rfl)
theorem dX10_iterator_1 : decode cX10_iterator 1 = .ok (.getfield 3, 3) := dk_180 0 3 (dk_at dksX10_iterator_0 1 rfl rfl)
theorem dX10_iterator_4 : decode cX10_iterator 4 = .ok (.iconst 4, 1) := dk_7 (dk_at dksX10_iterator_0 4 rfl rfl)
theorem dX10_iterator_5 : decode cX10_iterator 5 = .ok (.aload_n 0, 1) := dk_42 (dk_at dksX10_iterator_0 5 rfl rfl)
theorem dX10_iterator_6 : decode cX10_iterator 6 = .ok (.getfield 15, 3) := dk_180 0 15 (dk_at dksX10_iterator_0 6 rfl rfl)
theorem dX10_iterator_9 : decode cX10_iterator 9 = .ok (.imul, 1) := dk_104 (dk_at dksX10_iterator_0 9 rfl rfl)
theorem dX10_iterator_10 : decode cX10_iterator 10 = .ok (.aload_n 0, 1) := dk_42 (dk_at dksX10_iterator_0 10 rfl rfl)
theorem dX10_iterator_11 : decode cX10_iterator 11 = .ok (.getfield 3, 3) := dk_180 0 3 (dk_at dksX10_iterator_0 11 rfl rfl)
theorem dX10_iterator_14 : decode cX10_iterator 14 = .ok (.getfield 19, 3) := dk_180 0 19 (dk_at dksX10_iterator_0 14 rfl rfl)
theorem dX10_iterator_17 : decode cX10_iterator 17 = .ok (.invokeinterface 25 1, 5) := by decide +kernel
theorem dX10_iterator_22 : decode cX10_iterator 22 = .ok (.iconst 4, 1) := dk_7 (dk_at dksX10_iterator_0 22 rfl rfl)
theorem dX10_iterator_23 : decode cX10_iterator 23 = .ok (.aload_n 0, 1) := dk_42 (dk_at dksX10_iterator_0 23 rfl rfl)
theorem dX10_iterator_24 : decode cX10_iterator 24 = .ok (.getfield 15, 3) := dk_180 0 15 (dk_at dksX10_iterator_1 0 rfl rfl)
theorem dX10_iterator_27 : decode cX10_iterator 27 = .ok (.imul, 1) := dk_104 (dk_at dksX10_iterator_1 3 rfl rfl)
theorem dX10_iterator_28 : decode cX10_iterator 28 = .ok (.iconst 4, 1) := dk_7 (dk_at dksX10_iterator_1 4 rfl rfl)
theorem dX10_iterator_29 : decode cX10_iterator 29 = .ok (.iadd, 1) := dk_96 (dk_at dksX10_iterator_1 5 rfl rfl)
theorem dX10_iterator_30 : decode cX10_iterator 30 = .ok (.invokestatic 31, 3) := dk_184 0 31 (dk_at dksX10_iterator_1 6 rfl rfl)
theorem dX10_iterator_33 : decode cX10_iterator 33 = .ok (.invokevirtual 37, 3) := dk_182 0 37 (dk_at dksX10_iterator_1 9 rfl rfl)
theorem dX10_iterator_36 : decode cX10_iterator 36 = .ok (.areturn, 1) := dk_176 (dk_at dksX10_iterator_1 12 rfl rfl)
def dkwX10_init_0 : List UInt8 := [42, 43, 181, 0, 3, 42, 183, 0, 9, 42, 28, 181, 0, 15, 177]
abbrev dktX10_init_0 : List UInt8 := dkwX10_init_0 ++ []
theorem dksX10_init_0 : cX10_init.data.toList.drop 0 = dktX10_init_0 := by decide +kernel
theorem dX10_init_0 : decode cX10_init 0 = .ok (.aload_n 0, 1) := dk_42 (dk_at dksX10_init_0 0 rfl rfl)
theorem dX10_init_1 : decode cX10_init 1 = .ok (.aload_n 1, 1) := dk_43 (dk_at dksX10_init_0 1 rfl rfl)
theorem dX10_init_2 : decode cX10_init 2 = .ok (.putfield 3, 3) := dk_181 0 3 (dk_at dksX10_init_0 2 rfl rfl)
theorem dX10_init_5 : decode cX10_init 5 = .ok (.aload_n 0, 1) := dk_42 (dk_at dksX10_init_0 5 rfl rfl)
theorem dX10_init_6 : decode cX10_init 6 = .ok (.invokespecial 9, 3) := dk_183 0 9 (dk_at dksX10_init_0 6 rfl rfl)
theorem dX10_init_9 : decode cX10_init 9 = .ok (.aload_n 0, 1) := dk_42 (dk_at dksX10_init_0 9 rfl rfl)
theorem dX10_init_10 : decode cX10_init 10 = .ok (.iload_n 2, 1) := dk_28 (dk_at dksX10_init_0 10 rfl rfl)
theorem dX10_init_11 : decode cX10_init 11 = .ok (.putfield 15, 3) := dk_181 0 15 (dk_at dksX10_init_0 11 rfl rfl)
theorem dX10_init_14 : decode cX10_init 14 = .ok (.return_, 1) := dk_177 (dk_at dksX10_init_0 14 rfl rfl)
def dkwX11_count_1 : List UInt8 := [185, 0, 15, 1, 0, 87, 167, 255, 237, 27, 172]
abbrev dktX11_count_1 : List UInt8 := dkwX11_count_1 ++ []
def dkwX11_count_0 : List UInt8 := [3, 60, 42, 185, 0, 3, 1, 0, 77, 44, 185, 0, 9, 1, 0, 153, 0, 16, 132, 1, 1, 44]
abbrev dktX11_count_0 : List UInt8 := dkwX11_count_0 ++ dktX11_count_1
theorem dksX11_count_0 : cX11_count.data.toList.drop 0 = dktX11_count_0 := by decide +kernel
theorem dksX11_count_1 : cX11_count.data.toList.drop 22 = dktX11_count_1 := dk_seg dksX11_count_0 22 rfl rfl
theorem dX11_count_0 : decode cX11_count 0 = .ok (.iconst 0, 1) := dk_3 (dk_at dksX11_count_0 0 rfl rfl)
theorem dX11_count_1 : decode cX11_count 1 = .ok (.istore_n 1, 1) := dk_60 (dk_at dksX11_count_0 1 rfl rfl)
theorem dX11_count_2 : decode cX11_count 2 = .ok (.aload_n 0, 1) := dk_42 (dk_at dksX11_count_0 2 rfl rfl)
theorem dX11_count_3 : decode cX11_count 3 = .ok (.invokeinterface 3 1, 5) := by decide +kernel
theorem dX11_count_8 : decode cX11_count 8 = .ok (.astore_n 2, 1) := dk_77 (dk_at dksX11_count_0 8 rfl rfl)
theorem dX11_count_9 : decode cX11_count 9 = .ok (.aload_n 2, 1) := dk_44 (dk_at dksX11_count_0 9 rfl rfl)
theorem dX11_count_10 : decode cX11_count 10 = .ok (.invokeinterface 9 1, 5) := by decide +kernel
theorem dX11_count_15 : decode cX11_count 15 = .ok (.ifCond .eq 16, 3) := dk_153 0 16 (dk_at dksX11_count_0 15 rfl rfl)
theorem dX11_count_18 : decode cX11_count 18 = .ok (.iinc 1 1, 3) := dk_132 1 1 (dk_at dksX11_count_0 18 rfl rfl)
theorem dX11_count_21 : decode cX11_count 21 = .ok (.aload_n 2, 1) := dk_44 (dk_at dksX11_count_0 21 rfl rfl)
theorem dX11_count_22 : decode cX11_count 22 = .ok (.invokeinterface 15 1, 5) := by decide +kernel
theorem dX11_count_27 : decode cX11_count 27 = .ok (.pop, 1) := dk_87 (dk_at dksX11_count_1 5 rfl rfl)
theorem dX11_count_28 : decode cX11_count 28 = .ok (.goto (-19), 3) := dk_167 255 237 (dk_at dksX11_count_1 6 rfl rfl)
theorem dX11_count_31 : decode cX11_count 31 = .ok (.iload_n 1, 1) := dk_27 (dk_at dksX11_count_1 9 rfl rfl)
theorem dX11_count_32 : decode cX11_count 32 = .ok (.ireturn, 1) := dk_172 (dk_at dksX11_count_1 10 rfl rfl)
def dkwX11_first_1 : List UInt8 := [192, 0, 19, 180, 0, 21, 167, 0, 5, 16, 251, 172]
abbrev dktX11_first_1 : List UInt8 := dkwX11_first_1 ++ []
def dkwX11_first_0 : List UInt8 := [42, 185, 0, 3, 1, 0, 76, 43, 185, 0, 9, 1, 0, 153, 0, 18, 43, 185, 0, 15, 1, 0]
abbrev dktX11_first_0 : List UInt8 := dkwX11_first_0 ++ dktX11_first_1
theorem dksX11_first_0 : cX11_first.data.toList.drop 0 = dktX11_first_0 := by decide +kernel
theorem dksX11_first_1 : cX11_first.data.toList.drop 22 = dktX11_first_1 := dk_seg dksX11_first_0 22 rfl rfl
theorem dX11_first_0 : decode cX11_first 0 = .ok (.aload_n 0, 1) := dk_42 (dk_at dksX11_first_0 0 rfl rfl)
theorem dX11_first_1 : decode cX11_first 1 = .ok (.invokeinterface 3 1, 5) := by decide +kernel
theorem dX11_first_6 : decode cX11_first 6 = .ok (.astore_n 1, 1) := dk_76 (dk_at dksX11_first_0 6 rfl rfl)
theorem dX11_first_7 : decode cX11_first 7 = .ok (.aload_n 1, 1) := dk_43 (dk_at dksX11_first_0 7 rfl rfl)
theorem dX11_first_8 : decode cX11_first 8 = .ok (.invokeinterface 9 1, 5) := by decide +kernel
theorem dX11_first_13 : decode cX11_first 13 = .ok (.ifCond .eq 18, 3) := dk_153 0 18 (dk_at dksX11_first_0 13 rfl rfl)
theorem dX11_first_16 : decode cX11_first 16 = .ok (.aload_n 1, 1) := dk_43 (dk_at dksX11_first_0 16 rfl rfl)
theorem dX11_first_17 : decode cX11_first 17 = .ok (.invokeinterface 15 1, 5) := by decide +kernel
theorem dX11_first_22 : decode cX11_first 22 = .ok (.checkcast 19, 3) := dk_192 0 19 (dk_at dksX11_first_1 0 rfl rfl)
theorem dX11_first_25 : decode cX11_first 25 = .ok (.getfield 21, 3) := dk_180 0 21 (dk_at dksX11_first_1 3 rfl rfl)
theorem dX11_first_28 : decode cX11_first 28 = .ok (.goto 5, 3) := dk_167 0 5 (dk_at dksX11_first_1 6 rfl rfl)
theorem dX11_first_31 : decode cX11_first 31 = .ok (.bipush (-5), 2) := dk_16 251 (dk_at dksX11_first_1 9 rfl rfl)
theorem dX11_first_33 : decode cX11_first 33 = .ok (.ireturn, 1) := dk_172 (dk_at dksX11_first_1 11 rfl rfl)
def dkwX11_last_1 : List UInt8 := [185, 0, 15, 1, 0, 192, 0, 19, 78, 45, 180, 0, 21, 60, 167, 255, 232, 27, 172]
abbrev dktX11_last_1 : List UInt8 := dkwX11_last_1 ++ []
def dkwX11_last_0 : List UInt8 := [16, 251, 60, 42, 185, 0, 3, 1, 0, 77, 44, 185, 0, 9, 1, 0, 153, 0, 21, 44]
abbrev dktX11_last_0 : List UInt8 := dkwX11_last_0 ++ dktX11_last_1
theorem dksX11_last_0 : cX11_last.data.toList.drop 0 = dktX11_last_0 := by decide +kernel
theorem dksX11_last_1 : cX11_last.data.toList.drop 20 = dktX11_last_1 := dk_seg dksX11_last_0 20 rfl rfl
theorem dX11_last_0 : decode cX11_last 0 = .ok (.bipush (-5), 2) := dk_16 251 (dk_at dksX11_last_0 0 rfl rfl)
theorem dX11_last_2 : decode cX11_last 2 = .ok (.istore_n 1, 1) := dk_60 (dk_at dksX11_last_0 2 rfl rfl)
theorem dX11_last_3 : decode cX11_last 3 = .ok (.aload_n 0, 1) := dk_42 (dk_at dksX11_last_0 3 rfl rfl)
theorem dX11_last_4 : decode cX11_last 4 = .ok (.invokeinterface 3 1, 5) := by decide +kernel
theorem dX11_last_9 : decode cX11_last 9 = .ok (.astore_n 2, 1) := dk_77 (dk_at dksX11_last_0 9 rfl rfl)
theorem dX11_last_10 : decode cX11_last 10 = .ok (.aload_n 2, 1) := dk_44 (dk_at dksX11_last_0 10 rfl rfl)
theorem dX11_last_11 : decode cX11_last 11 = .ok (.invokeinterface 9 1, 5) := by decide +kernel
theorem dX11_last_16 : decode cX11_last 16 = .ok (.ifCond .eq 21, 3) := dk_153 0 21 (dk_at dksX11_last_0 16 rfl rfl)
theorem dX11_last_19 : decode cX11_last 19 = .ok (.aload_n 2, 1) := dk_44 (dk_at dksX11_last_0 19 rfl rfl)
theorem dX11_last_20 : decode cX11_last 20 = .ok (.invokeinterface 15 1, 5) := by decide +kernel
theorem dX11_last_25 : decode cX11_last 25 = .ok (.checkcast 19, 3) := dk_192 0 19 (dk_at dksX11_last_1 5 rfl rfl)
theorem dX11_last_28 : decode cX11_last 28 = .ok (.astore_n 3, 1) := dk_78 (dk_at dksX11_last_1 8 rfl rfl)
theorem dX11_last_29 : decode cX11_last 29 = .ok (.aload_n 3, 1) := dk_45 (dk_at dksX11_last_1 9 rfl rfl)
theorem dX11_last_30 : decode cX11_last 30 = .ok (.getfield 21, 3) := dk_180 0 21 (dk_at dksX11_last_1 10 rfl rfl)
theorem dX11_last_33 : decode cX11_last 33 = .ok (.istore_n 1, 1) := dk_60 (dk_at dksX11_last_1 13 rfl rfl)
theorem dX11_last_34 : decode cX11_last 34 = .ok (.goto (-24), 3) := dk_167 255 232 (dk_at dksX11_last_1 14 rfl rfl)
theorem dX11_last_37 : decode cX11_last 37 = .ok (.iload_n 1, 1) := dk_27 (dk_at dksX11_last_1 17 rfl rfl)
theorem dX11_last_38 : decode cX11_last 38 = .ok (.ireturn, 1) := dk_172 (dk_at dksX11_last_1 18 rfl rfl)
def dkwX2_init_0 : List UInt8 := [42, 183, 0, 3, 42, 187, 0, 9, 89, 183, 0, 11, 181, 0, 12, 42, 5, 181, 0, 18, 177]
abbrev dktX2_init_0 : List UInt8 := dkwX2_init_0 ++ []
theorem dksX2_init_0 : cX2_init.data.toList.drop 0 = dktX2_init_0 := by decide +kernel
theorem dX2_init_0 : decode cX2_init 0 = .ok (.aload_n 0, 1) := dk_42 (dk_at dksX2_init_0 0 rfl rfl)
theorem dX2_init_1 : decode cX2_init 1 = .ok (.invokespecial 3, 3) := dk_183 0 3 (dk_at dksX2_init_0 1 rfl rfl)
theorem dX2_init_4 : decode cX2_init 4 = .ok (.aload_n 0, 1) := dk_42 (dk_at dksX2_init_0 4 rfl rfl)
theorem dX2_init_5 : decode cX2_init 5 = .ok (.new 9, 3) := dk_187 0 9 (dk_at dksX2_init_0 5 rfl rfl)
theorem dX2_init_8 : decode cX2_init 8 = .ok (.dup, 1) := dk_89 (dk_at dksX2_init_0 8 rfl rfl)
theorem dX2_init_9 : decode cX2_init 9 = .ok (.invokespecial 11, 3) := dk_183 0 11 (dk_at dksX2_init_0 9 rfl rfl)
theorem dX2_init_12 : decode cX2_init 12 = .ok (.putfield 12, 3) := dk_181 0 12 (dk_at dksX2_init_0 12 rfl rfl)
theorem dX2_init_15 : decode cX2_init 15 = .ok (.aload_n 0, 1) := dk_42 (dk_at dksX2_init_0 15 rfl rfl)
theorem dX2_init_16 : decode cX2_init 16 = .ok (.iconst 2, 1) := dk_5 (dk_at dksX2_init_0 16 rfl rfl)
theorem dX2_init_17 : decode cX2_init 17 = .ok (.putfield 18, 3) := dk_181 0 18 (dk_at dksX2_init_0 17 rfl rfl)
theorem dX2_init_20 : decode cX2_init 20 = .ok (.return_, 1) := dk_177 (dk_at dksX2_init_0 20 rfl rfl)
def dkwX2_copy_2 : List UInt8 := [42, 180, 0, 18, 181, 0, 18, 43, 176]
abbrev dktX2_copy_2 : List UInt8 := dkwX2_copy_2 ++ []
def dkwX2_copy_1 : List UInt8 := [185, 0, 33, 1, 0, 192, 0, 37, 78, 43, 180, 0, 12, 45, 185, 0, 39, 2, 0, 87, 167, 255, 226, 43]
abbrev dktX2_copy_1 : List UInt8 := dkwX2_copy_1 ++ dktX2_copy_2
def dkwX2_copy_0 : List UInt8 := [187, 0, 13, 89, 183, 0, 22, 76, 42, 182, 0, 23, 77, 44, 185, 0, 27, 1, 0, 153, 0, 27, 44]
abbrev dktX2_copy_0 : List UInt8 := dkwX2_copy_0 ++ dktX2_copy_1
theorem dksX2_copy_0 : cX2_copy.data.toList.drop 0 = dktX2_copy_0 := by decide +kernel
theorem dksX2_copy_1 : cX2_copy.data.toList.drop 23 = dktX2_copy_1 := dk_seg dksX2_copy_0 23 rfl rfl
theorem dksX2_copy_2 : cX2_copy.data.toList.drop 47 = dktX2_copy_2 := dk_seg dksX2_copy_1 24 rfl rfl
theorem dX2_copy_0 : decode cX2_copy 0 = .ok (.new 13, 3) := dk_187 0 13 (dk_at dksX2_copy_0 0 rfl rfl)
theorem dX2_copy_3 : decode cX2_copy 3 = .ok (.dup, 1) := dk_89 (dk_at dksX2_copy_0 3 rfl rfl)
theorem dX2_copy_4 : decode cX2_copy 4 = .ok (.invokespecial 22, 3) := dk_183 0 22 (dk_at dksX2_copy_0 4 rfl rfl)
theorem dX2_copy_7 : decode cX2_copy 7 = .ok (.astore_n 1, 1) := dk_76 (dk_at dksX2_copy_0 7 rfl rfl)
theorem dX2_copy_8 : decode cX2_copy 8 = .ok (.aload_n 0, 1) := dk_42 (dk_at dksX2_copy_0 8 rfl rfl)
theorem dX2_copy_9 : decode cX2_copy 9 = .ok (.invokevirtual 23, 3) := dk_182 0 23 (dk_at dksX2_copy_0 9 rfl rfl)
theorem dX2_copy_12 : decode cX2_copy 12 = .ok (.astore_n 2, 1) := dk_77 (dk_at dksX2_copy_0 12 rfl rfl)
theorem dX2_copy_13 : decode cX2_copy 13 = .ok (.aload_n 2, 1) := dk_44 (dk_at dksX2_copy_0 13 rfl rfl)
theorem dX2_copy_14 : decode cX2_copy 14 = .ok (.invokeinterface 27 1, 5) := by decide +kernel
theorem dX2_copy_19 : decode cX2_copy 19 = .ok (.ifCond .eq 27, 3) := dk_153 0 27 (dk_at dksX2_copy_0 19 rfl rfl)
theorem dX2_copy_22 : decode cX2_copy 22 = .ok (.aload_n 2, 1) := dk_44 (dk_at dksX2_copy_0 22 rfl rfl)
theorem dX2_copy_23 : decode cX2_copy 23 = .ok (.invokeinterface 33 1, 5) := by decide +kernel
theorem dX2_copy_28 : decode cX2_copy 28 = .ok (.checkcast 37, 3) := dk_192 0 37 (dk_at dksX2_copy_1 5 rfl rfl)
theorem dX2_copy_31 : decode cX2_copy 31 = .ok (.astore_n 3, 1) := dk_78 (dk_at dksX2_copy_1 8 rfl rfl)
theorem dX2_copy_32 : decode cX2_copy 32 = .ok (.aload_n 1, 1) := dk_43 (dk_at dksX2_copy_1 9 rfl rfl)
theorem dX2_copy_33 : decode cX2_copy 33 = .ok (.getfield 12, 3) := dk_180 0 12 (dk_at dksX2_copy_1 10 rfl rfl)
theorem dX2_copy_36 : decode cX2_copy 36 = .ok (.aload_n 3, 1) := dk_45 (dk_at dksX2_copy_1 13 rfl rfl)
theorem dX2_copy_37 : decode cX2_copy 37 = .ok (.invokeinterface 39 2, 5) := by decide +kernel
theorem dX2_copy_42 : decode cX2_copy 42 = .ok (.pop, 1) := dk_87 (dk_at dksX2_copy_1 19 rfl rfl)
theorem dX2_copy_43 : decode cX2_copy 43 = .ok (.goto (-30), 3) := dk_167 255 226 (dk_at dksX2_copy_1 20 rfl rfl)
theorem dX2_copy_46 : decode cX2_copy 46 = .ok (.aload_n 1, 1) := dk_43 (dk_at dksX2_copy_1 23 rfl rfl)
theorem dX2_copy_47 : decode cX2_copy 47 = .ok (.aload_n 0, 1) := dk_42 (dk_at dksX2_copy_2 0 rfl rfl)
theorem dX2_copy_48 : decode cX2_copy 48 = .ok (.getfield 18, 3) := dk_180 0 18 (dk_at dksX2_copy_2 1 rfl rfl)
theorem dX2_copy_51 : decode cX2_copy 51 = .ok (.putfield 18, 3) := dk_181 0 18 (dk_at dksX2_copy_2 4 rfl rfl)
theorem dX2_copy_54 : decode cX2_copy 54 = .ok (.aload_n 1, 1) := dk_43 (dk_at dksX2_copy_2 7 rfl rfl)
theorem dX2_copy_55 : decode cX2_copy 55 = .ok (.areturn, 1) := dk_176 (dk_at dksX2_copy_2 8 rfl rfl)
def dkwX2_iterator_0 : List UInt8 := [42, 3, 42, 180, 0, 12, 185, 0, 50, 1, 0, 182, 0, 54, 176]
abbrev dktX2_iterator_0 : List UInt8 := dkwX2_iterator_0 ++ []
theorem dksX2_iterator_0 : cX2_iterator.data.toList.drop 0 = dktX2_iterator_0 := by decide +kernel
theorem dX2_iterator_0 : decode cX2_iterator 0 = .ok (.aload_n 0, 1) := dk_42 (dk_at dksX2_iterator_0 0 rfl rfl)
theorem dX2_iterator_1 : decode cX2_iterator 1 = .ok (.iconst 0, 1) := dk_3 (dk_at dksX2_iterator_0 1 rfl rfl)
theorem dX2_iterator_2 : decode cX2_iterator 2 = .ok (.aload_n 0, 1) := dk_42 (dk_at dksX2_iterator_0 2 rfl rfl)
theorem dX2_iterator_3 : decode cX2_iterator 3 = .ok (.getfield 12, 3) := dk_180 0 12 (dk_at dksX2_iterator_0 3 rfl rfl)
theorem dX2_iterator_6 : decode cX2_iterator 6 = .ok (.invokeinterface 50 1, 5) := by decide +kernel
theorem dX2_iterator_11 : decode cX2_iterator 11 = .ok (.invokevirtual 54, 3) := dk_182 0 54 (dk_at dksX2_iterator_0 11 rfl rfl)
theorem dX2_iterator_14 : decode cX2_iterator 14 = .ok (.areturn, 1) := dk_176 (dk_at dksX2_iterator_0 14 rfl rfl)
def dkwX2_walk_0 : List UInt8 := [187, 0, 66, 89, 42, 27, 28, 183, 0, 68, 176]
abbrev dktX2_walk_0 : List UInt8 := dkwX2_walk_0 ++ []
theorem dksX2_walk_0 : cX2_walk.data.toList.drop 0 = dktX2_walk_0 := by decide +kernel
theorem dX2_walk_0 : decode cX2_walk 0 = .ok (.new 66, 3) := dk_187 0 66 (dk_at dksX2_walk_0 0 rfl rfl)
theorem dX2_walk_3 : decode cX2_walk 3 = .ok (.dup, 1) := dk_89 (dk_at dksX2_walk_0 3 rfl rfl)
theorem dX2_walk_4 : decode cX2_walk 4 = .ok (.aload_n 0, 1) := dk_42 (dk_at dksX2_walk_0 4 rfl rfl)
theorem dX2_walk_5 : decode cX2_walk 5 = .ok (.iload_n 1, 1) := dk_27 (dk_at dksX2_walk_0 5 rfl rfl)
theorem dX2_walk_6 : decode cX2_walk 6 = .ok (.iload_n 2, 1) := dk_28 (dk_at dksX2_walk_0 6 rfl rfl)
theorem dX2_walk_7 : decode cX2_walk 7 = .ok (.invokespecial 68, 3) := dk_183 0 68 (dk_at dksX2_walk_0 7 rfl rfl)
theorem dX2_walk_10 : decode cX2_walk 10 = .ok (.areturn, 1) := dk_176 (dk_at dksX2_walk_0 10 rfl rfl)
def dkwX2_find_1 : List UInt8 := [45, 180, 0, 71, 27, 160, 0, 5, 45, 176, 167, 255, 227, 1, 176]
abbrev dktX2_find_1 : List UInt8 := dkwX2_find_1 ++ []
def dkwX2_find_0 : List UInt8 := [42, 182, 0, 23, 77, 44, 185, 0, 27, 1, 0, 153, 0, 26, 44, 185, 0, 33, 1, 0, 192, 0, 37, 78]
abbrev dktX2_find_0 : List UInt8 := dkwX2_find_0 ++ dktX2_find_1
theorem dksX2_find_0 : cX2_find.data.toList.drop 0 = dktX2_find_0 := by decide +kernel
theorem dksX2_find_1 : cX2_find.data.toList.drop 24 = dktX2_find_1 := dk_seg dksX2_find_0 24 rfl rfl
theorem dX2_find_0 : decode cX2_find 0 = .ok (.aload_n 0, 1) := dk_42 (dk_at dksX2_find_0 0 rfl rfl)
theorem dX2_find_1 : decode cX2_find 1 = .ok (.invokevirtual 23, 3) := dk_182 0 23 (dk_at dksX2_find_0 1 rfl rfl)
theorem dX2_find_4 : decode cX2_find 4 = .ok (.astore_n 2, 1) := dk_77 (dk_at dksX2_find_0 4 rfl rfl)
theorem dX2_find_5 : decode cX2_find 5 = .ok (.aload_n 2, 1) := dk_44 (dk_at dksX2_find_0 5 rfl rfl)
theorem dX2_find_6 : decode cX2_find 6 = .ok (.invokeinterface 27 1, 5) := by decide +kernel
theorem dX2_find_11 : decode cX2_find 11 = .ok (.ifCond .eq 26, 3) := dk_153 0 26 (dk_at dksX2_find_0 11 rfl rfl)
theorem dX2_find_14 : decode cX2_find 14 = .ok (.aload_n 2, 1) := dk_44 (dk_at dksX2_find_0 14 rfl rfl)
theorem dX2_find_15 : decode cX2_find 15 = .ok (.invokeinterface 33 1, 5) := by decide +kernel
theorem dX2_find_20 : decode cX2_find 20 = .ok (.checkcast 37, 3) := dk_192 0 37 (dk_at dksX2_find_0 20 rfl rfl)
theorem dX2_find_23 : decode cX2_find 23 = .ok (.astore_n 3, 1) := dk_78 (dk_at dksX2_find_0 23 rfl rfl)
theorem dX2_find_24 : decode cX2_find 24 = .ok (.aload_n 3, 1) := dk_45 (dk_at dksX2_find_1 0 rfl rfl)
theorem dX2_find_25 : decode cX2_find 25 = .ok (.getfield 71, 3) := dk_180 0 71 (dk_at dksX2_find_1 1 rfl rfl)
theorem dX2_find_28 : decode cX2_find 28 = .ok (.iload_n 1, 1) := dk_27 (dk_at dksX2_find_1 4 rfl rfl)
theorem dX2_find_29 : decode cX2_find 29 = .ok (.if_icmp .ne 5, 3) := dk_160 0 5 (dk_at dksX2_find_1 5 rfl rfl)
theorem dX2_find_32 : decode cX2_find 32 = .ok (.aload_n 3, 1) := dk_45 (dk_at dksX2_find_1 8 rfl rfl)
theorem dX2_find_33 : decode cX2_find 33 = .ok (.areturn, 1) := dk_176 (dk_at dksX2_find_1 9 rfl rfl)
theorem dX2_find_34 : decode cX2_find 34 = .ok (.goto (-29), 3) := dk_167 255 227 (dk_at dksX2_find_1 10 rfl rfl)
theorem dX2_find_37 : decode cX2_find 37 = .ok (.aconst_null, 1) := dk_1 (dk_at dksX2_find_1 13 rfl rfl)
theorem dX2_find_38 : decode cX2_find 38 = .ok (.areturn, 1) := dk_176 (dk_at dksX2_find_1 14 rfl rfl)
def dkwX2_free_0 : List UInt8 := [7, 42, 180, 0, 18, 104, 42, 180, 0, 12, 185, 0, 50, 1, 0, 100, 172]
abbrev dktX2_free_0 : List UInt8 := dkwX2_free_0 ++ []
theorem dksX2_free_0 : cX2_free.data.toList.drop 0 = dktX2_free_0 := by decide +kernel
theorem dX2_free_0 : decode cX2_free 0 = .ok (.iconst 4, 1) := dk_7 (dk_at dksX2_free_0 0 rfl rfl)
theorem dX2_free_1 : decode cX2_free 1 = .ok (.aload_n 0, 1) := dk_42 (dk_at dksX2_free_0 1 rfl rfl)
theorem dX2_free_2 : decode cX2_free 2 = .ok (.getfield 18, 3) := dk_180 0 18 (dk_at dksX2_free_0 2 rfl rfl)
theorem dX2_free_5 : decode cX2_free 5 = .ok (.imul, 1) := dk_104 (dk_at dksX2_free_0 5 rfl rfl)
theorem dX2_free_6 : decode cX2_free 6 = .ok (.aload_n 0, 1) := dk_42 (dk_at dksX2_free_0 6 rfl rfl)
theorem dX2_free_7 : decode cX2_free 7 = .ok (.getfield 12, 3) := dk_180 0 12 (dk_at dksX2_free_0 7 rfl rfl)
theorem dX2_free_10 : decode cX2_free 10 = .ok (.invokeinterface 50 1, 5) := by decide +kernel
theorem dX2_free_15 : decode cX2_free 15 = .ok (.isub, 1) := dk_100 (dk_at dksX2_free_0 15 rfl rfl)
theorem dX2_free_16 : decode cX2_free 16 = .ok (.ireturn, 1) := dk_172 (dk_at dksX2_free_0 16 rfl rfl)
def dkwX2_put_2 : List UInt8 := [42, 180, 0, 12, 28, 43, 185, 0, 85, 3, 0, 177]
abbrev dktX2_put_2 : List UInt8 := dkwX2_put_2 ++ []
def dkwX2_put_1 : List UInt8 := [185, 0, 81, 2, 0, 192, 0, 37, 180, 0, 71, 43, 180, 0, 71, 164, 0, 9, 132, 2, 255, 167, 255, 224]
abbrev dktX2_put_1 : List UInt8 := dkwX2_put_1 ++ dktX2_put_2
def dkwX2_put_0 : List UInt8 := [42, 180, 0, 12, 185, 0, 50, 1, 0, 61, 28, 158, 0, 34, 42, 180, 0, 12, 28, 4, 100]
abbrev dktX2_put_0 : List UInt8 := dkwX2_put_0 ++ dktX2_put_1
theorem dksX2_put_0 : cX2_put.data.toList.drop 0 = dktX2_put_0 := by decide +kernel
theorem dksX2_put_1 : cX2_put.data.toList.drop 21 = dktX2_put_1 := dk_seg dksX2_put_0 21 rfl rfl
theorem dksX2_put_2 : cX2_put.data.toList.drop 45 = dktX2_put_2 := dk_seg dksX2_put_1 24 rfl rfl
theorem dX2_put_0 : decode cX2_put 0 = .ok (.aload_n 0, 1) := dk_42 (dk_at dksX2_put_0 0 rfl rfl)
theorem dX2_put_1 : decode cX2_put 1 = .ok (.getfield 12, 3) := dk_180 0 12 (dk_at dksX2_put_0 1 rfl rfl)
theorem dX2_put_4 : decode cX2_put 4 = .ok (.invokeinterface 50 1, 5) := by decide +kernel
theorem dX2_put_9 : decode cX2_put 9 = .ok (.istore_n 2, 1) := dk_61 (dk_at dksX2_put_0 9 rfl rfl)
theorem dX2_put_10 : decode cX2_put 10 = .ok (.iload_n 2, 1) := dk_28 (dk_at dksX2_put_0 10 rfl rfl)
theorem dX2_put_11 : decode cX2_put 11 = .ok (.ifCond .le 34, 3) := dk_158 0 34 (dk_at dksX2_put_0 11 rfl rfl)
theorem dX2_put_14 : decode cX2_put 14 = .ok (.aload_n 0, 1) := dk_42 (dk_at dksX2_put_0 14 rfl rfl)
theorem dX2_put_15 : decode cX2_put 15 = .ok (.getfield 12, 3) := dk_180 0 12 (dk_at dksX2_put_0 15 rfl rfl)
theorem dX2_put_18 : decode cX2_put 18 = .ok (.iload_n 2, 1) := dk_28 (dk_at dksX2_put_0 18 rfl rfl)
theorem dX2_put_19 : decode cX2_put 19 = .ok (.iconst 1, 1) := dk_4 (dk_at dksX2_put_0 19 rfl rfl)
theorem dX2_put_20 : decode cX2_put 20 = .ok (.isub, 1) := dk_100 (dk_at dksX2_put_0 20 rfl rfl)
theorem dX2_put_21 : decode cX2_put 21 = .ok (.invokeinterface 81 2, 5) := by decide +kernel
theorem dX2_put_26 : decode cX2_put 26 = .ok (.checkcast 37, 3) := dk_192 0 37 (dk_at dksX2_put_1 5 rfl rfl)
theorem dX2_put_29 : decode cX2_put 29 = .ok (.getfield 71, 3) := dk_180 0 71 (dk_at dksX2_put_1 8 rfl rfl)
theorem dX2_put_32 : decode cX2_put 32 = .ok (.aload_n 1, 1) := dk_43 (dk_at dksX2_put_1 11 rfl rfl)
theorem dX2_put_33 : decode cX2_put 33 = .ok (.getfield 71, 3) := dk_180 0 71 (dk_at dksX2_put_1 12 rfl rfl)
theorem dX2_put_36 : decode cX2_put 36 = .ok (.if_icmp .le 9, 3) := dk_164 0 9 (dk_at dksX2_put_1 15 rfl rfl)
theorem dX2_put_39 : decode cX2_put 39 = .ok (.iinc 2 (-1), 3) := dk_132 2 255 (dk_at dksX2_put_1 18 rfl rfl)
theorem dX2_put_42 : decode cX2_put 42 = .ok (.goto (-32), 3) := dk_167 255 224 (dk_at dksX2_put_1 21 rfl rfl)
theorem dX2_put_45 : decode cX2_put 45 = .ok (.aload_n 0, 1) := dk_42 (dk_at dksX2_put_2 0 rfl rfl)
theorem dX2_put_46 : decode cX2_put 46 = .ok (.getfield 12, 3) := dk_180 0 12 (dk_at dksX2_put_2 1 rfl rfl)
theorem dX2_put_49 : decode cX2_put 49 = .ok (.iload_n 2, 1) := dk_28 (dk_at dksX2_put_2 4 rfl rfl)
theorem dX2_put_50 : decode cX2_put 50 = .ok (.aload_n 1, 1) := dk_43 (dk_at dksX2_put_2 5 rfl rfl)
theorem dX2_put_51 : decode cX2_put 51 = .ok (.invokeinterface 85 3, 5) := by decide +kernel
theorem dX2_put_56 : decode cX2_put 56 = .ok (.return_, 1) := dk_177 (dk_at dksX2_put_2 11 rfl rfl)
def dkwX2_member_0 : List UInt8 := [42, 27, 182, 0, 74, 77, 44, 198, 0, 10, 44, 182, 0, 78, 153, 0, 7, 1, 167, 0, 4, 44, 176]
abbrev dktX2_member_0 : List UInt8 := dkwX2_member_0 ++ []
theorem dksX2_member_0 : cX2_member.data.toList.drop 0 = dktX2_member_0 := by decide +kernel
theorem dX2_member_0 : decode cX2_member 0 = .ok (.aload_n 0, 1) := dk_42 (dk_at dksX2_member_0 0 rfl rfl)
theorem dX2_member_1 : decode cX2_member 1 = .ok (.iload_n 1, 1) := dk_27 (dk_at dksX2_member_0 1 rfl rfl)
theorem dX2_member_2 : decode cX2_member 2 = .ok (.invokevirtual 74, 3) := dk_182 0 74 (dk_at dksX2_member_0 2 rfl rfl)
theorem dX2_member_5 : decode cX2_member 5 = .ok (.astore_n 2, 1) := dk_77 (dk_at dksX2_member_0 5 rfl rfl)
theorem dX2_member_6 : decode cX2_member 6 = .ok (.aload_n 2, 1) := dk_44 (dk_at dksX2_member_0 6 rfl rfl)
theorem dX2_member_7 : decode cX2_member 7 = .ok (.ifnull 10, 3) := dk_198 0 10 (dk_at dksX2_member_0 7 rfl rfl)
theorem dX2_member_10 : decode cX2_member 10 = .ok (.aload_n 2, 1) := dk_44 (dk_at dksX2_member_0 10 rfl rfl)
theorem dX2_member_11 : decode cX2_member 11 = .ok (.invokevirtual 78, 3) := dk_182 0 78 (dk_at dksX2_member_0 11 rfl rfl)
theorem dX2_member_14 : decode cX2_member 14 = .ok (.ifCond .eq 7, 3) := dk_153 0 7 (dk_at dksX2_member_0 14 rfl rfl)
theorem dX2_member_17 : decode cX2_member 17 = .ok (.aconst_null, 1) := dk_1 (dk_at dksX2_member_0 17 rfl rfl)
theorem dX2_member_18 : decode cX2_member 18 = .ok (.goto 4, 3) := dk_167 0 4 (dk_at dksX2_member_0 18 rfl rfl)
theorem dX2_member_21 : decode cX2_member 21 = .ok (.aload_n 2, 1) := dk_44 (dk_at dksX2_member_0 21 rfl rfl)
theorem dX2_member_22 : decode cX2_member 22 = .ok (.areturn, 1) := dk_176 (dk_at dksX2_member_0 22 rfl rfl)
def dkwX2_take_0 : List UInt8 := [42, 180, 0, 12, 42, 27, 182, 0, 74, 185, 0, 88, 2, 0, 87, 177]
abbrev dktX2_take_0 : List UInt8 := dkwX2_take_0 ++ []
theorem dksX2_take_0 : cX2_take.data.toList.drop 0 = dktX2_take_0 := by decide +kernel
theorem dX2_take_0 : decode cX2_take 0 = .ok (.aload_n 0, 1) := dk_42 (dk_at dksX2_take_0 0 rfl rfl)
theorem dX2_take_1 : decode cX2_take 1 = .ok (.getfield 12, 3) := dk_180 0 12 (dk_at dksX2_take_0 1 rfl rfl)
theorem dX2_take_4 : decode cX2_take 4 = .ok (.aload_n 0, 1) := dk_42 (dk_at dksX2_take_0 4 rfl rfl)
theorem dX2_take_5 : decode cX2_take 5 = .ok (.iload_n 1, 1) := dk_27 (dk_at dksX2_take_0 5 rfl rfl)
theorem dX2_take_6 : decode cX2_take 6 = .ok (.invokevirtual 74, 3) := dk_182 0 74 (dk_at dksX2_take_0 6 rfl rfl)
theorem dX2_take_9 : decode cX2_take 9 = .ok (.invokeinterface 88 2, 5) := by decide +kernel
theorem dX2_take_14 : decode cX2_take 14 = .ok (.pop, 1) := dk_87 (dk_at dksX2_take_0 14 rfl rfl)
theorem dX2_take_15 : decode cX2_take 15 = .ok (.return_, 1) := dk_177 (dk_at dksX2_take_0 15 rfl rfl)
def dkwX2_count_1 : List UInt8 := [185, 0, 50, 1, 0, 172]
abbrev dktX2_count_1 : List UInt8 := dkwX2_count_1 ++ []
def dkwX2_count_0 : List UInt8 := [42, 180, 0, 12, 185, 0, 58, 1, 0, 153, 0, 10, 42, 183, 0, 61, 167, 0, 12, 42, 180, 0, 12]
abbrev dktX2_count_0 : List UInt8 := dkwX2_count_0 ++ dktX2_count_1
theorem dksX2_count_0 : cX2_count.data.toList.drop 0 = dktX2_count_0 := by decide +kernel
theorem dksX2_count_1 : cX2_count.data.toList.drop 23 = dktX2_count_1 := dk_seg dksX2_count_0 23 rfl rfl
theorem dX2_count_0 : decode cX2_count 0 = .ok (.aload_n 0, 1) := dk_42 (dk_at dksX2_count_0 0 rfl rfl)
theorem dX2_count_1 : decode cX2_count 1 = .ok (.getfield 12, 3) := dk_180 0 12 (dk_at dksX2_count_0 1 rfl rfl)
theorem dX2_count_4 : decode cX2_count 4 = .ok (.invokeinterface 58 1, 5) := by decide +kernel
theorem dX2_count_9 : decode cX2_count 9 = .ok (.ifCond .eq 10, 3) := dk_153 0 10 (dk_at dksX2_count_0 9 rfl rfl)
theorem dX2_count_12 : decode cX2_count 12 = .ok (.aload_n 0, 1) := dk_42 (dk_at dksX2_count_0 12 rfl rfl)
theorem dX2_count_13 : decode cX2_count 13 = .ok (.invokespecial 61, 3) := dk_183 0 61 (dk_at dksX2_count_0 13 rfl rfl)
theorem dX2_count_16 : decode cX2_count 16 = .ok (.goto 12, 3) := dk_167 0 12 (dk_at dksX2_count_0 16 rfl rfl)
theorem dX2_count_19 : decode cX2_count 19 = .ok (.aload_n 0, 1) := dk_42 (dk_at dksX2_count_0 19 rfl rfl)
theorem dX2_count_20 : decode cX2_count 20 = .ok (.getfield 12, 3) := dk_180 0 12 (dk_at dksX2_count_0 20 rfl rfl)
theorem dX2_count_23 : decode cX2_count 23 = .ok (.invokeinterface 50 1, 5) := by decide +kernel
theorem dX2_count_28 : decode cX2_count 28 = .ok (.ireturn, 1) := dk_172 (dk_at dksX2_count_1 5 rfl rfl)
def dkwX2_rankOf_0 : List UInt8 := [42, 180, 0, 12, 42, 27, 182, 0, 74, 185, 0, 91, 2, 0, 172]
abbrev dktX2_rankOf_0 : List UInt8 := dkwX2_rankOf_0 ++ []
theorem dksX2_rankOf_0 : cX2_rankOf.data.toList.drop 0 = dktX2_rankOf_0 := by decide +kernel
theorem dX2_rankOf_0 : decode cX2_rankOf 0 = .ok (.aload_n 0, 1) := dk_42 (dk_at dksX2_rankOf_0 0 rfl rfl)
theorem dX2_rankOf_1 : decode cX2_rankOf 1 = .ok (.getfield 12, 3) := dk_180 0 12 (dk_at dksX2_rankOf_0 1 rfl rfl)
theorem dX2_rankOf_4 : decode cX2_rankOf 4 = .ok (.aload_n 0, 1) := dk_42 (dk_at dksX2_rankOf_0 4 rfl rfl)
theorem dX2_rankOf_5 : decode cX2_rankOf 5 = .ok (.iload_n 1, 1) := dk_27 (dk_at dksX2_rankOf_0 5 rfl rfl)
theorem dX2_rankOf_6 : decode cX2_rankOf 6 = .ok (.invokevirtual 74, 3) := dk_182 0 74 (dk_at dksX2_rankOf_0 6 rfl rfl)
theorem dX2_rankOf_9 : decode cX2_rankOf 9 = .ok (.invokeinterface 91 2, 5) := by decide +kernel
theorem dX2_rankOf_14 : decode cX2_rankOf 14 = .ok (.ireturn, 1) := dk_172 (dk_at dksX2_rankOf_0 14 rfl rfl)
def dkwX2_pointsTo_2 : List UInt8 := [167, 255, 217, 28, 172]
abbrev dktX2_pointsTo_2 : List UInt8 := dkwX2_pointsTo_2 ++ []
def dkwX2_pointsTo_1 : List UInt8 := [192, 0, 37, 58, 4, 28, 154, 0, 12, 25, 4, 180, 0, 95, 43, 166, 0, 7, 4, 167, 0, 4, 3, 61]
abbrev dktX2_pointsTo_1 : List UInt8 := dkwX2_pointsTo_1 ++ dktX2_pointsTo_2
def dkwX2_pointsTo_0 : List UInt8 := [3, 61, 42, 182, 0, 23, 78, 45, 185, 0, 27, 1, 0, 153, 0, 36, 45, 185, 0, 33, 1, 0]
abbrev dktX2_pointsTo_0 : List UInt8 := dkwX2_pointsTo_0 ++ dktX2_pointsTo_1
theorem dksX2_pointsTo_0 : cX2_pointsTo.data.toList.drop 0 = dktX2_pointsTo_0 := by decide +kernel
theorem dksX2_pointsTo_1 : cX2_pointsTo.data.toList.drop 22 = dktX2_pointsTo_1 := dk_seg dksX2_pointsTo_0 22 rfl rfl
theorem dksX2_pointsTo_2 : cX2_pointsTo.data.toList.drop 46 = dktX2_pointsTo_2 := dk_seg dksX2_pointsTo_1 24 rfl rfl
theorem dX2_pointsTo_0 : decode cX2_pointsTo 0 = .ok (.iconst 0, 1) := dk_3 (dk_at dksX2_pointsTo_0 0 rfl rfl)
theorem dX2_pointsTo_1 : decode cX2_pointsTo 1 = .ok (.istore_n 2, 1) := dk_61 (dk_at dksX2_pointsTo_0 1 rfl rfl)
theorem dX2_pointsTo_2 : decode cX2_pointsTo 2 = .ok (.aload_n 0, 1) := dk_42 (dk_at dksX2_pointsTo_0 2 rfl rfl)
theorem dX2_pointsTo_3 : decode cX2_pointsTo 3 = .ok (.invokevirtual 23, 3) := dk_182 0 23 (dk_at dksX2_pointsTo_0 3 rfl rfl)
theorem dX2_pointsTo_6 : decode cX2_pointsTo 6 = .ok (.astore_n 3, 1) := dk_78 (dk_at dksX2_pointsTo_0 6 rfl rfl)
theorem dX2_pointsTo_7 : decode cX2_pointsTo 7 = .ok (.aload_n 3, 1) := dk_45 (dk_at dksX2_pointsTo_0 7 rfl rfl)
theorem dX2_pointsTo_8 : decode cX2_pointsTo 8 = .ok (.invokeinterface 27 1, 5) := by decide +kernel
theorem dX2_pointsTo_13 : decode cX2_pointsTo 13 = .ok (.ifCond .eq 36, 3) := dk_153 0 36 (dk_at dksX2_pointsTo_0 13 rfl rfl)
theorem dX2_pointsTo_16 : decode cX2_pointsTo 16 = .ok (.aload_n 3, 1) := dk_45 (dk_at dksX2_pointsTo_0 16 rfl rfl)
theorem dX2_pointsTo_17 : decode cX2_pointsTo 17 = .ok (.invokeinterface 33 1, 5) := by decide +kernel
theorem dX2_pointsTo_22 : decode cX2_pointsTo 22 = .ok (.checkcast 37, 3) := dk_192 0 37 (dk_at dksX2_pointsTo_1 0 rfl rfl)
theorem dX2_pointsTo_25 : decode cX2_pointsTo 25 = .ok (.astore 4, 2) := dk_58 4 (dk_at dksX2_pointsTo_1 3 rfl rfl)
theorem dX2_pointsTo_27 : decode cX2_pointsTo 27 = .ok (.iload_n 2, 1) := dk_28 (dk_at dksX2_pointsTo_1 5 rfl rfl)
theorem dX2_pointsTo_28 : decode cX2_pointsTo 28 = .ok (.ifCond .ne 12, 3) := dk_154 0 12 (dk_at dksX2_pointsTo_1 6 rfl rfl)
theorem dX2_pointsTo_31 : decode cX2_pointsTo 31 = .ok (.aload 4, 2) := dk_25 4 (dk_at dksX2_pointsTo_1 9 rfl rfl)
theorem dX2_pointsTo_33 : decode cX2_pointsTo 33 = .ok (.getfield 95, 3) := dk_180 0 95 (dk_at dksX2_pointsTo_1 11 rfl rfl)
theorem dX2_pointsTo_36 : decode cX2_pointsTo 36 = .ok (.aload_n 1, 1) := dk_43 (dk_at dksX2_pointsTo_1 14 rfl rfl)
theorem dX2_pointsTo_37 : decode cX2_pointsTo 37 = .ok (.if_acmp .ne 7, 3) := dk_166 0 7 (dk_at dksX2_pointsTo_1 15 rfl rfl)
theorem dX2_pointsTo_40 : decode cX2_pointsTo 40 = .ok (.iconst 1, 1) := dk_4 (dk_at dksX2_pointsTo_1 18 rfl rfl)
theorem dX2_pointsTo_41 : decode cX2_pointsTo 41 = .ok (.goto 4, 3) := dk_167 0 4 (dk_at dksX2_pointsTo_1 19 rfl rfl)
theorem dX2_pointsTo_44 : decode cX2_pointsTo 44 = .ok (.iconst 0, 1) := dk_3 (dk_at dksX2_pointsTo_1 22 rfl rfl)
theorem dX2_pointsTo_45 : decode cX2_pointsTo 45 = .ok (.istore_n 2, 1) := dk_61 (dk_at dksX2_pointsTo_1 23 rfl rfl)
theorem dX2_pointsTo_46 : decode cX2_pointsTo 46 = .ok (.goto (-39), 3) := dk_167 255 217 (dk_at dksX2_pointsTo_2 0 rfl rfl)
theorem dX2_pointsTo_49 : decode cX2_pointsTo 49 = .ok (.iload_n 2, 1) := dk_28 (dk_at dksX2_pointsTo_2 3 rfl rfl)
theorem dX2_pointsTo_50 : decode cX2_pointsTo 50 = .ok (.ireturn, 1) := dk_172 (dk_at dksX2_pointsTo_2 4 rfl rfl)
def dkwX2_aliasesOf_2 : List UInt8 := [167, 0, 4, 3, 96, 61, 167, 255, 211, 28, 172]
abbrev dktX2_aliasesOf_2 : List UInt8 := dkwX2_aliasesOf_2 ++ []
def dkwX2_aliasesOf_1 : List UInt8 := [192, 0, 37, 58, 4, 28, 25, 4, 182, 0, 78, 153, 0, 16, 25, 4, 180, 0, 95, 43, 166, 0, 7, 4]
abbrev dktX2_aliasesOf_1 : List UInt8 := dkwX2_aliasesOf_1 ++ dktX2_aliasesOf_2
def dkwX2_aliasesOf_0 : List UInt8 := [3, 61, 42, 182, 0, 23, 78, 45, 185, 0, 27, 1, 0, 153, 0, 42, 45, 185, 0, 33, 1, 0]
abbrev dktX2_aliasesOf_0 : List UInt8 := dkwX2_aliasesOf_0 ++ dktX2_aliasesOf_1
theorem dksX2_aliasesOf_0 : cX2_aliasesOf.data.toList.drop 0 = dktX2_aliasesOf_0 := by decide +kernel
theorem dksX2_aliasesOf_1 : cX2_aliasesOf.data.toList.drop 22 = dktX2_aliasesOf_1 := dk_seg dksX2_aliasesOf_0 22 rfl rfl
theorem dksX2_aliasesOf_2 : cX2_aliasesOf.data.toList.drop 46 = dktX2_aliasesOf_2 := dk_seg dksX2_aliasesOf_1 24 rfl rfl
theorem dX2_aliasesOf_0 : decode cX2_aliasesOf 0 = .ok (.iconst 0, 1) := dk_3 (dk_at dksX2_aliasesOf_0 0 rfl rfl)
theorem dX2_aliasesOf_1 : decode cX2_aliasesOf 1 = .ok (.istore_n 2, 1) := dk_61 (dk_at dksX2_aliasesOf_0 1 rfl rfl)
theorem dX2_aliasesOf_2 : decode cX2_aliasesOf 2 = .ok (.aload_n 0, 1) := dk_42 (dk_at dksX2_aliasesOf_0 2 rfl rfl)
theorem dX2_aliasesOf_3 : decode cX2_aliasesOf 3 = .ok (.invokevirtual 23, 3) := dk_182 0 23 (dk_at dksX2_aliasesOf_0 3 rfl rfl)
theorem dX2_aliasesOf_6 : decode cX2_aliasesOf 6 = .ok (.astore_n 3, 1) := dk_78 (dk_at dksX2_aliasesOf_0 6 rfl rfl)
theorem dX2_aliasesOf_7 : decode cX2_aliasesOf 7 = .ok (.aload_n 3, 1) := dk_45 (dk_at dksX2_aliasesOf_0 7 rfl rfl)
theorem dX2_aliasesOf_8 : decode cX2_aliasesOf 8 = .ok (.invokeinterface 27 1, 5) := by decide +kernel
theorem dX2_aliasesOf_13 : decode cX2_aliasesOf 13 = .ok (.ifCond .eq 42, 3) := dk_153 0 42 (dk_at dksX2_aliasesOf_0 13 rfl rfl)
theorem dX2_aliasesOf_16 : decode cX2_aliasesOf 16 = .ok (.aload_n 3, 1) := dk_45 (dk_at dksX2_aliasesOf_0 16 rfl rfl)
theorem dX2_aliasesOf_17 : decode cX2_aliasesOf 17 = .ok (.invokeinterface 33 1, 5) := by decide +kernel
theorem dX2_aliasesOf_22 : decode cX2_aliasesOf 22 = .ok (.checkcast 37, 3) := dk_192 0 37 (dk_at dksX2_aliasesOf_1 0 rfl rfl)
theorem dX2_aliasesOf_25 : decode cX2_aliasesOf 25 = .ok (.astore 4, 2) := dk_58 4 (dk_at dksX2_aliasesOf_1 3 rfl rfl)
theorem dX2_aliasesOf_27 : decode cX2_aliasesOf 27 = .ok (.iload_n 2, 1) := dk_28 (dk_at dksX2_aliasesOf_1 5 rfl rfl)
theorem dX2_aliasesOf_28 : decode cX2_aliasesOf 28 = .ok (.aload 4, 2) := dk_25 4 (dk_at dksX2_aliasesOf_1 6 rfl rfl)
theorem dX2_aliasesOf_30 : decode cX2_aliasesOf 30 = .ok (.invokevirtual 78, 3) := dk_182 0 78 (dk_at dksX2_aliasesOf_1 8 rfl rfl)
theorem dX2_aliasesOf_33 : decode cX2_aliasesOf 33 = .ok (.ifCond .eq 16, 3) := dk_153 0 16 (dk_at dksX2_aliasesOf_1 11 rfl rfl)
theorem dX2_aliasesOf_36 : decode cX2_aliasesOf 36 = .ok (.aload 4, 2) := dk_25 4 (dk_at dksX2_aliasesOf_1 14 rfl rfl)
theorem dX2_aliasesOf_38 : decode cX2_aliasesOf 38 = .ok (.getfield 95, 3) := dk_180 0 95 (dk_at dksX2_aliasesOf_1 16 rfl rfl)
theorem dX2_aliasesOf_41 : decode cX2_aliasesOf 41 = .ok (.aload_n 1, 1) := dk_43 (dk_at dksX2_aliasesOf_1 19 rfl rfl)
theorem dX2_aliasesOf_42 : decode cX2_aliasesOf 42 = .ok (.if_acmp .ne 7, 3) := dk_166 0 7 (dk_at dksX2_aliasesOf_1 20 rfl rfl)
theorem dX2_aliasesOf_45 : decode cX2_aliasesOf 45 = .ok (.iconst 1, 1) := dk_4 (dk_at dksX2_aliasesOf_1 23 rfl rfl)
theorem dX2_aliasesOf_46 : decode cX2_aliasesOf 46 = .ok (.goto 4, 3) := dk_167 0 4 (dk_at dksX2_aliasesOf_2 0 rfl rfl)
theorem dX2_aliasesOf_49 : decode cX2_aliasesOf 49 = .ok (.iconst 0, 1) := dk_3 (dk_at dksX2_aliasesOf_2 3 rfl rfl)
theorem dX2_aliasesOf_50 : decode cX2_aliasesOf 50 = .ok (.iadd, 1) := dk_96 (dk_at dksX2_aliasesOf_2 4 rfl rfl)
theorem dX2_aliasesOf_51 : decode cX2_aliasesOf 51 = .ok (.istore_n 2, 1) := dk_61 (dk_at dksX2_aliasesOf_2 5 rfl rfl)
theorem dX2_aliasesOf_52 : decode cX2_aliasesOf 52 = .ok (.goto (-45), 3) := dk_167 255 211 (dk_at dksX2_aliasesOf_2 6 rfl rfl)
theorem dX2_aliasesOf_55 : decode cX2_aliasesOf 55 = .ok (.iload_n 2, 1) := dk_28 (dk_at dksX2_aliasesOf_2 9 rfl rfl)
theorem dX2_aliasesOf_56 : decode cX2_aliasesOf 56 = .ok (.ireturn, 1) := dk_172 (dk_at dksX2_aliasesOf_2 10 rfl rfl)
def dkwX2_block_0 : List UInt8 := [187, 0, 45, 89, 42, 27, 183, 0, 47, 176]
abbrev dktX2_block_0 : List UInt8 := dkwX2_block_0 ++ []
theorem dksX2_block_0 : cX2_block.data.toList.drop 0 = dktX2_block_0 := by decide +kernel
theorem dX2_block_0 : decode cX2_block 0 = .ok (.new 45, 3) := dk_187 0 45 (dk_at dksX2_block_0 0 rfl rfl)
theorem dX2_block_3 : decode cX2_block 3 = .ok (.dup, 1) := dk_89 (dk_at dksX2_block_0 3 rfl rfl)
theorem dX2_block_4 : decode cX2_block 4 = .ok (.aload_n 0, 1) := dk_42 (dk_at dksX2_block_0 4 rfl rfl)
theorem dX2_block_5 : decode cX2_block 5 = .ok (.iload_n 1, 1) := dk_27 (dk_at dksX2_block_0 5 rfl rfl)
theorem dX2_block_6 : decode cX2_block 6 = .ok (.invokespecial 47, 3) := dk_183 0 47 (dk_at dksX2_block_0 6 rfl rfl)
theorem dX2_block_9 : decode cX2_block 9 = .ok (.areturn, 1) := dk_176 (dk_at dksX2_block_0 9 rfl rfl)
def dkwX4_init_1 : List UInt8 := [181, 0, 20, 177]
abbrev dktX4_init_1 : List UInt8 := dkwX4_init_1 ++ []
def dkwX4_init_0 : List UInt8 := [42, 43, 181, 0, 1, 42, 28, 181, 0, 7, 42, 29, 181, 0, 11, 42, 183, 0, 14, 42, 42, 180, 0, 7]
abbrev dktX4_init_0 : List UInt8 := dkwX4_init_0 ++ dktX4_init_1
theorem dksX4_init_0 : cX4_init.data.toList.drop 0 = dktX4_init_0 := by decide +kernel
theorem dksX4_init_1 : cX4_init.data.toList.drop 24 = dktX4_init_1 := dk_seg dksX4_init_0 24 rfl rfl
theorem dX4_init_0 : decode cX4_init 0 = .ok (.aload_n 0, 1) := dk_42 (dk_at dksX4_init_0 0 rfl rfl)
theorem dX4_init_1 : decode cX4_init 1 = .ok (.aload_n 1, 1) := dk_43 (dk_at dksX4_init_0 1 rfl rfl)
theorem dX4_init_2 : decode cX4_init 2 = .ok (.putfield 1, 3) := dk_181 0 1 (dk_at dksX4_init_0 2 rfl rfl)
theorem dX4_init_5 : decode cX4_init 5 = .ok (.aload_n 0, 1) := dk_42 (dk_at dksX4_init_0 5 rfl rfl)
theorem dX4_init_6 : decode cX4_init 6 = .ok (.iload_n 2, 1) := dk_28 (dk_at dksX4_init_0 6 rfl rfl)
theorem dX4_init_7 : decode cX4_init 7 = .ok (.putfield 7, 3) := dk_181 0 7 (dk_at dksX4_init_0 7 rfl rfl)
theorem dX4_init_10 : decode cX4_init 10 = .ok (.aload_n 0, 1) := dk_42 (dk_at dksX4_init_0 10 rfl rfl)
theorem dX4_init_11 : decode cX4_init 11 = .ok (.iload_n 3, 1) := dk_29 (dk_at dksX4_init_0 11 rfl rfl)
theorem dX4_init_12 : decode cX4_init 12 = .ok (.putfield 11, 3) := dk_181 0 11 (dk_at dksX4_init_0 12 rfl rfl)
theorem dX4_init_15 : decode cX4_init 15 = .ok (.aload_n 0, 1) := dk_42 (dk_at dksX4_init_0 15 rfl rfl)
theorem dX4_init_16 : decode cX4_init 16 = .ok (.invokespecial 14, 3) := dk_183 0 14 (dk_at dksX4_init_0 16 rfl rfl)
theorem dX4_init_19 : decode cX4_init 19 = .ok (.aload_n 0, 1) := dk_42 (dk_at dksX4_init_0 19 rfl rfl)
theorem dX4_init_20 : decode cX4_init 20 = .ok (.aload_n 0, 1) := dk_42 (dk_at dksX4_init_0 20 rfl rfl)
theorem dX4_init_21 : decode cX4_init 21 = .ok (.getfield 7, 3) := dk_180 0 7 (dk_at dksX4_init_0 21 rfl rfl)
theorem dX4_init_24 : decode cX4_init 24 = .ok (.putfield 20, 3) := dk_181 0 20 (dk_at dksX4_init_1 0 rfl rfl)
theorem dX4_init_27 : decode cX4_init 27 = .ok (.return_, 1) := dk_177 (dk_at dksX4_init_1 3 rfl rfl)
def dkwX4_hasNext_0 : List UInt8 := [42, 180, 0, 20, 42, 180, 0, 11, 162, 0, 7, 4, 167, 0, 4, 3, 172]
abbrev dktX4_hasNext_0 : List UInt8 := dkwX4_hasNext_0 ++ []
theorem dksX4_hasNext_0 : cX4_hasNext.data.toList.drop 0 = dktX4_hasNext_0 := by decide +kernel
theorem dX4_hasNext_0 : decode cX4_hasNext 0 = .ok (.aload_n 0, 1) := dk_42 (dk_at dksX4_hasNext_0 0 rfl rfl)
theorem dX4_hasNext_1 : decode cX4_hasNext 1 = .ok (.getfield 20, 3) := dk_180 0 20 (dk_at dksX4_hasNext_0 1 rfl rfl)
theorem dX4_hasNext_4 : decode cX4_hasNext 4 = .ok (.aload_n 0, 1) := dk_42 (dk_at dksX4_hasNext_0 4 rfl rfl)
theorem dX4_hasNext_5 : decode cX4_hasNext 5 = .ok (.getfield 11, 3) := dk_180 0 11 (dk_at dksX4_hasNext_0 5 rfl rfl)
theorem dX4_hasNext_8 : decode cX4_hasNext 8 = .ok (.if_icmp .ge 7, 3) := dk_162 0 7 (dk_at dksX4_hasNext_0 8 rfl rfl)
theorem dX4_hasNext_11 : decode cX4_hasNext 11 = .ok (.iconst 1, 1) := dk_4 (dk_at dksX4_hasNext_0 11 rfl rfl)
theorem dX4_hasNext_12 : decode cX4_hasNext 12 = .ok (.goto 4, 3) := dk_167 0 4 (dk_at dksX4_hasNext_0 12 rfl rfl)
theorem dX4_hasNext_15 : decode cX4_hasNext 15 = .ok (.iconst 0, 1) := dk_3 (dk_at dksX4_hasNext_0 15 rfl rfl)
theorem dX4_hasNext_16 : decode cX4_hasNext 16 = .ok (.ireturn, 1) := dk_172 (dk_at dksX4_hasNext_0 16 rfl rfl)
theorem dX4_next_0 : decode cX4_next 0 = .ok (.aload_n 0, 1) := by decide +kernel
theorem dX4_next_1 : decode cX4_next 1 = .ok (.invokevirtual 37, 3) := by decide +kernel
theorem dX4_next_4 : decode cX4_next 4 = .ok (.areturn, 1) := by decide +kernel
def dkwX4_next_2_1 : List UInt8 := [185, 0, 29, 2, 0, 192, 0, 35, 176]
abbrev dktX4_next_2_1 : List UInt8 := dkwX4_next_2_1 ++ []
def dkwX4_next_2_0 : List UInt8 := [42, 89, 180, 0, 20, 4, 96, 181, 0, 20, 42, 180, 0, 1, 180, 0, 23, 42, 180, 0, 20, 4, 100]
abbrev dktX4_next_2_0 : List UInt8 := dkwX4_next_2_0 ++ dktX4_next_2_1
theorem dksX4_next_2_0 : cX4_next_2.data.toList.drop 0 = dktX4_next_2_0 := by decide +kernel
theorem dksX4_next_2_1 : cX4_next_2.data.toList.drop 23 = dktX4_next_2_1 := dk_seg dksX4_next_2_0 23 rfl rfl
theorem dX4_next_2_0 : decode cX4_next_2 0 = .ok (.aload_n 0, 1) := dk_42 (dk_at dksX4_next_2_0 0 rfl rfl)
theorem dX4_next_2_1 : decode cX4_next_2 1 = .ok (.dup, 1) := dk_89 (dk_at dksX4_next_2_0 1 rfl rfl)
theorem dX4_next_2_2 : decode cX4_next_2 2 = .ok (.getfield 20, 3) := dk_180 0 20 (dk_at dksX4_next_2_0 2 rfl rfl)
theorem dX4_next_2_5 : decode cX4_next_2 5 = .ok (.iconst 1, 1) := dk_4 (dk_at dksX4_next_2_0 5 rfl rfl)
theorem dX4_next_2_6 : decode cX4_next_2 6 = .ok (.iadd, 1) := dk_96 (dk_at dksX4_next_2_0 6 rfl rfl)
theorem dX4_next_2_7 : decode cX4_next_2 7 = .ok (.putfield 20, 3) := dk_181 0 20 (dk_at dksX4_next_2_0 7 rfl rfl)
theorem dX4_next_2_10 : decode cX4_next_2 10 = .ok (.aload_n 0, 1) := dk_42 (dk_at dksX4_next_2_0 10 rfl rfl)
theorem dX4_next_2_11 : decode cX4_next_2 11 = .ok (.getfield 1, 3) := dk_180 0 1 (dk_at dksX4_next_2_0 11 rfl rfl)
theorem dX4_next_2_14 : decode cX4_next_2 14 = .ok (.getfield 23, 3) := dk_180 0 23 (dk_at dksX4_next_2_0 14 rfl rfl)
theorem dX4_next_2_17 : decode cX4_next_2 17 = .ok (.aload_n 0, 1) := dk_42 (dk_at dksX4_next_2_0 17 rfl rfl)
theorem dX4_next_2_18 : decode cX4_next_2 18 = .ok (.getfield 20, 3) := dk_180 0 20 (dk_at dksX4_next_2_0 18 rfl rfl)
theorem dX4_next_2_21 : decode cX4_next_2 21 = .ok (.iconst 1, 1) := dk_4 (dk_at dksX4_next_2_0 21 rfl rfl)
theorem dX4_next_2_22 : decode cX4_next_2 22 = .ok (.isub, 1) := dk_100 (dk_at dksX4_next_2_0 22 rfl rfl)
theorem dX4_next_2_23 : decode cX4_next_2 23 = .ok (.invokeinterface 29 2, 5) := by decide +kernel
theorem dX4_next_2_28 : decode cX4_next_2 28 = .ok (.checkcast 35, 3) := dk_192 0 35 (dk_at dksX4_next_2_1 5 rfl rfl)
theorem dX4_next_2_31 : decode cX4_next_2 31 = .ok (.areturn, 1) := dk_176 (dk_at dksX4_next_2_1 8 rfl rfl)
def dkwX5_init_0 : List UInt8 := [42, 183, 0, 3, 42, 27, 181, 0, 9, 42, 44, 181, 0, 15, 177]
abbrev dktX5_init_0 : List UInt8 := dkwX5_init_0 ++ []
theorem dksX5_init_0 : cX5_init.data.toList.drop 0 = dktX5_init_0 := by decide +kernel
theorem dX5_init_0 : decode cX5_init 0 = .ok (.aload_n 0, 1) := dk_42 (dk_at dksX5_init_0 0 rfl rfl)
theorem dX5_init_1 : decode cX5_init 1 = .ok (.invokespecial 3, 3) := dk_183 0 3 (dk_at dksX5_init_0 1 rfl rfl)
theorem dX5_init_4 : decode cX5_init 4 = .ok (.aload_n 0, 1) := dk_42 (dk_at dksX5_init_0 4 rfl rfl)
theorem dX5_init_5 : decode cX5_init 5 = .ok (.iload_n 1, 1) := dk_27 (dk_at dksX5_init_0 5 rfl rfl)
theorem dX5_init_6 : decode cX5_init 6 = .ok (.putfield 9, 3) := dk_181 0 9 (dk_at dksX5_init_0 6 rfl rfl)
theorem dX5_init_9 : decode cX5_init 9 = .ok (.aload_n 0, 1) := dk_42 (dk_at dksX5_init_0 9 rfl rfl)
theorem dX5_init_10 : decode cX5_init 10 = .ok (.aload_n 2, 1) := dk_44 (dk_at dksX5_init_0 10 rfl rfl)
theorem dX5_init_11 : decode cX5_init 11 = .ok (.putfield 15, 3) := dk_181 0 15 (dk_at dksX5_init_0 11 rfl rfl)
theorem dX5_init_14 : decode cX5_init 14 = .ok (.return_, 1) := dk_177 (dk_at dksX5_init_0 14 rfl rfl)
def dkwX5_named_0 : List UInt8 := [187, 0, 10, 89, 27, 42, 180, 0, 15, 183, 0, 19, 176]
abbrev dktX5_named_0 : List UInt8 := dkwX5_named_0 ++ []
theorem dksX5_named_0 : cX5_named.data.toList.drop 0 = dktX5_named_0 := by decide +kernel
theorem dX5_named_0 : decode cX5_named 0 = .ok (.new 10, 3) := dk_187 0 10 (dk_at dksX5_named_0 0 rfl rfl)
theorem dX5_named_3 : decode cX5_named 3 = .ok (.dup, 1) := dk_89 (dk_at dksX5_named_0 3 rfl rfl)
theorem dX5_named_4 : decode cX5_named 4 = .ok (.iload_n 1, 1) := dk_27 (dk_at dksX5_named_0 4 rfl rfl)
theorem dX5_named_5 : decode cX5_named 5 = .ok (.aload_n 0, 1) := dk_42 (dk_at dksX5_named_0 5 rfl rfl)
theorem dX5_named_6 : decode cX5_named 6 = .ok (.getfield 15, 3) := dk_180 0 15 (dk_at dksX5_named_0 6 rfl rfl)
theorem dX5_named_9 : decode cX5_named 9 = .ok (.invokespecial 19, 3) := dk_183 0 19 (dk_at dksX5_named_0 9 rfl rfl)
theorem dX5_named_12 : decode cX5_named 12 = .ok (.areturn, 1) := dk_176 (dk_at dksX5_named_0 12 rfl rfl)
theorem dX5_isAlias_0 : decode cX5_isAlias 0 = .ok (.iconst 0, 1) := by decide +kernel
theorem dX5_isAlias_1 : decode cX5_isAlias 1 = .ok (.ireturn, 1) := by decide +kernel
def dkwX5_behind_0 : List UInt8 := [42, 180, 0, 9, 27, 160, 0, 11, 42, 28, 182, 0, 22, 167, 0, 4, 42, 176]
abbrev dktX5_behind_0 : List UInt8 := dkwX5_behind_0 ++ []
theorem dksX5_behind_0 : cX5_behind.data.toList.drop 0 = dktX5_behind_0 := by decide +kernel
theorem dX5_behind_0 : decode cX5_behind 0 = .ok (.aload_n 0, 1) := dk_42 (dk_at dksX5_behind_0 0 rfl rfl)
theorem dX5_behind_1 : decode cX5_behind 1 = .ok (.getfield 9, 3) := dk_180 0 9 (dk_at dksX5_behind_0 1 rfl rfl)
theorem dX5_behind_4 : decode cX5_behind 4 = .ok (.iload_n 1, 1) := dk_27 (dk_at dksX5_behind_0 4 rfl rfl)
theorem dX5_behind_5 : decode cX5_behind 5 = .ok (.if_icmp .ne 11, 3) := dk_160 0 11 (dk_at dksX5_behind_0 5 rfl rfl)
theorem dX5_behind_8 : decode cX5_behind 8 = .ok (.aload_n 0, 1) := dk_42 (dk_at dksX5_behind_0 8 rfl rfl)
theorem dX5_behind_9 : decode cX5_behind 9 = .ok (.iload_n 2, 1) := dk_28 (dk_at dksX5_behind_0 9 rfl rfl)
theorem dX5_behind_10 : decode cX5_behind 10 = .ok (.invokevirtual 22, 3) := dk_182 0 22 (dk_at dksX5_behind_0 10 rfl rfl)
theorem dX5_behind_13 : decode cX5_behind 13 = .ok (.goto 4, 3) := dk_167 0 4 (dk_at dksX5_behind_0 13 rfl rfl)
theorem dX5_behind_16 : decode cX5_behind 16 = .ok (.aload_n 0, 1) := dk_42 (dk_at dksX5_behind_0 16 rfl rfl)
theorem dX5_behind_17 : decode cX5_behind 17 = .ok (.areturn, 1) := dk_176 (dk_at dksX5_behind_0 17 rfl rfl)
theorem dX5_given_0 : decode cX5_given 0 = .ok (.bipush (-5), 2) := by decide +kernel
theorem dX5_given_2 : decode cX5_given 2 = .ok (.ireturn, 1) := by decide +kernel
theorem dX5_isLost_0 : decode cX5_isLost 0 = .ok (.iconst 0, 1) := by decide +kernel
theorem dX5_isLost_1 : decode cX5_isLost 1 = .ok (.ireturn, 1) := by decide +kernel
def dkwX6_named_0 : List UInt8 := [187, 0, 8, 89, 27, 42, 180, 0, 13, 42, 180, 0, 7, 183, 0, 17, 176]
abbrev dktX6_named_0 : List UInt8 := dkwX6_named_0 ++ []
theorem dksX6_named_0 : cX6_named.data.toList.drop 0 = dktX6_named_0 := by decide +kernel
theorem dX6_named_0 : decode cX6_named 0 = .ok (.new 8, 3) := dk_187 0 8 (dk_at dksX6_named_0 0 rfl rfl)
theorem dX6_named_3 : decode cX6_named 3 = .ok (.dup, 1) := dk_89 (dk_at dksX6_named_0 3 rfl rfl)
theorem dX6_named_4 : decode cX6_named 4 = .ok (.iload_n 1, 1) := dk_27 (dk_at dksX6_named_0 4 rfl rfl)
theorem dX6_named_5 : decode cX6_named 5 = .ok (.aload_n 0, 1) := dk_42 (dk_at dksX6_named_0 5 rfl rfl)
theorem dX6_named_6 : decode cX6_named 6 = .ok (.getfield 13, 3) := dk_180 0 13 (dk_at dksX6_named_0 6 rfl rfl)
theorem dX6_named_9 : decode cX6_named 9 = .ok (.aload_n 0, 1) := dk_42 (dk_at dksX6_named_0 9 rfl rfl)
theorem dX6_named_10 : decode cX6_named 10 = .ok (.getfield 7, 3) := dk_180 0 7 (dk_at dksX6_named_0 10 rfl rfl)
theorem dX6_named_13 : decode cX6_named 13 = .ok (.invokespecial 17, 3) := dk_183 0 17 (dk_at dksX6_named_0 13 rfl rfl)
theorem dX6_named_16 : decode cX6_named 16 = .ok (.areturn, 1) := dk_176 (dk_at dksX6_named_0 16 rfl rfl)
def dkwX6_init_0 : List UInt8 := [42, 27, 44, 183, 0, 1, 42, 29, 181, 0, 7, 177]
abbrev dktX6_init_0 : List UInt8 := dkwX6_init_0 ++ []
theorem dksX6_init_0 : cX6_init.data.toList.drop 0 = dktX6_init_0 := by decide +kernel
theorem dX6_init_0 : decode cX6_init 0 = .ok (.aload_n 0, 1) := dk_42 (dk_at dksX6_init_0 0 rfl rfl)
theorem dX6_init_1 : decode cX6_init 1 = .ok (.iload_n 1, 1) := dk_27 (dk_at dksX6_init_0 1 rfl rfl)
theorem dX6_init_2 : decode cX6_init 2 = .ok (.aload_n 2, 1) := dk_44 (dk_at dksX6_init_0 2 rfl rfl)
theorem dX6_init_3 : decode cX6_init 3 = .ok (.invokespecial 1, 3) := dk_183 0 1 (dk_at dksX6_init_0 3 rfl rfl)
theorem dX6_init_6 : decode cX6_init 6 = .ok (.aload_n 0, 1) := dk_42 (dk_at dksX6_init_0 6 rfl rfl)
theorem dX6_init_7 : decode cX6_init 7 = .ok (.iload_n 3, 1) := dk_29 (dk_at dksX6_init_0 7 rfl rfl)
theorem dX6_init_8 : decode cX6_init 8 = .ok (.putfield 7, 3) := dk_181 0 7 (dk_at dksX6_init_0 8 rfl rfl)
theorem dX6_init_11 : decode cX6_init 11 = .ok (.return_, 1) := dk_177 (dk_at dksX6_init_0 11 rfl rfl)
theorem dX6_isAlias_0 : decode cX6_isAlias 0 = .ok (.iconst 1, 1) := by decide +kernel
theorem dX6_isAlias_1 : decode cX6_isAlias 1 = .ok (.ireturn, 1) := by decide +kernel
def dkwX6_behind_1 : List UInt8 := [187, 0, 8, 89, 42, 180, 0, 20, 42, 180, 0, 13, 28, 183, 0, 17, 167, 0, 4, 42, 176]
abbrev dktX6_behind_1 : List UInt8 := dkwX6_behind_1 ++ []
def dkwX6_behind_0 : List UInt8 := [42, 180, 0, 20, 27, 160, 0, 10, 42, 27, 28, 183, 0, 23, 176, 42, 180, 0, 7, 27, 160, 0, 22]
abbrev dktX6_behind_0 : List UInt8 := dkwX6_behind_0 ++ dktX6_behind_1
theorem dksX6_behind_0 : cX6_behind.data.toList.drop 0 = dktX6_behind_0 := by decide +kernel
theorem dksX6_behind_1 : cX6_behind.data.toList.drop 23 = dktX6_behind_1 := dk_seg dksX6_behind_0 23 rfl rfl
theorem dX6_behind_0 : decode cX6_behind 0 = .ok (.aload_n 0, 1) := dk_42 (dk_at dksX6_behind_0 0 rfl rfl)
theorem dX6_behind_1 : decode cX6_behind 1 = .ok (.getfield 20, 3) := dk_180 0 20 (dk_at dksX6_behind_0 1 rfl rfl)
theorem dX6_behind_4 : decode cX6_behind 4 = .ok (.iload_n 1, 1) := dk_27 (dk_at dksX6_behind_0 4 rfl rfl)
theorem dX6_behind_5 : decode cX6_behind 5 = .ok (.if_icmp .ne 10, 3) := dk_160 0 10 (dk_at dksX6_behind_0 5 rfl rfl)
theorem dX6_behind_8 : decode cX6_behind 8 = .ok (.aload_n 0, 1) := dk_42 (dk_at dksX6_behind_0 8 rfl rfl)
theorem dX6_behind_9 : decode cX6_behind 9 = .ok (.iload_n 1, 1) := dk_27 (dk_at dksX6_behind_0 9 rfl rfl)
theorem dX6_behind_10 : decode cX6_behind 10 = .ok (.iload_n 2, 1) := dk_28 (dk_at dksX6_behind_0 10 rfl rfl)
theorem dX6_behind_11 : decode cX6_behind 11 = .ok (.invokespecial 23, 3) := dk_183 0 23 (dk_at dksX6_behind_0 11 rfl rfl)
theorem dX6_behind_14 : decode cX6_behind 14 = .ok (.areturn, 1) := dk_176 (dk_at dksX6_behind_0 14 rfl rfl)
theorem dX6_behind_15 : decode cX6_behind 15 = .ok (.aload_n 0, 1) := dk_42 (dk_at dksX6_behind_0 15 rfl rfl)
theorem dX6_behind_16 : decode cX6_behind 16 = .ok (.getfield 7, 3) := dk_180 0 7 (dk_at dksX6_behind_0 16 rfl rfl)
theorem dX6_behind_19 : decode cX6_behind 19 = .ok (.iload_n 1, 1) := dk_27 (dk_at dksX6_behind_0 19 rfl rfl)
theorem dX6_behind_20 : decode cX6_behind 20 = .ok (.if_icmp .ne 22, 3) := dk_160 0 22 (dk_at dksX6_behind_0 20 rfl rfl)
theorem dX6_behind_23 : decode cX6_behind 23 = .ok (.new 8, 3) := dk_187 0 8 (dk_at dksX6_behind_1 0 rfl rfl)
theorem dX6_behind_26 : decode cX6_behind 26 = .ok (.dup, 1) := dk_89 (dk_at dksX6_behind_1 3 rfl rfl)
theorem dX6_behind_27 : decode cX6_behind 27 = .ok (.aload_n 0, 1) := dk_42 (dk_at dksX6_behind_1 4 rfl rfl)
theorem dX6_behind_28 : decode cX6_behind 28 = .ok (.getfield 20, 3) := dk_180 0 20 (dk_at dksX6_behind_1 5 rfl rfl)
theorem dX6_behind_31 : decode cX6_behind 31 = .ok (.aload_n 0, 1) := dk_42 (dk_at dksX6_behind_1 8 rfl rfl)
theorem dX6_behind_32 : decode cX6_behind 32 = .ok (.getfield 13, 3) := dk_180 0 13 (dk_at dksX6_behind_1 9 rfl rfl)
theorem dX6_behind_35 : decode cX6_behind 35 = .ok (.iload_n 2, 1) := dk_28 (dk_at dksX6_behind_1 12 rfl rfl)
theorem dX6_behind_36 : decode cX6_behind 36 = .ok (.invokespecial 17, 3) := dk_183 0 17 (dk_at dksX6_behind_1 13 rfl rfl)
theorem dX6_behind_39 : decode cX6_behind 39 = .ok (.goto 4, 3) := dk_167 0 4 (dk_at dksX6_behind_1 16 rfl rfl)
theorem dX6_behind_42 : decode cX6_behind 42 = .ok (.aload_n 0, 1) := dk_42 (dk_at dksX6_behind_1 19 rfl rfl)
theorem dX6_behind_43 : decode cX6_behind 43 = .ok (.areturn, 1) := dk_176 (dk_at dksX6_behind_1 20 rfl rfl)
theorem dX6_given_0 : decode cX6_given 0 = .ok (.aload_n 0, 1) := by decide +kernel
theorem dX6_given_1 : decode cX6_given 1 = .ok (.getfield 7, 3) := by decide +kernel
theorem dX6_given_4 : decode cX6_given 4 = .ok (.ireturn, 1) := by decide +kernel
def dkwX6_isLost_1 : List UInt8 := [42, 180, 0, 13, 165, 0, 7, 4, 167, 0, 4, 3, 172]
abbrev dktX6_isLost_1 : List UInt8 := dkwX6_isLost_1 ++ []
def dkwX6_isLost_0 : List UInt8 := [43, 42, 180, 0, 7, 182, 0, 27, 77, 44, 198, 0, 21, 44, 182, 0, 33, 154, 0, 14, 44, 180, 0, 13]
abbrev dktX6_isLost_0 : List UInt8 := dkwX6_isLost_0 ++ dktX6_isLost_1
theorem dksX6_isLost_0 : cX6_isLost.data.toList.drop 0 = dktX6_isLost_0 := by decide +kernel
theorem dksX6_isLost_1 : cX6_isLost.data.toList.drop 24 = dktX6_isLost_1 := dk_seg dksX6_isLost_0 24 rfl rfl
theorem dX6_isLost_0 : decode cX6_isLost 0 = .ok (.aload_n 1, 1) := dk_43 (dk_at dksX6_isLost_0 0 rfl rfl)
theorem dX6_isLost_1 : decode cX6_isLost 1 = .ok (.aload_n 0, 1) := dk_42 (dk_at dksX6_isLost_0 1 rfl rfl)
theorem dX6_isLost_2 : decode cX6_isLost 2 = .ok (.getfield 7, 3) := dk_180 0 7 (dk_at dksX6_isLost_0 2 rfl rfl)
theorem dX6_isLost_5 : decode cX6_isLost 5 = .ok (.invokevirtual 27, 3) := dk_182 0 27 (dk_at dksX6_isLost_0 5 rfl rfl)
theorem dX6_isLost_8 : decode cX6_isLost 8 = .ok (.astore_n 2, 1) := dk_77 (dk_at dksX6_isLost_0 8 rfl rfl)
theorem dX6_isLost_9 : decode cX6_isLost 9 = .ok (.aload_n 2, 1) := dk_44 (dk_at dksX6_isLost_0 9 rfl rfl)
theorem dX6_isLost_10 : decode cX6_isLost 10 = .ok (.ifnull 21, 3) := dk_198 0 21 (dk_at dksX6_isLost_0 10 rfl rfl)
theorem dX6_isLost_13 : decode cX6_isLost 13 = .ok (.aload_n 2, 1) := dk_44 (dk_at dksX6_isLost_0 13 rfl rfl)
theorem dX6_isLost_14 : decode cX6_isLost 14 = .ok (.invokevirtual 33, 3) := dk_182 0 33 (dk_at dksX6_isLost_0 14 rfl rfl)
theorem dX6_isLost_17 : decode cX6_isLost 17 = .ok (.ifCond .ne 14, 3) := dk_154 0 14 (dk_at dksX6_isLost_0 17 rfl rfl)
theorem dX6_isLost_20 : decode cX6_isLost 20 = .ok (.aload_n 2, 1) := dk_44 (dk_at dksX6_isLost_0 20 rfl rfl)
theorem dX6_isLost_21 : decode cX6_isLost 21 = .ok (.getfield 13, 3) := dk_180 0 13 (dk_at dksX6_isLost_0 21 rfl rfl)
theorem dX6_isLost_24 : decode cX6_isLost 24 = .ok (.aload_n 0, 1) := dk_42 (dk_at dksX6_isLost_1 0 rfl rfl)
theorem dX6_isLost_25 : decode cX6_isLost 25 = .ok (.getfield 13, 3) := dk_180 0 13 (dk_at dksX6_isLost_1 1 rfl rfl)
theorem dX6_isLost_28 : decode cX6_isLost 28 = .ok (.if_acmp .eq 7, 3) := dk_165 0 7 (dk_at dksX6_isLost_1 4 rfl rfl)
theorem dX6_isLost_31 : decode cX6_isLost 31 = .ok (.iconst 1, 1) := dk_4 (dk_at dksX6_isLost_1 7 rfl rfl)
theorem dX6_isLost_32 : decode cX6_isLost 32 = .ok (.goto 4, 3) := dk_167 0 4 (dk_at dksX6_isLost_1 8 rfl rfl)
theorem dX6_isLost_35 : decode cX6_isLost 35 = .ok (.iconst 0, 1) := dk_3 (dk_at dksX6_isLost_1 11 rfl rfl)
theorem dX6_isLost_36 : decode cX6_isLost 36 = .ok (.ireturn, 1) := dk_172 (dk_at dksX6_isLost_1 12 rfl rfl)
def dkwX7_end_0 : List UInt8 := [42, 180, 0, 7, 42, 180, 0, 13, 96, 172]
abbrev dktX7_end_0 : List UInt8 := dkwX7_end_0 ++ []
theorem dksX7_end_0 : cX7_end.data.toList.drop 0 = dktX7_end_0 := by decide +kernel
theorem dX7_end_0 : decode cX7_end 0 = .ok (.aload_n 0, 1) := dk_42 (dk_at dksX7_end_0 0 rfl rfl)
theorem dX7_end_1 : decode cX7_end 1 = .ok (.getfield 7, 3) := dk_180 0 7 (dk_at dksX7_end_0 1 rfl rfl)
theorem dX7_end_4 : decode cX7_end 4 = .ok (.aload_n 0, 1) := dk_42 (dk_at dksX7_end_0 4 rfl rfl)
theorem dX7_end_5 : decode cX7_end 5 = .ok (.getfield 13, 3) := dk_180 0 13 (dk_at dksX7_end_0 5 rfl rfl)
theorem dX7_end_8 : decode cX7_end 8 = .ok (.iadd, 1) := dk_96 (dk_at dksX7_end_0 8 rfl rfl)
theorem dX7_end_9 : decode cX7_end 9 = .ok (.ireturn, 1) := dk_172 (dk_at dksX7_end_0 9 rfl rfl)
def dkwX7_init_0 : List UInt8 := [42, 183, 0, 1, 42, 27, 181, 0, 7, 42, 28, 181, 0, 13, 42, 29, 181, 0, 16, 177]
abbrev dktX7_init_0 : List UInt8 := dkwX7_init_0 ++ []
theorem dksX7_init_0 : cX7_init.data.toList.drop 0 = dktX7_init_0 := by decide +kernel
theorem dX7_init_0 : decode cX7_init 0 = .ok (.aload_n 0, 1) := dk_42 (dk_at dksX7_init_0 0 rfl rfl)
theorem dX7_init_1 : decode cX7_init 1 = .ok (.invokespecial 1, 3) := dk_183 0 1 (dk_at dksX7_init_0 1 rfl rfl)
theorem dX7_init_4 : decode cX7_init 4 = .ok (.aload_n 0, 1) := dk_42 (dk_at dksX7_init_0 4 rfl rfl)
theorem dX7_init_5 : decode cX7_init 5 = .ok (.iload_n 1, 1) := dk_27 (dk_at dksX7_init_0 5 rfl rfl)
theorem dX7_init_6 : decode cX7_init 6 = .ok (.putfield 7, 3) := dk_181 0 7 (dk_at dksX7_init_0 6 rfl rfl)
theorem dX7_init_9 : decode cX7_init 9 = .ok (.aload_n 0, 1) := dk_42 (dk_at dksX7_init_0 9 rfl rfl)
theorem dX7_init_10 : decode cX7_init 10 = .ok (.iload_n 2, 1) := dk_28 (dk_at dksX7_init_0 10 rfl rfl)
theorem dX7_init_11 : decode cX7_init 11 = .ok (.putfield 13, 3) := dk_181 0 13 (dk_at dksX7_init_0 11 rfl rfl)
theorem dX7_init_14 : decode cX7_init 14 = .ok (.aload_n 0, 1) := dk_42 (dk_at dksX7_init_0 14 rfl rfl)
theorem dX7_init_15 : decode cX7_init 15 = .ok (.iload_n 3, 1) := dk_29 (dk_at dksX7_init_0 15 rfl rfl)
theorem dX7_init_16 : decode cX7_init 16 = .ok (.putfield 16, 3) := dk_181 0 16 (dk_at dksX7_init_0 16 rfl rfl)
theorem dX7_init_19 : decode cX7_init 19 = .ok (.return_, 1) := dk_177 (dk_at dksX7_init_0 19 rfl rfl)
def dkwX7_at_0 : List UInt8 := [187, 0, 8, 89, 27, 42, 180, 0, 13, 42, 180, 0, 16, 183, 0, 19, 176]
abbrev dktX7_at_0 : List UInt8 := dkwX7_at_0 ++ []
theorem dksX7_at_0 : cX7_at.data.toList.drop 0 = dktX7_at_0 := by decide +kernel
theorem dX7_at_0 : decode cX7_at 0 = .ok (.new 8, 3) := dk_187 0 8 (dk_at dksX7_at_0 0 rfl rfl)
theorem dX7_at_3 : decode cX7_at 3 = .ok (.dup, 1) := dk_89 (dk_at dksX7_at_0 3 rfl rfl)
theorem dX7_at_4 : decode cX7_at 4 = .ok (.iload_n 1, 1) := dk_27 (dk_at dksX7_at_0 4 rfl rfl)
theorem dX7_at_5 : decode cX7_at 5 = .ok (.aload_n 0, 1) := dk_42 (dk_at dksX7_at_0 5 rfl rfl)
theorem dX7_at_6 : decode cX7_at 6 = .ok (.getfield 13, 3) := dk_180 0 13 (dk_at dksX7_at_0 6 rfl rfl)
theorem dX7_at_9 : decode cX7_at 9 = .ok (.aload_n 0, 1) := dk_42 (dk_at dksX7_at_0 9 rfl rfl)
theorem dX7_at_10 : decode cX7_at 10 = .ok (.getfield 16, 3) := dk_180 0 16 (dk_at dksX7_at_0 10 rfl rfl)
theorem dX7_at_13 : decode cX7_at 13 = .ok (.invokespecial 19, 3) := dk_183 0 19 (dk_at dksX7_at_0 13 rfl rfl)
theorem dX7_at_16 : decode cX7_at 16 = .ok (.areturn, 1) := dk_176 (dk_at dksX7_at_0 16 rfl rfl)
