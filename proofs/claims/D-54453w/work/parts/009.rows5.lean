set_option maxRecDepth 100000
def dkwX0_init_1 : List UInt8 := [181, 0, 60, 42, 187, 0, 64, 89, 16, 60, 183, 0, 66, 181, 0, 67, 177]
abbrev dktX0_init_1 : List UInt8 := dkwX0_init_1 ++ []
def dkwX0_init_0 : List UInt8 := [42, 183, 0, 47, 42, 187, 0, 50, 89, 183, 0, 52, 181, 0, 53, 42, 187, 0, 57, 89, 183, 0, 59]
abbrev dktX0_init_0 : List UInt8 := dkwX0_init_0 ++ dktX0_init_1
theorem dksX0_init_0 : cX0_init.data.toList.drop 0 = dktX0_init_0 := by decide +kernel
theorem dksX0_init_1 : cX0_init.data.toList.drop 23 = dktX0_init_1 := dk_seg dksX0_init_0 23 rfl rfl
theorem dX0_init_0 : decode cX0_init 0 = .ok (.aload_n 0, 1) := dk_42 (dk_at dksX0_init_0 0 rfl rfl)
theorem dX0_init_1 : decode cX0_init 1 = .ok (.invokespecial 47, 3) := dk_183 0 47 (dk_at dksX0_init_0 1 rfl rfl)
theorem dX0_init_4 : decode cX0_init 4 = .ok (.aload_n 0, 1) := dk_42 (dk_at dksX0_init_0 4 rfl rfl)
theorem dX0_init_5 : decode cX0_init 5 = .ok (.new 50, 3) := dk_187 0 50 (dk_at dksX0_init_0 5 rfl rfl)
theorem dX0_init_8 : decode cX0_init 8 = .ok (.dup, 1) := dk_89 (dk_at dksX0_init_0 8 rfl rfl)
theorem dX0_init_9 : decode cX0_init 9 = .ok (.invokespecial 52, 3) := dk_183 0 52 (dk_at dksX0_init_0 9 rfl rfl)
theorem dX0_init_12 : decode cX0_init 12 = .ok (.putfield 53, 3) := dk_181 0 53 (dk_at dksX0_init_0 12 rfl rfl)
theorem dX0_init_15 : decode cX0_init 15 = .ok (.aload_n 0, 1) := dk_42 (dk_at dksX0_init_0 15 rfl rfl)
theorem dX0_init_16 : decode cX0_init 16 = .ok (.new 57, 3) := dk_187 0 57 (dk_at dksX0_init_0 16 rfl rfl)
theorem dX0_init_19 : decode cX0_init 19 = .ok (.dup, 1) := dk_89 (dk_at dksX0_init_0 19 rfl rfl)
theorem dX0_init_20 : decode cX0_init 20 = .ok (.invokespecial 59, 3) := dk_183 0 59 (dk_at dksX0_init_0 20 rfl rfl)
theorem dX0_init_23 : decode cX0_init 23 = .ok (.putfield 60, 3) := dk_181 0 60 (dk_at dksX0_init_1 0 rfl rfl)
theorem dX0_init_26 : decode cX0_init 26 = .ok (.aload_n 0, 1) := dk_42 (dk_at dksX0_init_1 3 rfl rfl)
theorem dX0_init_27 : decode cX0_init 27 = .ok (.new 64, 3) := dk_187 0 64 (dk_at dksX0_init_1 4 rfl rfl)
theorem dX0_init_30 : decode cX0_init 30 = .ok (.dup, 1) := dk_89 (dk_at dksX0_init_1 7 rfl rfl)
theorem dX0_init_31 : decode cX0_init 31 = .ok (.bipush 60, 2) := dk_16 60 (dk_at dksX0_init_1 8 rfl rfl)
theorem dX0_init_33 : decode cX0_init 33 = .ok (.invokespecial 66, 3) := dk_183 0 66 (dk_at dksX0_init_1 10 rfl rfl)
theorem dX0_init_36 : decode cX0_init 36 = .ok (.putfield 67, 3) := dk_181 0 67 (dk_at dksX0_init_1 13 rfl rfl)
theorem dX0_init_39 : decode cX0_init 39 = .ok (.return_, 1) := dk_177 (dk_at dksX0_init_1 16 rfl rfl)
def dkwX0_add_2 : List UInt8 := [21, 5, 167, 0, 11, 42, 25, 4, 21, 5, 182, 0, 99, 172]
abbrev dktX0_add_2 : List UInt8 := dkwX0_add_2 ++ []
def dkwX0_add_1 : List UInt8 := [42, 180, 0, 53, 182, 0, 92, 58, 4, 25, 4, 27, 28, 29, 182, 0, 96, 54, 5, 21, 5, 156, 0, 8]
abbrev dktX0_add_1 : List UInt8 := dkwX0_add_1 ++ dktX0_add_2
def dkwX0_add_0 : List UInt8 := [27, 184, 0, 82, 153, 0, 17, 28, 184, 0, 86, 153, 0, 10, 29, 184, 0, 89, 154, 0, 6, 16, 254, 172]
abbrev dktX0_add_0 : List UInt8 := dkwX0_add_0 ++ dktX0_add_1
theorem dksX0_add_0 : cX0_add.data.toList.drop 0 = dktX0_add_0 := by decide +kernel
theorem dksX0_add_1 : cX0_add.data.toList.drop 24 = dktX0_add_1 := dk_seg dksX0_add_0 24 rfl rfl
theorem dksX0_add_2 : cX0_add.data.toList.drop 48 = dktX0_add_2 := dk_seg dksX0_add_1 24 rfl rfl
theorem dX0_add_0 : decode cX0_add 0 = .ok (.iload_n 1, 1) := dk_27 (dk_at dksX0_add_0 0 rfl rfl)
theorem dX0_add_1 : decode cX0_add 1 = .ok (.invokestatic 82, 3) := dk_184 0 82 (dk_at dksX0_add_0 1 rfl rfl)
theorem dX0_add_4 : decode cX0_add 4 = .ok (.ifCond .eq 17, 3) := dk_153 0 17 (dk_at dksX0_add_0 4 rfl rfl)
theorem dX0_add_7 : decode cX0_add 7 = .ok (.iload_n 2, 1) := dk_28 (dk_at dksX0_add_0 7 rfl rfl)
theorem dX0_add_8 : decode cX0_add 8 = .ok (.invokestatic 86, 3) := dk_184 0 86 (dk_at dksX0_add_0 8 rfl rfl)
theorem dX0_add_11 : decode cX0_add 11 = .ok (.ifCond .eq 10, 3) := dk_153 0 10 (dk_at dksX0_add_0 11 rfl rfl)
theorem dX0_add_14 : decode cX0_add 14 = .ok (.iload_n 3, 1) := dk_29 (dk_at dksX0_add_0 14 rfl rfl)
theorem dX0_add_15 : decode cX0_add 15 = .ok (.invokestatic 89, 3) := dk_184 0 89 (dk_at dksX0_add_0 15 rfl rfl)
theorem dX0_add_18 : decode cX0_add 18 = .ok (.ifCond .ne 6, 3) := dk_154 0 6 (dk_at dksX0_add_0 18 rfl rfl)
theorem dX0_add_21 : decode cX0_add 21 = .ok (.bipush (-2), 2) := dk_16 254 (dk_at dksX0_add_0 21 rfl rfl)
theorem dX0_add_23 : decode cX0_add 23 = .ok (.ireturn, 1) := dk_172 (dk_at dksX0_add_0 23 rfl rfl)
theorem dX0_add_24 : decode cX0_add 24 = .ok (.aload_n 0, 1) := dk_42 (dk_at dksX0_add_1 0 rfl rfl)
theorem dX0_add_25 : decode cX0_add 25 = .ok (.getfield 53, 3) := dk_180 0 53 (dk_at dksX0_add_1 1 rfl rfl)
theorem dX0_add_28 : decode cX0_add 28 = .ok (.invokevirtual 92, 3) := dk_182 0 92 (dk_at dksX0_add_1 4 rfl rfl)
theorem dX0_add_31 : decode cX0_add 31 = .ok (.astore 4, 2) := dk_58 4 (dk_at dksX0_add_1 7 rfl rfl)
theorem dX0_add_33 : decode cX0_add 33 = .ok (.aload 4, 2) := dk_25 4 (dk_at dksX0_add_1 9 rfl rfl)
theorem dX0_add_35 : decode cX0_add 35 = .ok (.iload_n 1, 1) := dk_27 (dk_at dksX0_add_1 11 rfl rfl)
theorem dX0_add_36 : decode cX0_add 36 = .ok (.iload_n 2, 1) := dk_28 (dk_at dksX0_add_1 12 rfl rfl)
theorem dX0_add_37 : decode cX0_add 37 = .ok (.iload_n 3, 1) := dk_29 (dk_at dksX0_add_1 13 rfl rfl)
theorem dX0_add_38 : decode cX0_add 38 = .ok (.invokevirtual 96, 3) := dk_182 0 96 (dk_at dksX0_add_1 14 rfl rfl)
theorem dX0_add_41 : decode cX0_add 41 = .ok (.istore 5, 2) := dk_54 5 (dk_at dksX0_add_1 17 rfl rfl)
theorem dX0_add_43 : decode cX0_add 43 = .ok (.iload 5, 2) := dk_21 5 (dk_at dksX0_add_1 19 rfl rfl)
theorem dX0_add_45 : decode cX0_add 45 = .ok (.ifCond .ge 8, 3) := dk_156 0 8 (dk_at dksX0_add_1 21 rfl rfl)
theorem dX0_add_48 : decode cX0_add 48 = .ok (.iload 5, 2) := dk_21 5 (dk_at dksX0_add_2 0 rfl rfl)
theorem dX0_add_50 : decode cX0_add 50 = .ok (.goto 11, 3) := dk_167 0 11 (dk_at dksX0_add_2 2 rfl rfl)
theorem dX0_add_53 : decode cX0_add 53 = .ok (.aload_n 0, 1) := dk_42 (dk_at dksX0_add_2 5 rfl rfl)
theorem dX0_add_54 : decode cX0_add 54 = .ok (.aload 4, 2) := dk_25 4 (dk_at dksX0_add_2 6 rfl rfl)
theorem dX0_add_56 : decode cX0_add 56 = .ok (.iload 5, 2) := dk_21 5 (dk_at dksX0_add_2 8 rfl rfl)
theorem dX0_add_58 : decode cX0_add 58 = .ok (.invokevirtual 99, 3) := dk_182 0 99 (dk_at dksX0_add_2 10 rfl rfl)
theorem dX0_add_61 : decode cX0_add 61 = .ok (.ireturn, 1) := dk_172 (dk_at dksX0_add_2 13 rfl rfl)
def dkwX0_isName_0 : List UInt8 := [26, 3, 17, 2, 163, 184, 0, 3, 172]
abbrev dktX0_isName_0 : List UInt8 := dkwX0_isName_0 ++ []
theorem dksX0_isName_0 : cX0_isName.data.toList.drop 0 = dktX0_isName_0 := by decide +kernel
theorem dX0_isName_0 : decode cX0_isName 0 = .ok (.iload_n 0, 1) := dk_26 (dk_at dksX0_isName_0 0 rfl rfl)
theorem dX0_isName_1 : decode cX0_isName 1 = .ok (.iconst 0, 1) := dk_3 (dk_at dksX0_isName_0 1 rfl rfl)
theorem dX0_isName_2 : decode cX0_isName 2 = .ok (.sipush 675, 3) := dk_17 2 163 (dk_at dksX0_isName_0 2 rfl rfl)
theorem dX0_isName_5 : decode cX0_isName 5 = .ok (.invokestatic 3, 3) := dk_184 0 3 (dk_at dksX0_isName_0 5 rfl rfl)
theorem dX0_isName_8 : decode cX0_isName 8 = .ok (.ireturn, 1) := dk_172 (dk_at dksX0_isName_0 8 rfl rfl)
def dkwX0_inRange_0 : List UInt8 := [26, 27, 161, 0, 12, 26, 28, 163, 0, 7, 4, 167, 0, 4, 3, 172]
abbrev dktX0_inRange_0 : List UInt8 := dkwX0_inRange_0 ++ []
theorem dksX0_inRange_0 : cX0_inRange.data.toList.drop 0 = dktX0_inRange_0 := by decide +kernel
theorem dX0_inRange_0 : decode cX0_inRange 0 = .ok (.iload_n 0, 1) := dk_26 (dk_at dksX0_inRange_0 0 rfl rfl)
theorem dX0_inRange_1 : decode cX0_inRange 1 = .ok (.iload_n 1, 1) := dk_27 (dk_at dksX0_inRange_0 1 rfl rfl)
theorem dX0_inRange_2 : decode cX0_inRange 2 = .ok (.if_icmp .lt 12, 3) := dk_161 0 12 (dk_at dksX0_inRange_0 2 rfl rfl)
theorem dX0_inRange_5 : decode cX0_inRange 5 = .ok (.iload_n 0, 1) := dk_26 (dk_at dksX0_inRange_0 5 rfl rfl)
theorem dX0_inRange_6 : decode cX0_inRange 6 = .ok (.iload_n 2, 1) := dk_28 (dk_at dksX0_inRange_0 6 rfl rfl)
theorem dX0_inRange_7 : decode cX0_inRange 7 = .ok (.if_icmp .gt 7, 3) := dk_163 0 7 (dk_at dksX0_inRange_0 7 rfl rfl)
theorem dX0_inRange_10 : decode cX0_inRange 10 = .ok (.iconst 1, 1) := dk_4 (dk_at dksX0_inRange_0 10 rfl rfl)
theorem dX0_inRange_11 : decode cX0_inRange 11 = .ok (.goto 4, 3) := dk_167 0 4 (dk_at dksX0_inRange_0 11 rfl rfl)
theorem dX0_inRange_14 : decode cX0_inRange 14 = .ok (.iconst 0, 1) := dk_3 (dk_at dksX0_inRange_0 14 rfl rfl)
theorem dX0_inRange_15 : decode cX0_inRange 15 = .ok (.ireturn, 1) := dk_172 (dk_at dksX0_inRange_0 15 rfl rfl)
def dkwX0_isLength_0 : List UInt8 := [26, 4, 16, 40, 184, 0, 3, 172]
abbrev dktX0_isLength_0 : List UInt8 := dkwX0_isLength_0 ++ []
theorem dksX0_isLength_0 : cX0_isLength.data.toList.drop 0 = dktX0_isLength_0 := by decide +kernel
theorem dX0_isLength_0 : decode cX0_isLength 0 = .ok (.iload_n 0, 1) := dk_26 (dk_at dksX0_isLength_0 0 rfl rfl)
theorem dX0_isLength_1 : decode cX0_isLength 1 = .ok (.iconst 1, 1) := dk_4 (dk_at dksX0_isLength_0 1 rfl rfl)
theorem dX0_isLength_2 : decode cX0_isLength 2 = .ok (.bipush 40, 2) := dk_16 40 (dk_at dksX0_isLength_0 2 rfl rfl)
theorem dX0_isLength_4 : decode cX0_isLength 4 = .ok (.invokestatic 3, 3) := dk_184 0 3 (dk_at dksX0_isLength_0 4 rfl rfl)
theorem dX0_isLength_7 : decode cX0_isLength 7 = .ok (.ireturn, 1) := dk_172 (dk_at dksX0_isLength_0 7 rfl rfl)
def dkwX0_isMark_0 : List UInt8 := [26, 3, 17, 39, 15, 184, 0, 3, 172]
abbrev dktX0_isMark_0 : List UInt8 := dkwX0_isMark_0 ++ []
theorem dksX0_isMark_0 : cX0_isMark.data.toList.drop 0 = dktX0_isMark_0 := by decide +kernel
theorem dX0_isMark_0 : decode cX0_isMark 0 = .ok (.iload_n 0, 1) := dk_26 (dk_at dksX0_isMark_0 0 rfl rfl)
theorem dX0_isMark_1 : decode cX0_isMark 1 = .ok (.iconst 0, 1) := dk_3 (dk_at dksX0_isMark_0 1 rfl rfl)
theorem dX0_isMark_2 : decode cX0_isMark 2 = .ok (.sipush 9999, 3) := dk_17 39 15 (dk_at dksX0_isMark_0 2 rfl rfl)
theorem dX0_isMark_5 : decode cX0_isMark 5 = .ok (.invokestatic 3, 3) := dk_184 0 3 (dk_at dksX0_isMark_0 5 rfl rfl)
theorem dX0_isMark_8 : decode cX0_isMark 8 = .ok (.ireturn, 1) := dk_172 (dk_at dksX0_isMark_0 8 rfl rfl)
def dkwX0_become_1 : List UInt8 := [180, 0, 60, 182, 0, 78, 87, 42, 43, 181, 0, 53, 28, 172]
abbrev dktX0_become_1 : List UInt8 := dkwX0_become_1 ++ []
def dkwX0_become_0 : List UInt8 := [42, 180, 0, 60, 42, 180, 0, 53, 182, 0, 71, 42, 180, 0, 60, 182, 0, 75, 7, 164, 0, 11, 42]
abbrev dktX0_become_0 : List UInt8 := dkwX0_become_0 ++ dktX0_become_1
theorem dksX0_become_0 : cX0_become.data.toList.drop 0 = dktX0_become_0 := by decide +kernel
theorem dksX0_become_1 : cX0_become.data.toList.drop 23 = dktX0_become_1 := dk_seg dksX0_become_0 23 rfl rfl
theorem dX0_become_0 : decode cX0_become 0 = .ok (.aload_n 0, 1) := dk_42 (dk_at dksX0_become_0 0 rfl rfl)
theorem dX0_become_1 : decode cX0_become 1 = .ok (.getfield 60, 3) := dk_180 0 60 (dk_at dksX0_become_0 1 rfl rfl)
theorem dX0_become_4 : decode cX0_become 4 = .ok (.aload_n 0, 1) := dk_42 (dk_at dksX0_become_0 4 rfl rfl)
theorem dX0_become_5 : decode cX0_become 5 = .ok (.getfield 53, 3) := dk_180 0 53 (dk_at dksX0_become_0 5 rfl rfl)
theorem dX0_become_8 : decode cX0_become 8 = .ok (.invokevirtual 71, 3) := dk_182 0 71 (dk_at dksX0_become_0 8 rfl rfl)
theorem dX0_become_11 : decode cX0_become 11 = .ok (.aload_n 0, 1) := dk_42 (dk_at dksX0_become_0 11 rfl rfl)
theorem dX0_become_12 : decode cX0_become 12 = .ok (.getfield 60, 3) := dk_180 0 60 (dk_at dksX0_become_0 12 rfl rfl)
theorem dX0_become_15 : decode cX0_become 15 = .ok (.invokevirtual 75, 3) := dk_182 0 75 (dk_at dksX0_become_0 15 rfl rfl)
theorem dX0_become_18 : decode cX0_become 18 = .ok (.iconst 4, 1) := dk_7 (dk_at dksX0_become_0 18 rfl rfl)
theorem dX0_become_19 : decode cX0_become 19 = .ok (.if_icmp .le 11, 3) := dk_164 0 11 (dk_at dksX0_become_0 19 rfl rfl)
theorem dX0_become_22 : decode cX0_become 22 = .ok (.aload_n 0, 1) := dk_42 (dk_at dksX0_become_0 22 rfl rfl)
theorem dX0_become_23 : decode cX0_become 23 = .ok (.getfield 60, 3) := dk_180 0 60 (dk_at dksX0_become_1 0 rfl rfl)
theorem dX0_become_26 : decode cX0_become 26 = .ok (.invokevirtual 78, 3) := dk_182 0 78 (dk_at dksX0_become_1 3 rfl rfl)
theorem dX0_become_29 : decode cX0_become 29 = .ok (.pop, 1) := dk_87 (dk_at dksX0_become_1 6 rfl rfl)
theorem dX0_become_30 : decode cX0_become 30 = .ok (.aload_n 0, 1) := dk_42 (dk_at dksX0_become_1 7 rfl rfl)
theorem dX0_become_31 : decode cX0_become 31 = .ok (.aload_n 1, 1) := dk_43 (dk_at dksX0_become_1 8 rfl rfl)
theorem dX0_become_32 : decode cX0_become 32 = .ok (.putfield 53, 3) := dk_181 0 53 (dk_at dksX0_become_1 9 rfl rfl)
theorem dX0_become_35 : decode cX0_become 35 = .ok (.iload_n 2, 1) := dk_28 (dk_at dksX0_become_1 12 rfl rfl)
theorem dX0_become_36 : decode cX0_become 36 = .ok (.ireturn, 1) := dk_172 (dk_at dksX0_become_1 13 rfl rfl)
def dkwX0_replace_2 : List UInt8 := [182, 0, 113, 54, 5, 21, 5, 156, 0, 8, 21, 5, 167, 0, 11, 42, 25, 4, 21, 5, 182, 0, 99, 172]
abbrev dktX0_replace_2 : List UInt8 := dkwX0_replace_2 ++ []
def dkwX0_replace_1 : List UInt8 := [184, 0, 89, 154, 0, 6, 16, 254, 172, 42, 180, 0, 53, 182, 0, 92, 58, 4, 25, 4, 27, 28, 29]
abbrev dktX0_replace_1 : List UInt8 := dkwX0_replace_1 ++ dktX0_replace_2
def dkwX0_replace_0 : List UInt8 := [42, 180, 0, 53, 180, 0, 103, 27, 182, 0, 107, 199, 0, 5, 2, 172, 28, 184, 0, 86, 153, 0, 10, 29]
abbrev dktX0_replace_0 : List UInt8 := dkwX0_replace_0 ++ dktX0_replace_1
theorem dksX0_replace_0 : cX0_replace.data.toList.drop 0 = dktX0_replace_0 := by decide +kernel
theorem dksX0_replace_1 : cX0_replace.data.toList.drop 24 = dktX0_replace_1 := dk_seg dksX0_replace_0 24 rfl rfl
theorem dksX0_replace_2 : cX0_replace.data.toList.drop 47 = dktX0_replace_2 := dk_seg dksX0_replace_1 23 rfl rfl
theorem dX0_replace_0 : decode cX0_replace 0 = .ok (.aload_n 0, 1) := dk_42 (dk_at dksX0_replace_0 0 rfl rfl)
theorem dX0_replace_1 : decode cX0_replace 1 = .ok (.getfield 53, 3) := dk_180 0 53 (dk_at dksX0_replace_0 1 rfl rfl)
theorem dX0_replace_4 : decode cX0_replace 4 = .ok (.getfield 103, 3) := dk_180 0 103 (dk_at dksX0_replace_0 4 rfl rfl)
theorem dX0_replace_7 : decode cX0_replace 7 = .ok (.iload_n 1, 1) := dk_27 (dk_at dksX0_replace_0 7 rfl rfl)
theorem dX0_replace_8 : decode cX0_replace 8 = .ok (.invokevirtual 107, 3) := dk_182 0 107 (dk_at dksX0_replace_0 8 rfl rfl)
theorem dX0_replace_11 : decode cX0_replace 11 = .ok (.ifnonnull 5, 3) := dk_199 0 5 (dk_at dksX0_replace_0 11 rfl rfl)
theorem dX0_replace_14 : decode cX0_replace 14 = .ok (.iconst (-1), 1) := dk_2 (dk_at dksX0_replace_0 14 rfl rfl)
theorem dX0_replace_15 : decode cX0_replace 15 = .ok (.ireturn, 1) := dk_172 (dk_at dksX0_replace_0 15 rfl rfl)
theorem dX0_replace_16 : decode cX0_replace 16 = .ok (.iload_n 2, 1) := dk_28 (dk_at dksX0_replace_0 16 rfl rfl)
theorem dX0_replace_17 : decode cX0_replace 17 = .ok (.invokestatic 86, 3) := dk_184 0 86 (dk_at dksX0_replace_0 17 rfl rfl)
theorem dX0_replace_20 : decode cX0_replace 20 = .ok (.ifCond .eq 10, 3) := dk_153 0 10 (dk_at dksX0_replace_0 20 rfl rfl)
theorem dX0_replace_23 : decode cX0_replace 23 = .ok (.iload_n 3, 1) := dk_29 (dk_at dksX0_replace_0 23 rfl rfl)
theorem dX0_replace_24 : decode cX0_replace 24 = .ok (.invokestatic 89, 3) := dk_184 0 89 (dk_at dksX0_replace_1 0 rfl rfl)
theorem dX0_replace_27 : decode cX0_replace 27 = .ok (.ifCond .ne 6, 3) := dk_154 0 6 (dk_at dksX0_replace_1 3 rfl rfl)
theorem dX0_replace_30 : decode cX0_replace 30 = .ok (.bipush (-2), 2) := dk_16 254 (dk_at dksX0_replace_1 6 rfl rfl)
theorem dX0_replace_32 : decode cX0_replace 32 = .ok (.ireturn, 1) := dk_172 (dk_at dksX0_replace_1 8 rfl rfl)
theorem dX0_replace_33 : decode cX0_replace 33 = .ok (.aload_n 0, 1) := dk_42 (dk_at dksX0_replace_1 9 rfl rfl)
theorem dX0_replace_34 : decode cX0_replace 34 = .ok (.getfield 53, 3) := dk_180 0 53 (dk_at dksX0_replace_1 10 rfl rfl)
theorem dX0_replace_37 : decode cX0_replace 37 = .ok (.invokevirtual 92, 3) := dk_182 0 92 (dk_at dksX0_replace_1 13 rfl rfl)
theorem dX0_replace_40 : decode cX0_replace 40 = .ok (.astore 4, 2) := dk_58 4 (dk_at dksX0_replace_1 16 rfl rfl)
theorem dX0_replace_42 : decode cX0_replace 42 = .ok (.aload 4, 2) := dk_25 4 (dk_at dksX0_replace_1 18 rfl rfl)
theorem dX0_replace_44 : decode cX0_replace 44 = .ok (.iload_n 1, 1) := dk_27 (dk_at dksX0_replace_1 20 rfl rfl)
theorem dX0_replace_45 : decode cX0_replace 45 = .ok (.iload_n 2, 1) := dk_28 (dk_at dksX0_replace_1 21 rfl rfl)
theorem dX0_replace_46 : decode cX0_replace 46 = .ok (.iload_n 3, 1) := dk_29 (dk_at dksX0_replace_1 22 rfl rfl)
theorem dX0_replace_47 : decode cX0_replace 47 = .ok (.invokevirtual 113, 3) := dk_182 0 113 (dk_at dksX0_replace_2 0 rfl rfl)
theorem dX0_replace_50 : decode cX0_replace 50 = .ok (.istore 5, 2) := dk_54 5 (dk_at dksX0_replace_2 3 rfl rfl)
theorem dX0_replace_52 : decode cX0_replace 52 = .ok (.iload 5, 2) := dk_21 5 (dk_at dksX0_replace_2 5 rfl rfl)
theorem dX0_replace_54 : decode cX0_replace 54 = .ok (.ifCond .ge 8, 3) := dk_156 0 8 (dk_at dksX0_replace_2 7 rfl rfl)
theorem dX0_replace_57 : decode cX0_replace 57 = .ok (.iload 5, 2) := dk_21 5 (dk_at dksX0_replace_2 10 rfl rfl)
theorem dX0_replace_59 : decode cX0_replace 59 = .ok (.goto 11, 3) := dk_167 0 11 (dk_at dksX0_replace_2 12 rfl rfl)
theorem dX0_replace_62 : decode cX0_replace 62 = .ok (.aload_n 0, 1) := dk_42 (dk_at dksX0_replace_2 15 rfl rfl)
theorem dX0_replace_63 : decode cX0_replace 63 = .ok (.aload 4, 2) := dk_25 4 (dk_at dksX0_replace_2 16 rfl rfl)
theorem dX0_replace_65 : decode cX0_replace 65 = .ok (.iload 5, 2) := dk_21 5 (dk_at dksX0_replace_2 18 rfl rfl)
theorem dX0_replace_67 : decode cX0_replace 67 = .ok (.invokevirtual 99, 3) := dk_182 0 99 (dk_at dksX0_replace_2 20 rfl rfl)
theorem dX0_replace_70 : decode cX0_replace 70 = .ok (.ireturn, 1) := dk_172 (dk_at dksX0_replace_2 23 rfl rfl)
def dkwX0_remove_1 : List UInt8 := [44, 180, 0, 103, 27, 182, 0, 119, 42, 44, 44, 180, 0, 103, 182, 0, 122, 182, 0, 99, 172]
abbrev dktX0_remove_1 : List UInt8 := dkwX0_remove_1 ++ []
def dkwX0_remove_0 : List UInt8 := [42, 180, 0, 53, 180, 0, 103, 27, 182, 0, 116, 199, 0, 5, 2, 172, 42, 180, 0, 53, 182, 0, 92, 77]
abbrev dktX0_remove_0 : List UInt8 := dkwX0_remove_0 ++ dktX0_remove_1
theorem dksX0_remove_0 : cX0_remove.data.toList.drop 0 = dktX0_remove_0 := by decide +kernel
theorem dksX0_remove_1 : cX0_remove.data.toList.drop 24 = dktX0_remove_1 := dk_seg dksX0_remove_0 24 rfl rfl
theorem dX0_remove_0 : decode cX0_remove 0 = .ok (.aload_n 0, 1) := dk_42 (dk_at dksX0_remove_0 0 rfl rfl)
theorem dX0_remove_1 : decode cX0_remove 1 = .ok (.getfield 53, 3) := dk_180 0 53 (dk_at dksX0_remove_0 1 rfl rfl)
theorem dX0_remove_4 : decode cX0_remove 4 = .ok (.getfield 103, 3) := dk_180 0 103 (dk_at dksX0_remove_0 4 rfl rfl)
theorem dX0_remove_7 : decode cX0_remove 7 = .ok (.iload_n 1, 1) := dk_27 (dk_at dksX0_remove_0 7 rfl rfl)
theorem dX0_remove_8 : decode cX0_remove 8 = .ok (.invokevirtual 116, 3) := dk_182 0 116 (dk_at dksX0_remove_0 8 rfl rfl)
theorem dX0_remove_11 : decode cX0_remove 11 = .ok (.ifnonnull 5, 3) := dk_199 0 5 (dk_at dksX0_remove_0 11 rfl rfl)
theorem dX0_remove_14 : decode cX0_remove 14 = .ok (.iconst (-1), 1) := dk_2 (dk_at dksX0_remove_0 14 rfl rfl)
theorem dX0_remove_15 : decode cX0_remove 15 = .ok (.ireturn, 1) := dk_172 (dk_at dksX0_remove_0 15 rfl rfl)
theorem dX0_remove_16 : decode cX0_remove 16 = .ok (.aload_n 0, 1) := dk_42 (dk_at dksX0_remove_0 16 rfl rfl)
theorem dX0_remove_17 : decode cX0_remove 17 = .ok (.getfield 53, 3) := dk_180 0 53 (dk_at dksX0_remove_0 17 rfl rfl)
theorem dX0_remove_20 : decode cX0_remove 20 = .ok (.invokevirtual 92, 3) := dk_182 0 92 (dk_at dksX0_remove_0 20 rfl rfl)
theorem dX0_remove_23 : decode cX0_remove 23 = .ok (.astore_n 2, 1) := dk_77 (dk_at dksX0_remove_0 23 rfl rfl)
theorem dX0_remove_24 : decode cX0_remove 24 = .ok (.aload_n 2, 1) := dk_44 (dk_at dksX0_remove_1 0 rfl rfl)
theorem dX0_remove_25 : decode cX0_remove 25 = .ok (.getfield 103, 3) := dk_180 0 103 (dk_at dksX0_remove_1 1 rfl rfl)
theorem dX0_remove_28 : decode cX0_remove 28 = .ok (.iload_n 1, 1) := dk_27 (dk_at dksX0_remove_1 4 rfl rfl)
theorem dX0_remove_29 : decode cX0_remove 29 = .ok (.invokevirtual 119, 3) := dk_182 0 119 (dk_at dksX0_remove_1 5 rfl rfl)
theorem dX0_remove_32 : decode cX0_remove 32 = .ok (.aload_n 0, 1) := dk_42 (dk_at dksX0_remove_1 8 rfl rfl)
theorem dX0_remove_33 : decode cX0_remove 33 = .ok (.aload_n 2, 1) := dk_44 (dk_at dksX0_remove_1 9 rfl rfl)
theorem dX0_remove_34 : decode cX0_remove 34 = .ok (.aload_n 2, 1) := dk_44 (dk_at dksX0_remove_1 10 rfl rfl)
theorem dX0_remove_35 : decode cX0_remove 35 = .ok (.getfield 103, 3) := dk_180 0 103 (dk_at dksX0_remove_1 11 rfl rfl)
theorem dX0_remove_38 : decode cX0_remove 38 = .ok (.invokevirtual 122, 3) := dk_182 0 122 (dk_at dksX0_remove_1 14 rfl rfl)
theorem dX0_remove_41 : decode cX0_remove 41 = .ok (.invokevirtual 99, 3) := dk_182 0 99 (dk_at dksX0_remove_1 17 rfl rfl)
theorem dX0_remove_44 : decode cX0_remove 44 = .ok (.ireturn, 1) := dk_172 (dk_at dksX0_remove_1 20 rfl rfl)
def dkwX0_rename_3 : List UInt8 := [45, 45, 180, 0, 103, 28, 182, 0, 129, 182, 0, 99, 172]
abbrev dktX0_rename_3 : List UInt8 := dkwX0_rename_3 ++ []
def dkwX0_rename_2 : List UInt8 := [172, 27, 28, 160, 0, 6, 16, 251, 172, 42, 180, 0, 53, 182, 0, 92, 78, 45, 27, 28, 182, 0, 125, 42]
abbrev dktX0_rename_2 : List UInt8 := dkwX0_rename_2 ++ dktX0_rename_3
def dkwX0_rename_1 : List UInt8 := [16, 254, 172, 27, 28, 159, 0, 20, 42, 180, 0, 53, 180, 0, 103, 28, 182, 0, 116, 198, 0, 6, 16, 249]
abbrev dktX0_rename_1 : List UInt8 := dkwX0_rename_1 ++ dktX0_rename_2
def dkwX0_rename_0 : List UInt8 := [42, 180, 0, 53, 180, 0, 103, 27, 182, 0, 116, 199, 0, 5, 2, 172, 28, 184, 0, 82, 154, 0, 6]
abbrev dktX0_rename_0 : List UInt8 := dkwX0_rename_0 ++ dktX0_rename_1
theorem dksX0_rename_0 : cX0_rename.data.toList.drop 0 = dktX0_rename_0 := by decide +kernel
theorem dksX0_rename_1 : cX0_rename.data.toList.drop 23 = dktX0_rename_1 := dk_seg dksX0_rename_0 23 rfl rfl
theorem dksX0_rename_2 : cX0_rename.data.toList.drop 47 = dktX0_rename_2 := dk_seg dksX0_rename_1 24 rfl rfl
theorem dksX0_rename_3 : cX0_rename.data.toList.drop 71 = dktX0_rename_3 := dk_seg dksX0_rename_2 24 rfl rfl
theorem dX0_rename_0 : decode cX0_rename 0 = .ok (.aload_n 0, 1) := dk_42 (dk_at dksX0_rename_0 0 rfl rfl)
theorem dX0_rename_1 : decode cX0_rename 1 = .ok (.getfield 53, 3) := dk_180 0 53 (dk_at dksX0_rename_0 1 rfl rfl)
theorem dX0_rename_4 : decode cX0_rename 4 = .ok (.getfield 103, 3) := dk_180 0 103 (dk_at dksX0_rename_0 4 rfl rfl)
theorem dX0_rename_7 : decode cX0_rename 7 = .ok (.iload_n 1, 1) := dk_27 (dk_at dksX0_rename_0 7 rfl rfl)
theorem dX0_rename_8 : decode cX0_rename 8 = .ok (.invokevirtual 116, 3) := dk_182 0 116 (dk_at dksX0_rename_0 8 rfl rfl)
theorem dX0_rename_11 : decode cX0_rename 11 = .ok (.ifnonnull 5, 3) := dk_199 0 5 (dk_at dksX0_rename_0 11 rfl rfl)
theorem dX0_rename_14 : decode cX0_rename 14 = .ok (.iconst (-1), 1) := dk_2 (dk_at dksX0_rename_0 14 rfl rfl)
theorem dX0_rename_15 : decode cX0_rename 15 = .ok (.ireturn, 1) := dk_172 (dk_at dksX0_rename_0 15 rfl rfl)
theorem dX0_rename_16 : decode cX0_rename 16 = .ok (.iload_n 2, 1) := dk_28 (dk_at dksX0_rename_0 16 rfl rfl)
theorem dX0_rename_17 : decode cX0_rename 17 = .ok (.invokestatic 82, 3) := dk_184 0 82 (dk_at dksX0_rename_0 17 rfl rfl)
theorem dX0_rename_20 : decode cX0_rename 20 = .ok (.ifCond .ne 6, 3) := dk_154 0 6 (dk_at dksX0_rename_0 20 rfl rfl)
theorem dX0_rename_23 : decode cX0_rename 23 = .ok (.bipush (-2), 2) := dk_16 254 (dk_at dksX0_rename_1 0 rfl rfl)
theorem dX0_rename_25 : decode cX0_rename 25 = .ok (.ireturn, 1) := dk_172 (dk_at dksX0_rename_1 2 rfl rfl)
theorem dX0_rename_26 : decode cX0_rename 26 = .ok (.iload_n 1, 1) := dk_27 (dk_at dksX0_rename_1 3 rfl rfl)
theorem dX0_rename_27 : decode cX0_rename 27 = .ok (.iload_n 2, 1) := dk_28 (dk_at dksX0_rename_1 4 rfl rfl)
theorem dX0_rename_28 : decode cX0_rename 28 = .ok (.if_icmp .eq 20, 3) := dk_159 0 20 (dk_at dksX0_rename_1 5 rfl rfl)
theorem dX0_rename_31 : decode cX0_rename 31 = .ok (.aload_n 0, 1) := dk_42 (dk_at dksX0_rename_1 8 rfl rfl)
theorem dX0_rename_32 : decode cX0_rename 32 = .ok (.getfield 53, 3) := dk_180 0 53 (dk_at dksX0_rename_1 9 rfl rfl)
theorem dX0_rename_35 : decode cX0_rename 35 = .ok (.getfield 103, 3) := dk_180 0 103 (dk_at dksX0_rename_1 12 rfl rfl)
theorem dX0_rename_38 : decode cX0_rename 38 = .ok (.iload_n 2, 1) := dk_28 (dk_at dksX0_rename_1 15 rfl rfl)
theorem dX0_rename_39 : decode cX0_rename 39 = .ok (.invokevirtual 116, 3) := dk_182 0 116 (dk_at dksX0_rename_1 16 rfl rfl)
theorem dX0_rename_42 : decode cX0_rename 42 = .ok (.ifnull 6, 3) := dk_198 0 6 (dk_at dksX0_rename_1 19 rfl rfl)
theorem dX0_rename_45 : decode cX0_rename 45 = .ok (.bipush (-7), 2) := dk_16 249 (dk_at dksX0_rename_1 22 rfl rfl)
theorem dX0_rename_47 : decode cX0_rename 47 = .ok (.ireturn, 1) := dk_172 (dk_at dksX0_rename_2 0 rfl rfl)
theorem dX0_rename_48 : decode cX0_rename 48 = .ok (.iload_n 1, 1) := dk_27 (dk_at dksX0_rename_2 1 rfl rfl)
theorem dX0_rename_49 : decode cX0_rename 49 = .ok (.iload_n 2, 1) := dk_28 (dk_at dksX0_rename_2 2 rfl rfl)
theorem dX0_rename_50 : decode cX0_rename 50 = .ok (.if_icmp .ne 6, 3) := dk_160 0 6 (dk_at dksX0_rename_2 3 rfl rfl)
theorem dX0_rename_53 : decode cX0_rename 53 = .ok (.bipush (-5), 2) := dk_16 251 (dk_at dksX0_rename_2 6 rfl rfl)
theorem dX0_rename_55 : decode cX0_rename 55 = .ok (.ireturn, 1) := dk_172 (dk_at dksX0_rename_2 8 rfl rfl)
theorem dX0_rename_56 : decode cX0_rename 56 = .ok (.aload_n 0, 1) := dk_42 (dk_at dksX0_rename_2 9 rfl rfl)
theorem dX0_rename_57 : decode cX0_rename 57 = .ok (.getfield 53, 3) := dk_180 0 53 (dk_at dksX0_rename_2 10 rfl rfl)
theorem dX0_rename_60 : decode cX0_rename 60 = .ok (.invokevirtual 92, 3) := dk_182 0 92 (dk_at dksX0_rename_2 13 rfl rfl)
theorem dX0_rename_63 : decode cX0_rename 63 = .ok (.astore_n 3, 1) := dk_78 (dk_at dksX0_rename_2 16 rfl rfl)
theorem dX0_rename_64 : decode cX0_rename 64 = .ok (.aload_n 3, 1) := dk_45 (dk_at dksX0_rename_2 17 rfl rfl)
theorem dX0_rename_65 : decode cX0_rename 65 = .ok (.iload_n 1, 1) := dk_27 (dk_at dksX0_rename_2 18 rfl rfl)
theorem dX0_rename_66 : decode cX0_rename 66 = .ok (.iload_n 2, 1) := dk_28 (dk_at dksX0_rename_2 19 rfl rfl)
theorem dX0_rename_67 : decode cX0_rename 67 = .ok (.invokevirtual 125, 3) := dk_182 0 125 (dk_at dksX0_rename_2 20 rfl rfl)
theorem dX0_rename_70 : decode cX0_rename 70 = .ok (.aload_n 0, 1) := dk_42 (dk_at dksX0_rename_2 23 rfl rfl)
theorem dX0_rename_71 : decode cX0_rename 71 = .ok (.aload_n 3, 1) := dk_45 (dk_at dksX0_rename_3 0 rfl rfl)
theorem dX0_rename_72 : decode cX0_rename 72 = .ok (.aload_n 3, 1) := dk_45 (dk_at dksX0_rename_3 1 rfl rfl)
theorem dX0_rename_73 : decode cX0_rename 73 = .ok (.getfield 103, 3) := dk_180 0 103 (dk_at dksX0_rename_3 2 rfl rfl)
theorem dX0_rename_76 : decode cX0_rename 76 = .ok (.iload_n 2, 1) := dk_28 (dk_at dksX0_rename_3 5 rfl rfl)
theorem dX0_rename_77 : decode cX0_rename 77 = .ok (.invokevirtual 129, 3) := dk_182 0 129 (dk_at dksX0_rename_3 6 rfl rfl)
theorem dX0_rename_80 : decode cX0_rename 80 = .ok (.invokevirtual 99, 3) := dk_182 0 99 (dk_at dksX0_rename_3 9 rfl rfl)
theorem dX0_rename_83 : decode cX0_rename 83 = .ok (.ireturn, 1) := dk_172 (dk_at dksX0_rename_3 12 rfl rfl)
def dkwX0_alias_2 : List UInt8 := [21, 4, 167, 0, 10, 42, 45, 21, 4, 182, 0, 99, 172]
abbrev dktX0_alias_2 : List UInt8 := dkwX0_alias_2 ++ []
def dkwX0_alias_1 : List UInt8 := [16, 254, 172, 42, 180, 0, 53, 182, 0, 92, 78, 45, 27, 28, 182, 0, 133, 54, 4, 21, 4, 156, 0, 8]
abbrev dktX0_alias_1 : List UInt8 := dkwX0_alias_1 ++ dktX0_alias_2
def dkwX0_alias_0 : List UInt8 := [42, 180, 0, 53, 180, 0, 103, 28, 182, 0, 107, 199, 0, 5, 2, 172, 27, 184, 0, 82, 154, 0, 6]
abbrev dktX0_alias_0 : List UInt8 := dkwX0_alias_0 ++ dktX0_alias_1
theorem dksX0_alias_0 : cX0_alias.data.toList.drop 0 = dktX0_alias_0 := by decide +kernel
theorem dksX0_alias_1 : cX0_alias.data.toList.drop 23 = dktX0_alias_1 := dk_seg dksX0_alias_0 23 rfl rfl
theorem dksX0_alias_2 : cX0_alias.data.toList.drop 47 = dktX0_alias_2 := dk_seg dksX0_alias_1 24 rfl rfl
theorem dX0_alias_0 : decode cX0_alias 0 = .ok (.aload_n 0, 1) := dk_42 (dk_at dksX0_alias_0 0 rfl rfl)
theorem dX0_alias_1 : decode cX0_alias 1 = .ok (.getfield 53, 3) := dk_180 0 53 (dk_at dksX0_alias_0 1 rfl rfl)
theorem dX0_alias_4 : decode cX0_alias 4 = .ok (.getfield 103, 3) := dk_180 0 103 (dk_at dksX0_alias_0 4 rfl rfl)
theorem dX0_alias_7 : decode cX0_alias 7 = .ok (.iload_n 2, 1) := dk_28 (dk_at dksX0_alias_0 7 rfl rfl)
theorem dX0_alias_8 : decode cX0_alias 8 = .ok (.invokevirtual 107, 3) := dk_182 0 107 (dk_at dksX0_alias_0 8 rfl rfl)
theorem dX0_alias_11 : decode cX0_alias 11 = .ok (.ifnonnull 5, 3) := dk_199 0 5 (dk_at dksX0_alias_0 11 rfl rfl)
theorem dX0_alias_14 : decode cX0_alias 14 = .ok (.iconst (-1), 1) := dk_2 (dk_at dksX0_alias_0 14 rfl rfl)
theorem dX0_alias_15 : decode cX0_alias 15 = .ok (.ireturn, 1) := dk_172 (dk_at dksX0_alias_0 15 rfl rfl)
theorem dX0_alias_16 : decode cX0_alias 16 = .ok (.iload_n 1, 1) := dk_27 (dk_at dksX0_alias_0 16 rfl rfl)
theorem dX0_alias_17 : decode cX0_alias 17 = .ok (.invokestatic 82, 3) := dk_184 0 82 (dk_at dksX0_alias_0 17 rfl rfl)
theorem dX0_alias_20 : decode cX0_alias 20 = .ok (.ifCond .ne 6, 3) := dk_154 0 6 (dk_at dksX0_alias_0 20 rfl rfl)
theorem dX0_alias_23 : decode cX0_alias 23 = .ok (.bipush (-2), 2) := dk_16 254 (dk_at dksX0_alias_1 0 rfl rfl)
theorem dX0_alias_25 : decode cX0_alias 25 = .ok (.ireturn, 1) := dk_172 (dk_at dksX0_alias_1 2 rfl rfl)
theorem dX0_alias_26 : decode cX0_alias 26 = .ok (.aload_n 0, 1) := dk_42 (dk_at dksX0_alias_1 3 rfl rfl)
theorem dX0_alias_27 : decode cX0_alias 27 = .ok (.getfield 53, 3) := dk_180 0 53 (dk_at dksX0_alias_1 4 rfl rfl)
theorem dX0_alias_30 : decode cX0_alias 30 = .ok (.invokevirtual 92, 3) := dk_182 0 92 (dk_at dksX0_alias_1 7 rfl rfl)
theorem dX0_alias_33 : decode cX0_alias 33 = .ok (.astore_n 3, 1) := dk_78 (dk_at dksX0_alias_1 10 rfl rfl)
theorem dX0_alias_34 : decode cX0_alias 34 = .ok (.aload_n 3, 1) := dk_45 (dk_at dksX0_alias_1 11 rfl rfl)
theorem dX0_alias_35 : decode cX0_alias 35 = .ok (.iload_n 1, 1) := dk_27 (dk_at dksX0_alias_1 12 rfl rfl)
theorem dX0_alias_36 : decode cX0_alias 36 = .ok (.iload_n 2, 1) := dk_28 (dk_at dksX0_alias_1 13 rfl rfl)
theorem dX0_alias_37 : decode cX0_alias 37 = .ok (.invokevirtual 133, 3) := dk_182 0 133 (dk_at dksX0_alias_1 14 rfl rfl)
theorem dX0_alias_40 : decode cX0_alias 40 = .ok (.istore 4, 2) := dk_54 4 (dk_at dksX0_alias_1 17 rfl rfl)
theorem dX0_alias_42 : decode cX0_alias 42 = .ok (.iload 4, 2) := dk_21 4 (dk_at dksX0_alias_1 19 rfl rfl)
theorem dX0_alias_44 : decode cX0_alias 44 = .ok (.ifCond .ge 8, 3) := dk_156 0 8 (dk_at dksX0_alias_1 21 rfl rfl)
theorem dX0_alias_47 : decode cX0_alias 47 = .ok (.iload 4, 2) := dk_21 4 (dk_at dksX0_alias_2 0 rfl rfl)
theorem dX0_alias_49 : decode cX0_alias 49 = .ok (.goto 10, 3) := dk_167 0 10 (dk_at dksX0_alias_2 2 rfl rfl)
theorem dX0_alias_52 : decode cX0_alias 52 = .ok (.aload_n 0, 1) := dk_42 (dk_at dksX0_alias_2 5 rfl rfl)
theorem dX0_alias_53 : decode cX0_alias 53 = .ok (.aload_n 3, 1) := dk_45 (dk_at dksX0_alias_2 6 rfl rfl)
theorem dX0_alias_54 : decode cX0_alias 54 = .ok (.iload 4, 2) := dk_21 4 (dk_at dksX0_alias_2 7 rfl rfl)
theorem dX0_alias_56 : decode cX0_alias 56 = .ok (.invokevirtual 99, 3) := dk_182 0 99 (dk_at dksX0_alias_2 9 rfl rfl)
theorem dX0_alias_59 : decode cX0_alias 59 = .ok (.ireturn, 1) := dk_172 (dk_at dksX0_alias_2 12 rfl rfl)
def dkwX0_addAll_3 : List UInt8 := [44, 43, 185, 0, 160, 1, 0, 182, 0, 99, 172, 76, 16, 156, 43, 180, 0, 161, 100, 172]
abbrev dktX0_addAll_3 : List UInt8 := dkwX0_addAll_3 ++ []
def dkwX0_addAll_2 : List UInt8 := [182, 0, 156, 54, 5, 21, 5, 156, 0, 13, 21, 5, 16, 251, 159, 0, 6, 21, 5, 172, 167, 255, 213, 42]
abbrev dktX0_addAll_2 : List UInt8 := dkwX0_addAll_2 ++ dktX0_addAll_3
def dkwX0_addAll_1 : List UInt8 := [185, 0, 145, 1, 0, 153, 0, 40, 45, 185, 0, 151, 1, 0, 192, 0, 154, 58, 4, 44, 25, 4]
abbrev dktX0_addAll_1 : List UInt8 := dkwX0_addAll_1 ++ dktX0_addAll_2
def dkwX0_addAll_0 : List UInt8 := [42, 180, 0, 67, 184, 0, 137, 76, 42, 180, 0, 53, 182, 0, 92, 77, 43, 185, 0, 141, 1, 0, 78, 45]
abbrev dktX0_addAll_0 : List UInt8 := dkwX0_addAll_0 ++ dktX0_addAll_1
theorem dksX0_addAll_0 : cX0_addAll.data.toList.drop 0 = dktX0_addAll_0 := by decide +kernel
theorem dksX0_addAll_1 : cX0_addAll.data.toList.drop 24 = dktX0_addAll_1 := dk_seg dksX0_addAll_0 24 rfl rfl
theorem dksX0_addAll_2 : cX0_addAll.data.toList.drop 46 = dktX0_addAll_2 := dk_seg dksX0_addAll_1 22 rfl rfl
theorem dksX0_addAll_3 : cX0_addAll.data.toList.drop 70 = dktX0_addAll_3 := dk_seg dksX0_addAll_2 24 rfl rfl
theorem dX0_addAll_0 : decode cX0_addAll 0 = .ok (.aload_n 0, 1) := dk_42 (dk_at dksX0_addAll_0 0 rfl rfl)
theorem dX0_addAll_1 : decode cX0_addAll 1 = .ok (.getfield 67, 3) := dk_180 0 67 (dk_at dksX0_addAll_0 1 rfl rfl)
theorem dX0_addAll_4 : decode cX0_addAll 4 = .ok (.invokestatic 137, 3) := dk_184 0 137 (dk_at dksX0_addAll_0 4 rfl rfl)
theorem dX0_addAll_7 : decode cX0_addAll 7 = .ok (.astore_n 1, 1) := dk_76 (dk_at dksX0_addAll_0 7 rfl rfl)
theorem dX0_addAll_8 : decode cX0_addAll 8 = .ok (.aload_n 0, 1) := dk_42 (dk_at dksX0_addAll_0 8 rfl rfl)
theorem dX0_addAll_9 : decode cX0_addAll 9 = .ok (.getfield 53, 3) := dk_180 0 53 (dk_at dksX0_addAll_0 9 rfl rfl)
theorem dX0_addAll_12 : decode cX0_addAll 12 = .ok (.invokevirtual 92, 3) := dk_182 0 92 (dk_at dksX0_addAll_0 12 rfl rfl)
theorem dX0_addAll_15 : decode cX0_addAll 15 = .ok (.astore_n 2, 1) := dk_77 (dk_at dksX0_addAll_0 15 rfl rfl)
theorem dX0_addAll_16 : decode cX0_addAll 16 = .ok (.aload_n 1, 1) := dk_43 (dk_at dksX0_addAll_0 16 rfl rfl)
theorem dX0_addAll_17 : decode cX0_addAll 17 = .ok (.invokeinterface 141 1, 5) := by decide +kernel
theorem dX0_addAll_22 : decode cX0_addAll 22 = .ok (.astore_n 3, 1) := dk_78 (dk_at dksX0_addAll_0 22 rfl rfl)
theorem dX0_addAll_23 : decode cX0_addAll 23 = .ok (.aload_n 3, 1) := dk_45 (dk_at dksX0_addAll_0 23 rfl rfl)
theorem dX0_addAll_24 : decode cX0_addAll 24 = .ok (.invokeinterface 145 1, 5) := by decide +kernel
theorem dX0_addAll_29 : decode cX0_addAll 29 = .ok (.ifCond .eq 40, 3) := dk_153 0 40 (dk_at dksX0_addAll_1 5 rfl rfl)
theorem dX0_addAll_32 : decode cX0_addAll 32 = .ok (.aload_n 3, 1) := dk_45 (dk_at dksX0_addAll_1 8 rfl rfl)
theorem dX0_addAll_33 : decode cX0_addAll 33 = .ok (.invokeinterface 151 1, 5) := by decide +kernel
theorem dX0_addAll_38 : decode cX0_addAll 38 = .ok (.checkcast 154, 3) := dk_192 0 154 (dk_at dksX0_addAll_1 14 rfl rfl)
theorem dX0_addAll_41 : decode cX0_addAll 41 = .ok (.astore 4, 2) := dk_58 4 (dk_at dksX0_addAll_1 17 rfl rfl)
theorem dX0_addAll_43 : decode cX0_addAll 43 = .ok (.aload_n 2, 1) := dk_44 (dk_at dksX0_addAll_1 19 rfl rfl)
theorem dX0_addAll_44 : decode cX0_addAll 44 = .ok (.aload 4, 2) := dk_25 4 (dk_at dksX0_addAll_1 20 rfl rfl)
theorem dX0_addAll_46 : decode cX0_addAll 46 = .ok (.invokevirtual 156, 3) := dk_182 0 156 (dk_at dksX0_addAll_2 0 rfl rfl)
theorem dX0_addAll_49 : decode cX0_addAll 49 = .ok (.istore 5, 2) := dk_54 5 (dk_at dksX0_addAll_2 3 rfl rfl)
theorem dX0_addAll_51 : decode cX0_addAll 51 = .ok (.iload 5, 2) := dk_21 5 (dk_at dksX0_addAll_2 5 rfl rfl)
theorem dX0_addAll_53 : decode cX0_addAll 53 = .ok (.ifCond .ge 13, 3) := dk_156 0 13 (dk_at dksX0_addAll_2 7 rfl rfl)
theorem dX0_addAll_56 : decode cX0_addAll 56 = .ok (.iload 5, 2) := dk_21 5 (dk_at dksX0_addAll_2 10 rfl rfl)
theorem dX0_addAll_58 : decode cX0_addAll 58 = .ok (.bipush (-5), 2) := dk_16 251 (dk_at dksX0_addAll_2 12 rfl rfl)
theorem dX0_addAll_60 : decode cX0_addAll 60 = .ok (.if_icmp .eq 6, 3) := dk_159 0 6 (dk_at dksX0_addAll_2 14 rfl rfl)
theorem dX0_addAll_63 : decode cX0_addAll 63 = .ok (.iload 5, 2) := dk_21 5 (dk_at dksX0_addAll_2 17 rfl rfl)
theorem dX0_addAll_65 : decode cX0_addAll 65 = .ok (.ireturn, 1) := dk_172 (dk_at dksX0_addAll_2 19 rfl rfl)
theorem dX0_addAll_66 : decode cX0_addAll 66 = .ok (.goto (-43), 3) := dk_167 255 213 (dk_at dksX0_addAll_2 20 rfl rfl)
theorem dX0_addAll_69 : decode cX0_addAll 69 = .ok (.aload_n 0, 1) := dk_42 (dk_at dksX0_addAll_2 23 rfl rfl)
theorem dX0_addAll_70 : decode cX0_addAll 70 = .ok (.aload_n 2, 1) := dk_44 (dk_at dksX0_addAll_3 0 rfl rfl)
theorem dX0_addAll_71 : decode cX0_addAll 71 = .ok (.aload_n 1, 1) := dk_43 (dk_at dksX0_addAll_3 1 rfl rfl)
theorem dX0_addAll_72 : decode cX0_addAll 72 = .ok (.invokeinterface 160 1, 5) := by decide +kernel
theorem dX0_addAll_77 : decode cX0_addAll 77 = .ok (.invokevirtual 99, 3) := dk_182 0 99 (dk_at dksX0_addAll_3 7 rfl rfl)
theorem dX0_addAll_80 : decode cX0_addAll 80 = .ok (.ireturn, 1) := dk_172 (dk_at dksX0_addAll_3 10 rfl rfl)
theorem dX0_addAll_81 : decode cX0_addAll 81 = .ok (.astore_n 1, 1) := dk_76 (dk_at dksX0_addAll_3 11 rfl rfl)
theorem dX0_addAll_82 : decode cX0_addAll 82 = .ok (.bipush (-100), 2) := dk_16 156 (dk_at dksX0_addAll_3 12 rfl rfl)
theorem dX0_addAll_84 : decode cX0_addAll 84 = .ok (.aload_n 1, 1) := dk_43 (dk_at dksX0_addAll_3 14 rfl rfl)
theorem dX0_addAll_85 : decode cX0_addAll 85 = .ok (.getfield 161, 3) := dk_180 0 161 (dk_at dksX0_addAll_3 15 rfl rfl)
theorem dX0_addAll_88 : decode cX0_addAll 88 = .ok (.isub, 1) := dk_100 (dk_at dksX0_addAll_3 18 rfl rfl)
theorem dX0_addAll_89 : decode cX0_addAll 89 = .ok (.ireturn, 1) := dk_172 (dk_at dksX0_addAll_3 19 rfl rfl)
def dkwX0_additionsOf_3 : List UInt8 := [187, 0, 42, 89, 43, 180, 0, 32, 183, 0, 44, 191, 44, 176]
abbrev dktX0_additionsOf_3 : List UInt8 := dkwX0_additionsOf_3 ++ []
def dkwX0_additionsOf_2 : List UInt8 := [185, 0, 22, 2, 0, 87, 167, 255, 236, 43, 180, 0, 32, 42, 185, 0, 36, 1, 0, 162, 0, 15]
abbrev dktX0_additionsOf_2 : List UInt8 := dkwX0_additionsOf_2 ++ dktX0_additionsOf_3
def dkwX0_additionsOf_1 : List UInt8 := [185, 0, 22, 2, 0, 87, 43, 16, 59, 182, 0, 28, 153, 0, 17, 44, 43, 182, 0, 18]
abbrev dktX0_additionsOf_1 : List UInt8 := dkwX0_additionsOf_1 ++ dktX0_additionsOf_2
def dkwX0_additionsOf_0 : List UInt8 := [187, 0, 7, 89, 42, 183, 0, 9, 76, 187, 0, 13, 89, 183, 0, 15, 77, 44, 43, 182, 0, 18]
abbrev dktX0_additionsOf_0 : List UInt8 := dkwX0_additionsOf_0 ++ dktX0_additionsOf_1
theorem dksX0_additionsOf_0 : cX0_additionsOf.data.toList.drop 0 = dktX0_additionsOf_0 := by decide +kernel
theorem dksX0_additionsOf_1 : cX0_additionsOf.data.toList.drop 22 = dktX0_additionsOf_1 := dk_seg dksX0_additionsOf_0 22 rfl rfl
theorem dksX0_additionsOf_2 : cX0_additionsOf.data.toList.drop 42 = dktX0_additionsOf_2 := dk_seg dksX0_additionsOf_1 20 rfl rfl
theorem dksX0_additionsOf_3 : cX0_additionsOf.data.toList.drop 64 = dktX0_additionsOf_3 := dk_seg dksX0_additionsOf_2 22 rfl rfl
theorem dX0_additionsOf_0 : decode cX0_additionsOf 0 = .ok (.new 7, 3) := dk_187 0 7 (dk_at dksX0_additionsOf_0 0 rfl rfl)
theorem dX0_additionsOf_3 : decode cX0_additionsOf 3 = .ok (.dup, 1) := dk_89 (dk_at dksX0_additionsOf_0 3 rfl rfl)
theorem dX0_additionsOf_4 : decode cX0_additionsOf 4 = .ok (.aload_n 0, 1) := dk_42 (dk_at dksX0_additionsOf_0 4 rfl rfl)
theorem dX0_additionsOf_5 : decode cX0_additionsOf 5 = .ok (.invokespecial 9, 3) := dk_183 0 9 (dk_at dksX0_additionsOf_0 5 rfl rfl)
theorem dX0_additionsOf_8 : decode cX0_additionsOf 8 = .ok (.astore_n 1, 1) := dk_76 (dk_at dksX0_additionsOf_0 8 rfl rfl)
theorem dX0_additionsOf_9 : decode cX0_additionsOf 9 = .ok (.new 13, 3) := dk_187 0 13 (dk_at dksX0_additionsOf_0 9 rfl rfl)
theorem dX0_additionsOf_12 : decode cX0_additionsOf 12 = .ok (.dup, 1) := dk_89 (dk_at dksX0_additionsOf_0 12 rfl rfl)
theorem dX0_additionsOf_13 : decode cX0_additionsOf 13 = .ok (.invokespecial 15, 3) := dk_183 0 15 (dk_at dksX0_additionsOf_0 13 rfl rfl)
theorem dX0_additionsOf_16 : decode cX0_additionsOf 16 = .ok (.astore_n 2, 1) := dk_77 (dk_at dksX0_additionsOf_0 16 rfl rfl)
theorem dX0_additionsOf_17 : decode cX0_additionsOf 17 = .ok (.aload_n 2, 1) := dk_44 (dk_at dksX0_additionsOf_0 17 rfl rfl)
theorem dX0_additionsOf_18 : decode cX0_additionsOf 18 = .ok (.aload_n 1, 1) := dk_43 (dk_at dksX0_additionsOf_0 18 rfl rfl)
theorem dX0_additionsOf_19 : decode cX0_additionsOf 19 = .ok (.invokevirtual 18, 3) := dk_182 0 18 (dk_at dksX0_additionsOf_0 19 rfl rfl)
theorem dX0_additionsOf_22 : decode cX0_additionsOf 22 = .ok (.invokeinterface 22 2, 5) := by decide +kernel
theorem dX0_additionsOf_27 : decode cX0_additionsOf 27 = .ok (.pop, 1) := dk_87 (dk_at dksX0_additionsOf_1 5 rfl rfl)
theorem dX0_additionsOf_28 : decode cX0_additionsOf 28 = .ok (.aload_n 1, 1) := dk_43 (dk_at dksX0_additionsOf_1 6 rfl rfl)
theorem dX0_additionsOf_29 : decode cX0_additionsOf 29 = .ok (.bipush 59, 2) := dk_16 59 (dk_at dksX0_additionsOf_1 7 rfl rfl)
theorem dX0_additionsOf_31 : decode cX0_additionsOf 31 = .ok (.invokevirtual 28, 3) := dk_182 0 28 (dk_at dksX0_additionsOf_1 9 rfl rfl)
theorem dX0_additionsOf_34 : decode cX0_additionsOf 34 = .ok (.ifCond .eq 17, 3) := dk_153 0 17 (dk_at dksX0_additionsOf_1 12 rfl rfl)
theorem dX0_additionsOf_37 : decode cX0_additionsOf 37 = .ok (.aload_n 2, 1) := dk_44 (dk_at dksX0_additionsOf_1 15 rfl rfl)
theorem dX0_additionsOf_38 : decode cX0_additionsOf 38 = .ok (.aload_n 1, 1) := dk_43 (dk_at dksX0_additionsOf_1 16 rfl rfl)
theorem dX0_additionsOf_39 : decode cX0_additionsOf 39 = .ok (.invokevirtual 18, 3) := dk_182 0 18 (dk_at dksX0_additionsOf_1 17 rfl rfl)
theorem dX0_additionsOf_42 : decode cX0_additionsOf 42 = .ok (.invokeinterface 22 2, 5) := by decide +kernel
theorem dX0_additionsOf_47 : decode cX0_additionsOf 47 = .ok (.pop, 1) := dk_87 (dk_at dksX0_additionsOf_2 5 rfl rfl)
theorem dX0_additionsOf_48 : decode cX0_additionsOf 48 = .ok (.goto (-20), 3) := dk_167 255 236 (dk_at dksX0_additionsOf_2 6 rfl rfl)
theorem dX0_additionsOf_51 : decode cX0_additionsOf 51 = .ok (.aload_n 1, 1) := dk_43 (dk_at dksX0_additionsOf_2 9 rfl rfl)
theorem dX0_additionsOf_52 : decode cX0_additionsOf 52 = .ok (.getfield 32, 3) := dk_180 0 32 (dk_at dksX0_additionsOf_2 10 rfl rfl)
theorem dX0_additionsOf_55 : decode cX0_additionsOf 55 = .ok (.aload_n 0, 1) := dk_42 (dk_at dksX0_additionsOf_2 13 rfl rfl)
theorem dX0_additionsOf_56 : decode cX0_additionsOf 56 = .ok (.invokeinterface 36 1, 5) := by decide +kernel
theorem dX0_additionsOf_61 : decode cX0_additionsOf 61 = .ok (.if_icmp .ge 15, 3) := dk_162 0 15 (dk_at dksX0_additionsOf_2 19 rfl rfl)
theorem dX0_additionsOf_64 : decode cX0_additionsOf 64 = .ok (.new 42, 3) := dk_187 0 42 (dk_at dksX0_additionsOf_3 0 rfl rfl)
theorem dX0_additionsOf_67 : decode cX0_additionsOf 67 = .ok (.dup, 1) := dk_89 (dk_at dksX0_additionsOf_3 3 rfl rfl)
theorem dX0_additionsOf_68 : decode cX0_additionsOf 68 = .ok (.aload_n 1, 1) := dk_43 (dk_at dksX0_additionsOf_3 4 rfl rfl)
theorem dX0_additionsOf_69 : decode cX0_additionsOf 69 = .ok (.getfield 32, 3) := dk_180 0 32 (dk_at dksX0_additionsOf_3 5 rfl rfl)
theorem dX0_additionsOf_72 : decode cX0_additionsOf 72 = .ok (.invokespecial 44, 3) := dk_183 0 44 (dk_at dksX0_additionsOf_3 8 rfl rfl)
theorem dX0_additionsOf_75 : decode cX0_additionsOf 75 = .ok (.athrow, 1) := dk_191 (dk_at dksX0_additionsOf_3 11 rfl rfl)
theorem dX0_additionsOf_76 : decode cX0_additionsOf 76 = .ok (.aload_n 2, 1) := dk_44 (dk_at dksX0_additionsOf_3 12 rfl rfl)
theorem dX0_additionsOf_77 : decode cX0_additionsOf 77 = .ok (.areturn, 1) := dk_176 (dk_at dksX0_additionsOf_3 13 rfl rfl)
def dkwX0_squeeze_1 : List UInt8 := [182, 0, 166, 61, 42, 43, 28, 182, 0, 99, 172]
abbrev dktX0_squeeze_1 : List UInt8 := dkwX0_squeeze_1 ++ []
def dkwX0_squeeze_0 : List UInt8 := [42, 180, 0, 53, 4, 182, 0, 162, 154, 0, 6, 16, 251, 172, 42, 180, 0, 53, 182, 0, 92, 76, 43]
abbrev dktX0_squeeze_0 : List UInt8 := dkwX0_squeeze_0 ++ dktX0_squeeze_1
theorem dksX0_squeeze_0 : cX0_squeeze.data.toList.drop 0 = dktX0_squeeze_0 := by decide +kernel
theorem dksX0_squeeze_1 : cX0_squeeze.data.toList.drop 23 = dktX0_squeeze_1 := dk_seg dksX0_squeeze_0 23 rfl rfl
theorem dX0_squeeze_0 : decode cX0_squeeze 0 = .ok (.aload_n 0, 1) := dk_42 (dk_at dksX0_squeeze_0 0 rfl rfl)
theorem dX0_squeeze_1 : decode cX0_squeeze 1 = .ok (.getfield 53, 3) := dk_180 0 53 (dk_at dksX0_squeeze_0 1 rfl rfl)
theorem dX0_squeeze_4 : decode cX0_squeeze 4 = .ok (.iconst 1, 1) := dk_4 (dk_at dksX0_squeeze_0 4 rfl rfl)
theorem dX0_squeeze_5 : decode cX0_squeeze 5 = .ok (.invokevirtual 162, 3) := dk_182 0 162 (dk_at dksX0_squeeze_0 5 rfl rfl)
theorem dX0_squeeze_8 : decode cX0_squeeze 8 = .ok (.ifCond .ne 6, 3) := dk_154 0 6 (dk_at dksX0_squeeze_0 8 rfl rfl)
theorem dX0_squeeze_11 : decode cX0_squeeze 11 = .ok (.bipush (-5), 2) := dk_16 251 (dk_at dksX0_squeeze_0 11 rfl rfl)
theorem dX0_squeeze_13 : decode cX0_squeeze 13 = .ok (.ireturn, 1) := dk_172 (dk_at dksX0_squeeze_0 13 rfl rfl)
theorem dX0_squeeze_14 : decode cX0_squeeze 14 = .ok (.aload_n 0, 1) := dk_42 (dk_at dksX0_squeeze_0 14 rfl rfl)
theorem dX0_squeeze_15 : decode cX0_squeeze 15 = .ok (.getfield 53, 3) := dk_180 0 53 (dk_at dksX0_squeeze_0 15 rfl rfl)
theorem dX0_squeeze_18 : decode cX0_squeeze 18 = .ok (.invokevirtual 92, 3) := dk_182 0 92 (dk_at dksX0_squeeze_0 18 rfl rfl)
theorem dX0_squeeze_21 : decode cX0_squeeze 21 = .ok (.astore_n 1, 1) := dk_76 (dk_at dksX0_squeeze_0 21 rfl rfl)
theorem dX0_squeeze_22 : decode cX0_squeeze 22 = .ok (.aload_n 1, 1) := dk_43 (dk_at dksX0_squeeze_0 22 rfl rfl)
theorem dX0_squeeze_23 : decode cX0_squeeze 23 = .ok (.invokevirtual 166, 3) := dk_182 0 166 (dk_at dksX0_squeeze_1 0 rfl rfl)
theorem dX0_squeeze_26 : decode cX0_squeeze 26 = .ok (.istore_n 2, 1) := dk_61 (dk_at dksX0_squeeze_1 3 rfl rfl)
theorem dX0_squeeze_27 : decode cX0_squeeze 27 = .ok (.aload_n 0, 1) := dk_42 (dk_at dksX0_squeeze_1 4 rfl rfl)
theorem dX0_squeeze_28 : decode cX0_squeeze 28 = .ok (.aload_n 1, 1) := dk_43 (dk_at dksX0_squeeze_1 5 rfl rfl)
theorem dX0_squeeze_29 : decode cX0_squeeze 29 = .ok (.iload_n 2, 1) := dk_28 (dk_at dksX0_squeeze_1 6 rfl rfl)
theorem dX0_squeeze_30 : decode cX0_squeeze 30 = .ok (.invokevirtual 99, 3) := dk_182 0 99 (dk_at dksX0_squeeze_1 7 rfl rfl)
theorem dX0_squeeze_33 : decode cX0_squeeze 33 = .ok (.ireturn, 1) := dk_172 (dk_at dksX0_squeeze_1 10 rfl rfl)
def dkwX0_makeAnew_3 : List UInt8 := [42, 45, 28, 182, 0, 99, 172]
abbrev dktX0_makeAnew_3 : List UInt8 := dkwX0_makeAnew_3 ++ []
def dkwX0_makeAnew_2 : List UInt8 := [16, 251, 172, 42, 180, 0, 53, 182, 0, 92, 78, 45, 180, 0, 103, 27, 181, 0, 169, 45, 182, 0, 166, 87]
abbrev dktX0_makeAnew_2 : List UInt8 := dkwX0_makeAnew_2 ++ dktX0_makeAnew_3
def dkwX0_makeAnew_1 : List UInt8 := [27, 104, 164, 0, 6, 16, 250, 172, 42, 180, 0, 53, 180, 0, 103, 180, 0, 169, 61, 28, 27, 160, 0, 6]
abbrev dktX0_makeAnew_1 : List UInt8 := dkwX0_makeAnew_1 ++ dktX0_makeAnew_2
def dkwX0_makeAnew_0 : List UInt8 := [27, 4, 16, 6, 184, 0, 3, 154, 0, 6, 16, 254, 172, 42, 180, 0, 53, 180, 0, 103, 182, 0, 122, 7]
abbrev dktX0_makeAnew_0 : List UInt8 := dkwX0_makeAnew_0 ++ dktX0_makeAnew_1
theorem dksX0_makeAnew_0 : cX0_makeAnew.data.toList.drop 0 = dktX0_makeAnew_0 := by decide +kernel
theorem dksX0_makeAnew_1 : cX0_makeAnew.data.toList.drop 24 = dktX0_makeAnew_1 := dk_seg dksX0_makeAnew_0 24 rfl rfl
theorem dksX0_makeAnew_2 : cX0_makeAnew.data.toList.drop 48 = dktX0_makeAnew_2 := dk_seg dksX0_makeAnew_1 24 rfl rfl
theorem dksX0_makeAnew_3 : cX0_makeAnew.data.toList.drop 72 = dktX0_makeAnew_3 := dk_seg dksX0_makeAnew_2 24 rfl rfl
theorem dX0_makeAnew_0 : decode cX0_makeAnew 0 = .ok (.iload_n 1, 1) := dk_27 (dk_at dksX0_makeAnew_0 0 rfl rfl)
theorem dX0_makeAnew_1 : decode cX0_makeAnew 1 = .ok (.iconst 1, 1) := dk_4 (dk_at dksX0_makeAnew_0 1 rfl rfl)
theorem dX0_makeAnew_2 : decode cX0_makeAnew 2 = .ok (.bipush 6, 2) := dk_16 6 (dk_at dksX0_makeAnew_0 2 rfl rfl)
theorem dX0_makeAnew_4 : decode cX0_makeAnew 4 = .ok (.invokestatic 3, 3) := dk_184 0 3 (dk_at dksX0_makeAnew_0 4 rfl rfl)
theorem dX0_makeAnew_7 : decode cX0_makeAnew 7 = .ok (.ifCond .ne 6, 3) := dk_154 0 6 (dk_at dksX0_makeAnew_0 7 rfl rfl)
theorem dX0_makeAnew_10 : decode cX0_makeAnew 10 = .ok (.bipush (-2), 2) := dk_16 254 (dk_at dksX0_makeAnew_0 10 rfl rfl)
theorem dX0_makeAnew_12 : decode cX0_makeAnew 12 = .ok (.ireturn, 1) := dk_172 (dk_at dksX0_makeAnew_0 12 rfl rfl)
theorem dX0_makeAnew_13 : decode cX0_makeAnew 13 = .ok (.aload_n 0, 1) := dk_42 (dk_at dksX0_makeAnew_0 13 rfl rfl)
theorem dX0_makeAnew_14 : decode cX0_makeAnew 14 = .ok (.getfield 53, 3) := dk_180 0 53 (dk_at dksX0_makeAnew_0 14 rfl rfl)
theorem dX0_makeAnew_17 : decode cX0_makeAnew 17 = .ok (.getfield 103, 3) := dk_180 0 103 (dk_at dksX0_makeAnew_0 17 rfl rfl)
theorem dX0_makeAnew_20 : decode cX0_makeAnew 20 = .ok (.invokevirtual 122, 3) := dk_182 0 122 (dk_at dksX0_makeAnew_0 20 rfl rfl)
theorem dX0_makeAnew_23 : decode cX0_makeAnew 23 = .ok (.iconst 4, 1) := dk_7 (dk_at dksX0_makeAnew_0 23 rfl rfl)
theorem dX0_makeAnew_24 : decode cX0_makeAnew 24 = .ok (.iload_n 1, 1) := dk_27 (dk_at dksX0_makeAnew_1 0 rfl rfl)
theorem dX0_makeAnew_25 : decode cX0_makeAnew 25 = .ok (.imul, 1) := dk_104 (dk_at dksX0_makeAnew_1 1 rfl rfl)
theorem dX0_makeAnew_26 : decode cX0_makeAnew 26 = .ok (.if_icmp .le 6, 3) := dk_164 0 6 (dk_at dksX0_makeAnew_1 2 rfl rfl)
theorem dX0_makeAnew_29 : decode cX0_makeAnew 29 = .ok (.bipush (-6), 2) := dk_16 250 (dk_at dksX0_makeAnew_1 5 rfl rfl)
theorem dX0_makeAnew_31 : decode cX0_makeAnew 31 = .ok (.ireturn, 1) := dk_172 (dk_at dksX0_makeAnew_1 7 rfl rfl)
theorem dX0_makeAnew_32 : decode cX0_makeAnew 32 = .ok (.aload_n 0, 1) := dk_42 (dk_at dksX0_makeAnew_1 8 rfl rfl)
theorem dX0_makeAnew_33 : decode cX0_makeAnew 33 = .ok (.getfield 53, 3) := dk_180 0 53 (dk_at dksX0_makeAnew_1 9 rfl rfl)
theorem dX0_makeAnew_36 : decode cX0_makeAnew 36 = .ok (.getfield 103, 3) := dk_180 0 103 (dk_at dksX0_makeAnew_1 12 rfl rfl)
theorem dX0_makeAnew_39 : decode cX0_makeAnew 39 = .ok (.getfield 169, 3) := dk_180 0 169 (dk_at dksX0_makeAnew_1 15 rfl rfl)
theorem dX0_makeAnew_42 : decode cX0_makeAnew 42 = .ok (.istore_n 2, 1) := dk_61 (dk_at dksX0_makeAnew_1 18 rfl rfl)
theorem dX0_makeAnew_43 : decode cX0_makeAnew 43 = .ok (.iload_n 2, 1) := dk_28 (dk_at dksX0_makeAnew_1 19 rfl rfl)
theorem dX0_makeAnew_44 : decode cX0_makeAnew 44 = .ok (.iload_n 1, 1) := dk_27 (dk_at dksX0_makeAnew_1 20 rfl rfl)
theorem dX0_makeAnew_45 : decode cX0_makeAnew 45 = .ok (.if_icmp .ne 6, 3) := dk_160 0 6 (dk_at dksX0_makeAnew_1 21 rfl rfl)
theorem dX0_makeAnew_48 : decode cX0_makeAnew 48 = .ok (.bipush (-5), 2) := dk_16 251 (dk_at dksX0_makeAnew_2 0 rfl rfl)
theorem dX0_makeAnew_50 : decode cX0_makeAnew 50 = .ok (.ireturn, 1) := dk_172 (dk_at dksX0_makeAnew_2 2 rfl rfl)
theorem dX0_makeAnew_51 : decode cX0_makeAnew 51 = .ok (.aload_n 0, 1) := dk_42 (dk_at dksX0_makeAnew_2 3 rfl rfl)
theorem dX0_makeAnew_52 : decode cX0_makeAnew 52 = .ok (.getfield 53, 3) := dk_180 0 53 (dk_at dksX0_makeAnew_2 4 rfl rfl)
theorem dX0_makeAnew_55 : decode cX0_makeAnew 55 = .ok (.invokevirtual 92, 3) := dk_182 0 92 (dk_at dksX0_makeAnew_2 7 rfl rfl)
theorem dX0_makeAnew_58 : decode cX0_makeAnew 58 = .ok (.astore_n 3, 1) := dk_78 (dk_at dksX0_makeAnew_2 10 rfl rfl)
theorem dX0_makeAnew_59 : decode cX0_makeAnew 59 = .ok (.aload_n 3, 1) := dk_45 (dk_at dksX0_makeAnew_2 11 rfl rfl)
theorem dX0_makeAnew_60 : decode cX0_makeAnew 60 = .ok (.getfield 103, 3) := dk_180 0 103 (dk_at dksX0_makeAnew_2 12 rfl rfl)
theorem dX0_makeAnew_63 : decode cX0_makeAnew 63 = .ok (.iload_n 1, 1) := dk_27 (dk_at dksX0_makeAnew_2 15 rfl rfl)
theorem dX0_makeAnew_64 : decode cX0_makeAnew 64 = .ok (.putfield 169, 3) := dk_181 0 169 (dk_at dksX0_makeAnew_2 16 rfl rfl)
theorem dX0_makeAnew_67 : decode cX0_makeAnew 67 = .ok (.aload_n 3, 1) := dk_45 (dk_at dksX0_makeAnew_2 19 rfl rfl)
theorem dX0_makeAnew_68 : decode cX0_makeAnew 68 = .ok (.invokevirtual 166, 3) := dk_182 0 166 (dk_at dksX0_makeAnew_2 20 rfl rfl)
theorem dX0_makeAnew_71 : decode cX0_makeAnew 71 = .ok (.pop, 1) := dk_87 (dk_at dksX0_makeAnew_2 23 rfl rfl)
theorem dX0_makeAnew_72 : decode cX0_makeAnew 72 = .ok (.aload_n 0, 1) := dk_42 (dk_at dksX0_makeAnew_3 0 rfl rfl)
theorem dX0_makeAnew_73 : decode cX0_makeAnew 73 = .ok (.aload_n 3, 1) := dk_45 (dk_at dksX0_makeAnew_3 1 rfl rfl)
theorem dX0_makeAnew_74 : decode cX0_makeAnew 74 = .ok (.iload_n 2, 1) := dk_28 (dk_at dksX0_makeAnew_3 2 rfl rfl)
theorem dX0_makeAnew_75 : decode cX0_makeAnew 75 = .ok (.invokevirtual 99, 3) := dk_182 0 99 (dk_at dksX0_makeAnew_3 3 rfl rfl)
theorem dX0_makeAnew_78 : decode cX0_makeAnew 78 = .ok (.ireturn, 1) := dk_172 (dk_at dksX0_makeAnew_3 6 rfl rfl)
def dkwX0_type_1 : List UInt8 := [42, 180, 0, 67, 182, 0, 172, 172]
abbrev dktX0_type_1 : List UInt8 := dkwX0_type_1 ++ []
def dkwX0_type_0 : List UInt8 := [42, 180, 0, 67, 182, 0, 172, 16, 60, 160, 0, 6, 16, 253, 172, 42, 180, 0, 67, 27, 182, 0, 173, 87]
abbrev dktX0_type_0 : List UInt8 := dkwX0_type_0 ++ dktX0_type_1
theorem dksX0_type_0 : cX0_type.data.toList.drop 0 = dktX0_type_0 := by decide +kernel
theorem dksX0_type_1 : cX0_type.data.toList.drop 24 = dktX0_type_1 := dk_seg dksX0_type_0 24 rfl rfl
theorem dX0_type_0 : decode cX0_type 0 = .ok (.aload_n 0, 1) := dk_42 (dk_at dksX0_type_0 0 rfl rfl)
theorem dX0_type_1 : decode cX0_type 1 = .ok (.getfield 67, 3) := dk_180 0 67 (dk_at dksX0_type_0 1 rfl rfl)
theorem dX0_type_4 : decode cX0_type 4 = .ok (.invokevirtual 172, 3) := dk_182 0 172 (dk_at dksX0_type_0 4 rfl rfl)
theorem dX0_type_7 : decode cX0_type 7 = .ok (.bipush 60, 2) := dk_16 60 (dk_at dksX0_type_0 7 rfl rfl)
theorem dX0_type_9 : decode cX0_type 9 = .ok (.if_icmp .ne 6, 3) := dk_160 0 6 (dk_at dksX0_type_0 9 rfl rfl)
theorem dX0_type_12 : decode cX0_type 12 = .ok (.bipush (-3), 2) := dk_16 253 (dk_at dksX0_type_0 12 rfl rfl)
theorem dX0_type_14 : decode cX0_type 14 = .ok (.ireturn, 1) := dk_172 (dk_at dksX0_type_0 14 rfl rfl)
theorem dX0_type_15 : decode cX0_type 15 = .ok (.aload_n 0, 1) := dk_42 (dk_at dksX0_type_0 15 rfl rfl)
theorem dX0_type_16 : decode cX0_type 16 = .ok (.getfield 67, 3) := dk_180 0 67 (dk_at dksX0_type_0 16 rfl rfl)
theorem dX0_type_19 : decode cX0_type 19 = .ok (.iload_n 1, 1) := dk_27 (dk_at dksX0_type_0 19 rfl rfl)
theorem dX0_type_20 : decode cX0_type 20 = .ok (.invokevirtual 173, 3) := dk_182 0 173 (dk_at dksX0_type_0 20 rfl rfl)
theorem dX0_type_23 : decode cX0_type 23 = .ok (.pop, 1) := dk_87 (dk_at dksX0_type_0 23 rfl rfl)
theorem dX0_type_24 : decode cX0_type 24 = .ok (.aload_n 0, 1) := dk_42 (dk_at dksX0_type_1 0 rfl rfl)
theorem dX0_type_25 : decode cX0_type 25 = .ok (.getfield 67, 3) := dk_180 0 67 (dk_at dksX0_type_1 1 rfl rfl)
theorem dX0_type_28 : decode cX0_type 28 = .ok (.invokevirtual 172, 3) := dk_182 0 172 (dk_at dksX0_type_1 4 rfl rfl)
theorem dX0_type_31 : decode cX0_type 31 = .ok (.ireturn, 1) := dk_172 (dk_at dksX0_type_1 7 rfl rfl)
def dkwX0_clearPad_0 : List UInt8 := [42, 180, 0, 67, 182, 0, 172, 60, 42, 180, 0, 67, 3, 182, 0, 177, 27, 172]
abbrev dktX0_clearPad_0 : List UInt8 := dkwX0_clearPad_0 ++ []
theorem dksX0_clearPad_0 : cX0_clearPad.data.toList.drop 0 = dktX0_clearPad_0 := by decide +kernel
theorem dX0_clearPad_0 : decode cX0_clearPad 0 = .ok (.aload_n 0, 1) := dk_42 (dk_at dksX0_clearPad_0 0 rfl rfl)
theorem dX0_clearPad_1 : decode cX0_clearPad 1 = .ok (.getfield 67, 3) := dk_180 0 67 (dk_at dksX0_clearPad_0 1 rfl rfl)
theorem dX0_clearPad_4 : decode cX0_clearPad 4 = .ok (.invokevirtual 172, 3) := dk_182 0 172 (dk_at dksX0_clearPad_0 4 rfl rfl)
theorem dX0_clearPad_7 : decode cX0_clearPad 7 = .ok (.istore_n 1, 1) := dk_60 (dk_at dksX0_clearPad_0 7 rfl rfl)
theorem dX0_clearPad_8 : decode cX0_clearPad 8 = .ok (.aload_n 0, 1) := dk_42 (dk_at dksX0_clearPad_0 8 rfl rfl)
theorem dX0_clearPad_9 : decode cX0_clearPad 9 = .ok (.getfield 67, 3) := dk_180 0 67 (dk_at dksX0_clearPad_0 9 rfl rfl)
theorem dX0_clearPad_12 : decode cX0_clearPad 12 = .ok (.iconst 0, 1) := dk_3 (dk_at dksX0_clearPad_0 12 rfl rfl)
theorem dX0_clearPad_13 : decode cX0_clearPad 13 = .ok (.invokevirtual 177, 3) := dk_182 0 177 (dk_at dksX0_clearPad_0 13 rfl rfl)
theorem dX0_clearPad_16 : decode cX0_clearPad 16 = .ok (.iload_n 1, 1) := dk_27 (dk_at dksX0_clearPad_0 16 rfl rfl)
theorem dX0_clearPad_17 : decode cX0_clearPad 17 = .ok (.ireturn, 1) := dk_172 (dk_at dksX0_clearPad_0 17 rfl rfl)
def dkwX0_undo_1 : List UInt8 := [181, 0, 53, 42, 180, 0, 60, 182, 0, 75, 172]
abbrev dktX0_undo_1 : List UInt8 := dkwX0_undo_1 ++ []
def dkwX0_undo_0 : List UInt8 := [42, 180, 0, 60, 182, 0, 180, 153, 0, 6, 16, 251, 172, 42, 42, 180, 0, 60, 182, 0, 183, 192, 0, 50]
abbrev dktX0_undo_0 : List UInt8 := dkwX0_undo_0 ++ dktX0_undo_1
theorem dksX0_undo_0 : cX0_undo.data.toList.drop 0 = dktX0_undo_0 := by decide +kernel
theorem dksX0_undo_1 : cX0_undo.data.toList.drop 24 = dktX0_undo_1 := dk_seg dksX0_undo_0 24 rfl rfl
theorem dX0_undo_0 : decode cX0_undo 0 = .ok (.aload_n 0, 1) := dk_42 (dk_at dksX0_undo_0 0 rfl rfl)
theorem dX0_undo_1 : decode cX0_undo 1 = .ok (.getfield 60, 3) := dk_180 0 60 (dk_at dksX0_undo_0 1 rfl rfl)
theorem dX0_undo_4 : decode cX0_undo 4 = .ok (.invokevirtual 180, 3) := dk_182 0 180 (dk_at dksX0_undo_0 4 rfl rfl)
theorem dX0_undo_7 : decode cX0_undo 7 = .ok (.ifCond .eq 6, 3) := dk_153 0 6 (dk_at dksX0_undo_0 7 rfl rfl)
theorem dX0_undo_10 : decode cX0_undo 10 = .ok (.bipush (-5), 2) := dk_16 251 (dk_at dksX0_undo_0 10 rfl rfl)
theorem dX0_undo_12 : decode cX0_undo 12 = .ok (.ireturn, 1) := dk_172 (dk_at dksX0_undo_0 12 rfl rfl)
theorem dX0_undo_13 : decode cX0_undo 13 = .ok (.aload_n 0, 1) := dk_42 (dk_at dksX0_undo_0 13 rfl rfl)
theorem dX0_undo_14 : decode cX0_undo 14 = .ok (.aload_n 0, 1) := dk_42 (dk_at dksX0_undo_0 14 rfl rfl)
theorem dX0_undo_15 : decode cX0_undo 15 = .ok (.getfield 60, 3) := dk_180 0 60 (dk_at dksX0_undo_0 15 rfl rfl)
theorem dX0_undo_18 : decode cX0_undo 18 = .ok (.invokevirtual 183, 3) := dk_182 0 183 (dk_at dksX0_undo_0 18 rfl rfl)
theorem dX0_undo_21 : decode cX0_undo 21 = .ok (.checkcast 50, 3) := dk_192 0 50 (dk_at dksX0_undo_0 21 rfl rfl)
theorem dX0_undo_24 : decode cX0_undo 24 = .ok (.putfield 53, 3) := dk_181 0 53 (dk_at dksX0_undo_1 0 rfl rfl)
theorem dX0_undo_27 : decode cX0_undo 27 = .ok (.aload_n 0, 1) := dk_42 (dk_at dksX0_undo_1 3 rfl rfl)
theorem dX0_undo_28 : decode cX0_undo 28 = .ok (.getfield 60, 3) := dk_180 0 60 (dk_at dksX0_undo_1 4 rfl rfl)
theorem dX0_undo_31 : decode cX0_undo 31 = .ok (.invokevirtual 75, 3) := dk_182 0 75 (dk_at dksX0_undo_1 7 rfl rfl)
theorem dX0_undo_34 : decode cX0_undo 34 = .ok (.ireturn, 1) := dk_172 (dk_at dksX0_undo_1 10 rfl rfl)
def dkwX0_keep_0 : List UInt8 := [42, 42, 180, 0, 53, 182, 0, 92, 181, 0, 186, 42, 180, 0, 53, 180, 0, 103, 182, 0, 122, 172]
abbrev dktX0_keep_0 : List UInt8 := dkwX0_keep_0 ++ []
theorem dksX0_keep_0 : cX0_keep.data.toList.drop 0 = dktX0_keep_0 := by decide +kernel
theorem dX0_keep_0 : decode cX0_keep 0 = .ok (.aload_n 0, 1) := dk_42 (dk_at dksX0_keep_0 0 rfl rfl)
theorem dX0_keep_1 : decode cX0_keep 1 = .ok (.aload_n 0, 1) := dk_42 (dk_at dksX0_keep_0 1 rfl rfl)
theorem dX0_keep_2 : decode cX0_keep 2 = .ok (.getfield 53, 3) := dk_180 0 53 (dk_at dksX0_keep_0 2 rfl rfl)
theorem dX0_keep_5 : decode cX0_keep 5 = .ok (.invokevirtual 92, 3) := dk_182 0 92 (dk_at dksX0_keep_0 5 rfl rfl)
theorem dX0_keep_8 : decode cX0_keep 8 = .ok (.putfield 186, 3) := dk_181 0 186 (dk_at dksX0_keep_0 8 rfl rfl)
theorem dX0_keep_11 : decode cX0_keep 11 = .ok (.aload_n 0, 1) := dk_42 (dk_at dksX0_keep_0 11 rfl rfl)
theorem dX0_keep_12 : decode cX0_keep 12 = .ok (.getfield 53, 3) := dk_180 0 53 (dk_at dksX0_keep_0 12 rfl rfl)
theorem dX0_keep_15 : decode cX0_keep 15 = .ok (.getfield 103, 3) := dk_180 0 103 (dk_at dksX0_keep_0 15 rfl rfl)
theorem dX0_keep_18 : decode cX0_keep 18 = .ok (.invokevirtual 122, 3) := dk_182 0 122 (dk_at dksX0_keep_0 18 rfl rfl)
theorem dX0_keep_21 : decode cX0_keep 21 = .ok (.ireturn, 1) := dk_172 (dk_at dksX0_keep_0 21 rfl rfl)
def dkwX0_restore_1 : List UInt8 := [180, 0, 103, 182, 0, 122, 182, 0, 99, 172]
abbrev dktX0_restore_1 : List UInt8 := dkwX0_restore_1 ++ []
def dkwX0_restore_0 : List UInt8 := [42, 180, 0, 186, 199, 0, 8, 16, 251, 167, 0, 24, 42, 42, 180, 0, 186, 182, 0, 92, 42, 180, 0, 186]
abbrev dktX0_restore_0 : List UInt8 := dkwX0_restore_0 ++ dktX0_restore_1
theorem dksX0_restore_0 : cX0_restore.data.toList.drop 0 = dktX0_restore_0 := by decide +kernel
theorem dksX0_restore_1 : cX0_restore.data.toList.drop 24 = dktX0_restore_1 := dk_seg dksX0_restore_0 24 rfl rfl
theorem dX0_restore_0 : decode cX0_restore 0 = .ok (.aload_n 0, 1) := dk_42 (dk_at dksX0_restore_0 0 rfl rfl)
theorem dX0_restore_1 : decode cX0_restore 1 = .ok (.getfield 186, 3) := dk_180 0 186 (dk_at dksX0_restore_0 1 rfl rfl)
theorem dX0_restore_4 : decode cX0_restore 4 = .ok (.ifnonnull 8, 3) := dk_199 0 8 (dk_at dksX0_restore_0 4 rfl rfl)
theorem dX0_restore_7 : decode cX0_restore 7 = .ok (.bipush (-5), 2) := dk_16 251 (dk_at dksX0_restore_0 7 rfl rfl)
theorem dX0_restore_9 : decode cX0_restore 9 = .ok (.goto 24, 3) := dk_167 0 24 (dk_at dksX0_restore_0 9 rfl rfl)
theorem dX0_restore_12 : decode cX0_restore 12 = .ok (.aload_n 0, 1) := dk_42 (dk_at dksX0_restore_0 12 rfl rfl)
theorem dX0_restore_13 : decode cX0_restore 13 = .ok (.aload_n 0, 1) := dk_42 (dk_at dksX0_restore_0 13 rfl rfl)
theorem dX0_restore_14 : decode cX0_restore 14 = .ok (.getfield 186, 3) := dk_180 0 186 (dk_at dksX0_restore_0 14 rfl rfl)
theorem dX0_restore_17 : decode cX0_restore 17 = .ok (.invokevirtual 92, 3) := dk_182 0 92 (dk_at dksX0_restore_0 17 rfl rfl)
theorem dX0_restore_20 : decode cX0_restore 20 = .ok (.aload_n 0, 1) := dk_42 (dk_at dksX0_restore_0 20 rfl rfl)
theorem dX0_restore_21 : decode cX0_restore 21 = .ok (.getfield 186, 3) := dk_180 0 186 (dk_at dksX0_restore_0 21 rfl rfl)
theorem dX0_restore_24 : decode cX0_restore 24 = .ok (.getfield 103, 3) := dk_180 0 103 (dk_at dksX0_restore_1 0 rfl rfl)
theorem dX0_restore_27 : decode cX0_restore 27 = .ok (.invokevirtual 122, 3) := dk_182 0 122 (dk_at dksX0_restore_1 3 rfl rfl)
theorem dX0_restore_30 : decode cX0_restore 30 = .ok (.invokevirtual 99, 3) := dk_182 0 99 (dk_at dksX0_restore_1 6 rfl rfl)
theorem dX0_restore_33 : decode cX0_restore 33 = .ok (.ireturn, 1) := dk_172 (dk_at dksX0_restore_1 9 rfl rfl)
def dkwX0_entry_7 : List UInt8 := [3, 167, 0, 5, 16, 254, 172]
abbrev dktX0_entry_7 : List UInt8 := dkwX0_entry_7 ++ []
def dkwX0_entry_6 : List UInt8 := [182, 0, 212, 167, 0, 27, 45, 42, 180, 0, 53, 180, 0, 103, 182, 0, 215, 153, 0, 7, 4, 167, 0, 9]
abbrev dktX0_entry_6 : List UInt8 := dkwX0_entry_6 ++ dktX0_entry_7
def dkwX0_entry_5 : List UInt8 := [180, 0, 205, 167, 0, 51, 42, 180, 0, 53, 180, 0, 103, 45, 180, 0, 194, 182, 0, 208, 167, 0, 34, 45]
abbrev dktX0_entry_5 : List UInt8 := dkwX0_entry_5 ++ dktX0_entry_6
def dkwX0_entry_4 : List UInt8 := [180, 0, 194, 180, 0, 198, 167, 0, 71, 45, 180, 0, 194, 180, 0, 203, 167, 0, 61, 45, 180, 0, 194]
abbrev dktX0_entry_4 : List UInt8 := dkwX0_entry_4 ++ dktX0_entry_5
def dkwX0_entry_3 : List UInt8 := [182, 0, 129, 7, 108, 167, 0, 96, 45, 182, 0, 189, 153, 0, 7, 4, 167, 0, 85, 3, 167, 0, 81, 45]
abbrev dktX0_entry_3 : List UInt8 := dkwX0_entry_3 ++ dktX0_entry_4
def dkwX0_entry_2 : List UInt8 := [42, 180, 0, 53, 180, 0, 103, 27, 182, 0, 129, 167, 0, 112, 42, 180, 0, 53, 180, 0, 103, 27]
abbrev dktX0_entry_2 : List UInt8 := dkwX0_entry_2 ++ dktX0_entry_3
def dkwX0_entry_1 : List UInt8 := [170, 0, 0, 0, 170, 0, 0, 0, 0, 0, 0, 0, 8, 0, 0, 0, 49, 0, 0, 0, 63, 0, 0, 0, 79, 0, 0, 0, 94, 0, 0, 0, 104, 0, 0, 0, 114, 0, 0, 0, 124, 0, 0, 0, 141, 0, 0, 0, 148]
abbrev dktX0_entry_1 : List UInt8 := dkwX0_entry_1 ++ dktX0_entry_2
def dkwX0_entry_0 : List UInt8 := [42, 180, 0, 53, 180, 0, 103, 27, 182, 0, 116, 78, 45, 199, 0, 5, 2, 172, 28]
abbrev dktX0_entry_0 : List UInt8 := dkwX0_entry_0 ++ dktX0_entry_1
theorem dksX0_entry_0 : cX0_entry.data.toList.drop 0 = dktX0_entry_0 := by decide +kernel
theorem dksX0_entry_1 : cX0_entry.data.toList.drop 19 = dktX0_entry_1 := dk_seg dksX0_entry_0 19 rfl rfl
theorem dksX0_entry_2 : cX0_entry.data.toList.drop 68 = dktX0_entry_2 := dk_seg dksX0_entry_1 49 rfl rfl
theorem dksX0_entry_3 : cX0_entry.data.toList.drop 90 = dktX0_entry_3 := dk_seg dksX0_entry_2 22 rfl rfl
theorem dksX0_entry_4 : cX0_entry.data.toList.drop 114 = dktX0_entry_4 := dk_seg dksX0_entry_3 24 rfl rfl
theorem dksX0_entry_5 : cX0_entry.data.toList.drop 137 = dktX0_entry_5 := dk_seg dksX0_entry_4 23 rfl rfl
theorem dksX0_entry_6 : cX0_entry.data.toList.drop 161 = dktX0_entry_6 := dk_seg dksX0_entry_5 24 rfl rfl
theorem dksX0_entry_7 : cX0_entry.data.toList.drop 185 = dktX0_entry_7 := dk_seg dksX0_entry_6 24 rfl rfl
theorem dX0_entry_0 : decode cX0_entry 0 = .ok (.aload_n 0, 1) := dk_42 (dk_at dksX0_entry_0 0 rfl rfl)
theorem dX0_entry_1 : decode cX0_entry 1 = .ok (.getfield 53, 3) := dk_180 0 53 (dk_at dksX0_entry_0 1 rfl rfl)
theorem dX0_entry_4 : decode cX0_entry 4 = .ok (.getfield 103, 3) := dk_180 0 103 (dk_at dksX0_entry_0 4 rfl rfl)
theorem dX0_entry_7 : decode cX0_entry 7 = .ok (.iload_n 1, 1) := dk_27 (dk_at dksX0_entry_0 7 rfl rfl)
theorem dX0_entry_8 : decode cX0_entry 8 = .ok (.invokevirtual 116, 3) := dk_182 0 116 (dk_at dksX0_entry_0 8 rfl rfl)
theorem dX0_entry_11 : decode cX0_entry 11 = .ok (.astore_n 3, 1) := dk_78 (dk_at dksX0_entry_0 11 rfl rfl)
theorem dX0_entry_12 : decode cX0_entry 12 = .ok (.aload_n 3, 1) := dk_45 (dk_at dksX0_entry_0 12 rfl rfl)
theorem dX0_entry_13 : decode cX0_entry 13 = .ok (.ifnonnull 5, 3) := dk_199 0 5 (dk_at dksX0_entry_0 13 rfl rfl)
theorem dX0_entry_16 : decode cX0_entry 16 = .ok (.iconst (-1), 1) := dk_2 (dk_at dksX0_entry_0 16 rfl rfl)
theorem dX0_entry_17 : decode cX0_entry 17 = .ok (.ireturn, 1) := dk_172 (dk_at dksX0_entry_0 17 rfl rfl)
theorem dX0_entry_18 : decode cX0_entry 18 = .ok (.iload_n 2, 1) := dk_28 (dk_at dksX0_entry_0 18 rfl rfl)
theorem dX0_entry_19 : decode cX0_entry 19 = .ok (.tableswitch 170 0 8 #[49, 63, 79, 94, 104, 114, 124, 141, 148], 49) := by decide +kernel
theorem dX0_entry_68 : decode cX0_entry 68 = .ok (.aload_n 0, 1) := dk_42 (dk_at dksX0_entry_2 0 rfl rfl)
theorem dX0_entry_69 : decode cX0_entry 69 = .ok (.getfield 53, 3) := dk_180 0 53 (dk_at dksX0_entry_2 1 rfl rfl)
theorem dX0_entry_72 : decode cX0_entry 72 = .ok (.getfield 103, 3) := dk_180 0 103 (dk_at dksX0_entry_2 4 rfl rfl)
theorem dX0_entry_75 : decode cX0_entry 75 = .ok (.iload_n 1, 1) := dk_27 (dk_at dksX0_entry_2 7 rfl rfl)
theorem dX0_entry_76 : decode cX0_entry 76 = .ok (.invokevirtual 129, 3) := dk_182 0 129 (dk_at dksX0_entry_2 8 rfl rfl)
theorem dX0_entry_79 : decode cX0_entry 79 = .ok (.goto 112, 3) := dk_167 0 112 (dk_at dksX0_entry_2 11 rfl rfl)
theorem dX0_entry_82 : decode cX0_entry 82 = .ok (.aload_n 0, 1) := dk_42 (dk_at dksX0_entry_2 14 rfl rfl)
theorem dX0_entry_83 : decode cX0_entry 83 = .ok (.getfield 53, 3) := dk_180 0 53 (dk_at dksX0_entry_2 15 rfl rfl)
theorem dX0_entry_86 : decode cX0_entry 86 = .ok (.getfield 103, 3) := dk_180 0 103 (dk_at dksX0_entry_2 18 rfl rfl)
theorem dX0_entry_89 : decode cX0_entry 89 = .ok (.iload_n 1, 1) := dk_27 (dk_at dksX0_entry_2 21 rfl rfl)
theorem dX0_entry_90 : decode cX0_entry 90 = .ok (.invokevirtual 129, 3) := dk_182 0 129 (dk_at dksX0_entry_3 0 rfl rfl)
theorem dX0_entry_93 : decode cX0_entry 93 = .ok (.iconst 4, 1) := dk_7 (dk_at dksX0_entry_3 3 rfl rfl)
theorem dX0_entry_94 : decode cX0_entry 94 = .ok (.idiv, 1) := dk_108 (dk_at dksX0_entry_3 4 rfl rfl)
theorem dX0_entry_95 : decode cX0_entry 95 = .ok (.goto 96, 3) := dk_167 0 96 (dk_at dksX0_entry_3 5 rfl rfl)
theorem dX0_entry_98 : decode cX0_entry 98 = .ok (.aload_n 3, 1) := dk_45 (dk_at dksX0_entry_3 8 rfl rfl)
theorem dX0_entry_99 : decode cX0_entry 99 = .ok (.invokevirtual 189, 3) := dk_182 0 189 (dk_at dksX0_entry_3 9 rfl rfl)
theorem dX0_entry_102 : decode cX0_entry 102 = .ok (.ifCond .eq 7, 3) := dk_153 0 7 (dk_at dksX0_entry_3 12 rfl rfl)
theorem dX0_entry_105 : decode cX0_entry 105 = .ok (.iconst 1, 1) := dk_4 (dk_at dksX0_entry_3 15 rfl rfl)
theorem dX0_entry_106 : decode cX0_entry 106 = .ok (.goto 85, 3) := dk_167 0 85 (dk_at dksX0_entry_3 16 rfl rfl)
theorem dX0_entry_109 : decode cX0_entry 109 = .ok (.iconst 0, 1) := dk_3 (dk_at dksX0_entry_3 19 rfl rfl)
theorem dX0_entry_110 : decode cX0_entry 110 = .ok (.goto 81, 3) := dk_167 0 81 (dk_at dksX0_entry_3 20 rfl rfl)
theorem dX0_entry_113 : decode cX0_entry 113 = .ok (.aload_n 3, 1) := dk_45 (dk_at dksX0_entry_3 23 rfl rfl)
theorem dX0_entry_114 : decode cX0_entry 114 = .ok (.getfield 194, 3) := dk_180 0 194 (dk_at dksX0_entry_4 0 rfl rfl)
theorem dX0_entry_117 : decode cX0_entry 117 = .ok (.getfield 198, 3) := dk_180 0 198 (dk_at dksX0_entry_4 3 rfl rfl)
theorem dX0_entry_120 : decode cX0_entry 120 = .ok (.goto 71, 3) := dk_167 0 71 (dk_at dksX0_entry_4 6 rfl rfl)
theorem dX0_entry_123 : decode cX0_entry 123 = .ok (.aload_n 3, 1) := dk_45 (dk_at dksX0_entry_4 9 rfl rfl)
theorem dX0_entry_124 : decode cX0_entry 124 = .ok (.getfield 194, 3) := dk_180 0 194 (dk_at dksX0_entry_4 10 rfl rfl)
theorem dX0_entry_127 : decode cX0_entry 127 = .ok (.getfield 203, 3) := dk_180 0 203 (dk_at dksX0_entry_4 13 rfl rfl)
theorem dX0_entry_130 : decode cX0_entry 130 = .ok (.goto 61, 3) := dk_167 0 61 (dk_at dksX0_entry_4 16 rfl rfl)
theorem dX0_entry_133 : decode cX0_entry 133 = .ok (.aload_n 3, 1) := dk_45 (dk_at dksX0_entry_4 19 rfl rfl)
theorem dX0_entry_134 : decode cX0_entry 134 = .ok (.getfield 194, 3) := dk_180 0 194 (dk_at dksX0_entry_4 20 rfl rfl)
theorem dX0_entry_137 : decode cX0_entry 137 = .ok (.getfield 205, 3) := dk_180 0 205 (dk_at dksX0_entry_5 0 rfl rfl)
theorem dX0_entry_140 : decode cX0_entry 140 = .ok (.goto 51, 3) := dk_167 0 51 (dk_at dksX0_entry_5 3 rfl rfl)
theorem dX0_entry_143 : decode cX0_entry 143 = .ok (.aload_n 0, 1) := dk_42 (dk_at dksX0_entry_5 6 rfl rfl)
theorem dX0_entry_144 : decode cX0_entry 144 = .ok (.getfield 53, 3) := dk_180 0 53 (dk_at dksX0_entry_5 7 rfl rfl)
theorem dX0_entry_147 : decode cX0_entry 147 = .ok (.getfield 103, 3) := dk_180 0 103 (dk_at dksX0_entry_5 10 rfl rfl)
theorem dX0_entry_150 : decode cX0_entry 150 = .ok (.aload_n 3, 1) := dk_45 (dk_at dksX0_entry_5 13 rfl rfl)
theorem dX0_entry_151 : decode cX0_entry 151 = .ok (.getfield 194, 3) := dk_180 0 194 (dk_at dksX0_entry_5 14 rfl rfl)
theorem dX0_entry_154 : decode cX0_entry 154 = .ok (.invokevirtual 208, 3) := dk_182 0 208 (dk_at dksX0_entry_5 17 rfl rfl)
theorem dX0_entry_157 : decode cX0_entry 157 = .ok (.goto 34, 3) := dk_167 0 34 (dk_at dksX0_entry_5 20 rfl rfl)
theorem dX0_entry_160 : decode cX0_entry 160 = .ok (.aload_n 3, 1) := dk_45 (dk_at dksX0_entry_5 23 rfl rfl)
theorem dX0_entry_161 : decode cX0_entry 161 = .ok (.invokevirtual 212, 3) := dk_182 0 212 (dk_at dksX0_entry_6 0 rfl rfl)
theorem dX0_entry_164 : decode cX0_entry 164 = .ok (.goto 27, 3) := dk_167 0 27 (dk_at dksX0_entry_6 3 rfl rfl)
theorem dX0_entry_167 : decode cX0_entry 167 = .ok (.aload_n 3, 1) := dk_45 (dk_at dksX0_entry_6 6 rfl rfl)
theorem dX0_entry_168 : decode cX0_entry 168 = .ok (.aload_n 0, 1) := dk_42 (dk_at dksX0_entry_6 7 rfl rfl)
theorem dX0_entry_169 : decode cX0_entry 169 = .ok (.getfield 53, 3) := dk_180 0 53 (dk_at dksX0_entry_6 8 rfl rfl)
theorem dX0_entry_172 : decode cX0_entry 172 = .ok (.getfield 103, 3) := dk_180 0 103 (dk_at dksX0_entry_6 11 rfl rfl)
theorem dX0_entry_175 : decode cX0_entry 175 = .ok (.invokevirtual 215, 3) := dk_182 0 215 (dk_at dksX0_entry_6 14 rfl rfl)
theorem dX0_entry_178 : decode cX0_entry 178 = .ok (.ifCond .eq 7, 3) := dk_153 0 7 (dk_at dksX0_entry_6 17 rfl rfl)
theorem dX0_entry_181 : decode cX0_entry 181 = .ok (.iconst 1, 1) := dk_4 (dk_at dksX0_entry_6 20 rfl rfl)
theorem dX0_entry_182 : decode cX0_entry 182 = .ok (.goto 9, 3) := dk_167 0 9 (dk_at dksX0_entry_6 21 rfl rfl)
theorem dX0_entry_185 : decode cX0_entry 185 = .ok (.iconst 0, 1) := dk_3 (dk_at dksX0_entry_7 0 rfl rfl)
theorem dX0_entry_186 : decode cX0_entry 186 = .ok (.goto 5, 3) := dk_167 0 5 (dk_at dksX0_entry_7 1 rfl rfl)
theorem dX0_entry_189 : decode cX0_entry 189 = .ok (.bipush (-2), 2) := dk_16 254 (dk_at dksX0_entry_7 4 rfl rfl)
theorem dX0_entry_191 : decode cX0_entry 191 = .ok (.ireturn, 1) := dk_172 (dk_at dksX0_entry_7 6 rfl rfl)
def dkwX0_named_2 : List UInt8 := [16, 251, 172]
abbrev dktX0_named_2 : List UInt8 := dkwX0_named_2 ++ []
def dkwX0_named_1 : List UInt8 := [180, 0, 53, 180, 0, 103, 180, 0, 219, 27, 185, 0, 223, 2, 0, 192, 0, 190, 180, 0, 227, 167, 0, 5]
abbrev dktX0_named_1 : List UInt8 := dkwX0_named_1 ++ dktX0_named_2
def dkwX0_named_0 : List UInt8 := [27, 156, 0, 8, 16, 254, 167, 0, 44, 27, 42, 180, 0, 53, 180, 0, 103, 182, 0, 122, 162, 0, 28, 42]
abbrev dktX0_named_0 : List UInt8 := dkwX0_named_0 ++ dktX0_named_1
theorem dksX0_named_0 : cX0_named.data.toList.drop 0 = dktX0_named_0 := by decide +kernel
theorem dksX0_named_1 : cX0_named.data.toList.drop 24 = dktX0_named_1 := dk_seg dksX0_named_0 24 rfl rfl
theorem dksX0_named_2 : cX0_named.data.toList.drop 48 = dktX0_named_2 := dk_seg dksX0_named_1 24 rfl rfl
theorem dX0_named_0 : decode cX0_named 0 = .ok (.iload_n 1, 1) := dk_27 (dk_at dksX0_named_0 0 rfl rfl)
theorem dX0_named_1 : decode cX0_named 1 = .ok (.ifCond .ge 8, 3) := dk_156 0 8 (dk_at dksX0_named_0 1 rfl rfl)
theorem dX0_named_4 : decode cX0_named 4 = .ok (.bipush (-2), 2) := dk_16 254 (dk_at dksX0_named_0 4 rfl rfl)
theorem dX0_named_6 : decode cX0_named 6 = .ok (.goto 44, 3) := dk_167 0 44 (dk_at dksX0_named_0 6 rfl rfl)
theorem dX0_named_9 : decode cX0_named 9 = .ok (.iload_n 1, 1) := dk_27 (dk_at dksX0_named_0 9 rfl rfl)
theorem dX0_named_10 : decode cX0_named 10 = .ok (.aload_n 0, 1) := dk_42 (dk_at dksX0_named_0 10 rfl rfl)
theorem dX0_named_11 : decode cX0_named 11 = .ok (.getfield 53, 3) := dk_180 0 53 (dk_at dksX0_named_0 11 rfl rfl)
theorem dX0_named_14 : decode cX0_named 14 = .ok (.getfield 103, 3) := dk_180 0 103 (dk_at dksX0_named_0 14 rfl rfl)
theorem dX0_named_17 : decode cX0_named 17 = .ok (.invokevirtual 122, 3) := dk_182 0 122 (dk_at dksX0_named_0 17 rfl rfl)
theorem dX0_named_20 : decode cX0_named 20 = .ok (.if_icmp .ge 28, 3) := dk_162 0 28 (dk_at dksX0_named_0 20 rfl rfl)
theorem dX0_named_23 : decode cX0_named 23 = .ok (.aload_n 0, 1) := dk_42 (dk_at dksX0_named_0 23 rfl rfl)
theorem dX0_named_24 : decode cX0_named 24 = .ok (.getfield 53, 3) := dk_180 0 53 (dk_at dksX0_named_1 0 rfl rfl)
theorem dX0_named_27 : decode cX0_named 27 = .ok (.getfield 103, 3) := dk_180 0 103 (dk_at dksX0_named_1 3 rfl rfl)
theorem dX0_named_30 : decode cX0_named 30 = .ok (.getfield 219, 3) := dk_180 0 219 (dk_at dksX0_named_1 6 rfl rfl)
theorem dX0_named_33 : decode cX0_named 33 = .ok (.iload_n 1, 1) := dk_27 (dk_at dksX0_named_1 9 rfl rfl)
theorem dX0_named_34 : decode cX0_named 34 = .ok (.invokeinterface 223 2, 5) := by decide +kernel
theorem dX0_named_39 : decode cX0_named 39 = .ok (.checkcast 190, 3) := dk_192 0 190 (dk_at dksX0_named_1 15 rfl rfl)
theorem dX0_named_42 : decode cX0_named 42 = .ok (.getfield 227, 3) := dk_180 0 227 (dk_at dksX0_named_1 18 rfl rfl)
theorem dX0_named_45 : decode cX0_named 45 = .ok (.goto 5, 3) := dk_167 0 5 (dk_at dksX0_named_1 21 rfl rfl)
theorem dX0_named_48 : decode cX0_named 48 = .ok (.bipush (-5), 2) := dk_16 251 (dk_at dksX0_named_2 0 rfl rfl)
theorem dX0_named_50 : decode cX0_named 50 = .ok (.ireturn, 1) := dk_172 (dk_at dksX0_named_2 2 rfl rfl)
def dkwX0_block_3 : List UInt8 := [185, 0, 240, 1, 0, 167, 0, 5, 16, 254, 172]
abbrev dktX0_block_3 : List UInt8 := dkwX0_block_3 ++ []
def dkwX0_block_2 : List UInt8 := [28, 4, 160, 0, 12, 45, 185, 0, 237, 1, 0, 167, 0, 19, 28, 5, 160, 0, 12, 45]
abbrev dktX0_block_2 : List UInt8 := dkwX0_block_2 ++ dktX0_block_3
def dkwX0_block_1 : List UInt8 := [180, 0, 53, 180, 0, 103, 27, 182, 0, 230, 78, 28, 154, 0, 12, 45, 185, 0, 234, 1, 0, 167, 0, 33]
abbrev dktX0_block_1 : List UInt8 := dkwX0_block_1 ++ dktX0_block_2
def dkwX0_block_0 : List UInt8 := [27, 3, 42, 180, 0, 53, 180, 0, 103, 180, 0, 169, 4, 100, 184, 0, 3, 154, 0, 5, 2, 172, 42]
abbrev dktX0_block_0 : List UInt8 := dkwX0_block_0 ++ dktX0_block_1
theorem dksX0_block_0 : cX0_block.data.toList.drop 0 = dktX0_block_0 := by decide +kernel
theorem dksX0_block_1 : cX0_block.data.toList.drop 23 = dktX0_block_1 := dk_seg dksX0_block_0 23 rfl rfl
theorem dksX0_block_2 : cX0_block.data.toList.drop 47 = dktX0_block_2 := dk_seg dksX0_block_1 24 rfl rfl
theorem dksX0_block_3 : cX0_block.data.toList.drop 67 = dktX0_block_3 := dk_seg dksX0_block_2 20 rfl rfl
theorem dX0_block_0 : decode cX0_block 0 = .ok (.iload_n 1, 1) := dk_27 (dk_at dksX0_block_0 0 rfl rfl)
theorem dX0_block_1 : decode cX0_block 1 = .ok (.iconst 0, 1) := dk_3 (dk_at dksX0_block_0 1 rfl rfl)
theorem dX0_block_2 : decode cX0_block 2 = .ok (.aload_n 0, 1) := dk_42 (dk_at dksX0_block_0 2 rfl rfl)
theorem dX0_block_3 : decode cX0_block 3 = .ok (.getfield 53, 3) := dk_180 0 53 (dk_at dksX0_block_0 3 rfl rfl)
theorem dX0_block_6 : decode cX0_block 6 = .ok (.getfield 103, 3) := dk_180 0 103 (dk_at dksX0_block_0 6 rfl rfl)
theorem dX0_block_9 : decode cX0_block 9 = .ok (.getfield 169, 3) := dk_180 0 169 (dk_at dksX0_block_0 9 rfl rfl)
theorem dX0_block_12 : decode cX0_block 12 = .ok (.iconst 1, 1) := dk_4 (dk_at dksX0_block_0 12 rfl rfl)
theorem dX0_block_13 : decode cX0_block 13 = .ok (.isub, 1) := dk_100 (dk_at dksX0_block_0 13 rfl rfl)
theorem dX0_block_14 : decode cX0_block 14 = .ok (.invokestatic 3, 3) := dk_184 0 3 (dk_at dksX0_block_0 14 rfl rfl)
theorem dX0_block_17 : decode cX0_block 17 = .ok (.ifCond .ne 5, 3) := dk_154 0 5 (dk_at dksX0_block_0 17 rfl rfl)
theorem dX0_block_20 : decode cX0_block 20 = .ok (.iconst (-1), 1) := dk_2 (dk_at dksX0_block_0 20 rfl rfl)
theorem dX0_block_21 : decode cX0_block 21 = .ok (.ireturn, 1) := dk_172 (dk_at dksX0_block_0 21 rfl rfl)
theorem dX0_block_22 : decode cX0_block 22 = .ok (.aload_n 0, 1) := dk_42 (dk_at dksX0_block_0 22 rfl rfl)
theorem dX0_block_23 : decode cX0_block 23 = .ok (.getfield 53, 3) := dk_180 0 53 (dk_at dksX0_block_1 0 rfl rfl)
theorem dX0_block_26 : decode cX0_block 26 = .ok (.getfield 103, 3) := dk_180 0 103 (dk_at dksX0_block_1 3 rfl rfl)
theorem dX0_block_29 : decode cX0_block 29 = .ok (.iload_n 1, 1) := dk_27 (dk_at dksX0_block_1 6 rfl rfl)
theorem dX0_block_30 : decode cX0_block 30 = .ok (.invokevirtual 230, 3) := dk_182 0 230 (dk_at dksX0_block_1 7 rfl rfl)
theorem dX0_block_33 : decode cX0_block 33 = .ok (.astore_n 3, 1) := dk_78 (dk_at dksX0_block_1 10 rfl rfl)
theorem dX0_block_34 : decode cX0_block 34 = .ok (.iload_n 2, 1) := dk_28 (dk_at dksX0_block_1 11 rfl rfl)
theorem dX0_block_35 : decode cX0_block 35 = .ok (.ifCond .ne 12, 3) := dk_154 0 12 (dk_at dksX0_block_1 12 rfl rfl)
theorem dX0_block_38 : decode cX0_block 38 = .ok (.aload_n 3, 1) := dk_45 (dk_at dksX0_block_1 15 rfl rfl)
theorem dX0_block_39 : decode cX0_block 39 = .ok (.invokeinterface 234 1, 5) := by decide +kernel
theorem dX0_block_44 : decode cX0_block 44 = .ok (.goto 33, 3) := dk_167 0 33 (dk_at dksX0_block_1 21 rfl rfl)
theorem dX0_block_47 : decode cX0_block 47 = .ok (.iload_n 2, 1) := dk_28 (dk_at dksX0_block_2 0 rfl rfl)
theorem dX0_block_48 : decode cX0_block 48 = .ok (.iconst 1, 1) := dk_4 (dk_at dksX0_block_2 1 rfl rfl)
theorem dX0_block_49 : decode cX0_block 49 = .ok (.if_icmp .ne 12, 3) := dk_160 0 12 (dk_at dksX0_block_2 2 rfl rfl)
theorem dX0_block_52 : decode cX0_block 52 = .ok (.aload_n 3, 1) := dk_45 (dk_at dksX0_block_2 5 rfl rfl)
theorem dX0_block_53 : decode cX0_block 53 = .ok (.invokeinterface 237 1, 5) := by decide +kernel
theorem dX0_block_58 : decode cX0_block 58 = .ok (.goto 19, 3) := dk_167 0 19 (dk_at dksX0_block_2 11 rfl rfl)
theorem dX0_block_61 : decode cX0_block 61 = .ok (.iload_n 2, 1) := dk_28 (dk_at dksX0_block_2 14 rfl rfl)
theorem dX0_block_62 : decode cX0_block 62 = .ok (.iconst 2, 1) := dk_5 (dk_at dksX0_block_2 15 rfl rfl)
theorem dX0_block_63 : decode cX0_block 63 = .ok (.if_icmp .ne 12, 3) := dk_160 0 12 (dk_at dksX0_block_2 16 rfl rfl)
theorem dX0_block_66 : decode cX0_block 66 = .ok (.aload_n 3, 1) := dk_45 (dk_at dksX0_block_2 19 rfl rfl)
theorem dX0_block_67 : decode cX0_block 67 = .ok (.invokeinterface 240 1, 5) := by decide +kernel
theorem dX0_block_72 : decode cX0_block 72 = .ok (.goto 5, 3) := dk_167 0 5 (dk_at dksX0_block_3 5 rfl rfl)
theorem dX0_block_75 : decode cX0_block 75 = .ok (.bipush (-2), 2) := dk_16 254 (dk_at dksX0_block_3 8 rfl rfl)
theorem dX0_block_77 : decode cX0_block 77 = .ok (.ireturn, 1) := dk_172 (dk_at dksX0_block_3 10 rfl rfl)
def dkwX0_at_2 : List UInt8 := [182, 0, 247, 162, 0, 9, 42, 45, 182, 0, 250, 172, 167, 255, 223, 16, 251, 172]
abbrev dktX0_at_2 : List UInt8 := dkwX0_at_2 ++ []
def dkwX0_at_1 : List UInt8 := [77, 44, 185, 0, 145, 1, 0, 153, 0, 30, 44, 185, 0, 151, 1, 0, 192, 0, 199, 78, 27, 45]
abbrev dktX0_at_1 : List UInt8 := dkwX0_at_1 ++ dktX0_at_2
def dkwX0_at_0 : List UInt8 := [27, 3, 16, 99, 184, 0, 3, 154, 0, 5, 2, 172, 42, 180, 0, 53, 180, 0, 244, 185, 0, 141, 1, 0]
abbrev dktX0_at_0 : List UInt8 := dkwX0_at_0 ++ dktX0_at_1
theorem dksX0_at_0 : cX0_at.data.toList.drop 0 = dktX0_at_0 := by decide +kernel
theorem dksX0_at_1 : cX0_at.data.toList.drop 24 = dktX0_at_1 := dk_seg dksX0_at_0 24 rfl rfl
theorem dksX0_at_2 : cX0_at.data.toList.drop 46 = dktX0_at_2 := dk_seg dksX0_at_1 22 rfl rfl
theorem dX0_at_0 : decode cX0_at 0 = .ok (.iload_n 1, 1) := dk_27 (dk_at dksX0_at_0 0 rfl rfl)
theorem dX0_at_1 : decode cX0_at 1 = .ok (.iconst 0, 1) := dk_3 (dk_at dksX0_at_0 1 rfl rfl)
theorem dX0_at_2 : decode cX0_at 2 = .ok (.bipush 99, 2) := dk_16 99 (dk_at dksX0_at_0 2 rfl rfl)
theorem dX0_at_4 : decode cX0_at 4 = .ok (.invokestatic 3, 3) := dk_184 0 3 (dk_at dksX0_at_0 4 rfl rfl)
theorem dX0_at_7 : decode cX0_at 7 = .ok (.ifCond .ne 5, 3) := dk_154 0 5 (dk_at dksX0_at_0 7 rfl rfl)
theorem dX0_at_10 : decode cX0_at 10 = .ok (.iconst (-1), 1) := dk_2 (dk_at dksX0_at_0 10 rfl rfl)
theorem dX0_at_11 : decode cX0_at 11 = .ok (.ireturn, 1) := dk_172 (dk_at dksX0_at_0 11 rfl rfl)
theorem dX0_at_12 : decode cX0_at 12 = .ok (.aload_n 0, 1) := dk_42 (dk_at dksX0_at_0 12 rfl rfl)
theorem dX0_at_13 : decode cX0_at 13 = .ok (.getfield 53, 3) := dk_180 0 53 (dk_at dksX0_at_0 13 rfl rfl)
theorem dX0_at_16 : decode cX0_at 16 = .ok (.getfield 244, 3) := dk_180 0 244 (dk_at dksX0_at_0 16 rfl rfl)
theorem dX0_at_19 : decode cX0_at 19 = .ok (.invokeinterface 141 1, 5) := by decide +kernel
theorem dX0_at_24 : decode cX0_at 24 = .ok (.astore_n 2, 1) := dk_77 (dk_at dksX0_at_1 0 rfl rfl)
theorem dX0_at_25 : decode cX0_at 25 = .ok (.aload_n 2, 1) := dk_44 (dk_at dksX0_at_1 1 rfl rfl)
theorem dX0_at_26 : decode cX0_at 26 = .ok (.invokeinterface 145 1, 5) := by decide +kernel
theorem dX0_at_31 : decode cX0_at 31 = .ok (.ifCond .eq 30, 3) := dk_153 0 30 (dk_at dksX0_at_1 7 rfl rfl)
theorem dX0_at_34 : decode cX0_at 34 = .ok (.aload_n 2, 1) := dk_44 (dk_at dksX0_at_1 10 rfl rfl)
theorem dX0_at_35 : decode cX0_at 35 = .ok (.invokeinterface 151 1, 5) := by decide +kernel
theorem dX0_at_40 : decode cX0_at 40 = .ok (.checkcast 199, 3) := dk_192 0 199 (dk_at dksX0_at_1 16 rfl rfl)
theorem dX0_at_43 : decode cX0_at 43 = .ok (.astore_n 3, 1) := dk_78 (dk_at dksX0_at_1 19 rfl rfl)
theorem dX0_at_44 : decode cX0_at 44 = .ok (.iload_n 1, 1) := dk_27 (dk_at dksX0_at_1 20 rfl rfl)
theorem dX0_at_45 : decode cX0_at 45 = .ok (.aload_n 3, 1) := dk_45 (dk_at dksX0_at_1 21 rfl rfl)
theorem dX0_at_46 : decode cX0_at 46 = .ok (.invokevirtual 247, 3) := dk_182 0 247 (dk_at dksX0_at_2 0 rfl rfl)
theorem dX0_at_49 : decode cX0_at 49 = .ok (.if_icmp .ge 9, 3) := dk_162 0 9 (dk_at dksX0_at_2 3 rfl rfl)
theorem dX0_at_52 : decode cX0_at 52 = .ok (.aload_n 0, 1) := dk_42 (dk_at dksX0_at_2 6 rfl rfl)
theorem dX0_at_53 : decode cX0_at 53 = .ok (.aload_n 3, 1) := dk_45 (dk_at dksX0_at_2 7 rfl rfl)
theorem dX0_at_54 : decode cX0_at 54 = .ok (.invokevirtual 250, 3) := dk_182 0 250 (dk_at dksX0_at_2 8 rfl rfl)
theorem dX0_at_57 : decode cX0_at 57 = .ok (.ireturn, 1) := dk_172 (dk_at dksX0_at_2 11 rfl rfl)
theorem dX0_at_58 : decode cX0_at 58 = .ok (.goto (-33), 3) := dk_167 255 223 (dk_at dksX0_at_2 12 rfl rfl)
theorem dX0_at_61 : decode cX0_at 61 = .ok (.bipush (-5), 2) := dk_16 251 (dk_at dksX0_at_2 15 rfl rfl)
theorem dX0_at_63 : decode cX0_at 63 = .ok (.ireturn, 1) := dk_172 (dk_at dksX0_at_2 17 rfl rfl)
def dkwX0_lowest_2 : List UInt8 := [167, 255, 224, 17, 3, 232, 172]
abbrev dktX0_lowest_2 : List UInt8 := dkwX0_lowest_2 ++ []
def dkwX0_lowest_1 : List UInt8 := [185, 0, 151, 1, 0, 192, 0, 190, 78, 45, 180, 0, 194, 43, 166, 0, 8, 45, 180, 0, 227, 172]
abbrev dktX0_lowest_1 : List UInt8 := dkwX0_lowest_1 ++ dktX0_lowest_2
def dkwX0_lowest_0 : List UInt8 := [42, 180, 0, 53, 180, 0, 103, 182, 0, 243, 77, 44, 185, 0, 145, 1, 0, 153, 0, 29, 44]
abbrev dktX0_lowest_0 : List UInt8 := dkwX0_lowest_0 ++ dktX0_lowest_1
theorem dksX0_lowest_0 : cX0_lowest.data.toList.drop 0 = dktX0_lowest_0 := by decide +kernel
theorem dksX0_lowest_1 : cX0_lowest.data.toList.drop 21 = dktX0_lowest_1 := dk_seg dksX0_lowest_0 21 rfl rfl
theorem dksX0_lowest_2 : cX0_lowest.data.toList.drop 43 = dktX0_lowest_2 := dk_seg dksX0_lowest_1 22 rfl rfl
theorem dX0_lowest_0 : decode cX0_lowest 0 = .ok (.aload_n 0, 1) := dk_42 (dk_at dksX0_lowest_0 0 rfl rfl)
theorem dX0_lowest_1 : decode cX0_lowest 1 = .ok (.getfield 53, 3) := dk_180 0 53 (dk_at dksX0_lowest_0 1 rfl rfl)
theorem dX0_lowest_4 : decode cX0_lowest 4 = .ok (.getfield 103, 3) := dk_180 0 103 (dk_at dksX0_lowest_0 4 rfl rfl)
theorem dX0_lowest_7 : decode cX0_lowest 7 = .ok (.invokevirtual 243, 3) := dk_182 0 243 (dk_at dksX0_lowest_0 7 rfl rfl)
theorem dX0_lowest_10 : decode cX0_lowest 10 = .ok (.astore_n 2, 1) := dk_77 (dk_at dksX0_lowest_0 10 rfl rfl)
theorem dX0_lowest_11 : decode cX0_lowest 11 = .ok (.aload_n 2, 1) := dk_44 (dk_at dksX0_lowest_0 11 rfl rfl)
theorem dX0_lowest_12 : decode cX0_lowest 12 = .ok (.invokeinterface 145 1, 5) := by decide +kernel
theorem dX0_lowest_17 : decode cX0_lowest 17 = .ok (.ifCond .eq 29, 3) := dk_153 0 29 (dk_at dksX0_lowest_0 17 rfl rfl)
theorem dX0_lowest_20 : decode cX0_lowest 20 = .ok (.aload_n 2, 1) := dk_44 (dk_at dksX0_lowest_0 20 rfl rfl)
theorem dX0_lowest_21 : decode cX0_lowest 21 = .ok (.invokeinterface 151 1, 5) := by decide +kernel
theorem dX0_lowest_26 : decode cX0_lowest 26 = .ok (.checkcast 190, 3) := dk_192 0 190 (dk_at dksX0_lowest_1 5 rfl rfl)
theorem dX0_lowest_29 : decode cX0_lowest 29 = .ok (.astore_n 3, 1) := dk_78 (dk_at dksX0_lowest_1 8 rfl rfl)
theorem dX0_lowest_30 : decode cX0_lowest 30 = .ok (.aload_n 3, 1) := dk_45 (dk_at dksX0_lowest_1 9 rfl rfl)
theorem dX0_lowest_31 : decode cX0_lowest 31 = .ok (.getfield 194, 3) := dk_180 0 194 (dk_at dksX0_lowest_1 10 rfl rfl)
theorem dX0_lowest_34 : decode cX0_lowest 34 = .ok (.aload_n 1, 1) := dk_43 (dk_at dksX0_lowest_1 13 rfl rfl)
theorem dX0_lowest_35 : decode cX0_lowest 35 = .ok (.if_acmp .ne 8, 3) := dk_166 0 8 (dk_at dksX0_lowest_1 14 rfl rfl)
theorem dX0_lowest_38 : decode cX0_lowest 38 = .ok (.aload_n 3, 1) := dk_45 (dk_at dksX0_lowest_1 17 rfl rfl)
theorem dX0_lowest_39 : decode cX0_lowest 39 = .ok (.getfield 227, 3) := dk_180 0 227 (dk_at dksX0_lowest_1 18 rfl rfl)
theorem dX0_lowest_42 : decode cX0_lowest 42 = .ok (.ireturn, 1) := dk_172 (dk_at dksX0_lowest_1 21 rfl rfl)
theorem dX0_lowest_43 : decode cX0_lowest 43 = .ok (.goto (-32), 3) := dk_167 255 224 (dk_at dksX0_lowest_2 0 rfl rfl)
theorem dX0_lowest_46 : decode cX0_lowest 46 = .ok (.sipush 1000, 3) := dk_17 3 232 (dk_at dksX0_lowest_2 3 rfl rfl)
theorem dX0_lowest_49 : decode cX0_lowest 49 = .ok (.ireturn, 1) := dk_172 (dk_at dksX0_lowest_2 6 rfl rfl)
def dkwX0_fits_1 : List UInt8 := [167, 0, 23, 42, 180, 0, 53, 3, 182, 0, 162, 27, 96, 16, 100, 163, 0, 7, 4, 167, 0, 4, 5, 172]
abbrev dktX0_fits_1 : List UInt8 := dkwX0_fits_1 ++ []
def dkwX0_fits_0 : List UInt8 := [27, 184, 0, 86, 154, 0, 6, 16, 254, 172, 42, 180, 0, 53, 27, 182, 0, 253, 153, 0, 7, 3]
abbrev dktX0_fits_0 : List UInt8 := dkwX0_fits_0 ++ dktX0_fits_1
theorem dksX0_fits_0 : cX0_fits.data.toList.drop 0 = dktX0_fits_0 := by decide +kernel
theorem dksX0_fits_1 : cX0_fits.data.toList.drop 22 = dktX0_fits_1 := dk_seg dksX0_fits_0 22 rfl rfl
theorem dX0_fits_0 : decode cX0_fits 0 = .ok (.iload_n 1, 1) := dk_27 (dk_at dksX0_fits_0 0 rfl rfl)
theorem dX0_fits_1 : decode cX0_fits 1 = .ok (.invokestatic 86, 3) := dk_184 0 86 (dk_at dksX0_fits_0 1 rfl rfl)
theorem dX0_fits_4 : decode cX0_fits 4 = .ok (.ifCond .ne 6, 3) := dk_154 0 6 (dk_at dksX0_fits_0 4 rfl rfl)
theorem dX0_fits_7 : decode cX0_fits 7 = .ok (.bipush (-2), 2) := dk_16 254 (dk_at dksX0_fits_0 7 rfl rfl)
theorem dX0_fits_9 : decode cX0_fits 9 = .ok (.ireturn, 1) := dk_172 (dk_at dksX0_fits_0 9 rfl rfl)
theorem dX0_fits_10 : decode cX0_fits 10 = .ok (.aload_n 0, 1) := dk_42 (dk_at dksX0_fits_0 10 rfl rfl)
theorem dX0_fits_11 : decode cX0_fits 11 = .ok (.getfield 53, 3) := dk_180 0 53 (dk_at dksX0_fits_0 11 rfl rfl)
theorem dX0_fits_14 : decode cX0_fits 14 = .ok (.iload_n 1, 1) := dk_27 (dk_at dksX0_fits_0 14 rfl rfl)
theorem dX0_fits_15 : decode cX0_fits 15 = .ok (.invokevirtual 253, 3) := dk_182 0 253 (dk_at dksX0_fits_0 15 rfl rfl)
theorem dX0_fits_18 : decode cX0_fits 18 = .ok (.ifCond .eq 7, 3) := dk_153 0 7 (dk_at dksX0_fits_0 18 rfl rfl)
theorem dX0_fits_21 : decode cX0_fits 21 = .ok (.iconst 0, 1) := dk_3 (dk_at dksX0_fits_0 21 rfl rfl)
theorem dX0_fits_22 : decode cX0_fits 22 = .ok (.goto 23, 3) := dk_167 0 23 (dk_at dksX0_fits_1 0 rfl rfl)
theorem dX0_fits_25 : decode cX0_fits 25 = .ok (.aload_n 0, 1) := dk_42 (dk_at dksX0_fits_1 3 rfl rfl)
theorem dX0_fits_26 : decode cX0_fits 26 = .ok (.getfield 53, 3) := dk_180 0 53 (dk_at dksX0_fits_1 4 rfl rfl)
theorem dX0_fits_29 : decode cX0_fits 29 = .ok (.iconst 0, 1) := dk_3 (dk_at dksX0_fits_1 7 rfl rfl)
theorem dX0_fits_30 : decode cX0_fits 30 = .ok (.invokevirtual 162, 3) := dk_182 0 162 (dk_at dksX0_fits_1 8 rfl rfl)
theorem dX0_fits_33 : decode cX0_fits 33 = .ok (.iload_n 1, 1) := dk_27 (dk_at dksX0_fits_1 11 rfl rfl)
theorem dX0_fits_34 : decode cX0_fits 34 = .ok (.iadd, 1) := dk_96 (dk_at dksX0_fits_1 12 rfl rfl)
theorem dX0_fits_35 : decode cX0_fits 35 = .ok (.bipush 100, 2) := dk_16 100 (dk_at dksX0_fits_1 13 rfl rfl)
theorem dX0_fits_37 : decode cX0_fits 37 = .ok (.if_icmp .gt 7, 3) := dk_163 0 7 (dk_at dksX0_fits_1 15 rfl rfl)
theorem dX0_fits_40 : decode cX0_fits 40 = .ok (.iconst 1, 1) := dk_4 (dk_at dksX0_fits_1 18 rfl rfl)
theorem dX0_fits_41 : decode cX0_fits 41 = .ok (.goto 4, 3) := dk_167 0 4 (dk_at dksX0_fits_1 19 rfl rfl)
theorem dX0_fits_44 : decode cX0_fits 44 = .ok (.iconst 2, 1) := dk_5 (dk_at dksX0_fits_1 22 rfl rfl)
theorem dX0_fits_45 : decode cX0_fits 45 = .ok (.ireturn, 1) := dk_172 (dk_at dksX0_fits_1 23 rfl rfl)
def dkwX0_beginning_3 : List UInt8 := [167, 255, 222, 29, 154, 0, 9, 25, 5, 180, 0, 227, 172, 132, 3, 255, 167, 255, 206, 16, 251, 172]
abbrev dktX0_beginning_3 : List UInt8 := dkwX0_beginning_3 ++ []
def dkwX0_beginning_2 : List UInt8 := [185, 0, 151, 1, 0, 192, 0, 190, 58, 5, 25, 5, 180, 0, 227, 16, 26, 108, 27, 159, 0, 6]
abbrev dktX0_beginning_2 : List UInt8 := dkwX0_beginning_2 ++ dktX0_beginning_3
def dkwX0_beginning_1 : List UInt8 := [180, 0, 103, 182, 0, 243, 58, 4, 25, 4, 185, 0, 145, 1, 0, 153, 0, 46, 25, 4]
abbrev dktX0_beginning_1 : List UInt8 := dkwX0_beginning_1 ++ dktX0_beginning_2
def dkwX0_beginning_0 : List UInt8 := [27, 3, 16, 25, 184, 0, 3, 153, 0, 7, 28, 156, 0, 6, 16, 254, 172, 28, 62, 42, 180, 0, 53]
abbrev dktX0_beginning_0 : List UInt8 := dkwX0_beginning_0 ++ dktX0_beginning_1
theorem dksX0_beginning_0 : cX0_beginning.data.toList.drop 0 = dktX0_beginning_0 := by decide +kernel
theorem dksX0_beginning_1 : cX0_beginning.data.toList.drop 23 = dktX0_beginning_1 := dk_seg dksX0_beginning_0 23 rfl rfl
theorem dksX0_beginning_2 : cX0_beginning.data.toList.drop 43 = dktX0_beginning_2 := dk_seg dksX0_beginning_1 20 rfl rfl
theorem dksX0_beginning_3 : cX0_beginning.data.toList.drop 65 = dktX0_beginning_3 := dk_seg dksX0_beginning_2 22 rfl rfl
theorem dX0_beginning_0 : decode cX0_beginning 0 = .ok (.iload_n 1, 1) := dk_27 (dk_at dksX0_beginning_0 0 rfl rfl)
theorem dX0_beginning_1 : decode cX0_beginning 1 = .ok (.iconst 0, 1) := dk_3 (dk_at dksX0_beginning_0 1 rfl rfl)
theorem dX0_beginning_2 : decode cX0_beginning 2 = .ok (.bipush 25, 2) := dk_16 25 (dk_at dksX0_beginning_0 2 rfl rfl)
theorem dX0_beginning_4 : decode cX0_beginning 4 = .ok (.invokestatic 3, 3) := dk_184 0 3 (dk_at dksX0_beginning_0 4 rfl rfl)
theorem dX0_beginning_7 : decode cX0_beginning 7 = .ok (.ifCond .eq 7, 3) := dk_153 0 7 (dk_at dksX0_beginning_0 7 rfl rfl)
theorem dX0_beginning_10 : decode cX0_beginning 10 = .ok (.iload_n 2, 1) := dk_28 (dk_at dksX0_beginning_0 10 rfl rfl)
theorem dX0_beginning_11 : decode cX0_beginning 11 = .ok (.ifCond .ge 6, 3) := dk_156 0 6 (dk_at dksX0_beginning_0 11 rfl rfl)
theorem dX0_beginning_14 : decode cX0_beginning 14 = .ok (.bipush (-2), 2) := dk_16 254 (dk_at dksX0_beginning_0 14 rfl rfl)
theorem dX0_beginning_16 : decode cX0_beginning 16 = .ok (.ireturn, 1) := dk_172 (dk_at dksX0_beginning_0 16 rfl rfl)
theorem dX0_beginning_17 : decode cX0_beginning 17 = .ok (.iload_n 2, 1) := dk_28 (dk_at dksX0_beginning_0 17 rfl rfl)
theorem dX0_beginning_18 : decode cX0_beginning 18 = .ok (.istore_n 3, 1) := dk_62 (dk_at dksX0_beginning_0 18 rfl rfl)
theorem dX0_beginning_19 : decode cX0_beginning 19 = .ok (.aload_n 0, 1) := dk_42 (dk_at dksX0_beginning_0 19 rfl rfl)
theorem dX0_beginning_20 : decode cX0_beginning 20 = .ok (.getfield 53, 3) := dk_180 0 53 (dk_at dksX0_beginning_0 20 rfl rfl)
theorem dX0_beginning_23 : decode cX0_beginning 23 = .ok (.getfield 103, 3) := dk_180 0 103 (dk_at dksX0_beginning_1 0 rfl rfl)
theorem dX0_beginning_26 : decode cX0_beginning 26 = .ok (.invokevirtual 243, 3) := dk_182 0 243 (dk_at dksX0_beginning_1 3 rfl rfl)
theorem dX0_beginning_29 : decode cX0_beginning 29 = .ok (.astore 4, 2) := dk_58 4 (dk_at dksX0_beginning_1 6 rfl rfl)
theorem dX0_beginning_31 : decode cX0_beginning 31 = .ok (.aload 4, 2) := dk_25 4 (dk_at dksX0_beginning_1 8 rfl rfl)
theorem dX0_beginning_33 : decode cX0_beginning 33 = .ok (.invokeinterface 145 1, 5) := by decide +kernel
theorem dX0_beginning_38 : decode cX0_beginning 38 = .ok (.ifCond .eq 46, 3) := dk_153 0 46 (dk_at dksX0_beginning_1 15 rfl rfl)
theorem dX0_beginning_41 : decode cX0_beginning 41 = .ok (.aload 4, 2) := dk_25 4 (dk_at dksX0_beginning_1 18 rfl rfl)
theorem dX0_beginning_43 : decode cX0_beginning 43 = .ok (.invokeinterface 151 1, 5) := by decide +kernel
theorem dX0_beginning_48 : decode cX0_beginning 48 = .ok (.checkcast 190, 3) := dk_192 0 190 (dk_at dksX0_beginning_2 5 rfl rfl)
theorem dX0_beginning_51 : decode cX0_beginning 51 = .ok (.astore 5, 2) := dk_58 5 (dk_at dksX0_beginning_2 8 rfl rfl)
theorem dX0_beginning_53 : decode cX0_beginning 53 = .ok (.aload 5, 2) := dk_25 5 (dk_at dksX0_beginning_2 10 rfl rfl)
theorem dX0_beginning_55 : decode cX0_beginning 55 = .ok (.getfield 227, 3) := dk_180 0 227 (dk_at dksX0_beginning_2 12 rfl rfl)
theorem dX0_beginning_58 : decode cX0_beginning 58 = .ok (.bipush 26, 2) := dk_16 26 (dk_at dksX0_beginning_2 15 rfl rfl)
theorem dX0_beginning_60 : decode cX0_beginning 60 = .ok (.idiv, 1) := dk_108 (dk_at dksX0_beginning_2 17 rfl rfl)
theorem dX0_beginning_61 : decode cX0_beginning 61 = .ok (.iload_n 1, 1) := dk_27 (dk_at dksX0_beginning_2 18 rfl rfl)
theorem dX0_beginning_62 : decode cX0_beginning 62 = .ok (.if_icmp .eq 6, 3) := dk_159 0 6 (dk_at dksX0_beginning_2 19 rfl rfl)
theorem dX0_beginning_65 : decode cX0_beginning 65 = .ok (.goto (-34), 3) := dk_167 255 222 (dk_at dksX0_beginning_3 0 rfl rfl)
theorem dX0_beginning_68 : decode cX0_beginning 68 = .ok (.iload_n 3, 1) := dk_29 (dk_at dksX0_beginning_3 3 rfl rfl)
theorem dX0_beginning_69 : decode cX0_beginning 69 = .ok (.ifCond .ne 9, 3) := dk_154 0 9 (dk_at dksX0_beginning_3 4 rfl rfl)
theorem dX0_beginning_72 : decode cX0_beginning 72 = .ok (.aload 5, 2) := dk_25 5 (dk_at dksX0_beginning_3 7 rfl rfl)
theorem dX0_beginning_74 : decode cX0_beginning 74 = .ok (.getfield 227, 3) := dk_180 0 227 (dk_at dksX0_beginning_3 9 rfl rfl)
theorem dX0_beginning_77 : decode cX0_beginning 77 = .ok (.ireturn, 1) := dk_172 (dk_at dksX0_beginning_3 12 rfl rfl)
theorem dX0_beginning_78 : decode cX0_beginning 78 = .ok (.iinc 3 (-1), 3) := dk_132 3 255 (dk_at dksX0_beginning_3 13 rfl rfl)
theorem dX0_beginning_81 : decode cX0_beginning 81 = .ok (.goto (-50), 3) := dk_167 255 206 (dk_at dksX0_beginning_3 16 rfl rfl)
theorem dX0_beginning_84 : decode cX0_beginning 84 = .ok (.bipush (-5), 2) := dk_16 251 (dk_at dksX0_beginning_3 19 rfl rfl)
theorem dX0_beginning_86 : decode cX0_beginning 86 = .ok (.ireturn, 1) := dk_172 (dk_at dksX0_beginning_3 21 rfl rfl)
def dkwX0_count_9 : List UInt8 := [16, 254, 172]
abbrev dktX0_count_9 : List UInt8 := dkwX0_count_9 ++ []
def dkwX0_count_8 : List UInt8 := [167, 0, 25, 42, 180, 0, 60, 182, 0, 75, 167, 0, 15, 42, 180, 0, 67, 182, 0, 172, 167, 0, 5]
abbrev dktX0_count_8 : List UInt8 := dkwX0_count_8 ++ dktX0_count_9
def dkwX0_count_7 : List UInt8 := [42, 182, 1, 11, 167, 0, 45, 42, 180, 0, 53, 180, 1, 14, 167, 0, 35, 42, 180, 0, 53, 180, 1, 17]
abbrev dktX0_count_7 : List UInt8 := dkwX0_count_7 ++ dktX0_count_8
def dkwX0_count_6 : List UInt8 := [42, 180, 0, 53, 4, 182, 0, 162, 167, 0, 65, 16, 100, 42, 180, 0, 53, 182, 1, 10, 100, 167, 0, 52]
abbrev dktX0_count_6 : List UInt8 := dkwX0_count_6 ++ dktX0_count_7
def dkwX0_count_5 : List UInt8 := [167, 0, 97, 42, 180, 0, 53, 182, 1, 10, 167, 0, 87, 42, 180, 0, 53, 3, 182, 0, 162, 167, 0, 76]
abbrev dktX0_count_5 : List UInt8 := dkwX0_count_5 ++ dktX0_count_6
def dkwX0_count_4 : List UInt8 := [42, 180, 0, 53, 180, 0, 103, 180, 0, 169, 167, 0, 110, 42, 180, 0, 53, 180, 0, 103, 182, 1, 7]
abbrev dktX0_count_4 : List UInt8 := dkwX0_count_4 ++ dktX0_count_5
def dkwX0_count_3 : List UInt8 := [3, 182, 1, 4, 100, 167, 0, 139, 42, 3, 182, 1, 4, 167, 0, 131, 42, 4, 182, 1, 4, 167, 0, 123]
abbrev dktX0_count_3 : List UInt8 := dkwX0_count_3 ++ dktX0_count_4
def dkwX0_count_2 : List UInt8 := [42, 180, 0, 53, 180, 0, 103, 182, 0, 122, 167, 0, 158, 42, 180, 0, 53, 180, 0, 103, 182, 0, 122, 42]
abbrev dktX0_count_2 : List UInt8 := dkwX0_count_2 ++ dktX0_count_3
def dkwX0_count_1 : List UInt8 := [170, 0, 0, 0, 0, 0, 241, 0, 0, 0, 0, 0, 0, 0, 14, 0, 0, 0, 75, 0, 0, 0, 88, 0, 0, 0, 107, 0, 0, 0, 115, 0, 0, 0, 123, 0, 0, 0, 136, 0, 0, 0, 149, 0, 0, 0, 159, 0, 0, 0, 170, 0, 0, 0, 181, 0, 0, 0, 194, 0, 0, 0, 201, 0, 0, 0, 211, 0, 0, 0, 221, 0, 0, 0, 231]
abbrev dktX0_count_1 : List UInt8 := dkwX0_count_1 ++ dktX0_count_2
def dkwX0_count_0 : List UInt8 := [27]
abbrev dktX0_count_0 : List UInt8 := dkwX0_count_0 ++ dktX0_count_1
theorem dksX0_count_0 : cX0_count.data.toList.drop 0 = dktX0_count_0 := by decide +kernel
theorem dksX0_count_1 : cX0_count.data.toList.drop 1 = dktX0_count_1 := dk_seg dksX0_count_0 1 rfl rfl
theorem dksX0_count_2 : cX0_count.data.toList.drop 76 = dktX0_count_2 := dk_seg dksX0_count_1 75 rfl rfl
theorem dksX0_count_3 : cX0_count.data.toList.drop 100 = dktX0_count_3 := dk_seg dksX0_count_2 24 rfl rfl
theorem dksX0_count_4 : cX0_count.data.toList.drop 124 = dktX0_count_4 := dk_seg dksX0_count_3 24 rfl rfl
theorem dksX0_count_5 : cX0_count.data.toList.drop 147 = dktX0_count_5 := dk_seg dksX0_count_4 23 rfl rfl
theorem dksX0_count_6 : cX0_count.data.toList.drop 171 = dktX0_count_6 := dk_seg dksX0_count_5 24 rfl rfl
theorem dksX0_count_7 : cX0_count.data.toList.drop 195 = dktX0_count_7 := dk_seg dksX0_count_6 24 rfl rfl
theorem dksX0_count_8 : cX0_count.data.toList.drop 219 = dktX0_count_8 := dk_seg dksX0_count_7 24 rfl rfl
theorem dksX0_count_9 : cX0_count.data.toList.drop 242 = dktX0_count_9 := dk_seg dksX0_count_8 23 rfl rfl
theorem dX0_count_0 : decode cX0_count 0 = .ok (.iload_n 1, 1) := dk_27 (dk_at dksX0_count_0 0 rfl rfl)
theorem dX0_count_1 : decode cX0_count 1 = .ok (.tableswitch 241 0 14 #[75, 88, 107, 115, 123, 136, 149, 159, 170, 181, 194, 201, 211, 221, 231], 75) := by decide +kernel
theorem dX0_count_76 : decode cX0_count 76 = .ok (.aload_n 0, 1) := dk_42 (dk_at dksX0_count_2 0 rfl rfl)
theorem dX0_count_77 : decode cX0_count 77 = .ok (.getfield 53, 3) := dk_180 0 53 (dk_at dksX0_count_2 1 rfl rfl)
theorem dX0_count_80 : decode cX0_count 80 = .ok (.getfield 103, 3) := dk_180 0 103 (dk_at dksX0_count_2 4 rfl rfl)
theorem dX0_count_83 : decode cX0_count 83 = .ok (.invokevirtual 122, 3) := dk_182 0 122 (dk_at dksX0_count_2 7 rfl rfl)
theorem dX0_count_86 : decode cX0_count 86 = .ok (.goto 158, 3) := dk_167 0 158 (dk_at dksX0_count_2 10 rfl rfl)
theorem dX0_count_89 : decode cX0_count 89 = .ok (.aload_n 0, 1) := dk_42 (dk_at dksX0_count_2 13 rfl rfl)
theorem dX0_count_90 : decode cX0_count 90 = .ok (.getfield 53, 3) := dk_180 0 53 (dk_at dksX0_count_2 14 rfl rfl)
theorem dX0_count_93 : decode cX0_count 93 = .ok (.getfield 103, 3) := dk_180 0 103 (dk_at dksX0_count_2 17 rfl rfl)
theorem dX0_count_96 : decode cX0_count 96 = .ok (.invokevirtual 122, 3) := dk_182 0 122 (dk_at dksX0_count_2 20 rfl rfl)
theorem dX0_count_99 : decode cX0_count 99 = .ok (.aload_n 0, 1) := dk_42 (dk_at dksX0_count_2 23 rfl rfl)
theorem dX0_count_100 : decode cX0_count 100 = .ok (.iconst 0, 1) := dk_3 (dk_at dksX0_count_3 0 rfl rfl)
theorem dX0_count_101 : decode cX0_count 101 = .ok (.invokevirtual 260, 3) := dk_182 1 4 (dk_at dksX0_count_3 1 rfl rfl)
theorem dX0_count_104 : decode cX0_count 104 = .ok (.isub, 1) := dk_100 (dk_at dksX0_count_3 4 rfl rfl)
theorem dX0_count_105 : decode cX0_count 105 = .ok (.goto 139, 3) := dk_167 0 139 (dk_at dksX0_count_3 5 rfl rfl)
theorem dX0_count_108 : decode cX0_count 108 = .ok (.aload_n 0, 1) := dk_42 (dk_at dksX0_count_3 8 rfl rfl)
theorem dX0_count_109 : decode cX0_count 109 = .ok (.iconst 0, 1) := dk_3 (dk_at dksX0_count_3 9 rfl rfl)
theorem dX0_count_110 : decode cX0_count 110 = .ok (.invokevirtual 260, 3) := dk_182 1 4 (dk_at dksX0_count_3 10 rfl rfl)
theorem dX0_count_113 : decode cX0_count 113 = .ok (.goto 131, 3) := dk_167 0 131 (dk_at dksX0_count_3 13 rfl rfl)
theorem dX0_count_116 : decode cX0_count 116 = .ok (.aload_n 0, 1) := dk_42 (dk_at dksX0_count_3 16 rfl rfl)
theorem dX0_count_117 : decode cX0_count 117 = .ok (.iconst 1, 1) := dk_4 (dk_at dksX0_count_3 17 rfl rfl)
theorem dX0_count_118 : decode cX0_count 118 = .ok (.invokevirtual 260, 3) := dk_182 1 4 (dk_at dksX0_count_3 18 rfl rfl)
theorem dX0_count_121 : decode cX0_count 121 = .ok (.goto 123, 3) := dk_167 0 123 (dk_at dksX0_count_3 21 rfl rfl)
theorem dX0_count_124 : decode cX0_count 124 = .ok (.aload_n 0, 1) := dk_42 (dk_at dksX0_count_4 0 rfl rfl)
theorem dX0_count_125 : decode cX0_count 125 = .ok (.getfield 53, 3) := dk_180 0 53 (dk_at dksX0_count_4 1 rfl rfl)
theorem dX0_count_128 : decode cX0_count 128 = .ok (.getfield 103, 3) := dk_180 0 103 (dk_at dksX0_count_4 4 rfl rfl)
theorem dX0_count_131 : decode cX0_count 131 = .ok (.getfield 169, 3) := dk_180 0 169 (dk_at dksX0_count_4 7 rfl rfl)
theorem dX0_count_134 : decode cX0_count 134 = .ok (.goto 110, 3) := dk_167 0 110 (dk_at dksX0_count_4 10 rfl rfl)
theorem dX0_count_137 : decode cX0_count 137 = .ok (.aload_n 0, 1) := dk_42 (dk_at dksX0_count_4 13 rfl rfl)
theorem dX0_count_138 : decode cX0_count 138 = .ok (.getfield 53, 3) := dk_180 0 53 (dk_at dksX0_count_4 14 rfl rfl)
theorem dX0_count_141 : decode cX0_count 141 = .ok (.getfield 103, 3) := dk_180 0 103 (dk_at dksX0_count_4 17 rfl rfl)
theorem dX0_count_144 : decode cX0_count 144 = .ok (.invokevirtual 263, 3) := dk_182 1 7 (dk_at dksX0_count_4 20 rfl rfl)
theorem dX0_count_147 : decode cX0_count 147 = .ok (.goto 97, 3) := dk_167 0 97 (dk_at dksX0_count_5 0 rfl rfl)
theorem dX0_count_150 : decode cX0_count 150 = .ok (.aload_n 0, 1) := dk_42 (dk_at dksX0_count_5 3 rfl rfl)
theorem dX0_count_151 : decode cX0_count 151 = .ok (.getfield 53, 3) := dk_180 0 53 (dk_at dksX0_count_5 4 rfl rfl)
theorem dX0_count_154 : decode cX0_count 154 = .ok (.invokevirtual 266, 3) := dk_182 1 10 (dk_at dksX0_count_5 7 rfl rfl)
theorem dX0_count_157 : decode cX0_count 157 = .ok (.goto 87, 3) := dk_167 0 87 (dk_at dksX0_count_5 10 rfl rfl)
theorem dX0_count_160 : decode cX0_count 160 = .ok (.aload_n 0, 1) := dk_42 (dk_at dksX0_count_5 13 rfl rfl)
theorem dX0_count_161 : decode cX0_count 161 = .ok (.getfield 53, 3) := dk_180 0 53 (dk_at dksX0_count_5 14 rfl rfl)
theorem dX0_count_164 : decode cX0_count 164 = .ok (.iconst 0, 1) := dk_3 (dk_at dksX0_count_5 17 rfl rfl)
theorem dX0_count_165 : decode cX0_count 165 = .ok (.invokevirtual 162, 3) := dk_182 0 162 (dk_at dksX0_count_5 18 rfl rfl)
theorem dX0_count_168 : decode cX0_count 168 = .ok (.goto 76, 3) := dk_167 0 76 (dk_at dksX0_count_5 21 rfl rfl)
theorem dX0_count_171 : decode cX0_count 171 = .ok (.aload_n 0, 1) := dk_42 (dk_at dksX0_count_6 0 rfl rfl)
theorem dX0_count_172 : decode cX0_count 172 = .ok (.getfield 53, 3) := dk_180 0 53 (dk_at dksX0_count_6 1 rfl rfl)
theorem dX0_count_175 : decode cX0_count 175 = .ok (.iconst 1, 1) := dk_4 (dk_at dksX0_count_6 4 rfl rfl)
theorem dX0_count_176 : decode cX0_count 176 = .ok (.invokevirtual 162, 3) := dk_182 0 162 (dk_at dksX0_count_6 5 rfl rfl)
theorem dX0_count_179 : decode cX0_count 179 = .ok (.goto 65, 3) := dk_167 0 65 (dk_at dksX0_count_6 8 rfl rfl)
theorem dX0_count_182 : decode cX0_count 182 = .ok (.bipush 100, 2) := dk_16 100 (dk_at dksX0_count_6 11 rfl rfl)
theorem dX0_count_184 : decode cX0_count 184 = .ok (.aload_n 0, 1) := dk_42 (dk_at dksX0_count_6 13 rfl rfl)
theorem dX0_count_185 : decode cX0_count 185 = .ok (.getfield 53, 3) := dk_180 0 53 (dk_at dksX0_count_6 14 rfl rfl)
theorem dX0_count_188 : decode cX0_count 188 = .ok (.invokevirtual 266, 3) := dk_182 1 10 (dk_at dksX0_count_6 17 rfl rfl)
theorem dX0_count_191 : decode cX0_count 191 = .ok (.isub, 1) := dk_100 (dk_at dksX0_count_6 20 rfl rfl)
theorem dX0_count_192 : decode cX0_count 192 = .ok (.goto 52, 3) := dk_167 0 52 (dk_at dksX0_count_6 21 rfl rfl)
theorem dX0_count_195 : decode cX0_count 195 = .ok (.aload_n 0, 1) := dk_42 (dk_at dksX0_count_7 0 rfl rfl)
theorem dX0_count_196 : decode cX0_count 196 = .ok (.invokevirtual 267, 3) := dk_182 1 11 (dk_at dksX0_count_7 1 rfl rfl)
theorem dX0_count_199 : decode cX0_count 199 = .ok (.goto 45, 3) := dk_167 0 45 (dk_at dksX0_count_7 4 rfl rfl)
theorem dX0_count_202 : decode cX0_count 202 = .ok (.aload_n 0, 1) := dk_42 (dk_at dksX0_count_7 7 rfl rfl)
theorem dX0_count_203 : decode cX0_count 203 = .ok (.getfield 53, 3) := dk_180 0 53 (dk_at dksX0_count_7 8 rfl rfl)
theorem dX0_count_206 : decode cX0_count 206 = .ok (.getfield 270, 3) := dk_180 1 14 (dk_at dksX0_count_7 11 rfl rfl)
theorem dX0_count_209 : decode cX0_count 209 = .ok (.goto 35, 3) := dk_167 0 35 (dk_at dksX0_count_7 14 rfl rfl)
theorem dX0_count_212 : decode cX0_count 212 = .ok (.aload_n 0, 1) := dk_42 (dk_at dksX0_count_7 17 rfl rfl)
theorem dX0_count_213 : decode cX0_count 213 = .ok (.getfield 53, 3) := dk_180 0 53 (dk_at dksX0_count_7 18 rfl rfl)
theorem dX0_count_216 : decode cX0_count 216 = .ok (.getfield 273, 3) := dk_180 1 17 (dk_at dksX0_count_7 21 rfl rfl)
theorem dX0_count_219 : decode cX0_count 219 = .ok (.goto 25, 3) := dk_167 0 25 (dk_at dksX0_count_8 0 rfl rfl)
theorem dX0_count_222 : decode cX0_count 222 = .ok (.aload_n 0, 1) := dk_42 (dk_at dksX0_count_8 3 rfl rfl)
theorem dX0_count_223 : decode cX0_count 223 = .ok (.getfield 60, 3) := dk_180 0 60 (dk_at dksX0_count_8 4 rfl rfl)
theorem dX0_count_226 : decode cX0_count 226 = .ok (.invokevirtual 75, 3) := dk_182 0 75 (dk_at dksX0_count_8 7 rfl rfl)
theorem dX0_count_229 : decode cX0_count 229 = .ok (.goto 15, 3) := dk_167 0 15 (dk_at dksX0_count_8 10 rfl rfl)
theorem dX0_count_232 : decode cX0_count 232 = .ok (.aload_n 0, 1) := dk_42 (dk_at dksX0_count_8 13 rfl rfl)
theorem dX0_count_233 : decode cX0_count 233 = .ok (.getfield 67, 3) := dk_180 0 67 (dk_at dksX0_count_8 14 rfl rfl)
theorem dX0_count_236 : decode cX0_count 236 = .ok (.invokevirtual 172, 3) := dk_182 0 172 (dk_at dksX0_count_8 17 rfl rfl)
theorem dX0_count_239 : decode cX0_count 239 = .ok (.goto 5, 3) := dk_167 0 5 (dk_at dksX0_count_8 20 rfl rfl)
theorem dX0_count_242 : decode cX0_count 242 = .ok (.bipush (-2), 2) := dk_16 254 (dk_at dksX0_count_9 0 rfl rfl)
theorem dX0_count_244 : decode cX0_count 244 = .ok (.ireturn, 1) := dk_172 (dk_at dksX0_count_9 2 rfl rfl)
def dkwX0_aliases_3 : List UInt8 := [167, 255, 201, 28, 172]
abbrev dktX0_aliases_3 : List UInt8 := dkwX0_aliases_3 ++ []
def dkwX0_aliases_2 : List UInt8 := [25, 4, 42, 180, 0, 53, 180, 0, 103, 182, 0, 215, 153, 0, 7, 4, 167, 0, 4, 3, 96, 61]
abbrev dktX0_aliases_2 : List UInt8 := dkwX0_aliases_2 ++ dktX0_aliases_3
def dkwX0_aliases_1 : List UInt8 := [185, 0, 151, 1, 0, 192, 0, 190, 58, 4, 28, 25, 4, 182, 0, 189, 153, 0, 26, 27, 153, 0, 18]
abbrev dktX0_aliases_1 : List UInt8 := dkwX0_aliases_1 ++ dktX0_aliases_2
def dkwX0_aliases_0 : List UInt8 := [3, 61, 42, 180, 0, 53, 180, 0, 103, 182, 0, 243, 78, 45, 185, 0, 145, 1, 0, 153, 0, 52, 45]
abbrev dktX0_aliases_0 : List UInt8 := dkwX0_aliases_0 ++ dktX0_aliases_1
theorem dksX0_aliases_0 : cX0_aliases.data.toList.drop 0 = dktX0_aliases_0 := by decide +kernel
theorem dksX0_aliases_1 : cX0_aliases.data.toList.drop 23 = dktX0_aliases_1 := dk_seg dksX0_aliases_0 23 rfl rfl
theorem dksX0_aliases_2 : cX0_aliases.data.toList.drop 46 = dktX0_aliases_2 := dk_seg dksX0_aliases_1 23 rfl rfl
theorem dksX0_aliases_3 : cX0_aliases.data.toList.drop 68 = dktX0_aliases_3 := dk_seg dksX0_aliases_2 22 rfl rfl
theorem dX0_aliases_0 : decode cX0_aliases 0 = .ok (.iconst 0, 1) := dk_3 (dk_at dksX0_aliases_0 0 rfl rfl)
theorem dX0_aliases_1 : decode cX0_aliases 1 = .ok (.istore_n 2, 1) := dk_61 (dk_at dksX0_aliases_0 1 rfl rfl)
theorem dX0_aliases_2 : decode cX0_aliases 2 = .ok (.aload_n 0, 1) := dk_42 (dk_at dksX0_aliases_0 2 rfl rfl)
theorem dX0_aliases_3 : decode cX0_aliases 3 = .ok (.getfield 53, 3) := dk_180 0 53 (dk_at dksX0_aliases_0 3 rfl rfl)
theorem dX0_aliases_6 : decode cX0_aliases 6 = .ok (.getfield 103, 3) := dk_180 0 103 (dk_at dksX0_aliases_0 6 rfl rfl)
theorem dX0_aliases_9 : decode cX0_aliases 9 = .ok (.invokevirtual 243, 3) := dk_182 0 243 (dk_at dksX0_aliases_0 9 rfl rfl)
theorem dX0_aliases_12 : decode cX0_aliases 12 = .ok (.astore_n 3, 1) := dk_78 (dk_at dksX0_aliases_0 12 rfl rfl)
theorem dX0_aliases_13 : decode cX0_aliases 13 = .ok (.aload_n 3, 1) := dk_45 (dk_at dksX0_aliases_0 13 rfl rfl)
theorem dX0_aliases_14 : decode cX0_aliases 14 = .ok (.invokeinterface 145 1, 5) := by decide +kernel
theorem dX0_aliases_19 : decode cX0_aliases 19 = .ok (.ifCond .eq 52, 3) := dk_153 0 52 (dk_at dksX0_aliases_0 19 rfl rfl)
theorem dX0_aliases_22 : decode cX0_aliases 22 = .ok (.aload_n 3, 1) := dk_45 (dk_at dksX0_aliases_0 22 rfl rfl)
theorem dX0_aliases_23 : decode cX0_aliases 23 = .ok (.invokeinterface 151 1, 5) := by decide +kernel
theorem dX0_aliases_28 : decode cX0_aliases 28 = .ok (.checkcast 190, 3) := dk_192 0 190 (dk_at dksX0_aliases_1 5 rfl rfl)
theorem dX0_aliases_31 : decode cX0_aliases 31 = .ok (.astore 4, 2) := dk_58 4 (dk_at dksX0_aliases_1 8 rfl rfl)
theorem dX0_aliases_33 : decode cX0_aliases 33 = .ok (.iload_n 2, 1) := dk_28 (dk_at dksX0_aliases_1 10 rfl rfl)
theorem dX0_aliases_34 : decode cX0_aliases 34 = .ok (.aload 4, 2) := dk_25 4 (dk_at dksX0_aliases_1 11 rfl rfl)
theorem dX0_aliases_36 : decode cX0_aliases 36 = .ok (.invokevirtual 189, 3) := dk_182 0 189 (dk_at dksX0_aliases_1 13 rfl rfl)
theorem dX0_aliases_39 : decode cX0_aliases 39 = .ok (.ifCond .eq 26, 3) := dk_153 0 26 (dk_at dksX0_aliases_1 16 rfl rfl)
theorem dX0_aliases_42 : decode cX0_aliases 42 = .ok (.iload_n 1, 1) := dk_27 (dk_at dksX0_aliases_1 19 rfl rfl)
theorem dX0_aliases_43 : decode cX0_aliases 43 = .ok (.ifCond .eq 18, 3) := dk_153 0 18 (dk_at dksX0_aliases_1 20 rfl rfl)
theorem dX0_aliases_46 : decode cX0_aliases 46 = .ok (.aload 4, 2) := dk_25 4 (dk_at dksX0_aliases_2 0 rfl rfl)
theorem dX0_aliases_48 : decode cX0_aliases 48 = .ok (.aload_n 0, 1) := dk_42 (dk_at dksX0_aliases_2 2 rfl rfl)
theorem dX0_aliases_49 : decode cX0_aliases 49 = .ok (.getfield 53, 3) := dk_180 0 53 (dk_at dksX0_aliases_2 3 rfl rfl)
theorem dX0_aliases_52 : decode cX0_aliases 52 = .ok (.getfield 103, 3) := dk_180 0 103 (dk_at dksX0_aliases_2 6 rfl rfl)
theorem dX0_aliases_55 : decode cX0_aliases 55 = .ok (.invokevirtual 215, 3) := dk_182 0 215 (dk_at dksX0_aliases_2 9 rfl rfl)
theorem dX0_aliases_58 : decode cX0_aliases 58 = .ok (.ifCond .eq 7, 3) := dk_153 0 7 (dk_at dksX0_aliases_2 12 rfl rfl)
theorem dX0_aliases_61 : decode cX0_aliases 61 = .ok (.iconst 1, 1) := dk_4 (dk_at dksX0_aliases_2 15 rfl rfl)
theorem dX0_aliases_62 : decode cX0_aliases 62 = .ok (.goto 4, 3) := dk_167 0 4 (dk_at dksX0_aliases_2 16 rfl rfl)
theorem dX0_aliases_65 : decode cX0_aliases 65 = .ok (.iconst 0, 1) := dk_3 (dk_at dksX0_aliases_2 19 rfl rfl)
theorem dX0_aliases_66 : decode cX0_aliases 66 = .ok (.iadd, 1) := dk_96 (dk_at dksX0_aliases_2 20 rfl rfl)
theorem dX0_aliases_67 : decode cX0_aliases 67 = .ok (.istore_n 2, 1) := dk_61 (dk_at dksX0_aliases_2 21 rfl rfl)
theorem dX0_aliases_68 : decode cX0_aliases 68 = .ok (.goto (-55), 3) := dk_167 255 201 (dk_at dksX0_aliases_3 0 rfl rfl)
theorem dX0_aliases_71 : decode cX0_aliases 71 = .ok (.iload_n 2, 1) := dk_28 (dk_at dksX0_aliases_3 3 rfl rfl)
theorem dX0_aliases_72 : decode cX0_aliases 72 = .ok (.ireturn, 1) := dk_172 (dk_at dksX0_aliases_3 4 rfl rfl)
def dkwX0_living_2 : List UInt8 := [167, 0, 4, 4, 96, 60, 167, 255, 218, 27, 172]
abbrev dktX0_living_2 : List UInt8 := dkwX0_living_2 ++ []
def dkwX0_living_1 : List UInt8 := [44, 185, 0, 151, 1, 0, 192, 0, 199, 78, 27, 42, 180, 0, 53, 45, 182, 1, 0, 153, 0, 7, 3]
abbrev dktX0_living_1 : List UInt8 := dkwX0_living_1 ++ dktX0_living_2
def dkwX0_living_0 : List UInt8 := [3, 60, 42, 180, 0, 53, 180, 0, 244, 185, 0, 141, 1, 0, 77, 44, 185, 0, 145, 1, 0, 153, 0, 35]
abbrev dktX0_living_0 : List UInt8 := dkwX0_living_0 ++ dktX0_living_1
theorem dksX0_living_0 : cX0_living.data.toList.drop 0 = dktX0_living_0 := by decide +kernel
theorem dksX0_living_1 : cX0_living.data.toList.drop 24 = dktX0_living_1 := dk_seg dksX0_living_0 24 rfl rfl
theorem dksX0_living_2 : cX0_living.data.toList.drop 47 = dktX0_living_2 := dk_seg dksX0_living_1 23 rfl rfl
theorem dX0_living_0 : decode cX0_living 0 = .ok (.iconst 0, 1) := dk_3 (dk_at dksX0_living_0 0 rfl rfl)
theorem dX0_living_1 : decode cX0_living 1 = .ok (.istore_n 1, 1) := dk_60 (dk_at dksX0_living_0 1 rfl rfl)
theorem dX0_living_2 : decode cX0_living 2 = .ok (.aload_n 0, 1) := dk_42 (dk_at dksX0_living_0 2 rfl rfl)
theorem dX0_living_3 : decode cX0_living 3 = .ok (.getfield 53, 3) := dk_180 0 53 (dk_at dksX0_living_0 3 rfl rfl)
theorem dX0_living_6 : decode cX0_living 6 = .ok (.getfield 244, 3) := dk_180 0 244 (dk_at dksX0_living_0 6 rfl rfl)
theorem dX0_living_9 : decode cX0_living 9 = .ok (.invokeinterface 141 1, 5) := by decide +kernel
theorem dX0_living_14 : decode cX0_living 14 = .ok (.astore_n 2, 1) := dk_77 (dk_at dksX0_living_0 14 rfl rfl)
theorem dX0_living_15 : decode cX0_living 15 = .ok (.aload_n 2, 1) := dk_44 (dk_at dksX0_living_0 15 rfl rfl)
theorem dX0_living_16 : decode cX0_living 16 = .ok (.invokeinterface 145 1, 5) := by decide +kernel
theorem dX0_living_21 : decode cX0_living 21 = .ok (.ifCond .eq 35, 3) := dk_153 0 35 (dk_at dksX0_living_0 21 rfl rfl)
theorem dX0_living_24 : decode cX0_living 24 = .ok (.aload_n 2, 1) := dk_44 (dk_at dksX0_living_1 0 rfl rfl)
theorem dX0_living_25 : decode cX0_living 25 = .ok (.invokeinterface 151 1, 5) := by decide +kernel
theorem dX0_living_30 : decode cX0_living 30 = .ok (.checkcast 199, 3) := dk_192 0 199 (dk_at dksX0_living_1 6 rfl rfl)
theorem dX0_living_33 : decode cX0_living 33 = .ok (.astore_n 3, 1) := dk_78 (dk_at dksX0_living_1 9 rfl rfl)
theorem dX0_living_34 : decode cX0_living 34 = .ok (.iload_n 1, 1) := dk_27 (dk_at dksX0_living_1 10 rfl rfl)
theorem dX0_living_35 : decode cX0_living 35 = .ok (.aload_n 0, 1) := dk_42 (dk_at dksX0_living_1 11 rfl rfl)
theorem dX0_living_36 : decode cX0_living 36 = .ok (.getfield 53, 3) := dk_180 0 53 (dk_at dksX0_living_1 12 rfl rfl)
theorem dX0_living_39 : decode cX0_living 39 = .ok (.aload_n 3, 1) := dk_45 (dk_at dksX0_living_1 15 rfl rfl)
theorem dX0_living_40 : decode cX0_living 40 = .ok (.invokevirtual 256, 3) := dk_182 1 0 (dk_at dksX0_living_1 16 rfl rfl)
theorem dX0_living_43 : decode cX0_living 43 = .ok (.ifCond .eq 7, 3) := dk_153 0 7 (dk_at dksX0_living_1 19 rfl rfl)
theorem dX0_living_46 : decode cX0_living 46 = .ok (.iconst 0, 1) := dk_3 (dk_at dksX0_living_1 22 rfl rfl)
theorem dX0_living_47 : decode cX0_living 47 = .ok (.goto 4, 3) := dk_167 0 4 (dk_at dksX0_living_2 0 rfl rfl)
theorem dX0_living_50 : decode cX0_living 50 = .ok (.iconst 1, 1) := dk_4 (dk_at dksX0_living_2 3 rfl rfl)
theorem dX0_living_51 : decode cX0_living 51 = .ok (.iadd, 1) := dk_96 (dk_at dksX0_living_2 4 rfl rfl)
theorem dX0_living_52 : decode cX0_living 52 = .ok (.istore_n 1, 1) := dk_60 (dk_at dksX0_living_2 5 rfl rfl)
theorem dX0_living_53 : decode cX0_living 53 = .ok (.goto (-38), 3) := dk_167 255 218 (dk_at dksX0_living_2 6 rfl rfl)
theorem dX0_living_56 : decode cX0_living 56 = .ok (.iload_n 1, 1) := dk_27 (dk_at dksX0_living_2 9 rfl rfl)
theorem dX0_living_57 : decode cX0_living 57 = .ok (.ireturn, 1) := dk_172 (dk_at dksX0_living_2 10 rfl rfl)
