set_option maxRecDepth 100000
theorem dJ0_init_0 : decode cJ0_init 0 = .ok (.aload_n 0, 1) := by decide +kernel
theorem dJ0_init_1 : decode cJ0_init 1 = .ok (.invokespecial 1, 3) := by decide +kernel
theorem dJ0_init_4 : decode cJ0_init 4 = .ok (.return_, 1) := by decide +kernel
def dkwJ1_init_0 : List UInt8 := [42, 183, 0, 1, 42, 3, 181, 0, 7, 177]
abbrev dktJ1_init_0 : List UInt8 := dkwJ1_init_0 ++ []
theorem dksJ1_init_0 : cJ1_init.data.toList.drop 0 = dktJ1_init_0 := by decide +kernel
theorem dJ1_init_0 : decode cJ1_init 0 = .ok (.aload_n 0, 1) := dk_42 (dk_at dksJ1_init_0 0 rfl rfl)
theorem dJ1_init_1 : decode cJ1_init 1 = .ok (.invokespecial 1, 3) := dk_183 0 1 (dk_at dksJ1_init_0 1 rfl rfl)
theorem dJ1_init_4 : decode cJ1_init 4 = .ok (.aload_n 0, 1) := dk_42 (dk_at dksJ1_init_0 4 rfl rfl)
theorem dJ1_init_5 : decode cJ1_init 5 = .ok (.iconst 0, 1) := dk_3 (dk_at dksJ1_init_0 5 rfl rfl)
theorem dJ1_init_6 : decode cJ1_init 6 = .ok (.putfield 7, 3) := dk_181 0 7 (dk_at dksJ1_init_0 6 rfl rfl)
theorem dJ1_init_9 : decode cJ1_init 9 = .ok (.return_, 1) := dk_177 (dk_at dksJ1_init_0 9 rfl rfl)
def dkwJ10_newLength_1 : List UInt8 := [184, 0, 201, 172]
abbrev dktJ10_newLength_1 : List UInt8 := dkwJ10_newLength_1 ++ []
def dkwJ10_newLength_0 : List UInt8 := [26, 27, 28, 184, 0, 194, 96, 62, 3, 29, 162, 0, 11, 29, 18, 200, 163, 0, 5, 29, 172, 26, 27]
abbrev dktJ10_newLength_0 : List UInt8 := dkwJ10_newLength_0 ++ dktJ10_newLength_1
theorem dksJ10_newLength_0 : cJ10_newLength.data.toList.drop 0 = dktJ10_newLength_0 := by decide +kernel
theorem dksJ10_newLength_1 : cJ10_newLength.data.toList.drop 23 = dktJ10_newLength_1 := dk_seg dksJ10_newLength_0 23 rfl rfl
theorem dJ10_newLength_0 : decode cJ10_newLength 0 = .ok (.iload_n 0, 1) := dk_26 (dk_at dksJ10_newLength_0 0 rfl rfl)
theorem dJ10_newLength_1 : decode cJ10_newLength 1 = .ok (.iload_n 1, 1) := dk_27 (dk_at dksJ10_newLength_0 1 rfl rfl)
theorem dJ10_newLength_2 : decode cJ10_newLength 2 = .ok (.iload_n 2, 1) := dk_28 (dk_at dksJ10_newLength_0 2 rfl rfl)
theorem dJ10_newLength_3 : decode cJ10_newLength 3 = .ok (.invokestatic 194, 3) := dk_184 0 194 (dk_at dksJ10_newLength_0 3 rfl rfl)
theorem dJ10_newLength_6 : decode cJ10_newLength 6 = .ok (.iadd, 1) := dk_96 (dk_at dksJ10_newLength_0 6 rfl rfl)
theorem dJ10_newLength_7 : decode cJ10_newLength 7 = .ok (.istore_n 3, 1) := dk_62 (dk_at dksJ10_newLength_0 7 rfl rfl)
theorem dJ10_newLength_8 : decode cJ10_newLength 8 = .ok (.iconst 0, 1) := dk_3 (dk_at dksJ10_newLength_0 8 rfl rfl)
theorem dJ10_newLength_9 : decode cJ10_newLength 9 = .ok (.iload_n 3, 1) := dk_29 (dk_at dksJ10_newLength_0 9 rfl rfl)
theorem dJ10_newLength_10 : decode cJ10_newLength 10 = .ok (.if_icmp .ge 11, 3) := dk_162 0 11 (dk_at dksJ10_newLength_0 10 rfl rfl)
theorem dJ10_newLength_13 : decode cJ10_newLength 13 = .ok (.iload_n 3, 1) := dk_29 (dk_at dksJ10_newLength_0 13 rfl rfl)
theorem dJ10_newLength_14 : decode cJ10_newLength 14 = .ok (.ldc 200, 2) := dk_18 200 (dk_at dksJ10_newLength_0 14 rfl rfl)
theorem dJ10_newLength_16 : decode cJ10_newLength 16 = .ok (.if_icmp .gt 5, 3) := dk_163 0 5 (dk_at dksJ10_newLength_0 16 rfl rfl)
theorem dJ10_newLength_19 : decode cJ10_newLength 19 = .ok (.iload_n 3, 1) := dk_29 (dk_at dksJ10_newLength_0 19 rfl rfl)
theorem dJ10_newLength_20 : decode cJ10_newLength 20 = .ok (.ireturn, 1) := dk_172 (dk_at dksJ10_newLength_0 20 rfl rfl)
theorem dJ10_newLength_21 : decode cJ10_newLength 21 = .ok (.iload_n 0, 1) := dk_26 (dk_at dksJ10_newLength_0 21 rfl rfl)
theorem dJ10_newLength_22 : decode cJ10_newLength 22 = .ok (.iload_n 1, 1) := dk_27 (dk_at dksJ10_newLength_0 22 rfl rfl)
theorem dJ10_newLength_23 : decode cJ10_newLength 23 = .ok (.invokestatic 201, 3) := dk_184 0 201 (dk_at dksJ10_newLength_1 0 rfl rfl)
theorem dJ10_newLength_26 : decode cJ10_newLength 26 = .ok (.ireturn, 1) := dk_172 (dk_at dksJ10_newLength_1 3 rfl rfl)
def dkwJ10_hugeLength_2 : List UInt8 := [191, 28, 18, 200, 163, 0, 6, 18, 200, 172, 28, 172]
abbrev dktJ10_hugeLength_2 : List UInt8 := dkwJ10_hugeLength_2 ++ []
def dkwJ10_hugeLength_1 : List UInt8 := [26, 182, 0, 98, 18, 208, 182, 0, 94, 27, 182, 0, 98, 18, 210, 182, 0, 94, 182, 0, 101, 183, 0, 212]
abbrev dktJ10_hugeLength_1 : List UInt8 := dkwJ10_hugeLength_1 ++ dktJ10_hugeLength_2
def dkwJ10_hugeLength_0 : List UInt8 := [26, 27, 96, 61, 28, 156, 0, 44, 187, 0, 204, 89, 187, 0, 89, 89, 183, 0, 91, 18, 206, 182, 0, 94]
abbrev dktJ10_hugeLength_0 : List UInt8 := dkwJ10_hugeLength_0 ++ dktJ10_hugeLength_1
theorem dksJ10_hugeLength_0 : cJ10_hugeLength.data.toList.drop 0 = dktJ10_hugeLength_0 := by decide +kernel
theorem dksJ10_hugeLength_1 : cJ10_hugeLength.data.toList.drop 24 = dktJ10_hugeLength_1 := dk_seg dksJ10_hugeLength_0 24 rfl rfl
theorem dksJ10_hugeLength_2 : cJ10_hugeLength.data.toList.drop 48 = dktJ10_hugeLength_2 := dk_seg dksJ10_hugeLength_1 24 rfl rfl
theorem dJ10_hugeLength_0 : decode cJ10_hugeLength 0 = .ok (.iload_n 0, 1) := dk_26 (dk_at dksJ10_hugeLength_0 0 rfl rfl)
theorem dJ10_hugeLength_1 : decode cJ10_hugeLength 1 = .ok (.iload_n 1, 1) := dk_27 (dk_at dksJ10_hugeLength_0 1 rfl rfl)
theorem dJ10_hugeLength_2 : decode cJ10_hugeLength 2 = .ok (.iadd, 1) := dk_96 (dk_at dksJ10_hugeLength_0 2 rfl rfl)
theorem dJ10_hugeLength_3 : decode cJ10_hugeLength 3 = .ok (.istore_n 2, 1) := dk_61 (dk_at dksJ10_hugeLength_0 3 rfl rfl)
theorem dJ10_hugeLength_4 : decode cJ10_hugeLength 4 = .ok (.iload_n 2, 1) := dk_28 (dk_at dksJ10_hugeLength_0 4 rfl rfl)
theorem dJ10_hugeLength_5 : decode cJ10_hugeLength 5 = .ok (.ifCond .ge 44, 3) := dk_156 0 44 (dk_at dksJ10_hugeLength_0 5 rfl rfl)
theorem dJ10_hugeLength_8 : decode cJ10_hugeLength 8 = .ok (.new 204, 3) := dk_187 0 204 (dk_at dksJ10_hugeLength_0 8 rfl rfl)
theorem dJ10_hugeLength_11 : decode cJ10_hugeLength 11 = .ok (.dup, 1) := dk_89 (dk_at dksJ10_hugeLength_0 11 rfl rfl)
theorem dJ10_hugeLength_12 : decode cJ10_hugeLength 12 = .ok (.new 89, 3) := dk_187 0 89 (dk_at dksJ10_hugeLength_0 12 rfl rfl)
theorem dJ10_hugeLength_15 : decode cJ10_hugeLength 15 = .ok (.dup, 1) := dk_89 (dk_at dksJ10_hugeLength_0 15 rfl rfl)
theorem dJ10_hugeLength_16 : decode cJ10_hugeLength 16 = .ok (.invokespecial 91, 3) := dk_183 0 91 (dk_at dksJ10_hugeLength_0 16 rfl rfl)
theorem dJ10_hugeLength_19 : decode cJ10_hugeLength 19 = .ok (.ldc 206, 2) := dk_18 206 (dk_at dksJ10_hugeLength_0 19 rfl rfl)
theorem dJ10_hugeLength_21 : decode cJ10_hugeLength 21 = .ok (.invokevirtual 94, 3) := dk_182 0 94 (dk_at dksJ10_hugeLength_0 21 rfl rfl)
theorem dJ10_hugeLength_24 : decode cJ10_hugeLength 24 = .ok (.iload_n 0, 1) := dk_26 (dk_at dksJ10_hugeLength_1 0 rfl rfl)
theorem dJ10_hugeLength_25 : decode cJ10_hugeLength 25 = .ok (.invokevirtual 98, 3) := dk_182 0 98 (dk_at dksJ10_hugeLength_1 1 rfl rfl)
theorem dJ10_hugeLength_28 : decode cJ10_hugeLength 28 = .ok (.ldc 208, 2) := dk_18 208 (dk_at dksJ10_hugeLength_1 4 rfl rfl)
theorem dJ10_hugeLength_30 : decode cJ10_hugeLength 30 = .ok (.invokevirtual 94, 3) := dk_182 0 94 (dk_at dksJ10_hugeLength_1 6 rfl rfl)
theorem dJ10_hugeLength_33 : decode cJ10_hugeLength 33 = .ok (.iload_n 1, 1) := dk_27 (dk_at dksJ10_hugeLength_1 9 rfl rfl)
theorem dJ10_hugeLength_34 : decode cJ10_hugeLength 34 = .ok (.invokevirtual 98, 3) := dk_182 0 98 (dk_at dksJ10_hugeLength_1 10 rfl rfl)
theorem dJ10_hugeLength_37 : decode cJ10_hugeLength 37 = .ok (.ldc 210, 2) := dk_18 210 (dk_at dksJ10_hugeLength_1 13 rfl rfl)
theorem dJ10_hugeLength_39 : decode cJ10_hugeLength 39 = .ok (.invokevirtual 94, 3) := dk_182 0 94 (dk_at dksJ10_hugeLength_1 15 rfl rfl)
theorem dJ10_hugeLength_42 : decode cJ10_hugeLength 42 = .ok (.invokevirtual 101, 3) := dk_182 0 101 (dk_at dksJ10_hugeLength_1 18 rfl rfl)
theorem dJ10_hugeLength_45 : decode cJ10_hugeLength 45 = .ok (.invokespecial 212, 3) := dk_183 0 212 (dk_at dksJ10_hugeLength_1 21 rfl rfl)
theorem dJ10_hugeLength_48 : decode cJ10_hugeLength 48 = .ok (.athrow, 1) := dk_191 (dk_at dksJ10_hugeLength_2 0 rfl rfl)
theorem dJ10_hugeLength_49 : decode cJ10_hugeLength 49 = .ok (.iload_n 2, 1) := dk_28 (dk_at dksJ10_hugeLength_2 1 rfl rfl)
theorem dJ10_hugeLength_50 : decode cJ10_hugeLength 50 = .ok (.ldc 200, 2) := dk_18 200 (dk_at dksJ10_hugeLength_2 2 rfl rfl)
theorem dJ10_hugeLength_52 : decode cJ10_hugeLength 52 = .ok (.if_icmp .gt 6, 3) := dk_163 0 6 (dk_at dksJ10_hugeLength_2 4 rfl rfl)
theorem dJ10_hugeLength_55 : decode cJ10_hugeLength 55 = .ok (.ldc 200, 2) := dk_18 200 (dk_at dksJ10_hugeLength_2 7 rfl rfl)
theorem dJ10_hugeLength_57 : decode cJ10_hugeLength 57 = .ok (.ireturn, 1) := dk_172 (dk_at dksJ10_hugeLength_2 9 rfl rfl)
theorem dJ10_hugeLength_58 : decode cJ10_hugeLength 58 = .ok (.iload_n 2, 1) := dk_28 (dk_at dksJ10_hugeLength_2 10 rfl rfl)
theorem dJ10_hugeLength_59 : decode cJ10_hugeLength 59 = .ok (.ireturn, 1) := dk_172 (dk_at dksJ10_hugeLength_2 11 rfl rfl)
def dkwJ11_max_0 : List UInt8 := [26, 27, 161, 0, 7, 26, 167, 0, 4, 27, 172]
abbrev dktJ11_max_0 : List UInt8 := dkwJ11_max_0 ++ []
theorem dksJ11_max_0 : cJ11_max.data.toList.drop 0 = dktJ11_max_0 := by decide +kernel
theorem dJ11_max_0 : decode cJ11_max 0 = .ok (.iload_n 0, 1) := dk_26 (dk_at dksJ11_max_0 0 rfl rfl)
theorem dJ11_max_1 : decode cJ11_max 1 = .ok (.iload_n 1, 1) := dk_27 (dk_at dksJ11_max_0 1 rfl rfl)
theorem dJ11_max_2 : decode cJ11_max 2 = .ok (.if_icmp .lt 7, 3) := dk_161 0 7 (dk_at dksJ11_max_0 2 rfl rfl)
theorem dJ11_max_5 : decode cJ11_max 5 = .ok (.iload_n 0, 1) := dk_26 (dk_at dksJ11_max_0 5 rfl rfl)
theorem dJ11_max_6 : decode cJ11_max 6 = .ok (.goto 4, 3) := dk_167 0 4 (dk_at dksJ11_max_0 6 rfl rfl)
theorem dJ11_max_9 : decode cJ11_max 9 = .ok (.iload_n 1, 1) := dk_27 (dk_at dksJ11_max_0 9 rfl rfl)
theorem dJ11_max_10 : decode cJ11_max 10 = .ok (.ireturn, 1) := dk_172 (dk_at dksJ11_max_0 10 rfl rfl)
def dkwJ11_min_0 : List UInt8 := [26, 27, 163, 0, 7, 26, 167, 0, 4, 27, 172]
abbrev dktJ11_min_0 : List UInt8 := dkwJ11_min_0 ++ []
theorem dksJ11_min_0 : cJ11_min.data.toList.drop 0 = dktJ11_min_0 := by decide +kernel
theorem dJ11_min_0 : decode cJ11_min 0 = .ok (.iload_n 0, 1) := dk_26 (dk_at dksJ11_min_0 0 rfl rfl)
theorem dJ11_min_1 : decode cJ11_min 1 = .ok (.iload_n 1, 1) := dk_27 (dk_at dksJ11_min_0 1 rfl rfl)
theorem dJ11_min_2 : decode cJ11_min 2 = .ok (.if_icmp .gt 7, 3) := dk_163 0 7 (dk_at dksJ11_min_0 2 rfl rfl)
theorem dJ11_min_5 : decode cJ11_min 5 = .ok (.iload_n 0, 1) := dk_26 (dk_at dksJ11_min_0 5 rfl rfl)
theorem dJ11_min_6 : decode cJ11_min 6 = .ok (.goto 4, 3) := dk_167 0 4 (dk_at dksJ11_min_0 6 rfl rfl)
theorem dJ11_min_9 : decode cJ11_min 9 = .ok (.iload_n 1, 1) := dk_27 (dk_at dksJ11_min_0 9 rfl rfl)
theorem dJ11_min_10 : decode cJ11_min 10 = .ok (.ireturn, 1) := dk_172 (dk_at dksJ11_min_0 10 rfl rfl)
def dkwJ12_copyOf_0 : List UInt8 := [42, 27, 42, 182, 0, 86, 184, 1, 44, 176]
abbrev dktJ12_copyOf_0 : List UInt8 := dkwJ12_copyOf_0 ++ []
theorem dksJ12_copyOf_0 : cJ12_copyOf.data.toList.drop 0 = dktJ12_copyOf_0 := by decide +kernel
theorem dJ12_copyOf_0 : decode cJ12_copyOf 0 = .ok (.aload_n 0, 1) := dk_42 (dk_at dksJ12_copyOf_0 0 rfl rfl)
theorem dJ12_copyOf_1 : decode cJ12_copyOf 1 = .ok (.iload_n 1, 1) := dk_27 (dk_at dksJ12_copyOf_0 1 rfl rfl)
theorem dJ12_copyOf_2 : decode cJ12_copyOf 2 = .ok (.aload_n 0, 1) := dk_42 (dk_at dksJ12_copyOf_0 2 rfl rfl)
theorem dJ12_copyOf_3 : decode cJ12_copyOf 3 = .ok (.invokevirtual 86, 3) := dk_182 0 86 (dk_at dksJ12_copyOf_0 3 rfl rfl)
theorem dJ12_copyOf_6 : decode cJ12_copyOf 6 = .ok (.invokestatic 300, 3) := dk_184 1 44 (dk_at dksJ12_copyOf_0 6 rfl rfl)
theorem dJ12_copyOf_9 : decode cJ12_copyOf 9 = .ok (.areturn, 1) := dk_176 (dk_at dksJ12_copyOf_0 9 rfl rfl)
def dkwJ12_copyOf_2_1 : List UInt8 := [78, 42, 3, 45, 3, 42, 190, 27, 184, 1, 48, 184, 0, 150, 45, 176]
abbrev dktJ12_copyOf_2_1 : List UInt8 := dkwJ12_copyOf_2_1 ++ []
def dkwJ12_copyOf_2_0 : List UInt8 := [44, 18, 110, 166, 0, 10, 27, 189, 0, 2, 167, 0, 14, 44, 182, 0, 90, 27, 184, 0, 95, 192, 0, 110]
abbrev dktJ12_copyOf_2_0 : List UInt8 := dkwJ12_copyOf_2_0 ++ dktJ12_copyOf_2_1
theorem dksJ12_copyOf_2_0 : cJ12_copyOf_2.data.toList.drop 0 = dktJ12_copyOf_2_0 := by decide +kernel
theorem dksJ12_copyOf_2_1 : cJ12_copyOf_2.data.toList.drop 24 = dktJ12_copyOf_2_1 := dk_seg dksJ12_copyOf_2_0 24 rfl rfl
theorem dJ12_copyOf_2_0 : decode cJ12_copyOf_2 0 = .ok (.aload_n 2, 1) := dk_44 (dk_at dksJ12_copyOf_2_0 0 rfl rfl)
theorem dJ12_copyOf_2_1 : decode cJ12_copyOf_2 1 = .ok (.ldc 110, 2) := dk_18 110 (dk_at dksJ12_copyOf_2_0 1 rfl rfl)
theorem dJ12_copyOf_2_3 : decode cJ12_copyOf_2 3 = .ok (.if_acmp .ne 10, 3) := dk_166 0 10 (dk_at dksJ12_copyOf_2_0 3 rfl rfl)
theorem dJ12_copyOf_2_6 : decode cJ12_copyOf_2 6 = .ok (.iload_n 1, 1) := dk_27 (dk_at dksJ12_copyOf_2_0 6 rfl rfl)
theorem dJ12_copyOf_2_7 : decode cJ12_copyOf_2 7 = .ok (.anewarray 2, 3) := dk_189 0 2 (dk_at dksJ12_copyOf_2_0 7 rfl rfl)
theorem dJ12_copyOf_2_10 : decode cJ12_copyOf_2 10 = .ok (.goto 14, 3) := dk_167 0 14 (dk_at dksJ12_copyOf_2_0 10 rfl rfl)
theorem dJ12_copyOf_2_13 : decode cJ12_copyOf_2 13 = .ok (.aload_n 2, 1) := dk_44 (dk_at dksJ12_copyOf_2_0 13 rfl rfl)
theorem dJ12_copyOf_2_14 : decode cJ12_copyOf_2 14 = .ok (.invokevirtual 90, 3) := dk_182 0 90 (dk_at dksJ12_copyOf_2_0 14 rfl rfl)
theorem dJ12_copyOf_2_17 : decode cJ12_copyOf_2 17 = .ok (.iload_n 1, 1) := dk_27 (dk_at dksJ12_copyOf_2_0 17 rfl rfl)
theorem dJ12_copyOf_2_18 : decode cJ12_copyOf_2 18 = .ok (.invokestatic 95, 3) := dk_184 0 95 (dk_at dksJ12_copyOf_2_0 18 rfl rfl)
theorem dJ12_copyOf_2_21 : decode cJ12_copyOf_2 21 = .ok (.checkcast 110, 3) := dk_192 0 110 (dk_at dksJ12_copyOf_2_0 21 rfl rfl)
theorem dJ12_copyOf_2_24 : decode cJ12_copyOf_2 24 = .ok (.astore_n 3, 1) := dk_78 (dk_at dksJ12_copyOf_2_1 0 rfl rfl)
theorem dJ12_copyOf_2_25 : decode cJ12_copyOf_2 25 = .ok (.aload_n 0, 1) := dk_42 (dk_at dksJ12_copyOf_2_1 1 rfl rfl)
theorem dJ12_copyOf_2_26 : decode cJ12_copyOf_2 26 = .ok (.iconst 0, 1) := dk_3 (dk_at dksJ12_copyOf_2_1 2 rfl rfl)
theorem dJ12_copyOf_2_27 : decode cJ12_copyOf_2 27 = .ok (.aload_n 3, 1) := dk_45 (dk_at dksJ12_copyOf_2_1 3 rfl rfl)
theorem dJ12_copyOf_2_28 : decode cJ12_copyOf_2 28 = .ok (.iconst 0, 1) := dk_3 (dk_at dksJ12_copyOf_2_1 4 rfl rfl)
theorem dJ12_copyOf_2_29 : decode cJ12_copyOf_2 29 = .ok (.aload_n 0, 1) := dk_42 (dk_at dksJ12_copyOf_2_1 5 rfl rfl)
theorem dJ12_copyOf_2_30 : decode cJ12_copyOf_2 30 = .ok (.arraylength, 1) := dk_190 (dk_at dksJ12_copyOf_2_1 6 rfl rfl)
theorem dJ12_copyOf_2_31 : decode cJ12_copyOf_2 31 = .ok (.iload_n 1, 1) := dk_27 (dk_at dksJ12_copyOf_2_1 7 rfl rfl)
theorem dJ12_copyOf_2_32 : decode cJ12_copyOf_2 32 = .ok (.invokestatic 304, 3) := dk_184 1 48 (dk_at dksJ12_copyOf_2_1 8 rfl rfl)
theorem dJ12_copyOf_2_35 : decode cJ12_copyOf_2 35 = .ok (.invokestatic 150, 3) := dk_184 0 150 (dk_at dksJ12_copyOf_2_1 11 rfl rfl)
theorem dJ12_copyOf_2_38 : decode cJ12_copyOf_2 38 = .ok (.aload_n 3, 1) := dk_45 (dk_at dksJ12_copyOf_2_1 14 rfl rfl)
theorem dJ12_copyOf_2_39 : decode cJ12_copyOf_2 39 = .ok (.areturn, 1) := dk_176 (dk_at dksJ12_copyOf_2_1 15 rfl rfl)
def dkwJ12_copyOf_3_1 : List UInt8 := [27, 184, 1, 48, 184, 0, 150, 44, 176]
abbrev dktJ12_copyOf_3_1 : List UInt8 := dkwJ12_copyOf_3_1 ++ []
def dkwJ12_copyOf_3_0 : List UInt8 := [27, 42, 190, 160, 0, 11, 42, 182, 1, 54, 192, 1, 55, 176, 27, 188, 8, 77, 42, 3, 44, 3, 42, 190]
abbrev dktJ12_copyOf_3_0 : List UInt8 := dkwJ12_copyOf_3_0 ++ dktJ12_copyOf_3_1
theorem dksJ12_copyOf_3_0 : cJ12_copyOf_3.data.toList.drop 0 = dktJ12_copyOf_3_0 := by decide +kernel
theorem dksJ12_copyOf_3_1 : cJ12_copyOf_3.data.toList.drop 24 = dktJ12_copyOf_3_1 := dk_seg dksJ12_copyOf_3_0 24 rfl rfl
theorem dJ12_copyOf_3_0 : decode cJ12_copyOf_3 0 = .ok (.iload_n 1, 1) := dk_27 (dk_at dksJ12_copyOf_3_0 0 rfl rfl)
theorem dJ12_copyOf_3_1 : decode cJ12_copyOf_3 1 = .ok (.aload_n 0, 1) := dk_42 (dk_at dksJ12_copyOf_3_0 1 rfl rfl)
theorem dJ12_copyOf_3_2 : decode cJ12_copyOf_3 2 = .ok (.arraylength, 1) := dk_190 (dk_at dksJ12_copyOf_3_0 2 rfl rfl)
theorem dJ12_copyOf_3_3 : decode cJ12_copyOf_3 3 = .ok (.if_icmp .ne 11, 3) := dk_160 0 11 (dk_at dksJ12_copyOf_3_0 3 rfl rfl)
theorem dJ12_copyOf_3_6 : decode cJ12_copyOf_3 6 = .ok (.aload_n 0, 1) := dk_42 (dk_at dksJ12_copyOf_3_0 6 rfl rfl)
theorem dJ12_copyOf_3_7 : decode cJ12_copyOf_3 7 = .ok (.invokevirtual 310, 3) := dk_182 1 54 (dk_at dksJ12_copyOf_3_0 7 rfl rfl)
theorem dJ12_copyOf_3_10 : decode cJ12_copyOf_3 10 = .ok (.checkcast 311, 3) := dk_192 1 55 (dk_at dksJ12_copyOf_3_0 10 rfl rfl)
theorem dJ12_copyOf_3_13 : decode cJ12_copyOf_3 13 = .ok (.areturn, 1) := dk_176 (dk_at dksJ12_copyOf_3_0 13 rfl rfl)
theorem dJ12_copyOf_3_14 : decode cJ12_copyOf_3 14 = .ok (.iload_n 1, 1) := dk_27 (dk_at dksJ12_copyOf_3_0 14 rfl rfl)
theorem dJ12_copyOf_3_15 : decode cJ12_copyOf_3 15 = .ok (.newarray .byte, 2) := dk_188_8 (dk_at dksJ12_copyOf_3_0 15 rfl rfl)
theorem dJ12_copyOf_3_17 : decode cJ12_copyOf_3 17 = .ok (.astore_n 2, 1) := dk_77 (dk_at dksJ12_copyOf_3_0 17 rfl rfl)
theorem dJ12_copyOf_3_18 : decode cJ12_copyOf_3 18 = .ok (.aload_n 0, 1) := dk_42 (dk_at dksJ12_copyOf_3_0 18 rfl rfl)
theorem dJ12_copyOf_3_19 : decode cJ12_copyOf_3 19 = .ok (.iconst 0, 1) := dk_3 (dk_at dksJ12_copyOf_3_0 19 rfl rfl)
theorem dJ12_copyOf_3_20 : decode cJ12_copyOf_3 20 = .ok (.aload_n 2, 1) := dk_44 (dk_at dksJ12_copyOf_3_0 20 rfl rfl)
theorem dJ12_copyOf_3_21 : decode cJ12_copyOf_3 21 = .ok (.iconst 0, 1) := dk_3 (dk_at dksJ12_copyOf_3_0 21 rfl rfl)
theorem dJ12_copyOf_3_22 : decode cJ12_copyOf_3 22 = .ok (.aload_n 0, 1) := dk_42 (dk_at dksJ12_copyOf_3_0 22 rfl rfl)
theorem dJ12_copyOf_3_23 : decode cJ12_copyOf_3 23 = .ok (.arraylength, 1) := dk_190 (dk_at dksJ12_copyOf_3_0 23 rfl rfl)
theorem dJ12_copyOf_3_24 : decode cJ12_copyOf_3 24 = .ok (.iload_n 1, 1) := dk_27 (dk_at dksJ12_copyOf_3_1 0 rfl rfl)
theorem dJ12_copyOf_3_25 : decode cJ12_copyOf_3 25 = .ok (.invokestatic 304, 3) := dk_184 1 48 (dk_at dksJ12_copyOf_3_1 1 rfl rfl)
theorem dJ12_copyOf_3_28 : decode cJ12_copyOf_3 28 = .ok (.invokestatic 150, 3) := dk_184 0 150 (dk_at dksJ12_copyOf_3_1 4 rfl rfl)
theorem dJ12_copyOf_3_31 : decode cJ12_copyOf_3 31 = .ok (.aload_n 2, 1) := dk_44 (dk_at dksJ12_copyOf_3_1 7 rfl rfl)
theorem dJ12_copyOf_3_32 : decode cJ12_copyOf_3 32 = .ok (.areturn, 1) := dk_176 (dk_at dksJ12_copyOf_3_1 8 rfl rfl)
def dkwJ12_fill_1 : List UInt8 := [167, 255, 242, 177]
abbrev dktJ12_fill_1 : List UInt8 := dkwJ12_fill_1 ++ []
def dkwJ12_fill_0 : List UInt8 := [42, 190, 27, 28, 184, 0, 13, 27, 54, 4, 21, 4, 28, 162, 0, 14, 42, 21, 4, 29, 84, 132, 4, 1]
abbrev dktJ12_fill_0 : List UInt8 := dkwJ12_fill_0 ++ dktJ12_fill_1
theorem dksJ12_fill_0 : cJ12_fill.data.toList.drop 0 = dktJ12_fill_0 := by decide +kernel
theorem dksJ12_fill_1 : cJ12_fill.data.toList.drop 24 = dktJ12_fill_1 := dk_seg dksJ12_fill_0 24 rfl rfl
theorem dJ12_fill_0 : decode cJ12_fill 0 = .ok (.aload_n 0, 1) := dk_42 (dk_at dksJ12_fill_0 0 rfl rfl)
theorem dJ12_fill_1 : decode cJ12_fill 1 = .ok (.arraylength, 1) := dk_190 (dk_at dksJ12_fill_0 1 rfl rfl)
theorem dJ12_fill_2 : decode cJ12_fill 2 = .ok (.iload_n 1, 1) := dk_27 (dk_at dksJ12_fill_0 2 rfl rfl)
theorem dJ12_fill_3 : decode cJ12_fill 3 = .ok (.iload_n 2, 1) := dk_28 (dk_at dksJ12_fill_0 3 rfl rfl)
theorem dJ12_fill_4 : decode cJ12_fill 4 = .ok (.invokestatic 13, 3) := dk_184 0 13 (dk_at dksJ12_fill_0 4 rfl rfl)
theorem dJ12_fill_7 : decode cJ12_fill 7 = .ok (.iload_n 1, 1) := dk_27 (dk_at dksJ12_fill_0 7 rfl rfl)
theorem dJ12_fill_8 : decode cJ12_fill 8 = .ok (.istore 4, 2) := dk_54 4 (dk_at dksJ12_fill_0 8 rfl rfl)
theorem dJ12_fill_10 : decode cJ12_fill 10 = .ok (.iload 4, 2) := dk_21 4 (dk_at dksJ12_fill_0 10 rfl rfl)
theorem dJ12_fill_12 : decode cJ12_fill 12 = .ok (.iload_n 2, 1) := dk_28 (dk_at dksJ12_fill_0 12 rfl rfl)
theorem dJ12_fill_13 : decode cJ12_fill 13 = .ok (.if_icmp .ge 14, 3) := dk_162 0 14 (dk_at dksJ12_fill_0 13 rfl rfl)
theorem dJ12_fill_16 : decode cJ12_fill 16 = .ok (.aload_n 0, 1) := dk_42 (dk_at dksJ12_fill_0 16 rfl rfl)
theorem dJ12_fill_17 : decode cJ12_fill 17 = .ok (.iload 4, 2) := dk_21 4 (dk_at dksJ12_fill_0 17 rfl rfl)
theorem dJ12_fill_19 : decode cJ12_fill 19 = .ok (.iload_n 3, 1) := dk_29 (dk_at dksJ12_fill_0 19 rfl rfl)
theorem dJ12_fill_20 : decode cJ12_fill 20 = .ok (.bastore, 1) := dk_84 (dk_at dksJ12_fill_0 20 rfl rfl)
theorem dJ12_fill_21 : decode cJ12_fill 21 = .ok (.iinc 4 1, 3) := dk_132 4 1 (dk_at dksJ12_fill_0 21 rfl rfl)
theorem dJ12_fill_24 : decode cJ12_fill 24 = .ok (.goto (-14), 3) := dk_167 255 242 (dk_at dksJ12_fill_1 0 rfl rfl)
theorem dJ12_fill_27 : decode cJ12_fill 27 = .ok (.return_, 1) := dk_177 (dk_at dksJ12_fill_1 3 rfl rfl)
def dkwJ12_rangeCheck_3 : List UInt8 := [183, 0, 70, 191, 177]
abbrev dktJ12_rangeCheck_3 : List UInt8 := dkwJ12_rangeCheck_3 ++ []
def dkwJ12_rangeCheck_2 : List UInt8 := [27, 156, 0, 12, 187, 0, 68, 89, 27, 183, 0, 70, 191, 28, 26, 164, 0, 12, 187, 0, 68, 89, 28]
abbrev dktJ12_rangeCheck_2 : List UInt8 := dkwJ12_rangeCheck_2 ++ dktJ12_rangeCheck_3
def dkwJ12_rangeCheck_1 : List UInt8 := [182, 0, 54, 18, 57, 182, 0, 50, 28, 182, 0, 54, 18, 59, 182, 0, 50, 182, 0, 61, 183, 0, 65, 191]
abbrev dktJ12_rangeCheck_1 : List UInt8 := dkwJ12_rangeCheck_1 ++ dktJ12_rangeCheck_2
def dkwJ12_rangeCheck_0 : List UInt8 := [27, 28, 164, 0, 44, 187, 0, 43, 89, 187, 0, 45, 89, 183, 0, 47, 18, 48, 182, 0, 50, 27]
abbrev dktJ12_rangeCheck_0 : List UInt8 := dkwJ12_rangeCheck_0 ++ dktJ12_rangeCheck_1
theorem dksJ12_rangeCheck_0 : cJ12_rangeCheck.data.toList.drop 0 = dktJ12_rangeCheck_0 := by decide +kernel
theorem dksJ12_rangeCheck_1 : cJ12_rangeCheck.data.toList.drop 22 = dktJ12_rangeCheck_1 := dk_seg dksJ12_rangeCheck_0 22 rfl rfl
theorem dksJ12_rangeCheck_2 : cJ12_rangeCheck.data.toList.drop 46 = dktJ12_rangeCheck_2 := dk_seg dksJ12_rangeCheck_1 24 rfl rfl
theorem dksJ12_rangeCheck_3 : cJ12_rangeCheck.data.toList.drop 69 = dktJ12_rangeCheck_3 := dk_seg dksJ12_rangeCheck_2 23 rfl rfl
theorem dJ12_rangeCheck_0 : decode cJ12_rangeCheck 0 = .ok (.iload_n 1, 1) := dk_27 (dk_at dksJ12_rangeCheck_0 0 rfl rfl)
theorem dJ12_rangeCheck_1 : decode cJ12_rangeCheck 1 = .ok (.iload_n 2, 1) := dk_28 (dk_at dksJ12_rangeCheck_0 1 rfl rfl)
theorem dJ12_rangeCheck_2 : decode cJ12_rangeCheck 2 = .ok (.if_icmp .le 44, 3) := dk_164 0 44 (dk_at dksJ12_rangeCheck_0 2 rfl rfl)
theorem dJ12_rangeCheck_5 : decode cJ12_rangeCheck 5 = .ok (.new 43, 3) := dk_187 0 43 (dk_at dksJ12_rangeCheck_0 5 rfl rfl)
theorem dJ12_rangeCheck_8 : decode cJ12_rangeCheck 8 = .ok (.dup, 1) := dk_89 (dk_at dksJ12_rangeCheck_0 8 rfl rfl)
theorem dJ12_rangeCheck_9 : decode cJ12_rangeCheck 9 = .ok (.new 45, 3) := dk_187 0 45 (dk_at dksJ12_rangeCheck_0 9 rfl rfl)
theorem dJ12_rangeCheck_12 : decode cJ12_rangeCheck 12 = .ok (.dup, 1) := dk_89 (dk_at dksJ12_rangeCheck_0 12 rfl rfl)
theorem dJ12_rangeCheck_13 : decode cJ12_rangeCheck 13 = .ok (.invokespecial 47, 3) := dk_183 0 47 (dk_at dksJ12_rangeCheck_0 13 rfl rfl)
theorem dJ12_rangeCheck_16 : decode cJ12_rangeCheck 16 = .ok (.ldc 48, 2) := dk_18 48 (dk_at dksJ12_rangeCheck_0 16 rfl rfl)
theorem dJ12_rangeCheck_18 : decode cJ12_rangeCheck 18 = .ok (.invokevirtual 50, 3) := dk_182 0 50 (dk_at dksJ12_rangeCheck_0 18 rfl rfl)
theorem dJ12_rangeCheck_21 : decode cJ12_rangeCheck 21 = .ok (.iload_n 1, 1) := dk_27 (dk_at dksJ12_rangeCheck_0 21 rfl rfl)
theorem dJ12_rangeCheck_22 : decode cJ12_rangeCheck 22 = .ok (.invokevirtual 54, 3) := dk_182 0 54 (dk_at dksJ12_rangeCheck_1 0 rfl rfl)
theorem dJ12_rangeCheck_25 : decode cJ12_rangeCheck 25 = .ok (.ldc 57, 2) := dk_18 57 (dk_at dksJ12_rangeCheck_1 3 rfl rfl)
theorem dJ12_rangeCheck_27 : decode cJ12_rangeCheck 27 = .ok (.invokevirtual 50, 3) := dk_182 0 50 (dk_at dksJ12_rangeCheck_1 5 rfl rfl)
theorem dJ12_rangeCheck_30 : decode cJ12_rangeCheck 30 = .ok (.iload_n 2, 1) := dk_28 (dk_at dksJ12_rangeCheck_1 8 rfl rfl)
theorem dJ12_rangeCheck_31 : decode cJ12_rangeCheck 31 = .ok (.invokevirtual 54, 3) := dk_182 0 54 (dk_at dksJ12_rangeCheck_1 9 rfl rfl)
theorem dJ12_rangeCheck_34 : decode cJ12_rangeCheck 34 = .ok (.ldc 59, 2) := dk_18 59 (dk_at dksJ12_rangeCheck_1 12 rfl rfl)
theorem dJ12_rangeCheck_36 : decode cJ12_rangeCheck 36 = .ok (.invokevirtual 50, 3) := dk_182 0 50 (dk_at dksJ12_rangeCheck_1 14 rfl rfl)
theorem dJ12_rangeCheck_39 : decode cJ12_rangeCheck 39 = .ok (.invokevirtual 61, 3) := dk_182 0 61 (dk_at dksJ12_rangeCheck_1 17 rfl rfl)
theorem dJ12_rangeCheck_42 : decode cJ12_rangeCheck 42 = .ok (.invokespecial 65, 3) := dk_183 0 65 (dk_at dksJ12_rangeCheck_1 20 rfl rfl)
theorem dJ12_rangeCheck_45 : decode cJ12_rangeCheck 45 = .ok (.athrow, 1) := dk_191 (dk_at dksJ12_rangeCheck_1 23 rfl rfl)
theorem dJ12_rangeCheck_46 : decode cJ12_rangeCheck 46 = .ok (.iload_n 1, 1) := dk_27 (dk_at dksJ12_rangeCheck_2 0 rfl rfl)
theorem dJ12_rangeCheck_47 : decode cJ12_rangeCheck 47 = .ok (.ifCond .ge 12, 3) := dk_156 0 12 (dk_at dksJ12_rangeCheck_2 1 rfl rfl)
theorem dJ12_rangeCheck_50 : decode cJ12_rangeCheck 50 = .ok (.new 68, 3) := dk_187 0 68 (dk_at dksJ12_rangeCheck_2 4 rfl rfl)
theorem dJ12_rangeCheck_53 : decode cJ12_rangeCheck 53 = .ok (.dup, 1) := dk_89 (dk_at dksJ12_rangeCheck_2 7 rfl rfl)
theorem dJ12_rangeCheck_54 : decode cJ12_rangeCheck 54 = .ok (.iload_n 1, 1) := dk_27 (dk_at dksJ12_rangeCheck_2 8 rfl rfl)
theorem dJ12_rangeCheck_55 : decode cJ12_rangeCheck 55 = .ok (.invokespecial 70, 3) := dk_183 0 70 (dk_at dksJ12_rangeCheck_2 9 rfl rfl)
theorem dJ12_rangeCheck_58 : decode cJ12_rangeCheck 58 = .ok (.athrow, 1) := dk_191 (dk_at dksJ12_rangeCheck_2 12 rfl rfl)
theorem dJ12_rangeCheck_59 : decode cJ12_rangeCheck 59 = .ok (.iload_n 2, 1) := dk_28 (dk_at dksJ12_rangeCheck_2 13 rfl rfl)
theorem dJ12_rangeCheck_60 : decode cJ12_rangeCheck 60 = .ok (.iload_n 0, 1) := dk_26 (dk_at dksJ12_rangeCheck_2 14 rfl rfl)
theorem dJ12_rangeCheck_61 : decode cJ12_rangeCheck 61 = .ok (.if_icmp .le 12, 3) := dk_164 0 12 (dk_at dksJ12_rangeCheck_2 15 rfl rfl)
theorem dJ12_rangeCheck_64 : decode cJ12_rangeCheck 64 = .ok (.new 68, 3) := dk_187 0 68 (dk_at dksJ12_rangeCheck_2 18 rfl rfl)
theorem dJ12_rangeCheck_67 : decode cJ12_rangeCheck 67 = .ok (.dup, 1) := dk_89 (dk_at dksJ12_rangeCheck_2 21 rfl rfl)
theorem dJ12_rangeCheck_68 : decode cJ12_rangeCheck 68 = .ok (.iload_n 2, 1) := dk_28 (dk_at dksJ12_rangeCheck_2 22 rfl rfl)
theorem dJ12_rangeCheck_69 : decode cJ12_rangeCheck 69 = .ok (.invokespecial 70, 3) := dk_183 0 70 (dk_at dksJ12_rangeCheck_3 0 rfl rfl)
theorem dJ12_rangeCheck_72 : decode cJ12_rangeCheck 72 = .ok (.athrow, 1) := dk_191 (dk_at dksJ12_rangeCheck_3 3 rfl rfl)
theorem dJ12_rangeCheck_73 : decode cJ12_rangeCheck 73 = .ok (.return_, 1) := dk_177 (dk_at dksJ12_rangeCheck_3 4 rfl rfl)
def dkwJ3_init_0 : List UInt8 := [42, 183, 0, 42, 42, 16, 17, 189, 0, 47, 181, 0, 3, 177]
abbrev dktJ3_init_0 : List UInt8 := dkwJ3_init_0 ++ []
theorem dksJ3_init_0 : cJ3_init.data.toList.drop 0 = dktJ3_init_0 := by decide +kernel
theorem dJ3_init_0 : decode cJ3_init 0 = .ok (.aload_n 0, 1) := dk_42 (dk_at dksJ3_init_0 0 rfl rfl)
theorem dJ3_init_1 : decode cJ3_init 1 = .ok (.invokespecial 42, 3) := dk_183 0 42 (dk_at dksJ3_init_0 1 rfl rfl)
theorem dJ3_init_4 : decode cJ3_init 4 = .ok (.aload_n 0, 1) := dk_42 (dk_at dksJ3_init_0 4 rfl rfl)
theorem dJ3_init_5 : decode cJ3_init 5 = .ok (.bipush 17, 2) := dk_16 17 (dk_at dksJ3_init_0 5 rfl rfl)
theorem dJ3_init_7 : decode cJ3_init 7 = .ok (.anewarray 47, 3) := dk_189 0 47 (dk_at dksJ3_init_0 7 rfl rfl)
theorem dJ3_init_10 : decode cJ3_init 10 = .ok (.putfield 3, 3) := dk_181 0 3 (dk_at dksJ3_init_0 10 rfl rfl)
theorem dJ3_init_13 : decode cJ3_init 13 = .ok (.return_, 1) := dk_177 (dk_at dksJ3_init_0 13 rfl rfl)
def dkwJ3_addLast_2 : List UInt8 := [182, 0, 71, 177]
abbrev dktJ3_addLast_2 : List UInt8 := dkwJ3_addLast_2 ++ []
def dkwJ3_addLast_1 : List UInt8 := [42, 180, 0, 24, 42, 42, 180, 0, 20, 44, 190, 184, 0, 74, 90, 181, 0, 20, 160, 0, 8, 42, 4]
abbrev dktJ3_addLast_1 : List UInt8 := dkwJ3_addLast_1 ++ dktJ3_addLast_2
def dkwJ3_addLast_0 : List UInt8 := [43, 199, 0, 11, 187, 0, 65, 89, 183, 0, 67, 191, 42, 180, 0, 3, 77, 44, 42, 180, 0, 20, 43, 83]
abbrev dktJ3_addLast_0 : List UInt8 := dkwJ3_addLast_0 ++ dktJ3_addLast_1
theorem dksJ3_addLast_0 : cJ3_addLast.data.toList.drop 0 = dktJ3_addLast_0 := by decide +kernel
theorem dksJ3_addLast_1 : cJ3_addLast.data.toList.drop 24 = dktJ3_addLast_1 := dk_seg dksJ3_addLast_0 24 rfl rfl
theorem dksJ3_addLast_2 : cJ3_addLast.data.toList.drop 47 = dktJ3_addLast_2 := dk_seg dksJ3_addLast_1 23 rfl rfl
theorem dJ3_addLast_0 : decode cJ3_addLast 0 = .ok (.aload_n 1, 1) := dk_43 (dk_at dksJ3_addLast_0 0 rfl rfl)
theorem dJ3_addLast_1 : decode cJ3_addLast 1 = .ok (.ifnonnull 11, 3) := dk_199 0 11 (dk_at dksJ3_addLast_0 1 rfl rfl)
theorem dJ3_addLast_4 : decode cJ3_addLast 4 = .ok (.new 65, 3) := dk_187 0 65 (dk_at dksJ3_addLast_0 4 rfl rfl)
theorem dJ3_addLast_7 : decode cJ3_addLast 7 = .ok (.dup, 1) := dk_89 (dk_at dksJ3_addLast_0 7 rfl rfl)
theorem dJ3_addLast_8 : decode cJ3_addLast 8 = .ok (.invokespecial 67, 3) := dk_183 0 67 (dk_at dksJ3_addLast_0 8 rfl rfl)
theorem dJ3_addLast_11 : decode cJ3_addLast 11 = .ok (.athrow, 1) := dk_191 (dk_at dksJ3_addLast_0 11 rfl rfl)
theorem dJ3_addLast_12 : decode cJ3_addLast 12 = .ok (.aload_n 0, 1) := dk_42 (dk_at dksJ3_addLast_0 12 rfl rfl)
theorem dJ3_addLast_13 : decode cJ3_addLast 13 = .ok (.getfield 3, 3) := dk_180 0 3 (dk_at dksJ3_addLast_0 13 rfl rfl)
theorem dJ3_addLast_16 : decode cJ3_addLast 16 = .ok (.astore_n 2, 1) := dk_77 (dk_at dksJ3_addLast_0 16 rfl rfl)
theorem dJ3_addLast_17 : decode cJ3_addLast 17 = .ok (.aload_n 2, 1) := dk_44 (dk_at dksJ3_addLast_0 17 rfl rfl)
theorem dJ3_addLast_18 : decode cJ3_addLast 18 = .ok (.aload_n 0, 1) := dk_42 (dk_at dksJ3_addLast_0 18 rfl rfl)
theorem dJ3_addLast_19 : decode cJ3_addLast 19 = .ok (.getfield 20, 3) := dk_180 0 20 (dk_at dksJ3_addLast_0 19 rfl rfl)
theorem dJ3_addLast_22 : decode cJ3_addLast 22 = .ok (.aload_n 1, 1) := dk_43 (dk_at dksJ3_addLast_0 22 rfl rfl)
theorem dJ3_addLast_23 : decode cJ3_addLast 23 = .ok (.aastore, 1) := dk_83 (dk_at dksJ3_addLast_0 23 rfl rfl)
theorem dJ3_addLast_24 : decode cJ3_addLast 24 = .ok (.aload_n 0, 1) := dk_42 (dk_at dksJ3_addLast_1 0 rfl rfl)
theorem dJ3_addLast_25 : decode cJ3_addLast 25 = .ok (.getfield 24, 3) := dk_180 0 24 (dk_at dksJ3_addLast_1 1 rfl rfl)
theorem dJ3_addLast_28 : decode cJ3_addLast 28 = .ok (.aload_n 0, 1) := dk_42 (dk_at dksJ3_addLast_1 4 rfl rfl)
theorem dJ3_addLast_29 : decode cJ3_addLast 29 = .ok (.aload_n 0, 1) := dk_42 (dk_at dksJ3_addLast_1 5 rfl rfl)
theorem dJ3_addLast_30 : decode cJ3_addLast 30 = .ok (.getfield 20, 3) := dk_180 0 20 (dk_at dksJ3_addLast_1 6 rfl rfl)
theorem dJ3_addLast_33 : decode cJ3_addLast 33 = .ok (.aload_n 2, 1) := dk_44 (dk_at dksJ3_addLast_1 9 rfl rfl)
theorem dJ3_addLast_34 : decode cJ3_addLast 34 = .ok (.arraylength, 1) := dk_190 (dk_at dksJ3_addLast_1 10 rfl rfl)
theorem dJ3_addLast_35 : decode cJ3_addLast 35 = .ok (.invokestatic 74, 3) := dk_184 0 74 (dk_at dksJ3_addLast_1 11 rfl rfl)
theorem dJ3_addLast_38 : decode cJ3_addLast 38 = .ok (.dup_x1, 1) := dk_90 (dk_at dksJ3_addLast_1 14 rfl rfl)
theorem dJ3_addLast_39 : decode cJ3_addLast 39 = .ok (.putfield 20, 3) := dk_181 0 20 (dk_at dksJ3_addLast_1 15 rfl rfl)
theorem dJ3_addLast_42 : decode cJ3_addLast 42 = .ok (.if_icmp .ne 8, 3) := dk_160 0 8 (dk_at dksJ3_addLast_1 18 rfl rfl)
theorem dJ3_addLast_45 : decode cJ3_addLast 45 = .ok (.aload_n 0, 1) := dk_42 (dk_at dksJ3_addLast_1 21 rfl rfl)
theorem dJ3_addLast_46 : decode cJ3_addLast 46 = .ok (.iconst 1, 1) := dk_4 (dk_at dksJ3_addLast_1 22 rfl rfl)
theorem dJ3_addLast_47 : decode cJ3_addLast 47 = .ok (.invokevirtual 71, 3) := dk_182 0 71 (dk_at dksJ3_addLast_2 0 rfl rfl)
theorem dJ3_addLast_50 : decode cJ3_addLast 50 = .ok (.return_, 1) := dk_177 (dk_at dksJ3_addLast_2 3 rfl rfl)
def dkwJ3_inc_0 : List UInt8 := [132, 0, 1, 26, 27, 161, 0, 5, 3, 59, 26, 172]
abbrev dktJ3_inc_0 : List UInt8 := dkwJ3_inc_0 ++ []
theorem dksJ3_inc_0 : cJ3_inc.data.toList.drop 0 = dktJ3_inc_0 := by decide +kernel
theorem dJ3_inc_0 : decode cJ3_inc 0 = .ok (.iinc 0 1, 3) := dk_132 0 1 (dk_at dksJ3_inc_0 0 rfl rfl)
theorem dJ3_inc_3 : decode cJ3_inc 3 = .ok (.iload_n 0, 1) := dk_26 (dk_at dksJ3_inc_0 3 rfl rfl)
theorem dJ3_inc_4 : decode cJ3_inc 4 = .ok (.iload_n 1, 1) := dk_27 (dk_at dksJ3_inc_0 4 rfl rfl)
theorem dJ3_inc_5 : decode cJ3_inc 5 = .ok (.if_icmp .lt 5, 3) := dk_161 0 5 (dk_at dksJ3_inc_0 5 rfl rfl)
theorem dJ3_inc_8 : decode cJ3_inc 8 = .ok (.iconst 0, 1) := dk_3 (dk_at dksJ3_inc_0 8 rfl rfl)
theorem dJ3_inc_9 : decode cJ3_inc 9 = .ok (.istore_n 0, 1) := dk_59 (dk_at dksJ3_inc_0 9 rfl rfl)
theorem dJ3_inc_10 : decode cJ3_inc 10 = .ok (.iload_n 0, 1) := dk_26 (dk_at dksJ3_inc_0 10 rfl rfl)
theorem dJ3_inc_11 : decode cJ3_inc 11 = .ok (.ireturn, 1) := dk_172 (dk_at dksJ3_inc_0 11 rfl rfl)
def dkwJ3_grow_7 : List UInt8 := [177]
abbrev dktJ3_grow_7 : List UInt8 := dkwJ3_grow_7 ++ []
def dkwJ3_grow_6 : List UInt8 := [181, 0, 24, 54, 8, 21, 7, 21, 8, 162, 0, 15, 25, 5, 21, 7, 1, 83, 132, 7, 1, 167, 255, 240]
abbrev dktJ3_grow_6 : List UInt8 := dkwJ3_grow_6 ++ dktJ3_grow_7
def dkwJ3_grow_5 : List UInt8 := [42, 180, 0, 24, 100, 184, 0, 27, 42, 180, 0, 24, 54, 7, 42, 89, 180, 0, 24, 21, 6, 96, 90]
abbrev dktJ3_grow_5 : List UInt8 := dkwJ3_grow_5 ++ dktJ3_grow_6
def dkwJ3_grow_4 : List UInt8 := [198, 0, 71, 29, 28, 100, 54, 6, 25, 5, 42, 180, 0, 24, 25, 5, 42, 180, 0, 24, 21, 6, 96, 28]
abbrev dktJ3_grow_4 : List UInt8 := dkwJ3_grow_4 ++ dktJ3_grow_5
def dkwJ3_grow_3 : List UInt8 := [180, 0, 24, 161, 0, 24, 42, 180, 0, 20, 42, 180, 0, 24, 160, 0, 81, 25, 5, 42, 180, 0, 24, 50]
abbrev dktJ3_grow_3 : List UInt8 := dkwJ3_grow_3 ++ dktJ3_grow_4
def dkwJ3_grow_2 : List UInt8 := [182, 0, 10, 62, 42, 42, 180, 0, 3, 29, 184, 0, 14, 90, 181, 0, 3, 58, 5, 42, 180, 0, 20, 42]
abbrev dktJ3_grow_2 : List UInt8 := dkwJ3_grow_2 ++ dktJ3_grow_3
def dkwJ3_grow_1 : List UInt8 := [21, 4, 27, 161, 0, 15, 28, 21, 4, 96, 89, 62, 18, 9, 100, 158, 0, 11, 42, 27, 21, 4]
abbrev dktJ3_grow_1 : List UInt8 := dkwJ3_grow_1 ++ dktJ3_grow_2
def dkwJ3_grow_0 : List UInt8 := [42, 180, 0, 3, 190, 61, 28, 16, 64, 162, 0, 9, 28, 5, 96, 167, 0, 6, 28, 4, 122, 54, 4]
abbrev dktJ3_grow_0 : List UInt8 := dkwJ3_grow_0 ++ dktJ3_grow_1
theorem dksJ3_grow_0 : cJ3_grow.data.toList.drop 0 = dktJ3_grow_0 := by decide +kernel
theorem dksJ3_grow_1 : cJ3_grow.data.toList.drop 23 = dktJ3_grow_1 := dk_seg dksJ3_grow_0 23 rfl rfl
theorem dksJ3_grow_2 : cJ3_grow.data.toList.drop 45 = dktJ3_grow_2 := dk_seg dksJ3_grow_1 22 rfl rfl
theorem dksJ3_grow_3 : cJ3_grow.data.toList.drop 69 = dktJ3_grow_3 := dk_seg dksJ3_grow_2 24 rfl rfl
theorem dksJ3_grow_4 : cJ3_grow.data.toList.drop 93 = dktJ3_grow_4 := dk_seg dksJ3_grow_3 24 rfl rfl
theorem dksJ3_grow_5 : cJ3_grow.data.toList.drop 117 = dktJ3_grow_5 := dk_seg dksJ3_grow_4 24 rfl rfl
theorem dksJ3_grow_6 : cJ3_grow.data.toList.drop 140 = dktJ3_grow_6 := dk_seg dksJ3_grow_5 23 rfl rfl
theorem dksJ3_grow_7 : cJ3_grow.data.toList.drop 164 = dktJ3_grow_7 := dk_seg dksJ3_grow_6 24 rfl rfl
theorem dJ3_grow_0 : decode cJ3_grow 0 = .ok (.aload_n 0, 1) := dk_42 (dk_at dksJ3_grow_0 0 rfl rfl)
theorem dJ3_grow_1 : decode cJ3_grow 1 = .ok (.getfield 3, 3) := dk_180 0 3 (dk_at dksJ3_grow_0 1 rfl rfl)
theorem dJ3_grow_4 : decode cJ3_grow 4 = .ok (.arraylength, 1) := dk_190 (dk_at dksJ3_grow_0 4 rfl rfl)
theorem dJ3_grow_5 : decode cJ3_grow 5 = .ok (.istore_n 2, 1) := dk_61 (dk_at dksJ3_grow_0 5 rfl rfl)
theorem dJ3_grow_6 : decode cJ3_grow 6 = .ok (.iload_n 2, 1) := dk_28 (dk_at dksJ3_grow_0 6 rfl rfl)
theorem dJ3_grow_7 : decode cJ3_grow 7 = .ok (.bipush 64, 2) := dk_16 64 (dk_at dksJ3_grow_0 7 rfl rfl)
theorem dJ3_grow_9 : decode cJ3_grow 9 = .ok (.if_icmp .ge 9, 3) := dk_162 0 9 (dk_at dksJ3_grow_0 9 rfl rfl)
theorem dJ3_grow_12 : decode cJ3_grow 12 = .ok (.iload_n 2, 1) := dk_28 (dk_at dksJ3_grow_0 12 rfl rfl)
theorem dJ3_grow_13 : decode cJ3_grow 13 = .ok (.iconst 2, 1) := dk_5 (dk_at dksJ3_grow_0 13 rfl rfl)
theorem dJ3_grow_14 : decode cJ3_grow 14 = .ok (.iadd, 1) := dk_96 (dk_at dksJ3_grow_0 14 rfl rfl)
theorem dJ3_grow_15 : decode cJ3_grow 15 = .ok (.goto 6, 3) := dk_167 0 6 (dk_at dksJ3_grow_0 15 rfl rfl)
theorem dJ3_grow_18 : decode cJ3_grow 18 = .ok (.iload_n 2, 1) := dk_28 (dk_at dksJ3_grow_0 18 rfl rfl)
theorem dJ3_grow_19 : decode cJ3_grow 19 = .ok (.iconst 1, 1) := dk_4 (dk_at dksJ3_grow_0 19 rfl rfl)
theorem dJ3_grow_20 : decode cJ3_grow 20 = .ok (.ishr, 1) := dk_122 (dk_at dksJ3_grow_0 20 rfl rfl)
theorem dJ3_grow_21 : decode cJ3_grow 21 = .ok (.istore 4, 2) := dk_54 4 (dk_at dksJ3_grow_0 21 rfl rfl)
theorem dJ3_grow_23 : decode cJ3_grow 23 = .ok (.iload 4, 2) := dk_21 4 (dk_at dksJ3_grow_1 0 rfl rfl)
theorem dJ3_grow_25 : decode cJ3_grow 25 = .ok (.iload_n 1, 1) := dk_27 (dk_at dksJ3_grow_1 2 rfl rfl)
theorem dJ3_grow_26 : decode cJ3_grow 26 = .ok (.if_icmp .lt 15, 3) := dk_161 0 15 (dk_at dksJ3_grow_1 3 rfl rfl)
theorem dJ3_grow_29 : decode cJ3_grow 29 = .ok (.iload_n 2, 1) := dk_28 (dk_at dksJ3_grow_1 6 rfl rfl)
theorem dJ3_grow_30 : decode cJ3_grow 30 = .ok (.iload 4, 2) := dk_21 4 (dk_at dksJ3_grow_1 7 rfl rfl)
theorem dJ3_grow_32 : decode cJ3_grow 32 = .ok (.iadd, 1) := dk_96 (dk_at dksJ3_grow_1 9 rfl rfl)
theorem dJ3_grow_33 : decode cJ3_grow 33 = .ok (.dup, 1) := dk_89 (dk_at dksJ3_grow_1 10 rfl rfl)
theorem dJ3_grow_34 : decode cJ3_grow 34 = .ok (.istore_n 3, 1) := dk_62 (dk_at dksJ3_grow_1 11 rfl rfl)
theorem dJ3_grow_35 : decode cJ3_grow 35 = .ok (.ldc 9, 2) := dk_18 9 (dk_at dksJ3_grow_1 12 rfl rfl)
theorem dJ3_grow_37 : decode cJ3_grow 37 = .ok (.isub, 1) := dk_100 (dk_at dksJ3_grow_1 14 rfl rfl)
theorem dJ3_grow_38 : decode cJ3_grow 38 = .ok (.ifCond .le 11, 3) := dk_158 0 11 (dk_at dksJ3_grow_1 15 rfl rfl)
theorem dJ3_grow_41 : decode cJ3_grow 41 = .ok (.aload_n 0, 1) := dk_42 (dk_at dksJ3_grow_1 18 rfl rfl)
theorem dJ3_grow_42 : decode cJ3_grow 42 = .ok (.iload_n 1, 1) := dk_27 (dk_at dksJ3_grow_1 19 rfl rfl)
theorem dJ3_grow_43 : decode cJ3_grow 43 = .ok (.iload 4, 2) := dk_21 4 (dk_at dksJ3_grow_1 20 rfl rfl)
theorem dJ3_grow_45 : decode cJ3_grow 45 = .ok (.invokevirtual 10, 3) := dk_182 0 10 (dk_at dksJ3_grow_2 0 rfl rfl)
theorem dJ3_grow_48 : decode cJ3_grow 48 = .ok (.istore_n 3, 1) := dk_62 (dk_at dksJ3_grow_2 3 rfl rfl)
theorem dJ3_grow_49 : decode cJ3_grow 49 = .ok (.aload_n 0, 1) := dk_42 (dk_at dksJ3_grow_2 4 rfl rfl)
theorem dJ3_grow_50 : decode cJ3_grow 50 = .ok (.aload_n 0, 1) := dk_42 (dk_at dksJ3_grow_2 5 rfl rfl)
theorem dJ3_grow_51 : decode cJ3_grow 51 = .ok (.getfield 3, 3) := dk_180 0 3 (dk_at dksJ3_grow_2 6 rfl rfl)
theorem dJ3_grow_54 : decode cJ3_grow 54 = .ok (.iload_n 3, 1) := dk_29 (dk_at dksJ3_grow_2 9 rfl rfl)
theorem dJ3_grow_55 : decode cJ3_grow 55 = .ok (.invokestatic 14, 3) := dk_184 0 14 (dk_at dksJ3_grow_2 10 rfl rfl)
theorem dJ3_grow_58 : decode cJ3_grow 58 = .ok (.dup_x1, 1) := dk_90 (dk_at dksJ3_grow_2 13 rfl rfl)
theorem dJ3_grow_59 : decode cJ3_grow 59 = .ok (.putfield 3, 3) := dk_181 0 3 (dk_at dksJ3_grow_2 14 rfl rfl)
theorem dJ3_grow_62 : decode cJ3_grow 62 = .ok (.astore 5, 2) := dk_58 5 (dk_at dksJ3_grow_2 17 rfl rfl)
theorem dJ3_grow_64 : decode cJ3_grow 64 = .ok (.aload_n 0, 1) := dk_42 (dk_at dksJ3_grow_2 19 rfl rfl)
theorem dJ3_grow_65 : decode cJ3_grow 65 = .ok (.getfield 20, 3) := dk_180 0 20 (dk_at dksJ3_grow_2 20 rfl rfl)
theorem dJ3_grow_68 : decode cJ3_grow 68 = .ok (.aload_n 0, 1) := dk_42 (dk_at dksJ3_grow_2 23 rfl rfl)
theorem dJ3_grow_69 : decode cJ3_grow 69 = .ok (.getfield 24, 3) := dk_180 0 24 (dk_at dksJ3_grow_3 0 rfl rfl)
theorem dJ3_grow_72 : decode cJ3_grow 72 = .ok (.if_icmp .lt 24, 3) := dk_161 0 24 (dk_at dksJ3_grow_3 3 rfl rfl)
theorem dJ3_grow_75 : decode cJ3_grow 75 = .ok (.aload_n 0, 1) := dk_42 (dk_at dksJ3_grow_3 6 rfl rfl)
theorem dJ3_grow_76 : decode cJ3_grow 76 = .ok (.getfield 20, 3) := dk_180 0 20 (dk_at dksJ3_grow_3 7 rfl rfl)
theorem dJ3_grow_79 : decode cJ3_grow 79 = .ok (.aload_n 0, 1) := dk_42 (dk_at dksJ3_grow_3 10 rfl rfl)
theorem dJ3_grow_80 : decode cJ3_grow 80 = .ok (.getfield 24, 3) := dk_180 0 24 (dk_at dksJ3_grow_3 11 rfl rfl)
theorem dJ3_grow_83 : decode cJ3_grow 83 = .ok (.if_icmp .ne 81, 3) := dk_160 0 81 (dk_at dksJ3_grow_3 14 rfl rfl)
theorem dJ3_grow_86 : decode cJ3_grow 86 = .ok (.aload 5, 2) := dk_25 5 (dk_at dksJ3_grow_3 17 rfl rfl)
theorem dJ3_grow_88 : decode cJ3_grow 88 = .ok (.aload_n 0, 1) := dk_42 (dk_at dksJ3_grow_3 19 rfl rfl)
theorem dJ3_grow_89 : decode cJ3_grow 89 = .ok (.getfield 24, 3) := dk_180 0 24 (dk_at dksJ3_grow_3 20 rfl rfl)
theorem dJ3_grow_92 : decode cJ3_grow 92 = .ok (.aaload, 1) := dk_50 (dk_at dksJ3_grow_3 23 rfl rfl)
theorem dJ3_grow_93 : decode cJ3_grow 93 = .ok (.ifnull 71, 3) := dk_198 0 71 (dk_at dksJ3_grow_4 0 rfl rfl)
theorem dJ3_grow_96 : decode cJ3_grow 96 = .ok (.iload_n 3, 1) := dk_29 (dk_at dksJ3_grow_4 3 rfl rfl)
theorem dJ3_grow_97 : decode cJ3_grow 97 = .ok (.iload_n 2, 1) := dk_28 (dk_at dksJ3_grow_4 4 rfl rfl)
theorem dJ3_grow_98 : decode cJ3_grow 98 = .ok (.isub, 1) := dk_100 (dk_at dksJ3_grow_4 5 rfl rfl)
theorem dJ3_grow_99 : decode cJ3_grow 99 = .ok (.istore 6, 2) := dk_54 6 (dk_at dksJ3_grow_4 6 rfl rfl)
theorem dJ3_grow_101 : decode cJ3_grow 101 = .ok (.aload 5, 2) := dk_25 5 (dk_at dksJ3_grow_4 8 rfl rfl)
theorem dJ3_grow_103 : decode cJ3_grow 103 = .ok (.aload_n 0, 1) := dk_42 (dk_at dksJ3_grow_4 10 rfl rfl)
theorem dJ3_grow_104 : decode cJ3_grow 104 = .ok (.getfield 24, 3) := dk_180 0 24 (dk_at dksJ3_grow_4 11 rfl rfl)
theorem dJ3_grow_107 : decode cJ3_grow 107 = .ok (.aload 5, 2) := dk_25 5 (dk_at dksJ3_grow_4 14 rfl rfl)
theorem dJ3_grow_109 : decode cJ3_grow 109 = .ok (.aload_n 0, 1) := dk_42 (dk_at dksJ3_grow_4 16 rfl rfl)
theorem dJ3_grow_110 : decode cJ3_grow 110 = .ok (.getfield 24, 3) := dk_180 0 24 (dk_at dksJ3_grow_4 17 rfl rfl)
theorem dJ3_grow_113 : decode cJ3_grow 113 = .ok (.iload 6, 2) := dk_21 6 (dk_at dksJ3_grow_4 20 rfl rfl)
theorem dJ3_grow_115 : decode cJ3_grow 115 = .ok (.iadd, 1) := dk_96 (dk_at dksJ3_grow_4 22 rfl rfl)
theorem dJ3_grow_116 : decode cJ3_grow 116 = .ok (.iload_n 2, 1) := dk_28 (dk_at dksJ3_grow_4 23 rfl rfl)
theorem dJ3_grow_117 : decode cJ3_grow 117 = .ok (.aload_n 0, 1) := dk_42 (dk_at dksJ3_grow_5 0 rfl rfl)
theorem dJ3_grow_118 : decode cJ3_grow 118 = .ok (.getfield 24, 3) := dk_180 0 24 (dk_at dksJ3_grow_5 1 rfl rfl)
theorem dJ3_grow_121 : decode cJ3_grow 121 = .ok (.isub, 1) := dk_100 (dk_at dksJ3_grow_5 4 rfl rfl)
theorem dJ3_grow_122 : decode cJ3_grow 122 = .ok (.invokestatic 27, 3) := dk_184 0 27 (dk_at dksJ3_grow_5 5 rfl rfl)
theorem dJ3_grow_125 : decode cJ3_grow 125 = .ok (.aload_n 0, 1) := dk_42 (dk_at dksJ3_grow_5 8 rfl rfl)
theorem dJ3_grow_126 : decode cJ3_grow 126 = .ok (.getfield 24, 3) := dk_180 0 24 (dk_at dksJ3_grow_5 9 rfl rfl)
theorem dJ3_grow_129 : decode cJ3_grow 129 = .ok (.istore 7, 2) := dk_54 7 (dk_at dksJ3_grow_5 12 rfl rfl)
theorem dJ3_grow_131 : decode cJ3_grow 131 = .ok (.aload_n 0, 1) := dk_42 (dk_at dksJ3_grow_5 14 rfl rfl)
theorem dJ3_grow_132 : decode cJ3_grow 132 = .ok (.dup, 1) := dk_89 (dk_at dksJ3_grow_5 15 rfl rfl)
theorem dJ3_grow_133 : decode cJ3_grow 133 = .ok (.getfield 24, 3) := dk_180 0 24 (dk_at dksJ3_grow_5 16 rfl rfl)
theorem dJ3_grow_136 : decode cJ3_grow 136 = .ok (.iload 6, 2) := dk_21 6 (dk_at dksJ3_grow_5 19 rfl rfl)
theorem dJ3_grow_138 : decode cJ3_grow 138 = .ok (.iadd, 1) := dk_96 (dk_at dksJ3_grow_5 21 rfl rfl)
theorem dJ3_grow_139 : decode cJ3_grow 139 = .ok (.dup_x1, 1) := dk_90 (dk_at dksJ3_grow_5 22 rfl rfl)
theorem dJ3_grow_140 : decode cJ3_grow 140 = .ok (.putfield 24, 3) := dk_181 0 24 (dk_at dksJ3_grow_6 0 rfl rfl)
theorem dJ3_grow_143 : decode cJ3_grow 143 = .ok (.istore 8, 2) := dk_54 8 (dk_at dksJ3_grow_6 3 rfl rfl)
theorem dJ3_grow_145 : decode cJ3_grow 145 = .ok (.iload 7, 2) := dk_21 7 (dk_at dksJ3_grow_6 5 rfl rfl)
theorem dJ3_grow_147 : decode cJ3_grow 147 = .ok (.iload 8, 2) := dk_21 8 (dk_at dksJ3_grow_6 7 rfl rfl)
theorem dJ3_grow_149 : decode cJ3_grow 149 = .ok (.if_icmp .ge 15, 3) := dk_162 0 15 (dk_at dksJ3_grow_6 9 rfl rfl)
theorem dJ3_grow_152 : decode cJ3_grow 152 = .ok (.aload 5, 2) := dk_25 5 (dk_at dksJ3_grow_6 12 rfl rfl)
theorem dJ3_grow_154 : decode cJ3_grow 154 = .ok (.iload 7, 2) := dk_21 7 (dk_at dksJ3_grow_6 14 rfl rfl)
theorem dJ3_grow_156 : decode cJ3_grow 156 = .ok (.aconst_null, 1) := dk_1 (dk_at dksJ3_grow_6 16 rfl rfl)
theorem dJ3_grow_157 : decode cJ3_grow 157 = .ok (.aastore, 1) := dk_83 (dk_at dksJ3_grow_6 17 rfl rfl)
theorem dJ3_grow_158 : decode cJ3_grow 158 = .ok (.iinc 7 1, 3) := dk_132 7 1 (dk_at dksJ3_grow_6 18 rfl rfl)
theorem dJ3_grow_161 : decode cJ3_grow 161 = .ok (.goto (-16), 3) := dk_167 255 240 (dk_at dksJ3_grow_6 21 rfl rfl)
theorem dJ3_grow_164 : decode cJ3_grow 164 = .ok (.return_, 1) := dk_177 (dk_at dksJ3_grow_7 0 rfl rfl)
def dkwJ3_newCapacity_2 : List UInt8 := [18, 9, 100, 156, 0, 9, 29, 28, 96, 167, 0, 5, 18, 9, 172]
abbrev dktJ3_newCapacity_2 : List UInt8 := dkwJ3_newCapacity_2 ++ []
def dkwJ3_newCapacity_1 : List UInt8 := [187, 0, 33, 89, 18, 35, 183, 0, 37, 191, 18, 41, 172, 27, 28, 164, 0, 6, 21, 4, 172, 29, 28, 96]
abbrev dktJ3_newCapacity_1 : List UInt8 := dkwJ3_newCapacity_1 ++ dktJ3_newCapacity_2
def dkwJ3_newCapacity_0 : List UInt8 := [42, 180, 0, 3, 190, 62, 29, 27, 96, 89, 54, 4, 18, 9, 100, 158, 0, 21, 21, 4, 156, 0, 13]
abbrev dktJ3_newCapacity_0 : List UInt8 := dkwJ3_newCapacity_0 ++ dktJ3_newCapacity_1
theorem dksJ3_newCapacity_0 : cJ3_newCapacity.data.toList.drop 0 = dktJ3_newCapacity_0 := by decide +kernel
theorem dksJ3_newCapacity_1 : cJ3_newCapacity.data.toList.drop 23 = dktJ3_newCapacity_1 := dk_seg dksJ3_newCapacity_0 23 rfl rfl
theorem dksJ3_newCapacity_2 : cJ3_newCapacity.data.toList.drop 47 = dktJ3_newCapacity_2 := dk_seg dksJ3_newCapacity_1 24 rfl rfl
theorem dJ3_newCapacity_0 : decode cJ3_newCapacity 0 = .ok (.aload_n 0, 1) := dk_42 (dk_at dksJ3_newCapacity_0 0 rfl rfl)
theorem dJ3_newCapacity_1 : decode cJ3_newCapacity 1 = .ok (.getfield 3, 3) := dk_180 0 3 (dk_at dksJ3_newCapacity_0 1 rfl rfl)
theorem dJ3_newCapacity_4 : decode cJ3_newCapacity 4 = .ok (.arraylength, 1) := dk_190 (dk_at dksJ3_newCapacity_0 4 rfl rfl)
theorem dJ3_newCapacity_5 : decode cJ3_newCapacity 5 = .ok (.istore_n 3, 1) := dk_62 (dk_at dksJ3_newCapacity_0 5 rfl rfl)
theorem dJ3_newCapacity_6 : decode cJ3_newCapacity 6 = .ok (.iload_n 3, 1) := dk_29 (dk_at dksJ3_newCapacity_0 6 rfl rfl)
theorem dJ3_newCapacity_7 : decode cJ3_newCapacity 7 = .ok (.iload_n 1, 1) := dk_27 (dk_at dksJ3_newCapacity_0 7 rfl rfl)
theorem dJ3_newCapacity_8 : decode cJ3_newCapacity 8 = .ok (.iadd, 1) := dk_96 (dk_at dksJ3_newCapacity_0 8 rfl rfl)
theorem dJ3_newCapacity_9 : decode cJ3_newCapacity 9 = .ok (.dup, 1) := dk_89 (dk_at dksJ3_newCapacity_0 9 rfl rfl)
theorem dJ3_newCapacity_10 : decode cJ3_newCapacity 10 = .ok (.istore 4, 2) := dk_54 4 (dk_at dksJ3_newCapacity_0 10 rfl rfl)
theorem dJ3_newCapacity_12 : decode cJ3_newCapacity 12 = .ok (.ldc 9, 2) := dk_18 9 (dk_at dksJ3_newCapacity_0 12 rfl rfl)
theorem dJ3_newCapacity_14 : decode cJ3_newCapacity 14 = .ok (.isub, 1) := dk_100 (dk_at dksJ3_newCapacity_0 14 rfl rfl)
theorem dJ3_newCapacity_15 : decode cJ3_newCapacity 15 = .ok (.ifCond .le 21, 3) := dk_158 0 21 (dk_at dksJ3_newCapacity_0 15 rfl rfl)
theorem dJ3_newCapacity_18 : decode cJ3_newCapacity 18 = .ok (.iload 4, 2) := dk_21 4 (dk_at dksJ3_newCapacity_0 18 rfl rfl)
theorem dJ3_newCapacity_20 : decode cJ3_newCapacity 20 = .ok (.ifCond .ge 13, 3) := dk_156 0 13 (dk_at dksJ3_newCapacity_0 20 rfl rfl)
theorem dJ3_newCapacity_23 : decode cJ3_newCapacity 23 = .ok (.new 33, 3) := dk_187 0 33 (dk_at dksJ3_newCapacity_1 0 rfl rfl)
theorem dJ3_newCapacity_26 : decode cJ3_newCapacity 26 = .ok (.dup, 1) := dk_89 (dk_at dksJ3_newCapacity_1 3 rfl rfl)
theorem dJ3_newCapacity_27 : decode cJ3_newCapacity 27 = .ok (.ldc 35, 2) := dk_18 35 (dk_at dksJ3_newCapacity_1 4 rfl rfl)
theorem dJ3_newCapacity_29 : decode cJ3_newCapacity 29 = .ok (.invokespecial 37, 3) := dk_183 0 37 (dk_at dksJ3_newCapacity_1 6 rfl rfl)
theorem dJ3_newCapacity_32 : decode cJ3_newCapacity 32 = .ok (.athrow, 1) := dk_191 (dk_at dksJ3_newCapacity_1 9 rfl rfl)
theorem dJ3_newCapacity_33 : decode cJ3_newCapacity 33 = .ok (.ldc 41, 2) := dk_18 41 (dk_at dksJ3_newCapacity_1 10 rfl rfl)
theorem dJ3_newCapacity_35 : decode cJ3_newCapacity 35 = .ok (.ireturn, 1) := dk_172 (dk_at dksJ3_newCapacity_1 12 rfl rfl)
theorem dJ3_newCapacity_36 : decode cJ3_newCapacity 36 = .ok (.iload_n 1, 1) := dk_27 (dk_at dksJ3_newCapacity_1 13 rfl rfl)
theorem dJ3_newCapacity_37 : decode cJ3_newCapacity 37 = .ok (.iload_n 2, 1) := dk_28 (dk_at dksJ3_newCapacity_1 14 rfl rfl)
theorem dJ3_newCapacity_38 : decode cJ3_newCapacity 38 = .ok (.if_icmp .le 6, 3) := dk_164 0 6 (dk_at dksJ3_newCapacity_1 15 rfl rfl)
theorem dJ3_newCapacity_41 : decode cJ3_newCapacity 41 = .ok (.iload 4, 2) := dk_21 4 (dk_at dksJ3_newCapacity_1 18 rfl rfl)
theorem dJ3_newCapacity_43 : decode cJ3_newCapacity 43 = .ok (.ireturn, 1) := dk_172 (dk_at dksJ3_newCapacity_1 20 rfl rfl)
theorem dJ3_newCapacity_44 : decode cJ3_newCapacity 44 = .ok (.iload_n 3, 1) := dk_29 (dk_at dksJ3_newCapacity_1 21 rfl rfl)
theorem dJ3_newCapacity_45 : decode cJ3_newCapacity 45 = .ok (.iload_n 2, 1) := dk_28 (dk_at dksJ3_newCapacity_1 22 rfl rfl)
theorem dJ3_newCapacity_46 : decode cJ3_newCapacity 46 = .ok (.iadd, 1) := dk_96 (dk_at dksJ3_newCapacity_1 23 rfl rfl)
theorem dJ3_newCapacity_47 : decode cJ3_newCapacity 47 = .ok (.ldc 9, 2) := dk_18 9 (dk_at dksJ3_newCapacity_2 0 rfl rfl)
theorem dJ3_newCapacity_49 : decode cJ3_newCapacity 49 = .ok (.isub, 1) := dk_100 (dk_at dksJ3_newCapacity_2 2 rfl rfl)
theorem dJ3_newCapacity_50 : decode cJ3_newCapacity 50 = .ok (.ifCond .ge 9, 3) := dk_156 0 9 (dk_at dksJ3_newCapacity_2 3 rfl rfl)
theorem dJ3_newCapacity_53 : decode cJ3_newCapacity 53 = .ok (.iload_n 3, 1) := dk_29 (dk_at dksJ3_newCapacity_2 6 rfl rfl)
theorem dJ3_newCapacity_54 : decode cJ3_newCapacity 54 = .ok (.iload_n 2, 1) := dk_28 (dk_at dksJ3_newCapacity_2 7 rfl rfl)
theorem dJ3_newCapacity_55 : decode cJ3_newCapacity 55 = .ok (.iadd, 1) := dk_96 (dk_at dksJ3_newCapacity_2 8 rfl rfl)
theorem dJ3_newCapacity_56 : decode cJ3_newCapacity 56 = .ok (.goto 5, 3) := dk_167 0 5 (dk_at dksJ3_newCapacity_2 9 rfl rfl)
theorem dJ3_newCapacity_59 : decode cJ3_newCapacity 59 = .ok (.ldc 9, 2) := dk_18 9 (dk_at dksJ3_newCapacity_2 12 rfl rfl)
theorem dJ3_newCapacity_61 : decode cJ3_newCapacity 61 = .ok (.ireturn, 1) := dk_172 (dk_at dksJ3_newCapacity_2 14 rfl rfl)
def dkwJ3_size_0 : List UInt8 := [42, 180, 0, 20, 42, 180, 0, 24, 42, 180, 0, 3, 190, 184, 0, 127, 172]
abbrev dktJ3_size_0 : List UInt8 := dkwJ3_size_0 ++ []
theorem dksJ3_size_0 : cJ3_size.data.toList.drop 0 = dktJ3_size_0 := by decide +kernel
theorem dJ3_size_0 : decode cJ3_size 0 = .ok (.aload_n 0, 1) := dk_42 (dk_at dksJ3_size_0 0 rfl rfl)
theorem dJ3_size_1 : decode cJ3_size 1 = .ok (.getfield 20, 3) := dk_180 0 20 (dk_at dksJ3_size_0 1 rfl rfl)
theorem dJ3_size_4 : decode cJ3_size 4 = .ok (.aload_n 0, 1) := dk_42 (dk_at dksJ3_size_0 4 rfl rfl)
theorem dJ3_size_5 : decode cJ3_size 5 = .ok (.getfield 24, 3) := dk_180 0 24 (dk_at dksJ3_size_0 5 rfl rfl)
theorem dJ3_size_8 : decode cJ3_size 8 = .ok (.aload_n 0, 1) := dk_42 (dk_at dksJ3_size_0 8 rfl rfl)
theorem dJ3_size_9 : decode cJ3_size 9 = .ok (.getfield 3, 3) := dk_180 0 3 (dk_at dksJ3_size_0 9 rfl rfl)
theorem dJ3_size_12 : decode cJ3_size 12 = .ok (.arraylength, 1) := dk_190 (dk_at dksJ3_size_0 12 rfl rfl)
theorem dJ3_size_13 : decode cJ3_size 13 = .ok (.invokestatic 127, 3) := dk_184 0 127 (dk_at dksJ3_size_0 13 rfl rfl)
theorem dJ3_size_16 : decode cJ3_size 16 = .ok (.ireturn, 1) := dk_172 (dk_at dksJ3_size_0 16 rfl rfl)
def dkwJ3_sub_0 : List UInt8 := [26, 27, 100, 89, 59, 156, 0, 7, 26, 28, 96, 59, 26, 172]
abbrev dktJ3_sub_0 : List UInt8 := dkwJ3_sub_0 ++ []
theorem dksJ3_sub_0 : cJ3_sub.data.toList.drop 0 = dktJ3_sub_0 := by decide +kernel
theorem dJ3_sub_0 : decode cJ3_sub 0 = .ok (.iload_n 0, 1) := dk_26 (dk_at dksJ3_sub_0 0 rfl rfl)
theorem dJ3_sub_1 : decode cJ3_sub 1 = .ok (.iload_n 1, 1) := dk_27 (dk_at dksJ3_sub_0 1 rfl rfl)
theorem dJ3_sub_2 : decode cJ3_sub 2 = .ok (.isub, 1) := dk_100 (dk_at dksJ3_sub_0 2 rfl rfl)
theorem dJ3_sub_3 : decode cJ3_sub 3 = .ok (.dup, 1) := dk_89 (dk_at dksJ3_sub_0 3 rfl rfl)
theorem dJ3_sub_4 : decode cJ3_sub 4 = .ok (.istore_n 0, 1) := dk_59 (dk_at dksJ3_sub_0 4 rfl rfl)
theorem dJ3_sub_5 : decode cJ3_sub 5 = .ok (.ifCond .ge 7, 3) := dk_156 0 7 (dk_at dksJ3_sub_0 5 rfl rfl)
theorem dJ3_sub_8 : decode cJ3_sub 8 = .ok (.iload_n 0, 1) := dk_26 (dk_at dksJ3_sub_0 8 rfl rfl)
theorem dJ3_sub_9 : decode cJ3_sub 9 = .ok (.iload_n 2, 1) := dk_28 (dk_at dksJ3_sub_0 9 rfl rfl)
theorem dJ3_sub_10 : decode cJ3_sub 10 = .ok (.iadd, 1) := dk_96 (dk_at dksJ3_sub_0 10 rfl rfl)
theorem dJ3_sub_11 : decode cJ3_sub 11 = .ok (.istore_n 0, 1) := dk_59 (dk_at dksJ3_sub_0 11 rfl rfl)
theorem dJ3_sub_12 : decode cJ3_sub 12 = .ok (.iload_n 0, 1) := dk_26 (dk_at dksJ3_sub_0 12 rfl rfl)
theorem dJ3_sub_13 : decode cJ3_sub 13 = .ok (.ireturn, 1) := dk_172 (dk_at dksJ3_sub_0 13 rfl rfl)
def dkwJ3_removeFirst_0 : List UInt8 := [42, 182, 0, 93, 76, 43, 199, 0, 11, 187, 0, 97, 89, 183, 0, 99, 191, 43, 176]
abbrev dktJ3_removeFirst_0 : List UInt8 := dkwJ3_removeFirst_0 ++ []
theorem dksJ3_removeFirst_0 : cJ3_removeFirst.data.toList.drop 0 = dktJ3_removeFirst_0 := by decide +kernel
theorem dJ3_removeFirst_0 : decode cJ3_removeFirst 0 = .ok (.aload_n 0, 1) := dk_42 (dk_at dksJ3_removeFirst_0 0 rfl rfl)
theorem dJ3_removeFirst_1 : decode cJ3_removeFirst 1 = .ok (.invokevirtual 93, 3) := dk_182 0 93 (dk_at dksJ3_removeFirst_0 1 rfl rfl)
theorem dJ3_removeFirst_4 : decode cJ3_removeFirst 4 = .ok (.astore_n 1, 1) := dk_76 (dk_at dksJ3_removeFirst_0 4 rfl rfl)
theorem dJ3_removeFirst_5 : decode cJ3_removeFirst 5 = .ok (.aload_n 1, 1) := dk_43 (dk_at dksJ3_removeFirst_0 5 rfl rfl)
theorem dJ3_removeFirst_6 : decode cJ3_removeFirst 6 = .ok (.ifnonnull 11, 3) := dk_199 0 11 (dk_at dksJ3_removeFirst_0 6 rfl rfl)
theorem dJ3_removeFirst_9 : decode cJ3_removeFirst 9 = .ok (.new 97, 3) := dk_187 0 97 (dk_at dksJ3_removeFirst_0 9 rfl rfl)
theorem dJ3_removeFirst_12 : decode cJ3_removeFirst 12 = .ok (.dup, 1) := dk_89 (dk_at dksJ3_removeFirst_0 12 rfl rfl)
theorem dJ3_removeFirst_13 : decode cJ3_removeFirst 13 = .ok (.invokespecial 99, 3) := dk_183 0 99 (dk_at dksJ3_removeFirst_0 13 rfl rfl)
theorem dJ3_removeFirst_16 : decode cJ3_removeFirst 16 = .ok (.athrow, 1) := dk_191 (dk_at dksJ3_removeFirst_0 16 rfl rfl)
theorem dJ3_removeFirst_17 : decode cJ3_removeFirst 17 = .ok (.aload_n 1, 1) := dk_43 (dk_at dksJ3_removeFirst_0 17 rfl rfl)
theorem dJ3_removeFirst_18 : decode cJ3_removeFirst 18 = .ok (.areturn, 1) := dk_176 (dk_at dksJ3_removeFirst_0 18 rfl rfl)
def dkwJ3_pollFirst_1 : List UInt8 := [42, 28, 43, 190, 184, 0, 74, 181, 0, 24, 45, 176]
abbrev dktJ3_pollFirst_1 : List UInt8 := dkwJ3_pollFirst_1 ++ []
def dkwJ3_pollFirst_0 : List UInt8 := [42, 180, 0, 3, 89, 76, 42, 180, 0, 24, 89, 61, 184, 0, 103, 78, 45, 198, 0, 17, 43, 28, 1, 83]
abbrev dktJ3_pollFirst_0 : List UInt8 := dkwJ3_pollFirst_0 ++ dktJ3_pollFirst_1
theorem dksJ3_pollFirst_0 : cJ3_pollFirst.data.toList.drop 0 = dktJ3_pollFirst_0 := by decide +kernel
theorem dksJ3_pollFirst_1 : cJ3_pollFirst.data.toList.drop 24 = dktJ3_pollFirst_1 := dk_seg dksJ3_pollFirst_0 24 rfl rfl
theorem dJ3_pollFirst_0 : decode cJ3_pollFirst 0 = .ok (.aload_n 0, 1) := dk_42 (dk_at dksJ3_pollFirst_0 0 rfl rfl)
theorem dJ3_pollFirst_1 : decode cJ3_pollFirst 1 = .ok (.getfield 3, 3) := dk_180 0 3 (dk_at dksJ3_pollFirst_0 1 rfl rfl)
theorem dJ3_pollFirst_4 : decode cJ3_pollFirst 4 = .ok (.dup, 1) := dk_89 (dk_at dksJ3_pollFirst_0 4 rfl rfl)
theorem dJ3_pollFirst_5 : decode cJ3_pollFirst 5 = .ok (.astore_n 1, 1) := dk_76 (dk_at dksJ3_pollFirst_0 5 rfl rfl)
theorem dJ3_pollFirst_6 : decode cJ3_pollFirst 6 = .ok (.aload_n 0, 1) := dk_42 (dk_at dksJ3_pollFirst_0 6 rfl rfl)
theorem dJ3_pollFirst_7 : decode cJ3_pollFirst 7 = .ok (.getfield 24, 3) := dk_180 0 24 (dk_at dksJ3_pollFirst_0 7 rfl rfl)
theorem dJ3_pollFirst_10 : decode cJ3_pollFirst 10 = .ok (.dup, 1) := dk_89 (dk_at dksJ3_pollFirst_0 10 rfl rfl)
theorem dJ3_pollFirst_11 : decode cJ3_pollFirst 11 = .ok (.istore_n 2, 1) := dk_61 (dk_at dksJ3_pollFirst_0 11 rfl rfl)
theorem dJ3_pollFirst_12 : decode cJ3_pollFirst 12 = .ok (.invokestatic 103, 3) := dk_184 0 103 (dk_at dksJ3_pollFirst_0 12 rfl rfl)
theorem dJ3_pollFirst_15 : decode cJ3_pollFirst 15 = .ok (.astore_n 3, 1) := dk_78 (dk_at dksJ3_pollFirst_0 15 rfl rfl)
theorem dJ3_pollFirst_16 : decode cJ3_pollFirst 16 = .ok (.aload_n 3, 1) := dk_45 (dk_at dksJ3_pollFirst_0 16 rfl rfl)
theorem dJ3_pollFirst_17 : decode cJ3_pollFirst 17 = .ok (.ifnull 17, 3) := dk_198 0 17 (dk_at dksJ3_pollFirst_0 17 rfl rfl)
theorem dJ3_pollFirst_20 : decode cJ3_pollFirst 20 = .ok (.aload_n 1, 1) := dk_43 (dk_at dksJ3_pollFirst_0 20 rfl rfl)
theorem dJ3_pollFirst_21 : decode cJ3_pollFirst 21 = .ok (.iload_n 2, 1) := dk_28 (dk_at dksJ3_pollFirst_0 21 rfl rfl)
theorem dJ3_pollFirst_22 : decode cJ3_pollFirst 22 = .ok (.aconst_null, 1) := dk_1 (dk_at dksJ3_pollFirst_0 22 rfl rfl)
theorem dJ3_pollFirst_23 : decode cJ3_pollFirst 23 = .ok (.aastore, 1) := dk_83 (dk_at dksJ3_pollFirst_0 23 rfl rfl)
theorem dJ3_pollFirst_24 : decode cJ3_pollFirst 24 = .ok (.aload_n 0, 1) := dk_42 (dk_at dksJ3_pollFirst_1 0 rfl rfl)
theorem dJ3_pollFirst_25 : decode cJ3_pollFirst 25 = .ok (.iload_n 2, 1) := dk_28 (dk_at dksJ3_pollFirst_1 1 rfl rfl)
theorem dJ3_pollFirst_26 : decode cJ3_pollFirst 26 = .ok (.aload_n 1, 1) := dk_43 (dk_at dksJ3_pollFirst_1 2 rfl rfl)
theorem dJ3_pollFirst_27 : decode cJ3_pollFirst 27 = .ok (.arraylength, 1) := dk_190 (dk_at dksJ3_pollFirst_1 3 rfl rfl)
theorem dJ3_pollFirst_28 : decode cJ3_pollFirst 28 = .ok (.invokestatic 74, 3) := dk_184 0 74 (dk_at dksJ3_pollFirst_1 4 rfl rfl)
theorem dJ3_pollFirst_31 : decode cJ3_pollFirst 31 = .ok (.putfield 24, 3) := dk_181 0 24 (dk_at dksJ3_pollFirst_1 7 rfl rfl)
theorem dJ3_pollFirst_34 : decode cJ3_pollFirst 34 = .ok (.aload_n 3, 1) := dk_45 (dk_at dksJ3_pollFirst_1 10 rfl rfl)
theorem dJ3_pollFirst_35 : decode cJ3_pollFirst 35 = .ok (.areturn, 1) := dk_176 (dk_at dksJ3_pollFirst_1 11 rfl rfl)
def dkwJ3_elementAt_0 : List UInt8 := [42, 27, 50, 176]
abbrev dktJ3_elementAt_0 : List UInt8 := dkwJ3_elementAt_0 ++ []
theorem dksJ3_elementAt_0 : cJ3_elementAt.data.toList.drop 0 = dktJ3_elementAt_0 := by decide +kernel
theorem dJ3_elementAt_0 : decode cJ3_elementAt 0 = .ok (.aload_n 0, 1) := dk_42 (dk_at dksJ3_elementAt_0 0 rfl rfl)
theorem dJ3_elementAt_1 : decode cJ3_elementAt 1 = .ok (.iload_n 1, 1) := dk_27 (dk_at dksJ3_elementAt_0 1 rfl rfl)
theorem dJ3_elementAt_2 : decode cJ3_elementAt 2 = .ok (.aaload, 1) := dk_50 (dk_at dksJ3_elementAt_0 2 rfl rfl)
theorem dJ3_elementAt_3 : decode cJ3_elementAt 3 = .ok (.areturn, 1) := dk_176 (dk_at dksJ3_elementAt_0 3 rfl rfl)
def dkwJ3_isEmpty_0 : List UInt8 := [42, 180, 0, 24, 42, 180, 0, 20, 160, 0, 7, 4, 167, 0, 4, 3, 172]
abbrev dktJ3_isEmpty_0 : List UInt8 := dkwJ3_isEmpty_0 ++ []
theorem dksJ3_isEmpty_0 : cJ3_isEmpty.data.toList.drop 0 = dktJ3_isEmpty_0 := by decide +kernel
theorem dJ3_isEmpty_0 : decode cJ3_isEmpty 0 = .ok (.aload_n 0, 1) := dk_42 (dk_at dksJ3_isEmpty_0 0 rfl rfl)
theorem dJ3_isEmpty_1 : decode cJ3_isEmpty 1 = .ok (.getfield 24, 3) := dk_180 0 24 (dk_at dksJ3_isEmpty_0 1 rfl rfl)
theorem dJ3_isEmpty_4 : decode cJ3_isEmpty 4 = .ok (.aload_n 0, 1) := dk_42 (dk_at dksJ3_isEmpty_0 4 rfl rfl)
theorem dJ3_isEmpty_5 : decode cJ3_isEmpty 5 = .ok (.getfield 20, 3) := dk_180 0 20 (dk_at dksJ3_isEmpty_0 5 rfl rfl)
theorem dJ3_isEmpty_8 : decode cJ3_isEmpty 8 = .ok (.if_icmp .ne 7, 3) := dk_160 0 7 (dk_at dksJ3_isEmpty_0 8 rfl rfl)
theorem dJ3_isEmpty_11 : decode cJ3_isEmpty 11 = .ok (.iconst 1, 1) := dk_4 (dk_at dksJ3_isEmpty_0 11 rfl rfl)
theorem dJ3_isEmpty_12 : decode cJ3_isEmpty 12 = .ok (.goto 4, 3) := dk_167 0 4 (dk_at dksJ3_isEmpty_0 12 rfl rfl)
theorem dJ3_isEmpty_15 : decode cJ3_isEmpty 15 = .ok (.iconst 0, 1) := dk_3 (dk_at dksJ3_isEmpty_0 15 rfl rfl)
theorem dJ3_isEmpty_16 : decode cJ3_isEmpty 16 = .ok (.ireturn, 1) := dk_172 (dk_at dksJ3_isEmpty_0 16 rfl rfl)
def dkwJ3_removeLast_0 : List UInt8 := [42, 182, 0, 100, 76, 43, 199, 0, 11, 187, 0, 97, 89, 183, 0, 99, 191, 43, 176]
abbrev dktJ3_removeLast_0 : List UInt8 := dkwJ3_removeLast_0 ++ []
theorem dksJ3_removeLast_0 : cJ3_removeLast.data.toList.drop 0 = dktJ3_removeLast_0 := by decide +kernel
theorem dJ3_removeLast_0 : decode cJ3_removeLast 0 = .ok (.aload_n 0, 1) := dk_42 (dk_at dksJ3_removeLast_0 0 rfl rfl)
theorem dJ3_removeLast_1 : decode cJ3_removeLast 1 = .ok (.invokevirtual 100, 3) := dk_182 0 100 (dk_at dksJ3_removeLast_0 1 rfl rfl)
theorem dJ3_removeLast_4 : decode cJ3_removeLast 4 = .ok (.astore_n 1, 1) := dk_76 (dk_at dksJ3_removeLast_0 4 rfl rfl)
theorem dJ3_removeLast_5 : decode cJ3_removeLast 5 = .ok (.aload_n 1, 1) := dk_43 (dk_at dksJ3_removeLast_0 5 rfl rfl)
theorem dJ3_removeLast_6 : decode cJ3_removeLast 6 = .ok (.ifnonnull 11, 3) := dk_199 0 11 (dk_at dksJ3_removeLast_0 6 rfl rfl)
theorem dJ3_removeLast_9 : decode cJ3_removeLast 9 = .ok (.new 97, 3) := dk_187 0 97 (dk_at dksJ3_removeLast_0 9 rfl rfl)
theorem dJ3_removeLast_12 : decode cJ3_removeLast 12 = .ok (.dup, 1) := dk_89 (dk_at dksJ3_removeLast_0 12 rfl rfl)
theorem dJ3_removeLast_13 : decode cJ3_removeLast 13 = .ok (.invokespecial 99, 3) := dk_183 0 99 (dk_at dksJ3_removeLast_0 13 rfl rfl)
theorem dJ3_removeLast_16 : decode cJ3_removeLast 16 = .ok (.athrow, 1) := dk_191 (dk_at dksJ3_removeLast_0 16 rfl rfl)
theorem dJ3_removeLast_17 : decode cJ3_removeLast 17 = .ok (.aload_n 1, 1) := dk_43 (dk_at dksJ3_removeLast_0 17 rfl rfl)
theorem dJ3_removeLast_18 : decode cJ3_removeLast 18 = .ok (.areturn, 1) := dk_176 (dk_at dksJ3_removeLast_0 18 rfl rfl)
def dkwJ3_pollLast_1 : List UInt8 := [198, 0, 12, 43, 42, 28, 90, 181, 0, 20, 1, 83, 45, 176]
abbrev dktJ3_pollLast_1 : List UInt8 := dkwJ3_pollLast_1 ++ []
def dkwJ3_pollLast_0 : List UInt8 := [42, 180, 0, 3, 89, 76, 42, 180, 0, 20, 43, 190, 184, 0, 68, 89, 61, 184, 0, 103, 78, 45]
abbrev dktJ3_pollLast_0 : List UInt8 := dkwJ3_pollLast_0 ++ dktJ3_pollLast_1
theorem dksJ3_pollLast_0 : cJ3_pollLast.data.toList.drop 0 = dktJ3_pollLast_0 := by decide +kernel
theorem dksJ3_pollLast_1 : cJ3_pollLast.data.toList.drop 22 = dktJ3_pollLast_1 := dk_seg dksJ3_pollLast_0 22 rfl rfl
theorem dJ3_pollLast_0 : decode cJ3_pollLast 0 = .ok (.aload_n 0, 1) := dk_42 (dk_at dksJ3_pollLast_0 0 rfl rfl)
theorem dJ3_pollLast_1 : decode cJ3_pollLast 1 = .ok (.getfield 3, 3) := dk_180 0 3 (dk_at dksJ3_pollLast_0 1 rfl rfl)
theorem dJ3_pollLast_4 : decode cJ3_pollLast 4 = .ok (.dup, 1) := dk_89 (dk_at dksJ3_pollLast_0 4 rfl rfl)
theorem dJ3_pollLast_5 : decode cJ3_pollLast 5 = .ok (.astore_n 1, 1) := dk_76 (dk_at dksJ3_pollLast_0 5 rfl rfl)
theorem dJ3_pollLast_6 : decode cJ3_pollLast 6 = .ok (.aload_n 0, 1) := dk_42 (dk_at dksJ3_pollLast_0 6 rfl rfl)
theorem dJ3_pollLast_7 : decode cJ3_pollLast 7 = .ok (.getfield 20, 3) := dk_180 0 20 (dk_at dksJ3_pollLast_0 7 rfl rfl)
theorem dJ3_pollLast_10 : decode cJ3_pollLast 10 = .ok (.aload_n 1, 1) := dk_43 (dk_at dksJ3_pollLast_0 10 rfl rfl)
theorem dJ3_pollLast_11 : decode cJ3_pollLast 11 = .ok (.arraylength, 1) := dk_190 (dk_at dksJ3_pollLast_0 11 rfl rfl)
theorem dJ3_pollLast_12 : decode cJ3_pollLast 12 = .ok (.invokestatic 68, 3) := dk_184 0 68 (dk_at dksJ3_pollLast_0 12 rfl rfl)
theorem dJ3_pollLast_15 : decode cJ3_pollLast 15 = .ok (.dup, 1) := dk_89 (dk_at dksJ3_pollLast_0 15 rfl rfl)
theorem dJ3_pollLast_16 : decode cJ3_pollLast 16 = .ok (.istore_n 2, 1) := dk_61 (dk_at dksJ3_pollLast_0 16 rfl rfl)
theorem dJ3_pollLast_17 : decode cJ3_pollLast 17 = .ok (.invokestatic 103, 3) := dk_184 0 103 (dk_at dksJ3_pollLast_0 17 rfl rfl)
theorem dJ3_pollLast_20 : decode cJ3_pollLast 20 = .ok (.astore_n 3, 1) := dk_78 (dk_at dksJ3_pollLast_0 20 rfl rfl)
theorem dJ3_pollLast_21 : decode cJ3_pollLast 21 = .ok (.aload_n 3, 1) := dk_45 (dk_at dksJ3_pollLast_0 21 rfl rfl)
theorem dJ3_pollLast_22 : decode cJ3_pollLast 22 = .ok (.ifnull 12, 3) := dk_198 0 12 (dk_at dksJ3_pollLast_1 0 rfl rfl)
theorem dJ3_pollLast_25 : decode cJ3_pollLast 25 = .ok (.aload_n 1, 1) := dk_43 (dk_at dksJ3_pollLast_1 3 rfl rfl)
theorem dJ3_pollLast_26 : decode cJ3_pollLast 26 = .ok (.aload_n 0, 1) := dk_42 (dk_at dksJ3_pollLast_1 4 rfl rfl)
theorem dJ3_pollLast_27 : decode cJ3_pollLast 27 = .ok (.iload_n 2, 1) := dk_28 (dk_at dksJ3_pollLast_1 5 rfl rfl)
theorem dJ3_pollLast_28 : decode cJ3_pollLast 28 = .ok (.dup_x1, 1) := dk_90 (dk_at dksJ3_pollLast_1 6 rfl rfl)
theorem dJ3_pollLast_29 : decode cJ3_pollLast 29 = .ok (.putfield 20, 3) := dk_181 0 20 (dk_at dksJ3_pollLast_1 7 rfl rfl)
theorem dJ3_pollLast_32 : decode cJ3_pollLast 32 = .ok (.aconst_null, 1) := dk_1 (dk_at dksJ3_pollLast_1 10 rfl rfl)
theorem dJ3_pollLast_33 : decode cJ3_pollLast 33 = .ok (.aastore, 1) := dk_83 (dk_at dksJ3_pollLast_1 11 rfl rfl)
theorem dJ3_pollLast_34 : decode cJ3_pollLast 34 = .ok (.aload_n 3, 1) := dk_45 (dk_at dksJ3_pollLast_1 12 rfl rfl)
theorem dJ3_pollLast_35 : decode cJ3_pollLast 35 = .ok (.areturn, 1) := dk_176 (dk_at dksJ3_pollLast_1 13 rfl rfl)
def dkwJ3_dec_0 : List UInt8 := [132, 0, 255, 26, 156, 0, 7, 27, 4, 100, 59, 26, 172]
abbrev dktJ3_dec_0 : List UInt8 := dkwJ3_dec_0 ++ []
theorem dksJ3_dec_0 : cJ3_dec.data.toList.drop 0 = dktJ3_dec_0 := by decide +kernel
theorem dJ3_dec_0 : decode cJ3_dec 0 = .ok (.iinc 0 (-1), 3) := dk_132 0 255 (dk_at dksJ3_dec_0 0 rfl rfl)
theorem dJ3_dec_3 : decode cJ3_dec 3 = .ok (.iload_n 0, 1) := dk_26 (dk_at dksJ3_dec_0 3 rfl rfl)
theorem dJ3_dec_4 : decode cJ3_dec 4 = .ok (.ifCond .ge 7, 3) := dk_156 0 7 (dk_at dksJ3_dec_0 4 rfl rfl)
theorem dJ3_dec_7 : decode cJ3_dec 7 = .ok (.iload_n 1, 1) := dk_27 (dk_at dksJ3_dec_0 7 rfl rfl)
theorem dJ3_dec_8 : decode cJ3_dec 8 = .ok (.iconst 1, 1) := dk_4 (dk_at dksJ3_dec_0 8 rfl rfl)
theorem dJ3_dec_9 : decode cJ3_dec 9 = .ok (.isub, 1) := dk_100 (dk_at dksJ3_dec_0 9 rfl rfl)
theorem dJ3_dec_10 : decode cJ3_dec 10 = .ok (.istore_n 0, 1) := dk_59 (dk_at dksJ3_dec_0 10 rfl rfl)
theorem dJ3_dec_11 : decode cJ3_dec 11 = .ok (.iload_n 0, 1) := dk_26 (dk_at dksJ3_dec_0 11 rfl rfl)
theorem dJ3_dec_12 : decode cJ3_dec 12 = .ok (.ireturn, 1) := dk_172 (dk_at dksJ3_dec_0 12 rfl rfl)
def dkwJ8_checkIndex_0 : List UInt8 := [26, 27, 1, 184, 0, 105, 172]
abbrev dktJ8_checkIndex_0 : List UInt8 := dkwJ8_checkIndex_0 ++ []
theorem dksJ8_checkIndex_0 : cJ8_checkIndex.data.toList.drop 0 = dktJ8_checkIndex_0 := by decide +kernel
theorem dJ8_checkIndex_0 : decode cJ8_checkIndex 0 = .ok (.iload_n 0, 1) := dk_26 (dk_at dksJ8_checkIndex_0 0 rfl rfl)
theorem dJ8_checkIndex_1 : decode cJ8_checkIndex 1 = .ok (.iload_n 1, 1) := dk_27 (dk_at dksJ8_checkIndex_0 1 rfl rfl)
theorem dJ8_checkIndex_2 : decode cJ8_checkIndex 2 = .ok (.aconst_null, 1) := dk_1 (dk_at dksJ8_checkIndex_0 2 rfl rfl)
theorem dJ8_checkIndex_3 : decode cJ8_checkIndex 3 = .ok (.invokestatic 105, 3) := dk_184 0 105 (dk_at dksJ8_checkIndex_0 3 rfl rfl)
theorem dJ8_checkIndex_6 : decode cJ8_checkIndex 6 = .ok (.ireturn, 1) := dk_172 (dk_at dksJ8_checkIndex_0 6 rfl rfl)
def dkwJ9_checkIndex_0 : List UInt8 := [26, 155, 0, 8, 26, 27, 161, 0, 10, 44, 26, 27, 184, 0, 95, 191, 26, 172]
abbrev dktJ9_checkIndex_0 : List UInt8 := dkwJ9_checkIndex_0 ++ []
theorem dksJ9_checkIndex_0 : cJ9_checkIndex.data.toList.drop 0 = dktJ9_checkIndex_0 := by decide +kernel
theorem dJ9_checkIndex_0 : decode cJ9_checkIndex 0 = .ok (.iload_n 0, 1) := dk_26 (dk_at dksJ9_checkIndex_0 0 rfl rfl)
theorem dJ9_checkIndex_1 : decode cJ9_checkIndex 1 = .ok (.ifCond .lt 8, 3) := dk_155 0 8 (dk_at dksJ9_checkIndex_0 1 rfl rfl)
theorem dJ9_checkIndex_4 : decode cJ9_checkIndex 4 = .ok (.iload_n 0, 1) := dk_26 (dk_at dksJ9_checkIndex_0 4 rfl rfl)
theorem dJ9_checkIndex_5 : decode cJ9_checkIndex 5 = .ok (.iload_n 1, 1) := dk_27 (dk_at dksJ9_checkIndex_0 5 rfl rfl)
theorem dJ9_checkIndex_6 : decode cJ9_checkIndex 6 = .ok (.if_icmp .lt 10, 3) := dk_161 0 10 (dk_at dksJ9_checkIndex_0 6 rfl rfl)
theorem dJ9_checkIndex_9 : decode cJ9_checkIndex 9 = .ok (.aload_n 2, 1) := dk_44 (dk_at dksJ9_checkIndex_0 9 rfl rfl)
theorem dJ9_checkIndex_10 : decode cJ9_checkIndex 10 = .ok (.iload_n 0, 1) := dk_26 (dk_at dksJ9_checkIndex_0 10 rfl rfl)
theorem dJ9_checkIndex_11 : decode cJ9_checkIndex 11 = .ok (.iload_n 1, 1) := dk_27 (dk_at dksJ9_checkIndex_0 11 rfl rfl)
theorem dJ9_checkIndex_12 : decode cJ9_checkIndex 12 = .ok (.invokestatic 95, 3) := dk_184 0 95 (dk_at dksJ9_checkIndex_0 12 rfl rfl)
theorem dJ9_checkIndex_15 : decode cJ9_checkIndex 15 = .ok (.athrow, 1) := dk_191 (dk_at dksJ9_checkIndex_0 15 rfl rfl)
theorem dJ9_checkIndex_16 : decode cJ9_checkIndex 16 = .ok (.iload_n 0, 1) := dk_26 (dk_at dksJ9_checkIndex_0 16 rfl rfl)
theorem dJ9_checkIndex_17 : decode cJ9_checkIndex 17 = .ok (.ireturn, 1) := dk_172 (dk_at dksJ9_checkIndex_0 17 rfl rfl)
def dkwJ9_checkFromIndexSize_1 : List UInt8 := [172]
abbrev dktJ9_checkFromIndexSize_1 : List UInt8 := dkwJ9_checkFromIndexSize_1 ++ []
def dkwJ9_checkFromIndexSize_0 : List UInt8 := [28, 26, 128, 27, 128, 155, 0, 10, 27, 28, 26, 100, 164, 0, 11, 45, 26, 27, 28, 184, 0, 103, 191, 26]
abbrev dktJ9_checkFromIndexSize_0 : List UInt8 := dkwJ9_checkFromIndexSize_0 ++ dktJ9_checkFromIndexSize_1
theorem dksJ9_checkFromIndexSize_0 : cJ9_checkFromIndexSize.data.toList.drop 0 = dktJ9_checkFromIndexSize_0 := by decide +kernel
theorem dksJ9_checkFromIndexSize_1 : cJ9_checkFromIndexSize.data.toList.drop 24 = dktJ9_checkFromIndexSize_1 := dk_seg dksJ9_checkFromIndexSize_0 24 rfl rfl
theorem dJ9_checkFromIndexSize_0 : decode cJ9_checkFromIndexSize 0 = .ok (.iload_n 2, 1) := dk_28 (dk_at dksJ9_checkFromIndexSize_0 0 rfl rfl)
theorem dJ9_checkFromIndexSize_1 : decode cJ9_checkFromIndexSize 1 = .ok (.iload_n 0, 1) := dk_26 (dk_at dksJ9_checkFromIndexSize_0 1 rfl rfl)
theorem dJ9_checkFromIndexSize_2 : decode cJ9_checkFromIndexSize 2 = .ok (.ior, 1) := dk_128 (dk_at dksJ9_checkFromIndexSize_0 2 rfl rfl)
theorem dJ9_checkFromIndexSize_3 : decode cJ9_checkFromIndexSize 3 = .ok (.iload_n 1, 1) := dk_27 (dk_at dksJ9_checkFromIndexSize_0 3 rfl rfl)
theorem dJ9_checkFromIndexSize_4 : decode cJ9_checkFromIndexSize 4 = .ok (.ior, 1) := dk_128 (dk_at dksJ9_checkFromIndexSize_0 4 rfl rfl)
theorem dJ9_checkFromIndexSize_5 : decode cJ9_checkFromIndexSize 5 = .ok (.ifCond .lt 10, 3) := dk_155 0 10 (dk_at dksJ9_checkFromIndexSize_0 5 rfl rfl)
theorem dJ9_checkFromIndexSize_8 : decode cJ9_checkFromIndexSize 8 = .ok (.iload_n 1, 1) := dk_27 (dk_at dksJ9_checkFromIndexSize_0 8 rfl rfl)
theorem dJ9_checkFromIndexSize_9 : decode cJ9_checkFromIndexSize 9 = .ok (.iload_n 2, 1) := dk_28 (dk_at dksJ9_checkFromIndexSize_0 9 rfl rfl)
theorem dJ9_checkFromIndexSize_10 : decode cJ9_checkFromIndexSize 10 = .ok (.iload_n 0, 1) := dk_26 (dk_at dksJ9_checkFromIndexSize_0 10 rfl rfl)
theorem dJ9_checkFromIndexSize_11 : decode cJ9_checkFromIndexSize 11 = .ok (.isub, 1) := dk_100 (dk_at dksJ9_checkFromIndexSize_0 11 rfl rfl)
theorem dJ9_checkFromIndexSize_12 : decode cJ9_checkFromIndexSize 12 = .ok (.if_icmp .le 11, 3) := dk_164 0 11 (dk_at dksJ9_checkFromIndexSize_0 12 rfl rfl)
theorem dJ9_checkFromIndexSize_15 : decode cJ9_checkFromIndexSize 15 = .ok (.aload_n 3, 1) := dk_45 (dk_at dksJ9_checkFromIndexSize_0 15 rfl rfl)
theorem dJ9_checkFromIndexSize_16 : decode cJ9_checkFromIndexSize 16 = .ok (.iload_n 0, 1) := dk_26 (dk_at dksJ9_checkFromIndexSize_0 16 rfl rfl)
theorem dJ9_checkFromIndexSize_17 : decode cJ9_checkFromIndexSize 17 = .ok (.iload_n 1, 1) := dk_27 (dk_at dksJ9_checkFromIndexSize_0 17 rfl rfl)
theorem dJ9_checkFromIndexSize_18 : decode cJ9_checkFromIndexSize 18 = .ok (.iload_n 2, 1) := dk_28 (dk_at dksJ9_checkFromIndexSize_0 18 rfl rfl)
theorem dJ9_checkFromIndexSize_19 : decode cJ9_checkFromIndexSize 19 = .ok (.invokestatic 103, 3) := dk_184 0 103 (dk_at dksJ9_checkFromIndexSize_0 19 rfl rfl)
theorem dJ9_checkFromIndexSize_22 : decode cJ9_checkFromIndexSize 22 = .ok (.athrow, 1) := dk_191 (dk_at dksJ9_checkFromIndexSize_0 22 rfl rfl)
theorem dJ9_checkFromIndexSize_23 : decode cJ9_checkFromIndexSize 23 = .ok (.iload_n 0, 1) := dk_26 (dk_at dksJ9_checkFromIndexSize_0 23 rfl rfl)
theorem dJ9_checkFromIndexSize_24 : decode cJ9_checkFromIndexSize 24 = .ok (.ireturn, 1) := dk_172 (dk_at dksJ9_checkFromIndexSize_1 0 rfl rfl)
