set_option maxRecDepth 100000
def dkwJ16_canEncode_0 : List UInt8 := [26, 17, 0, 255, 163, 0, 7, 4, 167, 0, 4, 3, 172]
abbrev dktJ16_canEncode_0 : List UInt8 := dkwJ16_canEncode_0 ++ []
theorem dksJ16_canEncode_0 : cJ16_canEncode.data.toList.drop 0 = dktJ16_canEncode_0 := by decide +kernel
theorem dJ16_canEncode_0 : decode cJ16_canEncode 0 = .ok (.iload_n 0, 1) := dk_26 (dk_at dksJ16_canEncode_0 0 rfl rfl)
theorem dJ16_canEncode_1 : decode cJ16_canEncode 1 = .ok (.sipush 255, 3) := dk_17 0 255 (dk_at dksJ16_canEncode_0 1 rfl rfl)
theorem dJ16_canEncode_4 : decode cJ16_canEncode 4 = .ok (.if_icmp .gt 7, 3) := dk_163 0 7 (dk_at dksJ16_canEncode_0 4 rfl rfl)
theorem dJ16_canEncode_7 : decode cJ16_canEncode 7 = .ok (.iconst 1, 1) := dk_4 (dk_at dksJ16_canEncode_0 7 rfl rfl)
theorem dJ16_canEncode_8 : decode cJ16_canEncode 8 = .ok (.goto 4, 3) := dk_167 0 4 (dk_at dksJ16_canEncode_0 8 rfl rfl)
theorem dJ16_canEncode_11 : decode cJ16_canEncode 11 = .ok (.iconst 0, 1) := dk_3 (dk_at dksJ16_canEncode_0 11 rfl rfl)
theorem dJ16_canEncode_12 : decode cJ16_canEncode 12 = .ok (.ireturn, 1) := dk_172 (dk_at dksJ16_canEncode_0 12 rfl rfl)
def dkwJ16_inflate_0 : List UInt8 := [42, 27, 44, 29, 21, 4, 184, 0, 240, 177]
abbrev dktJ16_inflate_0 : List UInt8 := dkwJ16_inflate_0 ++ []
theorem dksJ16_inflate_0 : cJ16_inflate.data.toList.drop 0 = dktJ16_inflate_0 := by decide +kernel
theorem dJ16_inflate_0 : decode cJ16_inflate 0 = .ok (.aload_n 0, 1) := dk_42 (dk_at dksJ16_inflate_0 0 rfl rfl)
theorem dJ16_inflate_1 : decode cJ16_inflate 1 = .ok (.iload_n 1, 1) := dk_27 (dk_at dksJ16_inflate_0 1 rfl rfl)
theorem dJ16_inflate_2 : decode cJ16_inflate 2 = .ok (.aload_n 2, 1) := dk_44 (dk_at dksJ16_inflate_0 2 rfl rfl)
theorem dJ16_inflate_3 : decode cJ16_inflate 3 = .ok (.iload_n 3, 1) := dk_29 (dk_at dksJ16_inflate_0 3 rfl rfl)
theorem dJ16_inflate_4 : decode cJ16_inflate 4 = .ok (.iload 4, 2) := dk_21 4 (dk_at dksJ16_inflate_0 4 rfl rfl)
theorem dJ16_inflate_6 : decode cJ16_inflate 6 = .ok (.invokestatic 240, 3) := dk_184 0 240 (dk_at dksJ16_inflate_0 6 rfl rfl)
theorem dJ16_inflate_9 : decode cJ16_inflate 9 = .ok (.return_, 1) := dk_177 (dk_at dksJ16_inflate_0 9 rfl rfl)
def dkwJ16_fillNull_0 : List UInt8 := [42, 27, 28, 3, 184, 0, 236, 177]
abbrev dktJ16_fillNull_0 : List UInt8 := dkwJ16_fillNull_0 ++ []
theorem dksJ16_fillNull_0 : cJ16_fillNull.data.toList.drop 0 = dktJ16_fillNull_0 := by decide +kernel
theorem dJ16_fillNull_0 : decode cJ16_fillNull 0 = .ok (.aload_n 0, 1) := dk_42 (dk_at dksJ16_fillNull_0 0 rfl rfl)
theorem dJ16_fillNull_1 : decode cJ16_fillNull 1 = .ok (.iload_n 1, 1) := dk_27 (dk_at dksJ16_fillNull_0 1 rfl rfl)
theorem dJ16_fillNull_2 : decode cJ16_fillNull 2 = .ok (.iload_n 2, 1) := dk_28 (dk_at dksJ16_fillNull_0 2 rfl rfl)
theorem dJ16_fillNull_3 : decode cJ16_fillNull 3 = .ok (.iconst 0, 1) := dk_3 (dk_at dksJ16_fillNull_0 3 rfl rfl)
theorem dJ16_fillNull_4 : decode cJ16_fillNull 4 = .ok (.invokestatic 236, 3) := dk_184 0 236 (dk_at dksJ16_fillNull_0 4 rfl rfl)
theorem dJ16_fillNull_7 : decode cJ16_fillNull 7 = .ok (.return_, 1) := dk_177 (dk_at dksJ16_fillNull_0 7 rfl rfl)
def dkwJ4_init_1 : List UInt8 := [167, 0, 16, 42, 27, 184, 0, 26, 181, 0, 15, 42, 4, 181, 0, 22, 177]
abbrev dktJ4_init_1 : List UInt8 := dkwJ4_init_1 ++ []
def dkwJ4_init_0 : List UInt8 := [42, 183, 0, 3, 178, 0, 18, 153, 0, 18, 42, 27, 188, 8, 181, 0, 15, 42, 3, 181, 0, 22]
abbrev dktJ4_init_0 : List UInt8 := dkwJ4_init_0 ++ dktJ4_init_1
theorem dksJ4_init_0 : cJ4_init.data.toList.drop 0 = dktJ4_init_0 := by decide +kernel
theorem dksJ4_init_1 : cJ4_init.data.toList.drop 22 = dktJ4_init_1 := dk_seg dksJ4_init_0 22 rfl rfl
theorem dJ4_init_0 : decode cJ4_init 0 = .ok (.aload_n 0, 1) := dk_42 (dk_at dksJ4_init_0 0 rfl rfl)
theorem dJ4_init_1 : decode cJ4_init 1 = .ok (.invokespecial 3, 3) := dk_183 0 3 (dk_at dksJ4_init_0 1 rfl rfl)
theorem dJ4_init_4 : decode cJ4_init 4 = .ok (.getstatic 18, 3) := dk_178 0 18 (dk_at dksJ4_init_0 4 rfl rfl)
theorem dJ4_init_7 : decode cJ4_init 7 = .ok (.ifCond .eq 18, 3) := dk_153 0 18 (dk_at dksJ4_init_0 7 rfl rfl)
theorem dJ4_init_10 : decode cJ4_init 10 = .ok (.aload_n 0, 1) := dk_42 (dk_at dksJ4_init_0 10 rfl rfl)
theorem dJ4_init_11 : decode cJ4_init 11 = .ok (.iload_n 1, 1) := dk_27 (dk_at dksJ4_init_0 11 rfl rfl)
theorem dJ4_init_12 : decode cJ4_init 12 = .ok (.newarray .byte, 2) := dk_188_8 (dk_at dksJ4_init_0 12 rfl rfl)
theorem dJ4_init_14 : decode cJ4_init 14 = .ok (.putfield 15, 3) := dk_181 0 15 (dk_at dksJ4_init_0 14 rfl rfl)
theorem dJ4_init_17 : decode cJ4_init 17 = .ok (.aload_n 0, 1) := dk_42 (dk_at dksJ4_init_0 17 rfl rfl)
theorem dJ4_init_18 : decode cJ4_init 18 = .ok (.iconst 0, 1) := dk_3 (dk_at dksJ4_init_0 18 rfl rfl)
theorem dJ4_init_19 : decode cJ4_init 19 = .ok (.putfield 22, 3) := dk_181 0 22 (dk_at dksJ4_init_0 19 rfl rfl)
theorem dJ4_init_22 : decode cJ4_init 22 = .ok (.goto 16, 3) := dk_167 0 16 (dk_at dksJ4_init_1 0 rfl rfl)
theorem dJ4_init_25 : decode cJ4_init 25 = .ok (.aload_n 0, 1) := dk_42 (dk_at dksJ4_init_1 3 rfl rfl)
theorem dJ4_init_26 : decode cJ4_init 26 = .ok (.iload_n 1, 1) := dk_27 (dk_at dksJ4_init_1 4 rfl rfl)
theorem dJ4_init_27 : decode cJ4_init 27 = .ok (.invokestatic 26, 3) := dk_184 0 26 (dk_at dksJ4_init_1 5 rfl rfl)
theorem dJ4_init_30 : decode cJ4_init 30 = .ok (.putfield 15, 3) := dk_181 0 15 (dk_at dksJ4_init_1 8 rfl rfl)
theorem dJ4_init_33 : decode cJ4_init 33 = .ok (.aload_n 0, 1) := dk_42 (dk_at dksJ4_init_1 11 rfl rfl)
theorem dJ4_init_34 : decode cJ4_init 34 = .ok (.iconst 1, 1) := dk_4 (dk_at dksJ4_init_1 12 rfl rfl)
theorem dJ4_init_35 : decode cJ4_init 35 = .ok (.putfield 22, 3) := dk_181 0 22 (dk_at dksJ4_init_1 13 rfl rfl)
theorem dJ4_init_38 : decode cJ4_init 38 = .ok (.return_, 1) := dk_177 (dk_at dksJ4_init_1 16 rfl rfl)
theorem dJ4_length_0 : decode cJ4_length 0 = .ok (.aload_n 0, 1) := by decide +kernel
theorem dJ4_length_1 : decode cJ4_length 1 = .ok (.getfield 79, 3) := by decide +kernel
theorem dJ4_length_4 : decode cJ4_length 4 = .ok (.ireturn, 1) := by decide +kernel
def dkwJ4_charAt_1 : List UInt8 := [21, 4, 184, 0, 144, 28, 154, 0, 12, 45, 27, 51, 17, 0, 255, 126, 146, 172, 45, 27, 184, 0, 148, 172]
abbrev dktJ4_charAt_1 : List UInt8 := dkwJ4_charAt_1 ++ []
def dkwJ4_charAt_0 : List UInt8 := [42, 180, 0, 22, 61, 42, 180, 0, 15, 78, 42, 180, 0, 79, 45, 190, 28, 122, 184, 0, 138, 54, 4, 27]
abbrev dktJ4_charAt_0 : List UInt8 := dkwJ4_charAt_0 ++ dktJ4_charAt_1
theorem dksJ4_charAt_0 : cJ4_charAt.data.toList.drop 0 = dktJ4_charAt_0 := by decide +kernel
theorem dksJ4_charAt_1 : cJ4_charAt.data.toList.drop 24 = dktJ4_charAt_1 := dk_seg dksJ4_charAt_0 24 rfl rfl
theorem dJ4_charAt_0 : decode cJ4_charAt 0 = .ok (.aload_n 0, 1) := dk_42 (dk_at dksJ4_charAt_0 0 rfl rfl)
theorem dJ4_charAt_1 : decode cJ4_charAt 1 = .ok (.getfield 22, 3) := dk_180 0 22 (dk_at dksJ4_charAt_0 1 rfl rfl)
theorem dJ4_charAt_4 : decode cJ4_charAt 4 = .ok (.istore_n 2, 1) := dk_61 (dk_at dksJ4_charAt_0 4 rfl rfl)
theorem dJ4_charAt_5 : decode cJ4_charAt 5 = .ok (.aload_n 0, 1) := dk_42 (dk_at dksJ4_charAt_0 5 rfl rfl)
theorem dJ4_charAt_6 : decode cJ4_charAt 6 = .ok (.getfield 15, 3) := dk_180 0 15 (dk_at dksJ4_charAt_0 6 rfl rfl)
theorem dJ4_charAt_9 : decode cJ4_charAt 9 = .ok (.astore_n 3, 1) := dk_78 (dk_at dksJ4_charAt_0 9 rfl rfl)
theorem dJ4_charAt_10 : decode cJ4_charAt 10 = .ok (.aload_n 0, 1) := dk_42 (dk_at dksJ4_charAt_0 10 rfl rfl)
theorem dJ4_charAt_11 : decode cJ4_charAt 11 = .ok (.getfield 79, 3) := dk_180 0 79 (dk_at dksJ4_charAt_0 11 rfl rfl)
theorem dJ4_charAt_14 : decode cJ4_charAt 14 = .ok (.aload_n 3, 1) := dk_45 (dk_at dksJ4_charAt_0 14 rfl rfl)
theorem dJ4_charAt_15 : decode cJ4_charAt 15 = .ok (.arraylength, 1) := dk_190 (dk_at dksJ4_charAt_0 15 rfl rfl)
theorem dJ4_charAt_16 : decode cJ4_charAt 16 = .ok (.iload_n 2, 1) := dk_28 (dk_at dksJ4_charAt_0 16 rfl rfl)
theorem dJ4_charAt_17 : decode cJ4_charAt 17 = .ok (.ishr, 1) := dk_122 (dk_at dksJ4_charAt_0 17 rfl rfl)
theorem dJ4_charAt_18 : decode cJ4_charAt 18 = .ok (.invokestatic 138, 3) := dk_184 0 138 (dk_at dksJ4_charAt_0 18 rfl rfl)
theorem dJ4_charAt_21 : decode cJ4_charAt 21 = .ok (.istore 4, 2) := dk_54 4 (dk_at dksJ4_charAt_0 21 rfl rfl)
theorem dJ4_charAt_23 : decode cJ4_charAt 23 = .ok (.iload_n 1, 1) := dk_27 (dk_at dksJ4_charAt_0 23 rfl rfl)
theorem dJ4_charAt_24 : decode cJ4_charAt 24 = .ok (.iload 4, 2) := dk_21 4 (dk_at dksJ4_charAt_1 0 rfl rfl)
theorem dJ4_charAt_26 : decode cJ4_charAt 26 = .ok (.invokestatic 144, 3) := dk_184 0 144 (dk_at dksJ4_charAt_1 2 rfl rfl)
theorem dJ4_charAt_29 : decode cJ4_charAt 29 = .ok (.iload_n 2, 1) := dk_28 (dk_at dksJ4_charAt_1 5 rfl rfl)
theorem dJ4_charAt_30 : decode cJ4_charAt 30 = .ok (.ifCond .ne 12, 3) := dk_154 0 12 (dk_at dksJ4_charAt_1 6 rfl rfl)
theorem dJ4_charAt_33 : decode cJ4_charAt 33 = .ok (.aload_n 3, 1) := dk_45 (dk_at dksJ4_charAt_1 9 rfl rfl)
theorem dJ4_charAt_34 : decode cJ4_charAt 34 = .ok (.iload_n 1, 1) := dk_27 (dk_at dksJ4_charAt_1 10 rfl rfl)
theorem dJ4_charAt_35 : decode cJ4_charAt 35 = .ok (.baload, 1) := dk_51 (dk_at dksJ4_charAt_1 11 rfl rfl)
theorem dJ4_charAt_36 : decode cJ4_charAt 36 = .ok (.sipush 255, 3) := dk_17 0 255 (dk_at dksJ4_charAt_1 12 rfl rfl)
theorem dJ4_charAt_39 : decode cJ4_charAt 39 = .ok (.iand, 1) := dk_126 (dk_at dksJ4_charAt_1 15 rfl rfl)
theorem dJ4_charAt_40 : decode cJ4_charAt 40 = .ok (.i2c, 1) := dk_146 (dk_at dksJ4_charAt_1 16 rfl rfl)
theorem dJ4_charAt_41 : decode cJ4_charAt 41 = .ok (.ireturn, 1) := dk_172 (dk_at dksJ4_charAt_1 17 rfl rfl)
theorem dJ4_charAt_42 : decode cJ4_charAt 42 = .ok (.aload_n 3, 1) := dk_45 (dk_at dksJ4_charAt_1 18 rfl rfl)
theorem dJ4_charAt_43 : decode cJ4_charAt 43 = .ok (.iload_n 1, 1) := dk_27 (dk_at dksJ4_charAt_1 19 rfl rfl)
theorem dJ4_charAt_44 : decode cJ4_charAt 44 = .ok (.invokestatic 148, 3) := dk_184 0 148 (dk_at dksJ4_charAt_1 20 rfl rfl)
theorem dJ4_charAt_47 : decode cJ4_charAt 47 = .ok (.ireturn, 1) := dk_172 (dk_at dksJ4_charAt_1 23 rfl rfl)
def dkwJ4_append_3 : List UInt8 := [181, 0, 79, 27, 184, 0, 197, 42, 176]
abbrev dktJ4_append_3 : List UInt8 := dkwJ4_append_3 ++ []
def dkwJ4_append_2 : List UInt8 := [182, 0, 83, 153, 0, 7, 42, 182, 0, 195, 42, 180, 0, 15, 42, 89, 180, 0, 79, 90, 4, 96]
abbrev dktJ4_append_2 : List UInt8 := dkwJ4_append_2 ++ dktJ4_append_3
def dkwJ4_append_1 : List UInt8 := [42, 180, 0, 15, 42, 89, 180, 0, 79, 90, 4, 96, 181, 0, 79, 27, 145, 84, 167, 0, 33, 42]
abbrev dktJ4_append_1 : List UInt8 := dkwJ4_append_1 ++ dktJ4_append_2
def dkwJ4_append_0 : List UInt8 := [42, 42, 180, 0, 79, 4, 96, 182, 0, 100, 42, 182, 0, 83, 153, 0, 31, 27, 184, 0, 191, 153, 0, 24]
abbrev dktJ4_append_0 : List UInt8 := dkwJ4_append_0 ++ dktJ4_append_1
theorem dksJ4_append_0 : cJ4_append.data.toList.drop 0 = dktJ4_append_0 := by decide +kernel
theorem dksJ4_append_1 : cJ4_append.data.toList.drop 24 = dktJ4_append_1 := dk_seg dksJ4_append_0 24 rfl rfl
theorem dksJ4_append_2 : cJ4_append.data.toList.drop 46 = dktJ4_append_2 := dk_seg dksJ4_append_1 22 rfl rfl
theorem dksJ4_append_3 : cJ4_append.data.toList.drop 68 = dktJ4_append_3 := dk_seg dksJ4_append_2 22 rfl rfl
theorem dJ4_append_0 : decode cJ4_append 0 = .ok (.aload_n 0, 1) := dk_42 (dk_at dksJ4_append_0 0 rfl rfl)
theorem dJ4_append_1 : decode cJ4_append 1 = .ok (.aload_n 0, 1) := dk_42 (dk_at dksJ4_append_0 1 rfl rfl)
theorem dJ4_append_2 : decode cJ4_append 2 = .ok (.getfield 79, 3) := dk_180 0 79 (dk_at dksJ4_append_0 2 rfl rfl)
theorem dJ4_append_5 : decode cJ4_append 5 = .ok (.iconst 1, 1) := dk_4 (dk_at dksJ4_append_0 5 rfl rfl)
theorem dJ4_append_6 : decode cJ4_append 6 = .ok (.iadd, 1) := dk_96 (dk_at dksJ4_append_0 6 rfl rfl)
theorem dJ4_append_7 : decode cJ4_append 7 = .ok (.invokevirtual 100, 3) := dk_182 0 100 (dk_at dksJ4_append_0 7 rfl rfl)
theorem dJ4_append_10 : decode cJ4_append 10 = .ok (.aload_n 0, 1) := dk_42 (dk_at dksJ4_append_0 10 rfl rfl)
theorem dJ4_append_11 : decode cJ4_append 11 = .ok (.invokevirtual 83, 3) := dk_182 0 83 (dk_at dksJ4_append_0 11 rfl rfl)
theorem dJ4_append_14 : decode cJ4_append 14 = .ok (.ifCond .eq 31, 3) := dk_153 0 31 (dk_at dksJ4_append_0 14 rfl rfl)
theorem dJ4_append_17 : decode cJ4_append 17 = .ok (.iload_n 1, 1) := dk_27 (dk_at dksJ4_append_0 17 rfl rfl)
theorem dJ4_append_18 : decode cJ4_append 18 = .ok (.invokestatic 191, 3) := dk_184 0 191 (dk_at dksJ4_append_0 18 rfl rfl)
theorem dJ4_append_21 : decode cJ4_append 21 = .ok (.ifCond .eq 24, 3) := dk_153 0 24 (dk_at dksJ4_append_0 21 rfl rfl)
theorem dJ4_append_24 : decode cJ4_append 24 = .ok (.aload_n 0, 1) := dk_42 (dk_at dksJ4_append_1 0 rfl rfl)
theorem dJ4_append_25 : decode cJ4_append 25 = .ok (.getfield 15, 3) := dk_180 0 15 (dk_at dksJ4_append_1 1 rfl rfl)
theorem dJ4_append_28 : decode cJ4_append 28 = .ok (.aload_n 0, 1) := dk_42 (dk_at dksJ4_append_1 4 rfl rfl)
theorem dJ4_append_29 : decode cJ4_append 29 = .ok (.dup, 1) := dk_89 (dk_at dksJ4_append_1 5 rfl rfl)
theorem dJ4_append_30 : decode cJ4_append 30 = .ok (.getfield 79, 3) := dk_180 0 79 (dk_at dksJ4_append_1 6 rfl rfl)
theorem dJ4_append_33 : decode cJ4_append 33 = .ok (.dup_x1, 1) := dk_90 (dk_at dksJ4_append_1 9 rfl rfl)
theorem dJ4_append_34 : decode cJ4_append 34 = .ok (.iconst 1, 1) := dk_4 (dk_at dksJ4_append_1 10 rfl rfl)
theorem dJ4_append_35 : decode cJ4_append 35 = .ok (.iadd, 1) := dk_96 (dk_at dksJ4_append_1 11 rfl rfl)
theorem dJ4_append_36 : decode cJ4_append 36 = .ok (.putfield 79, 3) := dk_181 0 79 (dk_at dksJ4_append_1 12 rfl rfl)
theorem dJ4_append_39 : decode cJ4_append 39 = .ok (.iload_n 1, 1) := dk_27 (dk_at dksJ4_append_1 15 rfl rfl)
theorem dJ4_append_40 : decode cJ4_append 40 = .ok (.i2b, 1) := dk_145 (dk_at dksJ4_append_1 16 rfl rfl)
theorem dJ4_append_41 : decode cJ4_append 41 = .ok (.bastore, 1) := dk_84 (dk_at dksJ4_append_1 17 rfl rfl)
theorem dJ4_append_42 : decode cJ4_append 42 = .ok (.goto 33, 3) := dk_167 0 33 (dk_at dksJ4_append_1 18 rfl rfl)
theorem dJ4_append_45 : decode cJ4_append 45 = .ok (.aload_n 0, 1) := dk_42 (dk_at dksJ4_append_1 21 rfl rfl)
theorem dJ4_append_46 : decode cJ4_append 46 = .ok (.invokevirtual 83, 3) := dk_182 0 83 (dk_at dksJ4_append_2 0 rfl rfl)
theorem dJ4_append_49 : decode cJ4_append 49 = .ok (.ifCond .eq 7, 3) := dk_153 0 7 (dk_at dksJ4_append_2 3 rfl rfl)
theorem dJ4_append_52 : decode cJ4_append 52 = .ok (.aload_n 0, 1) := dk_42 (dk_at dksJ4_append_2 6 rfl rfl)
theorem dJ4_append_53 : decode cJ4_append 53 = .ok (.invokevirtual 195, 3) := dk_182 0 195 (dk_at dksJ4_append_2 7 rfl rfl)
theorem dJ4_append_56 : decode cJ4_append 56 = .ok (.aload_n 0, 1) := dk_42 (dk_at dksJ4_append_2 10 rfl rfl)
theorem dJ4_append_57 : decode cJ4_append 57 = .ok (.getfield 15, 3) := dk_180 0 15 (dk_at dksJ4_append_2 11 rfl rfl)
theorem dJ4_append_60 : decode cJ4_append 60 = .ok (.aload_n 0, 1) := dk_42 (dk_at dksJ4_append_2 14 rfl rfl)
theorem dJ4_append_61 : decode cJ4_append 61 = .ok (.dup, 1) := dk_89 (dk_at dksJ4_append_2 15 rfl rfl)
theorem dJ4_append_62 : decode cJ4_append 62 = .ok (.getfield 79, 3) := dk_180 0 79 (dk_at dksJ4_append_2 16 rfl rfl)
theorem dJ4_append_65 : decode cJ4_append 65 = .ok (.dup_x1, 1) := dk_90 (dk_at dksJ4_append_2 19 rfl rfl)
theorem dJ4_append_66 : decode cJ4_append 66 = .ok (.iconst 1, 1) := dk_4 (dk_at dksJ4_append_2 20 rfl rfl)
theorem dJ4_append_67 : decode cJ4_append 67 = .ok (.iadd, 1) := dk_96 (dk_at dksJ4_append_2 21 rfl rfl)
theorem dJ4_append_68 : decode cJ4_append 68 = .ok (.putfield 79, 3) := dk_181 0 79 (dk_at dksJ4_append_3 0 rfl rfl)
theorem dJ4_append_71 : decode cJ4_append 71 = .ok (.iload_n 1, 1) := dk_27 (dk_at dksJ4_append_3 3 rfl rfl)
theorem dJ4_append_72 : decode cJ4_append 72 = .ok (.invokestatic 197, 3) := dk_184 0 197 (dk_at dksJ4_append_3 4 rfl rfl)
theorem dJ4_append_75 : decode cJ4_append 75 = .ok (.aload_n 0, 1) := dk_42 (dk_at dksJ4_append_3 7 rfl rfl)
theorem dJ4_append_76 : decode cJ4_append 76 = .ok (.areturn, 1) := dk_176 (dk_at dksJ4_append_3 8 rfl rfl)
def dkwJ4_ensureCapacityInternal_1 : List UInt8 := [182, 0, 104, 42, 180, 0, 22, 120, 184, 0, 108, 181, 0, 15, 177]
abbrev dktJ4_ensureCapacityInternal_1 : List UInt8 := dkwJ4_ensureCapacityInternal_1 ++ []
def dkwJ4_ensureCapacityInternal_0 : List UInt8 := [42, 180, 0, 15, 190, 42, 180, 0, 22, 122, 61, 27, 28, 100, 158, 0, 24, 42, 42, 180, 0, 15, 42, 27]
abbrev dktJ4_ensureCapacityInternal_0 : List UInt8 := dkwJ4_ensureCapacityInternal_0 ++ dktJ4_ensureCapacityInternal_1
theorem dksJ4_ensureCapacityInternal_0 : cJ4_ensureCapacityInternal.data.toList.drop 0 = dktJ4_ensureCapacityInternal_0 := by decide +kernel
theorem dksJ4_ensureCapacityInternal_1 : cJ4_ensureCapacityInternal.data.toList.drop 24 = dktJ4_ensureCapacityInternal_1 := dk_seg dksJ4_ensureCapacityInternal_0 24 rfl rfl
theorem dJ4_ensureCapacityInternal_0 : decode cJ4_ensureCapacityInternal 0 = .ok (.aload_n 0, 1) := dk_42 (dk_at dksJ4_ensureCapacityInternal_0 0 rfl rfl)
theorem dJ4_ensureCapacityInternal_1 : decode cJ4_ensureCapacityInternal 1 = .ok (.getfield 15, 3) := dk_180 0 15 (dk_at dksJ4_ensureCapacityInternal_0 1 rfl rfl)
theorem dJ4_ensureCapacityInternal_4 : decode cJ4_ensureCapacityInternal 4 = .ok (.arraylength, 1) := dk_190 (dk_at dksJ4_ensureCapacityInternal_0 4 rfl rfl)
theorem dJ4_ensureCapacityInternal_5 : decode cJ4_ensureCapacityInternal 5 = .ok (.aload_n 0, 1) := dk_42 (dk_at dksJ4_ensureCapacityInternal_0 5 rfl rfl)
theorem dJ4_ensureCapacityInternal_6 : decode cJ4_ensureCapacityInternal 6 = .ok (.getfield 22, 3) := dk_180 0 22 (dk_at dksJ4_ensureCapacityInternal_0 6 rfl rfl)
theorem dJ4_ensureCapacityInternal_9 : decode cJ4_ensureCapacityInternal 9 = .ok (.ishr, 1) := dk_122 (dk_at dksJ4_ensureCapacityInternal_0 9 rfl rfl)
theorem dJ4_ensureCapacityInternal_10 : decode cJ4_ensureCapacityInternal 10 = .ok (.istore_n 2, 1) := dk_61 (dk_at dksJ4_ensureCapacityInternal_0 10 rfl rfl)
theorem dJ4_ensureCapacityInternal_11 : decode cJ4_ensureCapacityInternal 11 = .ok (.iload_n 1, 1) := dk_27 (dk_at dksJ4_ensureCapacityInternal_0 11 rfl rfl)
theorem dJ4_ensureCapacityInternal_12 : decode cJ4_ensureCapacityInternal 12 = .ok (.iload_n 2, 1) := dk_28 (dk_at dksJ4_ensureCapacityInternal_0 12 rfl rfl)
theorem dJ4_ensureCapacityInternal_13 : decode cJ4_ensureCapacityInternal 13 = .ok (.isub, 1) := dk_100 (dk_at dksJ4_ensureCapacityInternal_0 13 rfl rfl)
theorem dJ4_ensureCapacityInternal_14 : decode cJ4_ensureCapacityInternal 14 = .ok (.ifCond .le 24, 3) := dk_158 0 24 (dk_at dksJ4_ensureCapacityInternal_0 14 rfl rfl)
theorem dJ4_ensureCapacityInternal_17 : decode cJ4_ensureCapacityInternal 17 = .ok (.aload_n 0, 1) := dk_42 (dk_at dksJ4_ensureCapacityInternal_0 17 rfl rfl)
theorem dJ4_ensureCapacityInternal_18 : decode cJ4_ensureCapacityInternal 18 = .ok (.aload_n 0, 1) := dk_42 (dk_at dksJ4_ensureCapacityInternal_0 18 rfl rfl)
theorem dJ4_ensureCapacityInternal_19 : decode cJ4_ensureCapacityInternal 19 = .ok (.getfield 15, 3) := dk_180 0 15 (dk_at dksJ4_ensureCapacityInternal_0 19 rfl rfl)
theorem dJ4_ensureCapacityInternal_22 : decode cJ4_ensureCapacityInternal 22 = .ok (.aload_n 0, 1) := dk_42 (dk_at dksJ4_ensureCapacityInternal_0 22 rfl rfl)
theorem dJ4_ensureCapacityInternal_23 : decode cJ4_ensureCapacityInternal 23 = .ok (.iload_n 1, 1) := dk_27 (dk_at dksJ4_ensureCapacityInternal_0 23 rfl rfl)
theorem dJ4_ensureCapacityInternal_24 : decode cJ4_ensureCapacityInternal 24 = .ok (.invokevirtual 104, 3) := dk_182 0 104 (dk_at dksJ4_ensureCapacityInternal_1 0 rfl rfl)
theorem dJ4_ensureCapacityInternal_27 : decode cJ4_ensureCapacityInternal 27 = .ok (.aload_n 0, 1) := dk_42 (dk_at dksJ4_ensureCapacityInternal_1 3 rfl rfl)
theorem dJ4_ensureCapacityInternal_28 : decode cJ4_ensureCapacityInternal 28 = .ok (.getfield 22, 3) := dk_180 0 22 (dk_at dksJ4_ensureCapacityInternal_1 4 rfl rfl)
theorem dJ4_ensureCapacityInternal_31 : decode cJ4_ensureCapacityInternal 31 = .ok (.ishl, 1) := dk_120 (dk_at dksJ4_ensureCapacityInternal_1 7 rfl rfl)
theorem dJ4_ensureCapacityInternal_32 : decode cJ4_ensureCapacityInternal 32 = .ok (.invokestatic 108, 3) := dk_184 0 108 (dk_at dksJ4_ensureCapacityInternal_1 8 rfl rfl)
theorem dJ4_ensureCapacityInternal_35 : decode cJ4_ensureCapacityInternal 35 = .ok (.putfield 15, 3) := dk_181 0 15 (dk_at dksJ4_ensureCapacityInternal_1 11 rfl rfl)
theorem dJ4_ensureCapacityInternal_38 : decode cJ4_ensureCapacityInternal 38 = .ok (.return_, 1) := dk_177 (dk_at dksJ4_ensureCapacityInternal_1 14 rfl rfl)
def dkwJ4_newCapacity_2 : List UInt8 := [183, 0, 124, 191, 21, 5, 42, 180, 0, 22, 122, 172]
abbrev dktJ4_newCapacity_2 : List UInt8 := dkwJ4_newCapacity_2 ++ []
def dkwJ4_newCapacity_1 : List UInt8 := [180, 0, 22, 120, 96, 184, 0, 114, 54, 5, 21, 5, 18, 39, 160, 0, 13, 187, 0, 120, 89, 18, 122]
abbrev dktJ4_newCapacity_1 : List UInt8 := dkwJ4_newCapacity_1 ++ dktJ4_newCapacity_2
def dkwJ4_newCapacity_0 : List UInt8 := [42, 180, 0, 15, 190, 61, 27, 42, 180, 0, 22, 120, 62, 29, 28, 100, 54, 4, 28, 21, 4, 28, 5, 42]
abbrev dktJ4_newCapacity_0 : List UInt8 := dkwJ4_newCapacity_0 ++ dktJ4_newCapacity_1
theorem dksJ4_newCapacity_0 : cJ4_newCapacity.data.toList.drop 0 = dktJ4_newCapacity_0 := by decide +kernel
theorem dksJ4_newCapacity_1 : cJ4_newCapacity.data.toList.drop 24 = dktJ4_newCapacity_1 := dk_seg dksJ4_newCapacity_0 24 rfl rfl
theorem dksJ4_newCapacity_2 : cJ4_newCapacity.data.toList.drop 47 = dktJ4_newCapacity_2 := dk_seg dksJ4_newCapacity_1 23 rfl rfl
theorem dJ4_newCapacity_0 : decode cJ4_newCapacity 0 = .ok (.aload_n 0, 1) := dk_42 (dk_at dksJ4_newCapacity_0 0 rfl rfl)
theorem dJ4_newCapacity_1 : decode cJ4_newCapacity 1 = .ok (.getfield 15, 3) := dk_180 0 15 (dk_at dksJ4_newCapacity_0 1 rfl rfl)
theorem dJ4_newCapacity_4 : decode cJ4_newCapacity 4 = .ok (.arraylength, 1) := dk_190 (dk_at dksJ4_newCapacity_0 4 rfl rfl)
theorem dJ4_newCapacity_5 : decode cJ4_newCapacity 5 = .ok (.istore_n 2, 1) := dk_61 (dk_at dksJ4_newCapacity_0 5 rfl rfl)
theorem dJ4_newCapacity_6 : decode cJ4_newCapacity 6 = .ok (.iload_n 1, 1) := dk_27 (dk_at dksJ4_newCapacity_0 6 rfl rfl)
theorem dJ4_newCapacity_7 : decode cJ4_newCapacity 7 = .ok (.aload_n 0, 1) := dk_42 (dk_at dksJ4_newCapacity_0 7 rfl rfl)
theorem dJ4_newCapacity_8 : decode cJ4_newCapacity 8 = .ok (.getfield 22, 3) := dk_180 0 22 (dk_at dksJ4_newCapacity_0 8 rfl rfl)
theorem dJ4_newCapacity_11 : decode cJ4_newCapacity 11 = .ok (.ishl, 1) := dk_120 (dk_at dksJ4_newCapacity_0 11 rfl rfl)
theorem dJ4_newCapacity_12 : decode cJ4_newCapacity 12 = .ok (.istore_n 3, 1) := dk_62 (dk_at dksJ4_newCapacity_0 12 rfl rfl)
theorem dJ4_newCapacity_13 : decode cJ4_newCapacity 13 = .ok (.iload_n 3, 1) := dk_29 (dk_at dksJ4_newCapacity_0 13 rfl rfl)
theorem dJ4_newCapacity_14 : decode cJ4_newCapacity 14 = .ok (.iload_n 2, 1) := dk_28 (dk_at dksJ4_newCapacity_0 14 rfl rfl)
theorem dJ4_newCapacity_15 : decode cJ4_newCapacity 15 = .ok (.isub, 1) := dk_100 (dk_at dksJ4_newCapacity_0 15 rfl rfl)
theorem dJ4_newCapacity_16 : decode cJ4_newCapacity 16 = .ok (.istore 4, 2) := dk_54 4 (dk_at dksJ4_newCapacity_0 16 rfl rfl)
theorem dJ4_newCapacity_18 : decode cJ4_newCapacity 18 = .ok (.iload_n 2, 1) := dk_28 (dk_at dksJ4_newCapacity_0 18 rfl rfl)
theorem dJ4_newCapacity_19 : decode cJ4_newCapacity 19 = .ok (.iload 4, 2) := dk_21 4 (dk_at dksJ4_newCapacity_0 19 rfl rfl)
theorem dJ4_newCapacity_21 : decode cJ4_newCapacity 21 = .ok (.iload_n 2, 1) := dk_28 (dk_at dksJ4_newCapacity_0 21 rfl rfl)
theorem dJ4_newCapacity_22 : decode cJ4_newCapacity 22 = .ok (.iconst 2, 1) := dk_5 (dk_at dksJ4_newCapacity_0 22 rfl rfl)
theorem dJ4_newCapacity_23 : decode cJ4_newCapacity 23 = .ok (.aload_n 0, 1) := dk_42 (dk_at dksJ4_newCapacity_0 23 rfl rfl)
theorem dJ4_newCapacity_24 : decode cJ4_newCapacity 24 = .ok (.getfield 22, 3) := dk_180 0 22 (dk_at dksJ4_newCapacity_1 0 rfl rfl)
theorem dJ4_newCapacity_27 : decode cJ4_newCapacity 27 = .ok (.ishl, 1) := dk_120 (dk_at dksJ4_newCapacity_1 3 rfl rfl)
theorem dJ4_newCapacity_28 : decode cJ4_newCapacity 28 = .ok (.iadd, 1) := dk_96 (dk_at dksJ4_newCapacity_1 4 rfl rfl)
theorem dJ4_newCapacity_29 : decode cJ4_newCapacity 29 = .ok (.invokestatic 114, 3) := dk_184 0 114 (dk_at dksJ4_newCapacity_1 5 rfl rfl)
theorem dJ4_newCapacity_32 : decode cJ4_newCapacity 32 = .ok (.istore 5, 2) := dk_54 5 (dk_at dksJ4_newCapacity_1 8 rfl rfl)
theorem dJ4_newCapacity_34 : decode cJ4_newCapacity 34 = .ok (.iload 5, 2) := dk_21 5 (dk_at dksJ4_newCapacity_1 10 rfl rfl)
theorem dJ4_newCapacity_36 : decode cJ4_newCapacity 36 = .ok (.ldc 39, 2) := dk_18 39 (dk_at dksJ4_newCapacity_1 12 rfl rfl)
theorem dJ4_newCapacity_38 : decode cJ4_newCapacity 38 = .ok (.if_icmp .ne 13, 3) := dk_160 0 13 (dk_at dksJ4_newCapacity_1 14 rfl rfl)
theorem dJ4_newCapacity_41 : decode cJ4_newCapacity 41 = .ok (.new 120, 3) := dk_187 0 120 (dk_at dksJ4_newCapacity_1 17 rfl rfl)
theorem dJ4_newCapacity_44 : decode cJ4_newCapacity 44 = .ok (.dup, 1) := dk_89 (dk_at dksJ4_newCapacity_1 20 rfl rfl)
theorem dJ4_newCapacity_45 : decode cJ4_newCapacity 45 = .ok (.ldc 122, 2) := dk_18 122 (dk_at dksJ4_newCapacity_1 21 rfl rfl)
theorem dJ4_newCapacity_47 : decode cJ4_newCapacity 47 = .ok (.invokespecial 124, 3) := dk_183 0 124 (dk_at dksJ4_newCapacity_2 0 rfl rfl)
theorem dJ4_newCapacity_50 : decode cJ4_newCapacity 50 = .ok (.athrow, 1) := dk_191 (dk_at dksJ4_newCapacity_2 3 rfl rfl)
theorem dJ4_newCapacity_51 : decode cJ4_newCapacity 51 = .ok (.iload 5, 2) := dk_21 5 (dk_at dksJ4_newCapacity_2 4 rfl rfl)
theorem dJ4_newCapacity_53 : decode cJ4_newCapacity 53 = .ok (.aload_n 0, 1) := dk_42 (dk_at dksJ4_newCapacity_2 6 rfl rfl)
theorem dJ4_newCapacity_54 : decode cJ4_newCapacity 54 = .ok (.getfield 22, 3) := dk_180 0 22 (dk_at dksJ4_newCapacity_2 7 rfl rfl)
theorem dJ4_newCapacity_57 : decode cJ4_newCapacity 57 = .ok (.ishr, 1) := dk_122 (dk_at dksJ4_newCapacity_2 10 rfl rfl)
theorem dJ4_newCapacity_58 : decode cJ4_newCapacity 58 = .ok (.ireturn, 1) := dk_172 (dk_at dksJ4_newCapacity_2 11 rfl rfl)
def dkwJ4_isLatin1_0 : List UInt8 := [178, 0, 18, 153, 0, 14, 42, 180, 0, 22, 154, 0, 7, 4, 167, 0, 4, 3, 172]
abbrev dktJ4_isLatin1_0 : List UInt8 := dkwJ4_isLatin1_0 ++ []
theorem dksJ4_isLatin1_0 : cJ4_isLatin1.data.toList.drop 0 = dktJ4_isLatin1_0 := by decide +kernel
theorem dJ4_isLatin1_0 : decode cJ4_isLatin1 0 = .ok (.getstatic 18, 3) := dk_178 0 18 (dk_at dksJ4_isLatin1_0 0 rfl rfl)
theorem dJ4_isLatin1_3 : decode cJ4_isLatin1 3 = .ok (.ifCond .eq 14, 3) := dk_153 0 14 (dk_at dksJ4_isLatin1_0 3 rfl rfl)
theorem dJ4_isLatin1_6 : decode cJ4_isLatin1 6 = .ok (.aload_n 0, 1) := dk_42 (dk_at dksJ4_isLatin1_0 6 rfl rfl)
theorem dJ4_isLatin1_7 : decode cJ4_isLatin1 7 = .ok (.getfield 22, 3) := dk_180 0 22 (dk_at dksJ4_isLatin1_0 7 rfl rfl)
theorem dJ4_isLatin1_10 : decode cJ4_isLatin1 10 = .ok (.ifCond .ne 7, 3) := dk_154 0 7 (dk_at dksJ4_isLatin1_0 10 rfl rfl)
theorem dJ4_isLatin1_13 : decode cJ4_isLatin1 13 = .ok (.iconst 1, 1) := dk_4 (dk_at dksJ4_isLatin1_0 13 rfl rfl)
theorem dJ4_isLatin1_14 : decode cJ4_isLatin1 14 = .ok (.goto 4, 3) := dk_167 0 4 (dk_at dksJ4_isLatin1_0 14 rfl rfl)
theorem dJ4_isLatin1_17 : decode cJ4_isLatin1 17 = .ok (.iconst 0, 1) := dk_3 (dk_at dksJ4_isLatin1_0 17 rfl rfl)
theorem dJ4_isLatin1_18 : decode cJ4_isLatin1 18 = .ok (.ireturn, 1) := dk_172 (dk_at dksJ4_isLatin1_0 18 rfl rfl)
def dkwJ4_inflate_1 : List UInt8 := [42, 180, 0, 79, 184, 0, 125, 42, 43, 181, 0, 15, 42, 4, 181, 0, 22, 177]
abbrev dktJ4_inflate_1 : List UInt8 := dkwJ4_inflate_1 ++ []
def dkwJ4_inflate_0 : List UInt8 := [42, 182, 0, 83, 154, 0, 4, 177, 42, 180, 0, 15, 190, 184, 0, 26, 76, 42, 180, 0, 15, 3, 43, 3]
abbrev dktJ4_inflate_0 : List UInt8 := dkwJ4_inflate_0 ++ dktJ4_inflate_1
theorem dksJ4_inflate_0 : cJ4_inflate.data.toList.drop 0 = dktJ4_inflate_0 := by decide +kernel
theorem dksJ4_inflate_1 : cJ4_inflate.data.toList.drop 24 = dktJ4_inflate_1 := dk_seg dksJ4_inflate_0 24 rfl rfl
theorem dJ4_inflate_0 : decode cJ4_inflate 0 = .ok (.aload_n 0, 1) := dk_42 (dk_at dksJ4_inflate_0 0 rfl rfl)
theorem dJ4_inflate_1 : decode cJ4_inflate 1 = .ok (.invokevirtual 83, 3) := dk_182 0 83 (dk_at dksJ4_inflate_0 1 rfl rfl)
theorem dJ4_inflate_4 : decode cJ4_inflate 4 = .ok (.ifCond .ne 4, 3) := dk_154 0 4 (dk_at dksJ4_inflate_0 4 rfl rfl)
theorem dJ4_inflate_7 : decode cJ4_inflate 7 = .ok (.return_, 1) := dk_177 (dk_at dksJ4_inflate_0 7 rfl rfl)
theorem dJ4_inflate_8 : decode cJ4_inflate 8 = .ok (.aload_n 0, 1) := dk_42 (dk_at dksJ4_inflate_0 8 rfl rfl)
theorem dJ4_inflate_9 : decode cJ4_inflate 9 = .ok (.getfield 15, 3) := dk_180 0 15 (dk_at dksJ4_inflate_0 9 rfl rfl)
theorem dJ4_inflate_12 : decode cJ4_inflate 12 = .ok (.arraylength, 1) := dk_190 (dk_at dksJ4_inflate_0 12 rfl rfl)
theorem dJ4_inflate_13 : decode cJ4_inflate 13 = .ok (.invokestatic 26, 3) := dk_184 0 26 (dk_at dksJ4_inflate_0 13 rfl rfl)
theorem dJ4_inflate_16 : decode cJ4_inflate 16 = .ok (.astore_n 1, 1) := dk_76 (dk_at dksJ4_inflate_0 16 rfl rfl)
theorem dJ4_inflate_17 : decode cJ4_inflate 17 = .ok (.aload_n 0, 1) := dk_42 (dk_at dksJ4_inflate_0 17 rfl rfl)
theorem dJ4_inflate_18 : decode cJ4_inflate 18 = .ok (.getfield 15, 3) := dk_180 0 15 (dk_at dksJ4_inflate_0 18 rfl rfl)
theorem dJ4_inflate_21 : decode cJ4_inflate 21 = .ok (.iconst 0, 1) := dk_3 (dk_at dksJ4_inflate_0 21 rfl rfl)
theorem dJ4_inflate_22 : decode cJ4_inflate 22 = .ok (.aload_n 1, 1) := dk_43 (dk_at dksJ4_inflate_0 22 rfl rfl)
theorem dJ4_inflate_23 : decode cJ4_inflate 23 = .ok (.iconst 0, 1) := dk_3 (dk_at dksJ4_inflate_0 23 rfl rfl)
theorem dJ4_inflate_24 : decode cJ4_inflate 24 = .ok (.aload_n 0, 1) := dk_42 (dk_at dksJ4_inflate_1 0 rfl rfl)
theorem dJ4_inflate_25 : decode cJ4_inflate 25 = .ok (.getfield 79, 3) := dk_180 0 79 (dk_at dksJ4_inflate_1 1 rfl rfl)
theorem dJ4_inflate_28 : decode cJ4_inflate 28 = .ok (.invokestatic 125, 3) := dk_184 0 125 (dk_at dksJ4_inflate_1 4 rfl rfl)
theorem dJ4_inflate_31 : decode cJ4_inflate 31 = .ok (.aload_n 0, 1) := dk_42 (dk_at dksJ4_inflate_1 7 rfl rfl)
theorem dJ4_inflate_32 : decode cJ4_inflate 32 = .ok (.aload_n 1, 1) := dk_43 (dk_at dksJ4_inflate_1 8 rfl rfl)
theorem dJ4_inflate_33 : decode cJ4_inflate 33 = .ok (.putfield 15, 3) := dk_181 0 15 (dk_at dksJ4_inflate_1 9 rfl rfl)
theorem dJ4_inflate_36 : decode cJ4_inflate 36 = .ok (.aload_n 0, 1) := dk_42 (dk_at dksJ4_inflate_1 12 rfl rfl)
theorem dJ4_inflate_37 : decode cJ4_inflate 37 = .ok (.iconst 1, 1) := dk_4 (dk_at dksJ4_inflate_1 13 rfl rfl)
theorem dJ4_inflate_38 : decode cJ4_inflate 38 = .ok (.putfield 22, 3) := dk_181 0 22 (dk_at dksJ4_inflate_1 14 rfl rfl)
theorem dJ4_inflate_41 : decode cJ4_inflate 41 = .ok (.return_, 1) := dk_177 (dk_at dksJ4_inflate_1 17 rfl rfl)
def dkwJ4_setLength_3 : List UInt8 := [164, 0, 8, 42, 4, 181, 0, 73, 42, 27, 181, 0, 79, 177]
abbrev dktJ4_setLength_3 : List UInt8 := dkwJ4_setLength_3 ++ []
def dkwJ4_setLength_2 : List UInt8 := [167, 0, 31, 42, 180, 0, 15, 42, 180, 0, 79, 27, 184, 0, 137, 167, 0, 16, 42, 180, 0, 79, 27]
abbrev dktJ4_setLength_2 : List UInt8 := dkwJ4_setLength_2 ++ dktJ4_setLength_3
def dkwJ4_setLength_1 : List UInt8 := [162, 0, 40, 42, 182, 0, 83, 153, 0, 18, 42, 180, 0, 15, 42, 180, 0, 79, 27, 184, 0, 133]
abbrev dktJ4_setLength_1 : List UInt8 := dkwJ4_setLength_1 ++ dktJ4_setLength_2
def dkwJ4_setLength_0 : List UInt8 := [27, 156, 0, 12, 187, 0, 129, 89, 27, 183, 0, 131, 191, 42, 27, 182, 0, 100, 42, 180, 0, 79, 27]
abbrev dktJ4_setLength_0 : List UInt8 := dkwJ4_setLength_0 ++ dktJ4_setLength_1
theorem dksJ4_setLength_0 : cJ4_setLength.data.toList.drop 0 = dktJ4_setLength_0 := by decide +kernel
theorem dksJ4_setLength_1 : cJ4_setLength.data.toList.drop 23 = dktJ4_setLength_1 := dk_seg dksJ4_setLength_0 23 rfl rfl
theorem dksJ4_setLength_2 : cJ4_setLength.data.toList.drop 45 = dktJ4_setLength_2 := dk_seg dksJ4_setLength_1 22 rfl rfl
theorem dksJ4_setLength_3 : cJ4_setLength.data.toList.drop 68 = dktJ4_setLength_3 := dk_seg dksJ4_setLength_2 23 rfl rfl
theorem dJ4_setLength_0 : decode cJ4_setLength 0 = .ok (.iload_n 1, 1) := dk_27 (dk_at dksJ4_setLength_0 0 rfl rfl)
theorem dJ4_setLength_1 : decode cJ4_setLength 1 = .ok (.ifCond .ge 12, 3) := dk_156 0 12 (dk_at dksJ4_setLength_0 1 rfl rfl)
theorem dJ4_setLength_4 : decode cJ4_setLength 4 = .ok (.new 129, 3) := dk_187 0 129 (dk_at dksJ4_setLength_0 4 rfl rfl)
theorem dJ4_setLength_7 : decode cJ4_setLength 7 = .ok (.dup, 1) := dk_89 (dk_at dksJ4_setLength_0 7 rfl rfl)
theorem dJ4_setLength_8 : decode cJ4_setLength 8 = .ok (.iload_n 1, 1) := dk_27 (dk_at dksJ4_setLength_0 8 rfl rfl)
theorem dJ4_setLength_9 : decode cJ4_setLength 9 = .ok (.invokespecial 131, 3) := dk_183 0 131 (dk_at dksJ4_setLength_0 9 rfl rfl)
theorem dJ4_setLength_12 : decode cJ4_setLength 12 = .ok (.athrow, 1) := dk_191 (dk_at dksJ4_setLength_0 12 rfl rfl)
theorem dJ4_setLength_13 : decode cJ4_setLength 13 = .ok (.aload_n 0, 1) := dk_42 (dk_at dksJ4_setLength_0 13 rfl rfl)
theorem dJ4_setLength_14 : decode cJ4_setLength 14 = .ok (.iload_n 1, 1) := dk_27 (dk_at dksJ4_setLength_0 14 rfl rfl)
theorem dJ4_setLength_15 : decode cJ4_setLength 15 = .ok (.invokevirtual 100, 3) := dk_182 0 100 (dk_at dksJ4_setLength_0 15 rfl rfl)
theorem dJ4_setLength_18 : decode cJ4_setLength 18 = .ok (.aload_n 0, 1) := dk_42 (dk_at dksJ4_setLength_0 18 rfl rfl)
theorem dJ4_setLength_19 : decode cJ4_setLength 19 = .ok (.getfield 79, 3) := dk_180 0 79 (dk_at dksJ4_setLength_0 19 rfl rfl)
theorem dJ4_setLength_22 : decode cJ4_setLength 22 = .ok (.iload_n 1, 1) := dk_27 (dk_at dksJ4_setLength_0 22 rfl rfl)
theorem dJ4_setLength_23 : decode cJ4_setLength 23 = .ok (.if_icmp .ge 40, 3) := dk_162 0 40 (dk_at dksJ4_setLength_1 0 rfl rfl)
theorem dJ4_setLength_26 : decode cJ4_setLength 26 = .ok (.aload_n 0, 1) := dk_42 (dk_at dksJ4_setLength_1 3 rfl rfl)
theorem dJ4_setLength_27 : decode cJ4_setLength 27 = .ok (.invokevirtual 83, 3) := dk_182 0 83 (dk_at dksJ4_setLength_1 4 rfl rfl)
theorem dJ4_setLength_30 : decode cJ4_setLength 30 = .ok (.ifCond .eq 18, 3) := dk_153 0 18 (dk_at dksJ4_setLength_1 7 rfl rfl)
theorem dJ4_setLength_33 : decode cJ4_setLength 33 = .ok (.aload_n 0, 1) := dk_42 (dk_at dksJ4_setLength_1 10 rfl rfl)
theorem dJ4_setLength_34 : decode cJ4_setLength 34 = .ok (.getfield 15, 3) := dk_180 0 15 (dk_at dksJ4_setLength_1 11 rfl rfl)
theorem dJ4_setLength_37 : decode cJ4_setLength 37 = .ok (.aload_n 0, 1) := dk_42 (dk_at dksJ4_setLength_1 14 rfl rfl)
theorem dJ4_setLength_38 : decode cJ4_setLength 38 = .ok (.getfield 79, 3) := dk_180 0 79 (dk_at dksJ4_setLength_1 15 rfl rfl)
theorem dJ4_setLength_41 : decode cJ4_setLength 41 = .ok (.iload_n 1, 1) := dk_27 (dk_at dksJ4_setLength_1 18 rfl rfl)
theorem dJ4_setLength_42 : decode cJ4_setLength 42 = .ok (.invokestatic 133, 3) := dk_184 0 133 (dk_at dksJ4_setLength_1 19 rfl rfl)
theorem dJ4_setLength_45 : decode cJ4_setLength 45 = .ok (.goto 31, 3) := dk_167 0 31 (dk_at dksJ4_setLength_2 0 rfl rfl)
theorem dJ4_setLength_48 : decode cJ4_setLength 48 = .ok (.aload_n 0, 1) := dk_42 (dk_at dksJ4_setLength_2 3 rfl rfl)
theorem dJ4_setLength_49 : decode cJ4_setLength 49 = .ok (.getfield 15, 3) := dk_180 0 15 (dk_at dksJ4_setLength_2 4 rfl rfl)
theorem dJ4_setLength_52 : decode cJ4_setLength 52 = .ok (.aload_n 0, 1) := dk_42 (dk_at dksJ4_setLength_2 7 rfl rfl)
theorem dJ4_setLength_53 : decode cJ4_setLength 53 = .ok (.getfield 79, 3) := dk_180 0 79 (dk_at dksJ4_setLength_2 8 rfl rfl)
theorem dJ4_setLength_56 : decode cJ4_setLength 56 = .ok (.iload_n 1, 1) := dk_27 (dk_at dksJ4_setLength_2 11 rfl rfl)
theorem dJ4_setLength_57 : decode cJ4_setLength 57 = .ok (.invokestatic 137, 3) := dk_184 0 137 (dk_at dksJ4_setLength_2 12 rfl rfl)
theorem dJ4_setLength_60 : decode cJ4_setLength 60 = .ok (.goto 16, 3) := dk_167 0 16 (dk_at dksJ4_setLength_2 15 rfl rfl)
theorem dJ4_setLength_63 : decode cJ4_setLength 63 = .ok (.aload_n 0, 1) := dk_42 (dk_at dksJ4_setLength_2 18 rfl rfl)
theorem dJ4_setLength_64 : decode cJ4_setLength 64 = .ok (.getfield 79, 3) := dk_180 0 79 (dk_at dksJ4_setLength_2 19 rfl rfl)
theorem dJ4_setLength_67 : decode cJ4_setLength 67 = .ok (.iload_n 1, 1) := dk_27 (dk_at dksJ4_setLength_2 22 rfl rfl)
theorem dJ4_setLength_68 : decode cJ4_setLength 68 = .ok (.if_icmp .le 8, 3) := dk_164 0 8 (dk_at dksJ4_setLength_3 0 rfl rfl)
theorem dJ4_setLength_71 : decode cJ4_setLength 71 = .ok (.aload_n 0, 1) := dk_42 (dk_at dksJ4_setLength_3 3 rfl rfl)
theorem dJ4_setLength_72 : decode cJ4_setLength 72 = .ok (.iconst 1, 1) := dk_4 (dk_at dksJ4_setLength_3 4 rfl rfl)
theorem dJ4_setLength_73 : decode cJ4_setLength 73 = .ok (.putfield 73, 3) := dk_181 0 73 (dk_at dksJ4_setLength_3 5 rfl rfl)
theorem dJ4_setLength_76 : decode cJ4_setLength 76 = .ok (.aload_n 0, 1) := dk_42 (dk_at dksJ4_setLength_3 8 rfl rfl)
theorem dJ4_setLength_77 : decode cJ4_setLength 77 = .ok (.iload_n 1, 1) := dk_27 (dk_at dksJ4_setLength_3 9 rfl rfl)
theorem dJ4_setLength_78 : decode cJ4_setLength 78 = .ok (.putfield 79, 3) := dk_181 0 79 (dk_at dksJ4_setLength_3 10 rfl rfl)
theorem dJ4_setLength_81 : decode cJ4_setLength 81 = .ok (.return_, 1) := dk_177 (dk_at dksJ4_setLength_3 13 rfl rfl)
def dkwJ5_init_0 : List UInt8 := [42, 27, 183, 0, 1, 177]
abbrev dktJ5_init_0 : List UInt8 := dkwJ5_init_0 ++ []
theorem dksJ5_init_0 : cJ5_init.data.toList.drop 0 = dktJ5_init_0 := by decide +kernel
theorem dJ5_init_0 : decode cJ5_init 0 = .ok (.aload_n 0, 1) := dk_42 (dk_at dksJ5_init_0 0 rfl rfl)
theorem dJ5_init_1 : decode cJ5_init 1 = .ok (.iload_n 1, 1) := dk_27 (dk_at dksJ5_init_0 1 rfl rfl)
theorem dJ5_init_2 : decode cJ5_init 2 = .ok (.invokespecial 1, 3) := dk_183 0 1 (dk_at dksJ5_init_0 2 rfl rfl)
theorem dJ5_init_5 : decode cJ5_init 5 = .ok (.return_, 1) := dk_177 (dk_at dksJ5_init_0 5 rfl rfl)
theorem dJ5_length_0 : decode cJ5_length 0 = .ok (.aload_n 0, 1) := by decide +kernel
theorem dJ5_length_1 : decode cJ5_length 1 = .ok (.invokespecial 343, 3) := by decide +kernel
theorem dJ5_length_4 : decode cJ5_length 4 = .ok (.ireturn, 1) := by decide +kernel
def dkwJ5_charAt_0 : List UInt8 := [42, 27, 183, 1, 73, 172]
abbrev dktJ5_charAt_0 : List UInt8 := dkwJ5_charAt_0 ++ []
theorem dksJ5_charAt_0 : cJ5_charAt.data.toList.drop 0 = dktJ5_charAt_0 := by decide +kernel
theorem dJ5_charAt_0 : decode cJ5_charAt 0 = .ok (.aload_n 0, 1) := dk_42 (dk_at dksJ5_charAt_0 0 rfl rfl)
theorem dJ5_charAt_1 : decode cJ5_charAt 1 = .ok (.iload_n 1, 1) := dk_27 (dk_at dksJ5_charAt_0 1 rfl rfl)
theorem dJ5_charAt_2 : decode cJ5_charAt 2 = .ok (.invokespecial 329, 3) := dk_183 1 73 (dk_at dksJ5_charAt_0 2 rfl rfl)
theorem dJ5_charAt_5 : decode cJ5_charAt 5 = .ok (.ireturn, 1) := dk_172 (dk_at dksJ5_charAt_0 5 rfl rfl)
def dkwJ5_append_0 : List UInt8 := [42, 27, 183, 0, 50, 87, 42, 176]
abbrev dktJ5_append_0 : List UInt8 := dkwJ5_append_0 ++ []
theorem dksJ5_append_0 : cJ5_append.data.toList.drop 0 = dktJ5_append_0 := by decide +kernel
theorem dJ5_append_0 : decode cJ5_append 0 = .ok (.aload_n 0, 1) := dk_42 (dk_at dksJ5_append_0 0 rfl rfl)
theorem dJ5_append_1 : decode cJ5_append 1 = .ok (.iload_n 1, 1) := dk_27 (dk_at dksJ5_append_0 1 rfl rfl)
theorem dJ5_append_2 : decode cJ5_append 2 = .ok (.invokespecial 50, 3) := dk_183 0 50 (dk_at dksJ5_append_0 2 rfl rfl)
theorem dJ5_append_5 : decode cJ5_append 5 = .ok (.pop, 1) := dk_87 (dk_at dksJ5_append_0 5 rfl rfl)
theorem dJ5_append_6 : decode cJ5_append 6 = .ok (.aload_n 0, 1) := dk_42 (dk_at dksJ5_append_0 6 rfl rfl)
theorem dJ5_append_7 : decode cJ5_append 7 = .ok (.areturn, 1) := dk_176 (dk_at dksJ5_append_0 7 rfl rfl)
def dkwJ5_setLength_0 : List UInt8 := [42, 27, 183, 1, 77, 177]
abbrev dktJ5_setLength_0 : List UInt8 := dkwJ5_setLength_0 ++ []
theorem dksJ5_setLength_0 : cJ5_setLength.data.toList.drop 0 = dktJ5_setLength_0 := by decide +kernel
theorem dJ5_setLength_0 : decode cJ5_setLength 0 = .ok (.aload_n 0, 1) := dk_42 (dk_at dksJ5_setLength_0 0 rfl rfl)
theorem dJ5_setLength_1 : decode cJ5_setLength 1 = .ok (.iload_n 1, 1) := dk_27 (dk_at dksJ5_setLength_0 1 rfl rfl)
theorem dJ5_setLength_2 : decode cJ5_setLength 2 = .ok (.invokespecial 333, 3) := dk_183 1 77 (dk_at dksJ5_setLength_0 2 rfl rfl)
theorem dJ5_setLength_5 : decode cJ5_setLength 5 = .ok (.return_, 1) := dk_177 (dk_at dksJ5_setLength_0 5 rfl rfl)
def dkwJ6_checkIndex_0 : List UInt8 := [26, 27, 178, 4, 29, 184, 4, 35, 87, 177]
abbrev dktJ6_checkIndex_0 : List UInt8 := dkwJ6_checkIndex_0 ++ []
theorem dksJ6_checkIndex_0 : cJ6_checkIndex.data.toList.drop 0 = dktJ6_checkIndex_0 := by decide +kernel
theorem dJ6_checkIndex_0 : decode cJ6_checkIndex 0 = .ok (.iload_n 0, 1) := dk_26 (dk_at dksJ6_checkIndex_0 0 rfl rfl)
theorem dJ6_checkIndex_1 : decode cJ6_checkIndex 1 = .ok (.iload_n 1, 1) := dk_27 (dk_at dksJ6_checkIndex_0 1 rfl rfl)
theorem dJ6_checkIndex_2 : decode cJ6_checkIndex 2 = .ok (.getstatic 1053, 3) := dk_178 4 29 (dk_at dksJ6_checkIndex_0 2 rfl rfl)
theorem dJ6_checkIndex_5 : decode cJ6_checkIndex 5 = .ok (.invokestatic 1059, 3) := dk_184 4 35 (dk_at dksJ6_checkIndex_0 5 rfl rfl)
theorem dJ6_checkIndex_8 : decode cJ6_checkIndex 8 = .ok (.pop, 1) := dk_87 (dk_at dksJ6_checkIndex_0 8 rfl rfl)
theorem dJ6_checkIndex_9 : decode cJ6_checkIndex 9 = .ok (.return_, 1) := dk_177 (dk_at dksJ6_checkIndex_0 9 rfl rfl)
def dkwJ6_checkBoundsOffCount_0 : List UInt8 := [26, 27, 28, 178, 4, 29, 184, 4, 41, 172]
abbrev dktJ6_checkBoundsOffCount_0 : List UInt8 := dkwJ6_checkBoundsOffCount_0 ++ []
theorem dksJ6_checkBoundsOffCount_0 : cJ6_checkBoundsOffCount.data.toList.drop 0 = dktJ6_checkBoundsOffCount_0 := by decide +kernel
theorem dJ6_checkBoundsOffCount_0 : decode cJ6_checkBoundsOffCount 0 = .ok (.iload_n 0, 1) := dk_26 (dk_at dksJ6_checkBoundsOffCount_0 0 rfl rfl)
theorem dJ6_checkBoundsOffCount_1 : decode cJ6_checkBoundsOffCount 1 = .ok (.iload_n 1, 1) := dk_27 (dk_at dksJ6_checkBoundsOffCount_0 1 rfl rfl)
theorem dJ6_checkBoundsOffCount_2 : decode cJ6_checkBoundsOffCount 2 = .ok (.iload_n 2, 1) := dk_28 (dk_at dksJ6_checkBoundsOffCount_0 2 rfl rfl)
theorem dJ6_checkBoundsOffCount_3 : decode cJ6_checkBoundsOffCount 3 = .ok (.getstatic 1053, 3) := dk_178 4 29 (dk_at dksJ6_checkBoundsOffCount_0 3 rfl rfl)
theorem dJ6_checkBoundsOffCount_6 : decode cJ6_checkBoundsOffCount 6 = .ok (.invokestatic 1065, 3) := dk_184 4 41 (dk_at dksJ6_checkBoundsOffCount_0 6 rfl rfl)
theorem dJ6_checkBoundsOffCount_9 : decode cJ6_checkBoundsOffCount 9 = .ok (.ireturn, 1) := dk_172 (dk_at dksJ6_checkBoundsOffCount_0 9 rfl rfl)
def dkwJ7_newBytesFor_0 : List UInt8 := [26, 184, 0, 11, 188, 8, 176]
abbrev dktJ7_newBytesFor_0 : List UInt8 := dkwJ7_newBytesFor_0 ++ []
theorem dksJ7_newBytesFor_0 : cJ7_newBytesFor.data.toList.drop 0 = dktJ7_newBytesFor_0 := by decide +kernel
theorem dJ7_newBytesFor_0 : decode cJ7_newBytesFor 0 = .ok (.iload_n 0, 1) := dk_26 (dk_at dksJ7_newBytesFor_0 0 rfl rfl)
theorem dJ7_newBytesFor_1 : decode cJ7_newBytesFor 1 = .ok (.invokestatic 11, 3) := dk_184 0 11 (dk_at dksJ7_newBytesFor_0 1 rfl rfl)
theorem dJ7_newBytesFor_4 : decode cJ7_newBytesFor 4 = .ok (.newarray .byte, 2) := dk_188_8 (dk_at dksJ7_newBytesFor_0 4 rfl rfl)
theorem dJ7_newBytesFor_6 : decode cJ7_newBytesFor 6 = .ok (.areturn, 1) := dk_176 (dk_at dksJ7_newBytesFor_0 6 rfl rfl)
def dkwJ7_newBytesLength_2 : List UInt8 := [182, 0, 32, 182, 0, 37, 183, 0, 41, 191, 26, 4, 120, 172]
abbrev dktJ7_newBytesLength_2 : List UInt8 := dkwJ7_newBytesLength_2 ++ []
def dkwJ7_newBytesLength_1 : List UInt8 := [187, 0, 23, 89, 183, 0, 25, 18, 26, 182, 0, 28, 26, 182, 0, 32, 18, 35, 182, 0, 28, 18, 20]
abbrev dktJ7_newBytesLength_1 : List UInt8 := dkwJ7_newBytesLength_1 ++ dktJ7_newBytesLength_2
def dkwJ7_newBytesLength_0 : List UInt8 := [26, 156, 0, 11, 187, 0, 17, 89, 183, 0, 19, 191, 26, 18, 20, 161, 0, 40, 187, 0, 21, 89]
abbrev dktJ7_newBytesLength_0 : List UInt8 := dkwJ7_newBytesLength_0 ++ dktJ7_newBytesLength_1
theorem dksJ7_newBytesLength_0 : cJ7_newBytesLength.data.toList.drop 0 = dktJ7_newBytesLength_0 := by decide +kernel
theorem dksJ7_newBytesLength_1 : cJ7_newBytesLength.data.toList.drop 22 = dktJ7_newBytesLength_1 := dk_seg dksJ7_newBytesLength_0 22 rfl rfl
theorem dksJ7_newBytesLength_2 : cJ7_newBytesLength.data.toList.drop 45 = dktJ7_newBytesLength_2 := dk_seg dksJ7_newBytesLength_1 23 rfl rfl
theorem dJ7_newBytesLength_0 : decode cJ7_newBytesLength 0 = .ok (.iload_n 0, 1) := dk_26 (dk_at dksJ7_newBytesLength_0 0 rfl rfl)
theorem dJ7_newBytesLength_1 : decode cJ7_newBytesLength 1 = .ok (.ifCond .ge 11, 3) := dk_156 0 11 (dk_at dksJ7_newBytesLength_0 1 rfl rfl)
theorem dJ7_newBytesLength_4 : decode cJ7_newBytesLength 4 = .ok (.new 17, 3) := dk_187 0 17 (dk_at dksJ7_newBytesLength_0 4 rfl rfl)
theorem dJ7_newBytesLength_7 : decode cJ7_newBytesLength 7 = .ok (.dup, 1) := dk_89 (dk_at dksJ7_newBytesLength_0 7 rfl rfl)
theorem dJ7_newBytesLength_8 : decode cJ7_newBytesLength 8 = .ok (.invokespecial 19, 3) := dk_183 0 19 (dk_at dksJ7_newBytesLength_0 8 rfl rfl)
theorem dJ7_newBytesLength_11 : decode cJ7_newBytesLength 11 = .ok (.athrow, 1) := dk_191 (dk_at dksJ7_newBytesLength_0 11 rfl rfl)
theorem dJ7_newBytesLength_12 : decode cJ7_newBytesLength 12 = .ok (.iload_n 0, 1) := dk_26 (dk_at dksJ7_newBytesLength_0 12 rfl rfl)
theorem dJ7_newBytesLength_13 : decode cJ7_newBytesLength 13 = .ok (.ldc 20, 2) := dk_18 20 (dk_at dksJ7_newBytesLength_0 13 rfl rfl)
theorem dJ7_newBytesLength_15 : decode cJ7_newBytesLength 15 = .ok (.if_icmp .lt 40, 3) := dk_161 0 40 (dk_at dksJ7_newBytesLength_0 15 rfl rfl)
theorem dJ7_newBytesLength_18 : decode cJ7_newBytesLength 18 = .ok (.new 21, 3) := dk_187 0 21 (dk_at dksJ7_newBytesLength_0 18 rfl rfl)
theorem dJ7_newBytesLength_21 : decode cJ7_newBytesLength 21 = .ok (.dup, 1) := dk_89 (dk_at dksJ7_newBytesLength_0 21 rfl rfl)
theorem dJ7_newBytesLength_22 : decode cJ7_newBytesLength 22 = .ok (.new 23, 3) := dk_187 0 23 (dk_at dksJ7_newBytesLength_1 0 rfl rfl)
theorem dJ7_newBytesLength_25 : decode cJ7_newBytesLength 25 = .ok (.dup, 1) := dk_89 (dk_at dksJ7_newBytesLength_1 3 rfl rfl)
theorem dJ7_newBytesLength_26 : decode cJ7_newBytesLength 26 = .ok (.invokespecial 25, 3) := dk_183 0 25 (dk_at dksJ7_newBytesLength_1 4 rfl rfl)
theorem dJ7_newBytesLength_29 : decode cJ7_newBytesLength 29 = .ok (.ldc 26, 2) := dk_18 26 (dk_at dksJ7_newBytesLength_1 7 rfl rfl)
theorem dJ7_newBytesLength_31 : decode cJ7_newBytesLength 31 = .ok (.invokevirtual 28, 3) := dk_182 0 28 (dk_at dksJ7_newBytesLength_1 9 rfl rfl)
theorem dJ7_newBytesLength_34 : decode cJ7_newBytesLength 34 = .ok (.iload_n 0, 1) := dk_26 (dk_at dksJ7_newBytesLength_1 12 rfl rfl)
theorem dJ7_newBytesLength_35 : decode cJ7_newBytesLength 35 = .ok (.invokevirtual 32, 3) := dk_182 0 32 (dk_at dksJ7_newBytesLength_1 13 rfl rfl)
theorem dJ7_newBytesLength_38 : decode cJ7_newBytesLength 38 = .ok (.ldc 35, 2) := dk_18 35 (dk_at dksJ7_newBytesLength_1 16 rfl rfl)
theorem dJ7_newBytesLength_40 : decode cJ7_newBytesLength 40 = .ok (.invokevirtual 28, 3) := dk_182 0 28 (dk_at dksJ7_newBytesLength_1 18 rfl rfl)
theorem dJ7_newBytesLength_43 : decode cJ7_newBytesLength 43 = .ok (.ldc 20, 2) := dk_18 20 (dk_at dksJ7_newBytesLength_1 21 rfl rfl)
theorem dJ7_newBytesLength_45 : decode cJ7_newBytesLength 45 = .ok (.invokevirtual 32, 3) := dk_182 0 32 (dk_at dksJ7_newBytesLength_2 0 rfl rfl)
theorem dJ7_newBytesLength_48 : decode cJ7_newBytesLength 48 = .ok (.invokevirtual 37, 3) := dk_182 0 37 (dk_at dksJ7_newBytesLength_2 3 rfl rfl)
theorem dJ7_newBytesLength_51 : decode cJ7_newBytesLength 51 = .ok (.invokespecial 41, 3) := dk_183 0 41 (dk_at dksJ7_newBytesLength_2 6 rfl rfl)
theorem dJ7_newBytesLength_54 : decode cJ7_newBytesLength 54 = .ok (.athrow, 1) := dk_191 (dk_at dksJ7_newBytesLength_2 9 rfl rfl)
theorem dJ7_newBytesLength_55 : decode cJ7_newBytesLength 55 = .ok (.iload_n 0, 1) := dk_26 (dk_at dksJ7_newBytesLength_2 10 rfl rfl)
theorem dJ7_newBytesLength_56 : decode cJ7_newBytesLength 56 = .ok (.iconst 1, 1) := dk_4 (dk_at dksJ7_newBytesLength_2 11 rfl rfl)
theorem dJ7_newBytesLength_57 : decode cJ7_newBytesLength 57 = .ok (.ishl, 1) := dk_120 (dk_at dksJ7_newBytesLength_2 12 rfl rfl)
theorem dJ7_newBytesLength_58 : decode cJ7_newBytesLength 58 = .ok (.ireturn, 1) := dk_172 (dk_at dksJ7_newBytesLength_2 13 rfl rfl)
def dkwJ7_getChar_2 : List UInt8 := [51, 17, 0, 255, 126, 178, 0, 63, 120, 128, 146, 172]
abbrev dktJ7_getChar_2 : List UInt8 := dkwJ7_getChar_2 ++ []
def dkwJ7_getChar_1 : List UInt8 := [183, 0, 56, 191, 27, 4, 120, 60, 42, 27, 132, 1, 1, 51, 17, 0, 255, 126, 178, 0, 59, 120, 42, 27]
abbrev dktJ7_getChar_1 : List UInt8 := dkwJ7_getChar_1 ++ dktJ7_getChar_2
def dkwJ7_getChar_0 : List UInt8 := [178, 0, 44, 154, 0, 25, 27, 155, 0, 11, 27, 42, 184, 0, 48, 161, 0, 13, 187, 0, 52, 89, 18, 54]
abbrev dktJ7_getChar_0 : List UInt8 := dkwJ7_getChar_0 ++ dktJ7_getChar_1
theorem dksJ7_getChar_0 : cJ7_getChar.data.toList.drop 0 = dktJ7_getChar_0 := by decide +kernel
theorem dksJ7_getChar_1 : cJ7_getChar.data.toList.drop 24 = dktJ7_getChar_1 := dk_seg dksJ7_getChar_0 24 rfl rfl
theorem dksJ7_getChar_2 : cJ7_getChar.data.toList.drop 48 = dktJ7_getChar_2 := dk_seg dksJ7_getChar_1 24 rfl rfl
theorem dJ7_getChar_0 : decode cJ7_getChar 0 = .ok (.getstatic 44, 3) := dk_178 0 44 (dk_at dksJ7_getChar_0 0 rfl rfl)
theorem dJ7_getChar_3 : decode cJ7_getChar 3 = .ok (.ifCond .ne 25, 3) := dk_154 0 25 (dk_at dksJ7_getChar_0 3 rfl rfl)
theorem dJ7_getChar_6 : decode cJ7_getChar 6 = .ok (.iload_n 1, 1) := dk_27 (dk_at dksJ7_getChar_0 6 rfl rfl)
theorem dJ7_getChar_7 : decode cJ7_getChar 7 = .ok (.ifCond .lt 11, 3) := dk_155 0 11 (dk_at dksJ7_getChar_0 7 rfl rfl)
theorem dJ7_getChar_10 : decode cJ7_getChar 10 = .ok (.iload_n 1, 1) := dk_27 (dk_at dksJ7_getChar_0 10 rfl rfl)
theorem dJ7_getChar_11 : decode cJ7_getChar 11 = .ok (.aload_n 0, 1) := dk_42 (dk_at dksJ7_getChar_0 11 rfl rfl)
theorem dJ7_getChar_12 : decode cJ7_getChar 12 = .ok (.invokestatic 48, 3) := dk_184 0 48 (dk_at dksJ7_getChar_0 12 rfl rfl)
theorem dJ7_getChar_15 : decode cJ7_getChar 15 = .ok (.if_icmp .lt 13, 3) := dk_161 0 13 (dk_at dksJ7_getChar_0 15 rfl rfl)
theorem dJ7_getChar_18 : decode cJ7_getChar 18 = .ok (.new 52, 3) := dk_187 0 52 (dk_at dksJ7_getChar_0 18 rfl rfl)
theorem dJ7_getChar_21 : decode cJ7_getChar 21 = .ok (.dup, 1) := dk_89 (dk_at dksJ7_getChar_0 21 rfl rfl)
theorem dJ7_getChar_22 : decode cJ7_getChar 22 = .ok (.ldc 54, 2) := dk_18 54 (dk_at dksJ7_getChar_0 22 rfl rfl)
theorem dJ7_getChar_24 : decode cJ7_getChar 24 = .ok (.invokespecial 56, 3) := dk_183 0 56 (dk_at dksJ7_getChar_1 0 rfl rfl)
theorem dJ7_getChar_27 : decode cJ7_getChar 27 = .ok (.athrow, 1) := dk_191 (dk_at dksJ7_getChar_1 3 rfl rfl)
theorem dJ7_getChar_28 : decode cJ7_getChar 28 = .ok (.iload_n 1, 1) := dk_27 (dk_at dksJ7_getChar_1 4 rfl rfl)
theorem dJ7_getChar_29 : decode cJ7_getChar 29 = .ok (.iconst 1, 1) := dk_4 (dk_at dksJ7_getChar_1 5 rfl rfl)
theorem dJ7_getChar_30 : decode cJ7_getChar 30 = .ok (.ishl, 1) := dk_120 (dk_at dksJ7_getChar_1 6 rfl rfl)
theorem dJ7_getChar_31 : decode cJ7_getChar 31 = .ok (.istore_n 1, 1) := dk_60 (dk_at dksJ7_getChar_1 7 rfl rfl)
theorem dJ7_getChar_32 : decode cJ7_getChar 32 = .ok (.aload_n 0, 1) := dk_42 (dk_at dksJ7_getChar_1 8 rfl rfl)
theorem dJ7_getChar_33 : decode cJ7_getChar 33 = .ok (.iload_n 1, 1) := dk_27 (dk_at dksJ7_getChar_1 9 rfl rfl)
theorem dJ7_getChar_34 : decode cJ7_getChar 34 = .ok (.iinc 1 1, 3) := dk_132 1 1 (dk_at dksJ7_getChar_1 10 rfl rfl)
theorem dJ7_getChar_37 : decode cJ7_getChar 37 = .ok (.baload, 1) := dk_51 (dk_at dksJ7_getChar_1 13 rfl rfl)
theorem dJ7_getChar_38 : decode cJ7_getChar 38 = .ok (.sipush 255, 3) := dk_17 0 255 (dk_at dksJ7_getChar_1 14 rfl rfl)
theorem dJ7_getChar_41 : decode cJ7_getChar 41 = .ok (.iand, 1) := dk_126 (dk_at dksJ7_getChar_1 17 rfl rfl)
theorem dJ7_getChar_42 : decode cJ7_getChar 42 = .ok (.getstatic 59, 3) := dk_178 0 59 (dk_at dksJ7_getChar_1 18 rfl rfl)
theorem dJ7_getChar_45 : decode cJ7_getChar 45 = .ok (.ishl, 1) := dk_120 (dk_at dksJ7_getChar_1 21 rfl rfl)
theorem dJ7_getChar_46 : decode cJ7_getChar 46 = .ok (.aload_n 0, 1) := dk_42 (dk_at dksJ7_getChar_1 22 rfl rfl)
theorem dJ7_getChar_47 : decode cJ7_getChar 47 = .ok (.iload_n 1, 1) := dk_27 (dk_at dksJ7_getChar_1 23 rfl rfl)
theorem dJ7_getChar_48 : decode cJ7_getChar 48 = .ok (.baload, 1) := dk_51 (dk_at dksJ7_getChar_2 0 rfl rfl)
theorem dJ7_getChar_49 : decode cJ7_getChar 49 = .ok (.sipush 255, 3) := dk_17 0 255 (dk_at dksJ7_getChar_2 1 rfl rfl)
theorem dJ7_getChar_52 : decode cJ7_getChar 52 = .ok (.iand, 1) := dk_126 (dk_at dksJ7_getChar_2 4 rfl rfl)
theorem dJ7_getChar_53 : decode cJ7_getChar 53 = .ok (.getstatic 63, 3) := dk_178 0 63 (dk_at dksJ7_getChar_2 5 rfl rfl)
theorem dJ7_getChar_56 : decode cJ7_getChar 56 = .ok (.ishl, 1) := dk_120 (dk_at dksJ7_getChar_2 8 rfl rfl)
theorem dJ7_getChar_57 : decode cJ7_getChar 57 = .ok (.ior, 1) := dk_128 (dk_at dksJ7_getChar_2 9 rfl rfl)
theorem dJ7_getChar_58 : decode cJ7_getChar 58 = .ok (.i2c, 1) := dk_146 (dk_at dksJ7_getChar_2 10 rfl rfl)
theorem dJ7_getChar_59 : decode cJ7_getChar 59 = .ok (.ireturn, 1) := dk_172 (dk_at dksJ7_getChar_2 11 rfl rfl)
def dkwJ7_length_0 : List UInt8 := [42, 190, 4, 122, 172]
abbrev dktJ7_length_0 : List UInt8 := dkwJ7_length_0 ++ []
theorem dksJ7_length_0 : cJ7_length.data.toList.drop 0 = dktJ7_length_0 := by decide +kernel
theorem dJ7_length_0 : decode cJ7_length 0 = .ok (.aload_n 0, 1) := dk_42 (dk_at dksJ7_length_0 0 rfl rfl)
theorem dJ7_length_1 : decode cJ7_length 1 = .ok (.arraylength, 1) := dk_190 (dk_at dksJ7_length_0 1 rfl rfl)
theorem dJ7_length_2 : decode cJ7_length 2 = .ok (.iconst 1, 1) := dk_4 (dk_at dksJ7_length_0 2 rfl rfl)
theorem dJ7_length_3 : decode cJ7_length 3 = .ok (.ishr, 1) := dk_122 (dk_at dksJ7_length_0 3 rfl rfl)
theorem dJ7_length_4 : decode cJ7_length 4 = .ok (.ireturn, 1) := dk_172 (dk_at dksJ7_length_0 4 rfl rfl)
def dkwJ7_inflate_1 : List UInt8 := [132, 1, 1, 51, 17, 0, 255, 126, 184, 0, 111, 132, 5, 1, 167, 255, 228, 177]
abbrev dktJ7_inflate_1 : List UInt8 := dkwJ7_inflate_1 ++ []
def dkwJ7_inflate_0 : List UInt8 := [29, 21, 4, 44, 184, 0, 173, 3, 54, 5, 21, 5, 21, 4, 162, 0, 27, 44, 29, 132, 3, 1, 42, 27]
abbrev dktJ7_inflate_0 : List UInt8 := dkwJ7_inflate_0 ++ dktJ7_inflate_1
theorem dksJ7_inflate_0 : cJ7_inflate.data.toList.drop 0 = dktJ7_inflate_0 := by decide +kernel
theorem dksJ7_inflate_1 : cJ7_inflate.data.toList.drop 24 = dktJ7_inflate_1 := dk_seg dksJ7_inflate_0 24 rfl rfl
theorem dJ7_inflate_0 : decode cJ7_inflate 0 = .ok (.iload_n 3, 1) := dk_29 (dk_at dksJ7_inflate_0 0 rfl rfl)
theorem dJ7_inflate_1 : decode cJ7_inflate 1 = .ok (.iload 4, 2) := dk_21 4 (dk_at dksJ7_inflate_0 1 rfl rfl)
theorem dJ7_inflate_3 : decode cJ7_inflate 3 = .ok (.aload_n 2, 1) := dk_44 (dk_at dksJ7_inflate_0 3 rfl rfl)
theorem dJ7_inflate_4 : decode cJ7_inflate 4 = .ok (.invokestatic 173, 3) := dk_184 0 173 (dk_at dksJ7_inflate_0 4 rfl rfl)
theorem dJ7_inflate_7 : decode cJ7_inflate 7 = .ok (.iconst 0, 1) := dk_3 (dk_at dksJ7_inflate_0 7 rfl rfl)
theorem dJ7_inflate_8 : decode cJ7_inflate 8 = .ok (.istore 5, 2) := dk_54 5 (dk_at dksJ7_inflate_0 8 rfl rfl)
theorem dJ7_inflate_10 : decode cJ7_inflate 10 = .ok (.iload 5, 2) := dk_21 5 (dk_at dksJ7_inflate_0 10 rfl rfl)
theorem dJ7_inflate_12 : decode cJ7_inflate 12 = .ok (.iload 4, 2) := dk_21 4 (dk_at dksJ7_inflate_0 12 rfl rfl)
theorem dJ7_inflate_14 : decode cJ7_inflate 14 = .ok (.if_icmp .ge 27, 3) := dk_162 0 27 (dk_at dksJ7_inflate_0 14 rfl rfl)
theorem dJ7_inflate_17 : decode cJ7_inflate 17 = .ok (.aload_n 2, 1) := dk_44 (dk_at dksJ7_inflate_0 17 rfl rfl)
theorem dJ7_inflate_18 : decode cJ7_inflate 18 = .ok (.iload_n 3, 1) := dk_29 (dk_at dksJ7_inflate_0 18 rfl rfl)
theorem dJ7_inflate_19 : decode cJ7_inflate 19 = .ok (.iinc 3 1, 3) := dk_132 3 1 (dk_at dksJ7_inflate_0 19 rfl rfl)
theorem dJ7_inflate_22 : decode cJ7_inflate 22 = .ok (.aload_n 0, 1) := dk_42 (dk_at dksJ7_inflate_0 22 rfl rfl)
theorem dJ7_inflate_23 : decode cJ7_inflate 23 = .ok (.iload_n 1, 1) := dk_27 (dk_at dksJ7_inflate_0 23 rfl rfl)
theorem dJ7_inflate_24 : decode cJ7_inflate 24 = .ok (.iinc 1 1, 3) := dk_132 1 1 (dk_at dksJ7_inflate_1 0 rfl rfl)
theorem dJ7_inflate_27 : decode cJ7_inflate 27 = .ok (.baload, 1) := dk_51 (dk_at dksJ7_inflate_1 3 rfl rfl)
theorem dJ7_inflate_28 : decode cJ7_inflate 28 = .ok (.sipush 255, 3) := dk_17 0 255 (dk_at dksJ7_inflate_1 4 rfl rfl)
theorem dJ7_inflate_31 : decode cJ7_inflate 31 = .ok (.iand, 1) := dk_126 (dk_at dksJ7_inflate_1 7 rfl rfl)
theorem dJ7_inflate_32 : decode cJ7_inflate 32 = .ok (.invokestatic 111, 3) := dk_184 0 111 (dk_at dksJ7_inflate_1 8 rfl rfl)
theorem dJ7_inflate_35 : decode cJ7_inflate 35 = .ok (.iinc 5 1, 3) := dk_132 5 1 (dk_at dksJ7_inflate_1 11 rfl rfl)
theorem dJ7_inflate_38 : decode cJ7_inflate 38 = .ok (.goto (-28), 3) := dk_167 255 228 (dk_at dksJ7_inflate_1 14 rfl rfl)
theorem dJ7_inflate_41 : decode cJ7_inflate 41 = .ok (.return_, 1) := dk_177 (dk_at dksJ7_inflate_1 17 rfl rfl)
def dkwJ7_checkBoundsOffCount_0 : List UInt8 := [26, 27, 44, 184, 0, 48, 184, 1, 163, 87, 177]
abbrev dktJ7_checkBoundsOffCount_0 : List UInt8 := dkwJ7_checkBoundsOffCount_0 ++ []
theorem dksJ7_checkBoundsOffCount_0 : cJ7_checkBoundsOffCount.data.toList.drop 0 = dktJ7_checkBoundsOffCount_0 := by decide +kernel
theorem dJ7_checkBoundsOffCount_0 : decode cJ7_checkBoundsOffCount 0 = .ok (.iload_n 0, 1) := dk_26 (dk_at dksJ7_checkBoundsOffCount_0 0 rfl rfl)
theorem dJ7_checkBoundsOffCount_1 : decode cJ7_checkBoundsOffCount 1 = .ok (.iload_n 1, 1) := dk_27 (dk_at dksJ7_checkBoundsOffCount_0 1 rfl rfl)
theorem dJ7_checkBoundsOffCount_2 : decode cJ7_checkBoundsOffCount 2 = .ok (.aload_n 2, 1) := dk_44 (dk_at dksJ7_checkBoundsOffCount_0 2 rfl rfl)
theorem dJ7_checkBoundsOffCount_3 : decode cJ7_checkBoundsOffCount 3 = .ok (.invokestatic 48, 3) := dk_184 0 48 (dk_at dksJ7_checkBoundsOffCount_0 3 rfl rfl)
theorem dJ7_checkBoundsOffCount_6 : decode cJ7_checkBoundsOffCount 6 = .ok (.invokestatic 419, 3) := dk_184 1 163 (dk_at dksJ7_checkBoundsOffCount_0 6 rfl rfl)
theorem dJ7_checkBoundsOffCount_9 : decode cJ7_checkBoundsOffCount 9 = .ok (.pop, 1) := dk_87 (dk_at dksJ7_checkBoundsOffCount_0 9 rfl rfl)
theorem dJ7_checkBoundsOffCount_10 : decode cJ7_checkBoundsOffCount 10 = .ok (.return_, 1) := dk_177 (dk_at dksJ7_checkBoundsOffCount_0 10 rfl rfl)
def dkwJ7_putChar_2 : List UInt8 := [178, 0, 63, 122, 145, 84, 177]
abbrev dktJ7_putChar_2 : List UInt8 := dkwJ7_putChar_2 ++ []
def dkwJ7_putChar_1 : List UInt8 := [183, 0, 56, 191, 27, 4, 120, 60, 42, 27, 132, 1, 1, 28, 178, 0, 59, 122, 145, 84, 42, 27, 28]
abbrev dktJ7_putChar_1 : List UInt8 := dkwJ7_putChar_1 ++ dktJ7_putChar_2
def dkwJ7_putChar_0 : List UInt8 := [178, 0, 44, 154, 0, 25, 27, 155, 0, 11, 27, 42, 184, 0, 48, 161, 0, 13, 187, 0, 52, 89, 18, 54]
abbrev dktJ7_putChar_0 : List UInt8 := dkwJ7_putChar_0 ++ dktJ7_putChar_1
theorem dksJ7_putChar_0 : cJ7_putChar.data.toList.drop 0 = dktJ7_putChar_0 := by decide +kernel
theorem dksJ7_putChar_1 : cJ7_putChar.data.toList.drop 24 = dktJ7_putChar_1 := dk_seg dksJ7_putChar_0 24 rfl rfl
theorem dksJ7_putChar_2 : cJ7_putChar.data.toList.drop 47 = dktJ7_putChar_2 := dk_seg dksJ7_putChar_1 23 rfl rfl
theorem dJ7_putChar_0 : decode cJ7_putChar 0 = .ok (.getstatic 44, 3) := dk_178 0 44 (dk_at dksJ7_putChar_0 0 rfl rfl)
theorem dJ7_putChar_3 : decode cJ7_putChar 3 = .ok (.ifCond .ne 25, 3) := dk_154 0 25 (dk_at dksJ7_putChar_0 3 rfl rfl)
theorem dJ7_putChar_6 : decode cJ7_putChar 6 = .ok (.iload_n 1, 1) := dk_27 (dk_at dksJ7_putChar_0 6 rfl rfl)
theorem dJ7_putChar_7 : decode cJ7_putChar 7 = .ok (.ifCond .lt 11, 3) := dk_155 0 11 (dk_at dksJ7_putChar_0 7 rfl rfl)
theorem dJ7_putChar_10 : decode cJ7_putChar 10 = .ok (.iload_n 1, 1) := dk_27 (dk_at dksJ7_putChar_0 10 rfl rfl)
theorem dJ7_putChar_11 : decode cJ7_putChar 11 = .ok (.aload_n 0, 1) := dk_42 (dk_at dksJ7_putChar_0 11 rfl rfl)
theorem dJ7_putChar_12 : decode cJ7_putChar 12 = .ok (.invokestatic 48, 3) := dk_184 0 48 (dk_at dksJ7_putChar_0 12 rfl rfl)
theorem dJ7_putChar_15 : decode cJ7_putChar 15 = .ok (.if_icmp .lt 13, 3) := dk_161 0 13 (dk_at dksJ7_putChar_0 15 rfl rfl)
theorem dJ7_putChar_18 : decode cJ7_putChar 18 = .ok (.new 52, 3) := dk_187 0 52 (dk_at dksJ7_putChar_0 18 rfl rfl)
theorem dJ7_putChar_21 : decode cJ7_putChar 21 = .ok (.dup, 1) := dk_89 (dk_at dksJ7_putChar_0 21 rfl rfl)
theorem dJ7_putChar_22 : decode cJ7_putChar 22 = .ok (.ldc 54, 2) := dk_18 54 (dk_at dksJ7_putChar_0 22 rfl rfl)
theorem dJ7_putChar_24 : decode cJ7_putChar 24 = .ok (.invokespecial 56, 3) := dk_183 0 56 (dk_at dksJ7_putChar_1 0 rfl rfl)
theorem dJ7_putChar_27 : decode cJ7_putChar 27 = .ok (.athrow, 1) := dk_191 (dk_at dksJ7_putChar_1 3 rfl rfl)
theorem dJ7_putChar_28 : decode cJ7_putChar 28 = .ok (.iload_n 1, 1) := dk_27 (dk_at dksJ7_putChar_1 4 rfl rfl)
theorem dJ7_putChar_29 : decode cJ7_putChar 29 = .ok (.iconst 1, 1) := dk_4 (dk_at dksJ7_putChar_1 5 rfl rfl)
theorem dJ7_putChar_30 : decode cJ7_putChar 30 = .ok (.ishl, 1) := dk_120 (dk_at dksJ7_putChar_1 6 rfl rfl)
theorem dJ7_putChar_31 : decode cJ7_putChar 31 = .ok (.istore_n 1, 1) := dk_60 (dk_at dksJ7_putChar_1 7 rfl rfl)
theorem dJ7_putChar_32 : decode cJ7_putChar 32 = .ok (.aload_n 0, 1) := dk_42 (dk_at dksJ7_putChar_1 8 rfl rfl)
theorem dJ7_putChar_33 : decode cJ7_putChar 33 = .ok (.iload_n 1, 1) := dk_27 (dk_at dksJ7_putChar_1 9 rfl rfl)
theorem dJ7_putChar_34 : decode cJ7_putChar 34 = .ok (.iinc 1 1, 3) := dk_132 1 1 (dk_at dksJ7_putChar_1 10 rfl rfl)
theorem dJ7_putChar_37 : decode cJ7_putChar 37 = .ok (.iload_n 2, 1) := dk_28 (dk_at dksJ7_putChar_1 13 rfl rfl)
theorem dJ7_putChar_38 : decode cJ7_putChar 38 = .ok (.getstatic 59, 3) := dk_178 0 59 (dk_at dksJ7_putChar_1 14 rfl rfl)
theorem dJ7_putChar_41 : decode cJ7_putChar 41 = .ok (.ishr, 1) := dk_122 (dk_at dksJ7_putChar_1 17 rfl rfl)
theorem dJ7_putChar_42 : decode cJ7_putChar 42 = .ok (.i2b, 1) := dk_145 (dk_at dksJ7_putChar_1 18 rfl rfl)
theorem dJ7_putChar_43 : decode cJ7_putChar 43 = .ok (.bastore, 1) := dk_84 (dk_at dksJ7_putChar_1 19 rfl rfl)
theorem dJ7_putChar_44 : decode cJ7_putChar 44 = .ok (.aload_n 0, 1) := dk_42 (dk_at dksJ7_putChar_1 20 rfl rfl)
theorem dJ7_putChar_45 : decode cJ7_putChar 45 = .ok (.iload_n 1, 1) := dk_27 (dk_at dksJ7_putChar_1 21 rfl rfl)
theorem dJ7_putChar_46 : decode cJ7_putChar 46 = .ok (.iload_n 2, 1) := dk_28 (dk_at dksJ7_putChar_1 22 rfl rfl)
theorem dJ7_putChar_47 : decode cJ7_putChar 47 = .ok (.getstatic 63, 3) := dk_178 0 63 (dk_at dksJ7_putChar_2 0 rfl rfl)
theorem dJ7_putChar_50 : decode cJ7_putChar 50 = .ok (.ishr, 1) := dk_122 (dk_at dksJ7_putChar_2 3 rfl rfl)
theorem dJ7_putChar_51 : decode cJ7_putChar 51 = .ok (.i2b, 1) := dk_145 (dk_at dksJ7_putChar_2 4 rfl rfl)
theorem dJ7_putChar_52 : decode cJ7_putChar 52 = .ok (.bastore, 1) := dk_84 (dk_at dksJ7_putChar_2 5 rfl rfl)
theorem dJ7_putChar_53 : decode cJ7_putChar 53 = .ok (.return_, 1) := dk_177 (dk_at dksJ7_putChar_2 6 rfl rfl)
def dkwJ7_putCharSB_0 : List UInt8 := [27, 42, 184, 0, 67, 42, 27, 28, 184, 0, 111, 177]
abbrev dktJ7_putCharSB_0 : List UInt8 := dkwJ7_putCharSB_0 ++ []
theorem dksJ7_putCharSB_0 : cJ7_putCharSB.data.toList.drop 0 = dktJ7_putCharSB_0 := by decide +kernel
theorem dJ7_putCharSB_0 : decode cJ7_putCharSB 0 = .ok (.iload_n 1, 1) := dk_27 (dk_at dksJ7_putCharSB_0 0 rfl rfl)
theorem dJ7_putCharSB_1 : decode cJ7_putCharSB 1 = .ok (.aload_n 0, 1) := dk_42 (dk_at dksJ7_putCharSB_0 1 rfl rfl)
theorem dJ7_putCharSB_2 : decode cJ7_putCharSB 2 = .ok (.invokestatic 67, 3) := dk_184 0 67 (dk_at dksJ7_putCharSB_0 2 rfl rfl)
theorem dJ7_putCharSB_5 : decode cJ7_putCharSB 5 = .ok (.aload_n 0, 1) := dk_42 (dk_at dksJ7_putCharSB_0 5 rfl rfl)
theorem dJ7_putCharSB_6 : decode cJ7_putCharSB 6 = .ok (.iload_n 1, 1) := dk_27 (dk_at dksJ7_putCharSB_0 6 rfl rfl)
theorem dJ7_putCharSB_7 : decode cJ7_putCharSB 7 = .ok (.iload_n 2, 1) := dk_28 (dk_at dksJ7_putCharSB_0 7 rfl rfl)
theorem dJ7_putCharSB_8 : decode cJ7_putCharSB 8 = .ok (.invokestatic 111, 3) := dk_184 0 111 (dk_at dksJ7_putCharSB_0 8 rfl rfl)
theorem dJ7_putCharSB_11 : decode cJ7_putCharSB 11 = .ok (.return_, 1) := dk_177 (dk_at dksJ7_putCharSB_0 11 rfl rfl)
def dkwJ7_checkIndex_0 : List UInt8 := [26, 43, 184, 0, 48, 184, 1, 158, 177]
abbrev dktJ7_checkIndex_0 : List UInt8 := dkwJ7_checkIndex_0 ++ []
theorem dksJ7_checkIndex_0 : cJ7_checkIndex.data.toList.drop 0 = dktJ7_checkIndex_0 := by decide +kernel
theorem dJ7_checkIndex_0 : decode cJ7_checkIndex 0 = .ok (.iload_n 0, 1) := dk_26 (dk_at dksJ7_checkIndex_0 0 rfl rfl)
theorem dJ7_checkIndex_1 : decode cJ7_checkIndex 1 = .ok (.aload_n 1, 1) := dk_43 (dk_at dksJ7_checkIndex_0 1 rfl rfl)
theorem dJ7_checkIndex_2 : decode cJ7_checkIndex 2 = .ok (.invokestatic 48, 3) := dk_184 0 48 (dk_at dksJ7_checkIndex_0 2 rfl rfl)
theorem dJ7_checkIndex_5 : decode cJ7_checkIndex 5 = .ok (.invokestatic 414, 3) := dk_184 1 158 (dk_at dksJ7_checkIndex_0 5 rfl rfl)
theorem dJ7_checkIndex_8 : decode cJ7_checkIndex 8 = .ok (.return_, 1) := dk_177 (dk_at dksJ7_checkIndex_0 8 rfl rfl)
def dkwJ7_fillNull_0 : List UInt8 := [42, 27, 4, 120, 28, 4, 120, 3, 184, 1, 124, 177]
abbrev dktJ7_fillNull_0 : List UInt8 := dkwJ7_fillNull_0 ++ []
theorem dksJ7_fillNull_0 : cJ7_fillNull.data.toList.drop 0 = dktJ7_fillNull_0 := by decide +kernel
theorem dJ7_fillNull_0 : decode cJ7_fillNull 0 = .ok (.aload_n 0, 1) := dk_42 (dk_at dksJ7_fillNull_0 0 rfl rfl)
theorem dJ7_fillNull_1 : decode cJ7_fillNull 1 = .ok (.iload_n 1, 1) := dk_27 (dk_at dksJ7_fillNull_0 1 rfl rfl)
theorem dJ7_fillNull_2 : decode cJ7_fillNull 2 = .ok (.iconst 1, 1) := dk_4 (dk_at dksJ7_fillNull_0 2 rfl rfl)
theorem dJ7_fillNull_3 : decode cJ7_fillNull 3 = .ok (.ishl, 1) := dk_120 (dk_at dksJ7_fillNull_0 3 rfl rfl)
theorem dJ7_fillNull_4 : decode cJ7_fillNull 4 = .ok (.iload_n 2, 1) := dk_28 (dk_at dksJ7_fillNull_0 4 rfl rfl)
theorem dJ7_fillNull_5 : decode cJ7_fillNull 5 = .ok (.iconst 1, 1) := dk_4 (dk_at dksJ7_fillNull_0 5 rfl rfl)
theorem dJ7_fillNull_6 : decode cJ7_fillNull 6 = .ok (.ishl, 1) := dk_120 (dk_at dksJ7_fillNull_0 6 rfl rfl)
theorem dJ7_fillNull_7 : decode cJ7_fillNull 7 = .ok (.iconst 0, 1) := dk_3 (dk_at dksJ7_fillNull_0 7 rfl rfl)
theorem dJ7_fillNull_8 : decode cJ7_fillNull 8 = .ok (.invokestatic 380, 3) := dk_184 1 124 (dk_at dksJ7_fillNull_0 8 rfl rfl)
theorem dJ7_fillNull_11 : decode cJ7_fillNull 11 = .ok (.return_, 1) := dk_177 (dk_at dksJ7_fillNull_0 11 rfl rfl)
