set_option maxRecDepth 100000
def dkwX0_init_3 : List UInt8 := [132, 1, 1, 167, 255, 234, 177]
abbrev dktX0_init_3 : List UInt8 := dkwX0_init_3 ++ []
def dkwX0_init_2 : List UInt8 := [181, 0, 38, 3, 60, 27, 6, 162, 0, 23, 27, 61, 42, 180, 0, 11, 27, 28, 186, 0, 42, 0, 0, 83]
abbrev dktX0_init_2 : List UInt8 := dkwX0_init_2 ++ dktX0_init_3
def dkwX0_init_1 : List UInt8 := [187, 0, 22, 89, 183, 0, 24, 181, 0, 25, 42, 187, 0, 29, 89, 183, 0, 31, 181, 0, 32, 42, 18, 36]
abbrev dktX0_init_1 : List UInt8 := dkwX0_init_1 ++ dktX0_init_2
def dkwX0_init_0 : List UInt8 := [42, 183, 0, 1, 42, 6, 189, 0, 9, 181, 0, 11, 42, 187, 0, 15, 89, 183, 0, 17, 181, 0, 18, 42]
abbrev dktX0_init_0 : List UInt8 := dkwX0_init_0 ++ dktX0_init_1
theorem dksX0_init_0 : cX0_init.data.toList.drop 0 = dktX0_init_0 := by decide +kernel
theorem dksX0_init_1 : cX0_init.data.toList.drop 24 = dktX0_init_1 := dk_seg dksX0_init_0 24 rfl rfl
theorem dksX0_init_2 : cX0_init.data.toList.drop 48 = dktX0_init_2 := dk_seg dksX0_init_1 24 rfl rfl
theorem dksX0_init_3 : cX0_init.data.toList.drop 72 = dktX0_init_3 := dk_seg dksX0_init_2 24 rfl rfl
theorem dX0_init_0 : decode cX0_init 0 = .ok (.aload_n 0, 1) := dk_42 (dk_at dksX0_init_0 0 rfl rfl)
theorem dX0_init_1 : decode cX0_init 1 = .ok (.invokespecial 1, 3) := dk_183 0 1 (dk_at dksX0_init_0 1 rfl rfl)
theorem dX0_init_4 : decode cX0_init 4 = .ok (.aload_n 0, 1) := dk_42 (dk_at dksX0_init_0 4 rfl rfl)
theorem dX0_init_5 : decode cX0_init 5 = .ok (.iconst 3, 1) := dk_6 (dk_at dksX0_init_0 5 rfl rfl)
theorem dX0_init_6 : decode cX0_init 6 = .ok (.anewarray 9, 3) := dk_189 0 9 (dk_at dksX0_init_0 6 rfl rfl)
theorem dX0_init_9 : decode cX0_init 9 = .ok (.putfield 11, 3) := dk_181 0 11 (dk_at dksX0_init_0 9 rfl rfl)
theorem dX0_init_12 : decode cX0_init 12 = .ok (.aload_n 0, 1) := dk_42 (dk_at dksX0_init_0 12 rfl rfl)
theorem dX0_init_13 : decode cX0_init 13 = .ok (.new 15, 3) := dk_187 0 15 (dk_at dksX0_init_0 13 rfl rfl)
theorem dX0_init_16 : decode cX0_init 16 = .ok (.dup, 1) := dk_89 (dk_at dksX0_init_0 16 rfl rfl)
theorem dX0_init_17 : decode cX0_init 17 = .ok (.invokespecial 17, 3) := dk_183 0 17 (dk_at dksX0_init_0 17 rfl rfl)
theorem dX0_init_20 : decode cX0_init 20 = .ok (.putfield 18, 3) := dk_181 0 18 (dk_at dksX0_init_0 20 rfl rfl)
theorem dX0_init_23 : decode cX0_init 23 = .ok (.aload_n 0, 1) := dk_42 (dk_at dksX0_init_0 23 rfl rfl)
theorem dX0_init_24 : decode cX0_init 24 = .ok (.new 22, 3) := dk_187 0 22 (dk_at dksX0_init_1 0 rfl rfl)
theorem dX0_init_27 : decode cX0_init 27 = .ok (.dup, 1) := dk_89 (dk_at dksX0_init_1 3 rfl rfl)
theorem dX0_init_28 : decode cX0_init 28 = .ok (.invokespecial 24, 3) := dk_183 0 24 (dk_at dksX0_init_1 4 rfl rfl)
theorem dX0_init_31 : decode cX0_init 31 = .ok (.putfield 25, 3) := dk_181 0 25 (dk_at dksX0_init_1 7 rfl rfl)
theorem dX0_init_34 : decode cX0_init 34 = .ok (.aload_n 0, 1) := dk_42 (dk_at dksX0_init_1 10 rfl rfl)
theorem dX0_init_35 : decode cX0_init 35 = .ok (.new 29, 3) := dk_187 0 29 (dk_at dksX0_init_1 11 rfl rfl)
theorem dX0_init_38 : decode cX0_init 38 = .ok (.dup, 1) := dk_89 (dk_at dksX0_init_1 14 rfl rfl)
theorem dX0_init_39 : decode cX0_init 39 = .ok (.invokespecial 31, 3) := dk_183 0 31 (dk_at dksX0_init_1 15 rfl rfl)
theorem dX0_init_42 : decode cX0_init 42 = .ok (.putfield 32, 3) := dk_181 0 32 (dk_at dksX0_init_1 18 rfl rfl)
theorem dX0_init_45 : decode cX0_init 45 = .ok (.aload_n 0, 1) := dk_42 (dk_at dksX0_init_1 21 rfl rfl)
theorem dX0_init_46 : decode cX0_init 46 = .ok (.ldc 36, 2) := dk_18 36 (dk_at dksX0_init_1 22 rfl rfl)
theorem dX0_init_48 : decode cX0_init 48 = .ok (.putfield 38, 3) := dk_181 0 38 (dk_at dksX0_init_2 0 rfl rfl)
theorem dX0_init_51 : decode cX0_init 51 = .ok (.iconst 0, 1) := dk_3 (dk_at dksX0_init_2 3 rfl rfl)
theorem dX0_init_52 : decode cX0_init 52 = .ok (.istore_n 1, 1) := dk_60 (dk_at dksX0_init_2 4 rfl rfl)
theorem dX0_init_53 : decode cX0_init 53 = .ok (.iload_n 1, 1) := dk_27 (dk_at dksX0_init_2 5 rfl rfl)
theorem dX0_init_54 : decode cX0_init 54 = .ok (.iconst 3, 1) := dk_6 (dk_at dksX0_init_2 6 rfl rfl)
theorem dX0_init_55 : decode cX0_init 55 = .ok (.if_icmp .ge 23, 3) := dk_162 0 23 (dk_at dksX0_init_2 7 rfl rfl)
theorem dX0_init_58 : decode cX0_init 58 = .ok (.iload_n 1, 1) := dk_27 (dk_at dksX0_init_2 10 rfl rfl)
theorem dX0_init_59 : decode cX0_init 59 = .ok (.istore_n 2, 1) := dk_61 (dk_at dksX0_init_2 11 rfl rfl)
theorem dX0_init_60 : decode cX0_init 60 = .ok (.aload_n 0, 1) := dk_42 (dk_at dksX0_init_2 12 rfl rfl)
theorem dX0_init_61 : decode cX0_init 61 = .ok (.getfield 11, 3) := dk_180 0 11 (dk_at dksX0_init_2 13 rfl rfl)
theorem dX0_init_64 : decode cX0_init 64 = .ok (.iload_n 1, 1) := dk_27 (dk_at dksX0_init_2 16 rfl rfl)
theorem dX0_init_65 : decode cX0_init 65 = .ok (.iload_n 2, 1) := dk_28 (dk_at dksX0_init_2 17 rfl rfl)
theorem dX0_init_66 : decode cX0_init 66 = .ok (.invokedynamic 42, 5) := by decide +kernel
theorem dX0_init_71 : decode cX0_init 71 = .ok (.aastore, 1) := dk_83 (dk_at dksX0_init_2 23 rfl rfl)
theorem dX0_init_72 : decode cX0_init 72 = .ok (.iinc 1 1, 3) := dk_132 1 1 (dk_at dksX0_init_3 0 rfl rfl)
theorem dX0_init_75 : decode cX0_init 75 = .ok (.goto (-22), 3) := dk_167 255 234 (dk_at dksX0_init_3 3 rfl rfl)
theorem dX0_init_78 : decode cX0_init 78 = .ok (.return_, 1) := dk_177 (dk_at dksX0_init_3 6 rfl rfl)
def dkwX0_lambda_new_0_1 : List UInt8 := [180, 1, 42, 172]
abbrev dktX0_lambda_new_0_1 : List UInt8 := dkwX0_lambda_new_0_1 ++ []
def dkwX0_lambda_new_0_0 : List UInt8 := [26, 4, 160, 0, 10, 43, 180, 1, 36, 167, 0, 18, 26, 154, 0, 10, 43, 180, 1, 39, 167, 0, 7, 43]
abbrev dktX0_lambda_new_0_0 : List UInt8 := dkwX0_lambda_new_0_0 ++ dktX0_lambda_new_0_1
theorem dksX0_lambda_new_0_0 : cX0_lambda_new_0.data.toList.drop 0 = dktX0_lambda_new_0_0 := by decide +kernel
theorem dksX0_lambda_new_0_1 : cX0_lambda_new_0.data.toList.drop 24 = dktX0_lambda_new_0_1 := dk_seg dksX0_lambda_new_0_0 24 rfl rfl
theorem dX0_lambda_new_0_0 : decode cX0_lambda_new_0 0 = .ok (.iload_n 0, 1) := dk_26 (dk_at dksX0_lambda_new_0_0 0 rfl rfl)
theorem dX0_lambda_new_0_1 : decode cX0_lambda_new_0 1 = .ok (.iconst 1, 1) := dk_4 (dk_at dksX0_lambda_new_0_0 1 rfl rfl)
theorem dX0_lambda_new_0_2 : decode cX0_lambda_new_0 2 = .ok (.if_icmp .ne 10, 3) := dk_160 0 10 (dk_at dksX0_lambda_new_0_0 2 rfl rfl)
theorem dX0_lambda_new_0_5 : decode cX0_lambda_new_0 5 = .ok (.aload_n 1, 1) := dk_43 (dk_at dksX0_lambda_new_0_0 5 rfl rfl)
theorem dX0_lambda_new_0_6 : decode cX0_lambda_new_0 6 = .ok (.getfield 292, 3) := dk_180 1 36 (dk_at dksX0_lambda_new_0_0 6 rfl rfl)
theorem dX0_lambda_new_0_9 : decode cX0_lambda_new_0 9 = .ok (.goto 18, 3) := dk_167 0 18 (dk_at dksX0_lambda_new_0_0 9 rfl rfl)
theorem dX0_lambda_new_0_12 : decode cX0_lambda_new_0 12 = .ok (.iload_n 0, 1) := dk_26 (dk_at dksX0_lambda_new_0_0 12 rfl rfl)
theorem dX0_lambda_new_0_13 : decode cX0_lambda_new_0 13 = .ok (.ifCond .ne 10, 3) := dk_154 0 10 (dk_at dksX0_lambda_new_0_0 13 rfl rfl)
theorem dX0_lambda_new_0_16 : decode cX0_lambda_new_0 16 = .ok (.aload_n 1, 1) := dk_43 (dk_at dksX0_lambda_new_0_0 16 rfl rfl)
theorem dX0_lambda_new_0_17 : decode cX0_lambda_new_0 17 = .ok (.getfield 295, 3) := dk_180 1 39 (dk_at dksX0_lambda_new_0_0 17 rfl rfl)
theorem dX0_lambda_new_0_20 : decode cX0_lambda_new_0 20 = .ok (.goto 7, 3) := dk_167 0 7 (dk_at dksX0_lambda_new_0_0 20 rfl rfl)
theorem dX0_lambda_new_0_23 : decode cX0_lambda_new_0 23 = .ok (.aload_n 1, 1) := dk_43 (dk_at dksX0_lambda_new_0_0 23 rfl rfl)
theorem dX0_lambda_new_0_24 : decode cX0_lambda_new_0 24 = .ok (.getfield 298, 3) := dk_180 1 42 (dk_at dksX0_lambda_new_0_1 0 rfl rfl)
theorem dX0_lambda_new_0_27 : decode cX0_lambda_new_0 27 = .ok (.ireturn, 1) := dk_172 (dk_at dksX0_lambda_new_0_1 3 rfl rfl)
def dkwX0_rope_1 : List UInt8 := [180, 0, 18, 27, 182, 0, 84, 182, 0, 88, 172, 78, 42, 45, 182, 0, 92, 172]
abbrev dktX0_rope_1 : List UInt8 := dkwX0_rope_1 ++ []
def dkwX0_rope_0 : List UInt8 := [27, 184, 0, 76, 154, 0, 7, 17, 252, 12, 172, 42, 180, 0, 18, 182, 0, 80, 77, 42, 44, 42]
abbrev dktX0_rope_0 : List UInt8 := dkwX0_rope_0 ++ dktX0_rope_1
theorem dksX0_rope_0 : cX0_rope.data.toList.drop 0 = dktX0_rope_0 := by decide +kernel
theorem dksX0_rope_1 : cX0_rope.data.toList.drop 22 = dktX0_rope_1 := dk_seg dksX0_rope_0 22 rfl rfl
theorem dX0_rope_0 : decode cX0_rope 0 = .ok (.iload_n 1, 1) := dk_27 (dk_at dksX0_rope_0 0 rfl rfl)
theorem dX0_rope_1 : decode cX0_rope 1 = .ok (.invokestatic 76, 3) := dk_184 0 76 (dk_at dksX0_rope_0 1 rfl rfl)
theorem dX0_rope_4 : decode cX0_rope 4 = .ok (.ifCond .ne 7, 3) := dk_154 0 7 (dk_at dksX0_rope_0 4 rfl rfl)
theorem dX0_rope_7 : decode cX0_rope 7 = .ok (.sipush (-1012), 3) := dk_17 252 12 (dk_at dksX0_rope_0 7 rfl rfl)
theorem dX0_rope_10 : decode cX0_rope 10 = .ok (.ireturn, 1) := dk_172 (dk_at dksX0_rope_0 10 rfl rfl)
theorem dX0_rope_11 : decode cX0_rope 11 = .ok (.aload_n 0, 1) := dk_42 (dk_at dksX0_rope_0 11 rfl rfl)
theorem dX0_rope_12 : decode cX0_rope 12 = .ok (.getfield 18, 3) := dk_180 0 18 (dk_at dksX0_rope_0 12 rfl rfl)
theorem dX0_rope_15 : decode cX0_rope 15 = .ok (.invokevirtual 80, 3) := dk_182 0 80 (dk_at dksX0_rope_0 15 rfl rfl)
theorem dX0_rope_18 : decode cX0_rope 18 = .ok (.astore_n 2, 1) := dk_77 (dk_at dksX0_rope_0 18 rfl rfl)
theorem dX0_rope_19 : decode cX0_rope 19 = .ok (.aload_n 0, 1) := dk_42 (dk_at dksX0_rope_0 19 rfl rfl)
theorem dX0_rope_20 : decode cX0_rope 20 = .ok (.aload_n 2, 1) := dk_44 (dk_at dksX0_rope_0 20 rfl rfl)
theorem dX0_rope_21 : decode cX0_rope 21 = .ok (.aload_n 0, 1) := dk_42 (dk_at dksX0_rope_0 21 rfl rfl)
theorem dX0_rope_22 : decode cX0_rope 22 = .ok (.getfield 18, 3) := dk_180 0 18 (dk_at dksX0_rope_1 0 rfl rfl)
theorem dX0_rope_25 : decode cX0_rope 25 = .ok (.iload_n 1, 1) := dk_27 (dk_at dksX0_rope_1 3 rfl rfl)
theorem dX0_rope_26 : decode cX0_rope 26 = .ok (.invokevirtual 84, 3) := dk_182 0 84 (dk_at dksX0_rope_1 4 rfl rfl)
theorem dX0_rope_29 : decode cX0_rope 29 = .ok (.invokevirtual 88, 3) := dk_182 0 88 (dk_at dksX0_rope_1 7 rfl rfl)
theorem dX0_rope_32 : decode cX0_rope 32 = .ok (.ireturn, 1) := dk_172 (dk_at dksX0_rope_1 10 rfl rfl)
theorem dX0_rope_33 : decode cX0_rope 33 = .ok (.astore_n 3, 1) := dk_78 (dk_at dksX0_rope_1 11 rfl rfl)
theorem dX0_rope_34 : decode cX0_rope 34 = .ok (.aload_n 0, 1) := dk_42 (dk_at dksX0_rope_1 12 rfl rfl)
theorem dX0_rope_35 : decode cX0_rope 35 = .ok (.aload_n 3, 1) := dk_45 (dk_at dksX0_rope_1 13 rfl rfl)
theorem dX0_rope_36 : decode cX0_rope 36 = .ok (.invokevirtual 92, 3) := dk_182 0 92 (dk_at dksX0_rope_1 14 rfl rfl)
theorem dX0_rope_39 : decode cX0_rope 39 = .ok (.ireturn, 1) := dk_172 (dk_at dksX0_rope_1 17 rfl rfl)
def dkwX0_isParish_0 : List UInt8 := [26, 3, 6, 184, 0, 46, 172]
abbrev dktX0_isParish_0 : List UInt8 := dkwX0_isParish_0 ++ []
theorem dksX0_isParish_0 : cX0_isParish.data.toList.drop 0 = dktX0_isParish_0 := by decide +kernel
theorem dX0_isParish_0 : decode cX0_isParish 0 = .ok (.iload_n 0, 1) := dk_26 (dk_at dksX0_isParish_0 0 rfl rfl)
theorem dX0_isParish_1 : decode cX0_isParish 1 = .ok (.iconst 0, 1) := dk_3 (dk_at dksX0_isParish_0 1 rfl rfl)
theorem dX0_isParish_2 : decode cX0_isParish 2 = .ok (.iconst 3, 1) := dk_6 (dk_at dksX0_isParish_0 2 rfl rfl)
theorem dX0_isParish_3 : decode cX0_isParish 3 = .ok (.invokestatic 46, 3) := dk_184 0 46 (dk_at dksX0_isParish_0 3 rfl rfl)
theorem dX0_isParish_6 : decode cX0_isParish 6 = .ok (.ireturn, 1) := dk_172 (dk_at dksX0_isParish_0 6 rfl rfl)
def dkwX0_isIn_0 : List UInt8 := [26, 27, 161, 0, 12, 26, 28, 163, 0, 7, 4, 167, 0, 4, 3, 172]
abbrev dktX0_isIn_0 : List UInt8 := dkwX0_isIn_0 ++ []
theorem dksX0_isIn_0 : cX0_isIn.data.toList.drop 0 = dktX0_isIn_0 := by decide +kernel
theorem dX0_isIn_0 : decode cX0_isIn 0 = .ok (.iload_n 0, 1) := dk_26 (dk_at dksX0_isIn_0 0 rfl rfl)
theorem dX0_isIn_1 : decode cX0_isIn 1 = .ok (.iload_n 1, 1) := dk_27 (dk_at dksX0_isIn_0 1 rfl rfl)
theorem dX0_isIn_2 : decode cX0_isIn 2 = .ok (.if_icmp .lt 12, 3) := dk_161 0 12 (dk_at dksX0_isIn_0 2 rfl rfl)
theorem dX0_isIn_5 : decode cX0_isIn 5 = .ok (.iload_n 0, 1) := dk_26 (dk_at dksX0_isIn_0 5 rfl rfl)
theorem dX0_isIn_6 : decode cX0_isIn 6 = .ok (.iload_n 2, 1) := dk_28 (dk_at dksX0_isIn_0 6 rfl rfl)
theorem dX0_isIn_7 : decode cX0_isIn 7 = .ok (.if_icmp .gt 7, 3) := dk_163 0 7 (dk_at dksX0_isIn_0 7 rfl rfl)
theorem dX0_isIn_10 : decode cX0_isIn 10 = .ok (.iconst 1, 1) := dk_4 (dk_at dksX0_isIn_0 10 rfl rfl)
theorem dX0_isIn_11 : decode cX0_isIn 11 = .ok (.goto 4, 3) := dk_167 0 4 (dk_at dksX0_isIn_0 11 rfl rfl)
theorem dX0_isIn_14 : decode cX0_isIn 14 = .ok (.iconst 0, 1) := dk_3 (dk_at dksX0_isIn_0 14 rfl rfl)
theorem dX0_isIn_15 : decode cX0_isIn 15 = .ok (.ireturn, 1) := dk_172 (dk_at dksX0_isIn_0 15 rfl rfl)
def dkwX0_refuse_0 : List UInt8 := [26, 153, 0, 13, 187, 0, 50, 89, 27, 28, 183, 0, 52, 191, 177]
abbrev dktX0_refuse_0 : List UInt8 := dkwX0_refuse_0 ++ []
theorem dksX0_refuse_0 : cX0_refuse.data.toList.drop 0 = dktX0_refuse_0 := by decide +kernel
theorem dX0_refuse_0 : decode cX0_refuse 0 = .ok (.iload_n 0, 1) := dk_26 (dk_at dksX0_refuse_0 0 rfl rfl)
theorem dX0_refuse_1 : decode cX0_refuse 1 = .ok (.ifCond .eq 13, 3) := dk_153 0 13 (dk_at dksX0_refuse_0 1 rfl rfl)
theorem dX0_refuse_4 : decode cX0_refuse 4 = .ok (.new 50, 3) := dk_187 0 50 (dk_at dksX0_refuse_0 4 rfl rfl)
theorem dX0_refuse_7 : decode cX0_refuse 7 = .ok (.dup, 1) := dk_89 (dk_at dksX0_refuse_0 7 rfl rfl)
theorem dX0_refuse_8 : decode cX0_refuse 8 = .ok (.iload_n 1, 1) := dk_27 (dk_at dksX0_refuse_0 8 rfl rfl)
theorem dX0_refuse_9 : decode cX0_refuse 9 = .ok (.iload_n 2, 1) := dk_28 (dk_at dksX0_refuse_0 9 rfl rfl)
theorem dX0_refuse_10 : decode cX0_refuse 10 = .ok (.invokespecial 52, 3) := dk_183 0 52 (dk_at dksX0_refuse_0 10 rfl rfl)
theorem dX0_refuse_13 : decode cX0_refuse 13 = .ok (.athrow, 1) := dk_191 (dk_at dksX0_refuse_0 13 rfl rfl)
theorem dX0_refuse_14 : decode cX0_refuse 14 = .ok (.return_, 1) := dk_177 (dk_at dksX0_refuse_0 14 rfl rfl)
def dkwX0_changed_1 : List UInt8 := [182, 0, 72, 87, 28, 172]
abbrev dktX0_changed_1 : List UInt8 := dkwX0_changed_1 ++ []
def dkwX0_changed_0 : List UInt8 := [42, 180, 0, 25, 43, 182, 0, 64, 42, 180, 0, 25, 182, 0, 68, 16, 8, 164, 0, 11, 42, 180, 0, 25]
abbrev dktX0_changed_0 : List UInt8 := dkwX0_changed_0 ++ dktX0_changed_1
theorem dksX0_changed_0 : cX0_changed.data.toList.drop 0 = dktX0_changed_0 := by decide +kernel
theorem dksX0_changed_1 : cX0_changed.data.toList.drop 24 = dktX0_changed_1 := dk_seg dksX0_changed_0 24 rfl rfl
theorem dX0_changed_0 : decode cX0_changed 0 = .ok (.aload_n 0, 1) := dk_42 (dk_at dksX0_changed_0 0 rfl rfl)
theorem dX0_changed_1 : decode cX0_changed 1 = .ok (.getfield 25, 3) := dk_180 0 25 (dk_at dksX0_changed_0 1 rfl rfl)
theorem dX0_changed_4 : decode cX0_changed 4 = .ok (.aload_n 1, 1) := dk_43 (dk_at dksX0_changed_0 4 rfl rfl)
theorem dX0_changed_5 : decode cX0_changed 5 = .ok (.invokevirtual 64, 3) := dk_182 0 64 (dk_at dksX0_changed_0 5 rfl rfl)
theorem dX0_changed_8 : decode cX0_changed 8 = .ok (.aload_n 0, 1) := dk_42 (dk_at dksX0_changed_0 8 rfl rfl)
theorem dX0_changed_9 : decode cX0_changed 9 = .ok (.getfield 25, 3) := dk_180 0 25 (dk_at dksX0_changed_0 9 rfl rfl)
theorem dX0_changed_12 : decode cX0_changed 12 = .ok (.invokevirtual 68, 3) := dk_182 0 68 (dk_at dksX0_changed_0 12 rfl rfl)
theorem dX0_changed_15 : decode cX0_changed 15 = .ok (.bipush 8, 2) := dk_16 8 (dk_at dksX0_changed_0 15 rfl rfl)
theorem dX0_changed_17 : decode cX0_changed 17 = .ok (.if_icmp .le 11, 3) := dk_164 0 11 (dk_at dksX0_changed_0 17 rfl rfl)
theorem dX0_changed_20 : decode cX0_changed 20 = .ok (.aload_n 0, 1) := dk_42 (dk_at dksX0_changed_0 20 rfl rfl)
theorem dX0_changed_21 : decode cX0_changed 21 = .ok (.getfield 25, 3) := dk_180 0 25 (dk_at dksX0_changed_0 21 rfl rfl)
theorem dX0_changed_24 : decode cX0_changed 24 = .ok (.invokevirtual 72, 3) := dk_182 0 72 (dk_at dksX0_changed_1 0 rfl rfl)
theorem dX0_changed_27 : decode cX0_changed 27 = .ok (.pop, 1) := dk_87 (dk_at dksX0_changed_1 3 rfl rfl)
theorem dX0_changed_28 : decode cX0_changed 28 = .ok (.iload_n 2, 1) := dk_28 (dk_at dksX0_changed_1 4 rfl rfl)
theorem dX0_changed_29 : decode cX0_changed 29 = .ok (.ireturn, 1) := dk_172 (dk_at dksX0_changed_1 5 rfl rfl)
def dkwX0_refused_0 : List UInt8 := [42, 43, 180, 0, 55, 181, 0, 59, 42, 43, 180, 0, 60, 181, 0, 63, 17, 252, 10, 172]
abbrev dktX0_refused_0 : List UInt8 := dkwX0_refused_0 ++ []
theorem dksX0_refused_0 : cX0_refused.data.toList.drop 0 = dktX0_refused_0 := by decide +kernel
theorem dX0_refused_0 : decode cX0_refused 0 = .ok (.aload_n 0, 1) := dk_42 (dk_at dksX0_refused_0 0 rfl rfl)
theorem dX0_refused_1 : decode cX0_refused 1 = .ok (.aload_n 1, 1) := dk_43 (dk_at dksX0_refused_0 1 rfl rfl)
theorem dX0_refused_2 : decode cX0_refused 2 = .ok (.getfield 55, 3) := dk_180 0 55 (dk_at dksX0_refused_0 2 rfl rfl)
theorem dX0_refused_5 : decode cX0_refused 5 = .ok (.putfield 59, 3) := dk_181 0 59 (dk_at dksX0_refused_0 5 rfl rfl)
theorem dX0_refused_8 : decode cX0_refused 8 = .ok (.aload_n 0, 1) := dk_42 (dk_at dksX0_refused_0 8 rfl rfl)
theorem dX0_refused_9 : decode cX0_refused 9 = .ok (.aload_n 1, 1) := dk_43 (dk_at dksX0_refused_0 9 rfl rfl)
theorem dX0_refused_10 : decode cX0_refused 10 = .ok (.getfield 60, 3) := dk_180 0 60 (dk_at dksX0_refused_0 10 rfl rfl)
theorem dX0_refused_13 : decode cX0_refused 13 = .ok (.putfield 63, 3) := dk_181 0 63 (dk_at dksX0_refused_0 13 rfl rfl)
theorem dX0_refused_16 : decode cX0_refused 16 = .ok (.sipush (-1014), 3) := dk_17 252 10 (dk_at dksX0_refused_0 16 rfl rfl)
theorem dX0_refused_19 : decode cX0_refused 19 = .ok (.ireturn, 1) := dk_172 (dk_at dksX0_refused_0 19 rfl rfl)
def dkwX0_move_2 : List UInt8 := [182, 0, 88, 172, 58, 4, 42, 25, 4, 182, 0, 92, 172]
abbrev dktX0_move_2 : List UInt8 := dkwX0_move_2 ++ []
def dkwX0_move_1 : List UInt8 := [17, 252, 12, 172, 42, 180, 0, 18, 182, 0, 80, 78, 42, 45, 42, 180, 0, 18, 27, 28, 182, 0, 99]
abbrev dktX0_move_1 : List UInt8 := dkwX0_move_1 ++ dktX0_move_2
def dkwX0_move_0 : List UInt8 := [42, 180, 0, 18, 27, 182, 0, 96, 154, 0, 7, 17, 252, 13, 172, 28, 184, 0, 76, 154, 0, 7]
abbrev dktX0_move_0 : List UInt8 := dkwX0_move_0 ++ dktX0_move_1
theorem dksX0_move_0 : cX0_move.data.toList.drop 0 = dktX0_move_0 := by decide +kernel
theorem dksX0_move_1 : cX0_move.data.toList.drop 22 = dktX0_move_1 := dk_seg dksX0_move_0 22 rfl rfl
theorem dksX0_move_2 : cX0_move.data.toList.drop 45 = dktX0_move_2 := dk_seg dksX0_move_1 23 rfl rfl
theorem dX0_move_0 : decode cX0_move 0 = .ok (.aload_n 0, 1) := dk_42 (dk_at dksX0_move_0 0 rfl rfl)
theorem dX0_move_1 : decode cX0_move 1 = .ok (.getfield 18, 3) := dk_180 0 18 (dk_at dksX0_move_0 1 rfl rfl)
theorem dX0_move_4 : decode cX0_move 4 = .ok (.iload_n 1, 1) := dk_27 (dk_at dksX0_move_0 4 rfl rfl)
theorem dX0_move_5 : decode cX0_move 5 = .ok (.invokevirtual 96, 3) := dk_182 0 96 (dk_at dksX0_move_0 5 rfl rfl)
theorem dX0_move_8 : decode cX0_move 8 = .ok (.ifCond .ne 7, 3) := dk_154 0 7 (dk_at dksX0_move_0 8 rfl rfl)
theorem dX0_move_11 : decode cX0_move 11 = .ok (.sipush (-1011), 3) := dk_17 252 13 (dk_at dksX0_move_0 11 rfl rfl)
theorem dX0_move_14 : decode cX0_move 14 = .ok (.ireturn, 1) := dk_172 (dk_at dksX0_move_0 14 rfl rfl)
theorem dX0_move_15 : decode cX0_move 15 = .ok (.iload_n 2, 1) := dk_28 (dk_at dksX0_move_0 15 rfl rfl)
theorem dX0_move_16 : decode cX0_move 16 = .ok (.invokestatic 76, 3) := dk_184 0 76 (dk_at dksX0_move_0 16 rfl rfl)
theorem dX0_move_19 : decode cX0_move 19 = .ok (.ifCond .ne 7, 3) := dk_154 0 7 (dk_at dksX0_move_0 19 rfl rfl)
theorem dX0_move_22 : decode cX0_move 22 = .ok (.sipush (-1012), 3) := dk_17 252 12 (dk_at dksX0_move_1 0 rfl rfl)
theorem dX0_move_25 : decode cX0_move 25 = .ok (.ireturn, 1) := dk_172 (dk_at dksX0_move_1 3 rfl rfl)
theorem dX0_move_26 : decode cX0_move 26 = .ok (.aload_n 0, 1) := dk_42 (dk_at dksX0_move_1 4 rfl rfl)
theorem dX0_move_27 : decode cX0_move 27 = .ok (.getfield 18, 3) := dk_180 0 18 (dk_at dksX0_move_1 5 rfl rfl)
theorem dX0_move_30 : decode cX0_move 30 = .ok (.invokevirtual 80, 3) := dk_182 0 80 (dk_at dksX0_move_1 8 rfl rfl)
theorem dX0_move_33 : decode cX0_move 33 = .ok (.astore_n 3, 1) := dk_78 (dk_at dksX0_move_1 11 rfl rfl)
theorem dX0_move_34 : decode cX0_move 34 = .ok (.aload_n 0, 1) := dk_42 (dk_at dksX0_move_1 12 rfl rfl)
theorem dX0_move_35 : decode cX0_move 35 = .ok (.aload_n 3, 1) := dk_45 (dk_at dksX0_move_1 13 rfl rfl)
theorem dX0_move_36 : decode cX0_move 36 = .ok (.aload_n 0, 1) := dk_42 (dk_at dksX0_move_1 14 rfl rfl)
theorem dX0_move_37 : decode cX0_move 37 = .ok (.getfield 18, 3) := dk_180 0 18 (dk_at dksX0_move_1 15 rfl rfl)
theorem dX0_move_40 : decode cX0_move 40 = .ok (.iload_n 1, 1) := dk_27 (dk_at dksX0_move_1 18 rfl rfl)
theorem dX0_move_41 : decode cX0_move 41 = .ok (.iload_n 2, 1) := dk_28 (dk_at dksX0_move_1 19 rfl rfl)
theorem dX0_move_42 : decode cX0_move 42 = .ok (.invokevirtual 99, 3) := dk_182 0 99 (dk_at dksX0_move_1 20 rfl rfl)
theorem dX0_move_45 : decode cX0_move 45 = .ok (.invokevirtual 88, 3) := dk_182 0 88 (dk_at dksX0_move_2 0 rfl rfl)
theorem dX0_move_48 : decode cX0_move 48 = .ok (.ireturn, 1) := dk_172 (dk_at dksX0_move_2 3 rfl rfl)
theorem dX0_move_49 : decode cX0_move 49 = .ok (.astore 4, 2) := dk_58 4 (dk_at dksX0_move_2 4 rfl rfl)
theorem dX0_move_51 : decode cX0_move 51 = .ok (.aload_n 0, 1) := dk_42 (dk_at dksX0_move_2 6 rfl rfl)
theorem dX0_move_52 : decode cX0_move 52 = .ok (.aload 4, 2) := dk_25 4 (dk_at dksX0_move_2 7 rfl rfl)
theorem dX0_move_54 : decode cX0_move 54 = .ok (.invokevirtual 92, 3) := dk_182 0 92 (dk_at dksX0_move_2 9 rfl rfl)
theorem dX0_move_57 : decode cX0_move 57 = .ok (.ireturn, 1) := dk_172 (dk_at dksX0_move_2 12 rfl rfl)
def dkwX0_sensor_2 : List UInt8 := [4, 167, 0, 4, 3, 182, 0, 103, 182, 0, 88, 172, 58, 4, 42, 25, 4, 182, 0, 92, 172]
abbrev dktX0_sensor_2 : List UInt8 := dkwX0_sensor_2 ++ []
def dkwX0_sensor_1 : List UInt8 := [17, 252, 12, 172, 42, 180, 0, 18, 182, 0, 80, 78, 42, 45, 42, 180, 0, 18, 27, 28, 4, 160, 0, 7]
abbrev dktX0_sensor_1 : List UInt8 := dkwX0_sensor_1 ++ dktX0_sensor_2
def dkwX0_sensor_0 : List UInt8 := [42, 180, 0, 18, 27, 182, 0, 96, 154, 0, 7, 17, 252, 13, 172, 28, 3, 4, 184, 0, 46, 154, 0, 7]
abbrev dktX0_sensor_0 : List UInt8 := dkwX0_sensor_0 ++ dktX0_sensor_1
theorem dksX0_sensor_0 : cX0_sensor.data.toList.drop 0 = dktX0_sensor_0 := by decide +kernel
theorem dksX0_sensor_1 : cX0_sensor.data.toList.drop 24 = dktX0_sensor_1 := dk_seg dksX0_sensor_0 24 rfl rfl
theorem dksX0_sensor_2 : cX0_sensor.data.toList.drop 48 = dktX0_sensor_2 := dk_seg dksX0_sensor_1 24 rfl rfl
theorem dX0_sensor_0 : decode cX0_sensor 0 = .ok (.aload_n 0, 1) := dk_42 (dk_at dksX0_sensor_0 0 rfl rfl)
theorem dX0_sensor_1 : decode cX0_sensor 1 = .ok (.getfield 18, 3) := dk_180 0 18 (dk_at dksX0_sensor_0 1 rfl rfl)
theorem dX0_sensor_4 : decode cX0_sensor 4 = .ok (.iload_n 1, 1) := dk_27 (dk_at dksX0_sensor_0 4 rfl rfl)
theorem dX0_sensor_5 : decode cX0_sensor 5 = .ok (.invokevirtual 96, 3) := dk_182 0 96 (dk_at dksX0_sensor_0 5 rfl rfl)
theorem dX0_sensor_8 : decode cX0_sensor 8 = .ok (.ifCond .ne 7, 3) := dk_154 0 7 (dk_at dksX0_sensor_0 8 rfl rfl)
theorem dX0_sensor_11 : decode cX0_sensor 11 = .ok (.sipush (-1011), 3) := dk_17 252 13 (dk_at dksX0_sensor_0 11 rfl rfl)
theorem dX0_sensor_14 : decode cX0_sensor 14 = .ok (.ireturn, 1) := dk_172 (dk_at dksX0_sensor_0 14 rfl rfl)
theorem dX0_sensor_15 : decode cX0_sensor 15 = .ok (.iload_n 2, 1) := dk_28 (dk_at dksX0_sensor_0 15 rfl rfl)
theorem dX0_sensor_16 : decode cX0_sensor 16 = .ok (.iconst 0, 1) := dk_3 (dk_at dksX0_sensor_0 16 rfl rfl)
theorem dX0_sensor_17 : decode cX0_sensor 17 = .ok (.iconst 1, 1) := dk_4 (dk_at dksX0_sensor_0 17 rfl rfl)
theorem dX0_sensor_18 : decode cX0_sensor 18 = .ok (.invokestatic 46, 3) := dk_184 0 46 (dk_at dksX0_sensor_0 18 rfl rfl)
theorem dX0_sensor_21 : decode cX0_sensor 21 = .ok (.ifCond .ne 7, 3) := dk_154 0 7 (dk_at dksX0_sensor_0 21 rfl rfl)
theorem dX0_sensor_24 : decode cX0_sensor 24 = .ok (.sipush (-1012), 3) := dk_17 252 12 (dk_at dksX0_sensor_1 0 rfl rfl)
theorem dX0_sensor_27 : decode cX0_sensor 27 = .ok (.ireturn, 1) := dk_172 (dk_at dksX0_sensor_1 3 rfl rfl)
theorem dX0_sensor_28 : decode cX0_sensor 28 = .ok (.aload_n 0, 1) := dk_42 (dk_at dksX0_sensor_1 4 rfl rfl)
theorem dX0_sensor_29 : decode cX0_sensor 29 = .ok (.getfield 18, 3) := dk_180 0 18 (dk_at dksX0_sensor_1 5 rfl rfl)
theorem dX0_sensor_32 : decode cX0_sensor 32 = .ok (.invokevirtual 80, 3) := dk_182 0 80 (dk_at dksX0_sensor_1 8 rfl rfl)
theorem dX0_sensor_35 : decode cX0_sensor 35 = .ok (.astore_n 3, 1) := dk_78 (dk_at dksX0_sensor_1 11 rfl rfl)
theorem dX0_sensor_36 : decode cX0_sensor 36 = .ok (.aload_n 0, 1) := dk_42 (dk_at dksX0_sensor_1 12 rfl rfl)
theorem dX0_sensor_37 : decode cX0_sensor 37 = .ok (.aload_n 3, 1) := dk_45 (dk_at dksX0_sensor_1 13 rfl rfl)
theorem dX0_sensor_38 : decode cX0_sensor 38 = .ok (.aload_n 0, 1) := dk_42 (dk_at dksX0_sensor_1 14 rfl rfl)
theorem dX0_sensor_39 : decode cX0_sensor 39 = .ok (.getfield 18, 3) := dk_180 0 18 (dk_at dksX0_sensor_1 15 rfl rfl)
theorem dX0_sensor_42 : decode cX0_sensor 42 = .ok (.iload_n 1, 1) := dk_27 (dk_at dksX0_sensor_1 18 rfl rfl)
theorem dX0_sensor_43 : decode cX0_sensor 43 = .ok (.iload_n 2, 1) := dk_28 (dk_at dksX0_sensor_1 19 rfl rfl)
theorem dX0_sensor_44 : decode cX0_sensor 44 = .ok (.iconst 1, 1) := dk_4 (dk_at dksX0_sensor_1 20 rfl rfl)
theorem dX0_sensor_45 : decode cX0_sensor 45 = .ok (.if_icmp .ne 7, 3) := dk_160 0 7 (dk_at dksX0_sensor_1 21 rfl rfl)
theorem dX0_sensor_48 : decode cX0_sensor 48 = .ok (.iconst 1, 1) := dk_4 (dk_at dksX0_sensor_2 0 rfl rfl)
theorem dX0_sensor_49 : decode cX0_sensor 49 = .ok (.goto 4, 3) := dk_167 0 4 (dk_at dksX0_sensor_2 1 rfl rfl)
theorem dX0_sensor_52 : decode cX0_sensor 52 = .ok (.iconst 0, 1) := dk_3 (dk_at dksX0_sensor_2 4 rfl rfl)
theorem dX0_sensor_53 : decode cX0_sensor 53 = .ok (.invokevirtual 103, 3) := dk_182 0 103 (dk_at dksX0_sensor_2 5 rfl rfl)
theorem dX0_sensor_56 : decode cX0_sensor 56 = .ok (.invokevirtual 88, 3) := dk_182 0 88 (dk_at dksX0_sensor_2 8 rfl rfl)
theorem dX0_sensor_59 : decode cX0_sensor 59 = .ok (.ireturn, 1) := dk_172 (dk_at dksX0_sensor_2 11 rfl rfl)
theorem dX0_sensor_60 : decode cX0_sensor 60 = .ok (.astore 4, 2) := dk_58 4 (dk_at dksX0_sensor_2 12 rfl rfl)
theorem dX0_sensor_62 : decode cX0_sensor 62 = .ok (.aload_n 0, 1) := dk_42 (dk_at dksX0_sensor_2 14 rfl rfl)
theorem dX0_sensor_63 : decode cX0_sensor 63 = .ok (.aload 4, 2) := dk_25 4 (dk_at dksX0_sensor_2 15 rfl rfl)
theorem dX0_sensor_65 : decode cX0_sensor 65 = .ok (.invokevirtual 92, 3) := dk_182 0 92 (dk_at dksX0_sensor_2 17 rfl rfl)
theorem dX0_sensor_68 : decode cX0_sensor 68 = .ok (.ireturn, 1) := dk_172 (dk_at dksX0_sensor_2 20 rfl rfl)
def dkwX0_oil_2 : List UInt8 := [182, 0, 88, 172, 58, 4, 42, 25, 4, 182, 0, 92, 172]
abbrev dktX0_oil_2 : List UInt8 := dkwX0_oil_2 ++ []
def dkwX0_oil_1 : List UInt8 := [17, 252, 12, 172, 42, 180, 0, 18, 182, 0, 80, 78, 42, 45, 42, 180, 0, 18, 27, 28, 182, 0, 110]
abbrev dktX0_oil_1 : List UInt8 := dkwX0_oil_1 ++ dktX0_oil_2
def dkwX0_oil_0 : List UInt8 := [42, 180, 0, 18, 27, 182, 0, 96, 154, 0, 7, 17, 252, 13, 172, 28, 184, 0, 107, 154, 0, 7]
abbrev dktX0_oil_0 : List UInt8 := dkwX0_oil_0 ++ dktX0_oil_1
theorem dksX0_oil_0 : cX0_oil.data.toList.drop 0 = dktX0_oil_0 := by decide +kernel
theorem dksX0_oil_1 : cX0_oil.data.toList.drop 22 = dktX0_oil_1 := dk_seg dksX0_oil_0 22 rfl rfl
theorem dksX0_oil_2 : cX0_oil.data.toList.drop 45 = dktX0_oil_2 := dk_seg dksX0_oil_1 23 rfl rfl
theorem dX0_oil_0 : decode cX0_oil 0 = .ok (.aload_n 0, 1) := dk_42 (dk_at dksX0_oil_0 0 rfl rfl)
theorem dX0_oil_1 : decode cX0_oil 1 = .ok (.getfield 18, 3) := dk_180 0 18 (dk_at dksX0_oil_0 1 rfl rfl)
theorem dX0_oil_4 : decode cX0_oil 4 = .ok (.iload_n 1, 1) := dk_27 (dk_at dksX0_oil_0 4 rfl rfl)
theorem dX0_oil_5 : decode cX0_oil 5 = .ok (.invokevirtual 96, 3) := dk_182 0 96 (dk_at dksX0_oil_0 5 rfl rfl)
theorem dX0_oil_8 : decode cX0_oil 8 = .ok (.ifCond .ne 7, 3) := dk_154 0 7 (dk_at dksX0_oil_0 8 rfl rfl)
theorem dX0_oil_11 : decode cX0_oil 11 = .ok (.sipush (-1011), 3) := dk_17 252 13 (dk_at dksX0_oil_0 11 rfl rfl)
theorem dX0_oil_14 : decode cX0_oil 14 = .ok (.ireturn, 1) := dk_172 (dk_at dksX0_oil_0 14 rfl rfl)
theorem dX0_oil_15 : decode cX0_oil 15 = .ok (.iload_n 2, 1) := dk_28 (dk_at dksX0_oil_0 15 rfl rfl)
theorem dX0_oil_16 : decode cX0_oil 16 = .ok (.invokestatic 107, 3) := dk_184 0 107 (dk_at dksX0_oil_0 16 rfl rfl)
theorem dX0_oil_19 : decode cX0_oil 19 = .ok (.ifCond .ne 7, 3) := dk_154 0 7 (dk_at dksX0_oil_0 19 rfl rfl)
theorem dX0_oil_22 : decode cX0_oil 22 = .ok (.sipush (-1012), 3) := dk_17 252 12 (dk_at dksX0_oil_1 0 rfl rfl)
theorem dX0_oil_25 : decode cX0_oil 25 = .ok (.ireturn, 1) := dk_172 (dk_at dksX0_oil_1 3 rfl rfl)
theorem dX0_oil_26 : decode cX0_oil 26 = .ok (.aload_n 0, 1) := dk_42 (dk_at dksX0_oil_1 4 rfl rfl)
theorem dX0_oil_27 : decode cX0_oil 27 = .ok (.getfield 18, 3) := dk_180 0 18 (dk_at dksX0_oil_1 5 rfl rfl)
theorem dX0_oil_30 : decode cX0_oil 30 = .ok (.invokevirtual 80, 3) := dk_182 0 80 (dk_at dksX0_oil_1 8 rfl rfl)
theorem dX0_oil_33 : decode cX0_oil 33 = .ok (.astore_n 3, 1) := dk_78 (dk_at dksX0_oil_1 11 rfl rfl)
theorem dX0_oil_34 : decode cX0_oil 34 = .ok (.aload_n 0, 1) := dk_42 (dk_at dksX0_oil_1 12 rfl rfl)
theorem dX0_oil_35 : decode cX0_oil 35 = .ok (.aload_n 3, 1) := dk_45 (dk_at dksX0_oil_1 13 rfl rfl)
theorem dX0_oil_36 : decode cX0_oil 36 = .ok (.aload_n 0, 1) := dk_42 (dk_at dksX0_oil_1 14 rfl rfl)
theorem dX0_oil_37 : decode cX0_oil 37 = .ok (.getfield 18, 3) := dk_180 0 18 (dk_at dksX0_oil_1 15 rfl rfl)
theorem dX0_oil_40 : decode cX0_oil 40 = .ok (.iload_n 1, 1) := dk_27 (dk_at dksX0_oil_1 18 rfl rfl)
theorem dX0_oil_41 : decode cX0_oil 41 = .ok (.iload_n 2, 1) := dk_28 (dk_at dksX0_oil_1 19 rfl rfl)
theorem dX0_oil_42 : decode cX0_oil 42 = .ok (.invokevirtual 110, 3) := dk_182 0 110 (dk_at dksX0_oil_1 20 rfl rfl)
theorem dX0_oil_45 : decode cX0_oil 45 = .ok (.invokevirtual 88, 3) := dk_182 0 88 (dk_at dksX0_oil_2 0 rfl rfl)
theorem dX0_oil_48 : decode cX0_oil 48 = .ok (.ireturn, 1) := dk_172 (dk_at dksX0_oil_2 3 rfl rfl)
theorem dX0_oil_49 : decode cX0_oil 49 = .ok (.astore 4, 2) := dk_58 4 (dk_at dksX0_oil_2 4 rfl rfl)
theorem dX0_oil_51 : decode cX0_oil 51 = .ok (.aload_n 0, 1) := dk_42 (dk_at dksX0_oil_2 6 rfl rfl)
theorem dX0_oil_52 : decode cX0_oil 52 = .ok (.aload 4, 2) := dk_25 4 (dk_at dksX0_oil_2 7 rfl rfl)
theorem dX0_oil_54 : decode cX0_oil 54 = .ok (.invokevirtual 92, 3) := dk_182 0 92 (dk_at dksX0_oil_2 9 rfl rfl)
theorem dX0_oil_57 : decode cX0_oil 57 = .ok (.ireturn, 1) := dk_172 (dk_at dksX0_oil_2 12 rfl rfl)
def dkwX0_isMuch_0 : List UInt8 := [26, 4, 16, 9, 184, 0, 46, 172]
abbrev dktX0_isMuch_0 : List UInt8 := dkwX0_isMuch_0 ++ []
theorem dksX0_isMuch_0 : cX0_isMuch.data.toList.drop 0 = dktX0_isMuch_0 := by decide +kernel
theorem dX0_isMuch_0 : decode cX0_isMuch 0 = .ok (.iload_n 0, 1) := dk_26 (dk_at dksX0_isMuch_0 0 rfl rfl)
theorem dX0_isMuch_1 : decode cX0_isMuch 1 = .ok (.iconst 1, 1) := dk_4 (dk_at dksX0_isMuch_0 1 rfl rfl)
theorem dX0_isMuch_2 : decode cX0_isMuch 2 = .ok (.bipush 9, 2) := dk_16 9 (dk_at dksX0_isMuch_0 2 rfl rfl)
theorem dX0_isMuch_4 : decode cX0_isMuch 4 = .ok (.invokestatic 46, 3) := dk_184 0 46 (dk_at dksX0_isMuch_0 4 rfl rfl)
theorem dX0_isMuch_7 : decode cX0_isMuch 7 = .ok (.ireturn, 1) := dk_172 (dk_at dksX0_isMuch_0 7 rfl rfl)
def dkwX0_ropeOf_1 : List UInt8 := [17, 252, 13, 172]
abbrev dktX0_ropeOf_1 : List UInt8 := dkwX0_ropeOf_1 ++ []
def dkwX0_ropeOf_0 : List UInt8 := [42, 180, 0, 18, 27, 182, 0, 96, 153, 0, 15, 42, 180, 0, 18, 27, 28, 182, 0, 113, 167, 0, 6]
abbrev dktX0_ropeOf_0 : List UInt8 := dkwX0_ropeOf_0 ++ dktX0_ropeOf_1
theorem dksX0_ropeOf_0 : cX0_ropeOf.data.toList.drop 0 = dktX0_ropeOf_0 := by decide +kernel
theorem dksX0_ropeOf_1 : cX0_ropeOf.data.toList.drop 23 = dktX0_ropeOf_1 := dk_seg dksX0_ropeOf_0 23 rfl rfl
theorem dX0_ropeOf_0 : decode cX0_ropeOf 0 = .ok (.aload_n 0, 1) := dk_42 (dk_at dksX0_ropeOf_0 0 rfl rfl)
theorem dX0_ropeOf_1 : decode cX0_ropeOf 1 = .ok (.getfield 18, 3) := dk_180 0 18 (dk_at dksX0_ropeOf_0 1 rfl rfl)
theorem dX0_ropeOf_4 : decode cX0_ropeOf 4 = .ok (.iload_n 1, 1) := dk_27 (dk_at dksX0_ropeOf_0 4 rfl rfl)
theorem dX0_ropeOf_5 : decode cX0_ropeOf 5 = .ok (.invokevirtual 96, 3) := dk_182 0 96 (dk_at dksX0_ropeOf_0 5 rfl rfl)
theorem dX0_ropeOf_8 : decode cX0_ropeOf 8 = .ok (.ifCond .eq 15, 3) := dk_153 0 15 (dk_at dksX0_ropeOf_0 8 rfl rfl)
theorem dX0_ropeOf_11 : decode cX0_ropeOf 11 = .ok (.aload_n 0, 1) := dk_42 (dk_at dksX0_ropeOf_0 11 rfl rfl)
theorem dX0_ropeOf_12 : decode cX0_ropeOf 12 = .ok (.getfield 18, 3) := dk_180 0 18 (dk_at dksX0_ropeOf_0 12 rfl rfl)
theorem dX0_ropeOf_15 : decode cX0_ropeOf 15 = .ok (.iload_n 1, 1) := dk_27 (dk_at dksX0_ropeOf_0 15 rfl rfl)
theorem dX0_ropeOf_16 : decode cX0_ropeOf 16 = .ok (.iload_n 2, 1) := dk_28 (dk_at dksX0_ropeOf_0 16 rfl rfl)
theorem dX0_ropeOf_17 : decode cX0_ropeOf 17 = .ok (.invokevirtual 113, 3) := dk_182 0 113 (dk_at dksX0_ropeOf_0 17 rfl rfl)
theorem dX0_ropeOf_20 : decode cX0_ropeOf 20 = .ok (.goto 6, 3) := dk_167 0 6 (dk_at dksX0_ropeOf_0 20 rfl rfl)
theorem dX0_ropeOf_23 : decode cX0_ropeOf 23 = .ok (.sipush (-1011), 3) := dk_17 252 13 (dk_at dksX0_ropeOf_1 0 rfl rfl)
theorem dX0_ropeOf_26 : decode cX0_ropeOf 26 = .ok (.ireturn, 1) := dk_172 (dk_at dksX0_ropeOf_1 3 rfl rfl)
def dkwX0_pull_2 : List UInt8 := [180, 0, 18, 27, 28, 29, 182, 0, 122, 182, 0, 88, 172, 58, 5, 42, 25, 5, 182, 0, 92, 172]
abbrev dktX0_pull_2 : List UInt8 := dkwX0_pull_2 ++ []
def dkwX0_pull_1 : List UInt8 := [184, 0, 119, 154, 0, 7, 17, 252, 12, 172, 42, 180, 0, 18, 182, 0, 80, 58, 4, 42, 25, 4, 42]
abbrev dktX0_pull_1 : List UInt8 := dkwX0_pull_1 ++ dktX0_pull_2
def dkwX0_pull_0 : List UInt8 := [42, 180, 0, 18, 27, 182, 0, 96, 154, 0, 7, 17, 252, 13, 172, 28, 184, 0, 116, 153, 0, 10, 29]
abbrev dktX0_pull_0 : List UInt8 := dkwX0_pull_0 ++ dktX0_pull_1
theorem dksX0_pull_0 : cX0_pull.data.toList.drop 0 = dktX0_pull_0 := by decide +kernel
theorem dksX0_pull_1 : cX0_pull.data.toList.drop 23 = dktX0_pull_1 := dk_seg dksX0_pull_0 23 rfl rfl
theorem dksX0_pull_2 : cX0_pull.data.toList.drop 46 = dktX0_pull_2 := dk_seg dksX0_pull_1 23 rfl rfl
theorem dX0_pull_0 : decode cX0_pull 0 = .ok (.aload_n 0, 1) := dk_42 (dk_at dksX0_pull_0 0 rfl rfl)
theorem dX0_pull_1 : decode cX0_pull 1 = .ok (.getfield 18, 3) := dk_180 0 18 (dk_at dksX0_pull_0 1 rfl rfl)
theorem dX0_pull_4 : decode cX0_pull 4 = .ok (.iload_n 1, 1) := dk_27 (dk_at dksX0_pull_0 4 rfl rfl)
theorem dX0_pull_5 : decode cX0_pull 5 = .ok (.invokevirtual 96, 3) := dk_182 0 96 (dk_at dksX0_pull_0 5 rfl rfl)
theorem dX0_pull_8 : decode cX0_pull 8 = .ok (.ifCond .ne 7, 3) := dk_154 0 7 (dk_at dksX0_pull_0 8 rfl rfl)
theorem dX0_pull_11 : decode cX0_pull 11 = .ok (.sipush (-1011), 3) := dk_17 252 13 (dk_at dksX0_pull_0 11 rfl rfl)
theorem dX0_pull_14 : decode cX0_pull 14 = .ok (.ireturn, 1) := dk_172 (dk_at dksX0_pull_0 14 rfl rfl)
theorem dX0_pull_15 : decode cX0_pull 15 = .ok (.iload_n 2, 1) := dk_28 (dk_at dksX0_pull_0 15 rfl rfl)
theorem dX0_pull_16 : decode cX0_pull 16 = .ok (.invokestatic 116, 3) := dk_184 0 116 (dk_at dksX0_pull_0 16 rfl rfl)
theorem dX0_pull_19 : decode cX0_pull 19 = .ok (.ifCond .eq 10, 3) := dk_153 0 10 (dk_at dksX0_pull_0 19 rfl rfl)
theorem dX0_pull_22 : decode cX0_pull 22 = .ok (.iload_n 3, 1) := dk_29 (dk_at dksX0_pull_0 22 rfl rfl)
theorem dX0_pull_23 : decode cX0_pull 23 = .ok (.invokestatic 119, 3) := dk_184 0 119 (dk_at dksX0_pull_1 0 rfl rfl)
theorem dX0_pull_26 : decode cX0_pull 26 = .ok (.ifCond .ne 7, 3) := dk_154 0 7 (dk_at dksX0_pull_1 3 rfl rfl)
theorem dX0_pull_29 : decode cX0_pull 29 = .ok (.sipush (-1012), 3) := dk_17 252 12 (dk_at dksX0_pull_1 6 rfl rfl)
theorem dX0_pull_32 : decode cX0_pull 32 = .ok (.ireturn, 1) := dk_172 (dk_at dksX0_pull_1 9 rfl rfl)
theorem dX0_pull_33 : decode cX0_pull 33 = .ok (.aload_n 0, 1) := dk_42 (dk_at dksX0_pull_1 10 rfl rfl)
theorem dX0_pull_34 : decode cX0_pull 34 = .ok (.getfield 18, 3) := dk_180 0 18 (dk_at dksX0_pull_1 11 rfl rfl)
theorem dX0_pull_37 : decode cX0_pull 37 = .ok (.invokevirtual 80, 3) := dk_182 0 80 (dk_at dksX0_pull_1 14 rfl rfl)
theorem dX0_pull_40 : decode cX0_pull 40 = .ok (.astore 4, 2) := dk_58 4 (dk_at dksX0_pull_1 17 rfl rfl)
theorem dX0_pull_42 : decode cX0_pull 42 = .ok (.aload_n 0, 1) := dk_42 (dk_at dksX0_pull_1 19 rfl rfl)
theorem dX0_pull_43 : decode cX0_pull 43 = .ok (.aload 4, 2) := dk_25 4 (dk_at dksX0_pull_1 20 rfl rfl)
theorem dX0_pull_45 : decode cX0_pull 45 = .ok (.aload_n 0, 1) := dk_42 (dk_at dksX0_pull_1 22 rfl rfl)
theorem dX0_pull_46 : decode cX0_pull 46 = .ok (.getfield 18, 3) := dk_180 0 18 (dk_at dksX0_pull_2 0 rfl rfl)
theorem dX0_pull_49 : decode cX0_pull 49 = .ok (.iload_n 1, 1) := dk_27 (dk_at dksX0_pull_2 3 rfl rfl)
theorem dX0_pull_50 : decode cX0_pull 50 = .ok (.iload_n 2, 1) := dk_28 (dk_at dksX0_pull_2 4 rfl rfl)
theorem dX0_pull_51 : decode cX0_pull 51 = .ok (.iload_n 3, 1) := dk_29 (dk_at dksX0_pull_2 5 rfl rfl)
theorem dX0_pull_52 : decode cX0_pull 52 = .ok (.invokevirtual 122, 3) := dk_182 0 122 (dk_at dksX0_pull_2 6 rfl rfl)
theorem dX0_pull_55 : decode cX0_pull 55 = .ok (.invokevirtual 88, 3) := dk_182 0 88 (dk_at dksX0_pull_2 9 rfl rfl)
theorem dX0_pull_58 : decode cX0_pull 58 = .ok (.ireturn, 1) := dk_172 (dk_at dksX0_pull_2 12 rfl rfl)
theorem dX0_pull_59 : decode cX0_pull 59 = .ok (.astore 5, 2) := dk_58 5 (dk_at dksX0_pull_2 13 rfl rfl)
theorem dX0_pull_61 : decode cX0_pull 61 = .ok (.aload_n 0, 1) := dk_42 (dk_at dksX0_pull_2 15 rfl rfl)
theorem dX0_pull_62 : decode cX0_pull 62 = .ok (.aload 5, 2) := dk_25 5 (dk_at dksX0_pull_2 16 rfl rfl)
theorem dX0_pull_64 : decode cX0_pull 64 = .ok (.invokevirtual 92, 3) := dk_182 0 92 (dk_at dksX0_pull_2 18 rfl rfl)
theorem dX0_pull_67 : decode cX0_pull 67 = .ok (.ireturn, 1) := dk_172 (dk_at dksX0_pull_2 21 rfl rfl)
def dkwX0_isHour_0 : List UInt8 := [26, 3, 16, 23, 184, 0, 46, 172]
abbrev dktX0_isHour_0 : List UInt8 := dkwX0_isHour_0 ++ []
theorem dksX0_isHour_0 : cX0_isHour.data.toList.drop 0 = dktX0_isHour_0 := by decide +kernel
theorem dX0_isHour_0 : decode cX0_isHour 0 = .ok (.iload_n 0, 1) := dk_26 (dk_at dksX0_isHour_0 0 rfl rfl)
theorem dX0_isHour_1 : decode cX0_isHour 1 = .ok (.iconst 0, 1) := dk_3 (dk_at dksX0_isHour_0 1 rfl rfl)
theorem dX0_isHour_2 : decode cX0_isHour 2 = .ok (.bipush 23, 2) := dk_16 23 (dk_at dksX0_isHour_0 2 rfl rfl)
theorem dX0_isHour_4 : decode cX0_isHour 4 = .ok (.invokestatic 46, 3) := dk_184 0 46 (dk_at dksX0_isHour_0 4 rfl rfl)
theorem dX0_isHour_7 : decode cX0_isHour 7 = .ok (.ireturn, 1) := dk_172 (dk_at dksX0_isHour_0 7 rfl rfl)
def dkwX0_isStrength_0 : List UInt8 := [26, 4, 16, 9, 184, 0, 46, 172]
abbrev dktX0_isStrength_0 : List UInt8 := dkwX0_isStrength_0 ++ []
theorem dksX0_isStrength_0 : cX0_isStrength.data.toList.drop 0 = dktX0_isStrength_0 := by decide +kernel
theorem dX0_isStrength_0 : decode cX0_isStrength 0 = .ok (.iload_n 0, 1) := dk_26 (dk_at dksX0_isStrength_0 0 rfl rfl)
theorem dX0_isStrength_1 : decode cX0_isStrength 1 = .ok (.iconst 1, 1) := dk_4 (dk_at dksX0_isStrength_0 1 rfl rfl)
theorem dX0_isStrength_2 : decode cX0_isStrength 2 = .ok (.bipush 9, 2) := dk_16 9 (dk_at dksX0_isStrength_0 2 rfl rfl)
theorem dX0_isStrength_4 : decode cX0_isStrength 4 = .ok (.invokestatic 46, 3) := dk_184 0 46 (dk_at dksX0_isStrength_0 4 rfl rfl)
theorem dX0_isStrength_7 : decode cX0_isStrength 7 = .ok (.ireturn, 1) := dk_172 (dk_at dksX0_isStrength_0 7 rfl rfl)
def dkwX0_cancel_1 : List UInt8 := [44, 42, 180, 0, 18, 27, 182, 0, 126, 182, 0, 88, 172, 78, 42, 45, 182, 0, 92, 172]
abbrev dktX0_cancel_1 : List UInt8 := dkwX0_cancel_1 ++ []
def dkwX0_cancel_0 : List UInt8 := [42, 180, 0, 18, 27, 182, 0, 96, 154, 0, 7, 17, 252, 13, 172, 42, 180, 0, 18, 182, 0, 80, 77, 42]
abbrev dktX0_cancel_0 : List UInt8 := dkwX0_cancel_0 ++ dktX0_cancel_1
theorem dksX0_cancel_0 : cX0_cancel.data.toList.drop 0 = dktX0_cancel_0 := by decide +kernel
theorem dksX0_cancel_1 : cX0_cancel.data.toList.drop 24 = dktX0_cancel_1 := dk_seg dksX0_cancel_0 24 rfl rfl
theorem dX0_cancel_0 : decode cX0_cancel 0 = .ok (.aload_n 0, 1) := dk_42 (dk_at dksX0_cancel_0 0 rfl rfl)
theorem dX0_cancel_1 : decode cX0_cancel 1 = .ok (.getfield 18, 3) := dk_180 0 18 (dk_at dksX0_cancel_0 1 rfl rfl)
theorem dX0_cancel_4 : decode cX0_cancel 4 = .ok (.iload_n 1, 1) := dk_27 (dk_at dksX0_cancel_0 4 rfl rfl)
theorem dX0_cancel_5 : decode cX0_cancel 5 = .ok (.invokevirtual 96, 3) := dk_182 0 96 (dk_at dksX0_cancel_0 5 rfl rfl)
theorem dX0_cancel_8 : decode cX0_cancel 8 = .ok (.ifCond .ne 7, 3) := dk_154 0 7 (dk_at dksX0_cancel_0 8 rfl rfl)
theorem dX0_cancel_11 : decode cX0_cancel 11 = .ok (.sipush (-1011), 3) := dk_17 252 13 (dk_at dksX0_cancel_0 11 rfl rfl)
theorem dX0_cancel_14 : decode cX0_cancel 14 = .ok (.ireturn, 1) := dk_172 (dk_at dksX0_cancel_0 14 rfl rfl)
theorem dX0_cancel_15 : decode cX0_cancel 15 = .ok (.aload_n 0, 1) := dk_42 (dk_at dksX0_cancel_0 15 rfl rfl)
theorem dX0_cancel_16 : decode cX0_cancel 16 = .ok (.getfield 18, 3) := dk_180 0 18 (dk_at dksX0_cancel_0 16 rfl rfl)
theorem dX0_cancel_19 : decode cX0_cancel 19 = .ok (.invokevirtual 80, 3) := dk_182 0 80 (dk_at dksX0_cancel_0 19 rfl rfl)
theorem dX0_cancel_22 : decode cX0_cancel 22 = .ok (.astore_n 2, 1) := dk_77 (dk_at dksX0_cancel_0 22 rfl rfl)
theorem dX0_cancel_23 : decode cX0_cancel 23 = .ok (.aload_n 0, 1) := dk_42 (dk_at dksX0_cancel_0 23 rfl rfl)
theorem dX0_cancel_24 : decode cX0_cancel 24 = .ok (.aload_n 2, 1) := dk_44 (dk_at dksX0_cancel_1 0 rfl rfl)
theorem dX0_cancel_25 : decode cX0_cancel 25 = .ok (.aload_n 0, 1) := dk_42 (dk_at dksX0_cancel_1 1 rfl rfl)
theorem dX0_cancel_26 : decode cX0_cancel 26 = .ok (.getfield 18, 3) := dk_180 0 18 (dk_at dksX0_cancel_1 2 rfl rfl)
theorem dX0_cancel_29 : decode cX0_cancel 29 = .ok (.iload_n 1, 1) := dk_27 (dk_at dksX0_cancel_1 5 rfl rfl)
theorem dX0_cancel_30 : decode cX0_cancel 30 = .ok (.invokevirtual 126, 3) := dk_182 0 126 (dk_at dksX0_cancel_1 6 rfl rfl)
theorem dX0_cancel_33 : decode cX0_cancel 33 = .ok (.invokevirtual 88, 3) := dk_182 0 88 (dk_at dksX0_cancel_1 9 rfl rfl)
theorem dX0_cancel_36 : decode cX0_cancel 36 = .ok (.ireturn, 1) := dk_172 (dk_at dksX0_cancel_1 12 rfl rfl)
theorem dX0_cancel_37 : decode cX0_cancel 37 = .ok (.astore_n 3, 1) := dk_78 (dk_at dksX0_cancel_1 13 rfl rfl)
theorem dX0_cancel_38 : decode cX0_cancel 38 = .ok (.aload_n 0, 1) := dk_42 (dk_at dksX0_cancel_1 14 rfl rfl)
theorem dX0_cancel_39 : decode cX0_cancel 39 = .ok (.aload_n 3, 1) := dk_45 (dk_at dksX0_cancel_1 15 rfl rfl)
theorem dX0_cancel_40 : decode cX0_cancel 40 = .ok (.invokevirtual 92, 3) := dk_182 0 92 (dk_at dksX0_cancel_1 16 rfl rfl)
theorem dX0_cancel_43 : decode cX0_cancel 43 = .ok (.ireturn, 1) := dk_172 (dk_at dksX0_cancel_1 19 rfl rfl)
def dkwX0_ring_1 : List UInt8 := [182, 0, 92, 172]
abbrev dktX0_ring_1 : List UInt8 := dkwX0_ring_1 ++ []
def dkwX0_ring_0 : List UInt8 := [42, 180, 0, 18, 182, 0, 80, 76, 42, 43, 42, 180, 0, 18, 182, 0, 129, 182, 0, 88, 172, 77, 42, 44]
abbrev dktX0_ring_0 : List UInt8 := dkwX0_ring_0 ++ dktX0_ring_1
theorem dksX0_ring_0 : cX0_ring.data.toList.drop 0 = dktX0_ring_0 := by decide +kernel
theorem dksX0_ring_1 : cX0_ring.data.toList.drop 24 = dktX0_ring_1 := dk_seg dksX0_ring_0 24 rfl rfl
theorem dX0_ring_0 : decode cX0_ring 0 = .ok (.aload_n 0, 1) := dk_42 (dk_at dksX0_ring_0 0 rfl rfl)
theorem dX0_ring_1 : decode cX0_ring 1 = .ok (.getfield 18, 3) := dk_180 0 18 (dk_at dksX0_ring_0 1 rfl rfl)
theorem dX0_ring_4 : decode cX0_ring 4 = .ok (.invokevirtual 80, 3) := dk_182 0 80 (dk_at dksX0_ring_0 4 rfl rfl)
theorem dX0_ring_7 : decode cX0_ring 7 = .ok (.astore_n 1, 1) := dk_76 (dk_at dksX0_ring_0 7 rfl rfl)
theorem dX0_ring_8 : decode cX0_ring 8 = .ok (.aload_n 0, 1) := dk_42 (dk_at dksX0_ring_0 8 rfl rfl)
theorem dX0_ring_9 : decode cX0_ring 9 = .ok (.aload_n 1, 1) := dk_43 (dk_at dksX0_ring_0 9 rfl rfl)
theorem dX0_ring_10 : decode cX0_ring 10 = .ok (.aload_n 0, 1) := dk_42 (dk_at dksX0_ring_0 10 rfl rfl)
theorem dX0_ring_11 : decode cX0_ring 11 = .ok (.getfield 18, 3) := dk_180 0 18 (dk_at dksX0_ring_0 11 rfl rfl)
theorem dX0_ring_14 : decode cX0_ring 14 = .ok (.invokevirtual 129, 3) := dk_182 0 129 (dk_at dksX0_ring_0 14 rfl rfl)
theorem dX0_ring_17 : decode cX0_ring 17 = .ok (.invokevirtual 88, 3) := dk_182 0 88 (dk_at dksX0_ring_0 17 rfl rfl)
theorem dX0_ring_20 : decode cX0_ring 20 = .ok (.ireturn, 1) := dk_172 (dk_at dksX0_ring_0 20 rfl rfl)
theorem dX0_ring_21 : decode cX0_ring 21 = .ok (.astore_n 2, 1) := dk_77 (dk_at dksX0_ring_0 21 rfl rfl)
theorem dX0_ring_22 : decode cX0_ring 22 = .ok (.aload_n 0, 1) := dk_42 (dk_at dksX0_ring_0 22 rfl rfl)
theorem dX0_ring_23 : decode cX0_ring 23 = .ok (.aload_n 2, 1) := dk_44 (dk_at dksX0_ring_0 23 rfl rfl)
theorem dX0_ring_24 : decode cX0_ring 24 = .ok (.invokevirtual 92, 3) := dk_182 0 92 (dk_at dksX0_ring_1 0 rfl rfl)
theorem dX0_ring_27 : decode cX0_ring 27 = .ok (.ireturn, 1) := dk_172 (dk_at dksX0_ring_1 3 rfl rfl)
def dkwX0_hour_1 : List UInt8 := [182, 0, 92, 172]
abbrev dktX0_hour_1 : List UInt8 := dkwX0_hour_1 ++ []
def dkwX0_hour_0 : List UInt8 := [42, 180, 0, 18, 182, 0, 80, 76, 42, 43, 42, 180, 0, 18, 182, 0, 132, 182, 0, 88, 172, 77, 42, 44]
abbrev dktX0_hour_0 : List UInt8 := dkwX0_hour_0 ++ dktX0_hour_1
theorem dksX0_hour_0 : cX0_hour.data.toList.drop 0 = dktX0_hour_0 := by decide +kernel
theorem dksX0_hour_1 : cX0_hour.data.toList.drop 24 = dktX0_hour_1 := dk_seg dksX0_hour_0 24 rfl rfl
theorem dX0_hour_0 : decode cX0_hour 0 = .ok (.aload_n 0, 1) := dk_42 (dk_at dksX0_hour_0 0 rfl rfl)
theorem dX0_hour_1 : decode cX0_hour 1 = .ok (.getfield 18, 3) := dk_180 0 18 (dk_at dksX0_hour_0 1 rfl rfl)
theorem dX0_hour_4 : decode cX0_hour 4 = .ok (.invokevirtual 80, 3) := dk_182 0 80 (dk_at dksX0_hour_0 4 rfl rfl)
theorem dX0_hour_7 : decode cX0_hour 7 = .ok (.astore_n 1, 1) := dk_76 (dk_at dksX0_hour_0 7 rfl rfl)
theorem dX0_hour_8 : decode cX0_hour 8 = .ok (.aload_n 0, 1) := dk_42 (dk_at dksX0_hour_0 8 rfl rfl)
theorem dX0_hour_9 : decode cX0_hour 9 = .ok (.aload_n 1, 1) := dk_43 (dk_at dksX0_hour_0 9 rfl rfl)
theorem dX0_hour_10 : decode cX0_hour 10 = .ok (.aload_n 0, 1) := dk_42 (dk_at dksX0_hour_0 10 rfl rfl)
theorem dX0_hour_11 : decode cX0_hour 11 = .ok (.getfield 18, 3) := dk_180 0 18 (dk_at dksX0_hour_0 11 rfl rfl)
theorem dX0_hour_14 : decode cX0_hour 14 = .ok (.invokevirtual 132, 3) := dk_182 0 132 (dk_at dksX0_hour_0 14 rfl rfl)
theorem dX0_hour_17 : decode cX0_hour 17 = .ok (.invokevirtual 88, 3) := dk_182 0 88 (dk_at dksX0_hour_0 17 rfl rfl)
theorem dX0_hour_20 : decode cX0_hour 20 = .ok (.ireturn, 1) := dk_172 (dk_at dksX0_hour_0 20 rfl rfl)
theorem dX0_hour_21 : decode cX0_hour 21 = .ok (.astore_n 2, 1) := dk_77 (dk_at dksX0_hour_0 21 rfl rfl)
theorem dX0_hour_22 : decode cX0_hour 22 = .ok (.aload_n 0, 1) := dk_42 (dk_at dksX0_hour_0 22 rfl rfl)
theorem dX0_hour_23 : decode cX0_hour 23 = .ok (.aload_n 2, 1) := dk_44 (dk_at dksX0_hour_0 23 rfl rfl)
theorem dX0_hour_24 : decode cX0_hour 24 = .ok (.invokevirtual 92, 3) := dk_182 0 92 (dk_at dksX0_hour_1 0 rfl rfl)
theorem dX0_hour_27 : decode cX0_hour 27 = .ok (.ireturn, 1) := dk_172 (dk_at dksX0_hour_1 3 rfl rfl)
def dkwX0_end_0 : List UInt8 := [42, 180, 0, 18, 182, 0, 80, 76, 42, 43, 42, 180, 0, 18, 182, 0, 135, 182, 0, 88, 172]
abbrev dktX0_end_0 : List UInt8 := dkwX0_end_0 ++ []
theorem dksX0_end_0 : cX0_end.data.toList.drop 0 = dktX0_end_0 := by decide +kernel
theorem dX0_end_0 : decode cX0_end 0 = .ok (.aload_n 0, 1) := dk_42 (dk_at dksX0_end_0 0 rfl rfl)
theorem dX0_end_1 : decode cX0_end 1 = .ok (.getfield 18, 3) := dk_180 0 18 (dk_at dksX0_end_0 1 rfl rfl)
theorem dX0_end_4 : decode cX0_end 4 = .ok (.invokevirtual 80, 3) := dk_182 0 80 (dk_at dksX0_end_0 4 rfl rfl)
theorem dX0_end_7 : decode cX0_end 7 = .ok (.astore_n 1, 1) := dk_76 (dk_at dksX0_end_0 7 rfl rfl)
theorem dX0_end_8 : decode cX0_end 8 = .ok (.aload_n 0, 1) := dk_42 (dk_at dksX0_end_0 8 rfl rfl)
theorem dX0_end_9 : decode cX0_end 9 = .ok (.aload_n 1, 1) := dk_43 (dk_at dksX0_end_0 9 rfl rfl)
theorem dX0_end_10 : decode cX0_end 10 = .ok (.aload_n 0, 1) := dk_42 (dk_at dksX0_end_0 10 rfl rfl)
theorem dX0_end_11 : decode cX0_end 11 = .ok (.getfield 18, 3) := dk_180 0 18 (dk_at dksX0_end_0 11 rfl rfl)
theorem dX0_end_14 : decode cX0_end 14 = .ok (.invokevirtual 135, 3) := dk_182 0 135 (dk_at dksX0_end_0 14 rfl rfl)
theorem dX0_end_17 : decode cX0_end 17 = .ok (.invokevirtual 88, 3) := dk_182 0 88 (dk_at dksX0_end_0 17 rfl rfl)
theorem dX0_end_20 : decode cX0_end 20 = .ok (.ireturn, 1) := dk_172 (dk_at dksX0_end_0 20 rfl rfl)
def dkwX0_waiting_1 : List UInt8 := [182, 0, 145, 192, 0, 149, 28, 182, 0, 151, 167, 0, 6, 17, 252, 13, 172]
abbrev dktX0_waiting_1 : List UInt8 := dkwX0_waiting_1 ++ []
def dkwX0_waiting_0 : List UInt8 := [42, 180, 0, 18, 182, 0, 138, 78, 27, 3, 45, 182, 0, 142, 4, 100, 184, 0, 46, 153, 0, 18, 45, 27]
abbrev dktX0_waiting_0 : List UInt8 := dkwX0_waiting_0 ++ dktX0_waiting_1
theorem dksX0_waiting_0 : cX0_waiting.data.toList.drop 0 = dktX0_waiting_0 := by decide +kernel
theorem dksX0_waiting_1 : cX0_waiting.data.toList.drop 24 = dktX0_waiting_1 := dk_seg dksX0_waiting_0 24 rfl rfl
theorem dX0_waiting_0 : decode cX0_waiting 0 = .ok (.aload_n 0, 1) := dk_42 (dk_at dksX0_waiting_0 0 rfl rfl)
theorem dX0_waiting_1 : decode cX0_waiting 1 = .ok (.getfield 18, 3) := dk_180 0 18 (dk_at dksX0_waiting_0 1 rfl rfl)
theorem dX0_waiting_4 : decode cX0_waiting 4 = .ok (.invokevirtual 138, 3) := dk_182 0 138 (dk_at dksX0_waiting_0 4 rfl rfl)
theorem dX0_waiting_7 : decode cX0_waiting 7 = .ok (.astore_n 3, 1) := dk_78 (dk_at dksX0_waiting_0 7 rfl rfl)
theorem dX0_waiting_8 : decode cX0_waiting 8 = .ok (.iload_n 1, 1) := dk_27 (dk_at dksX0_waiting_0 8 rfl rfl)
theorem dX0_waiting_9 : decode cX0_waiting 9 = .ok (.iconst 0, 1) := dk_3 (dk_at dksX0_waiting_0 9 rfl rfl)
theorem dX0_waiting_10 : decode cX0_waiting 10 = .ok (.aload_n 3, 1) := dk_45 (dk_at dksX0_waiting_0 10 rfl rfl)
theorem dX0_waiting_11 : decode cX0_waiting 11 = .ok (.invokevirtual 142, 3) := dk_182 0 142 (dk_at dksX0_waiting_0 11 rfl rfl)
theorem dX0_waiting_14 : decode cX0_waiting 14 = .ok (.iconst 1, 1) := dk_4 (dk_at dksX0_waiting_0 14 rfl rfl)
theorem dX0_waiting_15 : decode cX0_waiting 15 = .ok (.isub, 1) := dk_100 (dk_at dksX0_waiting_0 15 rfl rfl)
theorem dX0_waiting_16 : decode cX0_waiting 16 = .ok (.invokestatic 46, 3) := dk_184 0 46 (dk_at dksX0_waiting_0 16 rfl rfl)
theorem dX0_waiting_19 : decode cX0_waiting 19 = .ok (.ifCond .eq 18, 3) := dk_153 0 18 (dk_at dksX0_waiting_0 19 rfl rfl)
theorem dX0_waiting_22 : decode cX0_waiting 22 = .ok (.aload_n 3, 1) := dk_45 (dk_at dksX0_waiting_0 22 rfl rfl)
theorem dX0_waiting_23 : decode cX0_waiting 23 = .ok (.iload_n 1, 1) := dk_27 (dk_at dksX0_waiting_0 23 rfl rfl)
theorem dX0_waiting_24 : decode cX0_waiting 24 = .ok (.invokevirtual 145, 3) := dk_182 0 145 (dk_at dksX0_waiting_1 0 rfl rfl)
theorem dX0_waiting_27 : decode cX0_waiting 27 = .ok (.checkcast 149, 3) := dk_192 0 149 (dk_at dksX0_waiting_1 3 rfl rfl)
theorem dX0_waiting_30 : decode cX0_waiting 30 = .ok (.iload_n 2, 1) := dk_28 (dk_at dksX0_waiting_1 6 rfl rfl)
theorem dX0_waiting_31 : decode cX0_waiting 31 = .ok (.invokevirtual 151, 3) := dk_182 0 151 (dk_at dksX0_waiting_1 7 rfl rfl)
theorem dX0_waiting_34 : decode cX0_waiting 34 = .ok (.goto 6, 3) := dk_167 0 6 (dk_at dksX0_waiting_1 10 rfl rfl)
theorem dX0_waiting_37 : decode cX0_waiting 37 = .ok (.sipush (-1011), 3) := dk_17 252 13 (dk_at dksX0_waiting_1 13 rfl rfl)
theorem dX0_waiting_40 : decode cX0_waiting 40 = .ok (.ireturn, 1) := dk_172 (dk_at dksX0_waiting_1 16 rfl rfl)
def dkwX0_would_2 : List UInt8 := [153, 0, 7, 4, 167, 0, 4, 3, 172]
abbrev dktX0_would_2 : List UInt8 := dkwX0_would_2 ++ []
def dkwX0_would_1 : List UInt8 := [17, 252, 12, 167, 0, 29, 42, 180, 0, 18, 180, 0, 153, 27, 182, 0, 157, 192, 0, 160, 28, 182, 0, 162]
abbrev dktX0_would_1 : List UInt8 := dkwX0_would_1 ++ dktX0_would_2
def dkwX0_would_0 : List UInt8 := [42, 180, 0, 18, 27, 182, 0, 96, 154, 0, 7, 17, 252, 13, 172, 28, 184, 0, 119, 154, 0, 9]
abbrev dktX0_would_0 : List UInt8 := dkwX0_would_0 ++ dktX0_would_1
theorem dksX0_would_0 : cX0_would.data.toList.drop 0 = dktX0_would_0 := by decide +kernel
theorem dksX0_would_1 : cX0_would.data.toList.drop 22 = dktX0_would_1 := dk_seg dksX0_would_0 22 rfl rfl
theorem dksX0_would_2 : cX0_would.data.toList.drop 46 = dktX0_would_2 := dk_seg dksX0_would_1 24 rfl rfl
theorem dX0_would_0 : decode cX0_would 0 = .ok (.aload_n 0, 1) := dk_42 (dk_at dksX0_would_0 0 rfl rfl)
theorem dX0_would_1 : decode cX0_would 1 = .ok (.getfield 18, 3) := dk_180 0 18 (dk_at dksX0_would_0 1 rfl rfl)
theorem dX0_would_4 : decode cX0_would 4 = .ok (.iload_n 1, 1) := dk_27 (dk_at dksX0_would_0 4 rfl rfl)
theorem dX0_would_5 : decode cX0_would 5 = .ok (.invokevirtual 96, 3) := dk_182 0 96 (dk_at dksX0_would_0 5 rfl rfl)
theorem dX0_would_8 : decode cX0_would 8 = .ok (.ifCond .ne 7, 3) := dk_154 0 7 (dk_at dksX0_would_0 8 rfl rfl)
theorem dX0_would_11 : decode cX0_would 11 = .ok (.sipush (-1011), 3) := dk_17 252 13 (dk_at dksX0_would_0 11 rfl rfl)
theorem dX0_would_14 : decode cX0_would 14 = .ok (.ireturn, 1) := dk_172 (dk_at dksX0_would_0 14 rfl rfl)
theorem dX0_would_15 : decode cX0_would 15 = .ok (.iload_n 2, 1) := dk_28 (dk_at dksX0_would_0 15 rfl rfl)
theorem dX0_would_16 : decode cX0_would 16 = .ok (.invokestatic 119, 3) := dk_184 0 119 (dk_at dksX0_would_0 16 rfl rfl)
theorem dX0_would_19 : decode cX0_would 19 = .ok (.ifCond .ne 9, 3) := dk_154 0 9 (dk_at dksX0_would_0 19 rfl rfl)
theorem dX0_would_22 : decode cX0_would 22 = .ok (.sipush (-1012), 3) := dk_17 252 12 (dk_at dksX0_would_1 0 rfl rfl)
theorem dX0_would_25 : decode cX0_would 25 = .ok (.goto 29, 3) := dk_167 0 29 (dk_at dksX0_would_1 3 rfl rfl)
theorem dX0_would_28 : decode cX0_would 28 = .ok (.aload_n 0, 1) := dk_42 (dk_at dksX0_would_1 6 rfl rfl)
theorem dX0_would_29 : decode cX0_would 29 = .ok (.getfield 18, 3) := dk_180 0 18 (dk_at dksX0_would_1 7 rfl rfl)
theorem dX0_would_32 : decode cX0_would 32 = .ok (.getfield 153, 3) := dk_180 0 153 (dk_at dksX0_would_1 10 rfl rfl)
theorem dX0_would_35 : decode cX0_would 35 = .ok (.iload_n 1, 1) := dk_27 (dk_at dksX0_would_1 13 rfl rfl)
theorem dX0_would_36 : decode cX0_would 36 = .ok (.invokevirtual 157, 3) := dk_182 0 157 (dk_at dksX0_would_1 14 rfl rfl)
theorem dX0_would_39 : decode cX0_would 39 = .ok (.checkcast 160, 3) := dk_192 0 160 (dk_at dksX0_would_1 17 rfl rfl)
theorem dX0_would_42 : decode cX0_would 42 = .ok (.iload_n 2, 1) := dk_28 (dk_at dksX0_would_1 20 rfl rfl)
theorem dX0_would_43 : decode cX0_would 43 = .ok (.invokevirtual 162, 3) := dk_182 0 162 (dk_at dksX0_would_1 21 rfl rfl)
theorem dX0_would_46 : decode cX0_would 46 = .ok (.ifCond .eq 7, 3) := dk_153 0 7 (dk_at dksX0_would_2 0 rfl rfl)
theorem dX0_would_49 : decode cX0_would 49 = .ok (.iconst 1, 1) := dk_4 (dk_at dksX0_would_2 3 rfl rfl)
theorem dX0_would_50 : decode cX0_would 50 = .ok (.goto 4, 3) := dk_167 0 4 (dk_at dksX0_would_2 4 rfl rfl)
theorem dX0_would_53 : decode cX0_would 53 = .ok (.iconst 0, 1) := dk_3 (dk_at dksX0_would_2 7 rfl rfl)
theorem dX0_would_54 : decode cX0_would 54 = .ok (.ireturn, 1) := dk_172 (dk_at dksX0_would_2 8 rfl rfl)
def dkwX0_forecast_0 : List UInt8 := [42, 180, 0, 18, 182, 0, 165, 172]
abbrev dktX0_forecast_0 : List UInt8 := dkwX0_forecast_0 ++ []
theorem dksX0_forecast_0 : cX0_forecast.data.toList.drop 0 = dktX0_forecast_0 := by decide +kernel
theorem dX0_forecast_0 : decode cX0_forecast 0 = .ok (.aload_n 0, 1) := dk_42 (dk_at dksX0_forecast_0 0 rfl rfl)
theorem dX0_forecast_1 : decode cX0_forecast 1 = .ok (.getfield 18, 3) := dk_180 0 18 (dk_at dksX0_forecast_0 1 rfl rfl)
theorem dX0_forecast_4 : decode cX0_forecast 4 = .ok (.invokevirtual 165, 3) := dk_182 0 165 (dk_at dksX0_forecast_0 4 rfl rfl)
theorem dX0_forecast_7 : decode cX0_forecast 7 = .ok (.ireturn, 1) := dk_172 (dk_at dksX0_forecast_0 7 rfl rfl)
def dkwX0_forecastAgain_0 : List UInt8 := [42, 180, 0, 18, 182, 0, 168, 172]
abbrev dktX0_forecastAgain_0 : List UInt8 := dkwX0_forecastAgain_0 ++ []
theorem dksX0_forecastAgain_0 : cX0_forecastAgain.data.toList.drop 0 = dktX0_forecastAgain_0 := by decide +kernel
theorem dX0_forecastAgain_0 : decode cX0_forecastAgain 0 = .ok (.aload_n 0, 1) := dk_42 (dk_at dksX0_forecastAgain_0 0 rfl rfl)
theorem dX0_forecastAgain_1 : decode cX0_forecastAgain 1 = .ok (.getfield 18, 3) := dk_180 0 18 (dk_at dksX0_forecastAgain_0 1 rfl rfl)
theorem dX0_forecastAgain_4 : decode cX0_forecastAgain 4 = .ok (.invokevirtual 168, 3) := dk_182 0 168 (dk_at dksX0_forecastAgain_0 4 rfl rfl)
theorem dX0_forecastAgain_7 : decode cX0_forecastAgain 7 = .ok (.ireturn, 1) := dk_172 (dk_at dksX0_forecastAgain_0 7 rfl rfl)
def dkwX0_answerOf_1 : List UInt8 := [27, 28, 182, 0, 174, 167, 0, 6, 17, 252, 13, 172]
abbrev dktX0_answerOf_1 : List UInt8 := dkwX0_answerOf_1 ++ []
def dkwX0_answerOf_0 : List UInt8 := [27, 3, 42, 180, 0, 18, 180, 0, 171, 182, 0, 68, 4, 100, 184, 0, 46, 153, 0, 15, 42, 180, 0, 18]
abbrev dktX0_answerOf_0 : List UInt8 := dkwX0_answerOf_0 ++ dktX0_answerOf_1
theorem dksX0_answerOf_0 : cX0_answerOf.data.toList.drop 0 = dktX0_answerOf_0 := by decide +kernel
theorem dksX0_answerOf_1 : cX0_answerOf.data.toList.drop 24 = dktX0_answerOf_1 := dk_seg dksX0_answerOf_0 24 rfl rfl
theorem dX0_answerOf_0 : decode cX0_answerOf 0 = .ok (.iload_n 1, 1) := dk_27 (dk_at dksX0_answerOf_0 0 rfl rfl)
theorem dX0_answerOf_1 : decode cX0_answerOf 1 = .ok (.iconst 0, 1) := dk_3 (dk_at dksX0_answerOf_0 1 rfl rfl)
theorem dX0_answerOf_2 : decode cX0_answerOf 2 = .ok (.aload_n 0, 1) := dk_42 (dk_at dksX0_answerOf_0 2 rfl rfl)
theorem dX0_answerOf_3 : decode cX0_answerOf 3 = .ok (.getfield 18, 3) := dk_180 0 18 (dk_at dksX0_answerOf_0 3 rfl rfl)
theorem dX0_answerOf_6 : decode cX0_answerOf 6 = .ok (.getfield 171, 3) := dk_180 0 171 (dk_at dksX0_answerOf_0 6 rfl rfl)
theorem dX0_answerOf_9 : decode cX0_answerOf 9 = .ok (.invokevirtual 68, 3) := dk_182 0 68 (dk_at dksX0_answerOf_0 9 rfl rfl)
theorem dX0_answerOf_12 : decode cX0_answerOf 12 = .ok (.iconst 1, 1) := dk_4 (dk_at dksX0_answerOf_0 12 rfl rfl)
theorem dX0_answerOf_13 : decode cX0_answerOf 13 = .ok (.isub, 1) := dk_100 (dk_at dksX0_answerOf_0 13 rfl rfl)
theorem dX0_answerOf_14 : decode cX0_answerOf 14 = .ok (.invokestatic 46, 3) := dk_184 0 46 (dk_at dksX0_answerOf_0 14 rfl rfl)
theorem dX0_answerOf_17 : decode cX0_answerOf 17 = .ok (.ifCond .eq 15, 3) := dk_153 0 15 (dk_at dksX0_answerOf_0 17 rfl rfl)
theorem dX0_answerOf_20 : decode cX0_answerOf 20 = .ok (.aload_n 0, 1) := dk_42 (dk_at dksX0_answerOf_0 20 rfl rfl)
theorem dX0_answerOf_21 : decode cX0_answerOf 21 = .ok (.getfield 18, 3) := dk_180 0 18 (dk_at dksX0_answerOf_0 21 rfl rfl)
theorem dX0_answerOf_24 : decode cX0_answerOf 24 = .ok (.iload_n 1, 1) := dk_27 (dk_at dksX0_answerOf_1 0 rfl rfl)
theorem dX0_answerOf_25 : decode cX0_answerOf 25 = .ok (.iload_n 2, 1) := dk_28 (dk_at dksX0_answerOf_1 1 rfl rfl)
theorem dX0_answerOf_26 : decode cX0_answerOf 26 = .ok (.invokevirtual 174, 3) := dk_182 0 174 (dk_at dksX0_answerOf_1 2 rfl rfl)
theorem dX0_answerOf_29 : decode cX0_answerOf 29 = .ok (.goto 6, 3) := dk_167 0 6 (dk_at dksX0_answerOf_1 5 rfl rfl)
theorem dX0_answerOf_32 : decode cX0_answerOf 32 = .ok (.sipush (-1011), 3) := dk_17 252 13 (dk_at dksX0_answerOf_1 8 rfl rfl)
theorem dX0_answerOf_35 : decode cX0_answerOf 35 = .ok (.ireturn, 1) := dk_172 (dk_at dksX0_answerOf_1 11 rfl rfl)
def dkwX0_answered_0 : List UInt8 := [27, 184, 0, 116, 153, 0, 14, 42, 180, 0, 18, 27, 182, 0, 177, 167, 0, 6, 17, 252, 12, 172]
abbrev dktX0_answered_0 : List UInt8 := dkwX0_answered_0 ++ []
theorem dksX0_answered_0 : cX0_answered.data.toList.drop 0 = dktX0_answered_0 := by decide +kernel
theorem dX0_answered_0 : decode cX0_answered 0 = .ok (.iload_n 1, 1) := dk_27 (dk_at dksX0_answered_0 0 rfl rfl)
theorem dX0_answered_1 : decode cX0_answered 1 = .ok (.invokestatic 116, 3) := dk_184 0 116 (dk_at dksX0_answered_0 1 rfl rfl)
theorem dX0_answered_4 : decode cX0_answered 4 = .ok (.ifCond .eq 14, 3) := dk_153 0 14 (dk_at dksX0_answered_0 4 rfl rfl)
theorem dX0_answered_7 : decode cX0_answered 7 = .ok (.aload_n 0, 1) := dk_42 (dk_at dksX0_answered_0 7 rfl rfl)
theorem dX0_answered_8 : decode cX0_answered 8 = .ok (.getfield 18, 3) := dk_180 0 18 (dk_at dksX0_answered_0 8 rfl rfl)
theorem dX0_answered_11 : decode cX0_answered 11 = .ok (.iload_n 1, 1) := dk_27 (dk_at dksX0_answered_0 11 rfl rfl)
theorem dX0_answered_12 : decode cX0_answered 12 = .ok (.invokevirtual 177, 3) := dk_182 0 177 (dk_at dksX0_answered_0 12 rfl rfl)
theorem dX0_answered_15 : decode cX0_answered 15 = .ok (.goto 6, 3) := dk_167 0 6 (dk_at dksX0_answered_0 15 rfl rfl)
theorem dX0_answered_18 : decode cX0_answered 18 = .ok (.sipush (-1012), 3) := dk_17 252 12 (dk_at dksX0_answered_0 18 rfl rfl)
theorem dX0_answered_21 : decode cX0_answered 21 = .ok (.ireturn, 1) := dk_172 (dk_at dksX0_answered_0 21 rfl rfl)
def dkwX0_guess_0 : List UInt8 := [27, 184, 0, 116, 153, 0, 14, 42, 180, 0, 18, 27, 182, 0, 180, 167, 0, 6, 17, 252, 12, 172]
abbrev dktX0_guess_0 : List UInt8 := dkwX0_guess_0 ++ []
theorem dksX0_guess_0 : cX0_guess.data.toList.drop 0 = dktX0_guess_0 := by decide +kernel
theorem dX0_guess_0 : decode cX0_guess 0 = .ok (.iload_n 1, 1) := dk_27 (dk_at dksX0_guess_0 0 rfl rfl)
theorem dX0_guess_1 : decode cX0_guess 1 = .ok (.invokestatic 116, 3) := dk_184 0 116 (dk_at dksX0_guess_0 1 rfl rfl)
theorem dX0_guess_4 : decode cX0_guess 4 = .ok (.ifCond .eq 14, 3) := dk_153 0 14 (dk_at dksX0_guess_0 4 rfl rfl)
theorem dX0_guess_7 : decode cX0_guess 7 = .ok (.aload_n 0, 1) := dk_42 (dk_at dksX0_guess_0 7 rfl rfl)
theorem dX0_guess_8 : decode cX0_guess 8 = .ok (.getfield 18, 3) := dk_180 0 18 (dk_at dksX0_guess_0 8 rfl rfl)
theorem dX0_guess_11 : decode cX0_guess 11 = .ok (.iload_n 1, 1) := dk_27 (dk_at dksX0_guess_0 11 rfl rfl)
theorem dX0_guess_12 : decode cX0_guess 12 = .ok (.invokevirtual 180, 3) := dk_182 0 180 (dk_at dksX0_guess_0 12 rfl rfl)
theorem dX0_guess_15 : decode cX0_guess 15 = .ok (.goto 6, 3) := dk_167 0 6 (dk_at dksX0_guess_0 15 rfl rfl)
theorem dX0_guess_18 : decode cX0_guess 18 = .ok (.sipush (-1012), 3) := dk_17 252 12 (dk_at dksX0_guess_0 18 rfl rfl)
theorem dX0_guess_21 : decode cX0_guess 21 = .ok (.ireturn, 1) := dk_172 (dk_at dksX0_guess_0 21 rfl rfl)
def dkwX0_guessAgain_0 : List UInt8 := [27, 184, 0, 116, 153, 0, 14, 42, 180, 0, 18, 27, 182, 0, 183, 167, 0, 6, 17, 252, 12, 172]
abbrev dktX0_guessAgain_0 : List UInt8 := dkwX0_guessAgain_0 ++ []
theorem dksX0_guessAgain_0 : cX0_guessAgain.data.toList.drop 0 = dktX0_guessAgain_0 := by decide +kernel
theorem dX0_guessAgain_0 : decode cX0_guessAgain 0 = .ok (.iload_n 1, 1) := dk_27 (dk_at dksX0_guessAgain_0 0 rfl rfl)
theorem dX0_guessAgain_1 : decode cX0_guessAgain 1 = .ok (.invokestatic 116, 3) := dk_184 0 116 (dk_at dksX0_guessAgain_0 1 rfl rfl)
theorem dX0_guessAgain_4 : decode cX0_guessAgain 4 = .ok (.ifCond .eq 14, 3) := dk_153 0 14 (dk_at dksX0_guessAgain_0 4 rfl rfl)
theorem dX0_guessAgain_7 : decode cX0_guessAgain 7 = .ok (.aload_n 0, 1) := dk_42 (dk_at dksX0_guessAgain_0 7 rfl rfl)
theorem dX0_guessAgain_8 : decode cX0_guessAgain 8 = .ok (.getfield 18, 3) := dk_180 0 18 (dk_at dksX0_guessAgain_0 8 rfl rfl)
theorem dX0_guessAgain_11 : decode cX0_guessAgain 11 = .ok (.iload_n 1, 1) := dk_27 (dk_at dksX0_guessAgain_0 11 rfl rfl)
theorem dX0_guessAgain_12 : decode cX0_guessAgain 12 = .ok (.invokevirtual 183, 3) := dk_182 0 183 (dk_at dksX0_guessAgain_0 12 rfl rfl)
theorem dX0_guessAgain_15 : decode cX0_guessAgain 15 = .ok (.goto 6, 3) := dk_167 0 6 (dk_at dksX0_guessAgain_0 15 rfl rfl)
theorem dX0_guessAgain_18 : decode cX0_guessAgain 18 = .ok (.sipush (-1012), 3) := dk_17 252 12 (dk_at dksX0_guessAgain_0 18 rfl rfl)
theorem dX0_guessAgain_21 : decode cX0_guessAgain 21 = .ok (.ireturn, 1) := dk_172 (dk_at dksX0_guessAgain_0 21 rfl rfl)
def dkwX0_parishOf_0 : List UInt8 := [27, 184, 0, 76, 153, 0, 15, 42, 180, 0, 18, 27, 28, 182, 0, 186, 167, 0, 6, 17, 252, 13, 172]
abbrev dktX0_parishOf_0 : List UInt8 := dkwX0_parishOf_0 ++ []
theorem dksX0_parishOf_0 : cX0_parishOf.data.toList.drop 0 = dktX0_parishOf_0 := by decide +kernel
theorem dX0_parishOf_0 : decode cX0_parishOf 0 = .ok (.iload_n 1, 1) := dk_27 (dk_at dksX0_parishOf_0 0 rfl rfl)
theorem dX0_parishOf_1 : decode cX0_parishOf 1 = .ok (.invokestatic 76, 3) := dk_184 0 76 (dk_at dksX0_parishOf_0 1 rfl rfl)
theorem dX0_parishOf_4 : decode cX0_parishOf 4 = .ok (.ifCond .eq 15, 3) := dk_153 0 15 (dk_at dksX0_parishOf_0 4 rfl rfl)
theorem dX0_parishOf_7 : decode cX0_parishOf 7 = .ok (.aload_n 0, 1) := dk_42 (dk_at dksX0_parishOf_0 7 rfl rfl)
theorem dX0_parishOf_8 : decode cX0_parishOf 8 = .ok (.getfield 18, 3) := dk_180 0 18 (dk_at dksX0_parishOf_0 8 rfl rfl)
theorem dX0_parishOf_11 : decode cX0_parishOf 11 = .ok (.iload_n 1, 1) := dk_27 (dk_at dksX0_parishOf_0 11 rfl rfl)
theorem dX0_parishOf_12 : decode cX0_parishOf 12 = .ok (.iload_n 2, 1) := dk_28 (dk_at dksX0_parishOf_0 12 rfl rfl)
theorem dX0_parishOf_13 : decode cX0_parishOf 13 = .ok (.invokevirtual 186, 3) := dk_182 0 186 (dk_at dksX0_parishOf_0 13 rfl rfl)
theorem dX0_parishOf_16 : decode cX0_parishOf 16 = .ok (.goto 6, 3) := dk_167 0 6 (dk_at dksX0_parishOf_0 16 rfl rfl)
theorem dX0_parishOf_19 : decode cX0_parishOf 19 = .ok (.sipush (-1011), 3) := dk_17 252 13 (dk_at dksX0_parishOf_0 19 rfl rfl)
theorem dX0_parishOf_22 : decode cX0_parishOf 22 = .ok (.ireturn, 1) := dk_172 (dk_at dksX0_parishOf_0 22 rfl rfl)
def dkwX0_busiest_0 : List UInt8 := [42, 180, 0, 18, 182, 0, 189, 172]
abbrev dktX0_busiest_0 : List UInt8 := dkwX0_busiest_0 ++ []
theorem dksX0_busiest_0 : cX0_busiest.data.toList.drop 0 = dktX0_busiest_0 := by decide +kernel
theorem dX0_busiest_0 : decode cX0_busiest 0 = .ok (.aload_n 0, 1) := dk_42 (dk_at dksX0_busiest_0 0 rfl rfl)
theorem dX0_busiest_1 : decode cX0_busiest 1 = .ok (.getfield 18, 3) := dk_180 0 18 (dk_at dksX0_busiest_0 1 rfl rfl)
theorem dX0_busiest_4 : decode cX0_busiest 4 = .ok (.invokevirtual 189, 3) := dk_182 0 189 (dk_at dksX0_busiest_0 4 rfl rfl)
theorem dX0_busiest_7 : decode cX0_busiest 7 = .ok (.ireturn, 1) := dk_172 (dk_at dksX0_busiest_0 7 rfl rfl)
def dkwX0_rustiest_0 : List UInt8 := [42, 180, 0, 18, 27, 182, 0, 192, 172]
abbrev dktX0_rustiest_0 : List UInt8 := dkwX0_rustiest_0 ++ []
theorem dksX0_rustiest_0 : cX0_rustiest.data.toList.drop 0 = dktX0_rustiest_0 := by decide +kernel
theorem dX0_rustiest_0 : decode cX0_rustiest 0 = .ok (.aload_n 0, 1) := dk_42 (dk_at dksX0_rustiest_0 0 rfl rfl)
theorem dX0_rustiest_1 : decode cX0_rustiest 1 = .ok (.getfield 18, 3) := dk_180 0 18 (dk_at dksX0_rustiest_0 1 rfl rfl)
theorem dX0_rustiest_4 : decode cX0_rustiest 4 = .ok (.iload_n 1, 1) := dk_27 (dk_at dksX0_rustiest_0 4 rfl rfl)
theorem dX0_rustiest_5 : decode cX0_rustiest 5 = .ok (.invokevirtual 192, 3) := dk_182 0 192 (dk_at dksX0_rustiest_0 5 rfl rfl)
theorem dX0_rustiest_8 : decode cX0_rustiest 8 = .ok (.ireturn, 1) := dk_172 (dk_at dksX0_rustiest_0 8 rfl rfl)
def dkwX0_ranked_0 : List UInt8 := [42, 180, 0, 18, 27, 182, 0, 195, 172]
abbrev dktX0_ranked_0 : List UInt8 := dkwX0_ranked_0 ++ []
theorem dksX0_ranked_0 : cX0_ranked.data.toList.drop 0 = dktX0_ranked_0 := by decide +kernel
theorem dX0_ranked_0 : decode cX0_ranked 0 = .ok (.aload_n 0, 1) := dk_42 (dk_at dksX0_ranked_0 0 rfl rfl)
theorem dX0_ranked_1 : decode cX0_ranked 1 = .ok (.getfield 18, 3) := dk_180 0 18 (dk_at dksX0_ranked_0 1 rfl rfl)
theorem dX0_ranked_4 : decode cX0_ranked 4 = .ok (.iload_n 1, 1) := dk_27 (dk_at dksX0_ranked_0 4 rfl rfl)
theorem dX0_ranked_5 : decode cX0_ranked 5 = .ok (.invokevirtual 195, 3) := dk_182 0 195 (dk_at dksX0_ranked_0 5 rfl rfl)
theorem dX0_ranked_8 : decode cX0_ranked 8 = .ok (.ireturn, 1) := dk_172 (dk_at dksX0_ranked_0 8 rfl rfl)
def dkwX0_append_2 : List UInt8 := [172]
abbrev dktX0_append_2 : List UInt8 := dkwX0_append_2 ++ []
def dkwX0_append_1 : List UInt8 := [160, 0, 7, 17, 252, 11, 172, 42, 180, 0, 32, 27, 146, 182, 0, 201, 87, 42, 180, 0, 32, 182, 0, 198]
abbrev dktX0_append_1 : List UInt8 := dkwX0_append_1 ++ dktX0_append_2
def dkwX0_append_0 : List UInt8 := [27, 16, 32, 16, 126, 184, 0, 46, 154, 0, 7, 17, 252, 12, 172, 42, 180, 0, 32, 182, 0, 198, 16, 60]
abbrev dktX0_append_0 : List UInt8 := dkwX0_append_0 ++ dktX0_append_1
theorem dksX0_append_0 : cX0_append.data.toList.drop 0 = dktX0_append_0 := by decide +kernel
theorem dksX0_append_1 : cX0_append.data.toList.drop 24 = dktX0_append_1 := dk_seg dksX0_append_0 24 rfl rfl
theorem dksX0_append_2 : cX0_append.data.toList.drop 48 = dktX0_append_2 := dk_seg dksX0_append_1 24 rfl rfl
theorem dX0_append_0 : decode cX0_append 0 = .ok (.iload_n 1, 1) := dk_27 (dk_at dksX0_append_0 0 rfl rfl)
theorem dX0_append_1 : decode cX0_append 1 = .ok (.bipush 32, 2) := dk_16 32 (dk_at dksX0_append_0 1 rfl rfl)
theorem dX0_append_3 : decode cX0_append 3 = .ok (.bipush 126, 2) := dk_16 126 (dk_at dksX0_append_0 3 rfl rfl)
theorem dX0_append_5 : decode cX0_append 5 = .ok (.invokestatic 46, 3) := dk_184 0 46 (dk_at dksX0_append_0 5 rfl rfl)
theorem dX0_append_8 : decode cX0_append 8 = .ok (.ifCond .ne 7, 3) := dk_154 0 7 (dk_at dksX0_append_0 8 rfl rfl)
theorem dX0_append_11 : decode cX0_append 11 = .ok (.sipush (-1012), 3) := dk_17 252 12 (dk_at dksX0_append_0 11 rfl rfl)
theorem dX0_append_14 : decode cX0_append 14 = .ok (.ireturn, 1) := dk_172 (dk_at dksX0_append_0 14 rfl rfl)
theorem dX0_append_15 : decode cX0_append 15 = .ok (.aload_n 0, 1) := dk_42 (dk_at dksX0_append_0 15 rfl rfl)
theorem dX0_append_16 : decode cX0_append 16 = .ok (.getfield 32, 3) := dk_180 0 32 (dk_at dksX0_append_0 16 rfl rfl)
theorem dX0_append_19 : decode cX0_append 19 = .ok (.invokevirtual 198, 3) := dk_182 0 198 (dk_at dksX0_append_0 19 rfl rfl)
theorem dX0_append_22 : decode cX0_append 22 = .ok (.bipush 60, 2) := dk_16 60 (dk_at dksX0_append_0 22 rfl rfl)
theorem dX0_append_24 : decode cX0_append 24 = .ok (.if_icmp .ne 7, 3) := dk_160 0 7 (dk_at dksX0_append_1 0 rfl rfl)
theorem dX0_append_27 : decode cX0_append 27 = .ok (.sipush (-1013), 3) := dk_17 252 11 (dk_at dksX0_append_1 3 rfl rfl)
theorem dX0_append_30 : decode cX0_append 30 = .ok (.ireturn, 1) := dk_172 (dk_at dksX0_append_1 6 rfl rfl)
theorem dX0_append_31 : decode cX0_append 31 = .ok (.aload_n 0, 1) := dk_42 (dk_at dksX0_append_1 7 rfl rfl)
theorem dX0_append_32 : decode cX0_append 32 = .ok (.getfield 32, 3) := dk_180 0 32 (dk_at dksX0_append_1 8 rfl rfl)
theorem dX0_append_35 : decode cX0_append 35 = .ok (.iload_n 1, 1) := dk_27 (dk_at dksX0_append_1 11 rfl rfl)
theorem dX0_append_36 : decode cX0_append 36 = .ok (.i2c, 1) := dk_146 (dk_at dksX0_append_1 12 rfl rfl)
theorem dX0_append_37 : decode cX0_append 37 = .ok (.invokevirtual 201, 3) := dk_182 0 201 (dk_at dksX0_append_1 13 rfl rfl)
theorem dX0_append_40 : decode cX0_append 40 = .ok (.pop, 1) := dk_87 (dk_at dksX0_append_1 16 rfl rfl)
theorem dX0_append_41 : decode cX0_append 41 = .ok (.aload_n 0, 1) := dk_42 (dk_at dksX0_append_1 17 rfl rfl)
theorem dX0_append_42 : decode cX0_append 42 = .ok (.getfield 32, 3) := dk_180 0 32 (dk_at dksX0_append_1 18 rfl rfl)
theorem dX0_append_45 : decode cX0_append 45 = .ok (.invokevirtual 198, 3) := dk_182 0 198 (dk_at dksX0_append_1 21 rfl rfl)
theorem dX0_append_48 : decode cX0_append 48 = .ok (.ireturn, 1) := dk_172 (dk_at dksX0_append_2 0 rfl rfl)
def dkwX0_run_5 : List UInt8 := [180, 0, 32, 3, 182, 0, 228, 28, 172, 58, 6, 42, 180, 0, 32, 3, 182, 0, 228, 25, 6, 191]
abbrev dktX0_run_5 : List UInt8 := dkwX0_run_5 ++ []
def dkwX0_run_4 : List UInt8 := [43, 180, 0, 234, 100, 61, 42, 180, 0, 32, 3, 182, 0, 228, 28, 172, 76, 42, 43, 182, 0, 92, 61, 42]
abbrev dktX0_run_4 : List UInt8 := dkwX0_run_4 ++ dktX0_run_5
def dkwX0_run_3 : List UInt8 := [42, 25, 4, 29, 182, 0, 88, 54, 5, 42, 180, 0, 32, 3, 182, 0, 228, 21, 5, 172, 76, 17, 248, 48]
abbrev dktX0_run_3 : List UInt8 := dkwX0_run_3 ++ dktX0_run_4
def dkwX0_run_2 : List UInt8 := [3, 16, 7, 29, 184, 0, 224, 132, 3, 1, 167, 255, 221, 42, 180, 0, 18, 58, 4, 42, 44, 181, 0, 18]
abbrev dktX0_run_2 : List UInt8 := dkwX0_run_2 ++ dktX0_run_3
def dkwX0_run_1 : List UInt8 := [182, 0, 213, 154, 0, 34, 43, 182, 0, 217, 192, 0, 218, 44, 182, 0, 220, 154, 0, 7, 4, 167, 0, 4]
abbrev dktX0_run_1 : List UInt8 := dkwX0_run_1 ++ dktX0_run_2
def dkwX0_run_0 : List UInt8 := [187, 0, 205, 89, 42, 183, 0, 207, 182, 0, 210, 76, 42, 180, 0, 18, 182, 0, 80, 77, 3, 62, 43]
abbrev dktX0_run_0 : List UInt8 := dkwX0_run_0 ++ dktX0_run_1
theorem dksX0_run_0 : cX0_run.data.toList.drop 0 = dktX0_run_0 := by decide +kernel
theorem dksX0_run_1 : cX0_run.data.toList.drop 23 = dktX0_run_1 := dk_seg dksX0_run_0 23 rfl rfl
theorem dksX0_run_2 : cX0_run.data.toList.drop 47 = dktX0_run_2 := dk_seg dksX0_run_1 24 rfl rfl
theorem dksX0_run_3 : cX0_run.data.toList.drop 71 = dktX0_run_3 := dk_seg dksX0_run_2 24 rfl rfl
theorem dksX0_run_4 : cX0_run.data.toList.drop 95 = dktX0_run_4 := dk_seg dksX0_run_3 24 rfl rfl
theorem dksX0_run_5 : cX0_run.data.toList.drop 119 = dktX0_run_5 := dk_seg dksX0_run_4 24 rfl rfl
theorem dX0_run_0 : decode cX0_run 0 = .ok (.new 205, 3) := dk_187 0 205 (dk_at dksX0_run_0 0 rfl rfl)
theorem dX0_run_3 : decode cX0_run 3 = .ok (.dup, 1) := dk_89 (dk_at dksX0_run_0 3 rfl rfl)
theorem dX0_run_4 : decode cX0_run 4 = .ok (.aload_n 0, 1) := dk_42 (dk_at dksX0_run_0 4 rfl rfl)
theorem dX0_run_5 : decode cX0_run 5 = .ok (.invokespecial 207, 3) := dk_183 0 207 (dk_at dksX0_run_0 5 rfl rfl)
theorem dX0_run_8 : decode cX0_run 8 = .ok (.invokevirtual 210, 3) := dk_182 0 210 (dk_at dksX0_run_0 8 rfl rfl)
theorem dX0_run_11 : decode cX0_run 11 = .ok (.astore_n 1, 1) := dk_76 (dk_at dksX0_run_0 11 rfl rfl)
theorem dX0_run_12 : decode cX0_run 12 = .ok (.aload_n 0, 1) := dk_42 (dk_at dksX0_run_0 12 rfl rfl)
theorem dX0_run_13 : decode cX0_run 13 = .ok (.getfield 18, 3) := dk_180 0 18 (dk_at dksX0_run_0 13 rfl rfl)
theorem dX0_run_16 : decode cX0_run 16 = .ok (.invokevirtual 80, 3) := dk_182 0 80 (dk_at dksX0_run_0 16 rfl rfl)
theorem dX0_run_19 : decode cX0_run 19 = .ok (.astore_n 2, 1) := dk_77 (dk_at dksX0_run_0 19 rfl rfl)
theorem dX0_run_20 : decode cX0_run 20 = .ok (.iconst 0, 1) := dk_3 (dk_at dksX0_run_0 20 rfl rfl)
theorem dX0_run_21 : decode cX0_run 21 = .ok (.istore_n 3, 1) := dk_62 (dk_at dksX0_run_0 21 rfl rfl)
theorem dX0_run_22 : decode cX0_run 22 = .ok (.aload_n 1, 1) := dk_43 (dk_at dksX0_run_0 22 rfl rfl)
theorem dX0_run_23 : decode cX0_run 23 = .ok (.invokevirtual 213, 3) := dk_182 0 213 (dk_at dksX0_run_1 0 rfl rfl)
theorem dX0_run_26 : decode cX0_run 26 = .ok (.ifCond .ne 34, 3) := dk_154 0 34 (dk_at dksX0_run_1 3 rfl rfl)
theorem dX0_run_29 : decode cX0_run 29 = .ok (.aload_n 1, 1) := dk_43 (dk_at dksX0_run_1 6 rfl rfl)
theorem dX0_run_30 : decode cX0_run 30 = .ok (.invokevirtual 217, 3) := dk_182 0 217 (dk_at dksX0_run_1 7 rfl rfl)
theorem dX0_run_33 : decode cX0_run 33 = .ok (.checkcast 218, 3) := dk_192 0 218 (dk_at dksX0_run_1 10 rfl rfl)
theorem dX0_run_36 : decode cX0_run 36 = .ok (.aload_n 2, 1) := dk_44 (dk_at dksX0_run_1 13 rfl rfl)
theorem dX0_run_37 : decode cX0_run 37 = .ok (.invokevirtual 220, 3) := dk_182 0 220 (dk_at dksX0_run_1 14 rfl rfl)
theorem dX0_run_40 : decode cX0_run 40 = .ok (.ifCond .ne 7, 3) := dk_154 0 7 (dk_at dksX0_run_1 17 rfl rfl)
theorem dX0_run_43 : decode cX0_run 43 = .ok (.iconst 1, 1) := dk_4 (dk_at dksX0_run_1 20 rfl rfl)
theorem dX0_run_44 : decode cX0_run 44 = .ok (.goto 4, 3) := dk_167 0 4 (dk_at dksX0_run_1 21 rfl rfl)
theorem dX0_run_47 : decode cX0_run 47 = .ok (.iconst 0, 1) := dk_3 (dk_at dksX0_run_2 0 rfl rfl)
theorem dX0_run_48 : decode cX0_run 48 = .ok (.bipush 7, 2) := dk_16 7 (dk_at dksX0_run_2 1 rfl rfl)
theorem dX0_run_50 : decode cX0_run 50 = .ok (.iload_n 3, 1) := dk_29 (dk_at dksX0_run_2 3 rfl rfl)
theorem dX0_run_51 : decode cX0_run 51 = .ok (.invokestatic 224, 3) := dk_184 0 224 (dk_at dksX0_run_2 4 rfl rfl)
theorem dX0_run_54 : decode cX0_run 54 = .ok (.iinc 3 1, 3) := dk_132 3 1 (dk_at dksX0_run_2 7 rfl rfl)
theorem dX0_run_57 : decode cX0_run 57 = .ok (.goto (-35), 3) := dk_167 255 221 (dk_at dksX0_run_2 10 rfl rfl)
theorem dX0_run_60 : decode cX0_run 60 = .ok (.aload_n 0, 1) := dk_42 (dk_at dksX0_run_2 13 rfl rfl)
theorem dX0_run_61 : decode cX0_run 61 = .ok (.getfield 18, 3) := dk_180 0 18 (dk_at dksX0_run_2 14 rfl rfl)
theorem dX0_run_64 : decode cX0_run 64 = .ok (.astore 4, 2) := dk_58 4 (dk_at dksX0_run_2 17 rfl rfl)
theorem dX0_run_66 : decode cX0_run 66 = .ok (.aload_n 0, 1) := dk_42 (dk_at dksX0_run_2 19 rfl rfl)
theorem dX0_run_67 : decode cX0_run 67 = .ok (.aload_n 2, 1) := dk_44 (dk_at dksX0_run_2 20 rfl rfl)
theorem dX0_run_68 : decode cX0_run 68 = .ok (.putfield 18, 3) := dk_181 0 18 (dk_at dksX0_run_2 21 rfl rfl)
theorem dX0_run_71 : decode cX0_run 71 = .ok (.aload_n 0, 1) := dk_42 (dk_at dksX0_run_3 0 rfl rfl)
theorem dX0_run_72 : decode cX0_run 72 = .ok (.aload 4, 2) := dk_25 4 (dk_at dksX0_run_3 1 rfl rfl)
theorem dX0_run_74 : decode cX0_run 74 = .ok (.iload_n 3, 1) := dk_29 (dk_at dksX0_run_3 3 rfl rfl)
theorem dX0_run_75 : decode cX0_run 75 = .ok (.invokevirtual 88, 3) := dk_182 0 88 (dk_at dksX0_run_3 4 rfl rfl)
theorem dX0_run_78 : decode cX0_run 78 = .ok (.istore 5, 2) := dk_54 5 (dk_at dksX0_run_3 7 rfl rfl)
theorem dX0_run_80 : decode cX0_run 80 = .ok (.aload_n 0, 1) := dk_42 (dk_at dksX0_run_3 9 rfl rfl)
theorem dX0_run_81 : decode cX0_run 81 = .ok (.getfield 32, 3) := dk_180 0 32 (dk_at dksX0_run_3 10 rfl rfl)
theorem dX0_run_84 : decode cX0_run 84 = .ok (.iconst 0, 1) := dk_3 (dk_at dksX0_run_3 13 rfl rfl)
theorem dX0_run_85 : decode cX0_run 85 = .ok (.invokevirtual 228, 3) := dk_182 0 228 (dk_at dksX0_run_3 14 rfl rfl)
theorem dX0_run_88 : decode cX0_run 88 = .ok (.iload 5, 2) := dk_21 5 (dk_at dksX0_run_3 17 rfl rfl)
theorem dX0_run_90 : decode cX0_run 90 = .ok (.ireturn, 1) := dk_172 (dk_at dksX0_run_3 19 rfl rfl)
theorem dX0_run_91 : decode cX0_run 91 = .ok (.astore_n 1, 1) := dk_76 (dk_at dksX0_run_3 20 rfl rfl)
theorem dX0_run_92 : decode cX0_run 92 = .ok (.sipush (-2000), 3) := dk_17 248 48 (dk_at dksX0_run_3 21 rfl rfl)
theorem dX0_run_95 : decode cX0_run 95 = .ok (.aload_n 1, 1) := dk_43 (dk_at dksX0_run_4 0 rfl rfl)
theorem dX0_run_96 : decode cX0_run 96 = .ok (.getfield 234, 3) := dk_180 0 234 (dk_at dksX0_run_4 1 rfl rfl)
theorem dX0_run_99 : decode cX0_run 99 = .ok (.isub, 1) := dk_100 (dk_at dksX0_run_4 4 rfl rfl)
theorem dX0_run_100 : decode cX0_run 100 = .ok (.istore_n 2, 1) := dk_61 (dk_at dksX0_run_4 5 rfl rfl)
theorem dX0_run_101 : decode cX0_run 101 = .ok (.aload_n 0, 1) := dk_42 (dk_at dksX0_run_4 6 rfl rfl)
theorem dX0_run_102 : decode cX0_run 102 = .ok (.getfield 32, 3) := dk_180 0 32 (dk_at dksX0_run_4 7 rfl rfl)
theorem dX0_run_105 : decode cX0_run 105 = .ok (.iconst 0, 1) := dk_3 (dk_at dksX0_run_4 10 rfl rfl)
theorem dX0_run_106 : decode cX0_run 106 = .ok (.invokevirtual 228, 3) := dk_182 0 228 (dk_at dksX0_run_4 11 rfl rfl)
theorem dX0_run_109 : decode cX0_run 109 = .ok (.iload_n 2, 1) := dk_28 (dk_at dksX0_run_4 14 rfl rfl)
theorem dX0_run_110 : decode cX0_run 110 = .ok (.ireturn, 1) := dk_172 (dk_at dksX0_run_4 15 rfl rfl)
theorem dX0_run_111 : decode cX0_run 111 = .ok (.astore_n 1, 1) := dk_76 (dk_at dksX0_run_4 16 rfl rfl)
theorem dX0_run_112 : decode cX0_run 112 = .ok (.aload_n 0, 1) := dk_42 (dk_at dksX0_run_4 17 rfl rfl)
theorem dX0_run_113 : decode cX0_run 113 = .ok (.aload_n 1, 1) := dk_43 (dk_at dksX0_run_4 18 rfl rfl)
theorem dX0_run_114 : decode cX0_run 114 = .ok (.invokevirtual 92, 3) := dk_182 0 92 (dk_at dksX0_run_4 19 rfl rfl)
theorem dX0_run_117 : decode cX0_run 117 = .ok (.istore_n 2, 1) := dk_61 (dk_at dksX0_run_4 22 rfl rfl)
theorem dX0_run_118 : decode cX0_run 118 = .ok (.aload_n 0, 1) := dk_42 (dk_at dksX0_run_4 23 rfl rfl)
theorem dX0_run_119 : decode cX0_run 119 = .ok (.getfield 32, 3) := dk_180 0 32 (dk_at dksX0_run_5 0 rfl rfl)
theorem dX0_run_122 : decode cX0_run 122 = .ok (.iconst 0, 1) := dk_3 (dk_at dksX0_run_5 3 rfl rfl)
theorem dX0_run_123 : decode cX0_run 123 = .ok (.invokevirtual 228, 3) := dk_182 0 228 (dk_at dksX0_run_5 4 rfl rfl)
theorem dX0_run_126 : decode cX0_run 126 = .ok (.iload_n 2, 1) := dk_28 (dk_at dksX0_run_5 7 rfl rfl)
theorem dX0_run_127 : decode cX0_run 127 = .ok (.ireturn, 1) := dk_172 (dk_at dksX0_run_5 8 rfl rfl)
def dkwX0_tell_1 : List UInt8 := [181, 0, 38, 42, 180, 0, 38, 182, 0, 240, 172]
abbrev dktX0_tell_1 : List UInt8 := dkwX0_tell_1 ++ []
def dkwX0_tell_0 : List UInt8 := [42, 180, 0, 18, 27, 182, 0, 96, 154, 0, 7, 17, 252, 13, 172, 42, 42, 180, 0, 18, 27, 182, 0, 237]
abbrev dktX0_tell_0 : List UInt8 := dkwX0_tell_0 ++ dktX0_tell_1
theorem dksX0_tell_0 : cX0_tell.data.toList.drop 0 = dktX0_tell_0 := by decide +kernel
theorem dksX0_tell_1 : cX0_tell.data.toList.drop 24 = dktX0_tell_1 := dk_seg dksX0_tell_0 24 rfl rfl
theorem dX0_tell_0 : decode cX0_tell 0 = .ok (.aload_n 0, 1) := dk_42 (dk_at dksX0_tell_0 0 rfl rfl)
theorem dX0_tell_1 : decode cX0_tell 1 = .ok (.getfield 18, 3) := dk_180 0 18 (dk_at dksX0_tell_0 1 rfl rfl)
theorem dX0_tell_4 : decode cX0_tell 4 = .ok (.iload_n 1, 1) := dk_27 (dk_at dksX0_tell_0 4 rfl rfl)
theorem dX0_tell_5 : decode cX0_tell 5 = .ok (.invokevirtual 96, 3) := dk_182 0 96 (dk_at dksX0_tell_0 5 rfl rfl)
theorem dX0_tell_8 : decode cX0_tell 8 = .ok (.ifCond .ne 7, 3) := dk_154 0 7 (dk_at dksX0_tell_0 8 rfl rfl)
theorem dX0_tell_11 : decode cX0_tell 11 = .ok (.sipush (-1011), 3) := dk_17 252 13 (dk_at dksX0_tell_0 11 rfl rfl)
theorem dX0_tell_14 : decode cX0_tell 14 = .ok (.ireturn, 1) := dk_172 (dk_at dksX0_tell_0 14 rfl rfl)
theorem dX0_tell_15 : decode cX0_tell 15 = .ok (.aload_n 0, 1) := dk_42 (dk_at dksX0_tell_0 15 rfl rfl)
theorem dX0_tell_16 : decode cX0_tell 16 = .ok (.aload_n 0, 1) := dk_42 (dk_at dksX0_tell_0 16 rfl rfl)
theorem dX0_tell_17 : decode cX0_tell 17 = .ok (.getfield 18, 3) := dk_180 0 18 (dk_at dksX0_tell_0 17 rfl rfl)
theorem dX0_tell_20 : decode cX0_tell 20 = .ok (.iload_n 1, 1) := dk_27 (dk_at dksX0_tell_0 20 rfl rfl)
theorem dX0_tell_21 : decode cX0_tell 21 = .ok (.invokevirtual 237, 3) := dk_182 0 237 (dk_at dksX0_tell_0 21 rfl rfl)
theorem dX0_tell_24 : decode cX0_tell 24 = .ok (.putfield 38, 3) := dk_181 0 38 (dk_at dksX0_tell_1 0 rfl rfl)
theorem dX0_tell_27 : decode cX0_tell 27 = .ok (.aload_n 0, 1) := dk_42 (dk_at dksX0_tell_1 3 rfl rfl)
theorem dX0_tell_28 : decode cX0_tell 28 = .ok (.getfield 38, 3) := dk_180 0 38 (dk_at dksX0_tell_1 4 rfl rfl)
theorem dX0_tell_31 : decode cX0_tell 31 = .ok (.invokevirtual 240, 3) := dk_182 0 240 (dk_at dksX0_tell_1 7 rfl rfl)
theorem dX0_tell_34 : decode cX0_tell 34 = .ok (.ireturn, 1) := dk_172 (dk_at dksX0_tell_1 10 rfl rfl)
def dkwX0_tellDay_0 : List UInt8 := [42, 42, 180, 0, 18, 182, 0, 243, 181, 0, 38, 42, 180, 0, 38, 182, 0, 240, 172]
abbrev dktX0_tellDay_0 : List UInt8 := dkwX0_tellDay_0 ++ []
theorem dksX0_tellDay_0 : cX0_tellDay.data.toList.drop 0 = dktX0_tellDay_0 := by decide +kernel
theorem dX0_tellDay_0 : decode cX0_tellDay 0 = .ok (.aload_n 0, 1) := dk_42 (dk_at dksX0_tellDay_0 0 rfl rfl)
theorem dX0_tellDay_1 : decode cX0_tellDay 1 = .ok (.aload_n 0, 1) := dk_42 (dk_at dksX0_tellDay_0 1 rfl rfl)
theorem dX0_tellDay_2 : decode cX0_tellDay 2 = .ok (.getfield 18, 3) := dk_180 0 18 (dk_at dksX0_tellDay_0 2 rfl rfl)
theorem dX0_tellDay_5 : decode cX0_tellDay 5 = .ok (.invokevirtual 243, 3) := dk_182 0 243 (dk_at dksX0_tellDay_0 5 rfl rfl)
theorem dX0_tellDay_8 : decode cX0_tellDay 8 = .ok (.putfield 38, 3) := dk_181 0 38 (dk_at dksX0_tellDay_0 8 rfl rfl)
theorem dX0_tellDay_11 : decode cX0_tellDay 11 = .ok (.aload_n 0, 1) := dk_42 (dk_at dksX0_tellDay_0 11 rfl rfl)
theorem dX0_tellDay_12 : decode cX0_tellDay 12 = .ok (.getfield 38, 3) := dk_180 0 38 (dk_at dksX0_tellDay_0 12 rfl rfl)
theorem dX0_tellDay_15 : decode cX0_tellDay 15 = .ok (.invokevirtual 240, 3) := dk_182 0 240 (dk_at dksX0_tellDay_0 15 rfl rfl)
theorem dX0_tellDay_18 : decode cX0_tellDay 18 = .ok (.ireturn, 1) := dk_172 (dk_at dksX0_tellDay_0 18 rfl rfl)
def dkwX0_character_1 : List UInt8 := [182, 0, 247, 167, 0, 6, 17, 252, 13, 172]
abbrev dktX0_character_1 : List UInt8 := dkwX0_character_1 ++ []
def dkwX0_character_0 : List UInt8 := [27, 3, 42, 180, 0, 38, 182, 0, 240, 4, 100, 184, 0, 46, 153, 0, 14, 42, 180, 0, 38, 27]
abbrev dktX0_character_0 : List UInt8 := dkwX0_character_0 ++ dktX0_character_1
theorem dksX0_character_0 : cX0_character.data.toList.drop 0 = dktX0_character_0 := by decide +kernel
theorem dksX0_character_1 : cX0_character.data.toList.drop 22 = dktX0_character_1 := dk_seg dksX0_character_0 22 rfl rfl
theorem dX0_character_0 : decode cX0_character 0 = .ok (.iload_n 1, 1) := dk_27 (dk_at dksX0_character_0 0 rfl rfl)
theorem dX0_character_1 : decode cX0_character 1 = .ok (.iconst 0, 1) := dk_3 (dk_at dksX0_character_0 1 rfl rfl)
theorem dX0_character_2 : decode cX0_character 2 = .ok (.aload_n 0, 1) := dk_42 (dk_at dksX0_character_0 2 rfl rfl)
theorem dX0_character_3 : decode cX0_character 3 = .ok (.getfield 38, 3) := dk_180 0 38 (dk_at dksX0_character_0 3 rfl rfl)
theorem dX0_character_6 : decode cX0_character 6 = .ok (.invokevirtual 240, 3) := dk_182 0 240 (dk_at dksX0_character_0 6 rfl rfl)
theorem dX0_character_9 : decode cX0_character 9 = .ok (.iconst 1, 1) := dk_4 (dk_at dksX0_character_0 9 rfl rfl)
theorem dX0_character_10 : decode cX0_character 10 = .ok (.isub, 1) := dk_100 (dk_at dksX0_character_0 10 rfl rfl)
theorem dX0_character_11 : decode cX0_character 11 = .ok (.invokestatic 46, 3) := dk_184 0 46 (dk_at dksX0_character_0 11 rfl rfl)
theorem dX0_character_14 : decode cX0_character 14 = .ok (.ifCond .eq 14, 3) := dk_153 0 14 (dk_at dksX0_character_0 14 rfl rfl)
theorem dX0_character_17 : decode cX0_character 17 = .ok (.aload_n 0, 1) := dk_42 (dk_at dksX0_character_0 17 rfl rfl)
theorem dX0_character_18 : decode cX0_character 18 = .ok (.getfield 38, 3) := dk_180 0 38 (dk_at dksX0_character_0 18 rfl rfl)
theorem dX0_character_21 : decode cX0_character 21 = .ok (.iload_n 1, 1) := dk_27 (dk_at dksX0_character_0 21 rfl rfl)
theorem dX0_character_22 : decode cX0_character 22 = .ok (.invokevirtual 247, 3) := dk_182 0 247 (dk_at dksX0_character_1 0 rfl rfl)
theorem dX0_character_25 : decode cX0_character 25 = .ok (.goto 6, 3) := dk_167 0 6 (dk_at dksX0_character_1 3 rfl rfl)
theorem dX0_character_28 : decode cX0_character 28 = .ok (.sipush (-1011), 3) := dk_17 252 13 (dk_at dksX0_character_1 6 rfl rfl)
theorem dX0_character_31 : decode cX0_character 31 = .ok (.ireturn, 1) := dk_172 (dk_at dksX0_character_1 9 rfl rfl)
def dkwX0_reason_1 : List UInt8 := [42, 180, 0, 59, 172]
abbrev dktX0_reason_1 : List UInt8 := dkwX0_reason_1 ++ []
def dkwX0_reason_0 : List UInt8 := [42, 180, 0, 59, 154, 0, 9, 17, 252, 9, 167, 0, 18, 27, 153, 0, 10, 42, 180, 0, 63, 167, 0, 7]
abbrev dktX0_reason_0 : List UInt8 := dkwX0_reason_0 ++ dktX0_reason_1
theorem dksX0_reason_0 : cX0_reason.data.toList.drop 0 = dktX0_reason_0 := by decide +kernel
theorem dksX0_reason_1 : cX0_reason.data.toList.drop 24 = dktX0_reason_1 := dk_seg dksX0_reason_0 24 rfl rfl
theorem dX0_reason_0 : decode cX0_reason 0 = .ok (.aload_n 0, 1) := dk_42 (dk_at dksX0_reason_0 0 rfl rfl)
theorem dX0_reason_1 : decode cX0_reason 1 = .ok (.getfield 59, 3) := dk_180 0 59 (dk_at dksX0_reason_0 1 rfl rfl)
theorem dX0_reason_4 : decode cX0_reason 4 = .ok (.ifCond .ne 9, 3) := dk_154 0 9 (dk_at dksX0_reason_0 4 rfl rfl)
theorem dX0_reason_7 : decode cX0_reason 7 = .ok (.sipush (-1015), 3) := dk_17 252 9 (dk_at dksX0_reason_0 7 rfl rfl)
theorem dX0_reason_10 : decode cX0_reason 10 = .ok (.goto 18, 3) := dk_167 0 18 (dk_at dksX0_reason_0 10 rfl rfl)
theorem dX0_reason_13 : decode cX0_reason 13 = .ok (.iload_n 1, 1) := dk_27 (dk_at dksX0_reason_0 13 rfl rfl)
theorem dX0_reason_14 : decode cX0_reason 14 = .ok (.ifCond .eq 10, 3) := dk_153 0 10 (dk_at dksX0_reason_0 14 rfl rfl)
theorem dX0_reason_17 : decode cX0_reason 17 = .ok (.aload_n 0, 1) := dk_42 (dk_at dksX0_reason_0 17 rfl rfl)
theorem dX0_reason_18 : decode cX0_reason 18 = .ok (.getfield 63, 3) := dk_180 0 63 (dk_at dksX0_reason_0 18 rfl rfl)
theorem dX0_reason_21 : decode cX0_reason 21 = .ok (.goto 7, 3) := dk_167 0 7 (dk_at dksX0_reason_0 21 rfl rfl)
theorem dX0_reason_24 : decode cX0_reason 24 = .ok (.aload_n 0, 1) := dk_42 (dk_at dksX0_reason_1 0 rfl rfl)
theorem dX0_reason_25 : decode cX0_reason 25 = .ok (.getfield 59, 3) := dk_180 0 59 (dk_at dksX0_reason_1 1 rfl rfl)
theorem dX0_reason_28 : decode cX0_reason 28 = .ok (.ireturn, 1) := dk_172 (dk_at dksX0_reason_1 4 rfl rfl)
def dkwX0_account_8 : List UInt8 := [180, 0, 32, 182, 0, 198, 167, 0, 16, 42, 180, 0, 25, 182, 0, 68, 167, 0, 6, 17, 252, 12, 172]
abbrev dktX0_account_8 : List UInt8 := dkwX0_account_8 ++ []
def dkwX0_account_7 : List UInt8 := [180, 0, 18, 182, 1, 19, 167, 0, 39, 42, 180, 0, 18, 180, 0, 171, 182, 0, 68, 167, 0, 26, 42]
abbrev dktX0_account_7 : List UInt8 := dkwX0_account_7 ++ dktX0_account_8
def dkwX0_account_6 : List UInt8 := [180, 0, 11, 5, 50, 182, 1, 12, 167, 0, 59, 42, 180, 0, 18, 180, 1, 16, 167, 0, 49, 42]
abbrev dktX0_account_6 : List UInt8 := dkwX0_account_6 ++ dktX0_account_7
def dkwX0_account_5 : List UInt8 := [167, 0, 91, 42, 180, 0, 18, 42, 180, 0, 11, 3, 50, 182, 1, 12, 167, 0, 75, 42, 180, 0, 18, 42]
abbrev dktX0_account_5 : List UInt8 := dkwX0_account_5 ++ dktX0_account_6
def dkwX0_account_4 : List UInt8 := [180, 0, 18, 180, 1, 9, 167, 0, 107, 42, 180, 0, 18, 42, 180, 0, 11, 4, 50, 182, 1, 12]
abbrev dktX0_account_4 : List UInt8 := dkwX0_account_4 ++ dktX0_account_5
def dkwX0_account_3 : List UInt8 := [167, 0, 137, 42, 180, 0, 18, 180, 1, 3, 167, 0, 127, 42, 180, 0, 18, 180, 1, 6, 167, 0, 117, 42]
abbrev dktX0_account_3 : List UInt8 := dkwX0_account_3 ++ dktX0_account_4
def dkwX0_account_2 : List UInt8 := [42, 180, 0, 18, 180, 0, 153, 182, 0, 251, 167, 0, 150, 42, 180, 0, 18, 180, 0, 252, 182, 1, 0]
abbrev dktX0_account_2 : List UInt8 := dkwX0_account_2 ++ dktX0_account_3
def dkwX0_account_1 : List UInt8 := [170, 0, 0, 0, 0, 0, 224, 0, 0, 0, 0, 0, 0, 0, 12, 0, 0, 0, 67, 0, 0, 0, 80, 0, 0, 0, 93, 0, 0, 0, 103, 0, 0, 0, 113, 0, 0, 0, 123, 0, 0, 0, 139, 0, 0, 0, 155, 0, 0, 0, 171, 0, 0, 0, 181, 0, 0, 0, 191, 0, 0, 0, 204, 0, 0, 0, 214]
abbrev dktX0_account_1 : List UInt8 := dkwX0_account_1 ++ dktX0_account_2
def dkwX0_account_0 : List UInt8 := [27]
abbrev dktX0_account_0 : List UInt8 := dkwX0_account_0 ++ dktX0_account_1
theorem dksX0_account_0 : cX0_account.data.toList.drop 0 = dktX0_account_0 := by decide +kernel
theorem dksX0_account_1 : cX0_account.data.toList.drop 1 = dktX0_account_1 := dk_seg dksX0_account_0 1 rfl rfl
theorem dksX0_account_2 : cX0_account.data.toList.drop 68 = dktX0_account_2 := dk_seg dksX0_account_1 67 rfl rfl
theorem dksX0_account_3 : cX0_account.data.toList.drop 91 = dktX0_account_3 := dk_seg dksX0_account_2 23 rfl rfl
theorem dksX0_account_4 : cX0_account.data.toList.drop 115 = dktX0_account_4 := dk_seg dksX0_account_3 24 rfl rfl
theorem dksX0_account_5 : cX0_account.data.toList.drop 137 = dktX0_account_5 := dk_seg dksX0_account_4 22 rfl rfl
theorem dksX0_account_6 : cX0_account.data.toList.drop 161 = dktX0_account_6 := dk_seg dksX0_account_5 24 rfl rfl
theorem dksX0_account_7 : cX0_account.data.toList.drop 183 = dktX0_account_7 := dk_seg dksX0_account_6 22 rfl rfl
theorem dksX0_account_8 : cX0_account.data.toList.drop 206 = dktX0_account_8 := dk_seg dksX0_account_7 23 rfl rfl
theorem dX0_account_0 : decode cX0_account 0 = .ok (.iload_n 1, 1) := dk_27 (dk_at dksX0_account_0 0 rfl rfl)
theorem dX0_account_1 : decode cX0_account 1 = .ok (.tableswitch 224 0 12 #[67, 80, 93, 103, 113, 123, 139, 155, 171, 181, 191, 204, 214], 67) := by decide +kernel
theorem dX0_account_68 : decode cX0_account 68 = .ok (.aload_n 0, 1) := dk_42 (dk_at dksX0_account_2 0 rfl rfl)
theorem dX0_account_69 : decode cX0_account 69 = .ok (.getfield 18, 3) := dk_180 0 18 (dk_at dksX0_account_2 1 rfl rfl)
theorem dX0_account_72 : decode cX0_account 72 = .ok (.getfield 153, 3) := dk_180 0 153 (dk_at dksX0_account_2 4 rfl rfl)
theorem dX0_account_75 : decode cX0_account 75 = .ok (.invokevirtual 251, 3) := dk_182 0 251 (dk_at dksX0_account_2 7 rfl rfl)
theorem dX0_account_78 : decode cX0_account 78 = .ok (.goto 150, 3) := dk_167 0 150 (dk_at dksX0_account_2 10 rfl rfl)
theorem dX0_account_81 : decode cX0_account 81 = .ok (.aload_n 0, 1) := dk_42 (dk_at dksX0_account_2 13 rfl rfl)
theorem dX0_account_82 : decode cX0_account 82 = .ok (.getfield 18, 3) := dk_180 0 18 (dk_at dksX0_account_2 14 rfl rfl)
theorem dX0_account_85 : decode cX0_account 85 = .ok (.getfield 252, 3) := dk_180 0 252 (dk_at dksX0_account_2 17 rfl rfl)
theorem dX0_account_88 : decode cX0_account 88 = .ok (.invokevirtual 256, 3) := dk_182 1 0 (dk_at dksX0_account_2 20 rfl rfl)
theorem dX0_account_91 : decode cX0_account 91 = .ok (.goto 137, 3) := dk_167 0 137 (dk_at dksX0_account_3 0 rfl rfl)
theorem dX0_account_94 : decode cX0_account 94 = .ok (.aload_n 0, 1) := dk_42 (dk_at dksX0_account_3 3 rfl rfl)
theorem dX0_account_95 : decode cX0_account 95 = .ok (.getfield 18, 3) := dk_180 0 18 (dk_at dksX0_account_3 4 rfl rfl)
theorem dX0_account_98 : decode cX0_account 98 = .ok (.getfield 259, 3) := dk_180 1 3 (dk_at dksX0_account_3 7 rfl rfl)
theorem dX0_account_101 : decode cX0_account 101 = .ok (.goto 127, 3) := dk_167 0 127 (dk_at dksX0_account_3 10 rfl rfl)
theorem dX0_account_104 : decode cX0_account 104 = .ok (.aload_n 0, 1) := dk_42 (dk_at dksX0_account_3 13 rfl rfl)
theorem dX0_account_105 : decode cX0_account 105 = .ok (.getfield 18, 3) := dk_180 0 18 (dk_at dksX0_account_3 14 rfl rfl)
theorem dX0_account_108 : decode cX0_account 108 = .ok (.getfield 262, 3) := dk_180 1 6 (dk_at dksX0_account_3 17 rfl rfl)
theorem dX0_account_111 : decode cX0_account 111 = .ok (.goto 117, 3) := dk_167 0 117 (dk_at dksX0_account_3 20 rfl rfl)
theorem dX0_account_114 : decode cX0_account 114 = .ok (.aload_n 0, 1) := dk_42 (dk_at dksX0_account_3 23 rfl rfl)
theorem dX0_account_115 : decode cX0_account 115 = .ok (.getfield 18, 3) := dk_180 0 18 (dk_at dksX0_account_4 0 rfl rfl)
theorem dX0_account_118 : decode cX0_account 118 = .ok (.getfield 265, 3) := dk_180 1 9 (dk_at dksX0_account_4 3 rfl rfl)
theorem dX0_account_121 : decode cX0_account 121 = .ok (.goto 107, 3) := dk_167 0 107 (dk_at dksX0_account_4 6 rfl rfl)
theorem dX0_account_124 : decode cX0_account 124 = .ok (.aload_n 0, 1) := dk_42 (dk_at dksX0_account_4 9 rfl rfl)
theorem dX0_account_125 : decode cX0_account 125 = .ok (.getfield 18, 3) := dk_180 0 18 (dk_at dksX0_account_4 10 rfl rfl)
theorem dX0_account_128 : decode cX0_account 128 = .ok (.aload_n 0, 1) := dk_42 (dk_at dksX0_account_4 13 rfl rfl)
theorem dX0_account_129 : decode cX0_account 129 = .ok (.getfield 11, 3) := dk_180 0 11 (dk_at dksX0_account_4 14 rfl rfl)
theorem dX0_account_132 : decode cX0_account 132 = .ok (.iconst 1, 1) := dk_4 (dk_at dksX0_account_4 17 rfl rfl)
theorem dX0_account_133 : decode cX0_account 133 = .ok (.aaload, 1) := dk_50 (dk_at dksX0_account_4 18 rfl rfl)
theorem dX0_account_134 : decode cX0_account 134 = .ok (.invokevirtual 268, 3) := dk_182 1 12 (dk_at dksX0_account_4 19 rfl rfl)
theorem dX0_account_137 : decode cX0_account 137 = .ok (.goto 91, 3) := dk_167 0 91 (dk_at dksX0_account_5 0 rfl rfl)
theorem dX0_account_140 : decode cX0_account 140 = .ok (.aload_n 0, 1) := dk_42 (dk_at dksX0_account_5 3 rfl rfl)
theorem dX0_account_141 : decode cX0_account 141 = .ok (.getfield 18, 3) := dk_180 0 18 (dk_at dksX0_account_5 4 rfl rfl)
theorem dX0_account_144 : decode cX0_account 144 = .ok (.aload_n 0, 1) := dk_42 (dk_at dksX0_account_5 7 rfl rfl)
theorem dX0_account_145 : decode cX0_account 145 = .ok (.getfield 11, 3) := dk_180 0 11 (dk_at dksX0_account_5 8 rfl rfl)
theorem dX0_account_148 : decode cX0_account 148 = .ok (.iconst 0, 1) := dk_3 (dk_at dksX0_account_5 11 rfl rfl)
theorem dX0_account_149 : decode cX0_account 149 = .ok (.aaload, 1) := dk_50 (dk_at dksX0_account_5 12 rfl rfl)
theorem dX0_account_150 : decode cX0_account 150 = .ok (.invokevirtual 268, 3) := dk_182 1 12 (dk_at dksX0_account_5 13 rfl rfl)
theorem dX0_account_153 : decode cX0_account 153 = .ok (.goto 75, 3) := dk_167 0 75 (dk_at dksX0_account_5 16 rfl rfl)
theorem dX0_account_156 : decode cX0_account 156 = .ok (.aload_n 0, 1) := dk_42 (dk_at dksX0_account_5 19 rfl rfl)
theorem dX0_account_157 : decode cX0_account 157 = .ok (.getfield 18, 3) := dk_180 0 18 (dk_at dksX0_account_5 20 rfl rfl)
theorem dX0_account_160 : decode cX0_account 160 = .ok (.aload_n 0, 1) := dk_42 (dk_at dksX0_account_5 23 rfl rfl)
theorem dX0_account_161 : decode cX0_account 161 = .ok (.getfield 11, 3) := dk_180 0 11 (dk_at dksX0_account_6 0 rfl rfl)
theorem dX0_account_164 : decode cX0_account 164 = .ok (.iconst 2, 1) := dk_5 (dk_at dksX0_account_6 3 rfl rfl)
theorem dX0_account_165 : decode cX0_account 165 = .ok (.aaload, 1) := dk_50 (dk_at dksX0_account_6 4 rfl rfl)
theorem dX0_account_166 : decode cX0_account 166 = .ok (.invokevirtual 268, 3) := dk_182 1 12 (dk_at dksX0_account_6 5 rfl rfl)
theorem dX0_account_169 : decode cX0_account 169 = .ok (.goto 59, 3) := dk_167 0 59 (dk_at dksX0_account_6 8 rfl rfl)
theorem dX0_account_172 : decode cX0_account 172 = .ok (.aload_n 0, 1) := dk_42 (dk_at dksX0_account_6 11 rfl rfl)
theorem dX0_account_173 : decode cX0_account 173 = .ok (.getfield 18, 3) := dk_180 0 18 (dk_at dksX0_account_6 12 rfl rfl)
theorem dX0_account_176 : decode cX0_account 176 = .ok (.getfield 272, 3) := dk_180 1 16 (dk_at dksX0_account_6 15 rfl rfl)
theorem dX0_account_179 : decode cX0_account 179 = .ok (.goto 49, 3) := dk_167 0 49 (dk_at dksX0_account_6 18 rfl rfl)
theorem dX0_account_182 : decode cX0_account 182 = .ok (.aload_n 0, 1) := dk_42 (dk_at dksX0_account_6 21 rfl rfl)
theorem dX0_account_183 : decode cX0_account 183 = .ok (.getfield 18, 3) := dk_180 0 18 (dk_at dksX0_account_7 0 rfl rfl)
theorem dX0_account_186 : decode cX0_account 186 = .ok (.invokevirtual 275, 3) := dk_182 1 19 (dk_at dksX0_account_7 3 rfl rfl)
theorem dX0_account_189 : decode cX0_account 189 = .ok (.goto 39, 3) := dk_167 0 39 (dk_at dksX0_account_7 6 rfl rfl)
theorem dX0_account_192 : decode cX0_account 192 = .ok (.aload_n 0, 1) := dk_42 (dk_at dksX0_account_7 9 rfl rfl)
theorem dX0_account_193 : decode cX0_account 193 = .ok (.getfield 18, 3) := dk_180 0 18 (dk_at dksX0_account_7 10 rfl rfl)
theorem dX0_account_196 : decode cX0_account 196 = .ok (.getfield 171, 3) := dk_180 0 171 (dk_at dksX0_account_7 13 rfl rfl)
theorem dX0_account_199 : decode cX0_account 199 = .ok (.invokevirtual 68, 3) := dk_182 0 68 (dk_at dksX0_account_7 16 rfl rfl)
theorem dX0_account_202 : decode cX0_account 202 = .ok (.goto 26, 3) := dk_167 0 26 (dk_at dksX0_account_7 19 rfl rfl)
theorem dX0_account_205 : decode cX0_account 205 = .ok (.aload_n 0, 1) := dk_42 (dk_at dksX0_account_7 22 rfl rfl)
theorem dX0_account_206 : decode cX0_account 206 = .ok (.getfield 32, 3) := dk_180 0 32 (dk_at dksX0_account_8 0 rfl rfl)
theorem dX0_account_209 : decode cX0_account 209 = .ok (.invokevirtual 198, 3) := dk_182 0 198 (dk_at dksX0_account_8 3 rfl rfl)
theorem dX0_account_212 : decode cX0_account 212 = .ok (.goto 16, 3) := dk_167 0 16 (dk_at dksX0_account_8 6 rfl rfl)
theorem dX0_account_215 : decode cX0_account 215 = .ok (.aload_n 0, 1) := dk_42 (dk_at dksX0_account_8 9 rfl rfl)
theorem dX0_account_216 : decode cX0_account 216 = .ok (.getfield 25, 3) := dk_180 0 25 (dk_at dksX0_account_8 10 rfl rfl)
theorem dX0_account_219 : decode cX0_account 219 = .ok (.invokevirtual 68, 3) := dk_182 0 68 (dk_at dksX0_account_8 13 rfl rfl)
theorem dX0_account_222 : decode cX0_account 222 = .ok (.goto 6, 3) := dk_167 0 6 (dk_at dksX0_account_8 16 rfl rfl)
theorem dX0_account_225 : decode cX0_account 225 = .ok (.sipush (-1012), 3) := dk_17 252 12 (dk_at dksX0_account_8 19 rfl rfl)
theorem dX0_account_228 : decode cX0_account 228 = .ok (.ireturn, 1) := dk_172 (dk_at dksX0_account_8 22 rfl rfl)
def dkwX0_isBalanced_0 : List UInt8 := [42, 180, 0, 18, 42, 180, 0, 11, 182, 1, 22, 153, 0, 7, 4, 167, 0, 4, 3, 172]
abbrev dktX0_isBalanced_0 : List UInt8 := dkwX0_isBalanced_0 ++ []
theorem dksX0_isBalanced_0 : cX0_isBalanced.data.toList.drop 0 = dktX0_isBalanced_0 := by decide +kernel
theorem dX0_isBalanced_0 : decode cX0_isBalanced 0 = .ok (.aload_n 0, 1) := dk_42 (dk_at dksX0_isBalanced_0 0 rfl rfl)
theorem dX0_isBalanced_1 : decode cX0_isBalanced 1 = .ok (.getfield 18, 3) := dk_180 0 18 (dk_at dksX0_isBalanced_0 1 rfl rfl)
theorem dX0_isBalanced_4 : decode cX0_isBalanced 4 = .ok (.aload_n 0, 1) := dk_42 (dk_at dksX0_isBalanced_0 4 rfl rfl)
theorem dX0_isBalanced_5 : decode cX0_isBalanced 5 = .ok (.getfield 11, 3) := dk_180 0 11 (dk_at dksX0_isBalanced_0 5 rfl rfl)
theorem dX0_isBalanced_8 : decode cX0_isBalanced 8 = .ok (.invokevirtual 278, 3) := dk_182 1 22 (dk_at dksX0_isBalanced_0 8 rfl rfl)
theorem dX0_isBalanced_11 : decode cX0_isBalanced 11 = .ok (.ifCond .eq 7, 3) := dk_153 0 7 (dk_at dksX0_isBalanced_0 11 rfl rfl)
theorem dX0_isBalanced_14 : decode cX0_isBalanced 14 = .ok (.iconst 1, 1) := dk_4 (dk_at dksX0_isBalanced_0 14 rfl rfl)
theorem dX0_isBalanced_15 : decode cX0_isBalanced 15 = .ok (.goto 4, 3) := dk_167 0 4 (dk_at dksX0_isBalanced_0 15 rfl rfl)
theorem dX0_isBalanced_18 : decode cX0_isBalanced 18 = .ok (.iconst 0, 1) := dk_3 (dk_at dksX0_isBalanced_0 18 rfl rfl)
theorem dX0_isBalanced_19 : decode cX0_isBalanced 19 = .ok (.ireturn, 1) := dk_172 (dk_at dksX0_isBalanced_0 19 rfl rfl)
def dkwX0_meanRust_1 : List UInt8 := [182, 1, 19, 135, 27, 135, 111, 175]
abbrev dktX0_meanRust_1 : List UInt8 := dkwX0_meanRust_1 ++ []
def dkwX0_meanRust_0 : List UInt8 := [42, 180, 0, 18, 180, 0, 153, 182, 0, 251, 60, 27, 154, 0, 7, 14, 167, 0, 14, 42, 180, 0, 18]
abbrev dktX0_meanRust_0 : List UInt8 := dkwX0_meanRust_0 ++ dktX0_meanRust_1
theorem dksX0_meanRust_0 : cX0_meanRust.data.toList.drop 0 = dktX0_meanRust_0 := by decide +kernel
theorem dksX0_meanRust_1 : cX0_meanRust.data.toList.drop 23 = dktX0_meanRust_1 := dk_seg dksX0_meanRust_0 23 rfl rfl
theorem dX0_meanRust_0 : decode cX0_meanRust 0 = .ok (.aload_n 0, 1) := dk_42 (dk_at dksX0_meanRust_0 0 rfl rfl)
theorem dX0_meanRust_1 : decode cX0_meanRust 1 = .ok (.getfield 18, 3) := dk_180 0 18 (dk_at dksX0_meanRust_0 1 rfl rfl)
theorem dX0_meanRust_4 : decode cX0_meanRust 4 = .ok (.getfield 153, 3) := dk_180 0 153 (dk_at dksX0_meanRust_0 4 rfl rfl)
theorem dX0_meanRust_7 : decode cX0_meanRust 7 = .ok (.invokevirtual 251, 3) := dk_182 0 251 (dk_at dksX0_meanRust_0 7 rfl rfl)
theorem dX0_meanRust_10 : decode cX0_meanRust 10 = .ok (.istore_n 1, 1) := dk_60 (dk_at dksX0_meanRust_0 10 rfl rfl)
theorem dX0_meanRust_11 : decode cX0_meanRust 11 = .ok (.iload_n 1, 1) := dk_27 (dk_at dksX0_meanRust_0 11 rfl rfl)
theorem dX0_meanRust_12 : decode cX0_meanRust 12 = .ok (.ifCond .ne 7, 3) := dk_154 0 7 (dk_at dksX0_meanRust_0 12 rfl rfl)
theorem dX0_meanRust_15 : decode cX0_meanRust 15 = .ok (.dconst 0, 1) := dk_14 (dk_at dksX0_meanRust_0 15 rfl rfl)
theorem dX0_meanRust_16 : decode cX0_meanRust 16 = .ok (.goto 14, 3) := dk_167 0 14 (dk_at dksX0_meanRust_0 16 rfl rfl)
theorem dX0_meanRust_19 : decode cX0_meanRust 19 = .ok (.aload_n 0, 1) := dk_42 (dk_at dksX0_meanRust_0 19 rfl rfl)
theorem dX0_meanRust_20 : decode cX0_meanRust 20 = .ok (.getfield 18, 3) := dk_180 0 18 (dk_at dksX0_meanRust_0 20 rfl rfl)
theorem dX0_meanRust_23 : decode cX0_meanRust 23 = .ok (.invokevirtual 275, 3) := dk_182 1 19 (dk_at dksX0_meanRust_1 0 rfl rfl)
theorem dX0_meanRust_26 : decode cX0_meanRust 26 = .ok (.i2d, 1) := dk_135 (dk_at dksX0_meanRust_1 3 rfl rfl)
theorem dX0_meanRust_27 : decode cX0_meanRust 27 = .ok (.iload_n 1, 1) := dk_27 (dk_at dksX0_meanRust_1 4 rfl rfl)
theorem dX0_meanRust_28 : decode cX0_meanRust 28 = .ok (.i2d, 1) := dk_135 (dk_at dksX0_meanRust_1 5 rfl rfl)
theorem dX0_meanRust_29 : decode cX0_meanRust 29 = .ok (.ddiv, 1) := dk_111 (dk_at dksX0_meanRust_1 6 rfl rfl)
theorem dX0_meanRust_30 : decode cX0_meanRust 30 = .ok (.dreturn, 1) := dk_175 (dk_at dksX0_meanRust_1 7 rfl rfl)
def dkwX0_answerShare_2 : List UInt8 := [11, 167, 0, 8, 27, 134, 28, 134, 110, 174]
abbrev dktX0_answerShare_2 : List UInt8 := dkwX0_answerShare_2 ++ []
def dkwX0_answerShare_1 : List UInt8 := [50, 182, 1, 12, 96, 42, 180, 0, 18, 42, 180, 0, 11, 5, 50, 182, 1, 12, 96, 61, 28, 154, 0, 7]
abbrev dktX0_answerShare_1 : List UInt8 := dkwX0_answerShare_1 ++ dktX0_answerShare_2
def dkwX0_answerShare_0 : List UInt8 := [42, 180, 0, 18, 42, 180, 0, 11, 4, 50, 182, 1, 12, 60, 27, 42, 180, 0, 18, 42, 180, 0, 11, 3]
abbrev dktX0_answerShare_0 : List UInt8 := dkwX0_answerShare_0 ++ dktX0_answerShare_1
theorem dksX0_answerShare_0 : cX0_answerShare.data.toList.drop 0 = dktX0_answerShare_0 := by decide +kernel
theorem dksX0_answerShare_1 : cX0_answerShare.data.toList.drop 24 = dktX0_answerShare_1 := dk_seg dksX0_answerShare_0 24 rfl rfl
theorem dksX0_answerShare_2 : cX0_answerShare.data.toList.drop 48 = dktX0_answerShare_2 := dk_seg dksX0_answerShare_1 24 rfl rfl
theorem dX0_answerShare_0 : decode cX0_answerShare 0 = .ok (.aload_n 0, 1) := dk_42 (dk_at dksX0_answerShare_0 0 rfl rfl)
theorem dX0_answerShare_1 : decode cX0_answerShare 1 = .ok (.getfield 18, 3) := dk_180 0 18 (dk_at dksX0_answerShare_0 1 rfl rfl)
theorem dX0_answerShare_4 : decode cX0_answerShare 4 = .ok (.aload_n 0, 1) := dk_42 (dk_at dksX0_answerShare_0 4 rfl rfl)
theorem dX0_answerShare_5 : decode cX0_answerShare 5 = .ok (.getfield 11, 3) := dk_180 0 11 (dk_at dksX0_answerShare_0 5 rfl rfl)
theorem dX0_answerShare_8 : decode cX0_answerShare 8 = .ok (.iconst 1, 1) := dk_4 (dk_at dksX0_answerShare_0 8 rfl rfl)
theorem dX0_answerShare_9 : decode cX0_answerShare 9 = .ok (.aaload, 1) := dk_50 (dk_at dksX0_answerShare_0 9 rfl rfl)
theorem dX0_answerShare_10 : decode cX0_answerShare 10 = .ok (.invokevirtual 268, 3) := dk_182 1 12 (dk_at dksX0_answerShare_0 10 rfl rfl)
theorem dX0_answerShare_13 : decode cX0_answerShare 13 = .ok (.istore_n 1, 1) := dk_60 (dk_at dksX0_answerShare_0 13 rfl rfl)
theorem dX0_answerShare_14 : decode cX0_answerShare 14 = .ok (.iload_n 1, 1) := dk_27 (dk_at dksX0_answerShare_0 14 rfl rfl)
theorem dX0_answerShare_15 : decode cX0_answerShare 15 = .ok (.aload_n 0, 1) := dk_42 (dk_at dksX0_answerShare_0 15 rfl rfl)
theorem dX0_answerShare_16 : decode cX0_answerShare 16 = .ok (.getfield 18, 3) := dk_180 0 18 (dk_at dksX0_answerShare_0 16 rfl rfl)
theorem dX0_answerShare_19 : decode cX0_answerShare 19 = .ok (.aload_n 0, 1) := dk_42 (dk_at dksX0_answerShare_0 19 rfl rfl)
theorem dX0_answerShare_20 : decode cX0_answerShare 20 = .ok (.getfield 11, 3) := dk_180 0 11 (dk_at dksX0_answerShare_0 20 rfl rfl)
theorem dX0_answerShare_23 : decode cX0_answerShare 23 = .ok (.iconst 0, 1) := dk_3 (dk_at dksX0_answerShare_0 23 rfl rfl)
theorem dX0_answerShare_24 : decode cX0_answerShare 24 = .ok (.aaload, 1) := dk_50 (dk_at dksX0_answerShare_1 0 rfl rfl)
theorem dX0_answerShare_25 : decode cX0_answerShare 25 = .ok (.invokevirtual 268, 3) := dk_182 1 12 (dk_at dksX0_answerShare_1 1 rfl rfl)
theorem dX0_answerShare_28 : decode cX0_answerShare 28 = .ok (.iadd, 1) := dk_96 (dk_at dksX0_answerShare_1 4 rfl rfl)
theorem dX0_answerShare_29 : decode cX0_answerShare 29 = .ok (.aload_n 0, 1) := dk_42 (dk_at dksX0_answerShare_1 5 rfl rfl)
theorem dX0_answerShare_30 : decode cX0_answerShare 30 = .ok (.getfield 18, 3) := dk_180 0 18 (dk_at dksX0_answerShare_1 6 rfl rfl)
theorem dX0_answerShare_33 : decode cX0_answerShare 33 = .ok (.aload_n 0, 1) := dk_42 (dk_at dksX0_answerShare_1 9 rfl rfl)
theorem dX0_answerShare_34 : decode cX0_answerShare 34 = .ok (.getfield 11, 3) := dk_180 0 11 (dk_at dksX0_answerShare_1 10 rfl rfl)
theorem dX0_answerShare_37 : decode cX0_answerShare 37 = .ok (.iconst 2, 1) := dk_5 (dk_at dksX0_answerShare_1 13 rfl rfl)
theorem dX0_answerShare_38 : decode cX0_answerShare 38 = .ok (.aaload, 1) := dk_50 (dk_at dksX0_answerShare_1 14 rfl rfl)
theorem dX0_answerShare_39 : decode cX0_answerShare 39 = .ok (.invokevirtual 268, 3) := dk_182 1 12 (dk_at dksX0_answerShare_1 15 rfl rfl)
theorem dX0_answerShare_42 : decode cX0_answerShare 42 = .ok (.iadd, 1) := dk_96 (dk_at dksX0_answerShare_1 18 rfl rfl)
theorem dX0_answerShare_43 : decode cX0_answerShare 43 = .ok (.istore_n 2, 1) := dk_61 (dk_at dksX0_answerShare_1 19 rfl rfl)
theorem dX0_answerShare_44 : decode cX0_answerShare 44 = .ok (.iload_n 2, 1) := dk_28 (dk_at dksX0_answerShare_1 20 rfl rfl)
theorem dX0_answerShare_45 : decode cX0_answerShare 45 = .ok (.ifCond .ne 7, 3) := dk_154 0 7 (dk_at dksX0_answerShare_1 21 rfl rfl)
theorem dX0_answerShare_48 : decode cX0_answerShare 48 = .ok (.fconst 0, 1) := dk_11 (dk_at dksX0_answerShare_2 0 rfl rfl)
theorem dX0_answerShare_49 : decode cX0_answerShare 49 = .ok (.goto 8, 3) := dk_167 0 8 (dk_at dksX0_answerShare_2 1 rfl rfl)
theorem dX0_answerShare_52 : decode cX0_answerShare 52 = .ok (.iload_n 1, 1) := dk_27 (dk_at dksX0_answerShare_2 4 rfl rfl)
theorem dX0_answerShare_53 : decode cX0_answerShare 53 = .ok (.i2f, 1) := dk_134 (dk_at dksX0_answerShare_2 5 rfl rfl)
theorem dX0_answerShare_54 : decode cX0_answerShare 54 = .ok (.iload_n 2, 1) := dk_28 (dk_at dksX0_answerShare_2 6 rfl rfl)
theorem dX0_answerShare_55 : decode cX0_answerShare 55 = .ok (.i2f, 1) := dk_134 (dk_at dksX0_answerShare_2 7 rfl rfl)
theorem dX0_answerShare_56 : decode cX0_answerShare 56 = .ok (.fdiv, 1) := dk_110 (dk_at dksX0_answerShare_2 8 rfl rfl)
theorem dX0_answerShare_57 : decode cX0_answerShare 57 = .ok (.freturn, 1) := dk_174 (dk_at dksX0_answerShare_2 9 rfl rfl)
def dkwX0_undo_1 : List UInt8 := [192, 0, 15, 181, 0, 18, 42, 180, 0, 25, 182, 0, 68, 172]
abbrev dktX0_undo_1 : List UInt8 := dkwX0_undo_1 ++ []
def dkwX0_undo_0 : List UInt8 := [42, 180, 0, 25, 182, 1, 26, 153, 0, 7, 17, 252, 9, 172, 42, 42, 180, 0, 25, 182, 1, 27]
abbrev dktX0_undo_0 : List UInt8 := dkwX0_undo_0 ++ dktX0_undo_1
theorem dksX0_undo_0 : cX0_undo.data.toList.drop 0 = dktX0_undo_0 := by decide +kernel
theorem dksX0_undo_1 : cX0_undo.data.toList.drop 22 = dktX0_undo_1 := dk_seg dksX0_undo_0 22 rfl rfl
theorem dX0_undo_0 : decode cX0_undo 0 = .ok (.aload_n 0, 1) := dk_42 (dk_at dksX0_undo_0 0 rfl rfl)
theorem dX0_undo_1 : decode cX0_undo 1 = .ok (.getfield 25, 3) := dk_180 0 25 (dk_at dksX0_undo_0 1 rfl rfl)
theorem dX0_undo_4 : decode cX0_undo 4 = .ok (.invokevirtual 282, 3) := dk_182 1 26 (dk_at dksX0_undo_0 4 rfl rfl)
theorem dX0_undo_7 : decode cX0_undo 7 = .ok (.ifCond .eq 7, 3) := dk_153 0 7 (dk_at dksX0_undo_0 7 rfl rfl)
theorem dX0_undo_10 : decode cX0_undo 10 = .ok (.sipush (-1015), 3) := dk_17 252 9 (dk_at dksX0_undo_0 10 rfl rfl)
theorem dX0_undo_13 : decode cX0_undo 13 = .ok (.ireturn, 1) := dk_172 (dk_at dksX0_undo_0 13 rfl rfl)
theorem dX0_undo_14 : decode cX0_undo 14 = .ok (.aload_n 0, 1) := dk_42 (dk_at dksX0_undo_0 14 rfl rfl)
theorem dX0_undo_15 : decode cX0_undo 15 = .ok (.aload_n 0, 1) := dk_42 (dk_at dksX0_undo_0 15 rfl rfl)
theorem dX0_undo_16 : decode cX0_undo 16 = .ok (.getfield 25, 3) := dk_180 0 25 (dk_at dksX0_undo_0 16 rfl rfl)
theorem dX0_undo_19 : decode cX0_undo 19 = .ok (.invokevirtual 283, 3) := dk_182 1 27 (dk_at dksX0_undo_0 19 rfl rfl)
theorem dX0_undo_22 : decode cX0_undo 22 = .ok (.checkcast 15, 3) := dk_192 0 15 (dk_at dksX0_undo_1 0 rfl rfl)
theorem dX0_undo_25 : decode cX0_undo 25 = .ok (.putfield 18, 3) := dk_181 0 18 (dk_at dksX0_undo_1 3 rfl rfl)
theorem dX0_undo_28 : decode cX0_undo 28 = .ok (.aload_n 0, 1) := dk_42 (dk_at dksX0_undo_1 6 rfl rfl)
theorem dX0_undo_29 : decode cX0_undo 29 = .ok (.getfield 25, 3) := dk_180 0 25 (dk_at dksX0_undo_1 7 rfl rfl)
theorem dX0_undo_32 : decode cX0_undo 32 = .ok (.invokevirtual 68, 3) := dk_182 0 68 (dk_at dksX0_undo_1 10 rfl rfl)
theorem dX0_undo_35 : decode cX0_undo 35 = .ok (.ireturn, 1) := dk_172 (dk_at dksX0_undo_1 13 rfl rfl)
def dkwX0_save_0 : List UInt8 := [42, 42, 180, 0, 18, 182, 0, 80, 181, 1, 30, 42, 180, 1, 30, 180, 0, 153, 182, 0, 251, 172]
abbrev dktX0_save_0 : List UInt8 := dkwX0_save_0 ++ []
theorem dksX0_save_0 : cX0_save.data.toList.drop 0 = dktX0_save_0 := by decide +kernel
theorem dX0_save_0 : decode cX0_save 0 = .ok (.aload_n 0, 1) := dk_42 (dk_at dksX0_save_0 0 rfl rfl)
theorem dX0_save_1 : decode cX0_save 1 = .ok (.aload_n 0, 1) := dk_42 (dk_at dksX0_save_0 1 rfl rfl)
theorem dX0_save_2 : decode cX0_save 2 = .ok (.getfield 18, 3) := dk_180 0 18 (dk_at dksX0_save_0 2 rfl rfl)
theorem dX0_save_5 : decode cX0_save 5 = .ok (.invokevirtual 80, 3) := dk_182 0 80 (dk_at dksX0_save_0 5 rfl rfl)
theorem dX0_save_8 : decode cX0_save 8 = .ok (.putfield 286, 3) := dk_181 1 30 (dk_at dksX0_save_0 8 rfl rfl)
theorem dX0_save_11 : decode cX0_save 11 = .ok (.aload_n 0, 1) := dk_42 (dk_at dksX0_save_0 11 rfl rfl)
theorem dX0_save_12 : decode cX0_save 12 = .ok (.getfield 286, 3) := dk_180 1 30 (dk_at dksX0_save_0 12 rfl rfl)
theorem dX0_save_15 : decode cX0_save 15 = .ok (.getfield 153, 3) := dk_180 0 153 (dk_at dksX0_save_0 15 rfl rfl)
theorem dX0_save_18 : decode cX0_save 18 = .ok (.invokevirtual 251, 3) := dk_182 0 251 (dk_at dksX0_save_0 18 rfl rfl)
theorem dX0_save_21 : decode cX0_save 21 = .ok (.ireturn, 1) := dk_172 (dk_at dksX0_save_0 21 rfl rfl)
def dkwX0_restore_1 : List UInt8 := [180, 0, 25, 182, 1, 33, 42, 180, 0, 18, 180, 0, 153, 182, 0, 251, 172]
abbrev dktX0_restore_1 : List UInt8 := dkwX0_restore_1 ++ []
def dkwX0_restore_0 : List UInt8 := [42, 180, 1, 30, 199, 0, 7, 17, 252, 9, 172, 42, 42, 180, 1, 30, 182, 0, 80, 181, 0, 18, 42]
abbrev dktX0_restore_0 : List UInt8 := dkwX0_restore_0 ++ dktX0_restore_1
theorem dksX0_restore_0 : cX0_restore.data.toList.drop 0 = dktX0_restore_0 := by decide +kernel
theorem dksX0_restore_1 : cX0_restore.data.toList.drop 23 = dktX0_restore_1 := dk_seg dksX0_restore_0 23 rfl rfl
theorem dX0_restore_0 : decode cX0_restore 0 = .ok (.aload_n 0, 1) := dk_42 (dk_at dksX0_restore_0 0 rfl rfl)
theorem dX0_restore_1 : decode cX0_restore 1 = .ok (.getfield 286, 3) := dk_180 1 30 (dk_at dksX0_restore_0 1 rfl rfl)
theorem dX0_restore_4 : decode cX0_restore 4 = .ok (.ifnonnull 7, 3) := dk_199 0 7 (dk_at dksX0_restore_0 4 rfl rfl)
theorem dX0_restore_7 : decode cX0_restore 7 = .ok (.sipush (-1015), 3) := dk_17 252 9 (dk_at dksX0_restore_0 7 rfl rfl)
theorem dX0_restore_10 : decode cX0_restore 10 = .ok (.ireturn, 1) := dk_172 (dk_at dksX0_restore_0 10 rfl rfl)
theorem dX0_restore_11 : decode cX0_restore 11 = .ok (.aload_n 0, 1) := dk_42 (dk_at dksX0_restore_0 11 rfl rfl)
theorem dX0_restore_12 : decode cX0_restore 12 = .ok (.aload_n 0, 1) := dk_42 (dk_at dksX0_restore_0 12 rfl rfl)
theorem dX0_restore_13 : decode cX0_restore 13 = .ok (.getfield 286, 3) := dk_180 1 30 (dk_at dksX0_restore_0 13 rfl rfl)
theorem dX0_restore_16 : decode cX0_restore 16 = .ok (.invokevirtual 80, 3) := dk_182 0 80 (dk_at dksX0_restore_0 16 rfl rfl)
theorem dX0_restore_19 : decode cX0_restore 19 = .ok (.putfield 18, 3) := dk_181 0 18 (dk_at dksX0_restore_0 19 rfl rfl)
theorem dX0_restore_22 : decode cX0_restore 22 = .ok (.aload_n 0, 1) := dk_42 (dk_at dksX0_restore_0 22 rfl rfl)
theorem dX0_restore_23 : decode cX0_restore 23 = .ok (.getfield 25, 3) := dk_180 0 25 (dk_at dksX0_restore_1 0 rfl rfl)
theorem dX0_restore_26 : decode cX0_restore 26 = .ok (.invokevirtual 289, 3) := dk_182 1 33 (dk_at dksX0_restore_1 3 rfl rfl)
theorem dX0_restore_29 : decode cX0_restore 29 = .ok (.aload_n 0, 1) := dk_42 (dk_at dksX0_restore_1 6 rfl rfl)
theorem dX0_restore_30 : decode cX0_restore 30 = .ok (.getfield 18, 3) := dk_180 0 18 (dk_at dksX0_restore_1 7 rfl rfl)
theorem dX0_restore_33 : decode cX0_restore 33 = .ok (.getfield 153, 3) := dk_180 0 153 (dk_at dksX0_restore_1 10 rfl rfl)
theorem dX0_restore_36 : decode cX0_restore 36 = .ok (.invokevirtual 251, 3) := dk_182 0 251 (dk_at dksX0_restore_1 13 rfl rfl)
theorem dX0_restore_39 : decode cX0_restore 39 = .ok (.ireturn, 1) := dk_172 (dk_at dksX0_restore_1 16 rfl rfl)
def dkwX1_init_2 : List UInt8 := [42, 187, 0, 39, 89, 183, 0, 41, 181, 0, 42, 177]
abbrev dktX1_init_2 : List UInt8 := dkwX1_init_2 ++ []
def dkwX1_init_1 : List UInt8 := [187, 0, 22, 89, 183, 0, 24, 183, 0, 25, 181, 0, 28, 42, 187, 0, 32, 89, 183, 0, 34, 181, 0, 35]
abbrev dktX1_init_1 : List UInt8 := dkwX1_init_1 ++ dktX1_init_2
def dkwX1_init_0 : List UInt8 := [42, 183, 0, 3, 42, 187, 0, 9, 89, 16, 12, 183, 0, 11, 181, 0, 14, 42, 187, 0, 20, 89]
abbrev dktX1_init_0 : List UInt8 := dkwX1_init_0 ++ dktX1_init_1
theorem dksX1_init_0 : cX1_init.data.toList.drop 0 = dktX1_init_0 := by decide +kernel
theorem dksX1_init_1 : cX1_init.data.toList.drop 22 = dktX1_init_1 := dk_seg dksX1_init_0 22 rfl rfl
theorem dksX1_init_2 : cX1_init.data.toList.drop 46 = dktX1_init_2 := dk_seg dksX1_init_1 24 rfl rfl
theorem dX1_init_0 : decode cX1_init 0 = .ok (.aload_n 0, 1) := dk_42 (dk_at dksX1_init_0 0 rfl rfl)
theorem dX1_init_1 : decode cX1_init 1 = .ok (.invokespecial 3, 3) := dk_183 0 3 (dk_at dksX1_init_0 1 rfl rfl)
theorem dX1_init_4 : decode cX1_init 4 = .ok (.aload_n 0, 1) := dk_42 (dk_at dksX1_init_0 4 rfl rfl)
theorem dX1_init_5 : decode cX1_init 5 = .ok (.new 9, 3) := dk_187 0 9 (dk_at dksX1_init_0 5 rfl rfl)
theorem dX1_init_8 : decode cX1_init 8 = .ok (.dup, 1) := dk_89 (dk_at dksX1_init_0 8 rfl rfl)
theorem dX1_init_9 : decode cX1_init 9 = .ok (.bipush 12, 2) := dk_16 12 (dk_at dksX1_init_0 9 rfl rfl)
theorem dX1_init_11 : decode cX1_init 11 = .ok (.invokespecial 11, 3) := dk_183 0 11 (dk_at dksX1_init_0 11 rfl rfl)
theorem dX1_init_14 : decode cX1_init 14 = .ok (.putfield 14, 3) := dk_181 0 14 (dk_at dksX1_init_0 14 rfl rfl)
theorem dX1_init_17 : decode cX1_init 17 = .ok (.aload_n 0, 1) := dk_42 (dk_at dksX1_init_0 17 rfl rfl)
theorem dX1_init_18 : decode cX1_init 18 = .ok (.new 20, 3) := dk_187 0 20 (dk_at dksX1_init_0 18 rfl rfl)
theorem dX1_init_21 : decode cX1_init 21 = .ok (.dup, 1) := dk_89 (dk_at dksX1_init_0 21 rfl rfl)
theorem dX1_init_22 : decode cX1_init 22 = .ok (.new 22, 3) := dk_187 0 22 (dk_at dksX1_init_1 0 rfl rfl)
theorem dX1_init_25 : decode cX1_init 25 = .ok (.dup, 1) := dk_89 (dk_at dksX1_init_1 3 rfl rfl)
theorem dX1_init_26 : decode cX1_init 26 = .ok (.invokespecial 24, 3) := dk_183 0 24 (dk_at dksX1_init_1 4 rfl rfl)
theorem dX1_init_29 : decode cX1_init 29 = .ok (.invokespecial 25, 3) := dk_183 0 25 (dk_at dksX1_init_1 7 rfl rfl)
theorem dX1_init_32 : decode cX1_init 32 = .ok (.putfield 28, 3) := dk_181 0 28 (dk_at dksX1_init_1 10 rfl rfl)
theorem dX1_init_35 : decode cX1_init 35 = .ok (.aload_n 0, 1) := dk_42 (dk_at dksX1_init_1 13 rfl rfl)
theorem dX1_init_36 : decode cX1_init 36 = .ok (.new 32, 3) := dk_187 0 32 (dk_at dksX1_init_1 14 rfl rfl)
theorem dX1_init_39 : decode cX1_init 39 = .ok (.dup, 1) := dk_89 (dk_at dksX1_init_1 17 rfl rfl)
theorem dX1_init_40 : decode cX1_init 40 = .ok (.invokespecial 34, 3) := dk_183 0 34 (dk_at dksX1_init_1 18 rfl rfl)
theorem dX1_init_43 : decode cX1_init 43 = .ok (.putfield 35, 3) := dk_181 0 35 (dk_at dksX1_init_1 21 rfl rfl)
theorem dX1_init_46 : decode cX1_init 46 = .ok (.aload_n 0, 1) := dk_42 (dk_at dksX1_init_2 0 rfl rfl)
theorem dX1_init_47 : decode cX1_init 47 = .ok (.new 39, 3) := dk_187 0 39 (dk_at dksX1_init_2 1 rfl rfl)
theorem dX1_init_50 : decode cX1_init 50 = .ok (.dup, 1) := dk_89 (dk_at dksX1_init_2 4 rfl rfl)
theorem dX1_init_51 : decode cX1_init 51 = .ok (.invokespecial 41, 3) := dk_183 0 41 (dk_at dksX1_init_2 5 rfl rfl)
theorem dX1_init_54 : decode cX1_init 54 = .ok (.putfield 42, 3) := dk_181 0 42 (dk_at dksX1_init_2 8 rfl rfl)
theorem dX1_init_57 : decode cX1_init 57 = .ok (.return_, 1) := dk_177 (dk_at dksX1_init_2 11 rfl rfl)
def dkwX1_copy_10 : List UInt8 := [180, 0, 121, 181, 0, 121, 43, 42, 180, 0, 124, 181, 0, 124, 43, 42, 180, 0, 127, 181, 0, 127, 43, 176]
abbrev dktX1_copy_10 : List UInt8 := dkwX1_copy_10 ++ []
def dkwX1_copy_9 : List UInt8 := [182, 0, 110, 167, 255, 229, 43, 42, 180, 0, 114, 181, 0, 114, 43, 42, 180, 0, 118, 181, 0, 118, 43, 42]
abbrev dktX1_copy_9 : List UInt8 := dkwX1_copy_9 ++ dktX1_copy_10
def dkwX1_copy_8 : List UInt8 := [185, 0, 51, 1, 0, 153, 0, 24, 44, 185, 0, 57, 1, 0, 192, 0, 108, 78, 43, 180, 0, 42, 45]
abbrev dktX1_copy_8 : List UInt8 := dkwX1_copy_8 ++ dktX1_copy_9
def dkwX1_copy_7 : List UInt8 := [25, 4, 182, 0, 103, 192, 0, 88, 58, 5, 167, 255, 188, 42, 180, 0, 42, 182, 0, 107, 77, 44]
abbrev dktX1_copy_7 : List UInt8 := dkwX1_copy_7 ++ dktX1_copy_8
def dkwX1_copy_6 : List UInt8 := [180, 0, 35, 29, 184, 0, 91, 182, 0, 95, 192, 0, 88, 182, 0, 99, 43, 180, 0, 35, 29, 184, 0, 91]
abbrev dktX1_copy_6 : List UInt8 := dkwX1_copy_6 ++ dktX1_copy_7
def dkwX1_copy_5 : List UInt8 := [185, 0, 57, 1, 0, 192, 0, 82, 182, 0, 84, 62, 187, 0, 88, 89, 183, 0, 90, 58, 4, 25, 4, 42]
abbrev dktX1_copy_5 : List UInt8 := dkwX1_copy_5 ++ dktX1_copy_6
def dkwX1_copy_4 : List UInt8 := [180, 0, 35, 182, 0, 75, 185, 0, 79, 1, 0, 77, 44, 185, 0, 51, 1, 0, 153, 0, 65, 44]
abbrev dktX1_copy_4 : List UInt8 := dkwX1_copy_4 ++ dktX1_copy_5
def dkwX1_copy_3 : List UInt8 := [185, 0, 57, 1, 0, 192, 0, 72, 78, 43, 180, 0, 28, 45, 182, 0, 74, 87, 167, 255, 228, 42]
abbrev dktX1_copy_3 : List UInt8 := dkwX1_copy_3 ++ dktX1_copy_4
def dkwX1_copy_2 : List UInt8 := [87, 167, 255, 225, 42, 180, 0, 28, 182, 0, 71, 77, 44, 185, 0, 51, 1, 0, 153, 0, 25, 44]
abbrev dktX1_copy_2 : List UInt8 := dkwX1_copy_2 ++ dktX1_copy_3
def dkwX1_copy_1 : List UInt8 := [153, 0, 28, 44, 185, 0, 57, 1, 0, 192, 0, 61, 78, 43, 180, 0, 14, 45, 182, 0, 63, 182, 0, 67]
abbrev dktX1_copy_1 : List UInt8 := dkwX1_copy_1 ++ dktX1_copy_2
def dkwX1_copy_0 : List UInt8 := [187, 0, 15, 89, 183, 0, 46, 76, 42, 180, 0, 14, 182, 0, 47, 77, 44, 185, 0, 51, 1, 0]
abbrev dktX1_copy_0 : List UInt8 := dkwX1_copy_0 ++ dktX1_copy_1
theorem dksX1_copy_0 : cX1_copy.data.toList.drop 0 = dktX1_copy_0 := by decide +kernel
theorem dksX1_copy_1 : cX1_copy.data.toList.drop 22 = dktX1_copy_1 := dk_seg dksX1_copy_0 22 rfl rfl
theorem dksX1_copy_2 : cX1_copy.data.toList.drop 46 = dktX1_copy_2 := dk_seg dksX1_copy_1 24 rfl rfl
theorem dksX1_copy_3 : cX1_copy.data.toList.drop 68 = dktX1_copy_3 := dk_seg dksX1_copy_2 22 rfl rfl
theorem dksX1_copy_4 : cX1_copy.data.toList.drop 90 = dktX1_copy_4 := dk_seg dksX1_copy_3 22 rfl rfl
theorem dksX1_copy_5 : cX1_copy.data.toList.drop 112 = dktX1_copy_5 := dk_seg dksX1_copy_4 22 rfl rfl
theorem dksX1_copy_6 : cX1_copy.data.toList.drop 136 = dktX1_copy_6 := dk_seg dksX1_copy_5 24 rfl rfl
theorem dksX1_copy_7 : cX1_copy.data.toList.drop 160 = dktX1_copy_7 := dk_seg dksX1_copy_6 24 rfl rfl
theorem dksX1_copy_8 : cX1_copy.data.toList.drop 182 = dktX1_copy_8 := dk_seg dksX1_copy_7 22 rfl rfl
theorem dksX1_copy_9 : cX1_copy.data.toList.drop 205 = dktX1_copy_9 := dk_seg dksX1_copy_8 23 rfl rfl
theorem dksX1_copy_10 : cX1_copy.data.toList.drop 229 = dktX1_copy_10 := dk_seg dksX1_copy_9 24 rfl rfl
theorem dX1_copy_0 : decode cX1_copy 0 = .ok (.new 15, 3) := dk_187 0 15 (dk_at dksX1_copy_0 0 rfl rfl)
theorem dX1_copy_3 : decode cX1_copy 3 = .ok (.dup, 1) := dk_89 (dk_at dksX1_copy_0 3 rfl rfl)
theorem dX1_copy_4 : decode cX1_copy 4 = .ok (.invokespecial 46, 3) := dk_183 0 46 (dk_at dksX1_copy_0 4 rfl rfl)
theorem dX1_copy_7 : decode cX1_copy 7 = .ok (.astore_n 1, 1) := dk_76 (dk_at dksX1_copy_0 7 rfl rfl)
theorem dX1_copy_8 : decode cX1_copy 8 = .ok (.aload_n 0, 1) := dk_42 (dk_at dksX1_copy_0 8 rfl rfl)
theorem dX1_copy_9 : decode cX1_copy 9 = .ok (.getfield 14, 3) := dk_180 0 14 (dk_at dksX1_copy_0 9 rfl rfl)
theorem dX1_copy_12 : decode cX1_copy 12 = .ok (.invokevirtual 47, 3) := dk_182 0 47 (dk_at dksX1_copy_0 12 rfl rfl)
theorem dX1_copy_15 : decode cX1_copy 15 = .ok (.astore_n 2, 1) := dk_77 (dk_at dksX1_copy_0 15 rfl rfl)
theorem dX1_copy_16 : decode cX1_copy 16 = .ok (.aload_n 2, 1) := dk_44 (dk_at dksX1_copy_0 16 rfl rfl)
theorem dX1_copy_17 : decode cX1_copy 17 = .ok (.invokeinterface 51 1, 5) := by decide +kernel
theorem dX1_copy_22 : decode cX1_copy 22 = .ok (.ifCond .eq 28, 3) := dk_153 0 28 (dk_at dksX1_copy_1 0 rfl rfl)
theorem dX1_copy_25 : decode cX1_copy 25 = .ok (.aload_n 2, 1) := dk_44 (dk_at dksX1_copy_1 3 rfl rfl)
theorem dX1_copy_26 : decode cX1_copy 26 = .ok (.invokeinterface 57 1, 5) := by decide +kernel
theorem dX1_copy_31 : decode cX1_copy 31 = .ok (.checkcast 61, 3) := dk_192 0 61 (dk_at dksX1_copy_1 9 rfl rfl)
theorem dX1_copy_34 : decode cX1_copy 34 = .ok (.astore_n 3, 1) := dk_78 (dk_at dksX1_copy_1 12 rfl rfl)
theorem dX1_copy_35 : decode cX1_copy 35 = .ok (.aload_n 1, 1) := dk_43 (dk_at dksX1_copy_1 13 rfl rfl)
theorem dX1_copy_36 : decode cX1_copy 36 = .ok (.getfield 14, 3) := dk_180 0 14 (dk_at dksX1_copy_1 14 rfl rfl)
theorem dX1_copy_39 : decode cX1_copy 39 = .ok (.aload_n 3, 1) := dk_45 (dk_at dksX1_copy_1 17 rfl rfl)
theorem dX1_copy_40 : decode cX1_copy 40 = .ok (.invokevirtual 63, 3) := dk_182 0 63 (dk_at dksX1_copy_1 18 rfl rfl)
theorem dX1_copy_43 : decode cX1_copy 43 = .ok (.invokevirtual 67, 3) := dk_182 0 67 (dk_at dksX1_copy_1 21 rfl rfl)
theorem dX1_copy_46 : decode cX1_copy 46 = .ok (.pop, 1) := dk_87 (dk_at dksX1_copy_2 0 rfl rfl)
theorem dX1_copy_47 : decode cX1_copy 47 = .ok (.goto (-31), 3) := dk_167 255 225 (dk_at dksX1_copy_2 1 rfl rfl)
theorem dX1_copy_50 : decode cX1_copy 50 = .ok (.aload_n 0, 1) := dk_42 (dk_at dksX1_copy_2 4 rfl rfl)
theorem dX1_copy_51 : decode cX1_copy 51 = .ok (.getfield 28, 3) := dk_180 0 28 (dk_at dksX1_copy_2 5 rfl rfl)
theorem dX1_copy_54 : decode cX1_copy 54 = .ok (.invokevirtual 71, 3) := dk_182 0 71 (dk_at dksX1_copy_2 8 rfl rfl)
theorem dX1_copy_57 : decode cX1_copy 57 = .ok (.astore_n 2, 1) := dk_77 (dk_at dksX1_copy_2 11 rfl rfl)
theorem dX1_copy_58 : decode cX1_copy 58 = .ok (.aload_n 2, 1) := dk_44 (dk_at dksX1_copy_2 12 rfl rfl)
theorem dX1_copy_59 : decode cX1_copy 59 = .ok (.invokeinterface 51 1, 5) := by decide +kernel
theorem dX1_copy_64 : decode cX1_copy 64 = .ok (.ifCond .eq 25, 3) := dk_153 0 25 (dk_at dksX1_copy_2 18 rfl rfl)
theorem dX1_copy_67 : decode cX1_copy 67 = .ok (.aload_n 2, 1) := dk_44 (dk_at dksX1_copy_2 21 rfl rfl)
theorem dX1_copy_68 : decode cX1_copy 68 = .ok (.invokeinterface 57 1, 5) := by decide +kernel
theorem dX1_copy_73 : decode cX1_copy 73 = .ok (.checkcast 72, 3) := dk_192 0 72 (dk_at dksX1_copy_3 5 rfl rfl)
theorem dX1_copy_76 : decode cX1_copy 76 = .ok (.astore_n 3, 1) := dk_78 (dk_at dksX1_copy_3 8 rfl rfl)
theorem dX1_copy_77 : decode cX1_copy 77 = .ok (.aload_n 1, 1) := dk_43 (dk_at dksX1_copy_3 9 rfl rfl)
theorem dX1_copy_78 : decode cX1_copy 78 = .ok (.getfield 28, 3) := dk_180 0 28 (dk_at dksX1_copy_3 10 rfl rfl)
theorem dX1_copy_81 : decode cX1_copy 81 = .ok (.aload_n 3, 1) := dk_45 (dk_at dksX1_copy_3 13 rfl rfl)
theorem dX1_copy_82 : decode cX1_copy 82 = .ok (.invokevirtual 74, 3) := dk_182 0 74 (dk_at dksX1_copy_3 14 rfl rfl)
theorem dX1_copy_85 : decode cX1_copy 85 = .ok (.pop, 1) := dk_87 (dk_at dksX1_copy_3 17 rfl rfl)
theorem dX1_copy_86 : decode cX1_copy 86 = .ok (.goto (-28), 3) := dk_167 255 228 (dk_at dksX1_copy_3 18 rfl rfl)
theorem dX1_copy_89 : decode cX1_copy 89 = .ok (.aload_n 0, 1) := dk_42 (dk_at dksX1_copy_3 21 rfl rfl)
theorem dX1_copy_90 : decode cX1_copy 90 = .ok (.getfield 35, 3) := dk_180 0 35 (dk_at dksX1_copy_4 0 rfl rfl)
theorem dX1_copy_93 : decode cX1_copy 93 = .ok (.invokevirtual 75, 3) := dk_182 0 75 (dk_at dksX1_copy_4 3 rfl rfl)
theorem dX1_copy_96 : decode cX1_copy 96 = .ok (.invokeinterface 79 1, 5) := by decide +kernel
theorem dX1_copy_101 : decode cX1_copy 101 = .ok (.astore_n 2, 1) := dk_77 (dk_at dksX1_copy_4 11 rfl rfl)
theorem dX1_copy_102 : decode cX1_copy 102 = .ok (.aload_n 2, 1) := dk_44 (dk_at dksX1_copy_4 12 rfl rfl)
theorem dX1_copy_103 : decode cX1_copy 103 = .ok (.invokeinterface 51 1, 5) := by decide +kernel
theorem dX1_copy_108 : decode cX1_copy 108 = .ok (.ifCond .eq 65, 3) := dk_153 0 65 (dk_at dksX1_copy_4 18 rfl rfl)
theorem dX1_copy_111 : decode cX1_copy 111 = .ok (.aload_n 2, 1) := dk_44 (dk_at dksX1_copy_4 21 rfl rfl)
theorem dX1_copy_112 : decode cX1_copy 112 = .ok (.invokeinterface 57 1, 5) := by decide +kernel
theorem dX1_copy_117 : decode cX1_copy 117 = .ok (.checkcast 82, 3) := dk_192 0 82 (dk_at dksX1_copy_5 5 rfl rfl)
theorem dX1_copy_120 : decode cX1_copy 120 = .ok (.invokevirtual 84, 3) := dk_182 0 84 (dk_at dksX1_copy_5 8 rfl rfl)
theorem dX1_copy_123 : decode cX1_copy 123 = .ok (.istore_n 3, 1) := dk_62 (dk_at dksX1_copy_5 11 rfl rfl)
theorem dX1_copy_124 : decode cX1_copy 124 = .ok (.new 88, 3) := dk_187 0 88 (dk_at dksX1_copy_5 12 rfl rfl)
theorem dX1_copy_127 : decode cX1_copy 127 = .ok (.dup, 1) := dk_89 (dk_at dksX1_copy_5 15 rfl rfl)
theorem dX1_copy_128 : decode cX1_copy 128 = .ok (.invokespecial 90, 3) := dk_183 0 90 (dk_at dksX1_copy_5 16 rfl rfl)
theorem dX1_copy_131 : decode cX1_copy 131 = .ok (.astore 4, 2) := dk_58 4 (dk_at dksX1_copy_5 19 rfl rfl)
theorem dX1_copy_133 : decode cX1_copy 133 = .ok (.aload 4, 2) := dk_25 4 (dk_at dksX1_copy_5 21 rfl rfl)
theorem dX1_copy_135 : decode cX1_copy 135 = .ok (.aload_n 0, 1) := dk_42 (dk_at dksX1_copy_5 23 rfl rfl)
theorem dX1_copy_136 : decode cX1_copy 136 = .ok (.getfield 35, 3) := dk_180 0 35 (dk_at dksX1_copy_6 0 rfl rfl)
theorem dX1_copy_139 : decode cX1_copy 139 = .ok (.iload_n 3, 1) := dk_29 (dk_at dksX1_copy_6 3 rfl rfl)
theorem dX1_copy_140 : decode cX1_copy 140 = .ok (.invokestatic 91, 3) := dk_184 0 91 (dk_at dksX1_copy_6 4 rfl rfl)
theorem dX1_copy_143 : decode cX1_copy 143 = .ok (.invokevirtual 95, 3) := dk_182 0 95 (dk_at dksX1_copy_6 7 rfl rfl)
theorem dX1_copy_146 : decode cX1_copy 146 = .ok (.checkcast 88, 3) := dk_192 0 88 (dk_at dksX1_copy_6 10 rfl rfl)
theorem dX1_copy_149 : decode cX1_copy 149 = .ok (.invokevirtual 99, 3) := dk_182 0 99 (dk_at dksX1_copy_6 13 rfl rfl)
theorem dX1_copy_152 : decode cX1_copy 152 = .ok (.aload_n 1, 1) := dk_43 (dk_at dksX1_copy_6 16 rfl rfl)
theorem dX1_copy_153 : decode cX1_copy 153 = .ok (.getfield 35, 3) := dk_180 0 35 (dk_at dksX1_copy_6 17 rfl rfl)
theorem dX1_copy_156 : decode cX1_copy 156 = .ok (.iload_n 3, 1) := dk_29 (dk_at dksX1_copy_6 20 rfl rfl)
theorem dX1_copy_157 : decode cX1_copy 157 = .ok (.invokestatic 91, 3) := dk_184 0 91 (dk_at dksX1_copy_6 21 rfl rfl)
theorem dX1_copy_160 : decode cX1_copy 160 = .ok (.aload 4, 2) := dk_25 4 (dk_at dksX1_copy_7 0 rfl rfl)
theorem dX1_copy_162 : decode cX1_copy 162 = .ok (.invokevirtual 103, 3) := dk_182 0 103 (dk_at dksX1_copy_7 2 rfl rfl)
theorem dX1_copy_165 : decode cX1_copy 165 = .ok (.checkcast 88, 3) := dk_192 0 88 (dk_at dksX1_copy_7 5 rfl rfl)
theorem dX1_copy_168 : decode cX1_copy 168 = .ok (.astore 5, 2) := dk_58 5 (dk_at dksX1_copy_7 8 rfl rfl)
theorem dX1_copy_170 : decode cX1_copy 170 = .ok (.goto (-68), 3) := dk_167 255 188 (dk_at dksX1_copy_7 10 rfl rfl)
theorem dX1_copy_173 : decode cX1_copy 173 = .ok (.aload_n 0, 1) := dk_42 (dk_at dksX1_copy_7 13 rfl rfl)
theorem dX1_copy_174 : decode cX1_copy 174 = .ok (.getfield 42, 3) := dk_180 0 42 (dk_at dksX1_copy_7 14 rfl rfl)
theorem dX1_copy_177 : decode cX1_copy 177 = .ok (.invokevirtual 107, 3) := dk_182 0 107 (dk_at dksX1_copy_7 17 rfl rfl)
theorem dX1_copy_180 : decode cX1_copy 180 = .ok (.astore_n 2, 1) := dk_77 (dk_at dksX1_copy_7 20 rfl rfl)
theorem dX1_copy_181 : decode cX1_copy 181 = .ok (.aload_n 2, 1) := dk_44 (dk_at dksX1_copy_7 21 rfl rfl)
theorem dX1_copy_182 : decode cX1_copy 182 = .ok (.invokeinterface 51 1, 5) := by decide +kernel
theorem dX1_copy_187 : decode cX1_copy 187 = .ok (.ifCond .eq 24, 3) := dk_153 0 24 (dk_at dksX1_copy_8 5 rfl rfl)
theorem dX1_copy_190 : decode cX1_copy 190 = .ok (.aload_n 2, 1) := dk_44 (dk_at dksX1_copy_8 8 rfl rfl)
theorem dX1_copy_191 : decode cX1_copy 191 = .ok (.invokeinterface 57 1, 5) := by decide +kernel
theorem dX1_copy_196 : decode cX1_copy 196 = .ok (.checkcast 108, 3) := dk_192 0 108 (dk_at dksX1_copy_8 14 rfl rfl)
theorem dX1_copy_199 : decode cX1_copy 199 = .ok (.astore_n 3, 1) := dk_78 (dk_at dksX1_copy_8 17 rfl rfl)
theorem dX1_copy_200 : decode cX1_copy 200 = .ok (.aload_n 1, 1) := dk_43 (dk_at dksX1_copy_8 18 rfl rfl)
theorem dX1_copy_201 : decode cX1_copy 201 = .ok (.getfield 42, 3) := dk_180 0 42 (dk_at dksX1_copy_8 19 rfl rfl)
theorem dX1_copy_204 : decode cX1_copy 204 = .ok (.aload_n 3, 1) := dk_45 (dk_at dksX1_copy_8 22 rfl rfl)
theorem dX1_copy_205 : decode cX1_copy 205 = .ok (.invokevirtual 110, 3) := dk_182 0 110 (dk_at dksX1_copy_9 0 rfl rfl)
theorem dX1_copy_208 : decode cX1_copy 208 = .ok (.goto (-27), 3) := dk_167 255 229 (dk_at dksX1_copy_9 3 rfl rfl)
theorem dX1_copy_211 : decode cX1_copy 211 = .ok (.aload_n 1, 1) := dk_43 (dk_at dksX1_copy_9 6 rfl rfl)
theorem dX1_copy_212 : decode cX1_copy 212 = .ok (.aload_n 0, 1) := dk_42 (dk_at dksX1_copy_9 7 rfl rfl)
theorem dX1_copy_213 : decode cX1_copy 213 = .ok (.getfield 114, 3) := dk_180 0 114 (dk_at dksX1_copy_9 8 rfl rfl)
theorem dX1_copy_216 : decode cX1_copy 216 = .ok (.putfield 114, 3) := dk_181 0 114 (dk_at dksX1_copy_9 11 rfl rfl)
theorem dX1_copy_219 : decode cX1_copy 219 = .ok (.aload_n 1, 1) := dk_43 (dk_at dksX1_copy_9 14 rfl rfl)
theorem dX1_copy_220 : decode cX1_copy 220 = .ok (.aload_n 0, 1) := dk_42 (dk_at dksX1_copy_9 15 rfl rfl)
theorem dX1_copy_221 : decode cX1_copy 221 = .ok (.getfield 118, 3) := dk_180 0 118 (dk_at dksX1_copy_9 16 rfl rfl)
theorem dX1_copy_224 : decode cX1_copy 224 = .ok (.putfield 118, 3) := dk_181 0 118 (dk_at dksX1_copy_9 19 rfl rfl)
theorem dX1_copy_227 : decode cX1_copy 227 = .ok (.aload_n 1, 1) := dk_43 (dk_at dksX1_copy_9 22 rfl rfl)
theorem dX1_copy_228 : decode cX1_copy 228 = .ok (.aload_n 0, 1) := dk_42 (dk_at dksX1_copy_9 23 rfl rfl)
theorem dX1_copy_229 : decode cX1_copy 229 = .ok (.getfield 121, 3) := dk_180 0 121 (dk_at dksX1_copy_10 0 rfl rfl)
theorem dX1_copy_232 : decode cX1_copy 232 = .ok (.putfield 121, 3) := dk_181 0 121 (dk_at dksX1_copy_10 3 rfl rfl)
theorem dX1_copy_235 : decode cX1_copy 235 = .ok (.aload_n 1, 1) := dk_43 (dk_at dksX1_copy_10 6 rfl rfl)
theorem dX1_copy_236 : decode cX1_copy 236 = .ok (.aload_n 0, 1) := dk_42 (dk_at dksX1_copy_10 7 rfl rfl)
theorem dX1_copy_237 : decode cX1_copy 237 = .ok (.getfield 124, 3) := dk_180 0 124 (dk_at dksX1_copy_10 8 rfl rfl)
theorem dX1_copy_240 : decode cX1_copy 240 = .ok (.putfield 124, 3) := dk_181 0 124 (dk_at dksX1_copy_10 11 rfl rfl)
theorem dX1_copy_243 : decode cX1_copy 243 = .ok (.aload_n 1, 1) := dk_43 (dk_at dksX1_copy_10 14 rfl rfl)
theorem dX1_copy_244 : decode cX1_copy 244 = .ok (.aload_n 0, 1) := dk_42 (dk_at dksX1_copy_10 15 rfl rfl)
theorem dX1_copy_245 : decode cX1_copy 245 = .ok (.getfield 127, 3) := dk_180 0 127 (dk_at dksX1_copy_10 16 rfl rfl)
theorem dX1_copy_248 : decode cX1_copy 248 = .ok (.putfield 127, 3) := dk_181 0 127 (dk_at dksX1_copy_10 19 rfl rfl)
theorem dX1_copy_251 : decode cX1_copy 251 = .ok (.aload_n 1, 1) := dk_43 (dk_at dksX1_copy_10 22 rfl rfl)
theorem dX1_copy_252 : decode cX1_copy 252 = .ok (.areturn, 1) := dk_176 (dk_at dksX1_copy_10 23 rfl rfl)
def dkwX1_brings_2 : List UInt8 := [172]
abbrev dktX1_brings_2 : List UInt8 := dkwX1_brings_2 ++ []
def dkwX1_brings_1 : List UInt8 := [180, 0, 14, 187, 0, 61, 89, 27, 183, 0, 141, 182, 0, 67, 87, 42, 180, 0, 14, 182, 0, 130, 4, 100]
abbrev dktX1_brings_1 : List UInt8 := dkwX1_brings_1 ++ dktX1_brings_2
def dkwX1_brings_0 : List UInt8 := [42, 180, 0, 14, 182, 0, 130, 16, 12, 160, 0, 7, 4, 167, 0, 4, 3, 4, 16, 12, 184, 0, 137, 42]
abbrev dktX1_brings_0 : List UInt8 := dkwX1_brings_0 ++ dktX1_brings_1
theorem dksX1_brings_0 : cX1_brings.data.toList.drop 0 = dktX1_brings_0 := by decide +kernel
theorem dksX1_brings_1 : cX1_brings.data.toList.drop 24 = dktX1_brings_1 := dk_seg dksX1_brings_0 24 rfl rfl
theorem dksX1_brings_2 : cX1_brings.data.toList.drop 48 = dktX1_brings_2 := dk_seg dksX1_brings_1 24 rfl rfl
theorem dX1_brings_0 : decode cX1_brings 0 = .ok (.aload_n 0, 1) := dk_42 (dk_at dksX1_brings_0 0 rfl rfl)
theorem dX1_brings_1 : decode cX1_brings 1 = .ok (.getfield 14, 3) := dk_180 0 14 (dk_at dksX1_brings_0 1 rfl rfl)
theorem dX1_brings_4 : decode cX1_brings 4 = .ok (.invokevirtual 130, 3) := dk_182 0 130 (dk_at dksX1_brings_0 4 rfl rfl)
theorem dX1_brings_7 : decode cX1_brings 7 = .ok (.bipush 12, 2) := dk_16 12 (dk_at dksX1_brings_0 7 rfl rfl)
theorem dX1_brings_9 : decode cX1_brings 9 = .ok (.if_icmp .ne 7, 3) := dk_160 0 7 (dk_at dksX1_brings_0 9 rfl rfl)
theorem dX1_brings_12 : decode cX1_brings 12 = .ok (.iconst 1, 1) := dk_4 (dk_at dksX1_brings_0 12 rfl rfl)
theorem dX1_brings_13 : decode cX1_brings 13 = .ok (.goto 4, 3) := dk_167 0 4 (dk_at dksX1_brings_0 13 rfl rfl)
theorem dX1_brings_16 : decode cX1_brings 16 = .ok (.iconst 0, 1) := dk_3 (dk_at dksX1_brings_0 16 rfl rfl)
theorem dX1_brings_17 : decode cX1_brings 17 = .ok (.iconst 1, 1) := dk_4 (dk_at dksX1_brings_0 17 rfl rfl)
theorem dX1_brings_18 : decode cX1_brings 18 = .ok (.bipush 12, 2) := dk_16 12 (dk_at dksX1_brings_0 18 rfl rfl)
theorem dX1_brings_20 : decode cX1_brings 20 = .ok (.invokestatic 137, 3) := dk_184 0 137 (dk_at dksX1_brings_0 20 rfl rfl)
theorem dX1_brings_23 : decode cX1_brings 23 = .ok (.aload_n 0, 1) := dk_42 (dk_at dksX1_brings_0 23 rfl rfl)
theorem dX1_brings_24 : decode cX1_brings 24 = .ok (.getfield 14, 3) := dk_180 0 14 (dk_at dksX1_brings_1 0 rfl rfl)
theorem dX1_brings_27 : decode cX1_brings 27 = .ok (.new 61, 3) := dk_187 0 61 (dk_at dksX1_brings_1 3 rfl rfl)
theorem dX1_brings_30 : decode cX1_brings 30 = .ok (.dup, 1) := dk_89 (dk_at dksX1_brings_1 6 rfl rfl)
theorem dX1_brings_31 : decode cX1_brings 31 = .ok (.iload_n 1, 1) := dk_27 (dk_at dksX1_brings_1 7 rfl rfl)
theorem dX1_brings_32 : decode cX1_brings 32 = .ok (.invokespecial 141, 3) := dk_183 0 141 (dk_at dksX1_brings_1 8 rfl rfl)
theorem dX1_brings_35 : decode cX1_brings 35 = .ok (.invokevirtual 67, 3) := dk_182 0 67 (dk_at dksX1_brings_1 11 rfl rfl)
theorem dX1_brings_38 : decode cX1_brings 38 = .ok (.pop, 1) := dk_87 (dk_at dksX1_brings_1 14 rfl rfl)
theorem dX1_brings_39 : decode cX1_brings 39 = .ok (.aload_n 0, 1) := dk_42 (dk_at dksX1_brings_1 15 rfl rfl)
theorem dX1_brings_40 : decode cX1_brings 40 = .ok (.getfield 14, 3) := dk_180 0 14 (dk_at dksX1_brings_1 16 rfl rfl)
theorem dX1_brings_43 : decode cX1_brings 43 = .ok (.invokevirtual 130, 3) := dk_182 0 130 (dk_at dksX1_brings_1 19 rfl rfl)
theorem dX1_brings_46 : decode cX1_brings 46 = .ok (.iconst 1, 1) := dk_4 (dk_at dksX1_brings_1 22 rfl rfl)
theorem dX1_brings_47 : decode cX1_brings 47 = .ok (.isub, 1) := dk_100 (dk_at dksX1_brings_1 23 rfl rfl)
theorem dX1_brings_48 : decode cX1_brings 48 = .ok (.ireturn, 1) := dk_172 (dk_at dksX1_brings_2 0 rfl rfl)
def dkwX1_isRope_0 : List UInt8 := [27, 3, 42, 180, 0, 14, 182, 0, 130, 4, 100, 184, 0, 133, 172]
abbrev dktX1_isRope_0 : List UInt8 := dkwX1_isRope_0 ++ []
theorem dksX1_isRope_0 : cX1_isRope.data.toList.drop 0 = dktX1_isRope_0 := by decide +kernel
theorem dX1_isRope_0 : decode cX1_isRope 0 = .ok (.iload_n 1, 1) := dk_27 (dk_at dksX1_isRope_0 0 rfl rfl)
theorem dX1_isRope_1 : decode cX1_isRope 1 = .ok (.iconst 0, 1) := dk_3 (dk_at dksX1_isRope_0 1 rfl rfl)
theorem dX1_isRope_2 : decode cX1_isRope 2 = .ok (.aload_n 0, 1) := dk_42 (dk_at dksX1_isRope_0 2 rfl rfl)
theorem dX1_isRope_3 : decode cX1_isRope 3 = .ok (.getfield 14, 3) := dk_180 0 14 (dk_at dksX1_isRope_0 3 rfl rfl)
theorem dX1_isRope_6 : decode cX1_isRope 6 = .ok (.invokevirtual 130, 3) := dk_182 0 130 (dk_at dksX1_isRope_0 6 rfl rfl)
theorem dX1_isRope_9 : decode cX1_isRope 9 = .ok (.iconst 1, 1) := dk_4 (dk_at dksX1_isRope_0 9 rfl rfl)
theorem dX1_isRope_10 : decode cX1_isRope 10 = .ok (.isub, 1) := dk_100 (dk_at dksX1_isRope_0 10 rfl rfl)
theorem dX1_isRope_11 : decode cX1_isRope 11 = .ok (.invokestatic 133, 3) := dk_184 0 133 (dk_at dksX1_isRope_0 11 rfl rfl)
theorem dX1_isRope_14 : decode cX1_isRope 14 = .ok (.ireturn, 1) := dk_172 (dk_at dksX1_isRope_0 14 rfl rfl)
def dkwX1_moves_1 : List UInt8 := [4, 167, 0, 4, 3, 7, 28, 184, 0, 137, 45, 28, 181, 0, 145, 21, 4, 172]
abbrev dktX1_moves_1 : List UInt8 := dkwX1_moves_1 ++ []
def dkwX1_moves_0 : List UInt8 := [42, 180, 0, 14, 27, 182, 0, 142, 192, 0, 61, 78, 45, 180, 0, 145, 54, 4, 21, 4, 28, 160, 0, 7]
abbrev dktX1_moves_0 : List UInt8 := dkwX1_moves_0 ++ dktX1_moves_1
theorem dksX1_moves_0 : cX1_moves.data.toList.drop 0 = dktX1_moves_0 := by decide +kernel
theorem dksX1_moves_1 : cX1_moves.data.toList.drop 24 = dktX1_moves_1 := dk_seg dksX1_moves_0 24 rfl rfl
theorem dX1_moves_0 : decode cX1_moves 0 = .ok (.aload_n 0, 1) := dk_42 (dk_at dksX1_moves_0 0 rfl rfl)
theorem dX1_moves_1 : decode cX1_moves 1 = .ok (.getfield 14, 3) := dk_180 0 14 (dk_at dksX1_moves_0 1 rfl rfl)
theorem dX1_moves_4 : decode cX1_moves 4 = .ok (.iload_n 1, 1) := dk_27 (dk_at dksX1_moves_0 4 rfl rfl)
theorem dX1_moves_5 : decode cX1_moves 5 = .ok (.invokevirtual 142, 3) := dk_182 0 142 (dk_at dksX1_moves_0 5 rfl rfl)
theorem dX1_moves_8 : decode cX1_moves 8 = .ok (.checkcast 61, 3) := dk_192 0 61 (dk_at dksX1_moves_0 8 rfl rfl)
theorem dX1_moves_11 : decode cX1_moves 11 = .ok (.astore_n 3, 1) := dk_78 (dk_at dksX1_moves_0 11 rfl rfl)
theorem dX1_moves_12 : decode cX1_moves 12 = .ok (.aload_n 3, 1) := dk_45 (dk_at dksX1_moves_0 12 rfl rfl)
theorem dX1_moves_13 : decode cX1_moves 13 = .ok (.getfield 145, 3) := dk_180 0 145 (dk_at dksX1_moves_0 13 rfl rfl)
theorem dX1_moves_16 : decode cX1_moves 16 = .ok (.istore 4, 2) := dk_54 4 (dk_at dksX1_moves_0 16 rfl rfl)
theorem dX1_moves_18 : decode cX1_moves 18 = .ok (.iload 4, 2) := dk_21 4 (dk_at dksX1_moves_0 18 rfl rfl)
theorem dX1_moves_20 : decode cX1_moves 20 = .ok (.iload_n 2, 1) := dk_28 (dk_at dksX1_moves_0 20 rfl rfl)
theorem dX1_moves_21 : decode cX1_moves 21 = .ok (.if_icmp .ne 7, 3) := dk_160 0 7 (dk_at dksX1_moves_0 21 rfl rfl)
theorem dX1_moves_24 : decode cX1_moves 24 = .ok (.iconst 1, 1) := dk_4 (dk_at dksX1_moves_1 0 rfl rfl)
theorem dX1_moves_25 : decode cX1_moves 25 = .ok (.goto 4, 3) := dk_167 0 4 (dk_at dksX1_moves_1 1 rfl rfl)
theorem dX1_moves_28 : decode cX1_moves 28 = .ok (.iconst 0, 1) := dk_3 (dk_at dksX1_moves_1 4 rfl rfl)
theorem dX1_moves_29 : decode cX1_moves 29 = .ok (.iconst 4, 1) := dk_7 (dk_at dksX1_moves_1 5 rfl rfl)
theorem dX1_moves_30 : decode cX1_moves 30 = .ok (.iload_n 2, 1) := dk_28 (dk_at dksX1_moves_1 6 rfl rfl)
theorem dX1_moves_31 : decode cX1_moves 31 = .ok (.invokestatic 137, 3) := dk_184 0 137 (dk_at dksX1_moves_1 7 rfl rfl)
theorem dX1_moves_34 : decode cX1_moves 34 = .ok (.aload_n 3, 1) := dk_45 (dk_at dksX1_moves_1 10 rfl rfl)
theorem dX1_moves_35 : decode cX1_moves 35 = .ok (.iload_n 2, 1) := dk_28 (dk_at dksX1_moves_1 11 rfl rfl)
theorem dX1_moves_36 : decode cX1_moves 36 = .ok (.putfield 145, 3) := dk_181 0 145 (dk_at dksX1_moves_1 12 rfl rfl)
theorem dX1_moves_39 : decode cX1_moves 39 = .ok (.iload 4, 2) := dk_21 4 (dk_at dksX1_moves_1 15 rfl rfl)
theorem dX1_moves_41 : decode cX1_moves 41 = .ok (.ireturn, 1) := dk_172 (dk_at dksX1_moves_1 17 rfl rfl)
def dkwX1_puts_1 : List UInt8 := [3, 7, 28, 153, 0, 7, 4, 167, 0, 4, 3, 184, 0, 137, 45, 28, 181, 0, 148, 42, 182, 0, 152, 172]
abbrev dktX1_puts_1 : List UInt8 := dkwX1_puts_1 ++ []
def dkwX1_puts_0 : List UInt8 := [42, 180, 0, 14, 27, 182, 0, 142, 192, 0, 61, 78, 45, 180, 0, 148, 28, 160, 0, 7, 4, 167, 0, 4]
abbrev dktX1_puts_0 : List UInt8 := dkwX1_puts_0 ++ dktX1_puts_1
theorem dksX1_puts_0 : cX1_puts.data.toList.drop 0 = dktX1_puts_0 := by decide +kernel
theorem dksX1_puts_1 : cX1_puts.data.toList.drop 24 = dktX1_puts_1 := dk_seg dksX1_puts_0 24 rfl rfl
theorem dX1_puts_0 : decode cX1_puts 0 = .ok (.aload_n 0, 1) := dk_42 (dk_at dksX1_puts_0 0 rfl rfl)
theorem dX1_puts_1 : decode cX1_puts 1 = .ok (.getfield 14, 3) := dk_180 0 14 (dk_at dksX1_puts_0 1 rfl rfl)
theorem dX1_puts_4 : decode cX1_puts 4 = .ok (.iload_n 1, 1) := dk_27 (dk_at dksX1_puts_0 4 rfl rfl)
theorem dX1_puts_5 : decode cX1_puts 5 = .ok (.invokevirtual 142, 3) := dk_182 0 142 (dk_at dksX1_puts_0 5 rfl rfl)
theorem dX1_puts_8 : decode cX1_puts 8 = .ok (.checkcast 61, 3) := dk_192 0 61 (dk_at dksX1_puts_0 8 rfl rfl)
theorem dX1_puts_11 : decode cX1_puts 11 = .ok (.astore_n 3, 1) := dk_78 (dk_at dksX1_puts_0 11 rfl rfl)
theorem dX1_puts_12 : decode cX1_puts 12 = .ok (.aload_n 3, 1) := dk_45 (dk_at dksX1_puts_0 12 rfl rfl)
theorem dX1_puts_13 : decode cX1_puts 13 = .ok (.getfield 148, 3) := dk_180 0 148 (dk_at dksX1_puts_0 13 rfl rfl)
theorem dX1_puts_16 : decode cX1_puts 16 = .ok (.iload_n 2, 1) := dk_28 (dk_at dksX1_puts_0 16 rfl rfl)
theorem dX1_puts_17 : decode cX1_puts 17 = .ok (.if_icmp .ne 7, 3) := dk_160 0 7 (dk_at dksX1_puts_0 17 rfl rfl)
theorem dX1_puts_20 : decode cX1_puts 20 = .ok (.iconst 1, 1) := dk_4 (dk_at dksX1_puts_0 20 rfl rfl)
theorem dX1_puts_21 : decode cX1_puts 21 = .ok (.goto 4, 3) := dk_167 0 4 (dk_at dksX1_puts_0 21 rfl rfl)
theorem dX1_puts_24 : decode cX1_puts 24 = .ok (.iconst 0, 1) := dk_3 (dk_at dksX1_puts_1 0 rfl rfl)
theorem dX1_puts_25 : decode cX1_puts 25 = .ok (.iconst 4, 1) := dk_7 (dk_at dksX1_puts_1 1 rfl rfl)
theorem dX1_puts_26 : decode cX1_puts 26 = .ok (.iload_n 2, 1) := dk_28 (dk_at dksX1_puts_1 2 rfl rfl)
theorem dX1_puts_27 : decode cX1_puts 27 = .ok (.ifCond .eq 7, 3) := dk_153 0 7 (dk_at dksX1_puts_1 3 rfl rfl)
theorem dX1_puts_30 : decode cX1_puts 30 = .ok (.iconst 1, 1) := dk_4 (dk_at dksX1_puts_1 6 rfl rfl)
theorem dX1_puts_31 : decode cX1_puts 31 = .ok (.goto 4, 3) := dk_167 0 4 (dk_at dksX1_puts_1 7 rfl rfl)
theorem dX1_puts_34 : decode cX1_puts 34 = .ok (.iconst 0, 1) := dk_3 (dk_at dksX1_puts_1 10 rfl rfl)
theorem dX1_puts_35 : decode cX1_puts 35 = .ok (.invokestatic 137, 3) := dk_184 0 137 (dk_at dksX1_puts_1 11 rfl rfl)
theorem dX1_puts_38 : decode cX1_puts 38 = .ok (.aload_n 3, 1) := dk_45 (dk_at dksX1_puts_1 14 rfl rfl)
theorem dX1_puts_39 : decode cX1_puts 39 = .ok (.iload_n 2, 1) := dk_28 (dk_at dksX1_puts_1 15 rfl rfl)
theorem dX1_puts_40 : decode cX1_puts 40 = .ok (.putfield 148, 3) := dk_181 0 148 (dk_at dksX1_puts_1 16 rfl rfl)
theorem dX1_puts_43 : decode cX1_puts 43 = .ok (.aload_n 0, 1) := dk_42 (dk_at dksX1_puts_1 19 rfl rfl)
theorem dX1_puts_44 : decode cX1_puts 44 = .ok (.invokevirtual 152, 3) := dk_182 0 152 (dk_at dksX1_puts_1 20 rfl rfl)
theorem dX1_puts_47 : decode cX1_puts 47 = .ok (.ireturn, 1) := dk_172 (dk_at dksX1_puts_1 23 rfl rfl)
def dkwX1_sensors_2 : List UInt8 := [167, 255, 222, 27, 172]
abbrev dktX1_sensors_2 : List UInt8 := dkwX1_sensors_2 ++ []
def dkwX1_sensors_1 : List UInt8 := [185, 0, 57, 1, 0, 192, 0, 61, 78, 27, 45, 180, 0, 148, 153, 0, 7, 4, 167, 0, 4, 3, 96, 60]
abbrev dktX1_sensors_1 : List UInt8 := dkwX1_sensors_1 ++ dktX1_sensors_2
def dkwX1_sensors_0 : List UInt8 := [3, 60, 42, 180, 0, 14, 182, 0, 47, 77, 44, 185, 0, 51, 1, 0, 153, 0, 31, 44]
abbrev dktX1_sensors_0 : List UInt8 := dkwX1_sensors_0 ++ dktX1_sensors_1
theorem dksX1_sensors_0 : cX1_sensors.data.toList.drop 0 = dktX1_sensors_0 := by decide +kernel
theorem dksX1_sensors_1 : cX1_sensors.data.toList.drop 20 = dktX1_sensors_1 := dk_seg dksX1_sensors_0 20 rfl rfl
theorem dksX1_sensors_2 : cX1_sensors.data.toList.drop 44 = dktX1_sensors_2 := dk_seg dksX1_sensors_1 24 rfl rfl
theorem dX1_sensors_0 : decode cX1_sensors 0 = .ok (.iconst 0, 1) := dk_3 (dk_at dksX1_sensors_0 0 rfl rfl)
theorem dX1_sensors_1 : decode cX1_sensors 1 = .ok (.istore_n 1, 1) := dk_60 (dk_at dksX1_sensors_0 1 rfl rfl)
theorem dX1_sensors_2 : decode cX1_sensors 2 = .ok (.aload_n 0, 1) := dk_42 (dk_at dksX1_sensors_0 2 rfl rfl)
theorem dX1_sensors_3 : decode cX1_sensors 3 = .ok (.getfield 14, 3) := dk_180 0 14 (dk_at dksX1_sensors_0 3 rfl rfl)
theorem dX1_sensors_6 : decode cX1_sensors 6 = .ok (.invokevirtual 47, 3) := dk_182 0 47 (dk_at dksX1_sensors_0 6 rfl rfl)
theorem dX1_sensors_9 : decode cX1_sensors 9 = .ok (.astore_n 2, 1) := dk_77 (dk_at dksX1_sensors_0 9 rfl rfl)
theorem dX1_sensors_10 : decode cX1_sensors 10 = .ok (.aload_n 2, 1) := dk_44 (dk_at dksX1_sensors_0 10 rfl rfl)
theorem dX1_sensors_11 : decode cX1_sensors 11 = .ok (.invokeinterface 51 1, 5) := by decide +kernel
theorem dX1_sensors_16 : decode cX1_sensors 16 = .ok (.ifCond .eq 31, 3) := dk_153 0 31 (dk_at dksX1_sensors_0 16 rfl rfl)
theorem dX1_sensors_19 : decode cX1_sensors 19 = .ok (.aload_n 2, 1) := dk_44 (dk_at dksX1_sensors_0 19 rfl rfl)
theorem dX1_sensors_20 : decode cX1_sensors 20 = .ok (.invokeinterface 57 1, 5) := by decide +kernel
theorem dX1_sensors_25 : decode cX1_sensors 25 = .ok (.checkcast 61, 3) := dk_192 0 61 (dk_at dksX1_sensors_1 5 rfl rfl)
theorem dX1_sensors_28 : decode cX1_sensors 28 = .ok (.astore_n 3, 1) := dk_78 (dk_at dksX1_sensors_1 8 rfl rfl)
theorem dX1_sensors_29 : decode cX1_sensors 29 = .ok (.iload_n 1, 1) := dk_27 (dk_at dksX1_sensors_1 9 rfl rfl)
theorem dX1_sensors_30 : decode cX1_sensors 30 = .ok (.aload_n 3, 1) := dk_45 (dk_at dksX1_sensors_1 10 rfl rfl)
theorem dX1_sensors_31 : decode cX1_sensors 31 = .ok (.getfield 148, 3) := dk_180 0 148 (dk_at dksX1_sensors_1 11 rfl rfl)
theorem dX1_sensors_34 : decode cX1_sensors 34 = .ok (.ifCond .eq 7, 3) := dk_153 0 7 (dk_at dksX1_sensors_1 14 rfl rfl)
theorem dX1_sensors_37 : decode cX1_sensors 37 = .ok (.iconst 1, 1) := dk_4 (dk_at dksX1_sensors_1 17 rfl rfl)
theorem dX1_sensors_38 : decode cX1_sensors 38 = .ok (.goto 4, 3) := dk_167 0 4 (dk_at dksX1_sensors_1 18 rfl rfl)
theorem dX1_sensors_41 : decode cX1_sensors 41 = .ok (.iconst 0, 1) := dk_3 (dk_at dksX1_sensors_1 21 rfl rfl)
theorem dX1_sensors_42 : decode cX1_sensors 42 = .ok (.iadd, 1) := dk_96 (dk_at dksX1_sensors_1 22 rfl rfl)
theorem dX1_sensors_43 : decode cX1_sensors 43 = .ok (.istore_n 1, 1) := dk_60 (dk_at dksX1_sensors_1 23 rfl rfl)
theorem dX1_sensors_44 : decode cX1_sensors 44 = .ok (.goto (-34), 3) := dk_167 255 222 (dk_at dksX1_sensors_2 0 rfl rfl)
theorem dX1_sensors_47 : decode cX1_sensors 47 = .ok (.iload_n 1, 1) := dk_27 (dk_at dksX1_sensors_2 3 rfl rfl)
theorem dX1_sensors_48 : decode cX1_sensors 48 = .ok (.ireturn, 1) := dk_172 (dk_at dksX1_sensors_2 4 rfl rfl)
def dkwX1_oils_1 : List UInt8 := [3, 8, 45, 180, 0, 155, 184, 0, 137, 45, 89, 180, 0, 155, 28, 100, 181, 0, 155, 45, 180, 0, 155, 172]
abbrev dktX1_oils_1 : List UInt8 := dkwX1_oils_1 ++ []
def dkwX1_oils_0 : List UInt8 := [42, 180, 0, 14, 27, 182, 0, 142, 192, 0, 61, 78, 45, 180, 0, 155, 28, 162, 0, 7, 4, 167, 0, 4]
abbrev dktX1_oils_0 : List UInt8 := dkwX1_oils_0 ++ dktX1_oils_1
theorem dksX1_oils_0 : cX1_oils.data.toList.drop 0 = dktX1_oils_0 := by decide +kernel
theorem dksX1_oils_1 : cX1_oils.data.toList.drop 24 = dktX1_oils_1 := dk_seg dksX1_oils_0 24 rfl rfl
theorem dX1_oils_0 : decode cX1_oils 0 = .ok (.aload_n 0, 1) := dk_42 (dk_at dksX1_oils_0 0 rfl rfl)
theorem dX1_oils_1 : decode cX1_oils 1 = .ok (.getfield 14, 3) := dk_180 0 14 (dk_at dksX1_oils_0 1 rfl rfl)
theorem dX1_oils_4 : decode cX1_oils 4 = .ok (.iload_n 1, 1) := dk_27 (dk_at dksX1_oils_0 4 rfl rfl)
theorem dX1_oils_5 : decode cX1_oils 5 = .ok (.invokevirtual 142, 3) := dk_182 0 142 (dk_at dksX1_oils_0 5 rfl rfl)
theorem dX1_oils_8 : decode cX1_oils 8 = .ok (.checkcast 61, 3) := dk_192 0 61 (dk_at dksX1_oils_0 8 rfl rfl)
theorem dX1_oils_11 : decode cX1_oils 11 = .ok (.astore_n 3, 1) := dk_78 (dk_at dksX1_oils_0 11 rfl rfl)
theorem dX1_oils_12 : decode cX1_oils 12 = .ok (.aload_n 3, 1) := dk_45 (dk_at dksX1_oils_0 12 rfl rfl)
theorem dX1_oils_13 : decode cX1_oils 13 = .ok (.getfield 155, 3) := dk_180 0 155 (dk_at dksX1_oils_0 13 rfl rfl)
theorem dX1_oils_16 : decode cX1_oils 16 = .ok (.iload_n 2, 1) := dk_28 (dk_at dksX1_oils_0 16 rfl rfl)
theorem dX1_oils_17 : decode cX1_oils 17 = .ok (.if_icmp .ge 7, 3) := dk_162 0 7 (dk_at dksX1_oils_0 17 rfl rfl)
theorem dX1_oils_20 : decode cX1_oils 20 = .ok (.iconst 1, 1) := dk_4 (dk_at dksX1_oils_0 20 rfl rfl)
theorem dX1_oils_21 : decode cX1_oils 21 = .ok (.goto 4, 3) := dk_167 0 4 (dk_at dksX1_oils_0 21 rfl rfl)
theorem dX1_oils_24 : decode cX1_oils 24 = .ok (.iconst 0, 1) := dk_3 (dk_at dksX1_oils_1 0 rfl rfl)
theorem dX1_oils_25 : decode cX1_oils 25 = .ok (.iconst 5, 1) := dk_8 (dk_at dksX1_oils_1 1 rfl rfl)
theorem dX1_oils_26 : decode cX1_oils 26 = .ok (.aload_n 3, 1) := dk_45 (dk_at dksX1_oils_1 2 rfl rfl)
theorem dX1_oils_27 : decode cX1_oils 27 = .ok (.getfield 155, 3) := dk_180 0 155 (dk_at dksX1_oils_1 3 rfl rfl)
theorem dX1_oils_30 : decode cX1_oils 30 = .ok (.invokestatic 137, 3) := dk_184 0 137 (dk_at dksX1_oils_1 6 rfl rfl)
theorem dX1_oils_33 : decode cX1_oils 33 = .ok (.aload_n 3, 1) := dk_45 (dk_at dksX1_oils_1 9 rfl rfl)
theorem dX1_oils_34 : decode cX1_oils 34 = .ok (.dup, 1) := dk_89 (dk_at dksX1_oils_1 10 rfl rfl)
theorem dX1_oils_35 : decode cX1_oils 35 = .ok (.getfield 155, 3) := dk_180 0 155 (dk_at dksX1_oils_1 11 rfl rfl)
theorem dX1_oils_38 : decode cX1_oils 38 = .ok (.iload_n 2, 1) := dk_28 (dk_at dksX1_oils_1 14 rfl rfl)
theorem dX1_oils_39 : decode cX1_oils 39 = .ok (.isub, 1) := dk_100 (dk_at dksX1_oils_1 15 rfl rfl)
theorem dX1_oils_40 : decode cX1_oils 40 = .ok (.putfield 155, 3) := dk_181 0 155 (dk_at dksX1_oils_1 16 rfl rfl)
theorem dX1_oils_43 : decode cX1_oils 43 = .ok (.aload_n 3, 1) := dk_45 (dk_at dksX1_oils_1 19 rfl rfl)
theorem dX1_oils_44 : decode cX1_oils 44 = .ok (.getfield 155, 3) := dk_180 0 155 (dk_at dksX1_oils_1 20 rfl rfl)
theorem dX1_oils_47 : decode cX1_oils 47 = .ok (.ireturn, 1) := dk_172 (dk_at dksX1_oils_1 23 rfl rfl)
def dkwX1_ofRope_4 : List UInt8 := [167, 0, 14, 42, 27, 182, 0, 179, 167, 0, 6, 17, 252, 12, 172]
abbrev dktX1_ofRope_4 : List UInt8 := dkwX1_ofRope_4 ++ []
def dkwX1_ofRope_3 : List UInt8 := [180, 0, 155, 167, 0, 35, 45, 180, 1, 31, 167, 0, 28, 45, 180, 0, 224, 167, 0, 21, 45, 180, 0, 215]
abbrev dktX1_ofRope_3 : List UInt8 := dkwX1_ofRope_3 ++ dktX1_ofRope_4
def dkwX1_ofRope_2 : List UInt8 := [45, 180, 0, 145, 167, 0, 57, 45, 180, 0, 148, 153, 0, 7, 4, 167, 0, 46, 3, 167, 0, 42, 45]
abbrev dktX1_ofRope_2 : List UInt8 := dkwX1_ofRope_2 ++ dktX1_ofRope_3
def dkwX1_ofRope_1 : List UInt8 := [170, 0, 0, 0, 0, 0, 101, 0, 0, 0, 0, 0, 0, 0, 6, 0, 0, 0, 43, 0, 0, 0, 50, 0, 0, 0, 65, 0, 0, 0, 72, 0, 0, 0, 79, 0, 0, 0, 86, 0, 0, 0, 93]
abbrev dktX1_ofRope_1 : List UInt8 := dkwX1_ofRope_1 ++ dktX1_ofRope_2
def dkwX1_ofRope_0 : List UInt8 := [42, 180, 0, 14, 27, 182, 0, 142, 192, 0, 61, 78, 28]
abbrev dktX1_ofRope_0 : List UInt8 := dkwX1_ofRope_0 ++ dktX1_ofRope_1
theorem dksX1_ofRope_0 : cX1_ofRope.data.toList.drop 0 = dktX1_ofRope_0 := by decide +kernel
theorem dksX1_ofRope_1 : cX1_ofRope.data.toList.drop 13 = dktX1_ofRope_1 := dk_seg dksX1_ofRope_0 13 rfl rfl
theorem dksX1_ofRope_2 : cX1_ofRope.data.toList.drop 56 = dktX1_ofRope_2 := dk_seg dksX1_ofRope_1 43 rfl rfl
theorem dksX1_ofRope_3 : cX1_ofRope.data.toList.drop 79 = dktX1_ofRope_3 := dk_seg dksX1_ofRope_2 23 rfl rfl
theorem dksX1_ofRope_4 : cX1_ofRope.data.toList.drop 103 = dktX1_ofRope_4 := dk_seg dksX1_ofRope_3 24 rfl rfl
theorem dX1_ofRope_0 : decode cX1_ofRope 0 = .ok (.aload_n 0, 1) := dk_42 (dk_at dksX1_ofRope_0 0 rfl rfl)
theorem dX1_ofRope_1 : decode cX1_ofRope 1 = .ok (.getfield 14, 3) := dk_180 0 14 (dk_at dksX1_ofRope_0 1 rfl rfl)
theorem dX1_ofRope_4 : decode cX1_ofRope 4 = .ok (.iload_n 1, 1) := dk_27 (dk_at dksX1_ofRope_0 4 rfl rfl)
theorem dX1_ofRope_5 : decode cX1_ofRope 5 = .ok (.invokevirtual 142, 3) := dk_182 0 142 (dk_at dksX1_ofRope_0 5 rfl rfl)
theorem dX1_ofRope_8 : decode cX1_ofRope 8 = .ok (.checkcast 61, 3) := dk_192 0 61 (dk_at dksX1_ofRope_0 8 rfl rfl)
theorem dX1_ofRope_11 : decode cX1_ofRope 11 = .ok (.astore_n 3, 1) := dk_78 (dk_at dksX1_ofRope_0 11 rfl rfl)
theorem dX1_ofRope_12 : decode cX1_ofRope 12 = .ok (.iload_n 2, 1) := dk_28 (dk_at dksX1_ofRope_0 12 rfl rfl)
theorem dX1_ofRope_13 : decode cX1_ofRope 13 = .ok (.tableswitch 101 0 6 #[43, 50, 65, 72, 79, 86, 93], 43) := by decide +kernel
theorem dX1_ofRope_56 : decode cX1_ofRope 56 = .ok (.aload_n 3, 1) := dk_45 (dk_at dksX1_ofRope_2 0 rfl rfl)
theorem dX1_ofRope_57 : decode cX1_ofRope 57 = .ok (.getfield 145, 3) := dk_180 0 145 (dk_at dksX1_ofRope_2 1 rfl rfl)
theorem dX1_ofRope_60 : decode cX1_ofRope 60 = .ok (.goto 57, 3) := dk_167 0 57 (dk_at dksX1_ofRope_2 4 rfl rfl)
theorem dX1_ofRope_63 : decode cX1_ofRope 63 = .ok (.aload_n 3, 1) := dk_45 (dk_at dksX1_ofRope_2 7 rfl rfl)
theorem dX1_ofRope_64 : decode cX1_ofRope 64 = .ok (.getfield 148, 3) := dk_180 0 148 (dk_at dksX1_ofRope_2 8 rfl rfl)
theorem dX1_ofRope_67 : decode cX1_ofRope 67 = .ok (.ifCond .eq 7, 3) := dk_153 0 7 (dk_at dksX1_ofRope_2 11 rfl rfl)
theorem dX1_ofRope_70 : decode cX1_ofRope 70 = .ok (.iconst 1, 1) := dk_4 (dk_at dksX1_ofRope_2 14 rfl rfl)
theorem dX1_ofRope_71 : decode cX1_ofRope 71 = .ok (.goto 46, 3) := dk_167 0 46 (dk_at dksX1_ofRope_2 15 rfl rfl)
theorem dX1_ofRope_74 : decode cX1_ofRope 74 = .ok (.iconst 0, 1) := dk_3 (dk_at dksX1_ofRope_2 18 rfl rfl)
theorem dX1_ofRope_75 : decode cX1_ofRope 75 = .ok (.goto 42, 3) := dk_167 0 42 (dk_at dksX1_ofRope_2 19 rfl rfl)
theorem dX1_ofRope_78 : decode cX1_ofRope 78 = .ok (.aload_n 3, 1) := dk_45 (dk_at dksX1_ofRope_2 22 rfl rfl)
theorem dX1_ofRope_79 : decode cX1_ofRope 79 = .ok (.getfield 155, 3) := dk_180 0 155 (dk_at dksX1_ofRope_3 0 rfl rfl)
theorem dX1_ofRope_82 : decode cX1_ofRope 82 = .ok (.goto 35, 3) := dk_167 0 35 (dk_at dksX1_ofRope_3 3 rfl rfl)
theorem dX1_ofRope_85 : decode cX1_ofRope 85 = .ok (.aload_n 3, 1) := dk_45 (dk_at dksX1_ofRope_3 6 rfl rfl)
theorem dX1_ofRope_86 : decode cX1_ofRope 86 = .ok (.getfield 287, 3) := dk_180 1 31 (dk_at dksX1_ofRope_3 7 rfl rfl)
theorem dX1_ofRope_89 : decode cX1_ofRope 89 = .ok (.goto 28, 3) := dk_167 0 28 (dk_at dksX1_ofRope_3 10 rfl rfl)
theorem dX1_ofRope_92 : decode cX1_ofRope 92 = .ok (.aload_n 3, 1) := dk_45 (dk_at dksX1_ofRope_3 13 rfl rfl)
theorem dX1_ofRope_93 : decode cX1_ofRope 93 = .ok (.getfield 224, 3) := dk_180 0 224 (dk_at dksX1_ofRope_3 14 rfl rfl)
theorem dX1_ofRope_96 : decode cX1_ofRope 96 = .ok (.goto 21, 3) := dk_167 0 21 (dk_at dksX1_ofRope_3 17 rfl rfl)
theorem dX1_ofRope_99 : decode cX1_ofRope 99 = .ok (.aload_n 3, 1) := dk_45 (dk_at dksX1_ofRope_3 20 rfl rfl)
theorem dX1_ofRope_100 : decode cX1_ofRope 100 = .ok (.getfield 215, 3) := dk_180 0 215 (dk_at dksX1_ofRope_3 21 rfl rfl)
theorem dX1_ofRope_103 : decode cX1_ofRope 103 = .ok (.goto 14, 3) := dk_167 0 14 (dk_at dksX1_ofRope_4 0 rfl rfl)
theorem dX1_ofRope_106 : decode cX1_ofRope 106 = .ok (.aload_n 0, 1) := dk_42 (dk_at dksX1_ofRope_4 3 rfl rfl)
theorem dX1_ofRope_107 : decode cX1_ofRope 107 = .ok (.iload_n 1, 1) := dk_27 (dk_at dksX1_ofRope_4 4 rfl rfl)
theorem dX1_ofRope_108 : decode cX1_ofRope 108 = .ok (.invokevirtual 179, 3) := dk_182 0 179 (dk_at dksX1_ofRope_4 5 rfl rfl)
theorem dX1_ofRope_111 : decode cX1_ofRope 111 = .ok (.goto 6, 3) := dk_167 0 6 (dk_at dksX1_ofRope_4 8 rfl rfl)
theorem dX1_ofRope_114 : decode cX1_ofRope 114 = .ok (.sipush (-1012), 3) := dk_17 252 12 (dk_at dksX1_ofRope_4 11 rfl rfl)
theorem dX1_ofRope_117 : decode cX1_ofRope 117 = .ok (.ireturn, 1) := dk_172 (dk_at dksX1_ofRope_4 14 rfl rfl)
def dkwX1_waitingOf_2 : List UInt8 := [3, 96, 61, 167, 255, 219, 28, 172]
abbrev dktX1_waitingOf_2 : List UInt8 := dkwX1_waitingOf_2 ++ []
def dkwX1_waitingOf_1 : List UInt8 := [185, 0, 57, 1, 0, 192, 0, 72, 58, 4, 28, 25, 4, 180, 0, 176, 27, 160, 0, 7, 4, 167, 0, 4]
abbrev dktX1_waitingOf_1 : List UInt8 := dkwX1_waitingOf_1 ++ dktX1_waitingOf_2
def dkwX1_waitingOf_0 : List UInt8 := [3, 61, 42, 180, 0, 28, 182, 0, 71, 78, 45, 185, 0, 51, 1, 0, 153, 0, 34, 45]
abbrev dktX1_waitingOf_0 : List UInt8 := dkwX1_waitingOf_0 ++ dktX1_waitingOf_1
theorem dksX1_waitingOf_0 : cX1_waitingOf.data.toList.drop 0 = dktX1_waitingOf_0 := by decide +kernel
theorem dksX1_waitingOf_1 : cX1_waitingOf.data.toList.drop 20 = dktX1_waitingOf_1 := dk_seg dksX1_waitingOf_0 20 rfl rfl
theorem dksX1_waitingOf_2 : cX1_waitingOf.data.toList.drop 44 = dktX1_waitingOf_2 := dk_seg dksX1_waitingOf_1 24 rfl rfl
theorem dX1_waitingOf_0 : decode cX1_waitingOf 0 = .ok (.iconst 0, 1) := dk_3 (dk_at dksX1_waitingOf_0 0 rfl rfl)
theorem dX1_waitingOf_1 : decode cX1_waitingOf 1 = .ok (.istore_n 2, 1) := dk_61 (dk_at dksX1_waitingOf_0 1 rfl rfl)
theorem dX1_waitingOf_2 : decode cX1_waitingOf 2 = .ok (.aload_n 0, 1) := dk_42 (dk_at dksX1_waitingOf_0 2 rfl rfl)
theorem dX1_waitingOf_3 : decode cX1_waitingOf 3 = .ok (.getfield 28, 3) := dk_180 0 28 (dk_at dksX1_waitingOf_0 3 rfl rfl)
theorem dX1_waitingOf_6 : decode cX1_waitingOf 6 = .ok (.invokevirtual 71, 3) := dk_182 0 71 (dk_at dksX1_waitingOf_0 6 rfl rfl)
theorem dX1_waitingOf_9 : decode cX1_waitingOf 9 = .ok (.astore_n 3, 1) := dk_78 (dk_at dksX1_waitingOf_0 9 rfl rfl)
theorem dX1_waitingOf_10 : decode cX1_waitingOf 10 = .ok (.aload_n 3, 1) := dk_45 (dk_at dksX1_waitingOf_0 10 rfl rfl)
theorem dX1_waitingOf_11 : decode cX1_waitingOf 11 = .ok (.invokeinterface 51 1, 5) := by decide +kernel
theorem dX1_waitingOf_16 : decode cX1_waitingOf 16 = .ok (.ifCond .eq 34, 3) := dk_153 0 34 (dk_at dksX1_waitingOf_0 16 rfl rfl)
theorem dX1_waitingOf_19 : decode cX1_waitingOf 19 = .ok (.aload_n 3, 1) := dk_45 (dk_at dksX1_waitingOf_0 19 rfl rfl)
theorem dX1_waitingOf_20 : decode cX1_waitingOf 20 = .ok (.invokeinterface 57 1, 5) := by decide +kernel
theorem dX1_waitingOf_25 : decode cX1_waitingOf 25 = .ok (.checkcast 72, 3) := dk_192 0 72 (dk_at dksX1_waitingOf_1 5 rfl rfl)
theorem dX1_waitingOf_28 : decode cX1_waitingOf 28 = .ok (.astore 4, 2) := dk_58 4 (dk_at dksX1_waitingOf_1 8 rfl rfl)
theorem dX1_waitingOf_30 : decode cX1_waitingOf 30 = .ok (.iload_n 2, 1) := dk_28 (dk_at dksX1_waitingOf_1 10 rfl rfl)
theorem dX1_waitingOf_31 : decode cX1_waitingOf 31 = .ok (.aload 4, 2) := dk_25 4 (dk_at dksX1_waitingOf_1 11 rfl rfl)
theorem dX1_waitingOf_33 : decode cX1_waitingOf 33 = .ok (.getfield 176, 3) := dk_180 0 176 (dk_at dksX1_waitingOf_1 13 rfl rfl)
theorem dX1_waitingOf_36 : decode cX1_waitingOf 36 = .ok (.iload_n 1, 1) := dk_27 (dk_at dksX1_waitingOf_1 16 rfl rfl)
theorem dX1_waitingOf_37 : decode cX1_waitingOf 37 = .ok (.if_icmp .ne 7, 3) := dk_160 0 7 (dk_at dksX1_waitingOf_1 17 rfl rfl)
theorem dX1_waitingOf_40 : decode cX1_waitingOf 40 = .ok (.iconst 1, 1) := dk_4 (dk_at dksX1_waitingOf_1 20 rfl rfl)
theorem dX1_waitingOf_41 : decode cX1_waitingOf 41 = .ok (.goto 4, 3) := dk_167 0 4 (dk_at dksX1_waitingOf_1 21 rfl rfl)
theorem dX1_waitingOf_44 : decode cX1_waitingOf 44 = .ok (.iconst 0, 1) := dk_3 (dk_at dksX1_waitingOf_2 0 rfl rfl)
theorem dX1_waitingOf_45 : decode cX1_waitingOf 45 = .ok (.iadd, 1) := dk_96 (dk_at dksX1_waitingOf_2 1 rfl rfl)
theorem dX1_waitingOf_46 : decode cX1_waitingOf 46 = .ok (.istore_n 2, 1) := dk_61 (dk_at dksX1_waitingOf_2 2 rfl rfl)
theorem dX1_waitingOf_47 : decode cX1_waitingOf 47 = .ok (.goto (-37), 3) := dk_167 255 219 (dk_at dksX1_waitingOf_2 3 rfl rfl)
theorem dX1_waitingOf_50 : decode cX1_waitingOf 50 = .ok (.iload_n 2, 1) := dk_28 (dk_at dksX1_waitingOf_2 6 rfl rfl)
theorem dX1_waitingOf_51 : decode cX1_waitingOf 51 = .ok (.ireturn, 1) := dk_172 (dk_at dksX1_waitingOf_2 7 rfl rfl)
def dkwX1_waits_6 : List UInt8 := [4, 167, 0, 4, 3, 96, 54, 5, 167, 255, 212, 21, 5, 172]
abbrev dktX1_waits_6 : List UInt8 := dkwX1_waits_6 ++ []
def dkwX1_waits_5 : List UInt8 := [185, 0, 57, 1, 0, 192, 0, 72, 58, 8, 21, 5, 25, 6, 25, 8, 25, 4, 182, 0, 172, 156, 0, 7]
abbrev dktX1_waits_5 : List UInt8 := dkwX1_waits_5 ++ dktX1_waits_6
def dkwX1_waits_4 : List UInt8 := [58, 6, 42, 180, 0, 28, 182, 0, 71, 58, 7, 25, 7, 185, 0, 51, 1, 0, 153, 0, 40, 25, 7]
abbrev dktX1_waits_4 : List UInt8 := dkwX1_waits_4 ++ dktX1_waits_5
def dkwX1_waits_3 : List UInt8 := [182, 0, 74, 87, 42, 89, 180, 0, 121, 4, 96, 181, 0, 121, 3, 54, 5, 187, 0, 22, 89, 183, 0, 24]
abbrev dktX1_waits_3 : List UInt8 := dkwX1_waits_3 ++ dktX1_waits_4
def dkwX1_waits_2 : List UInt8 := [187, 0, 72, 89, 27, 28, 29, 42, 180, 0, 121, 183, 0, 169, 58, 4, 42, 180, 0, 28, 25, 4]
abbrev dktX1_waits_2 : List UInt8 := dkwX1_waits_2 ++ dktX1_waits_3
def dkwX1_waits_1 : List UInt8 := [180, 0, 28, 182, 0, 168, 16, 16, 160, 0, 7, 4, 167, 0, 4, 3, 4, 16, 16, 184, 0, 137]
abbrev dktX1_waits_1 : List UInt8 := dkwX1_waits_1 ++ dktX1_waits_2
def dkwX1_waits_0 : List UInt8 := [28, 42, 180, 0, 114, 162, 0, 7, 4, 167, 0, 4, 3, 5, 42, 180, 0, 114, 184, 0, 137, 42]
abbrev dktX1_waits_0 : List UInt8 := dkwX1_waits_0 ++ dktX1_waits_1
theorem dksX1_waits_0 : cX1_waits.data.toList.drop 0 = dktX1_waits_0 := by decide +kernel
theorem dksX1_waits_1 : cX1_waits.data.toList.drop 22 = dktX1_waits_1 := dk_seg dksX1_waits_0 22 rfl rfl
theorem dksX1_waits_2 : cX1_waits.data.toList.drop 44 = dktX1_waits_2 := dk_seg dksX1_waits_1 22 rfl rfl
theorem dksX1_waits_3 : cX1_waits.data.toList.drop 66 = dktX1_waits_3 := dk_seg dksX1_waits_2 22 rfl rfl
theorem dksX1_waits_4 : cX1_waits.data.toList.drop 90 = dktX1_waits_4 := dk_seg dksX1_waits_3 24 rfl rfl
theorem dksX1_waits_5 : cX1_waits.data.toList.drop 113 = dktX1_waits_5 := dk_seg dksX1_waits_4 23 rfl rfl
theorem dksX1_waits_6 : cX1_waits.data.toList.drop 137 = dktX1_waits_6 := dk_seg dksX1_waits_5 24 rfl rfl
theorem dX1_waits_0 : decode cX1_waits 0 = .ok (.iload_n 2, 1) := dk_28 (dk_at dksX1_waits_0 0 rfl rfl)
theorem dX1_waits_1 : decode cX1_waits 1 = .ok (.aload_n 0, 1) := dk_42 (dk_at dksX1_waits_0 1 rfl rfl)
theorem dX1_waits_2 : decode cX1_waits 2 = .ok (.getfield 114, 3) := dk_180 0 114 (dk_at dksX1_waits_0 2 rfl rfl)
theorem dX1_waits_5 : decode cX1_waits 5 = .ok (.if_icmp .ge 7, 3) := dk_162 0 7 (dk_at dksX1_waits_0 5 rfl rfl)
theorem dX1_waits_8 : decode cX1_waits 8 = .ok (.iconst 1, 1) := dk_4 (dk_at dksX1_waits_0 8 rfl rfl)
theorem dX1_waits_9 : decode cX1_waits 9 = .ok (.goto 4, 3) := dk_167 0 4 (dk_at dksX1_waits_0 9 rfl rfl)
theorem dX1_waits_12 : decode cX1_waits 12 = .ok (.iconst 0, 1) := dk_3 (dk_at dksX1_waits_0 12 rfl rfl)
theorem dX1_waits_13 : decode cX1_waits 13 = .ok (.iconst 2, 1) := dk_5 (dk_at dksX1_waits_0 13 rfl rfl)
theorem dX1_waits_14 : decode cX1_waits 14 = .ok (.aload_n 0, 1) := dk_42 (dk_at dksX1_waits_0 14 rfl rfl)
theorem dX1_waits_15 : decode cX1_waits 15 = .ok (.getfield 114, 3) := dk_180 0 114 (dk_at dksX1_waits_0 15 rfl rfl)
theorem dX1_waits_18 : decode cX1_waits 18 = .ok (.invokestatic 137, 3) := dk_184 0 137 (dk_at dksX1_waits_0 18 rfl rfl)
theorem dX1_waits_21 : decode cX1_waits 21 = .ok (.aload_n 0, 1) := dk_42 (dk_at dksX1_waits_0 21 rfl rfl)
theorem dX1_waits_22 : decode cX1_waits 22 = .ok (.getfield 28, 3) := dk_180 0 28 (dk_at dksX1_waits_1 0 rfl rfl)
theorem dX1_waits_25 : decode cX1_waits 25 = .ok (.invokevirtual 168, 3) := dk_182 0 168 (dk_at dksX1_waits_1 3 rfl rfl)
theorem dX1_waits_28 : decode cX1_waits 28 = .ok (.bipush 16, 2) := dk_16 16 (dk_at dksX1_waits_1 6 rfl rfl)
theorem dX1_waits_30 : decode cX1_waits 30 = .ok (.if_icmp .ne 7, 3) := dk_160 0 7 (dk_at dksX1_waits_1 8 rfl rfl)
theorem dX1_waits_33 : decode cX1_waits 33 = .ok (.iconst 1, 1) := dk_4 (dk_at dksX1_waits_1 11 rfl rfl)
theorem dX1_waits_34 : decode cX1_waits 34 = .ok (.goto 4, 3) := dk_167 0 4 (dk_at dksX1_waits_1 12 rfl rfl)
theorem dX1_waits_37 : decode cX1_waits 37 = .ok (.iconst 0, 1) := dk_3 (dk_at dksX1_waits_1 15 rfl rfl)
theorem dX1_waits_38 : decode cX1_waits 38 = .ok (.iconst 1, 1) := dk_4 (dk_at dksX1_waits_1 16 rfl rfl)
theorem dX1_waits_39 : decode cX1_waits 39 = .ok (.bipush 16, 2) := dk_16 16 (dk_at dksX1_waits_1 17 rfl rfl)
theorem dX1_waits_41 : decode cX1_waits 41 = .ok (.invokestatic 137, 3) := dk_184 0 137 (dk_at dksX1_waits_1 19 rfl rfl)
theorem dX1_waits_44 : decode cX1_waits 44 = .ok (.new 72, 3) := dk_187 0 72 (dk_at dksX1_waits_2 0 rfl rfl)
theorem dX1_waits_47 : decode cX1_waits 47 = .ok (.dup, 1) := dk_89 (dk_at dksX1_waits_2 3 rfl rfl)
theorem dX1_waits_48 : decode cX1_waits 48 = .ok (.iload_n 1, 1) := dk_27 (dk_at dksX1_waits_2 4 rfl rfl)
theorem dX1_waits_49 : decode cX1_waits 49 = .ok (.iload_n 2, 1) := dk_28 (dk_at dksX1_waits_2 5 rfl rfl)
theorem dX1_waits_50 : decode cX1_waits 50 = .ok (.iload_n 3, 1) := dk_29 (dk_at dksX1_waits_2 6 rfl rfl)
theorem dX1_waits_51 : decode cX1_waits 51 = .ok (.aload_n 0, 1) := dk_42 (dk_at dksX1_waits_2 7 rfl rfl)
theorem dX1_waits_52 : decode cX1_waits 52 = .ok (.getfield 121, 3) := dk_180 0 121 (dk_at dksX1_waits_2 8 rfl rfl)
theorem dX1_waits_55 : decode cX1_waits 55 = .ok (.invokespecial 169, 3) := dk_183 0 169 (dk_at dksX1_waits_2 11 rfl rfl)
theorem dX1_waits_58 : decode cX1_waits 58 = .ok (.astore 4, 2) := dk_58 4 (dk_at dksX1_waits_2 14 rfl rfl)
theorem dX1_waits_60 : decode cX1_waits 60 = .ok (.aload_n 0, 1) := dk_42 (dk_at dksX1_waits_2 16 rfl rfl)
theorem dX1_waits_61 : decode cX1_waits 61 = .ok (.getfield 28, 3) := dk_180 0 28 (dk_at dksX1_waits_2 17 rfl rfl)
theorem dX1_waits_64 : decode cX1_waits 64 = .ok (.aload 4, 2) := dk_25 4 (dk_at dksX1_waits_2 20 rfl rfl)
theorem dX1_waits_66 : decode cX1_waits 66 = .ok (.invokevirtual 74, 3) := dk_182 0 74 (dk_at dksX1_waits_3 0 rfl rfl)
theorem dX1_waits_69 : decode cX1_waits 69 = .ok (.pop, 1) := dk_87 (dk_at dksX1_waits_3 3 rfl rfl)
theorem dX1_waits_70 : decode cX1_waits 70 = .ok (.aload_n 0, 1) := dk_42 (dk_at dksX1_waits_3 4 rfl rfl)
theorem dX1_waits_71 : decode cX1_waits 71 = .ok (.dup, 1) := dk_89 (dk_at dksX1_waits_3 5 rfl rfl)
theorem dX1_waits_72 : decode cX1_waits 72 = .ok (.getfield 121, 3) := dk_180 0 121 (dk_at dksX1_waits_3 6 rfl rfl)
theorem dX1_waits_75 : decode cX1_waits 75 = .ok (.iconst 1, 1) := dk_4 (dk_at dksX1_waits_3 9 rfl rfl)
theorem dX1_waits_76 : decode cX1_waits 76 = .ok (.iadd, 1) := dk_96 (dk_at dksX1_waits_3 10 rfl rfl)
theorem dX1_waits_77 : decode cX1_waits 77 = .ok (.putfield 121, 3) := dk_181 0 121 (dk_at dksX1_waits_3 11 rfl rfl)
theorem dX1_waits_80 : decode cX1_waits 80 = .ok (.iconst 0, 1) := dk_3 (dk_at dksX1_waits_3 14 rfl rfl)
theorem dX1_waits_81 : decode cX1_waits 81 = .ok (.istore 5, 2) := dk_54 5 (dk_at dksX1_waits_3 15 rfl rfl)
theorem dX1_waits_83 : decode cX1_waits 83 = .ok (.new 22, 3) := dk_187 0 22 (dk_at dksX1_waits_3 17 rfl rfl)
theorem dX1_waits_86 : decode cX1_waits 86 = .ok (.dup, 1) := dk_89 (dk_at dksX1_waits_3 20 rfl rfl)
theorem dX1_waits_87 : decode cX1_waits 87 = .ok (.invokespecial 24, 3) := dk_183 0 24 (dk_at dksX1_waits_3 21 rfl rfl)
theorem dX1_waits_90 : decode cX1_waits 90 = .ok (.astore 6, 2) := dk_58 6 (dk_at dksX1_waits_4 0 rfl rfl)
theorem dX1_waits_92 : decode cX1_waits 92 = .ok (.aload_n 0, 1) := dk_42 (dk_at dksX1_waits_4 2 rfl rfl)
theorem dX1_waits_93 : decode cX1_waits 93 = .ok (.getfield 28, 3) := dk_180 0 28 (dk_at dksX1_waits_4 3 rfl rfl)
theorem dX1_waits_96 : decode cX1_waits 96 = .ok (.invokevirtual 71, 3) := dk_182 0 71 (dk_at dksX1_waits_4 6 rfl rfl)
theorem dX1_waits_99 : decode cX1_waits 99 = .ok (.astore 7, 2) := dk_58 7 (dk_at dksX1_waits_4 9 rfl rfl)
theorem dX1_waits_101 : decode cX1_waits 101 = .ok (.aload 7, 2) := dk_25 7 (dk_at dksX1_waits_4 11 rfl rfl)
theorem dX1_waits_103 : decode cX1_waits 103 = .ok (.invokeinterface 51 1, 5) := by decide +kernel
theorem dX1_waits_108 : decode cX1_waits 108 = .ok (.ifCond .eq 40, 3) := dk_153 0 40 (dk_at dksX1_waits_4 18 rfl rfl)
theorem dX1_waits_111 : decode cX1_waits 111 = .ok (.aload 7, 2) := dk_25 7 (dk_at dksX1_waits_4 21 rfl rfl)
theorem dX1_waits_113 : decode cX1_waits 113 = .ok (.invokeinterface 57 1, 5) := by decide +kernel
theorem dX1_waits_118 : decode cX1_waits 118 = .ok (.checkcast 72, 3) := dk_192 0 72 (dk_at dksX1_waits_5 5 rfl rfl)
theorem dX1_waits_121 : decode cX1_waits 121 = .ok (.astore 8, 2) := dk_58 8 (dk_at dksX1_waits_5 8 rfl rfl)
theorem dX1_waits_123 : decode cX1_waits 123 = .ok (.iload 5, 2) := dk_21 5 (dk_at dksX1_waits_5 10 rfl rfl)
theorem dX1_waits_125 : decode cX1_waits 125 = .ok (.aload 6, 2) := dk_25 6 (dk_at dksX1_waits_5 12 rfl rfl)
theorem dX1_waits_127 : decode cX1_waits 127 = .ok (.aload 8, 2) := dk_25 8 (dk_at dksX1_waits_5 14 rfl rfl)
theorem dX1_waits_129 : decode cX1_waits 129 = .ok (.aload 4, 2) := dk_25 4 (dk_at dksX1_waits_5 16 rfl rfl)
theorem dX1_waits_131 : decode cX1_waits 131 = .ok (.invokevirtual 172, 3) := dk_182 0 172 (dk_at dksX1_waits_5 18 rfl rfl)
theorem dX1_waits_134 : decode cX1_waits 134 = .ok (.ifCond .ge 7, 3) := dk_156 0 7 (dk_at dksX1_waits_5 21 rfl rfl)
theorem dX1_waits_137 : decode cX1_waits 137 = .ok (.iconst 1, 1) := dk_4 (dk_at dksX1_waits_6 0 rfl rfl)
theorem dX1_waits_138 : decode cX1_waits 138 = .ok (.goto 4, 3) := dk_167 0 4 (dk_at dksX1_waits_6 1 rfl rfl)
theorem dX1_waits_141 : decode cX1_waits 141 = .ok (.iconst 0, 1) := dk_3 (dk_at dksX1_waits_6 4 rfl rfl)
theorem dX1_waits_142 : decode cX1_waits 142 = .ok (.iadd, 1) := dk_96 (dk_at dksX1_waits_6 5 rfl rfl)
theorem dX1_waits_143 : decode cX1_waits 143 = .ok (.istore 5, 2) := dk_54 5 (dk_at dksX1_waits_6 6 rfl rfl)
theorem dX1_waits_145 : decode cX1_waits 145 = .ok (.goto (-44), 3) := dk_167 255 212 (dk_at dksX1_waits_6 8 rfl rfl)
theorem dX1_waits_148 : decode cX1_waits 148 = .ok (.iload 5, 2) := dk_21 5 (dk_at dksX1_waits_6 11 rfl rfl)
theorem dX1_waits_150 : decode cX1_waits 150 = .ok (.ireturn, 1) := dk_172 (dk_at dksX1_waits_6 13 rfl rfl)
def dkwX1_cancels_4 : List UInt8 := [182, 0, 168, 172]
abbrev dktX1_cancels_4 : List UInt8 := dkwX1_cancels_4 ++ []
def dkwX1_cancels_3 : List UInt8 := [181, 0, 127, 167, 0, 12, 42, 180, 0, 28, 45, 182, 0, 74, 87, 167, 255, 211, 42, 180, 0, 28]
abbrev dktX1_cancels_3 : List UInt8 := dkwX1_cancels_3 ++ dktX1_cancels_4
def dkwX1_cancels_2 : List UInt8 := [182, 0, 191, 192, 0, 72, 78, 45, 180, 0, 176, 27, 160, 0, 16, 42, 89, 180, 0, 127, 4, 96]
abbrev dktX1_cancels_2 : List UInt8 := dkwX1_cancels_2 ++ dktX1_cancels_3
def dkwX1_cancels_1 : List UInt8 := [184, 0, 137, 42, 182, 0, 183, 77, 42, 180, 0, 28, 182, 0, 187, 44, 182, 0, 190, 154, 0, 44, 44]
abbrev dktX1_cancels_1 : List UInt8 := dkwX1_cancels_1 ++ dktX1_cancels_2
def dkwX1_cancels_0 : List UInt8 := [42, 27, 182, 0, 179, 154, 0, 7, 4, 167, 0, 4, 3, 16, 6, 42, 180, 0, 28, 182, 0, 168]
abbrev dktX1_cancels_0 : List UInt8 := dkwX1_cancels_0 ++ dktX1_cancels_1
theorem dksX1_cancels_0 : cX1_cancels.data.toList.drop 0 = dktX1_cancels_0 := by decide +kernel
theorem dksX1_cancels_1 : cX1_cancels.data.toList.drop 22 = dktX1_cancels_1 := dk_seg dksX1_cancels_0 22 rfl rfl
theorem dksX1_cancels_2 : cX1_cancels.data.toList.drop 45 = dktX1_cancels_2 := dk_seg dksX1_cancels_1 23 rfl rfl
theorem dksX1_cancels_3 : cX1_cancels.data.toList.drop 67 = dktX1_cancels_3 := dk_seg dksX1_cancels_2 22 rfl rfl
theorem dksX1_cancels_4 : cX1_cancels.data.toList.drop 89 = dktX1_cancels_4 := dk_seg dksX1_cancels_3 22 rfl rfl
theorem dX1_cancels_0 : decode cX1_cancels 0 = .ok (.aload_n 0, 1) := dk_42 (dk_at dksX1_cancels_0 0 rfl rfl)
theorem dX1_cancels_1 : decode cX1_cancels 1 = .ok (.iload_n 1, 1) := dk_27 (dk_at dksX1_cancels_0 1 rfl rfl)
theorem dX1_cancels_2 : decode cX1_cancels 2 = .ok (.invokevirtual 179, 3) := dk_182 0 179 (dk_at dksX1_cancels_0 2 rfl rfl)
theorem dX1_cancels_5 : decode cX1_cancels 5 = .ok (.ifCond .ne 7, 3) := dk_154 0 7 (dk_at dksX1_cancels_0 5 rfl rfl)
theorem dX1_cancels_8 : decode cX1_cancels 8 = .ok (.iconst 1, 1) := dk_4 (dk_at dksX1_cancels_0 8 rfl rfl)
theorem dX1_cancels_9 : decode cX1_cancels 9 = .ok (.goto 4, 3) := dk_167 0 4 (dk_at dksX1_cancels_0 9 rfl rfl)
theorem dX1_cancels_12 : decode cX1_cancels 12 = .ok (.iconst 0, 1) := dk_3 (dk_at dksX1_cancels_0 12 rfl rfl)
theorem dX1_cancels_13 : decode cX1_cancels 13 = .ok (.bipush 6, 2) := dk_16 6 (dk_at dksX1_cancels_0 13 rfl rfl)
theorem dX1_cancels_15 : decode cX1_cancels 15 = .ok (.aload_n 0, 1) := dk_42 (dk_at dksX1_cancels_0 15 rfl rfl)
theorem dX1_cancels_16 : decode cX1_cancels 16 = .ok (.getfield 28, 3) := dk_180 0 28 (dk_at dksX1_cancels_0 16 rfl rfl)
theorem dX1_cancels_19 : decode cX1_cancels 19 = .ok (.invokevirtual 168, 3) := dk_182 0 168 (dk_at dksX1_cancels_0 19 rfl rfl)
theorem dX1_cancels_22 : decode cX1_cancels 22 = .ok (.invokestatic 137, 3) := dk_184 0 137 (dk_at dksX1_cancels_1 0 rfl rfl)
theorem dX1_cancels_25 : decode cX1_cancels 25 = .ok (.aload_n 0, 1) := dk_42 (dk_at dksX1_cancels_1 3 rfl rfl)
theorem dX1_cancels_26 : decode cX1_cancels 26 = .ok (.invokevirtual 183, 3) := dk_182 0 183 (dk_at dksX1_cancels_1 4 rfl rfl)
theorem dX1_cancels_29 : decode cX1_cancels 29 = .ok (.astore_n 2, 1) := dk_77 (dk_at dksX1_cancels_1 7 rfl rfl)
theorem dX1_cancels_30 : decode cX1_cancels 30 = .ok (.aload_n 0, 1) := dk_42 (dk_at dksX1_cancels_1 8 rfl rfl)
theorem dX1_cancels_31 : decode cX1_cancels 31 = .ok (.getfield 28, 3) := dk_180 0 28 (dk_at dksX1_cancels_1 9 rfl rfl)
theorem dX1_cancels_34 : decode cX1_cancels 34 = .ok (.invokevirtual 187, 3) := dk_182 0 187 (dk_at dksX1_cancels_1 12 rfl rfl)
theorem dX1_cancels_37 : decode cX1_cancels 37 = .ok (.aload_n 2, 1) := dk_44 (dk_at dksX1_cancels_1 15 rfl rfl)
theorem dX1_cancels_38 : decode cX1_cancels 38 = .ok (.invokevirtual 190, 3) := dk_182 0 190 (dk_at dksX1_cancels_1 16 rfl rfl)
theorem dX1_cancels_41 : decode cX1_cancels 41 = .ok (.ifCond .ne 44, 3) := dk_154 0 44 (dk_at dksX1_cancels_1 19 rfl rfl)
theorem dX1_cancels_44 : decode cX1_cancels 44 = .ok (.aload_n 2, 1) := dk_44 (dk_at dksX1_cancels_1 22 rfl rfl)
theorem dX1_cancels_45 : decode cX1_cancels 45 = .ok (.invokevirtual 191, 3) := dk_182 0 191 (dk_at dksX1_cancels_2 0 rfl rfl)
theorem dX1_cancels_48 : decode cX1_cancels 48 = .ok (.checkcast 72, 3) := dk_192 0 72 (dk_at dksX1_cancels_2 3 rfl rfl)
theorem dX1_cancels_51 : decode cX1_cancels 51 = .ok (.astore_n 3, 1) := dk_78 (dk_at dksX1_cancels_2 6 rfl rfl)
theorem dX1_cancels_52 : decode cX1_cancels 52 = .ok (.aload_n 3, 1) := dk_45 (dk_at dksX1_cancels_2 7 rfl rfl)
theorem dX1_cancels_53 : decode cX1_cancels 53 = .ok (.getfield 176, 3) := dk_180 0 176 (dk_at dksX1_cancels_2 8 rfl rfl)
theorem dX1_cancels_56 : decode cX1_cancels 56 = .ok (.iload_n 1, 1) := dk_27 (dk_at dksX1_cancels_2 11 rfl rfl)
theorem dX1_cancels_57 : decode cX1_cancels 57 = .ok (.if_icmp .ne 16, 3) := dk_160 0 16 (dk_at dksX1_cancels_2 12 rfl rfl)
theorem dX1_cancels_60 : decode cX1_cancels 60 = .ok (.aload_n 0, 1) := dk_42 (dk_at dksX1_cancels_2 15 rfl rfl)
theorem dX1_cancels_61 : decode cX1_cancels 61 = .ok (.dup, 1) := dk_89 (dk_at dksX1_cancels_2 16 rfl rfl)
theorem dX1_cancels_62 : decode cX1_cancels 62 = .ok (.getfield 127, 3) := dk_180 0 127 (dk_at dksX1_cancels_2 17 rfl rfl)
theorem dX1_cancels_65 : decode cX1_cancels 65 = .ok (.iconst 1, 1) := dk_4 (dk_at dksX1_cancels_2 20 rfl rfl)
theorem dX1_cancels_66 : decode cX1_cancels 66 = .ok (.iadd, 1) := dk_96 (dk_at dksX1_cancels_2 21 rfl rfl)
theorem dX1_cancels_67 : decode cX1_cancels 67 = .ok (.putfield 127, 3) := dk_181 0 127 (dk_at dksX1_cancels_3 0 rfl rfl)
theorem dX1_cancels_70 : decode cX1_cancels 70 = .ok (.goto 12, 3) := dk_167 0 12 (dk_at dksX1_cancels_3 3 rfl rfl)
theorem dX1_cancels_73 : decode cX1_cancels 73 = .ok (.aload_n 0, 1) := dk_42 (dk_at dksX1_cancels_3 6 rfl rfl)
theorem dX1_cancels_74 : decode cX1_cancels 74 = .ok (.getfield 28, 3) := dk_180 0 28 (dk_at dksX1_cancels_3 7 rfl rfl)
theorem dX1_cancels_77 : decode cX1_cancels 77 = .ok (.aload_n 3, 1) := dk_45 (dk_at dksX1_cancels_3 10 rfl rfl)
theorem dX1_cancels_78 : decode cX1_cancels 78 = .ok (.invokevirtual 74, 3) := dk_182 0 74 (dk_at dksX1_cancels_3 11 rfl rfl)
theorem dX1_cancels_81 : decode cX1_cancels 81 = .ok (.pop, 1) := dk_87 (dk_at dksX1_cancels_3 14 rfl rfl)
theorem dX1_cancels_82 : decode cX1_cancels 82 = .ok (.goto (-45), 3) := dk_167 255 211 (dk_at dksX1_cancels_3 15 rfl rfl)
theorem dX1_cancels_85 : decode cX1_cancels 85 = .ok (.aload_n 0, 1) := dk_42 (dk_at dksX1_cancels_3 18 rfl rfl)
theorem dX1_cancels_86 : decode cX1_cancels 86 = .ok (.getfield 28, 3) := dk_180 0 28 (dk_at dksX1_cancels_3 19 rfl rfl)
theorem dX1_cancels_89 : decode cX1_cancels 89 = .ok (.invokevirtual 168, 3) := dk_182 0 168 (dk_at dksX1_cancels_4 0 rfl rfl)
theorem dX1_cancels_92 : decode cX1_cancels 92 = .ok (.ireturn, 1) := dk_172 (dk_at dksX1_cancels_4 3 rfl rfl)
def dkwX1_inOrder_3 : List UInt8 := [192, 0, 72, 182, 0, 167, 167, 255, 238, 44, 176]
abbrev dktX1_inOrder_3 : List UInt8 := dkwX1_inOrder_3 ++ []
def dkwX1_inOrder_2 : List UInt8 := [167, 255, 231, 187, 0, 158, 89, 183, 0, 160, 77, 43, 182, 0, 161, 154, 0, 17, 44, 43, 182, 0, 164]
abbrev dktX1_inOrder_2 : List UInt8 := dkwX1_inOrder_2 ++ dktX1_inOrder_3
def dkwX1_inOrder_1 : List UInt8 := [185, 0, 51, 1, 0, 153, 0, 22, 44, 185, 0, 57, 1, 0, 192, 0, 72, 78, 43, 45, 182, 0, 74, 87]
abbrev dktX1_inOrder_1 : List UInt8 := dkwX1_inOrder_1 ++ dktX1_inOrder_2
def dkwX1_inOrder_0 : List UInt8 := [187, 0, 20, 89, 187, 0, 22, 89, 183, 0, 24, 183, 0, 25, 76, 42, 180, 0, 28, 182, 0, 71, 77, 44]
abbrev dktX1_inOrder_0 : List UInt8 := dkwX1_inOrder_0 ++ dktX1_inOrder_1
theorem dksX1_inOrder_0 : cX1_inOrder.data.toList.drop 0 = dktX1_inOrder_0 := by decide +kernel
theorem dksX1_inOrder_1 : cX1_inOrder.data.toList.drop 24 = dktX1_inOrder_1 := dk_seg dksX1_inOrder_0 24 rfl rfl
theorem dksX1_inOrder_2 : cX1_inOrder.data.toList.drop 48 = dktX1_inOrder_2 := dk_seg dksX1_inOrder_1 24 rfl rfl
theorem dksX1_inOrder_3 : cX1_inOrder.data.toList.drop 71 = dktX1_inOrder_3 := dk_seg dksX1_inOrder_2 23 rfl rfl
theorem dX1_inOrder_0 : decode cX1_inOrder 0 = .ok (.new 20, 3) := dk_187 0 20 (dk_at dksX1_inOrder_0 0 rfl rfl)
theorem dX1_inOrder_3 : decode cX1_inOrder 3 = .ok (.dup, 1) := dk_89 (dk_at dksX1_inOrder_0 3 rfl rfl)
theorem dX1_inOrder_4 : decode cX1_inOrder 4 = .ok (.new 22, 3) := dk_187 0 22 (dk_at dksX1_inOrder_0 4 rfl rfl)
theorem dX1_inOrder_7 : decode cX1_inOrder 7 = .ok (.dup, 1) := dk_89 (dk_at dksX1_inOrder_0 7 rfl rfl)
theorem dX1_inOrder_8 : decode cX1_inOrder 8 = .ok (.invokespecial 24, 3) := dk_183 0 24 (dk_at dksX1_inOrder_0 8 rfl rfl)
theorem dX1_inOrder_11 : decode cX1_inOrder 11 = .ok (.invokespecial 25, 3) := dk_183 0 25 (dk_at dksX1_inOrder_0 11 rfl rfl)
theorem dX1_inOrder_14 : decode cX1_inOrder 14 = .ok (.astore_n 1, 1) := dk_76 (dk_at dksX1_inOrder_0 14 rfl rfl)
theorem dX1_inOrder_15 : decode cX1_inOrder 15 = .ok (.aload_n 0, 1) := dk_42 (dk_at dksX1_inOrder_0 15 rfl rfl)
theorem dX1_inOrder_16 : decode cX1_inOrder 16 = .ok (.getfield 28, 3) := dk_180 0 28 (dk_at dksX1_inOrder_0 16 rfl rfl)
theorem dX1_inOrder_19 : decode cX1_inOrder 19 = .ok (.invokevirtual 71, 3) := dk_182 0 71 (dk_at dksX1_inOrder_0 19 rfl rfl)
theorem dX1_inOrder_22 : decode cX1_inOrder 22 = .ok (.astore_n 2, 1) := dk_77 (dk_at dksX1_inOrder_0 22 rfl rfl)
theorem dX1_inOrder_23 : decode cX1_inOrder 23 = .ok (.aload_n 2, 1) := dk_44 (dk_at dksX1_inOrder_0 23 rfl rfl)
theorem dX1_inOrder_24 : decode cX1_inOrder 24 = .ok (.invokeinterface 51 1, 5) := by decide +kernel
theorem dX1_inOrder_29 : decode cX1_inOrder 29 = .ok (.ifCond .eq 22, 3) := dk_153 0 22 (dk_at dksX1_inOrder_1 5 rfl rfl)
theorem dX1_inOrder_32 : decode cX1_inOrder 32 = .ok (.aload_n 2, 1) := dk_44 (dk_at dksX1_inOrder_1 8 rfl rfl)
theorem dX1_inOrder_33 : decode cX1_inOrder 33 = .ok (.invokeinterface 57 1, 5) := by decide +kernel
theorem dX1_inOrder_38 : decode cX1_inOrder 38 = .ok (.checkcast 72, 3) := dk_192 0 72 (dk_at dksX1_inOrder_1 14 rfl rfl)
theorem dX1_inOrder_41 : decode cX1_inOrder 41 = .ok (.astore_n 3, 1) := dk_78 (dk_at dksX1_inOrder_1 17 rfl rfl)
theorem dX1_inOrder_42 : decode cX1_inOrder 42 = .ok (.aload_n 1, 1) := dk_43 (dk_at dksX1_inOrder_1 18 rfl rfl)
theorem dX1_inOrder_43 : decode cX1_inOrder 43 = .ok (.aload_n 3, 1) := dk_45 (dk_at dksX1_inOrder_1 19 rfl rfl)
theorem dX1_inOrder_44 : decode cX1_inOrder 44 = .ok (.invokevirtual 74, 3) := dk_182 0 74 (dk_at dksX1_inOrder_1 20 rfl rfl)
theorem dX1_inOrder_47 : decode cX1_inOrder 47 = .ok (.pop, 1) := dk_87 (dk_at dksX1_inOrder_1 23 rfl rfl)
theorem dX1_inOrder_48 : decode cX1_inOrder 48 = .ok (.goto (-25), 3) := dk_167 255 231 (dk_at dksX1_inOrder_2 0 rfl rfl)
theorem dX1_inOrder_51 : decode cX1_inOrder 51 = .ok (.new 158, 3) := dk_187 0 158 (dk_at dksX1_inOrder_2 3 rfl rfl)
theorem dX1_inOrder_54 : decode cX1_inOrder 54 = .ok (.dup, 1) := dk_89 (dk_at dksX1_inOrder_2 6 rfl rfl)
theorem dX1_inOrder_55 : decode cX1_inOrder 55 = .ok (.invokespecial 160, 3) := dk_183 0 160 (dk_at dksX1_inOrder_2 7 rfl rfl)
theorem dX1_inOrder_58 : decode cX1_inOrder 58 = .ok (.astore_n 2, 1) := dk_77 (dk_at dksX1_inOrder_2 10 rfl rfl)
theorem dX1_inOrder_59 : decode cX1_inOrder 59 = .ok (.aload_n 1, 1) := dk_43 (dk_at dksX1_inOrder_2 11 rfl rfl)
theorem dX1_inOrder_60 : decode cX1_inOrder 60 = .ok (.invokevirtual 161, 3) := dk_182 0 161 (dk_at dksX1_inOrder_2 12 rfl rfl)
theorem dX1_inOrder_63 : decode cX1_inOrder 63 = .ok (.ifCond .ne 17, 3) := dk_154 0 17 (dk_at dksX1_inOrder_2 15 rfl rfl)
theorem dX1_inOrder_66 : decode cX1_inOrder 66 = .ok (.aload_n 2, 1) := dk_44 (dk_at dksX1_inOrder_2 18 rfl rfl)
theorem dX1_inOrder_67 : decode cX1_inOrder 67 = .ok (.aload_n 1, 1) := dk_43 (dk_at dksX1_inOrder_2 19 rfl rfl)
theorem dX1_inOrder_68 : decode cX1_inOrder 68 = .ok (.invokevirtual 164, 3) := dk_182 0 164 (dk_at dksX1_inOrder_2 20 rfl rfl)
theorem dX1_inOrder_71 : decode cX1_inOrder 71 = .ok (.checkcast 72, 3) := dk_192 0 72 (dk_at dksX1_inOrder_3 0 rfl rfl)
theorem dX1_inOrder_74 : decode cX1_inOrder 74 = .ok (.invokevirtual 167, 3) := dk_182 0 167 (dk_at dksX1_inOrder_3 3 rfl rfl)
theorem dX1_inOrder_77 : decode cX1_inOrder 77 = .ok (.goto (-18), 3) := dk_167 255 238 (dk_at dksX1_inOrder_3 6 rfl rfl)
theorem dX1_inOrder_80 : decode cX1_inOrder 80 = .ok (.aload_n 2, 1) := dk_44 (dk_at dksX1_inOrder_3 9 rfl rfl)
theorem dX1_inOrder_81 : decode cX1_inOrder 81 = .ok (.areturn, 1) := dk_176 (dk_at dksX1_inOrder_3 10 rfl rfl)
def dkwX1_ringsNext_0 : List UInt8 := [42, 180, 0, 28, 182, 0, 161, 6, 42, 180, 0, 124, 184, 0, 137, 42, 182, 0, 233, 172]
abbrev dktX1_ringsNext_0 : List UInt8 := dkwX1_ringsNext_0 ++ []
theorem dksX1_ringsNext_0 : cX1_ringsNext.data.toList.drop 0 = dktX1_ringsNext_0 := by decide +kernel
theorem dX1_ringsNext_0 : decode cX1_ringsNext 0 = .ok (.aload_n 0, 1) := dk_42 (dk_at dksX1_ringsNext_0 0 rfl rfl)
theorem dX1_ringsNext_1 : decode cX1_ringsNext 1 = .ok (.getfield 28, 3) := dk_180 0 28 (dk_at dksX1_ringsNext_0 1 rfl rfl)
theorem dX1_ringsNext_4 : decode cX1_ringsNext 4 = .ok (.invokevirtual 161, 3) := dk_182 0 161 (dk_at dksX1_ringsNext_0 4 rfl rfl)
theorem dX1_ringsNext_7 : decode cX1_ringsNext 7 = .ok (.iconst 3, 1) := dk_6 (dk_at dksX1_ringsNext_0 7 rfl rfl)
theorem dX1_ringsNext_8 : decode cX1_ringsNext 8 = .ok (.aload_n 0, 1) := dk_42 (dk_at dksX1_ringsNext_0 8 rfl rfl)
theorem dX1_ringsNext_9 : decode cX1_ringsNext 9 = .ok (.getfield 124, 3) := dk_180 0 124 (dk_at dksX1_ringsNext_0 9 rfl rfl)
theorem dX1_ringsNext_12 : decode cX1_ringsNext 12 = .ok (.invokestatic 137, 3) := dk_184 0 137 (dk_at dksX1_ringsNext_0 12 rfl rfl)
theorem dX1_ringsNext_15 : decode cX1_ringsNext 15 = .ok (.aload_n 0, 1) := dk_42 (dk_at dksX1_ringsNext_0 15 rfl rfl)
theorem dX1_ringsNext_16 : decode cX1_ringsNext 16 = .ok (.invokevirtual 233, 3) := dk_182 0 233 (dk_at dksX1_ringsNext_0 16 rfl rfl)
theorem dX1_ringsNext_19 : decode cX1_ringsNext 19 = .ok (.ireturn, 1) := dk_172 (dk_at dksX1_ringsNext_0 19 rfl rfl)
def dkwX1_rings_4 : List UInt8 := [181, 0, 224, 3, 172, 44, 182, 0, 227, 42, 43, 182, 0, 229, 4, 172]
abbrev dktX1_rings_4 : List UInt8 := dkwX1_rings_4 ++ []
def dkwX1_rings_3 : List UInt8 := [181, 0, 215, 5, 172, 44, 43, 180, 0, 218, 182, 0, 221, 154, 0, 15, 44, 89, 180, 0, 224, 4, 96]
abbrev dktX1_rings_3 : List UInt8 := dkwX1_rings_3 ++ dktX1_rings_4
def dkwX1_rings_2 : List UInt8 := [180, 0, 114, 182, 0, 205, 43, 180, 0, 176, 182, 0, 212, 153, 0, 15, 44, 89, 180, 0, 215, 4, 96]
abbrev dktX1_rings_2 : List UInt8 := dkwX1_rings_2 ++ dktX1_rings_3
def dkwX1_rings_1 : List UInt8 := [192, 0, 61, 77, 42, 43, 180, 0, 204, 181, 0, 114, 42, 89, 180, 0, 124, 4, 96, 181, 0, 124, 42, 42]
abbrev dktX1_rings_1 : List UInt8 := dkwX1_rings_1 ++ dktX1_rings_2
def dkwX1_rings_0 : List UInt8 := [42, 180, 0, 28, 182, 0, 164, 192, 0, 72, 76, 42, 180, 0, 14, 43, 180, 0, 176, 182, 0, 142]
abbrev dktX1_rings_0 : List UInt8 := dkwX1_rings_0 ++ dktX1_rings_1
theorem dksX1_rings_0 : cX1_rings.data.toList.drop 0 = dktX1_rings_0 := by decide +kernel
theorem dksX1_rings_1 : cX1_rings.data.toList.drop 22 = dktX1_rings_1 := dk_seg dksX1_rings_0 22 rfl rfl
theorem dksX1_rings_2 : cX1_rings.data.toList.drop 46 = dktX1_rings_2 := dk_seg dksX1_rings_1 24 rfl rfl
theorem dksX1_rings_3 : cX1_rings.data.toList.drop 69 = dktX1_rings_3 := dk_seg dksX1_rings_2 23 rfl rfl
theorem dksX1_rings_4 : cX1_rings.data.toList.drop 92 = dktX1_rings_4 := dk_seg dksX1_rings_3 23 rfl rfl
theorem dX1_rings_0 : decode cX1_rings 0 = .ok (.aload_n 0, 1) := dk_42 (dk_at dksX1_rings_0 0 rfl rfl)
theorem dX1_rings_1 : decode cX1_rings 1 = .ok (.getfield 28, 3) := dk_180 0 28 (dk_at dksX1_rings_0 1 rfl rfl)
theorem dX1_rings_4 : decode cX1_rings 4 = .ok (.invokevirtual 164, 3) := dk_182 0 164 (dk_at dksX1_rings_0 4 rfl rfl)
theorem dX1_rings_7 : decode cX1_rings 7 = .ok (.checkcast 72, 3) := dk_192 0 72 (dk_at dksX1_rings_0 7 rfl rfl)
theorem dX1_rings_10 : decode cX1_rings 10 = .ok (.astore_n 1, 1) := dk_76 (dk_at dksX1_rings_0 10 rfl rfl)
theorem dX1_rings_11 : decode cX1_rings 11 = .ok (.aload_n 0, 1) := dk_42 (dk_at dksX1_rings_0 11 rfl rfl)
theorem dX1_rings_12 : decode cX1_rings 12 = .ok (.getfield 14, 3) := dk_180 0 14 (dk_at dksX1_rings_0 12 rfl rfl)
theorem dX1_rings_15 : decode cX1_rings 15 = .ok (.aload_n 1, 1) := dk_43 (dk_at dksX1_rings_0 15 rfl rfl)
theorem dX1_rings_16 : decode cX1_rings 16 = .ok (.getfield 176, 3) := dk_180 0 176 (dk_at dksX1_rings_0 16 rfl rfl)
theorem dX1_rings_19 : decode cX1_rings 19 = .ok (.invokevirtual 142, 3) := dk_182 0 142 (dk_at dksX1_rings_0 19 rfl rfl)
theorem dX1_rings_22 : decode cX1_rings 22 = .ok (.checkcast 61, 3) := dk_192 0 61 (dk_at dksX1_rings_1 0 rfl rfl)
theorem dX1_rings_25 : decode cX1_rings 25 = .ok (.astore_n 2, 1) := dk_77 (dk_at dksX1_rings_1 3 rfl rfl)
theorem dX1_rings_26 : decode cX1_rings 26 = .ok (.aload_n 0, 1) := dk_42 (dk_at dksX1_rings_1 4 rfl rfl)
theorem dX1_rings_27 : decode cX1_rings 27 = .ok (.aload_n 1, 1) := dk_43 (dk_at dksX1_rings_1 5 rfl rfl)
theorem dX1_rings_28 : decode cX1_rings 28 = .ok (.getfield 204, 3) := dk_180 0 204 (dk_at dksX1_rings_1 6 rfl rfl)
theorem dX1_rings_31 : decode cX1_rings 31 = .ok (.putfield 114, 3) := dk_181 0 114 (dk_at dksX1_rings_1 9 rfl rfl)
theorem dX1_rings_34 : decode cX1_rings 34 = .ok (.aload_n 0, 1) := dk_42 (dk_at dksX1_rings_1 12 rfl rfl)
theorem dX1_rings_35 : decode cX1_rings 35 = .ok (.dup, 1) := dk_89 (dk_at dksX1_rings_1 13 rfl rfl)
theorem dX1_rings_36 : decode cX1_rings 36 = .ok (.getfield 124, 3) := dk_180 0 124 (dk_at dksX1_rings_1 14 rfl rfl)
theorem dX1_rings_39 : decode cX1_rings 39 = .ok (.iconst 1, 1) := dk_4 (dk_at dksX1_rings_1 17 rfl rfl)
theorem dX1_rings_40 : decode cX1_rings 40 = .ok (.iadd, 1) := dk_96 (dk_at dksX1_rings_1 18 rfl rfl)
theorem dX1_rings_41 : decode cX1_rings 41 = .ok (.putfield 124, 3) := dk_181 0 124 (dk_at dksX1_rings_1 19 rfl rfl)
theorem dX1_rings_44 : decode cX1_rings 44 = .ok (.aload_n 0, 1) := dk_42 (dk_at dksX1_rings_1 22 rfl rfl)
theorem dX1_rings_45 : decode cX1_rings 45 = .ok (.aload_n 0, 1) := dk_42 (dk_at dksX1_rings_1 23 rfl rfl)
theorem dX1_rings_46 : decode cX1_rings 46 = .ok (.getfield 114, 3) := dk_180 0 114 (dk_at dksX1_rings_2 0 rfl rfl)
theorem dX1_rings_49 : decode cX1_rings 49 = .ok (.invokevirtual 205, 3) := dk_182 0 205 (dk_at dksX1_rings_2 3 rfl rfl)
theorem dX1_rings_52 : decode cX1_rings 52 = .ok (.aload_n 1, 1) := dk_43 (dk_at dksX1_rings_2 6 rfl rfl)
theorem dX1_rings_53 : decode cX1_rings 53 = .ok (.getfield 176, 3) := dk_180 0 176 (dk_at dksX1_rings_2 7 rfl rfl)
theorem dX1_rings_56 : decode cX1_rings 56 = .ok (.invokevirtual 212, 3) := dk_182 0 212 (dk_at dksX1_rings_2 10 rfl rfl)
theorem dX1_rings_59 : decode cX1_rings 59 = .ok (.ifCond .eq 15, 3) := dk_153 0 15 (dk_at dksX1_rings_2 13 rfl rfl)
theorem dX1_rings_62 : decode cX1_rings 62 = .ok (.aload_n 2, 1) := dk_44 (dk_at dksX1_rings_2 16 rfl rfl)
theorem dX1_rings_63 : decode cX1_rings 63 = .ok (.dup, 1) := dk_89 (dk_at dksX1_rings_2 17 rfl rfl)
theorem dX1_rings_64 : decode cX1_rings 64 = .ok (.getfield 215, 3) := dk_180 0 215 (dk_at dksX1_rings_2 18 rfl rfl)
theorem dX1_rings_67 : decode cX1_rings 67 = .ok (.iconst 1, 1) := dk_4 (dk_at dksX1_rings_2 21 rfl rfl)
theorem dX1_rings_68 : decode cX1_rings 68 = .ok (.iadd, 1) := dk_96 (dk_at dksX1_rings_2 22 rfl rfl)
theorem dX1_rings_69 : decode cX1_rings 69 = .ok (.putfield 215, 3) := dk_181 0 215 (dk_at dksX1_rings_3 0 rfl rfl)
theorem dX1_rings_72 : decode cX1_rings 72 = .ok (.iconst 2, 1) := dk_5 (dk_at dksX1_rings_3 3 rfl rfl)
theorem dX1_rings_73 : decode cX1_rings 73 = .ok (.ireturn, 1) := dk_172 (dk_at dksX1_rings_3 4 rfl rfl)
theorem dX1_rings_74 : decode cX1_rings 74 = .ok (.aload_n 2, 1) := dk_44 (dk_at dksX1_rings_3 5 rfl rfl)
theorem dX1_rings_75 : decode cX1_rings 75 = .ok (.aload_n 1, 1) := dk_43 (dk_at dksX1_rings_3 6 rfl rfl)
theorem dX1_rings_76 : decode cX1_rings 76 = .ok (.getfield 218, 3) := dk_180 0 218 (dk_at dksX1_rings_3 7 rfl rfl)
theorem dX1_rings_79 : decode cX1_rings 79 = .ok (.invokevirtual 221, 3) := dk_182 0 221 (dk_at dksX1_rings_3 10 rfl rfl)
theorem dX1_rings_82 : decode cX1_rings 82 = .ok (.ifCond .ne 15, 3) := dk_154 0 15 (dk_at dksX1_rings_3 13 rfl rfl)
theorem dX1_rings_85 : decode cX1_rings 85 = .ok (.aload_n 2, 1) := dk_44 (dk_at dksX1_rings_3 16 rfl rfl)
theorem dX1_rings_86 : decode cX1_rings 86 = .ok (.dup, 1) := dk_89 (dk_at dksX1_rings_3 17 rfl rfl)
theorem dX1_rings_87 : decode cX1_rings 87 = .ok (.getfield 224, 3) := dk_180 0 224 (dk_at dksX1_rings_3 18 rfl rfl)
theorem dX1_rings_90 : decode cX1_rings 90 = .ok (.iconst 1, 1) := dk_4 (dk_at dksX1_rings_3 21 rfl rfl)
theorem dX1_rings_91 : decode cX1_rings 91 = .ok (.iadd, 1) := dk_96 (dk_at dksX1_rings_3 22 rfl rfl)
theorem dX1_rings_92 : decode cX1_rings 92 = .ok (.putfield 224, 3) := dk_181 0 224 (dk_at dksX1_rings_4 0 rfl rfl)
theorem dX1_rings_95 : decode cX1_rings 95 = .ok (.iconst 0, 1) := dk_3 (dk_at dksX1_rings_4 3 rfl rfl)
theorem dX1_rings_96 : decode cX1_rings 96 = .ok (.ireturn, 1) := dk_172 (dk_at dksX1_rings_4 4 rfl rfl)
theorem dX1_rings_97 : decode cX1_rings 97 = .ok (.aload_n 2, 1) := dk_44 (dk_at dksX1_rings_4 5 rfl rfl)
theorem dX1_rings_98 : decode cX1_rings 98 = .ok (.invokevirtual 227, 3) := dk_182 0 227 (dk_at dksX1_rings_4 6 rfl rfl)
theorem dX1_rings_101 : decode cX1_rings 101 = .ok (.aload_n 0, 1) := dk_42 (dk_at dksX1_rings_4 9 rfl rfl)
theorem dX1_rings_102 : decode cX1_rings 102 = .ok (.aload_n 1, 1) := dk_43 (dk_at dksX1_rings_4 10 rfl rfl)
theorem dX1_rings_103 : decode cX1_rings 103 = .ok (.invokevirtual 229, 3) := dk_182 0 229 (dk_at dksX1_rings_4 11 rfl rfl)
theorem dX1_rings_106 : decode cX1_rings 106 = .ok (.iconst 1, 1) := dk_4 (dk_at dksX1_rings_4 14 rfl rfl)
theorem dX1_rings_107 : decode cX1_rings 107 = .ok (.ireturn, 1) := dk_172 (dk_at dksX1_rings_4 15 rfl rfl)
def dkwX1_answeredIn_1 : List UInt8 := [183, 0, 90, 167, 0, 4, 44, 176]
abbrev dktX1_answeredIn_1 : List UInt8 := dkwX1_answeredIn_1 ++ []
def dkwX1_answeredIn_0 : List UInt8 := [42, 180, 0, 35, 27, 184, 0, 91, 182, 0, 95, 192, 0, 88, 77, 44, 199, 0, 13, 187, 0, 88, 89]
abbrev dktX1_answeredIn_0 : List UInt8 := dkwX1_answeredIn_0 ++ dktX1_answeredIn_1
theorem dksX1_answeredIn_0 : cX1_answeredIn.data.toList.drop 0 = dktX1_answeredIn_0 := by decide +kernel
theorem dksX1_answeredIn_1 : cX1_answeredIn.data.toList.drop 23 = dktX1_answeredIn_1 := dk_seg dksX1_answeredIn_0 23 rfl rfl
theorem dX1_answeredIn_0 : decode cX1_answeredIn 0 = .ok (.aload_n 0, 1) := dk_42 (dk_at dksX1_answeredIn_0 0 rfl rfl)
theorem dX1_answeredIn_1 : decode cX1_answeredIn 1 = .ok (.getfield 35, 3) := dk_180 0 35 (dk_at dksX1_answeredIn_0 1 rfl rfl)
theorem dX1_answeredIn_4 : decode cX1_answeredIn 4 = .ok (.iload_n 1, 1) := dk_27 (dk_at dksX1_answeredIn_0 4 rfl rfl)
theorem dX1_answeredIn_5 : decode cX1_answeredIn 5 = .ok (.invokestatic 91, 3) := dk_184 0 91 (dk_at dksX1_answeredIn_0 5 rfl rfl)
theorem dX1_answeredIn_8 : decode cX1_answeredIn 8 = .ok (.invokevirtual 95, 3) := dk_182 0 95 (dk_at dksX1_answeredIn_0 8 rfl rfl)
theorem dX1_answeredIn_11 : decode cX1_answeredIn 11 = .ok (.checkcast 88, 3) := dk_192 0 88 (dk_at dksX1_answeredIn_0 11 rfl rfl)
theorem dX1_answeredIn_14 : decode cX1_answeredIn 14 = .ok (.astore_n 2, 1) := dk_77 (dk_at dksX1_answeredIn_0 14 rfl rfl)
theorem dX1_answeredIn_15 : decode cX1_answeredIn 15 = .ok (.aload_n 2, 1) := dk_44 (dk_at dksX1_answeredIn_0 15 rfl rfl)
theorem dX1_answeredIn_16 : decode cX1_answeredIn 16 = .ok (.ifnonnull 13, 3) := dk_199 0 13 (dk_at dksX1_answeredIn_0 16 rfl rfl)
theorem dX1_answeredIn_19 : decode cX1_answeredIn 19 = .ok (.new 88, 3) := dk_187 0 88 (dk_at dksX1_answeredIn_0 19 rfl rfl)
theorem dX1_answeredIn_22 : decode cX1_answeredIn 22 = .ok (.dup, 1) := dk_89 (dk_at dksX1_answeredIn_0 22 rfl rfl)
theorem dX1_answeredIn_23 : decode cX1_answeredIn 23 = .ok (.invokespecial 90, 3) := dk_183 0 90 (dk_at dksX1_answeredIn_1 0 rfl rfl)
theorem dX1_answeredIn_26 : decode cX1_answeredIn 26 = .ok (.goto 4, 3) := dk_167 0 4 (dk_at dksX1_answeredIn_1 3 rfl rfl)
theorem dX1_answeredIn_29 : decode cX1_answeredIn 29 = .ok (.aload_n 2, 1) := dk_44 (dk_at dksX1_answeredIn_1 6 rfl rfl)
theorem dX1_answeredIn_30 : decode cX1_answeredIn 30 = .ok (.areturn, 1) := dk_176 (dk_at dksX1_answeredIn_1 7 rfl rfl)
def dkwX1_remembers_3 : List UInt8 := [182, 0, 103, 192, 0, 88, 78, 177]
abbrev dktX1_remembers_3 : List UInt8 := dkwX1_remembers_3 ++ []
def dkwX1_remembers_2 : List UInt8 := [182, 0, 205, 77, 44, 43, 180, 0, 176, 182, 0, 209, 42, 180, 0, 35, 43, 180, 0, 204, 184, 0, 91, 44]
abbrev dktX1_remembers_2 : List UInt8 := dkwX1_remembers_2 ++ dktX1_remembers_3
def dkwX1_remembers_1 : List UInt8 := [182, 0, 200, 16, 20, 164, 0, 14, 42, 180, 0, 42, 182, 0, 201, 192, 0, 108, 77, 42, 43, 180, 0, 204]
abbrev dktX1_remembers_1 : List UInt8 := dkwX1_remembers_1 ++ dktX1_remembers_2
def dkwX1_remembers_0 : List UInt8 := [42, 180, 0, 42, 187, 0, 108, 89, 43, 42, 180, 0, 118, 183, 0, 194, 182, 0, 197, 42, 180, 0, 42]
abbrev dktX1_remembers_0 : List UInt8 := dkwX1_remembers_0 ++ dktX1_remembers_1
theorem dksX1_remembers_0 : cX1_remembers.data.toList.drop 0 = dktX1_remembers_0 := by decide +kernel
theorem dksX1_remembers_1 : cX1_remembers.data.toList.drop 23 = dktX1_remembers_1 := dk_seg dksX1_remembers_0 23 rfl rfl
theorem dksX1_remembers_2 : cX1_remembers.data.toList.drop 47 = dktX1_remembers_2 := dk_seg dksX1_remembers_1 24 rfl rfl
theorem dksX1_remembers_3 : cX1_remembers.data.toList.drop 71 = dktX1_remembers_3 := dk_seg dksX1_remembers_2 24 rfl rfl
theorem dX1_remembers_0 : decode cX1_remembers 0 = .ok (.aload_n 0, 1) := dk_42 (dk_at dksX1_remembers_0 0 rfl rfl)
theorem dX1_remembers_1 : decode cX1_remembers 1 = .ok (.getfield 42, 3) := dk_180 0 42 (dk_at dksX1_remembers_0 1 rfl rfl)
theorem dX1_remembers_4 : decode cX1_remembers 4 = .ok (.new 108, 3) := dk_187 0 108 (dk_at dksX1_remembers_0 4 rfl rfl)
theorem dX1_remembers_7 : decode cX1_remembers 7 = .ok (.dup, 1) := dk_89 (dk_at dksX1_remembers_0 7 rfl rfl)
theorem dX1_remembers_8 : decode cX1_remembers 8 = .ok (.aload_n 1, 1) := dk_43 (dk_at dksX1_remembers_0 8 rfl rfl)
theorem dX1_remembers_9 : decode cX1_remembers 9 = .ok (.aload_n 0, 1) := dk_42 (dk_at dksX1_remembers_0 9 rfl rfl)
theorem dX1_remembers_10 : decode cX1_remembers 10 = .ok (.getfield 118, 3) := dk_180 0 118 (dk_at dksX1_remembers_0 10 rfl rfl)
theorem dX1_remembers_13 : decode cX1_remembers 13 = .ok (.invokespecial 194, 3) := dk_183 0 194 (dk_at dksX1_remembers_0 13 rfl rfl)
theorem dX1_remembers_16 : decode cX1_remembers 16 = .ok (.invokevirtual 197, 3) := dk_182 0 197 (dk_at dksX1_remembers_0 16 rfl rfl)
theorem dX1_remembers_19 : decode cX1_remembers 19 = .ok (.aload_n 0, 1) := dk_42 (dk_at dksX1_remembers_0 19 rfl rfl)
theorem dX1_remembers_20 : decode cX1_remembers 20 = .ok (.getfield 42, 3) := dk_180 0 42 (dk_at dksX1_remembers_0 20 rfl rfl)
theorem dX1_remembers_23 : decode cX1_remembers 23 = .ok (.invokevirtual 200, 3) := dk_182 0 200 (dk_at dksX1_remembers_1 0 rfl rfl)
theorem dX1_remembers_26 : decode cX1_remembers 26 = .ok (.bipush 20, 2) := dk_16 20 (dk_at dksX1_remembers_1 3 rfl rfl)
theorem dX1_remembers_28 : decode cX1_remembers 28 = .ok (.if_icmp .le 14, 3) := dk_164 0 14 (dk_at dksX1_remembers_1 5 rfl rfl)
theorem dX1_remembers_31 : decode cX1_remembers 31 = .ok (.aload_n 0, 1) := dk_42 (dk_at dksX1_remembers_1 8 rfl rfl)
theorem dX1_remembers_32 : decode cX1_remembers 32 = .ok (.getfield 42, 3) := dk_180 0 42 (dk_at dksX1_remembers_1 9 rfl rfl)
theorem dX1_remembers_35 : decode cX1_remembers 35 = .ok (.invokevirtual 201, 3) := dk_182 0 201 (dk_at dksX1_remembers_1 12 rfl rfl)
theorem dX1_remembers_38 : decode cX1_remembers 38 = .ok (.checkcast 108, 3) := dk_192 0 108 (dk_at dksX1_remembers_1 15 rfl rfl)
theorem dX1_remembers_41 : decode cX1_remembers 41 = .ok (.astore_n 2, 1) := dk_77 (dk_at dksX1_remembers_1 18 rfl rfl)
theorem dX1_remembers_42 : decode cX1_remembers 42 = .ok (.aload_n 0, 1) := dk_42 (dk_at dksX1_remembers_1 19 rfl rfl)
theorem dX1_remembers_43 : decode cX1_remembers 43 = .ok (.aload_n 1, 1) := dk_43 (dk_at dksX1_remembers_1 20 rfl rfl)
theorem dX1_remembers_44 : decode cX1_remembers 44 = .ok (.getfield 204, 3) := dk_180 0 204 (dk_at dksX1_remembers_1 21 rfl rfl)
theorem dX1_remembers_47 : decode cX1_remembers 47 = .ok (.invokevirtual 205, 3) := dk_182 0 205 (dk_at dksX1_remembers_2 0 rfl rfl)
theorem dX1_remembers_50 : decode cX1_remembers 50 = .ok (.astore_n 2, 1) := dk_77 (dk_at dksX1_remembers_2 3 rfl rfl)
theorem dX1_remembers_51 : decode cX1_remembers 51 = .ok (.aload_n 2, 1) := dk_44 (dk_at dksX1_remembers_2 4 rfl rfl)
theorem dX1_remembers_52 : decode cX1_remembers 52 = .ok (.aload_n 1, 1) := dk_43 (dk_at dksX1_remembers_2 5 rfl rfl)
theorem dX1_remembers_53 : decode cX1_remembers 53 = .ok (.getfield 176, 3) := dk_180 0 176 (dk_at dksX1_remembers_2 6 rfl rfl)
theorem dX1_remembers_56 : decode cX1_remembers 56 = .ok (.invokevirtual 209, 3) := dk_182 0 209 (dk_at dksX1_remembers_2 9 rfl rfl)
theorem dX1_remembers_59 : decode cX1_remembers 59 = .ok (.aload_n 0, 1) := dk_42 (dk_at dksX1_remembers_2 12 rfl rfl)
theorem dX1_remembers_60 : decode cX1_remembers 60 = .ok (.getfield 35, 3) := dk_180 0 35 (dk_at dksX1_remembers_2 13 rfl rfl)
theorem dX1_remembers_63 : decode cX1_remembers 63 = .ok (.aload_n 1, 1) := dk_43 (dk_at dksX1_remembers_2 16 rfl rfl)
theorem dX1_remembers_64 : decode cX1_remembers 64 = .ok (.getfield 204, 3) := dk_180 0 204 (dk_at dksX1_remembers_2 17 rfl rfl)
theorem dX1_remembers_67 : decode cX1_remembers 67 = .ok (.invokestatic 91, 3) := dk_184 0 91 (dk_at dksX1_remembers_2 20 rfl rfl)
theorem dX1_remembers_70 : decode cX1_remembers 70 = .ok (.aload_n 2, 1) := dk_44 (dk_at dksX1_remembers_2 23 rfl rfl)
theorem dX1_remembers_71 : decode cX1_remembers 71 = .ok (.invokevirtual 103, 3) := dk_182 0 103 (dk_at dksX1_remembers_3 0 rfl rfl)
theorem dX1_remembers_74 : decode cX1_remembers 74 = .ok (.checkcast 88, 3) := dk_192 0 88 (dk_at dksX1_remembers_3 3 rfl rfl)
theorem dX1_remembers_77 : decode cX1_remembers 77 = .ok (.astore_n 3, 1) := dk_78 (dk_at dksX1_remembers_3 6 rfl rfl)
theorem dX1_remembers_78 : decode cX1_remembers 78 = .ok (.return_, 1) := dk_177 (dk_at dksX1_remembers_3 7 rfl rfl)
def dkwX1_ringsHour_3 : List UInt8 := [167, 0, 4, 3, 96, 61, 167, 255, 213, 28, 172]
abbrev dktX1_ringsHour_3 : List UInt8 := dkwX1_ringsHour_3 ++ []
def dkwX1_ringsHour_2 : List UInt8 := [182, 0, 236, 192, 0, 72, 180, 0, 204, 27, 160, 0, 22, 28, 42, 182, 0, 233, 4, 160, 0, 7, 4]
abbrev dktX1_ringsHour_2 : List UInt8 := dkwX1_ringsHour_2 ++ dktX1_ringsHour_3
def dkwX1_ringsHour_1 : List UInt8 := [192, 0, 72, 180, 0, 204, 60, 3, 61, 42, 180, 0, 28, 182, 0, 161, 154, 0, 39, 42, 180, 0, 28]
abbrev dktX1_ringsHour_1 : List UInt8 := dkwX1_ringsHour_1 ++ dktX1_ringsHour_2
def dkwX1_ringsHour_0 : List UInt8 := [42, 180, 0, 28, 182, 0, 161, 6, 42, 180, 0, 124, 184, 0, 137, 42, 180, 0, 28, 182, 0, 236]
abbrev dktX1_ringsHour_0 : List UInt8 := dkwX1_ringsHour_0 ++ dktX1_ringsHour_1
theorem dksX1_ringsHour_0 : cX1_ringsHour.data.toList.drop 0 = dktX1_ringsHour_0 := by decide +kernel
theorem dksX1_ringsHour_1 : cX1_ringsHour.data.toList.drop 22 = dktX1_ringsHour_1 := dk_seg dksX1_ringsHour_0 22 rfl rfl
theorem dksX1_ringsHour_2 : cX1_ringsHour.data.toList.drop 45 = dktX1_ringsHour_2 := dk_seg dksX1_ringsHour_1 23 rfl rfl
theorem dksX1_ringsHour_3 : cX1_ringsHour.data.toList.drop 68 = dktX1_ringsHour_3 := dk_seg dksX1_ringsHour_2 23 rfl rfl
theorem dX1_ringsHour_0 : decode cX1_ringsHour 0 = .ok (.aload_n 0, 1) := dk_42 (dk_at dksX1_ringsHour_0 0 rfl rfl)
theorem dX1_ringsHour_1 : decode cX1_ringsHour 1 = .ok (.getfield 28, 3) := dk_180 0 28 (dk_at dksX1_ringsHour_0 1 rfl rfl)
theorem dX1_ringsHour_4 : decode cX1_ringsHour 4 = .ok (.invokevirtual 161, 3) := dk_182 0 161 (dk_at dksX1_ringsHour_0 4 rfl rfl)
theorem dX1_ringsHour_7 : decode cX1_ringsHour 7 = .ok (.iconst 3, 1) := dk_6 (dk_at dksX1_ringsHour_0 7 rfl rfl)
theorem dX1_ringsHour_8 : decode cX1_ringsHour 8 = .ok (.aload_n 0, 1) := dk_42 (dk_at dksX1_ringsHour_0 8 rfl rfl)
theorem dX1_ringsHour_9 : decode cX1_ringsHour 9 = .ok (.getfield 124, 3) := dk_180 0 124 (dk_at dksX1_ringsHour_0 9 rfl rfl)
theorem dX1_ringsHour_12 : decode cX1_ringsHour 12 = .ok (.invokestatic 137, 3) := dk_184 0 137 (dk_at dksX1_ringsHour_0 12 rfl rfl)
theorem dX1_ringsHour_15 : decode cX1_ringsHour 15 = .ok (.aload_n 0, 1) := dk_42 (dk_at dksX1_ringsHour_0 15 rfl rfl)
theorem dX1_ringsHour_16 : decode cX1_ringsHour 16 = .ok (.getfield 28, 3) := dk_180 0 28 (dk_at dksX1_ringsHour_0 16 rfl rfl)
theorem dX1_ringsHour_19 : decode cX1_ringsHour 19 = .ok (.invokevirtual 236, 3) := dk_182 0 236 (dk_at dksX1_ringsHour_0 19 rfl rfl)
theorem dX1_ringsHour_22 : decode cX1_ringsHour 22 = .ok (.checkcast 72, 3) := dk_192 0 72 (dk_at dksX1_ringsHour_1 0 rfl rfl)
theorem dX1_ringsHour_25 : decode cX1_ringsHour 25 = .ok (.getfield 204, 3) := dk_180 0 204 (dk_at dksX1_ringsHour_1 3 rfl rfl)
theorem dX1_ringsHour_28 : decode cX1_ringsHour 28 = .ok (.istore_n 1, 1) := dk_60 (dk_at dksX1_ringsHour_1 6 rfl rfl)
theorem dX1_ringsHour_29 : decode cX1_ringsHour 29 = .ok (.iconst 0, 1) := dk_3 (dk_at dksX1_ringsHour_1 7 rfl rfl)
theorem dX1_ringsHour_30 : decode cX1_ringsHour 30 = .ok (.istore_n 2, 1) := dk_61 (dk_at dksX1_ringsHour_1 8 rfl rfl)
theorem dX1_ringsHour_31 : decode cX1_ringsHour 31 = .ok (.aload_n 0, 1) := dk_42 (dk_at dksX1_ringsHour_1 9 rfl rfl)
theorem dX1_ringsHour_32 : decode cX1_ringsHour 32 = .ok (.getfield 28, 3) := dk_180 0 28 (dk_at dksX1_ringsHour_1 10 rfl rfl)
theorem dX1_ringsHour_35 : decode cX1_ringsHour 35 = .ok (.invokevirtual 161, 3) := dk_182 0 161 (dk_at dksX1_ringsHour_1 13 rfl rfl)
theorem dX1_ringsHour_38 : decode cX1_ringsHour 38 = .ok (.ifCond .ne 39, 3) := dk_154 0 39 (dk_at dksX1_ringsHour_1 16 rfl rfl)
theorem dX1_ringsHour_41 : decode cX1_ringsHour 41 = .ok (.aload_n 0, 1) := dk_42 (dk_at dksX1_ringsHour_1 19 rfl rfl)
theorem dX1_ringsHour_42 : decode cX1_ringsHour 42 = .ok (.getfield 28, 3) := dk_180 0 28 (dk_at dksX1_ringsHour_1 20 rfl rfl)
theorem dX1_ringsHour_45 : decode cX1_ringsHour 45 = .ok (.invokevirtual 236, 3) := dk_182 0 236 (dk_at dksX1_ringsHour_2 0 rfl rfl)
theorem dX1_ringsHour_48 : decode cX1_ringsHour 48 = .ok (.checkcast 72, 3) := dk_192 0 72 (dk_at dksX1_ringsHour_2 3 rfl rfl)
theorem dX1_ringsHour_51 : decode cX1_ringsHour 51 = .ok (.getfield 204, 3) := dk_180 0 204 (dk_at dksX1_ringsHour_2 6 rfl rfl)
theorem dX1_ringsHour_54 : decode cX1_ringsHour 54 = .ok (.iload_n 1, 1) := dk_27 (dk_at dksX1_ringsHour_2 9 rfl rfl)
theorem dX1_ringsHour_55 : decode cX1_ringsHour 55 = .ok (.if_icmp .ne 22, 3) := dk_160 0 22 (dk_at dksX1_ringsHour_2 10 rfl rfl)
theorem dX1_ringsHour_58 : decode cX1_ringsHour 58 = .ok (.iload_n 2, 1) := dk_28 (dk_at dksX1_ringsHour_2 13 rfl rfl)
theorem dX1_ringsHour_59 : decode cX1_ringsHour 59 = .ok (.aload_n 0, 1) := dk_42 (dk_at dksX1_ringsHour_2 14 rfl rfl)
theorem dX1_ringsHour_60 : decode cX1_ringsHour 60 = .ok (.invokevirtual 233, 3) := dk_182 0 233 (dk_at dksX1_ringsHour_2 15 rfl rfl)
theorem dX1_ringsHour_63 : decode cX1_ringsHour 63 = .ok (.iconst 1, 1) := dk_4 (dk_at dksX1_ringsHour_2 18 rfl rfl)
theorem dX1_ringsHour_64 : decode cX1_ringsHour 64 = .ok (.if_icmp .ne 7, 3) := dk_160 0 7 (dk_at dksX1_ringsHour_2 19 rfl rfl)
theorem dX1_ringsHour_67 : decode cX1_ringsHour 67 = .ok (.iconst 1, 1) := dk_4 (dk_at dksX1_ringsHour_2 22 rfl rfl)
theorem dX1_ringsHour_68 : decode cX1_ringsHour 68 = .ok (.goto 4, 3) := dk_167 0 4 (dk_at dksX1_ringsHour_3 0 rfl rfl)
theorem dX1_ringsHour_71 : decode cX1_ringsHour 71 = .ok (.iconst 0, 1) := dk_3 (dk_at dksX1_ringsHour_3 3 rfl rfl)
theorem dX1_ringsHour_72 : decode cX1_ringsHour 72 = .ok (.iadd, 1) := dk_96 (dk_at dksX1_ringsHour_3 4 rfl rfl)
theorem dX1_ringsHour_73 : decode cX1_ringsHour 73 = .ok (.istore_n 2, 1) := dk_61 (dk_at dksX1_ringsHour_3 5 rfl rfl)
theorem dX1_ringsHour_74 : decode cX1_ringsHour 74 = .ok (.goto (-43), 3) := dk_167 255 213 (dk_at dksX1_ringsHour_3 6 rfl rfl)
theorem dX1_ringsHour_77 : decode cX1_ringsHour 77 = .ok (.iload_n 2, 1) := dk_28 (dk_at dksX1_ringsHour_3 9 rfl rfl)
theorem dX1_ringsHour_78 : decode cX1_ringsHour 78 = .ok (.ireturn, 1) := dk_172 (dk_at dksX1_ringsHour_3 10 rfl rfl)
def dkwX1_ends_5 : List UInt8 := [96, 181, 0, 118, 27, 172]
abbrev dktX1_ends_5 : List UInt8 := dkwX1_ends_5 ++ []
def dkwX1_ends_4 : List UInt8 := [132, 3, 1, 167, 255, 220, 42, 180, 0, 35, 182, 0, 253, 42, 3, 181, 0, 114, 42, 89, 180, 0, 118, 4]
abbrev dktX1_ends_4 : List UInt8 := dkwX1_ends_4 ++ dktX1_ends_5
def dkwX1_ends_3 : List UInt8 := [44, 29, 182, 0, 212, 154, 0, 17, 42, 180, 0, 14, 29, 182, 0, 142, 192, 0, 61, 182, 0, 250]
abbrev dktX1_ends_3 : List UInt8 := dkwX1_ends_3 ++ dktX1_ends_4
def dkwX1_ends_2 : List UInt8 := [181, 0, 224, 167, 255, 214, 42, 182, 0, 246, 77, 3, 62, 29, 42, 180, 0, 14, 182, 0, 130, 162, 0, 31]
abbrev dktX1_ends_2 : List UInt8 := dkwX1_ends_2 ++ dktX1_ends_3
def dkwX1_ends_1 : List UInt8 := [180, 0, 28, 182, 0, 164, 192, 0, 72, 180, 0, 176, 182, 0, 142, 192, 0, 61, 89, 180, 0, 224, 4, 96]
abbrev dktX1_ends_1 : List UInt8 := dkwX1_ends_1 ++ dktX1_ends_2
def dkwX1_ends_0 : List UInt8 := [42, 180, 0, 28, 182, 0, 168, 60, 42, 180, 0, 28, 182, 0, 161, 154, 0, 38, 42, 180, 0, 14, 42]
abbrev dktX1_ends_0 : List UInt8 := dkwX1_ends_0 ++ dktX1_ends_1
theorem dksX1_ends_0 : cX1_ends.data.toList.drop 0 = dktX1_ends_0 := by decide +kernel
theorem dksX1_ends_1 : cX1_ends.data.toList.drop 23 = dktX1_ends_1 := dk_seg dksX1_ends_0 23 rfl rfl
theorem dksX1_ends_2 : cX1_ends.data.toList.drop 47 = dktX1_ends_2 := dk_seg dksX1_ends_1 24 rfl rfl
theorem dksX1_ends_3 : cX1_ends.data.toList.drop 71 = dktX1_ends_3 := dk_seg dksX1_ends_2 24 rfl rfl
theorem dksX1_ends_4 : cX1_ends.data.toList.drop 93 = dktX1_ends_4 := dk_seg dksX1_ends_3 22 rfl rfl
theorem dksX1_ends_5 : cX1_ends.data.toList.drop 117 = dktX1_ends_5 := dk_seg dksX1_ends_4 24 rfl rfl
theorem dX1_ends_0 : decode cX1_ends 0 = .ok (.aload_n 0, 1) := dk_42 (dk_at dksX1_ends_0 0 rfl rfl)
theorem dX1_ends_1 : decode cX1_ends 1 = .ok (.getfield 28, 3) := dk_180 0 28 (dk_at dksX1_ends_0 1 rfl rfl)
theorem dX1_ends_4 : decode cX1_ends 4 = .ok (.invokevirtual 168, 3) := dk_182 0 168 (dk_at dksX1_ends_0 4 rfl rfl)
theorem dX1_ends_7 : decode cX1_ends 7 = .ok (.istore_n 1, 1) := dk_60 (dk_at dksX1_ends_0 7 rfl rfl)
theorem dX1_ends_8 : decode cX1_ends 8 = .ok (.aload_n 0, 1) := dk_42 (dk_at dksX1_ends_0 8 rfl rfl)
theorem dX1_ends_9 : decode cX1_ends 9 = .ok (.getfield 28, 3) := dk_180 0 28 (dk_at dksX1_ends_0 9 rfl rfl)
theorem dX1_ends_12 : decode cX1_ends 12 = .ok (.invokevirtual 161, 3) := dk_182 0 161 (dk_at dksX1_ends_0 12 rfl rfl)
theorem dX1_ends_15 : decode cX1_ends 15 = .ok (.ifCond .ne 38, 3) := dk_154 0 38 (dk_at dksX1_ends_0 15 rfl rfl)
theorem dX1_ends_18 : decode cX1_ends 18 = .ok (.aload_n 0, 1) := dk_42 (dk_at dksX1_ends_0 18 rfl rfl)
theorem dX1_ends_19 : decode cX1_ends 19 = .ok (.getfield 14, 3) := dk_180 0 14 (dk_at dksX1_ends_0 19 rfl rfl)
theorem dX1_ends_22 : decode cX1_ends 22 = .ok (.aload_n 0, 1) := dk_42 (dk_at dksX1_ends_0 22 rfl rfl)
theorem dX1_ends_23 : decode cX1_ends 23 = .ok (.getfield 28, 3) := dk_180 0 28 (dk_at dksX1_ends_1 0 rfl rfl)
theorem dX1_ends_26 : decode cX1_ends 26 = .ok (.invokevirtual 164, 3) := dk_182 0 164 (dk_at dksX1_ends_1 3 rfl rfl)
theorem dX1_ends_29 : decode cX1_ends 29 = .ok (.checkcast 72, 3) := dk_192 0 72 (dk_at dksX1_ends_1 6 rfl rfl)
theorem dX1_ends_32 : decode cX1_ends 32 = .ok (.getfield 176, 3) := dk_180 0 176 (dk_at dksX1_ends_1 9 rfl rfl)
theorem dX1_ends_35 : decode cX1_ends 35 = .ok (.invokevirtual 142, 3) := dk_182 0 142 (dk_at dksX1_ends_1 12 rfl rfl)
theorem dX1_ends_38 : decode cX1_ends 38 = .ok (.checkcast 61, 3) := dk_192 0 61 (dk_at dksX1_ends_1 15 rfl rfl)
theorem dX1_ends_41 : decode cX1_ends 41 = .ok (.dup, 1) := dk_89 (dk_at dksX1_ends_1 18 rfl rfl)
theorem dX1_ends_42 : decode cX1_ends 42 = .ok (.getfield 224, 3) := dk_180 0 224 (dk_at dksX1_ends_1 19 rfl rfl)
theorem dX1_ends_45 : decode cX1_ends 45 = .ok (.iconst 1, 1) := dk_4 (dk_at dksX1_ends_1 22 rfl rfl)
theorem dX1_ends_46 : decode cX1_ends 46 = .ok (.iadd, 1) := dk_96 (dk_at dksX1_ends_1 23 rfl rfl)
theorem dX1_ends_47 : decode cX1_ends 47 = .ok (.putfield 224, 3) := dk_181 0 224 (dk_at dksX1_ends_2 0 rfl rfl)
theorem dX1_ends_50 : decode cX1_ends 50 = .ok (.goto (-42), 3) := dk_167 255 214 (dk_at dksX1_ends_2 3 rfl rfl)
theorem dX1_ends_53 : decode cX1_ends 53 = .ok (.aload_n 0, 1) := dk_42 (dk_at dksX1_ends_2 6 rfl rfl)
theorem dX1_ends_54 : decode cX1_ends 54 = .ok (.invokevirtual 246, 3) := dk_182 0 246 (dk_at dksX1_ends_2 7 rfl rfl)
theorem dX1_ends_57 : decode cX1_ends 57 = .ok (.astore_n 2, 1) := dk_77 (dk_at dksX1_ends_2 10 rfl rfl)
theorem dX1_ends_58 : decode cX1_ends 58 = .ok (.iconst 0, 1) := dk_3 (dk_at dksX1_ends_2 11 rfl rfl)
theorem dX1_ends_59 : decode cX1_ends 59 = .ok (.istore_n 3, 1) := dk_62 (dk_at dksX1_ends_2 12 rfl rfl)
theorem dX1_ends_60 : decode cX1_ends 60 = .ok (.iload_n 3, 1) := dk_29 (dk_at dksX1_ends_2 13 rfl rfl)
theorem dX1_ends_61 : decode cX1_ends 61 = .ok (.aload_n 0, 1) := dk_42 (dk_at dksX1_ends_2 14 rfl rfl)
theorem dX1_ends_62 : decode cX1_ends 62 = .ok (.getfield 14, 3) := dk_180 0 14 (dk_at dksX1_ends_2 15 rfl rfl)
theorem dX1_ends_65 : decode cX1_ends 65 = .ok (.invokevirtual 130, 3) := dk_182 0 130 (dk_at dksX1_ends_2 18 rfl rfl)
theorem dX1_ends_68 : decode cX1_ends 68 = .ok (.if_icmp .ge 31, 3) := dk_162 0 31 (dk_at dksX1_ends_2 21 rfl rfl)
theorem dX1_ends_71 : decode cX1_ends 71 = .ok (.aload_n 2, 1) := dk_44 (dk_at dksX1_ends_3 0 rfl rfl)
theorem dX1_ends_72 : decode cX1_ends 72 = .ok (.iload_n 3, 1) := dk_29 (dk_at dksX1_ends_3 1 rfl rfl)
theorem dX1_ends_73 : decode cX1_ends 73 = .ok (.invokevirtual 212, 3) := dk_182 0 212 (dk_at dksX1_ends_3 2 rfl rfl)
theorem dX1_ends_76 : decode cX1_ends 76 = .ok (.ifCond .ne 17, 3) := dk_154 0 17 (dk_at dksX1_ends_3 5 rfl rfl)
theorem dX1_ends_79 : decode cX1_ends 79 = .ok (.aload_n 0, 1) := dk_42 (dk_at dksX1_ends_3 8 rfl rfl)
theorem dX1_ends_80 : decode cX1_ends 80 = .ok (.getfield 14, 3) := dk_180 0 14 (dk_at dksX1_ends_3 9 rfl rfl)
theorem dX1_ends_83 : decode cX1_ends 83 = .ok (.iload_n 3, 1) := dk_29 (dk_at dksX1_ends_3 12 rfl rfl)
theorem dX1_ends_84 : decode cX1_ends 84 = .ok (.invokevirtual 142, 3) := dk_182 0 142 (dk_at dksX1_ends_3 13 rfl rfl)
theorem dX1_ends_87 : decode cX1_ends 87 = .ok (.checkcast 61, 3) := dk_192 0 61 (dk_at dksX1_ends_3 16 rfl rfl)
theorem dX1_ends_90 : decode cX1_ends 90 = .ok (.invokevirtual 250, 3) := dk_182 0 250 (dk_at dksX1_ends_3 19 rfl rfl)
theorem dX1_ends_93 : decode cX1_ends 93 = .ok (.iinc 3 1, 3) := dk_132 3 1 (dk_at dksX1_ends_4 0 rfl rfl)
theorem dX1_ends_96 : decode cX1_ends 96 = .ok (.goto (-36), 3) := dk_167 255 220 (dk_at dksX1_ends_4 3 rfl rfl)
theorem dX1_ends_99 : decode cX1_ends 99 = .ok (.aload_n 0, 1) := dk_42 (dk_at dksX1_ends_4 6 rfl rfl)
theorem dX1_ends_100 : decode cX1_ends 100 = .ok (.getfield 35, 3) := dk_180 0 35 (dk_at dksX1_ends_4 7 rfl rfl)
theorem dX1_ends_103 : decode cX1_ends 103 = .ok (.invokevirtual 253, 3) := dk_182 0 253 (dk_at dksX1_ends_4 10 rfl rfl)
theorem dX1_ends_106 : decode cX1_ends 106 = .ok (.aload_n 0, 1) := dk_42 (dk_at dksX1_ends_4 13 rfl rfl)
theorem dX1_ends_107 : decode cX1_ends 107 = .ok (.iconst 0, 1) := dk_3 (dk_at dksX1_ends_4 14 rfl rfl)
theorem dX1_ends_108 : decode cX1_ends 108 = .ok (.putfield 114, 3) := dk_181 0 114 (dk_at dksX1_ends_4 15 rfl rfl)
theorem dX1_ends_111 : decode cX1_ends 111 = .ok (.aload_n 0, 1) := dk_42 (dk_at dksX1_ends_4 18 rfl rfl)
theorem dX1_ends_112 : decode cX1_ends 112 = .ok (.dup, 1) := dk_89 (dk_at dksX1_ends_4 19 rfl rfl)
theorem dX1_ends_113 : decode cX1_ends 113 = .ok (.getfield 118, 3) := dk_180 0 118 (dk_at dksX1_ends_4 20 rfl rfl)
theorem dX1_ends_116 : decode cX1_ends 116 = .ok (.iconst 1, 1) := dk_4 (dk_at dksX1_ends_4 23 rfl rfl)
theorem dX1_ends_117 : decode cX1_ends 117 = .ok (.iadd, 1) := dk_96 (dk_at dksX1_ends_5 0 rfl rfl)
theorem dX1_ends_118 : decode cX1_ends 118 = .ok (.putfield 118, 3) := dk_181 0 118 (dk_at dksX1_ends_5 1 rfl rfl)
theorem dX1_ends_121 : decode cX1_ends 121 = .ok (.iload_n 1, 1) := dk_27 (dk_at dksX1_ends_5 4 rfl rfl)
theorem dX1_ends_122 : decode cX1_ends 122 = .ok (.ireturn, 1) := dk_172 (dk_at dksX1_ends_5 5 rfl rfl)
def dkwX1_answeredToday_2 : List UInt8 := [167, 255, 232, 43, 176]
abbrev dktX1_answeredToday_2 : List UInt8 := dkwX1_answeredToday_2 ++ []
def dkwX1_answeredToday_1 : List UInt8 := [185, 0, 51, 1, 0, 153, 0, 21, 44, 185, 0, 57, 1, 0, 192, 0, 88, 78, 43, 45, 182, 0, 99]
abbrev dktX1_answeredToday_1 : List UInt8 := dkwX1_answeredToday_1 ++ dktX1_answeredToday_2
def dkwX1_answeredToday_0 : List UInt8 := [187, 0, 88, 89, 183, 0, 90, 76, 42, 180, 0, 35, 182, 0, 239, 185, 0, 243, 1, 0, 77, 44]
abbrev dktX1_answeredToday_0 : List UInt8 := dkwX1_answeredToday_0 ++ dktX1_answeredToday_1
theorem dksX1_answeredToday_0 : cX1_answeredToday.data.toList.drop 0 = dktX1_answeredToday_0 := by decide +kernel
theorem dksX1_answeredToday_1 : cX1_answeredToday.data.toList.drop 22 = dktX1_answeredToday_1 := dk_seg dksX1_answeredToday_0 22 rfl rfl
theorem dksX1_answeredToday_2 : cX1_answeredToday.data.toList.drop 45 = dktX1_answeredToday_2 := dk_seg dksX1_answeredToday_1 23 rfl rfl
theorem dX1_answeredToday_0 : decode cX1_answeredToday 0 = .ok (.new 88, 3) := dk_187 0 88 (dk_at dksX1_answeredToday_0 0 rfl rfl)
theorem dX1_answeredToday_3 : decode cX1_answeredToday 3 = .ok (.dup, 1) := dk_89 (dk_at dksX1_answeredToday_0 3 rfl rfl)
theorem dX1_answeredToday_4 : decode cX1_answeredToday 4 = .ok (.invokespecial 90, 3) := dk_183 0 90 (dk_at dksX1_answeredToday_0 4 rfl rfl)
theorem dX1_answeredToday_7 : decode cX1_answeredToday 7 = .ok (.astore_n 1, 1) := dk_76 (dk_at dksX1_answeredToday_0 7 rfl rfl)
theorem dX1_answeredToday_8 : decode cX1_answeredToday 8 = .ok (.aload_n 0, 1) := dk_42 (dk_at dksX1_answeredToday_0 8 rfl rfl)
theorem dX1_answeredToday_9 : decode cX1_answeredToday 9 = .ok (.getfield 35, 3) := dk_180 0 35 (dk_at dksX1_answeredToday_0 9 rfl rfl)
theorem dX1_answeredToday_12 : decode cX1_answeredToday 12 = .ok (.invokevirtual 239, 3) := dk_182 0 239 (dk_at dksX1_answeredToday_0 12 rfl rfl)
theorem dX1_answeredToday_15 : decode cX1_answeredToday 15 = .ok (.invokeinterface 243 1, 5) := by decide +kernel
theorem dX1_answeredToday_20 : decode cX1_answeredToday 20 = .ok (.astore_n 2, 1) := dk_77 (dk_at dksX1_answeredToday_0 20 rfl rfl)
theorem dX1_answeredToday_21 : decode cX1_answeredToday 21 = .ok (.aload_n 2, 1) := dk_44 (dk_at dksX1_answeredToday_0 21 rfl rfl)
theorem dX1_answeredToday_22 : decode cX1_answeredToday 22 = .ok (.invokeinterface 51 1, 5) := by decide +kernel
theorem dX1_answeredToday_27 : decode cX1_answeredToday 27 = .ok (.ifCond .eq 21, 3) := dk_153 0 21 (dk_at dksX1_answeredToday_1 5 rfl rfl)
theorem dX1_answeredToday_30 : decode cX1_answeredToday 30 = .ok (.aload_n 2, 1) := dk_44 (dk_at dksX1_answeredToday_1 8 rfl rfl)
theorem dX1_answeredToday_31 : decode cX1_answeredToday 31 = .ok (.invokeinterface 57 1, 5) := by decide +kernel
theorem dX1_answeredToday_36 : decode cX1_answeredToday 36 = .ok (.checkcast 88, 3) := dk_192 0 88 (dk_at dksX1_answeredToday_1 14 rfl rfl)
theorem dX1_answeredToday_39 : decode cX1_answeredToday 39 = .ok (.astore_n 3, 1) := dk_78 (dk_at dksX1_answeredToday_1 17 rfl rfl)
theorem dX1_answeredToday_40 : decode cX1_answeredToday 40 = .ok (.aload_n 1, 1) := dk_43 (dk_at dksX1_answeredToday_1 18 rfl rfl)
theorem dX1_answeredToday_41 : decode cX1_answeredToday 41 = .ok (.aload_n 3, 1) := dk_45 (dk_at dksX1_answeredToday_1 19 rfl rfl)
theorem dX1_answeredToday_42 : decode cX1_answeredToday 42 = .ok (.invokevirtual 99, 3) := dk_182 0 99 (dk_at dksX1_answeredToday_1 20 rfl rfl)
theorem dX1_answeredToday_45 : decode cX1_answeredToday 45 = .ok (.goto (-24), 3) := dk_167 255 232 (dk_at dksX1_answeredToday_2 0 rfl rfl)
theorem dX1_answeredToday_48 : decode cX1_answeredToday 48 = .ok (.aload_n 1, 1) := dk_43 (dk_at dksX1_answeredToday_2 3 rfl rfl)
theorem dX1_answeredToday_49 : decode cX1_answeredToday 49 = .ok (.areturn, 1) := dk_176 (dk_at dksX1_answeredToday_2 4 rfl rfl)
def dkwX1_forecast_1 : List UInt8 := [160, 0, 7, 4, 167, 0, 4, 3, 96, 61, 167, 255, 230, 28, 172]
abbrev dktX1_forecast_1 : List UInt8 := dkwX1_forecast_1 ++ []
def dkwX1_forecast_0 : List UInt8 := [42, 182, 0, 254, 76, 3, 61, 43, 180, 0, 28, 182, 0, 161, 154, 0, 22, 28, 43, 182, 0, 233, 4]
abbrev dktX1_forecast_0 : List UInt8 := dkwX1_forecast_0 ++ dktX1_forecast_1
theorem dksX1_forecast_0 : cX1_forecast.data.toList.drop 0 = dktX1_forecast_0 := by decide +kernel
theorem dksX1_forecast_1 : cX1_forecast.data.toList.drop 23 = dktX1_forecast_1 := dk_seg dksX1_forecast_0 23 rfl rfl
theorem dX1_forecast_0 : decode cX1_forecast 0 = .ok (.aload_n 0, 1) := dk_42 (dk_at dksX1_forecast_0 0 rfl rfl)
theorem dX1_forecast_1 : decode cX1_forecast 1 = .ok (.invokevirtual 254, 3) := dk_182 0 254 (dk_at dksX1_forecast_0 1 rfl rfl)
theorem dX1_forecast_4 : decode cX1_forecast 4 = .ok (.astore_n 1, 1) := dk_76 (dk_at dksX1_forecast_0 4 rfl rfl)
theorem dX1_forecast_5 : decode cX1_forecast 5 = .ok (.iconst 0, 1) := dk_3 (dk_at dksX1_forecast_0 5 rfl rfl)
theorem dX1_forecast_6 : decode cX1_forecast 6 = .ok (.istore_n 2, 1) := dk_61 (dk_at dksX1_forecast_0 6 rfl rfl)
theorem dX1_forecast_7 : decode cX1_forecast 7 = .ok (.aload_n 1, 1) := dk_43 (dk_at dksX1_forecast_0 7 rfl rfl)
theorem dX1_forecast_8 : decode cX1_forecast 8 = .ok (.getfield 28, 3) := dk_180 0 28 (dk_at dksX1_forecast_0 8 rfl rfl)
theorem dX1_forecast_11 : decode cX1_forecast 11 = .ok (.invokevirtual 161, 3) := dk_182 0 161 (dk_at dksX1_forecast_0 11 rfl rfl)
theorem dX1_forecast_14 : decode cX1_forecast 14 = .ok (.ifCond .ne 22, 3) := dk_154 0 22 (dk_at dksX1_forecast_0 14 rfl rfl)
theorem dX1_forecast_17 : decode cX1_forecast 17 = .ok (.iload_n 2, 1) := dk_28 (dk_at dksX1_forecast_0 17 rfl rfl)
theorem dX1_forecast_18 : decode cX1_forecast 18 = .ok (.aload_n 1, 1) := dk_43 (dk_at dksX1_forecast_0 18 rfl rfl)
theorem dX1_forecast_19 : decode cX1_forecast 19 = .ok (.invokevirtual 233, 3) := dk_182 0 233 (dk_at dksX1_forecast_0 19 rfl rfl)
theorem dX1_forecast_22 : decode cX1_forecast 22 = .ok (.iconst 1, 1) := dk_4 (dk_at dksX1_forecast_0 22 rfl rfl)
theorem dX1_forecast_23 : decode cX1_forecast 23 = .ok (.if_icmp .ne 7, 3) := dk_160 0 7 (dk_at dksX1_forecast_1 0 rfl rfl)
theorem dX1_forecast_26 : decode cX1_forecast 26 = .ok (.iconst 1, 1) := dk_4 (dk_at dksX1_forecast_1 3 rfl rfl)
theorem dX1_forecast_27 : decode cX1_forecast 27 = .ok (.goto 4, 3) := dk_167 0 4 (dk_at dksX1_forecast_1 4 rfl rfl)
theorem dX1_forecast_30 : decode cX1_forecast 30 = .ok (.iconst 0, 1) := dk_3 (dk_at dksX1_forecast_1 7 rfl rfl)
theorem dX1_forecast_31 : decode cX1_forecast 31 = .ok (.iadd, 1) := dk_96 (dk_at dksX1_forecast_1 8 rfl rfl)
theorem dX1_forecast_32 : decode cX1_forecast 32 = .ok (.istore_n 2, 1) := dk_61 (dk_at dksX1_forecast_1 9 rfl rfl)
theorem dX1_forecast_33 : decode cX1_forecast 33 = .ok (.goto (-26), 3) := dk_167 255 230 (dk_at dksX1_forecast_1 10 rfl rfl)
theorem dX1_forecast_36 : decode cX1_forecast 36 = .ok (.iload_n 2, 1) := dk_28 (dk_at dksX1_forecast_1 13 rfl rfl)
theorem dX1_forecast_37 : decode cX1_forecast 37 = .ok (.ireturn, 1) := dk_172 (dk_at dksX1_forecast_1 14 rfl rfl)
def dkwX1_forecastAgain_1 : List UInt8 := [182, 1, 8, 96, 61, 132, 3, 1, 167, 255, 233, 28, 172]
abbrev dktX1_forecastAgain_1 : List UInt8 := dkwX1_forecastAgain_1 ++ []
def dkwX1_forecastAgain_0 : List UInt8 := [42, 182, 0, 183, 76, 3, 61, 3, 62, 29, 42, 180, 0, 14, 182, 0, 130, 162, 0, 18, 28, 42, 29, 43]
abbrev dktX1_forecastAgain_0 : List UInt8 := dkwX1_forecastAgain_0 ++ dktX1_forecastAgain_1
theorem dksX1_forecastAgain_0 : cX1_forecastAgain.data.toList.drop 0 = dktX1_forecastAgain_0 := by decide +kernel
theorem dksX1_forecastAgain_1 : cX1_forecastAgain.data.toList.drop 24 = dktX1_forecastAgain_1 := dk_seg dksX1_forecastAgain_0 24 rfl rfl
theorem dX1_forecastAgain_0 : decode cX1_forecastAgain 0 = .ok (.aload_n 0, 1) := dk_42 (dk_at dksX1_forecastAgain_0 0 rfl rfl)
theorem dX1_forecastAgain_1 : decode cX1_forecastAgain 1 = .ok (.invokevirtual 183, 3) := dk_182 0 183 (dk_at dksX1_forecastAgain_0 1 rfl rfl)
theorem dX1_forecastAgain_4 : decode cX1_forecastAgain 4 = .ok (.astore_n 1, 1) := dk_76 (dk_at dksX1_forecastAgain_0 4 rfl rfl)
theorem dX1_forecastAgain_5 : decode cX1_forecastAgain 5 = .ok (.iconst 0, 1) := dk_3 (dk_at dksX1_forecastAgain_0 5 rfl rfl)
theorem dX1_forecastAgain_6 : decode cX1_forecastAgain 6 = .ok (.istore_n 2, 1) := dk_61 (dk_at dksX1_forecastAgain_0 6 rfl rfl)
theorem dX1_forecastAgain_7 : decode cX1_forecastAgain 7 = .ok (.iconst 0, 1) := dk_3 (dk_at dksX1_forecastAgain_0 7 rfl rfl)
theorem dX1_forecastAgain_8 : decode cX1_forecastAgain 8 = .ok (.istore_n 3, 1) := dk_62 (dk_at dksX1_forecastAgain_0 8 rfl rfl)
theorem dX1_forecastAgain_9 : decode cX1_forecastAgain 9 = .ok (.iload_n 3, 1) := dk_29 (dk_at dksX1_forecastAgain_0 9 rfl rfl)
theorem dX1_forecastAgain_10 : decode cX1_forecastAgain 10 = .ok (.aload_n 0, 1) := dk_42 (dk_at dksX1_forecastAgain_0 10 rfl rfl)
theorem dX1_forecastAgain_11 : decode cX1_forecastAgain 11 = .ok (.getfield 14, 3) := dk_180 0 14 (dk_at dksX1_forecastAgain_0 11 rfl rfl)
theorem dX1_forecastAgain_14 : decode cX1_forecastAgain 14 = .ok (.invokevirtual 130, 3) := dk_182 0 130 (dk_at dksX1_forecastAgain_0 14 rfl rfl)
theorem dX1_forecastAgain_17 : decode cX1_forecastAgain 17 = .ok (.if_icmp .ge 18, 3) := dk_162 0 18 (dk_at dksX1_forecastAgain_0 17 rfl rfl)
theorem dX1_forecastAgain_20 : decode cX1_forecastAgain 20 = .ok (.iload_n 2, 1) := dk_28 (dk_at dksX1_forecastAgain_0 20 rfl rfl)
theorem dX1_forecastAgain_21 : decode cX1_forecastAgain 21 = .ok (.aload_n 0, 1) := dk_42 (dk_at dksX1_forecastAgain_0 21 rfl rfl)
theorem dX1_forecastAgain_22 : decode cX1_forecastAgain 22 = .ok (.iload_n 3, 1) := dk_29 (dk_at dksX1_forecastAgain_0 22 rfl rfl)
theorem dX1_forecastAgain_23 : decode cX1_forecastAgain 23 = .ok (.aload_n 1, 1) := dk_43 (dk_at dksX1_forecastAgain_0 23 rfl rfl)
theorem dX1_forecastAgain_24 : decode cX1_forecastAgain 24 = .ok (.invokevirtual 264, 3) := dk_182 1 8 (dk_at dksX1_forecastAgain_1 0 rfl rfl)
theorem dX1_forecastAgain_27 : decode cX1_forecastAgain 27 = .ok (.iadd, 1) := dk_96 (dk_at dksX1_forecastAgain_1 3 rfl rfl)
theorem dX1_forecastAgain_28 : decode cX1_forecastAgain 28 = .ok (.istore_n 2, 1) := dk_61 (dk_at dksX1_forecastAgain_1 4 rfl rfl)
theorem dX1_forecastAgain_29 : decode cX1_forecastAgain 29 = .ok (.iinc 3 1, 3) := dk_132 3 1 (dk_at dksX1_forecastAgain_1 5 rfl rfl)
theorem dX1_forecastAgain_32 : decode cX1_forecastAgain 32 = .ok (.goto (-23), 3) := dk_167 255 233 (dk_at dksX1_forecastAgain_1 8 rfl rfl)
theorem dX1_forecastAgain_35 : decode cX1_forecastAgain 35 = .ok (.iload_n 2, 1) := dk_28 (dk_at dksX1_forecastAgain_1 11 rfl rfl)
theorem dX1_forecastAgain_36 : decode cX1_forecastAgain 36 = .ok (.ireturn, 1) := dk_172 (dk_at dksX1_forecastAgain_1 12 rfl rfl)
def dkwX1_forecastOf_6 : List UInt8 := [54, 5, 167, 255, 149, 21, 6, 172]
abbrev dktX1_forecastOf_6 : List UInt8 := dkwX1_forecastOf_6 ++ []
def dkwX1_forecastOf_5 : List UInt8 := [21, 4, 164, 0, 24, 132, 6, 1, 16, 9, 21, 4, 4, 96, 184, 1, 2, 54, 4, 25, 8, 180, 0, 204]
abbrev dktX1_forecastOf_5 : List UInt8 := dkwX1_forecastOf_5 ++ dktX1_forecastOf_6
def dkwX1_forecastOf_4 : List UInt8 := [180, 0, 176, 27, 160, 0, 46, 45, 180, 0, 148, 153, 0, 39, 21, 9, 154, 0, 34, 25, 8, 180, 0, 218]
abbrev dktX1_forecastOf_4 : List UInt8 := dkwX1_forecastOf_4 ++ dktX1_forecastOf_5
def dkwX1_forecastOf_3 : List UInt8 := [180, 0, 204, 182, 0, 205, 27, 182, 0, 212, 153, 0, 7, 4, 167, 0, 4, 3, 54, 9, 25, 8]
abbrev dktX1_forecastOf_3 : List UInt8 := dkwX1_forecastOf_3 ++ dktX1_forecastOf_4
def dkwX1_forecastOf_2 : List UInt8 := [185, 0, 57, 1, 0, 192, 0, 72, 58, 8, 21, 5, 25, 8, 180, 0, 204, 159, 0, 19, 42, 25, 8]
abbrev dktX1_forecastOf_2 : List UInt8 := dkwX1_forecastOf_2 ++ dktX1_forecastOf_3
def dkwX1_forecastOf_1 : List UInt8 := [54, 6, 44, 182, 1, 1, 58, 7, 25, 7, 185, 0, 51, 1, 0, 153, 0, 103, 25, 7]
abbrev dktX1_forecastOf_1 : List UInt8 := dkwX1_forecastOf_1 ++ dktX1_forecastOf_2
def dkwX1_forecastOf_0 : List UInt8 := [42, 180, 0, 14, 27, 182, 0, 142, 192, 0, 61, 78, 45, 180, 0, 155, 54, 4, 17, 252, 13, 54, 5, 3]
abbrev dktX1_forecastOf_0 : List UInt8 := dkwX1_forecastOf_0 ++ dktX1_forecastOf_1
theorem dksX1_forecastOf_0 : cX1_forecastOf.data.toList.drop 0 = dktX1_forecastOf_0 := by decide +kernel
theorem dksX1_forecastOf_1 : cX1_forecastOf.data.toList.drop 24 = dktX1_forecastOf_1 := dk_seg dksX1_forecastOf_0 24 rfl rfl
theorem dksX1_forecastOf_2 : cX1_forecastOf.data.toList.drop 44 = dktX1_forecastOf_2 := dk_seg dksX1_forecastOf_1 20 rfl rfl
theorem dksX1_forecastOf_3 : cX1_forecastOf.data.toList.drop 67 = dktX1_forecastOf_3 := dk_seg dksX1_forecastOf_2 23 rfl rfl
theorem dksX1_forecastOf_4 : cX1_forecastOf.data.toList.drop 89 = dktX1_forecastOf_4 := dk_seg dksX1_forecastOf_3 22 rfl rfl
theorem dksX1_forecastOf_5 : cX1_forecastOf.data.toList.drop 113 = dktX1_forecastOf_5 := dk_seg dksX1_forecastOf_4 24 rfl rfl
theorem dksX1_forecastOf_6 : cX1_forecastOf.data.toList.drop 137 = dktX1_forecastOf_6 := dk_seg dksX1_forecastOf_5 24 rfl rfl
theorem dX1_forecastOf_0 : decode cX1_forecastOf 0 = .ok (.aload_n 0, 1) := dk_42 (dk_at dksX1_forecastOf_0 0 rfl rfl)
theorem dX1_forecastOf_1 : decode cX1_forecastOf 1 = .ok (.getfield 14, 3) := dk_180 0 14 (dk_at dksX1_forecastOf_0 1 rfl rfl)
theorem dX1_forecastOf_4 : decode cX1_forecastOf 4 = .ok (.iload_n 1, 1) := dk_27 (dk_at dksX1_forecastOf_0 4 rfl rfl)
theorem dX1_forecastOf_5 : decode cX1_forecastOf 5 = .ok (.invokevirtual 142, 3) := dk_182 0 142 (dk_at dksX1_forecastOf_0 5 rfl rfl)
theorem dX1_forecastOf_8 : decode cX1_forecastOf 8 = .ok (.checkcast 61, 3) := dk_192 0 61 (dk_at dksX1_forecastOf_0 8 rfl rfl)
theorem dX1_forecastOf_11 : decode cX1_forecastOf 11 = .ok (.astore_n 3, 1) := dk_78 (dk_at dksX1_forecastOf_0 11 rfl rfl)
theorem dX1_forecastOf_12 : decode cX1_forecastOf 12 = .ok (.aload_n 3, 1) := dk_45 (dk_at dksX1_forecastOf_0 12 rfl rfl)
theorem dX1_forecastOf_13 : decode cX1_forecastOf 13 = .ok (.getfield 155, 3) := dk_180 0 155 (dk_at dksX1_forecastOf_0 13 rfl rfl)
theorem dX1_forecastOf_16 : decode cX1_forecastOf 16 = .ok (.istore 4, 2) := dk_54 4 (dk_at dksX1_forecastOf_0 16 rfl rfl)
theorem dX1_forecastOf_18 : decode cX1_forecastOf 18 = .ok (.sipush (-1011), 3) := dk_17 252 13 (dk_at dksX1_forecastOf_0 18 rfl rfl)
theorem dX1_forecastOf_21 : decode cX1_forecastOf 21 = .ok (.istore 5, 2) := dk_54 5 (dk_at dksX1_forecastOf_0 21 rfl rfl)
theorem dX1_forecastOf_23 : decode cX1_forecastOf 23 = .ok (.iconst 0, 1) := dk_3 (dk_at dksX1_forecastOf_0 23 rfl rfl)
theorem dX1_forecastOf_24 : decode cX1_forecastOf 24 = .ok (.istore 6, 2) := dk_54 6 (dk_at dksX1_forecastOf_1 0 rfl rfl)
theorem dX1_forecastOf_26 : decode cX1_forecastOf 26 = .ok (.aload_n 2, 1) := dk_44 (dk_at dksX1_forecastOf_1 2 rfl rfl)
theorem dX1_forecastOf_27 : decode cX1_forecastOf 27 = .ok (.invokevirtual 257, 3) := dk_182 1 1 (dk_at dksX1_forecastOf_1 3 rfl rfl)
theorem dX1_forecastOf_30 : decode cX1_forecastOf 30 = .ok (.astore 7, 2) := dk_58 7 (dk_at dksX1_forecastOf_1 6 rfl rfl)
theorem dX1_forecastOf_32 : decode cX1_forecastOf 32 = .ok (.aload 7, 2) := dk_25 7 (dk_at dksX1_forecastOf_1 8 rfl rfl)
theorem dX1_forecastOf_34 : decode cX1_forecastOf 34 = .ok (.invokeinterface 51 1, 5) := by decide +kernel
theorem dX1_forecastOf_39 : decode cX1_forecastOf 39 = .ok (.ifCond .eq 103, 3) := dk_153 0 103 (dk_at dksX1_forecastOf_1 15 rfl rfl)
theorem dX1_forecastOf_42 : decode cX1_forecastOf 42 = .ok (.aload 7, 2) := dk_25 7 (dk_at dksX1_forecastOf_1 18 rfl rfl)
theorem dX1_forecastOf_44 : decode cX1_forecastOf 44 = .ok (.invokeinterface 57 1, 5) := by decide +kernel
theorem dX1_forecastOf_49 : decode cX1_forecastOf 49 = .ok (.checkcast 72, 3) := dk_192 0 72 (dk_at dksX1_forecastOf_2 5 rfl rfl)
theorem dX1_forecastOf_52 : decode cX1_forecastOf 52 = .ok (.astore 8, 2) := dk_58 8 (dk_at dksX1_forecastOf_2 8 rfl rfl)
theorem dX1_forecastOf_54 : decode cX1_forecastOf 54 = .ok (.iload 5, 2) := dk_21 5 (dk_at dksX1_forecastOf_2 10 rfl rfl)
theorem dX1_forecastOf_56 : decode cX1_forecastOf 56 = .ok (.aload 8, 2) := dk_25 8 (dk_at dksX1_forecastOf_2 12 rfl rfl)
theorem dX1_forecastOf_58 : decode cX1_forecastOf 58 = .ok (.getfield 204, 3) := dk_180 0 204 (dk_at dksX1_forecastOf_2 14 rfl rfl)
theorem dX1_forecastOf_61 : decode cX1_forecastOf 61 = .ok (.if_icmp .eq 19, 3) := dk_159 0 19 (dk_at dksX1_forecastOf_2 17 rfl rfl)
theorem dX1_forecastOf_64 : decode cX1_forecastOf 64 = .ok (.aload_n 0, 1) := dk_42 (dk_at dksX1_forecastOf_2 20 rfl rfl)
theorem dX1_forecastOf_65 : decode cX1_forecastOf 65 = .ok (.aload 8, 2) := dk_25 8 (dk_at dksX1_forecastOf_2 21 rfl rfl)
theorem dX1_forecastOf_67 : decode cX1_forecastOf 67 = .ok (.getfield 204, 3) := dk_180 0 204 (dk_at dksX1_forecastOf_3 0 rfl rfl)
theorem dX1_forecastOf_70 : decode cX1_forecastOf 70 = .ok (.invokevirtual 205, 3) := dk_182 0 205 (dk_at dksX1_forecastOf_3 3 rfl rfl)
theorem dX1_forecastOf_73 : decode cX1_forecastOf 73 = .ok (.iload_n 1, 1) := dk_27 (dk_at dksX1_forecastOf_3 6 rfl rfl)
theorem dX1_forecastOf_74 : decode cX1_forecastOf 74 = .ok (.invokevirtual 212, 3) := dk_182 0 212 (dk_at dksX1_forecastOf_3 7 rfl rfl)
theorem dX1_forecastOf_77 : decode cX1_forecastOf 77 = .ok (.ifCond .eq 7, 3) := dk_153 0 7 (dk_at dksX1_forecastOf_3 10 rfl rfl)
theorem dX1_forecastOf_80 : decode cX1_forecastOf 80 = .ok (.iconst 1, 1) := dk_4 (dk_at dksX1_forecastOf_3 13 rfl rfl)
theorem dX1_forecastOf_81 : decode cX1_forecastOf 81 = .ok (.goto 4, 3) := dk_167 0 4 (dk_at dksX1_forecastOf_3 14 rfl rfl)
theorem dX1_forecastOf_84 : decode cX1_forecastOf 84 = .ok (.iconst 0, 1) := dk_3 (dk_at dksX1_forecastOf_3 17 rfl rfl)
theorem dX1_forecastOf_85 : decode cX1_forecastOf 85 = .ok (.istore 9, 2) := dk_54 9 (dk_at dksX1_forecastOf_3 18 rfl rfl)
theorem dX1_forecastOf_87 : decode cX1_forecastOf 87 = .ok (.aload 8, 2) := dk_25 8 (dk_at dksX1_forecastOf_3 20 rfl rfl)
theorem dX1_forecastOf_89 : decode cX1_forecastOf 89 = .ok (.getfield 176, 3) := dk_180 0 176 (dk_at dksX1_forecastOf_4 0 rfl rfl)
theorem dX1_forecastOf_92 : decode cX1_forecastOf 92 = .ok (.iload_n 1, 1) := dk_27 (dk_at dksX1_forecastOf_4 3 rfl rfl)
theorem dX1_forecastOf_93 : decode cX1_forecastOf 93 = .ok (.if_icmp .ne 46, 3) := dk_160 0 46 (dk_at dksX1_forecastOf_4 4 rfl rfl)
theorem dX1_forecastOf_96 : decode cX1_forecastOf 96 = .ok (.aload_n 3, 1) := dk_45 (dk_at dksX1_forecastOf_4 7 rfl rfl)
theorem dX1_forecastOf_97 : decode cX1_forecastOf 97 = .ok (.getfield 148, 3) := dk_180 0 148 (dk_at dksX1_forecastOf_4 8 rfl rfl)
theorem dX1_forecastOf_100 : decode cX1_forecastOf 100 = .ok (.ifCond .eq 39, 3) := dk_153 0 39 (dk_at dksX1_forecastOf_4 11 rfl rfl)
theorem dX1_forecastOf_103 : decode cX1_forecastOf 103 = .ok (.iload 9, 2) := dk_21 9 (dk_at dksX1_forecastOf_4 14 rfl rfl)
theorem dX1_forecastOf_105 : decode cX1_forecastOf 105 = .ok (.ifCond .ne 34, 3) := dk_154 0 34 (dk_at dksX1_forecastOf_4 16 rfl rfl)
theorem dX1_forecastOf_108 : decode cX1_forecastOf 108 = .ok (.aload 8, 2) := dk_25 8 (dk_at dksX1_forecastOf_4 19 rfl rfl)
theorem dX1_forecastOf_110 : decode cX1_forecastOf 110 = .ok (.getfield 218, 3) := dk_180 0 218 (dk_at dksX1_forecastOf_4 21 rfl rfl)
theorem dX1_forecastOf_113 : decode cX1_forecastOf 113 = .ok (.iload 4, 2) := dk_21 4 (dk_at dksX1_forecastOf_5 0 rfl rfl)
theorem dX1_forecastOf_115 : decode cX1_forecastOf 115 = .ok (.if_icmp .le 24, 3) := dk_164 0 24 (dk_at dksX1_forecastOf_5 2 rfl rfl)
theorem dX1_forecastOf_118 : decode cX1_forecastOf 118 = .ok (.iinc 6 1, 3) := dk_132 6 1 (dk_at dksX1_forecastOf_5 5 rfl rfl)
theorem dX1_forecastOf_121 : decode cX1_forecastOf 121 = .ok (.bipush 9, 2) := dk_16 9 (dk_at dksX1_forecastOf_5 8 rfl rfl)
theorem dX1_forecastOf_123 : decode cX1_forecastOf 123 = .ok (.iload 4, 2) := dk_21 4 (dk_at dksX1_forecastOf_5 10 rfl rfl)
theorem dX1_forecastOf_125 : decode cX1_forecastOf 125 = .ok (.iconst 1, 1) := dk_4 (dk_at dksX1_forecastOf_5 12 rfl rfl)
theorem dX1_forecastOf_126 : decode cX1_forecastOf 126 = .ok (.iadd, 1) := dk_96 (dk_at dksX1_forecastOf_5 13 rfl rfl)
theorem dX1_forecastOf_127 : decode cX1_forecastOf 127 = .ok (.invokestatic 258, 3) := dk_184 1 2 (dk_at dksX1_forecastOf_5 14 rfl rfl)
theorem dX1_forecastOf_130 : decode cX1_forecastOf 130 = .ok (.istore 4, 2) := dk_54 4 (dk_at dksX1_forecastOf_5 17 rfl rfl)
theorem dX1_forecastOf_132 : decode cX1_forecastOf 132 = .ok (.aload 8, 2) := dk_25 8 (dk_at dksX1_forecastOf_5 19 rfl rfl)
theorem dX1_forecastOf_134 : decode cX1_forecastOf 134 = .ok (.getfield 204, 3) := dk_180 0 204 (dk_at dksX1_forecastOf_5 21 rfl rfl)
theorem dX1_forecastOf_137 : decode cX1_forecastOf 137 = .ok (.istore 5, 2) := dk_54 5 (dk_at dksX1_forecastOf_6 0 rfl rfl)
theorem dX1_forecastOf_139 : decode cX1_forecastOf 139 = .ok (.goto (-107), 3) := dk_167 255 149 (dk_at dksX1_forecastOf_6 2 rfl rfl)
theorem dX1_forecastOf_142 : decode cX1_forecastOf 142 = .ok (.iload 6, 2) := dk_21 6 (dk_at dksX1_forecastOf_6 5 rfl rfl)
theorem dX1_forecastOf_144 : decode cX1_forecastOf 144 = .ok (.ireturn, 1) := dk_172 (dk_at dksX1_forecastOf_6 7 rfl rfl)
def dkwX1_ofAnswer_2 : List UInt8 := [132, 3, 1, 167, 255, 219, 17, 252, 13, 172]
abbrev dktX1_ofAnswer_2 : List UInt8 := dkwX1_ofAnswer_2 ++ []
def dkwX1_ofAnswer_1 : List UInt8 := [185, 0, 57, 1, 0, 192, 0, 108, 58, 5, 29, 27, 160, 0, 10, 25, 5, 28, 182, 1, 46, 172]
abbrev dktX1_ofAnswer_1 : List UInt8 := dkwX1_ofAnswer_1 ++ dktX1_ofAnswer_2
def dkwX1_ofAnswer_0 : List UInt8 := [3, 62, 42, 180, 0, 42, 182, 0, 107, 58, 4, 25, 4, 185, 0, 51, 1, 0, 153, 0, 33, 25, 4]
abbrev dktX1_ofAnswer_0 : List UInt8 := dkwX1_ofAnswer_0 ++ dktX1_ofAnswer_1
theorem dksX1_ofAnswer_0 : cX1_ofAnswer.data.toList.drop 0 = dktX1_ofAnswer_0 := by decide +kernel
theorem dksX1_ofAnswer_1 : cX1_ofAnswer.data.toList.drop 23 = dktX1_ofAnswer_1 := dk_seg dksX1_ofAnswer_0 23 rfl rfl
theorem dksX1_ofAnswer_2 : cX1_ofAnswer.data.toList.drop 45 = dktX1_ofAnswer_2 := dk_seg dksX1_ofAnswer_1 22 rfl rfl
theorem dX1_ofAnswer_0 : decode cX1_ofAnswer 0 = .ok (.iconst 0, 1) := dk_3 (dk_at dksX1_ofAnswer_0 0 rfl rfl)
theorem dX1_ofAnswer_1 : decode cX1_ofAnswer 1 = .ok (.istore_n 3, 1) := dk_62 (dk_at dksX1_ofAnswer_0 1 rfl rfl)
theorem dX1_ofAnswer_2 : decode cX1_ofAnswer 2 = .ok (.aload_n 0, 1) := dk_42 (dk_at dksX1_ofAnswer_0 2 rfl rfl)
theorem dX1_ofAnswer_3 : decode cX1_ofAnswer 3 = .ok (.getfield 42, 3) := dk_180 0 42 (dk_at dksX1_ofAnswer_0 3 rfl rfl)
theorem dX1_ofAnswer_6 : decode cX1_ofAnswer 6 = .ok (.invokevirtual 107, 3) := dk_182 0 107 (dk_at dksX1_ofAnswer_0 6 rfl rfl)
theorem dX1_ofAnswer_9 : decode cX1_ofAnswer 9 = .ok (.astore 4, 2) := dk_58 4 (dk_at dksX1_ofAnswer_0 9 rfl rfl)
theorem dX1_ofAnswer_11 : decode cX1_ofAnswer 11 = .ok (.aload 4, 2) := dk_25 4 (dk_at dksX1_ofAnswer_0 11 rfl rfl)
theorem dX1_ofAnswer_13 : decode cX1_ofAnswer 13 = .ok (.invokeinterface 51 1, 5) := by decide +kernel
theorem dX1_ofAnswer_18 : decode cX1_ofAnswer 18 = .ok (.ifCond .eq 33, 3) := dk_153 0 33 (dk_at dksX1_ofAnswer_0 18 rfl rfl)
theorem dX1_ofAnswer_21 : decode cX1_ofAnswer 21 = .ok (.aload 4, 2) := dk_25 4 (dk_at dksX1_ofAnswer_0 21 rfl rfl)
theorem dX1_ofAnswer_23 : decode cX1_ofAnswer 23 = .ok (.invokeinterface 57 1, 5) := by decide +kernel
theorem dX1_ofAnswer_28 : decode cX1_ofAnswer 28 = .ok (.checkcast 108, 3) := dk_192 0 108 (dk_at dksX1_ofAnswer_1 5 rfl rfl)
theorem dX1_ofAnswer_31 : decode cX1_ofAnswer 31 = .ok (.astore 5, 2) := dk_58 5 (dk_at dksX1_ofAnswer_1 8 rfl rfl)
theorem dX1_ofAnswer_33 : decode cX1_ofAnswer 33 = .ok (.iload_n 3, 1) := dk_29 (dk_at dksX1_ofAnswer_1 10 rfl rfl)
theorem dX1_ofAnswer_34 : decode cX1_ofAnswer 34 = .ok (.iload_n 1, 1) := dk_27 (dk_at dksX1_ofAnswer_1 11 rfl rfl)
theorem dX1_ofAnswer_35 : decode cX1_ofAnswer 35 = .ok (.if_icmp .ne 10, 3) := dk_160 0 10 (dk_at dksX1_ofAnswer_1 12 rfl rfl)
theorem dX1_ofAnswer_38 : decode cX1_ofAnswer 38 = .ok (.aload 5, 2) := dk_25 5 (dk_at dksX1_ofAnswer_1 15 rfl rfl)
theorem dX1_ofAnswer_40 : decode cX1_ofAnswer 40 = .ok (.iload_n 2, 1) := dk_28 (dk_at dksX1_ofAnswer_1 17 rfl rfl)
theorem dX1_ofAnswer_41 : decode cX1_ofAnswer 41 = .ok (.invokevirtual 302, 3) := dk_182 1 46 (dk_at dksX1_ofAnswer_1 18 rfl rfl)
theorem dX1_ofAnswer_44 : decode cX1_ofAnswer 44 = .ok (.ireturn, 1) := dk_172 (dk_at dksX1_ofAnswer_1 21 rfl rfl)
theorem dX1_ofAnswer_45 : decode cX1_ofAnswer 45 = .ok (.iinc 3 1, 3) := dk_132 3 1 (dk_at dksX1_ofAnswer_2 0 rfl rfl)
theorem dX1_ofAnswer_48 : decode cX1_ofAnswer 48 = .ok (.goto (-37), 3) := dk_167 255 219 (dk_at dksX1_ofAnswer_2 3 rfl rfl)
theorem dX1_ofAnswer_51 : decode cX1_ofAnswer 51 = .ok (.sipush (-1011), 3) := dk_17 252 13 (dk_at dksX1_ofAnswer_2 6 rfl rfl)
theorem dX1_ofAnswer_54 : decode cX1_ofAnswer 54 = .ok (.ireturn, 1) := dk_172 (dk_at dksX1_ofAnswer_2 9 rfl rfl)
def dkwX1_setOf_1 : List UInt8 := [120, 128, 61, 45, 21, 4, 4, 96, 182, 1, 12, 54, 4, 167, 255, 234, 28, 172]
abbrev dktX1_setOf_1 : List UInt8 := dkwX1_setOf_1 ++ []
def dkwX1_setOf_0 : List UInt8 := [3, 61, 42, 27, 182, 0, 205, 78, 45, 3, 182, 1, 12, 54, 4, 21, 4, 155, 0, 23, 28, 4, 21, 4]
abbrev dktX1_setOf_0 : List UInt8 := dkwX1_setOf_0 ++ dktX1_setOf_1
theorem dksX1_setOf_0 : cX1_setOf.data.toList.drop 0 = dktX1_setOf_0 := by decide +kernel
theorem dksX1_setOf_1 : cX1_setOf.data.toList.drop 24 = dktX1_setOf_1 := dk_seg dksX1_setOf_0 24 rfl rfl
theorem dX1_setOf_0 : decode cX1_setOf 0 = .ok (.iconst 0, 1) := dk_3 (dk_at dksX1_setOf_0 0 rfl rfl)
theorem dX1_setOf_1 : decode cX1_setOf 1 = .ok (.istore_n 2, 1) := dk_61 (dk_at dksX1_setOf_0 1 rfl rfl)
theorem dX1_setOf_2 : decode cX1_setOf 2 = .ok (.aload_n 0, 1) := dk_42 (dk_at dksX1_setOf_0 2 rfl rfl)
theorem dX1_setOf_3 : decode cX1_setOf 3 = .ok (.iload_n 1, 1) := dk_27 (dk_at dksX1_setOf_0 3 rfl rfl)
theorem dX1_setOf_4 : decode cX1_setOf 4 = .ok (.invokevirtual 205, 3) := dk_182 0 205 (dk_at dksX1_setOf_0 4 rfl rfl)
theorem dX1_setOf_7 : decode cX1_setOf 7 = .ok (.astore_n 3, 1) := dk_78 (dk_at dksX1_setOf_0 7 rfl rfl)
theorem dX1_setOf_8 : decode cX1_setOf 8 = .ok (.aload_n 3, 1) := dk_45 (dk_at dksX1_setOf_0 8 rfl rfl)
theorem dX1_setOf_9 : decode cX1_setOf 9 = .ok (.iconst 0, 1) := dk_3 (dk_at dksX1_setOf_0 9 rfl rfl)
theorem dX1_setOf_10 : decode cX1_setOf 10 = .ok (.invokevirtual 268, 3) := dk_182 1 12 (dk_at dksX1_setOf_0 10 rfl rfl)
theorem dX1_setOf_13 : decode cX1_setOf 13 = .ok (.istore 4, 2) := dk_54 4 (dk_at dksX1_setOf_0 13 rfl rfl)
theorem dX1_setOf_15 : decode cX1_setOf 15 = .ok (.iload 4, 2) := dk_21 4 (dk_at dksX1_setOf_0 15 rfl rfl)
theorem dX1_setOf_17 : decode cX1_setOf 17 = .ok (.ifCond .lt 23, 3) := dk_155 0 23 (dk_at dksX1_setOf_0 17 rfl rfl)
theorem dX1_setOf_20 : decode cX1_setOf 20 = .ok (.iload_n 2, 1) := dk_28 (dk_at dksX1_setOf_0 20 rfl rfl)
theorem dX1_setOf_21 : decode cX1_setOf 21 = .ok (.iconst 1, 1) := dk_4 (dk_at dksX1_setOf_0 21 rfl rfl)
theorem dX1_setOf_22 : decode cX1_setOf 22 = .ok (.iload 4, 2) := dk_21 4 (dk_at dksX1_setOf_0 22 rfl rfl)
theorem dX1_setOf_24 : decode cX1_setOf 24 = .ok (.ishl, 1) := dk_120 (dk_at dksX1_setOf_1 0 rfl rfl)
theorem dX1_setOf_25 : decode cX1_setOf 25 = .ok (.ior, 1) := dk_128 (dk_at dksX1_setOf_1 1 rfl rfl)
theorem dX1_setOf_26 : decode cX1_setOf 26 = .ok (.istore_n 2, 1) := dk_61 (dk_at dksX1_setOf_1 2 rfl rfl)
theorem dX1_setOf_27 : decode cX1_setOf 27 = .ok (.aload_n 3, 1) := dk_45 (dk_at dksX1_setOf_1 3 rfl rfl)
theorem dX1_setOf_28 : decode cX1_setOf 28 = .ok (.iload 4, 2) := dk_21 4 (dk_at dksX1_setOf_1 4 rfl rfl)
theorem dX1_setOf_30 : decode cX1_setOf 30 = .ok (.iconst 1, 1) := dk_4 (dk_at dksX1_setOf_1 6 rfl rfl)
theorem dX1_setOf_31 : decode cX1_setOf 31 = .ok (.iadd, 1) := dk_96 (dk_at dksX1_setOf_1 7 rfl rfl)
theorem dX1_setOf_32 : decode cX1_setOf 32 = .ok (.invokevirtual 268, 3) := dk_182 1 12 (dk_at dksX1_setOf_1 8 rfl rfl)
theorem dX1_setOf_35 : decode cX1_setOf 35 = .ok (.istore 4, 2) := dk_54 4 (dk_at dksX1_setOf_1 11 rfl rfl)
theorem dX1_setOf_37 : decode cX1_setOf 37 = .ok (.goto (-22), 3) := dk_167 255 234 (dk_at dksX1_setOf_1 13 rfl rfl)
theorem dX1_setOf_40 : decode cX1_setOf 40 = .ok (.iload_n 2, 1) := dk_28 (dk_at dksX1_setOf_1 16 rfl rfl)
theorem dX1_setOf_41 : decode cX1_setOf 41 = .ok (.ireturn, 1) := dk_172 (dk_at dksX1_setOf_1 17 rfl rfl)
def dkwX1_guess_3 : List UInt8 := [167, 0, 4, 28, 61, 132, 3, 1, 167, 255, 186, 28, 172]
abbrev dktX1_guess_3 : List UInt8 := dkwX1_guess_3 ++ []
def dkwX1_guess_2 : List UInt8 := [182, 1, 18, 184, 1, 21, 153, 0, 7, 4, 167, 0, 4, 3, 54, 5, 21, 5, 153, 0, 7, 29]
abbrev dktX1_guess_2 : List UInt8 := dkwX1_guess_2 ++ dktX1_guess_3
def dkwX1_guess_1 : List UInt8 := [28, 17, 252, 9, 159, 0, 27, 21, 4, 42, 29, 182, 1, 18, 42, 28, 27, 182, 1, 15, 42, 28]
abbrev dktX1_guess_1 : List UInt8 := dkwX1_guess_1 ++ dktX1_guess_2
def dkwX1_guess_0 : List UInt8 := [17, 252, 9, 61, 3, 62, 29, 7, 162, 0, 71, 42, 29, 27, 182, 1, 15, 54, 4, 21, 4, 158, 0, 38]
abbrev dktX1_guess_0 : List UInt8 := dkwX1_guess_0 ++ dktX1_guess_1
theorem dksX1_guess_0 : cX1_guess.data.toList.drop 0 = dktX1_guess_0 := by decide +kernel
theorem dksX1_guess_1 : cX1_guess.data.toList.drop 24 = dktX1_guess_1 := dk_seg dksX1_guess_0 24 rfl rfl
theorem dksX1_guess_2 : cX1_guess.data.toList.drop 46 = dktX1_guess_2 := dk_seg dksX1_guess_1 22 rfl rfl
theorem dksX1_guess_3 : cX1_guess.data.toList.drop 68 = dktX1_guess_3 := dk_seg dksX1_guess_2 22 rfl rfl
theorem dX1_guess_0 : decode cX1_guess 0 = .ok (.sipush (-1015), 3) := dk_17 252 9 (dk_at dksX1_guess_0 0 rfl rfl)
theorem dX1_guess_3 : decode cX1_guess 3 = .ok (.istore_n 2, 1) := dk_61 (dk_at dksX1_guess_0 3 rfl rfl)
theorem dX1_guess_4 : decode cX1_guess 4 = .ok (.iconst 0, 1) := dk_3 (dk_at dksX1_guess_0 4 rfl rfl)
theorem dX1_guess_5 : decode cX1_guess 5 = .ok (.istore_n 3, 1) := dk_62 (dk_at dksX1_guess_0 5 rfl rfl)
theorem dX1_guess_6 : decode cX1_guess 6 = .ok (.iload_n 3, 1) := dk_29 (dk_at dksX1_guess_0 6 rfl rfl)
theorem dX1_guess_7 : decode cX1_guess 7 = .ok (.iconst 4, 1) := dk_7 (dk_at dksX1_guess_0 7 rfl rfl)
theorem dX1_guess_8 : decode cX1_guess 8 = .ok (.if_icmp .ge 71, 3) := dk_162 0 71 (dk_at dksX1_guess_0 8 rfl rfl)
theorem dX1_guess_11 : decode cX1_guess 11 = .ok (.aload_n 0, 1) := dk_42 (dk_at dksX1_guess_0 11 rfl rfl)
theorem dX1_guess_12 : decode cX1_guess 12 = .ok (.iload_n 3, 1) := dk_29 (dk_at dksX1_guess_0 12 rfl rfl)
theorem dX1_guess_13 : decode cX1_guess 13 = .ok (.iload_n 1, 1) := dk_27 (dk_at dksX1_guess_0 13 rfl rfl)
theorem dX1_guess_14 : decode cX1_guess 14 = .ok (.invokevirtual 271, 3) := dk_182 1 15 (dk_at dksX1_guess_0 14 rfl rfl)
theorem dX1_guess_17 : decode cX1_guess 17 = .ok (.istore 4, 2) := dk_54 4 (dk_at dksX1_guess_0 17 rfl rfl)
theorem dX1_guess_19 : decode cX1_guess 19 = .ok (.iload 4, 2) := dk_21 4 (dk_at dksX1_guess_0 19 rfl rfl)
theorem dX1_guess_21 : decode cX1_guess 21 = .ok (.ifCond .le 38, 3) := dk_158 0 38 (dk_at dksX1_guess_0 21 rfl rfl)
theorem dX1_guess_24 : decode cX1_guess 24 = .ok (.iload_n 2, 1) := dk_28 (dk_at dksX1_guess_1 0 rfl rfl)
theorem dX1_guess_25 : decode cX1_guess 25 = .ok (.sipush (-1015), 3) := dk_17 252 9 (dk_at dksX1_guess_1 1 rfl rfl)
theorem dX1_guess_28 : decode cX1_guess 28 = .ok (.if_icmp .eq 27, 3) := dk_159 0 27 (dk_at dksX1_guess_1 4 rfl rfl)
theorem dX1_guess_31 : decode cX1_guess 31 = .ok (.iload 4, 2) := dk_21 4 (dk_at dksX1_guess_1 7 rfl rfl)
theorem dX1_guess_33 : decode cX1_guess 33 = .ok (.aload_n 0, 1) := dk_42 (dk_at dksX1_guess_1 9 rfl rfl)
theorem dX1_guess_34 : decode cX1_guess 34 = .ok (.iload_n 3, 1) := dk_29 (dk_at dksX1_guess_1 10 rfl rfl)
theorem dX1_guess_35 : decode cX1_guess 35 = .ok (.invokevirtual 274, 3) := dk_182 1 18 (dk_at dksX1_guess_1 11 rfl rfl)
theorem dX1_guess_38 : decode cX1_guess 38 = .ok (.aload_n 0, 1) := dk_42 (dk_at dksX1_guess_1 14 rfl rfl)
theorem dX1_guess_39 : decode cX1_guess 39 = .ok (.iload_n 2, 1) := dk_28 (dk_at dksX1_guess_1 15 rfl rfl)
theorem dX1_guess_40 : decode cX1_guess 40 = .ok (.iload_n 1, 1) := dk_27 (dk_at dksX1_guess_1 16 rfl rfl)
theorem dX1_guess_41 : decode cX1_guess 41 = .ok (.invokevirtual 271, 3) := dk_182 1 15 (dk_at dksX1_guess_1 17 rfl rfl)
theorem dX1_guess_44 : decode cX1_guess 44 = .ok (.aload_n 0, 1) := dk_42 (dk_at dksX1_guess_1 20 rfl rfl)
theorem dX1_guess_45 : decode cX1_guess 45 = .ok (.iload_n 2, 1) := dk_28 (dk_at dksX1_guess_1 21 rfl rfl)
theorem dX1_guess_46 : decode cX1_guess 46 = .ok (.invokevirtual 274, 3) := dk_182 1 18 (dk_at dksX1_guess_2 0 rfl rfl)
theorem dX1_guess_49 : decode cX1_guess 49 = .ok (.invokestatic 277, 3) := dk_184 1 21 (dk_at dksX1_guess_2 3 rfl rfl)
theorem dX1_guess_52 : decode cX1_guess 52 = .ok (.ifCond .eq 7, 3) := dk_153 0 7 (dk_at dksX1_guess_2 6 rfl rfl)
theorem dX1_guess_55 : decode cX1_guess 55 = .ok (.iconst 1, 1) := dk_4 (dk_at dksX1_guess_2 9 rfl rfl)
theorem dX1_guess_56 : decode cX1_guess 56 = .ok (.goto 4, 3) := dk_167 0 4 (dk_at dksX1_guess_2 10 rfl rfl)
theorem dX1_guess_59 : decode cX1_guess 59 = .ok (.iconst 0, 1) := dk_3 (dk_at dksX1_guess_2 13 rfl rfl)
theorem dX1_guess_60 : decode cX1_guess 60 = .ok (.istore 5, 2) := dk_54 5 (dk_at dksX1_guess_2 14 rfl rfl)
theorem dX1_guess_62 : decode cX1_guess 62 = .ok (.iload 5, 2) := dk_21 5 (dk_at dksX1_guess_2 16 rfl rfl)
theorem dX1_guess_64 : decode cX1_guess 64 = .ok (.ifCond .eq 7, 3) := dk_153 0 7 (dk_at dksX1_guess_2 18 rfl rfl)
theorem dX1_guess_67 : decode cX1_guess 67 = .ok (.iload_n 3, 1) := dk_29 (dk_at dksX1_guess_2 21 rfl rfl)
theorem dX1_guess_68 : decode cX1_guess 68 = .ok (.goto 4, 3) := dk_167 0 4 (dk_at dksX1_guess_3 0 rfl rfl)
theorem dX1_guess_71 : decode cX1_guess 71 = .ok (.iload_n 2, 1) := dk_28 (dk_at dksX1_guess_3 3 rfl rfl)
theorem dX1_guess_72 : decode cX1_guess 72 = .ok (.istore_n 2, 1) := dk_61 (dk_at dksX1_guess_3 4 rfl rfl)
theorem dX1_guess_73 : decode cX1_guess 73 = .ok (.iinc 3 1, 3) := dk_132 3 1 (dk_at dksX1_guess_3 5 rfl rfl)
theorem dX1_guess_76 : decode cX1_guess 76 = .ok (.goto (-70), 3) := dk_167 255 186 (dk_at dksX1_guess_3 8 rfl rfl)
theorem dX1_guess_79 : decode cX1_guess 79 = .ok (.iload_n 2, 1) := dk_28 (dk_at dksX1_guess_3 11 rfl rfl)
theorem dX1_guess_80 : decode cX1_guess 80 = .ok (.ireturn, 1) := dk_172 (dk_at dksX1_guess_3 12 rfl rfl)
def dkwX1_answeredOf_2 : List UInt8 := [153, 0, 7, 4, 167, 0, 4, 3, 96, 62, 132, 4, 1, 167, 255, 201, 29, 172]
abbrev dktX1_answeredOf_2 : List UInt8 := dkwX1_answeredOf_2 ++ []
def dkwX1_answeredOf_1 : List UInt8 := [182, 0, 142, 192, 0, 61, 180, 0, 145, 27, 160, 0, 20, 42, 28, 182, 0, 205, 21, 4, 182, 0, 212]
abbrev dktX1_answeredOf_1 : List UInt8 := dkwX1_answeredOf_1 ++ dktX1_answeredOf_2
def dkwX1_answeredOf_0 : List UInt8 := [3, 62, 3, 54, 4, 21, 4, 42, 180, 0, 14, 182, 0, 130, 162, 0, 49, 29, 42, 180, 0, 14, 21, 4]
abbrev dktX1_answeredOf_0 : List UInt8 := dkwX1_answeredOf_0 ++ dktX1_answeredOf_1
theorem dksX1_answeredOf_0 : cX1_answeredOf.data.toList.drop 0 = dktX1_answeredOf_0 := by decide +kernel
theorem dksX1_answeredOf_1 : cX1_answeredOf.data.toList.drop 24 = dktX1_answeredOf_1 := dk_seg dksX1_answeredOf_0 24 rfl rfl
theorem dksX1_answeredOf_2 : cX1_answeredOf.data.toList.drop 47 = dktX1_answeredOf_2 := dk_seg dksX1_answeredOf_1 23 rfl rfl
theorem dX1_answeredOf_0 : decode cX1_answeredOf 0 = .ok (.iconst 0, 1) := dk_3 (dk_at dksX1_answeredOf_0 0 rfl rfl)
theorem dX1_answeredOf_1 : decode cX1_answeredOf 1 = .ok (.istore_n 3, 1) := dk_62 (dk_at dksX1_answeredOf_0 1 rfl rfl)
theorem dX1_answeredOf_2 : decode cX1_answeredOf 2 = .ok (.iconst 0, 1) := dk_3 (dk_at dksX1_answeredOf_0 2 rfl rfl)
theorem dX1_answeredOf_3 : decode cX1_answeredOf 3 = .ok (.istore 4, 2) := dk_54 4 (dk_at dksX1_answeredOf_0 3 rfl rfl)
theorem dX1_answeredOf_5 : decode cX1_answeredOf 5 = .ok (.iload 4, 2) := dk_21 4 (dk_at dksX1_answeredOf_0 5 rfl rfl)
theorem dX1_answeredOf_7 : decode cX1_answeredOf 7 = .ok (.aload_n 0, 1) := dk_42 (dk_at dksX1_answeredOf_0 7 rfl rfl)
theorem dX1_answeredOf_8 : decode cX1_answeredOf 8 = .ok (.getfield 14, 3) := dk_180 0 14 (dk_at dksX1_answeredOf_0 8 rfl rfl)
theorem dX1_answeredOf_11 : decode cX1_answeredOf 11 = .ok (.invokevirtual 130, 3) := dk_182 0 130 (dk_at dksX1_answeredOf_0 11 rfl rfl)
theorem dX1_answeredOf_14 : decode cX1_answeredOf 14 = .ok (.if_icmp .ge 49, 3) := dk_162 0 49 (dk_at dksX1_answeredOf_0 14 rfl rfl)
theorem dX1_answeredOf_17 : decode cX1_answeredOf 17 = .ok (.iload_n 3, 1) := dk_29 (dk_at dksX1_answeredOf_0 17 rfl rfl)
theorem dX1_answeredOf_18 : decode cX1_answeredOf 18 = .ok (.aload_n 0, 1) := dk_42 (dk_at dksX1_answeredOf_0 18 rfl rfl)
theorem dX1_answeredOf_19 : decode cX1_answeredOf 19 = .ok (.getfield 14, 3) := dk_180 0 14 (dk_at dksX1_answeredOf_0 19 rfl rfl)
theorem dX1_answeredOf_22 : decode cX1_answeredOf 22 = .ok (.iload 4, 2) := dk_21 4 (dk_at dksX1_answeredOf_0 22 rfl rfl)
theorem dX1_answeredOf_24 : decode cX1_answeredOf 24 = .ok (.invokevirtual 142, 3) := dk_182 0 142 (dk_at dksX1_answeredOf_1 0 rfl rfl)
theorem dX1_answeredOf_27 : decode cX1_answeredOf 27 = .ok (.checkcast 61, 3) := dk_192 0 61 (dk_at dksX1_answeredOf_1 3 rfl rfl)
theorem dX1_answeredOf_30 : decode cX1_answeredOf 30 = .ok (.getfield 145, 3) := dk_180 0 145 (dk_at dksX1_answeredOf_1 6 rfl rfl)
theorem dX1_answeredOf_33 : decode cX1_answeredOf 33 = .ok (.iload_n 1, 1) := dk_27 (dk_at dksX1_answeredOf_1 9 rfl rfl)
theorem dX1_answeredOf_34 : decode cX1_answeredOf 34 = .ok (.if_icmp .ne 20, 3) := dk_160 0 20 (dk_at dksX1_answeredOf_1 10 rfl rfl)
theorem dX1_answeredOf_37 : decode cX1_answeredOf 37 = .ok (.aload_n 0, 1) := dk_42 (dk_at dksX1_answeredOf_1 13 rfl rfl)
theorem dX1_answeredOf_38 : decode cX1_answeredOf 38 = .ok (.iload_n 2, 1) := dk_28 (dk_at dksX1_answeredOf_1 14 rfl rfl)
theorem dX1_answeredOf_39 : decode cX1_answeredOf 39 = .ok (.invokevirtual 205, 3) := dk_182 0 205 (dk_at dksX1_answeredOf_1 15 rfl rfl)
theorem dX1_answeredOf_42 : decode cX1_answeredOf 42 = .ok (.iload 4, 2) := dk_21 4 (dk_at dksX1_answeredOf_1 18 rfl rfl)
theorem dX1_answeredOf_44 : decode cX1_answeredOf 44 = .ok (.invokevirtual 212, 3) := dk_182 0 212 (dk_at dksX1_answeredOf_1 20 rfl rfl)
theorem dX1_answeredOf_47 : decode cX1_answeredOf 47 = .ok (.ifCond .eq 7, 3) := dk_153 0 7 (dk_at dksX1_answeredOf_2 0 rfl rfl)
theorem dX1_answeredOf_50 : decode cX1_answeredOf 50 = .ok (.iconst 1, 1) := dk_4 (dk_at dksX1_answeredOf_2 3 rfl rfl)
theorem dX1_answeredOf_51 : decode cX1_answeredOf 51 = .ok (.goto 4, 3) := dk_167 0 4 (dk_at dksX1_answeredOf_2 4 rfl rfl)
theorem dX1_answeredOf_54 : decode cX1_answeredOf 54 = .ok (.iconst 0, 1) := dk_3 (dk_at dksX1_answeredOf_2 7 rfl rfl)
theorem dX1_answeredOf_55 : decode cX1_answeredOf 55 = .ok (.iadd, 1) := dk_96 (dk_at dksX1_answeredOf_2 8 rfl rfl)
theorem dX1_answeredOf_56 : decode cX1_answeredOf 56 = .ok (.istore_n 3, 1) := dk_62 (dk_at dksX1_answeredOf_2 9 rfl rfl)
theorem dX1_answeredOf_57 : decode cX1_answeredOf 57 = .ok (.iinc 4 1, 3) := dk_132 4 1 (dk_at dksX1_answeredOf_2 10 rfl rfl)
theorem dX1_answeredOf_60 : decode cX1_answeredOf 60 = .ok (.goto (-55), 3) := dk_167 255 201 (dk_at dksX1_answeredOf_2 13 rfl rfl)
theorem dX1_answeredOf_63 : decode cX1_answeredOf 63 = .ok (.iload_n 3, 1) := dk_29 (dk_at dksX1_answeredOf_2 16 rfl rfl)
theorem dX1_answeredOf_64 : decode cX1_answeredOf 64 = .ok (.ireturn, 1) := dk_172 (dk_at dksX1_answeredOf_2 17 rfl rfl)
def dkwX1_ropesOf_2 : List UInt8 := [3, 96, 61, 167, 255, 219, 28, 172]
abbrev dktX1_ropesOf_2 : List UInt8 := dkwX1_ropesOf_2 ++ []
def dkwX1_ropesOf_1 : List UInt8 := [185, 0, 57, 1, 0, 192, 0, 61, 58, 4, 28, 25, 4, 180, 0, 145, 27, 160, 0, 7, 4, 167, 0, 4]
abbrev dktX1_ropesOf_1 : List UInt8 := dkwX1_ropesOf_1 ++ dktX1_ropesOf_2
def dkwX1_ropesOf_0 : List UInt8 := [3, 61, 42, 180, 0, 14, 182, 0, 47, 78, 45, 185, 0, 51, 1, 0, 153, 0, 34, 45]
abbrev dktX1_ropesOf_0 : List UInt8 := dkwX1_ropesOf_0 ++ dktX1_ropesOf_1
theorem dksX1_ropesOf_0 : cX1_ropesOf.data.toList.drop 0 = dktX1_ropesOf_0 := by decide +kernel
theorem dksX1_ropesOf_1 : cX1_ropesOf.data.toList.drop 20 = dktX1_ropesOf_1 := dk_seg dksX1_ropesOf_0 20 rfl rfl
theorem dksX1_ropesOf_2 : cX1_ropesOf.data.toList.drop 44 = dktX1_ropesOf_2 := dk_seg dksX1_ropesOf_1 24 rfl rfl
theorem dX1_ropesOf_0 : decode cX1_ropesOf 0 = .ok (.iconst 0, 1) := dk_3 (dk_at dksX1_ropesOf_0 0 rfl rfl)
theorem dX1_ropesOf_1 : decode cX1_ropesOf 1 = .ok (.istore_n 2, 1) := dk_61 (dk_at dksX1_ropesOf_0 1 rfl rfl)
theorem dX1_ropesOf_2 : decode cX1_ropesOf 2 = .ok (.aload_n 0, 1) := dk_42 (dk_at dksX1_ropesOf_0 2 rfl rfl)
theorem dX1_ropesOf_3 : decode cX1_ropesOf 3 = .ok (.getfield 14, 3) := dk_180 0 14 (dk_at dksX1_ropesOf_0 3 rfl rfl)
theorem dX1_ropesOf_6 : decode cX1_ropesOf 6 = .ok (.invokevirtual 47, 3) := dk_182 0 47 (dk_at dksX1_ropesOf_0 6 rfl rfl)
theorem dX1_ropesOf_9 : decode cX1_ropesOf 9 = .ok (.astore_n 3, 1) := dk_78 (dk_at dksX1_ropesOf_0 9 rfl rfl)
theorem dX1_ropesOf_10 : decode cX1_ropesOf 10 = .ok (.aload_n 3, 1) := dk_45 (dk_at dksX1_ropesOf_0 10 rfl rfl)
theorem dX1_ropesOf_11 : decode cX1_ropesOf 11 = .ok (.invokeinterface 51 1, 5) := by decide +kernel
theorem dX1_ropesOf_16 : decode cX1_ropesOf 16 = .ok (.ifCond .eq 34, 3) := dk_153 0 34 (dk_at dksX1_ropesOf_0 16 rfl rfl)
theorem dX1_ropesOf_19 : decode cX1_ropesOf 19 = .ok (.aload_n 3, 1) := dk_45 (dk_at dksX1_ropesOf_0 19 rfl rfl)
theorem dX1_ropesOf_20 : decode cX1_ropesOf 20 = .ok (.invokeinterface 57 1, 5) := by decide +kernel
theorem dX1_ropesOf_25 : decode cX1_ropesOf 25 = .ok (.checkcast 61, 3) := dk_192 0 61 (dk_at dksX1_ropesOf_1 5 rfl rfl)
theorem dX1_ropesOf_28 : decode cX1_ropesOf 28 = .ok (.astore 4, 2) := dk_58 4 (dk_at dksX1_ropesOf_1 8 rfl rfl)
theorem dX1_ropesOf_30 : decode cX1_ropesOf 30 = .ok (.iload_n 2, 1) := dk_28 (dk_at dksX1_ropesOf_1 10 rfl rfl)
theorem dX1_ropesOf_31 : decode cX1_ropesOf 31 = .ok (.aload 4, 2) := dk_25 4 (dk_at dksX1_ropesOf_1 11 rfl rfl)
theorem dX1_ropesOf_33 : decode cX1_ropesOf 33 = .ok (.getfield 145, 3) := dk_180 0 145 (dk_at dksX1_ropesOf_1 13 rfl rfl)
theorem dX1_ropesOf_36 : decode cX1_ropesOf 36 = .ok (.iload_n 1, 1) := dk_27 (dk_at dksX1_ropesOf_1 16 rfl rfl)
theorem dX1_ropesOf_37 : decode cX1_ropesOf 37 = .ok (.if_icmp .ne 7, 3) := dk_160 0 7 (dk_at dksX1_ropesOf_1 17 rfl rfl)
theorem dX1_ropesOf_40 : decode cX1_ropesOf 40 = .ok (.iconst 1, 1) := dk_4 (dk_at dksX1_ropesOf_1 20 rfl rfl)
theorem dX1_ropesOf_41 : decode cX1_ropesOf 41 = .ok (.goto 4, 3) := dk_167 0 4 (dk_at dksX1_ropesOf_1 21 rfl rfl)
theorem dX1_ropesOf_44 : decode cX1_ropesOf 44 = .ok (.iconst 0, 1) := dk_3 (dk_at dksX1_ropesOf_2 0 rfl rfl)
theorem dX1_ropesOf_45 : decode cX1_ropesOf 45 = .ok (.iadd, 1) := dk_96 (dk_at dksX1_ropesOf_2 1 rfl rfl)
theorem dX1_ropesOf_46 : decode cX1_ropesOf 46 = .ok (.istore_n 2, 1) := dk_61 (dk_at dksX1_ropesOf_2 2 rfl rfl)
theorem dX1_ropesOf_47 : decode cX1_ropesOf 47 = .ok (.goto (-37), 3) := dk_167 255 219 (dk_at dksX1_ropesOf_2 3 rfl rfl)
theorem dX1_ropesOf_50 : decode cX1_ropesOf 50 = .ok (.iload_n 2, 1) := dk_28 (dk_at dksX1_ropesOf_2 6 rfl rfl)
theorem dX1_ropesOf_51 : decode cX1_ropesOf 51 = .ok (.ireturn, 1) := dk_172 (dk_at dksX1_ropesOf_2 7 rfl rfl)
def dkwX1_isMore_1 : List UInt8 := [167, 0, 13, 26, 28, 164, 0, 7, 4, 167, 0, 4, 3, 172]
abbrev dktX1_isMore_1 : List UInt8 := dkwX1_isMore_1 ++ []
def dkwX1_isMore_0 : List UInt8 := [26, 29, 104, 28, 27, 104, 100, 54, 4, 21, 4, 153, 0, 16, 21, 4, 158, 0, 7, 4, 167, 0, 17, 3]
abbrev dktX1_isMore_0 : List UInt8 := dkwX1_isMore_0 ++ dktX1_isMore_1
theorem dksX1_isMore_0 : cX1_isMore.data.toList.drop 0 = dktX1_isMore_0 := by decide +kernel
theorem dksX1_isMore_1 : cX1_isMore.data.toList.drop 24 = dktX1_isMore_1 := dk_seg dksX1_isMore_0 24 rfl rfl
theorem dX1_isMore_0 : decode cX1_isMore 0 = .ok (.iload_n 0, 1) := dk_26 (dk_at dksX1_isMore_0 0 rfl rfl)
theorem dX1_isMore_1 : decode cX1_isMore 1 = .ok (.iload_n 3, 1) := dk_29 (dk_at dksX1_isMore_0 1 rfl rfl)
theorem dX1_isMore_2 : decode cX1_isMore 2 = .ok (.imul, 1) := dk_104 (dk_at dksX1_isMore_0 2 rfl rfl)
theorem dX1_isMore_3 : decode cX1_isMore 3 = .ok (.iload_n 2, 1) := dk_28 (dk_at dksX1_isMore_0 3 rfl rfl)
theorem dX1_isMore_4 : decode cX1_isMore 4 = .ok (.iload_n 1, 1) := dk_27 (dk_at dksX1_isMore_0 4 rfl rfl)
theorem dX1_isMore_5 : decode cX1_isMore 5 = .ok (.imul, 1) := dk_104 (dk_at dksX1_isMore_0 5 rfl rfl)
theorem dX1_isMore_6 : decode cX1_isMore 6 = .ok (.isub, 1) := dk_100 (dk_at dksX1_isMore_0 6 rfl rfl)
theorem dX1_isMore_7 : decode cX1_isMore 7 = .ok (.istore 4, 2) := dk_54 4 (dk_at dksX1_isMore_0 7 rfl rfl)
theorem dX1_isMore_9 : decode cX1_isMore 9 = .ok (.iload 4, 2) := dk_21 4 (dk_at dksX1_isMore_0 9 rfl rfl)
theorem dX1_isMore_11 : decode cX1_isMore 11 = .ok (.ifCond .eq 16, 3) := dk_153 0 16 (dk_at dksX1_isMore_0 11 rfl rfl)
theorem dX1_isMore_14 : decode cX1_isMore 14 = .ok (.iload 4, 2) := dk_21 4 (dk_at dksX1_isMore_0 14 rfl rfl)
theorem dX1_isMore_16 : decode cX1_isMore 16 = .ok (.ifCond .le 7, 3) := dk_158 0 7 (dk_at dksX1_isMore_0 16 rfl rfl)
theorem dX1_isMore_19 : decode cX1_isMore 19 = .ok (.iconst 1, 1) := dk_4 (dk_at dksX1_isMore_0 19 rfl rfl)
theorem dX1_isMore_20 : decode cX1_isMore 20 = .ok (.goto 17, 3) := dk_167 0 17 (dk_at dksX1_isMore_0 20 rfl rfl)
theorem dX1_isMore_23 : decode cX1_isMore 23 = .ok (.iconst 0, 1) := dk_3 (dk_at dksX1_isMore_0 23 rfl rfl)
theorem dX1_isMore_24 : decode cX1_isMore 24 = .ok (.goto 13, 3) := dk_167 0 13 (dk_at dksX1_isMore_1 0 rfl rfl)
theorem dX1_isMore_27 : decode cX1_isMore 27 = .ok (.iload_n 0, 1) := dk_26 (dk_at dksX1_isMore_1 3 rfl rfl)
theorem dX1_isMore_28 : decode cX1_isMore 28 = .ok (.iload_n 2, 1) := dk_28 (dk_at dksX1_isMore_1 4 rfl rfl)
theorem dX1_isMore_29 : decode cX1_isMore 29 = .ok (.if_icmp .le 7, 3) := dk_164 0 7 (dk_at dksX1_isMore_1 5 rfl rfl)
theorem dX1_isMore_32 : decode cX1_isMore 32 = .ok (.iconst 1, 1) := dk_4 (dk_at dksX1_isMore_1 8 rfl rfl)
theorem dX1_isMore_33 : decode cX1_isMore 33 = .ok (.goto 4, 3) := dk_167 0 4 (dk_at dksX1_isMore_1 9 rfl rfl)
theorem dX1_isMore_36 : decode cX1_isMore 36 = .ok (.iconst 0, 1) := dk_3 (dk_at dksX1_isMore_1 12 rfl rfl)
theorem dX1_isMore_37 : decode cX1_isMore 37 = .ok (.ireturn, 1) := dk_172 (dk_at dksX1_isMore_1 13 rfl rfl)
def dkwX1_guessAgain_7 : List UInt8 := [21, 4, 54, 4, 132, 6, 255, 167, 255, 179, 21, 4, 172]
abbrev dktX1_guessAgain_7 : List UInt8 := dkwX1_guessAgain_7 ++ []
def dkwX1_guessAgain_6 : List UInt8 := [21, 4, 46, 161, 0, 7, 4, 167, 0, 4, 3, 54, 7, 21, 7, 153, 0, 8, 21, 6, 167, 0, 5]
abbrev dktX1_guessAgain_6 : List UInt8 := dkwX1_guessAgain_6 ++ dktX1_guessAgain_7
def dkwX1_guessAgain_5 : List UInt8 := [44, 21, 4, 46, 163, 0, 25, 44, 21, 6, 46, 44, 21, 4, 46, 160, 0, 18, 45, 21, 6, 46, 45]
abbrev dktX1_guessAgain_5 : List UInt8 := dkwX1_guessAgain_5 ++ dktX1_guessAgain_6
def dkwX1_guessAgain_4 : List UInt8 := [21, 6, 155, 0, 78, 45, 21, 6, 46, 158, 0, 48, 21, 4, 17, 252, 9, 159, 0, 36, 44, 21, 6, 46]
abbrev dktX1_guessAgain_4 : List UInt8 := dkwX1_guessAgain_4 ++ dktX1_guessAgain_5
def dkwX1_guessAgain_3 : List UInt8 := [21, 7, 92, 46, 4, 96, 79, 25, 5, 21, 6, 4, 96, 182, 1, 12, 54, 6, 167, 255, 198, 6, 54, 6]
abbrev dktX1_guessAgain_3 : List UInt8 := dkwX1_guessAgain_3 ++ dktX1_guessAgain_4
def dkwX1_guessAgain_2 : List UInt8 := [180, 0, 145, 54, 7, 44, 21, 7, 92, 46, 17, 108, 72, 42, 21, 7, 182, 1, 18, 108, 96, 79, 45]
abbrev dktX1_guessAgain_2 : List UInt8 := dkwX1_guessAgain_2 ++ dktX1_guessAgain_3
def dkwX1_guessAgain_1 : List UInt8 := [182, 1, 12, 54, 6, 21, 6, 155, 0, 59, 42, 180, 0, 14, 21, 6, 182, 0, 142, 192, 0, 61]
abbrev dktX1_guessAgain_1 : List UInt8 := dkwX1_guessAgain_1 ++ dktX1_guessAgain_2
def dkwX1_guessAgain_0 : List UInt8 := [7, 188, 10, 77, 7, 188, 10, 78, 17, 252, 9, 54, 4, 42, 27, 182, 0, 205, 58, 5, 25, 5, 3]
abbrev dktX1_guessAgain_0 : List UInt8 := dkwX1_guessAgain_0 ++ dktX1_guessAgain_1
theorem dksX1_guessAgain_0 : cX1_guessAgain.data.toList.drop 0 = dktX1_guessAgain_0 := by decide +kernel
theorem dksX1_guessAgain_1 : cX1_guessAgain.data.toList.drop 23 = dktX1_guessAgain_1 := dk_seg dksX1_guessAgain_0 23 rfl rfl
theorem dksX1_guessAgain_2 : cX1_guessAgain.data.toList.drop 45 = dktX1_guessAgain_2 := dk_seg dksX1_guessAgain_1 22 rfl rfl
theorem dksX1_guessAgain_3 : cX1_guessAgain.data.toList.drop 68 = dktX1_guessAgain_3 := dk_seg dksX1_guessAgain_2 23 rfl rfl
theorem dksX1_guessAgain_4 : cX1_guessAgain.data.toList.drop 92 = dktX1_guessAgain_4 := dk_seg dksX1_guessAgain_3 24 rfl rfl
theorem dksX1_guessAgain_5 : cX1_guessAgain.data.toList.drop 116 = dktX1_guessAgain_5 := dk_seg dksX1_guessAgain_4 24 rfl rfl
theorem dksX1_guessAgain_6 : cX1_guessAgain.data.toList.drop 139 = dktX1_guessAgain_6 := dk_seg dksX1_guessAgain_5 23 rfl rfl
theorem dksX1_guessAgain_7 : cX1_guessAgain.data.toList.drop 162 = dktX1_guessAgain_7 := dk_seg dksX1_guessAgain_6 23 rfl rfl
theorem dX1_guessAgain_0 : decode cX1_guessAgain 0 = .ok (.iconst 4, 1) := dk_7 (dk_at dksX1_guessAgain_0 0 rfl rfl)
theorem dX1_guessAgain_1 : decode cX1_guessAgain 1 = .ok (.newarray .int, 2) := dk_188_10 (dk_at dksX1_guessAgain_0 1 rfl rfl)
theorem dX1_guessAgain_3 : decode cX1_guessAgain 3 = .ok (.astore_n 2, 1) := dk_77 (dk_at dksX1_guessAgain_0 3 rfl rfl)
theorem dX1_guessAgain_4 : decode cX1_guessAgain 4 = .ok (.iconst 4, 1) := dk_7 (dk_at dksX1_guessAgain_0 4 rfl rfl)
theorem dX1_guessAgain_5 : decode cX1_guessAgain 5 = .ok (.newarray .int, 2) := dk_188_10 (dk_at dksX1_guessAgain_0 5 rfl rfl)
theorem dX1_guessAgain_7 : decode cX1_guessAgain 7 = .ok (.astore_n 3, 1) := dk_78 (dk_at dksX1_guessAgain_0 7 rfl rfl)
theorem dX1_guessAgain_8 : decode cX1_guessAgain 8 = .ok (.sipush (-1015), 3) := dk_17 252 9 (dk_at dksX1_guessAgain_0 8 rfl rfl)
theorem dX1_guessAgain_11 : decode cX1_guessAgain 11 = .ok (.istore 4, 2) := dk_54 4 (dk_at dksX1_guessAgain_0 11 rfl rfl)
theorem dX1_guessAgain_13 : decode cX1_guessAgain 13 = .ok (.aload_n 0, 1) := dk_42 (dk_at dksX1_guessAgain_0 13 rfl rfl)
theorem dX1_guessAgain_14 : decode cX1_guessAgain 14 = .ok (.iload_n 1, 1) := dk_27 (dk_at dksX1_guessAgain_0 14 rfl rfl)
theorem dX1_guessAgain_15 : decode cX1_guessAgain 15 = .ok (.invokevirtual 205, 3) := dk_182 0 205 (dk_at dksX1_guessAgain_0 15 rfl rfl)
theorem dX1_guessAgain_18 : decode cX1_guessAgain 18 = .ok (.astore 5, 2) := dk_58 5 (dk_at dksX1_guessAgain_0 18 rfl rfl)
theorem dX1_guessAgain_20 : decode cX1_guessAgain 20 = .ok (.aload 5, 2) := dk_25 5 (dk_at dksX1_guessAgain_0 20 rfl rfl)
theorem dX1_guessAgain_22 : decode cX1_guessAgain 22 = .ok (.iconst 0, 1) := dk_3 (dk_at dksX1_guessAgain_0 22 rfl rfl)
theorem dX1_guessAgain_23 : decode cX1_guessAgain 23 = .ok (.invokevirtual 268, 3) := dk_182 1 12 (dk_at dksX1_guessAgain_1 0 rfl rfl)
theorem dX1_guessAgain_26 : decode cX1_guessAgain 26 = .ok (.istore 6, 2) := dk_54 6 (dk_at dksX1_guessAgain_1 3 rfl rfl)
theorem dX1_guessAgain_28 : decode cX1_guessAgain 28 = .ok (.iload 6, 2) := dk_21 6 (dk_at dksX1_guessAgain_1 5 rfl rfl)
theorem dX1_guessAgain_30 : decode cX1_guessAgain 30 = .ok (.ifCond .lt 59, 3) := dk_155 0 59 (dk_at dksX1_guessAgain_1 7 rfl rfl)
theorem dX1_guessAgain_33 : decode cX1_guessAgain 33 = .ok (.aload_n 0, 1) := dk_42 (dk_at dksX1_guessAgain_1 10 rfl rfl)
theorem dX1_guessAgain_34 : decode cX1_guessAgain 34 = .ok (.getfield 14, 3) := dk_180 0 14 (dk_at dksX1_guessAgain_1 11 rfl rfl)
theorem dX1_guessAgain_37 : decode cX1_guessAgain 37 = .ok (.iload 6, 2) := dk_21 6 (dk_at dksX1_guessAgain_1 14 rfl rfl)
theorem dX1_guessAgain_39 : decode cX1_guessAgain 39 = .ok (.invokevirtual 142, 3) := dk_182 0 142 (dk_at dksX1_guessAgain_1 16 rfl rfl)
theorem dX1_guessAgain_42 : decode cX1_guessAgain 42 = .ok (.checkcast 61, 3) := dk_192 0 61 (dk_at dksX1_guessAgain_1 19 rfl rfl)
theorem dX1_guessAgain_45 : decode cX1_guessAgain 45 = .ok (.getfield 145, 3) := dk_180 0 145 (dk_at dksX1_guessAgain_2 0 rfl rfl)
theorem dX1_guessAgain_48 : decode cX1_guessAgain 48 = .ok (.istore 7, 2) := dk_54 7 (dk_at dksX1_guessAgain_2 3 rfl rfl)
theorem dX1_guessAgain_50 : decode cX1_guessAgain 50 = .ok (.aload_n 2, 1) := dk_44 (dk_at dksX1_guessAgain_2 5 rfl rfl)
theorem dX1_guessAgain_51 : decode cX1_guessAgain 51 = .ok (.iload 7, 2) := dk_21 7 (dk_at dksX1_guessAgain_2 6 rfl rfl)
theorem dX1_guessAgain_53 : decode cX1_guessAgain 53 = .ok (.dup2, 1) := dk_92 (dk_at dksX1_guessAgain_2 8 rfl rfl)
theorem dX1_guessAgain_54 : decode cX1_guessAgain 54 = .ok (.iaload, 1) := dk_46 (dk_at dksX1_guessAgain_2 9 rfl rfl)
theorem dX1_guessAgain_55 : decode cX1_guessAgain 55 = .ok (.sipush 27720, 3) := dk_17 108 72 (dk_at dksX1_guessAgain_2 10 rfl rfl)
theorem dX1_guessAgain_58 : decode cX1_guessAgain 58 = .ok (.aload_n 0, 1) := dk_42 (dk_at dksX1_guessAgain_2 13 rfl rfl)
theorem dX1_guessAgain_59 : decode cX1_guessAgain 59 = .ok (.iload 7, 2) := dk_21 7 (dk_at dksX1_guessAgain_2 14 rfl rfl)
theorem dX1_guessAgain_61 : decode cX1_guessAgain 61 = .ok (.invokevirtual 274, 3) := dk_182 1 18 (dk_at dksX1_guessAgain_2 16 rfl rfl)
theorem dX1_guessAgain_64 : decode cX1_guessAgain 64 = .ok (.idiv, 1) := dk_108 (dk_at dksX1_guessAgain_2 19 rfl rfl)
theorem dX1_guessAgain_65 : decode cX1_guessAgain 65 = .ok (.iadd, 1) := dk_96 (dk_at dksX1_guessAgain_2 20 rfl rfl)
theorem dX1_guessAgain_66 : decode cX1_guessAgain 66 = .ok (.iastore, 1) := dk_79 (dk_at dksX1_guessAgain_2 21 rfl rfl)
theorem dX1_guessAgain_67 : decode cX1_guessAgain 67 = .ok (.aload_n 3, 1) := dk_45 (dk_at dksX1_guessAgain_2 22 rfl rfl)
theorem dX1_guessAgain_68 : decode cX1_guessAgain 68 = .ok (.iload 7, 2) := dk_21 7 (dk_at dksX1_guessAgain_3 0 rfl rfl)
theorem dX1_guessAgain_70 : decode cX1_guessAgain 70 = .ok (.dup2, 1) := dk_92 (dk_at dksX1_guessAgain_3 2 rfl rfl)
theorem dX1_guessAgain_71 : decode cX1_guessAgain 71 = .ok (.iaload, 1) := dk_46 (dk_at dksX1_guessAgain_3 3 rfl rfl)
theorem dX1_guessAgain_72 : decode cX1_guessAgain 72 = .ok (.iconst 1, 1) := dk_4 (dk_at dksX1_guessAgain_3 4 rfl rfl)
theorem dX1_guessAgain_73 : decode cX1_guessAgain 73 = .ok (.iadd, 1) := dk_96 (dk_at dksX1_guessAgain_3 5 rfl rfl)
theorem dX1_guessAgain_74 : decode cX1_guessAgain 74 = .ok (.iastore, 1) := dk_79 (dk_at dksX1_guessAgain_3 6 rfl rfl)
theorem dX1_guessAgain_75 : decode cX1_guessAgain 75 = .ok (.aload 5, 2) := dk_25 5 (dk_at dksX1_guessAgain_3 7 rfl rfl)
theorem dX1_guessAgain_77 : decode cX1_guessAgain 77 = .ok (.iload 6, 2) := dk_21 6 (dk_at dksX1_guessAgain_3 9 rfl rfl)
theorem dX1_guessAgain_79 : decode cX1_guessAgain 79 = .ok (.iconst 1, 1) := dk_4 (dk_at dksX1_guessAgain_3 11 rfl rfl)
theorem dX1_guessAgain_80 : decode cX1_guessAgain 80 = .ok (.iadd, 1) := dk_96 (dk_at dksX1_guessAgain_3 12 rfl rfl)
theorem dX1_guessAgain_81 : decode cX1_guessAgain 81 = .ok (.invokevirtual 268, 3) := dk_182 1 12 (dk_at dksX1_guessAgain_3 13 rfl rfl)
theorem dX1_guessAgain_84 : decode cX1_guessAgain 84 = .ok (.istore 6, 2) := dk_54 6 (dk_at dksX1_guessAgain_3 16 rfl rfl)
theorem dX1_guessAgain_86 : decode cX1_guessAgain 86 = .ok (.goto (-58), 3) := dk_167 255 198 (dk_at dksX1_guessAgain_3 18 rfl rfl)
theorem dX1_guessAgain_89 : decode cX1_guessAgain 89 = .ok (.iconst 3, 1) := dk_6 (dk_at dksX1_guessAgain_3 21 rfl rfl)
theorem dX1_guessAgain_90 : decode cX1_guessAgain 90 = .ok (.istore 6, 2) := dk_54 6 (dk_at dksX1_guessAgain_3 22 rfl rfl)
theorem dX1_guessAgain_92 : decode cX1_guessAgain 92 = .ok (.iload 6, 2) := dk_21 6 (dk_at dksX1_guessAgain_4 0 rfl rfl)
theorem dX1_guessAgain_94 : decode cX1_guessAgain 94 = .ok (.ifCond .lt 78, 3) := dk_155 0 78 (dk_at dksX1_guessAgain_4 2 rfl rfl)
theorem dX1_guessAgain_97 : decode cX1_guessAgain 97 = .ok (.aload_n 3, 1) := dk_45 (dk_at dksX1_guessAgain_4 5 rfl rfl)
theorem dX1_guessAgain_98 : decode cX1_guessAgain 98 = .ok (.iload 6, 2) := dk_21 6 (dk_at dksX1_guessAgain_4 6 rfl rfl)
theorem dX1_guessAgain_100 : decode cX1_guessAgain 100 = .ok (.iaload, 1) := dk_46 (dk_at dksX1_guessAgain_4 8 rfl rfl)
theorem dX1_guessAgain_101 : decode cX1_guessAgain 101 = .ok (.ifCond .le 48, 3) := dk_158 0 48 (dk_at dksX1_guessAgain_4 9 rfl rfl)
theorem dX1_guessAgain_104 : decode cX1_guessAgain 104 = .ok (.iload 4, 2) := dk_21 4 (dk_at dksX1_guessAgain_4 12 rfl rfl)
theorem dX1_guessAgain_106 : decode cX1_guessAgain 106 = .ok (.sipush (-1015), 3) := dk_17 252 9 (dk_at dksX1_guessAgain_4 14 rfl rfl)
theorem dX1_guessAgain_109 : decode cX1_guessAgain 109 = .ok (.if_icmp .eq 36, 3) := dk_159 0 36 (dk_at dksX1_guessAgain_4 17 rfl rfl)
theorem dX1_guessAgain_112 : decode cX1_guessAgain 112 = .ok (.aload_n 2, 1) := dk_44 (dk_at dksX1_guessAgain_4 20 rfl rfl)
theorem dX1_guessAgain_113 : decode cX1_guessAgain 113 = .ok (.iload 6, 2) := dk_21 6 (dk_at dksX1_guessAgain_4 21 rfl rfl)
theorem dX1_guessAgain_115 : decode cX1_guessAgain 115 = .ok (.iaload, 1) := dk_46 (dk_at dksX1_guessAgain_4 23 rfl rfl)
theorem dX1_guessAgain_116 : decode cX1_guessAgain 116 = .ok (.aload_n 2, 1) := dk_44 (dk_at dksX1_guessAgain_5 0 rfl rfl)
theorem dX1_guessAgain_117 : decode cX1_guessAgain 117 = .ok (.iload 4, 2) := dk_21 4 (dk_at dksX1_guessAgain_5 1 rfl rfl)
theorem dX1_guessAgain_119 : decode cX1_guessAgain 119 = .ok (.iaload, 1) := dk_46 (dk_at dksX1_guessAgain_5 3 rfl rfl)
theorem dX1_guessAgain_120 : decode cX1_guessAgain 120 = .ok (.if_icmp .gt 25, 3) := dk_163 0 25 (dk_at dksX1_guessAgain_5 4 rfl rfl)
theorem dX1_guessAgain_123 : decode cX1_guessAgain 123 = .ok (.aload_n 2, 1) := dk_44 (dk_at dksX1_guessAgain_5 7 rfl rfl)
theorem dX1_guessAgain_124 : decode cX1_guessAgain 124 = .ok (.iload 6, 2) := dk_21 6 (dk_at dksX1_guessAgain_5 8 rfl rfl)
theorem dX1_guessAgain_126 : decode cX1_guessAgain 126 = .ok (.iaload, 1) := dk_46 (dk_at dksX1_guessAgain_5 10 rfl rfl)
theorem dX1_guessAgain_127 : decode cX1_guessAgain 127 = .ok (.aload_n 2, 1) := dk_44 (dk_at dksX1_guessAgain_5 11 rfl rfl)
theorem dX1_guessAgain_128 : decode cX1_guessAgain 128 = .ok (.iload 4, 2) := dk_21 4 (dk_at dksX1_guessAgain_5 12 rfl rfl)
theorem dX1_guessAgain_130 : decode cX1_guessAgain 130 = .ok (.iaload, 1) := dk_46 (dk_at dksX1_guessAgain_5 14 rfl rfl)
theorem dX1_guessAgain_131 : decode cX1_guessAgain 131 = .ok (.if_icmp .ne 18, 3) := dk_160 0 18 (dk_at dksX1_guessAgain_5 15 rfl rfl)
theorem dX1_guessAgain_134 : decode cX1_guessAgain 134 = .ok (.aload_n 3, 1) := dk_45 (dk_at dksX1_guessAgain_5 18 rfl rfl)
theorem dX1_guessAgain_135 : decode cX1_guessAgain 135 = .ok (.iload 6, 2) := dk_21 6 (dk_at dksX1_guessAgain_5 19 rfl rfl)
theorem dX1_guessAgain_137 : decode cX1_guessAgain 137 = .ok (.iaload, 1) := dk_46 (dk_at dksX1_guessAgain_5 21 rfl rfl)
theorem dX1_guessAgain_138 : decode cX1_guessAgain 138 = .ok (.aload_n 3, 1) := dk_45 (dk_at dksX1_guessAgain_5 22 rfl rfl)
theorem dX1_guessAgain_139 : decode cX1_guessAgain 139 = .ok (.iload 4, 2) := dk_21 4 (dk_at dksX1_guessAgain_6 0 rfl rfl)
theorem dX1_guessAgain_141 : decode cX1_guessAgain 141 = .ok (.iaload, 1) := dk_46 (dk_at dksX1_guessAgain_6 2 rfl rfl)
theorem dX1_guessAgain_142 : decode cX1_guessAgain 142 = .ok (.if_icmp .lt 7, 3) := dk_161 0 7 (dk_at dksX1_guessAgain_6 3 rfl rfl)
theorem dX1_guessAgain_145 : decode cX1_guessAgain 145 = .ok (.iconst 1, 1) := dk_4 (dk_at dksX1_guessAgain_6 6 rfl rfl)
theorem dX1_guessAgain_146 : decode cX1_guessAgain 146 = .ok (.goto 4, 3) := dk_167 0 4 (dk_at dksX1_guessAgain_6 7 rfl rfl)
theorem dX1_guessAgain_149 : decode cX1_guessAgain 149 = .ok (.iconst 0, 1) := dk_3 (dk_at dksX1_guessAgain_6 10 rfl rfl)
theorem dX1_guessAgain_150 : decode cX1_guessAgain 150 = .ok (.istore 7, 2) := dk_54 7 (dk_at dksX1_guessAgain_6 11 rfl rfl)
theorem dX1_guessAgain_152 : decode cX1_guessAgain 152 = .ok (.iload 7, 2) := dk_21 7 (dk_at dksX1_guessAgain_6 13 rfl rfl)
theorem dX1_guessAgain_154 : decode cX1_guessAgain 154 = .ok (.ifCond .eq 8, 3) := dk_153 0 8 (dk_at dksX1_guessAgain_6 15 rfl rfl)
theorem dX1_guessAgain_157 : decode cX1_guessAgain 157 = .ok (.iload 6, 2) := dk_21 6 (dk_at dksX1_guessAgain_6 18 rfl rfl)
theorem dX1_guessAgain_159 : decode cX1_guessAgain 159 = .ok (.goto 5, 3) := dk_167 0 5 (dk_at dksX1_guessAgain_6 20 rfl rfl)
theorem dX1_guessAgain_162 : decode cX1_guessAgain 162 = .ok (.iload 4, 2) := dk_21 4 (dk_at dksX1_guessAgain_7 0 rfl rfl)
theorem dX1_guessAgain_164 : decode cX1_guessAgain 164 = .ok (.istore 4, 2) := dk_54 4 (dk_at dksX1_guessAgain_7 2 rfl rfl)
theorem dX1_guessAgain_166 : decode cX1_guessAgain 166 = .ok (.iinc 6 (-1), 3) := dk_132 6 255 (dk_at dksX1_guessAgain_7 4 rfl rfl)
theorem dX1_guessAgain_169 : decode cX1_guessAgain 169 = .ok (.goto (-77), 3) := dk_167 255 179 (dk_at dksX1_guessAgain_7 7 rfl rfl)
theorem dX1_guessAgain_172 : decode cX1_guessAgain 172 = .ok (.iload 4, 2) := dk_21 4 (dk_at dksX1_guessAgain_7 10 rfl rfl)
theorem dX1_guessAgain_174 : decode cX1_guessAgain 174 = .ok (.ireturn, 1) := dk_172 (dk_at dksX1_guessAgain_7 12 rfl rfl)
def dkwX1_ofParish_3 : List UInt8 := [42, 27, 182, 1, 40, 167, 0, 14, 42, 27, 182, 1, 43, 167, 0, 6, 17, 252, 12, 172]
abbrev dktX1_ofParish_3 : List UInt8 := dkwX1_ofParish_3 ++ []
def dkwX1_ofParish_2 : List UInt8 := [42, 27, 182, 1, 18, 167, 0, 38, 42, 27, 182, 1, 34, 167, 0, 30, 42, 27, 182, 1, 37, 167, 0, 22]
abbrev dktX1_ofParish_2 : List UInt8 := dkwX1_ofParish_2 ++ dktX1_ofParish_3
def dkwX1_ofParish_1 : List UInt8 := [170, 0, 0, 0, 0, 0, 75, 0, 0, 0, 0, 0, 0, 0, 4, 0, 0, 0, 35, 0, 0, 0, 43, 0, 0, 0, 51, 0, 0, 0, 59, 0, 0, 0, 67]
abbrev dktX1_ofParish_1 : List UInt8 := dkwX1_ofParish_1 ++ dktX1_ofParish_2
def dkwX1_ofParish_0 : List UInt8 := [28]
abbrev dktX1_ofParish_0 : List UInt8 := dkwX1_ofParish_0 ++ dktX1_ofParish_1
theorem dksX1_ofParish_0 : cX1_ofParish.data.toList.drop 0 = dktX1_ofParish_0 := by decide +kernel
theorem dksX1_ofParish_1 : cX1_ofParish.data.toList.drop 1 = dktX1_ofParish_1 := dk_seg dksX1_ofParish_0 1 rfl rfl
theorem dksX1_ofParish_2 : cX1_ofParish.data.toList.drop 36 = dktX1_ofParish_2 := dk_seg dksX1_ofParish_1 35 rfl rfl
theorem dksX1_ofParish_3 : cX1_ofParish.data.toList.drop 60 = dktX1_ofParish_3 := dk_seg dksX1_ofParish_2 24 rfl rfl
theorem dX1_ofParish_0 : decode cX1_ofParish 0 = .ok (.iload_n 2, 1) := dk_28 (dk_at dksX1_ofParish_0 0 rfl rfl)
theorem dX1_ofParish_1 : decode cX1_ofParish 1 = .ok (.tableswitch 75 0 4 #[35, 43, 51, 59, 67], 35) := by decide +kernel
theorem dX1_ofParish_36 : decode cX1_ofParish 36 = .ok (.aload_n 0, 1) := dk_42 (dk_at dksX1_ofParish_2 0 rfl rfl)
theorem dX1_ofParish_37 : decode cX1_ofParish 37 = .ok (.iload_n 1, 1) := dk_27 (dk_at dksX1_ofParish_2 1 rfl rfl)
theorem dX1_ofParish_38 : decode cX1_ofParish 38 = .ok (.invokevirtual 274, 3) := dk_182 1 18 (dk_at dksX1_ofParish_2 2 rfl rfl)
theorem dX1_ofParish_41 : decode cX1_ofParish 41 = .ok (.goto 38, 3) := dk_167 0 38 (dk_at dksX1_ofParish_2 5 rfl rfl)
theorem dX1_ofParish_44 : decode cX1_ofParish 44 = .ok (.aload_n 0, 1) := dk_42 (dk_at dksX1_ofParish_2 8 rfl rfl)
theorem dX1_ofParish_45 : decode cX1_ofParish 45 = .ok (.iload_n 1, 1) := dk_27 (dk_at dksX1_ofParish_2 9 rfl rfl)
theorem dX1_ofParish_46 : decode cX1_ofParish 46 = .ok (.invokevirtual 290, 3) := dk_182 1 34 (dk_at dksX1_ofParish_2 10 rfl rfl)
theorem dX1_ofParish_49 : decode cX1_ofParish 49 = .ok (.goto 30, 3) := dk_167 0 30 (dk_at dksX1_ofParish_2 13 rfl rfl)
theorem dX1_ofParish_52 : decode cX1_ofParish 52 = .ok (.aload_n 0, 1) := dk_42 (dk_at dksX1_ofParish_2 16 rfl rfl)
theorem dX1_ofParish_53 : decode cX1_ofParish 53 = .ok (.iload_n 1, 1) := dk_27 (dk_at dksX1_ofParish_2 17 rfl rfl)
theorem dX1_ofParish_54 : decode cX1_ofParish 54 = .ok (.invokevirtual 293, 3) := dk_182 1 37 (dk_at dksX1_ofParish_2 18 rfl rfl)
theorem dX1_ofParish_57 : decode cX1_ofParish 57 = .ok (.goto 22, 3) := dk_167 0 22 (dk_at dksX1_ofParish_2 21 rfl rfl)
theorem dX1_ofParish_60 : decode cX1_ofParish 60 = .ok (.aload_n 0, 1) := dk_42 (dk_at dksX1_ofParish_3 0 rfl rfl)
theorem dX1_ofParish_61 : decode cX1_ofParish 61 = .ok (.iload_n 1, 1) := dk_27 (dk_at dksX1_ofParish_3 1 rfl rfl)
theorem dX1_ofParish_62 : decode cX1_ofParish 62 = .ok (.invokevirtual 296, 3) := dk_182 1 40 (dk_at dksX1_ofParish_3 2 rfl rfl)
theorem dX1_ofParish_65 : decode cX1_ofParish 65 = .ok (.goto 14, 3) := dk_167 0 14 (dk_at dksX1_ofParish_3 5 rfl rfl)
theorem dX1_ofParish_68 : decode cX1_ofParish 68 = .ok (.aload_n 0, 1) := dk_42 (dk_at dksX1_ofParish_3 8 rfl rfl)
theorem dX1_ofParish_69 : decode cX1_ofParish 69 = .ok (.iload_n 1, 1) := dk_27 (dk_at dksX1_ofParish_3 9 rfl rfl)
theorem dX1_ofParish_70 : decode cX1_ofParish 70 = .ok (.invokevirtual 299, 3) := dk_182 1 43 (dk_at dksX1_ofParish_3 10 rfl rfl)
theorem dX1_ofParish_73 : decode cX1_ofParish 73 = .ok (.goto 6, 3) := dk_167 0 6 (dk_at dksX1_ofParish_3 13 rfl rfl)
theorem dX1_ofParish_76 : decode cX1_ofParish 76 = .ok (.sipush (-1012), 3) := dk_17 252 12 (dk_at dksX1_ofParish_3 16 rfl rfl)
theorem dX1_ofParish_79 : decode cX1_ofParish 79 = .ok (.ireturn, 1) := dk_172 (dk_at dksX1_ofParish_3 19 rfl rfl)
def dkwX1_answersOf_2 : List UInt8 := [180, 1, 31, 167, 0, 4, 3, 96, 61, 167, 255, 215, 28, 172]
abbrev dktX1_answersOf_2 : List UInt8 := dkwX1_answersOf_2 ++ []
def dkwX1_answersOf_1 : List UInt8 := [185, 0, 57, 1, 0, 192, 0, 61, 58, 4, 28, 25, 4, 180, 0, 145, 27, 160, 0, 11, 25, 4]
abbrev dktX1_answersOf_1 : List UInt8 := dkwX1_answersOf_1 ++ dktX1_answersOf_2
def dkwX1_answersOf_0 : List UInt8 := [3, 61, 42, 180, 0, 14, 182, 0, 47, 78, 45, 185, 0, 51, 1, 0, 153, 0, 38, 45]
abbrev dktX1_answersOf_0 : List UInt8 := dkwX1_answersOf_0 ++ dktX1_answersOf_1
theorem dksX1_answersOf_0 : cX1_answersOf.data.toList.drop 0 = dktX1_answersOf_0 := by decide +kernel
theorem dksX1_answersOf_1 : cX1_answersOf.data.toList.drop 20 = dktX1_answersOf_1 := dk_seg dksX1_answersOf_0 20 rfl rfl
theorem dksX1_answersOf_2 : cX1_answersOf.data.toList.drop 42 = dktX1_answersOf_2 := dk_seg dksX1_answersOf_1 22 rfl rfl
theorem dX1_answersOf_0 : decode cX1_answersOf 0 = .ok (.iconst 0, 1) := dk_3 (dk_at dksX1_answersOf_0 0 rfl rfl)
theorem dX1_answersOf_1 : decode cX1_answersOf 1 = .ok (.istore_n 2, 1) := dk_61 (dk_at dksX1_answersOf_0 1 rfl rfl)
theorem dX1_answersOf_2 : decode cX1_answersOf 2 = .ok (.aload_n 0, 1) := dk_42 (dk_at dksX1_answersOf_0 2 rfl rfl)
theorem dX1_answersOf_3 : decode cX1_answersOf 3 = .ok (.getfield 14, 3) := dk_180 0 14 (dk_at dksX1_answersOf_0 3 rfl rfl)
theorem dX1_answersOf_6 : decode cX1_answersOf 6 = .ok (.invokevirtual 47, 3) := dk_182 0 47 (dk_at dksX1_answersOf_0 6 rfl rfl)
theorem dX1_answersOf_9 : decode cX1_answersOf 9 = .ok (.astore_n 3, 1) := dk_78 (dk_at dksX1_answersOf_0 9 rfl rfl)
theorem dX1_answersOf_10 : decode cX1_answersOf 10 = .ok (.aload_n 3, 1) := dk_45 (dk_at dksX1_answersOf_0 10 rfl rfl)
theorem dX1_answersOf_11 : decode cX1_answersOf 11 = .ok (.invokeinterface 51 1, 5) := by decide +kernel
theorem dX1_answersOf_16 : decode cX1_answersOf 16 = .ok (.ifCond .eq 38, 3) := dk_153 0 38 (dk_at dksX1_answersOf_0 16 rfl rfl)
theorem dX1_answersOf_19 : decode cX1_answersOf 19 = .ok (.aload_n 3, 1) := dk_45 (dk_at dksX1_answersOf_0 19 rfl rfl)
theorem dX1_answersOf_20 : decode cX1_answersOf 20 = .ok (.invokeinterface 57 1, 5) := by decide +kernel
theorem dX1_answersOf_25 : decode cX1_answersOf 25 = .ok (.checkcast 61, 3) := dk_192 0 61 (dk_at dksX1_answersOf_1 5 rfl rfl)
theorem dX1_answersOf_28 : decode cX1_answersOf 28 = .ok (.astore 4, 2) := dk_58 4 (dk_at dksX1_answersOf_1 8 rfl rfl)
theorem dX1_answersOf_30 : decode cX1_answersOf 30 = .ok (.iload_n 2, 1) := dk_28 (dk_at dksX1_answersOf_1 10 rfl rfl)
theorem dX1_answersOf_31 : decode cX1_answersOf 31 = .ok (.aload 4, 2) := dk_25 4 (dk_at dksX1_answersOf_1 11 rfl rfl)
theorem dX1_answersOf_33 : decode cX1_answersOf 33 = .ok (.getfield 145, 3) := dk_180 0 145 (dk_at dksX1_answersOf_1 13 rfl rfl)
theorem dX1_answersOf_36 : decode cX1_answersOf 36 = .ok (.iload_n 1, 1) := dk_27 (dk_at dksX1_answersOf_1 16 rfl rfl)
theorem dX1_answersOf_37 : decode cX1_answersOf 37 = .ok (.if_icmp .ne 11, 3) := dk_160 0 11 (dk_at dksX1_answersOf_1 17 rfl rfl)
theorem dX1_answersOf_40 : decode cX1_answersOf 40 = .ok (.aload 4, 2) := dk_25 4 (dk_at dksX1_answersOf_1 20 rfl rfl)
theorem dX1_answersOf_42 : decode cX1_answersOf 42 = .ok (.getfield 287, 3) := dk_180 1 31 (dk_at dksX1_answersOf_2 0 rfl rfl)
theorem dX1_answersOf_45 : decode cX1_answersOf 45 = .ok (.goto 4, 3) := dk_167 0 4 (dk_at dksX1_answersOf_2 3 rfl rfl)
theorem dX1_answersOf_48 : decode cX1_answersOf 48 = .ok (.iconst 0, 1) := dk_3 (dk_at dksX1_answersOf_2 6 rfl rfl)
theorem dX1_answersOf_49 : decode cX1_answersOf 49 = .ok (.iadd, 1) := dk_96 (dk_at dksX1_answersOf_2 7 rfl rfl)
theorem dX1_answersOf_50 : decode cX1_answersOf 50 = .ok (.istore_n 2, 1) := dk_61 (dk_at dksX1_answersOf_2 8 rfl rfl)
theorem dX1_answersOf_51 : decode cX1_answersOf 51 = .ok (.goto (-41), 3) := dk_167 255 215 (dk_at dksX1_answersOf_2 9 rfl rfl)
theorem dX1_answersOf_54 : decode cX1_answersOf 54 = .ok (.iload_n 2, 1) := dk_28 (dk_at dksX1_answersOf_2 12 rfl rfl)
theorem dX1_answersOf_55 : decode cX1_answersOf 55 = .ok (.ireturn, 1) := dk_172 (dk_at dksX1_answersOf_2 13 rfl rfl)
def dkwX1_rustOf_2 : List UInt8 := [180, 0, 155, 167, 0, 4, 3, 96, 61, 167, 255, 215, 28, 172]
abbrev dktX1_rustOf_2 : List UInt8 := dkwX1_rustOf_2 ++ []
def dkwX1_rustOf_1 : List UInt8 := [185, 0, 57, 1, 0, 192, 0, 61, 58, 4, 28, 25, 4, 180, 0, 145, 27, 160, 0, 11, 25, 4]
abbrev dktX1_rustOf_1 : List UInt8 := dkwX1_rustOf_1 ++ dktX1_rustOf_2
def dkwX1_rustOf_0 : List UInt8 := [3, 61, 42, 180, 0, 14, 182, 0, 47, 78, 45, 185, 0, 51, 1, 0, 153, 0, 38, 45]
abbrev dktX1_rustOf_0 : List UInt8 := dkwX1_rustOf_0 ++ dktX1_rustOf_1
theorem dksX1_rustOf_0 : cX1_rustOf.data.toList.drop 0 = dktX1_rustOf_0 := by decide +kernel
theorem dksX1_rustOf_1 : cX1_rustOf.data.toList.drop 20 = dktX1_rustOf_1 := dk_seg dksX1_rustOf_0 20 rfl rfl
theorem dksX1_rustOf_2 : cX1_rustOf.data.toList.drop 42 = dktX1_rustOf_2 := dk_seg dksX1_rustOf_1 22 rfl rfl
theorem dX1_rustOf_0 : decode cX1_rustOf 0 = .ok (.iconst 0, 1) := dk_3 (dk_at dksX1_rustOf_0 0 rfl rfl)
theorem dX1_rustOf_1 : decode cX1_rustOf 1 = .ok (.istore_n 2, 1) := dk_61 (dk_at dksX1_rustOf_0 1 rfl rfl)
theorem dX1_rustOf_2 : decode cX1_rustOf 2 = .ok (.aload_n 0, 1) := dk_42 (dk_at dksX1_rustOf_0 2 rfl rfl)
theorem dX1_rustOf_3 : decode cX1_rustOf 3 = .ok (.getfield 14, 3) := dk_180 0 14 (dk_at dksX1_rustOf_0 3 rfl rfl)
theorem dX1_rustOf_6 : decode cX1_rustOf 6 = .ok (.invokevirtual 47, 3) := dk_182 0 47 (dk_at dksX1_rustOf_0 6 rfl rfl)
theorem dX1_rustOf_9 : decode cX1_rustOf 9 = .ok (.astore_n 3, 1) := dk_78 (dk_at dksX1_rustOf_0 9 rfl rfl)
theorem dX1_rustOf_10 : decode cX1_rustOf 10 = .ok (.aload_n 3, 1) := dk_45 (dk_at dksX1_rustOf_0 10 rfl rfl)
theorem dX1_rustOf_11 : decode cX1_rustOf 11 = .ok (.invokeinterface 51 1, 5) := by decide +kernel
theorem dX1_rustOf_16 : decode cX1_rustOf 16 = .ok (.ifCond .eq 38, 3) := dk_153 0 38 (dk_at dksX1_rustOf_0 16 rfl rfl)
theorem dX1_rustOf_19 : decode cX1_rustOf 19 = .ok (.aload_n 3, 1) := dk_45 (dk_at dksX1_rustOf_0 19 rfl rfl)
theorem dX1_rustOf_20 : decode cX1_rustOf 20 = .ok (.invokeinterface 57 1, 5) := by decide +kernel
theorem dX1_rustOf_25 : decode cX1_rustOf 25 = .ok (.checkcast 61, 3) := dk_192 0 61 (dk_at dksX1_rustOf_1 5 rfl rfl)
theorem dX1_rustOf_28 : decode cX1_rustOf 28 = .ok (.astore 4, 2) := dk_58 4 (dk_at dksX1_rustOf_1 8 rfl rfl)
theorem dX1_rustOf_30 : decode cX1_rustOf 30 = .ok (.iload_n 2, 1) := dk_28 (dk_at dksX1_rustOf_1 10 rfl rfl)
theorem dX1_rustOf_31 : decode cX1_rustOf 31 = .ok (.aload 4, 2) := dk_25 4 (dk_at dksX1_rustOf_1 11 rfl rfl)
theorem dX1_rustOf_33 : decode cX1_rustOf 33 = .ok (.getfield 145, 3) := dk_180 0 145 (dk_at dksX1_rustOf_1 13 rfl rfl)
theorem dX1_rustOf_36 : decode cX1_rustOf 36 = .ok (.iload_n 1, 1) := dk_27 (dk_at dksX1_rustOf_1 16 rfl rfl)
theorem dX1_rustOf_37 : decode cX1_rustOf 37 = .ok (.if_icmp .ne 11, 3) := dk_160 0 11 (dk_at dksX1_rustOf_1 17 rfl rfl)
theorem dX1_rustOf_40 : decode cX1_rustOf 40 = .ok (.aload 4, 2) := dk_25 4 (dk_at dksX1_rustOf_1 20 rfl rfl)
theorem dX1_rustOf_42 : decode cX1_rustOf 42 = .ok (.getfield 155, 3) := dk_180 0 155 (dk_at dksX1_rustOf_2 0 rfl rfl)
theorem dX1_rustOf_45 : decode cX1_rustOf 45 = .ok (.goto 4, 3) := dk_167 0 4 (dk_at dksX1_rustOf_2 3 rfl rfl)
theorem dX1_rustOf_48 : decode cX1_rustOf 48 = .ok (.iconst 0, 1) := dk_3 (dk_at dksX1_rustOf_2 6 rfl rfl)
theorem dX1_rustOf_49 : decode cX1_rustOf 49 = .ok (.iadd, 1) := dk_96 (dk_at dksX1_rustOf_2 7 rfl rfl)
theorem dX1_rustOf_50 : decode cX1_rustOf 50 = .ok (.istore_n 2, 1) := dk_61 (dk_at dksX1_rustOf_2 8 rfl rfl)
theorem dX1_rustOf_51 : decode cX1_rustOf 51 = .ok (.goto (-41), 3) := dk_167 255 215 (dk_at dksX1_rustOf_2 9 rfl rfl)
theorem dX1_rustOf_54 : decode cX1_rustOf 54 = .ok (.iload_n 2, 1) := dk_28 (dk_at dksX1_rustOf_2 12 rfl rfl)
theorem dX1_rustOf_55 : decode cX1_rustOf 55 = .ok (.ireturn, 1) := dk_172 (dk_at dksX1_rustOf_2 13 rfl rfl)
def dkwX1_guessed_2 : List UInt8 := [160, 0, 7, 4, 167, 0, 4, 3, 96, 61, 167, 255, 215, 28, 172]
abbrev dktX1_guessed_2 : List UInt8 := dkwX1_guessed_2 ++ []
def dkwX1_guessed_1 : List UInt8 := [45, 185, 0, 57, 1, 0, 192, 0, 82, 182, 0, 84, 54, 4, 28, 42, 21, 4, 182, 1, 25, 27]
abbrev dktX1_guessed_1 : List UInt8 := dkwX1_guessed_1 ++ dktX1_guessed_2
def dkwX1_guessed_0 : List UInt8 := [3, 61, 42, 180, 0, 35, 182, 0, 75, 185, 0, 79, 1, 0, 78, 45, 185, 0, 51, 1, 0, 153, 0, 38]
abbrev dktX1_guessed_0 : List UInt8 := dkwX1_guessed_0 ++ dktX1_guessed_1
theorem dksX1_guessed_0 : cX1_guessed.data.toList.drop 0 = dktX1_guessed_0 := by decide +kernel
theorem dksX1_guessed_1 : cX1_guessed.data.toList.drop 24 = dktX1_guessed_1 := dk_seg dksX1_guessed_0 24 rfl rfl
theorem dksX1_guessed_2 : cX1_guessed.data.toList.drop 46 = dktX1_guessed_2 := dk_seg dksX1_guessed_1 22 rfl rfl
theorem dX1_guessed_0 : decode cX1_guessed 0 = .ok (.iconst 0, 1) := dk_3 (dk_at dksX1_guessed_0 0 rfl rfl)
theorem dX1_guessed_1 : decode cX1_guessed 1 = .ok (.istore_n 2, 1) := dk_61 (dk_at dksX1_guessed_0 1 rfl rfl)
theorem dX1_guessed_2 : decode cX1_guessed 2 = .ok (.aload_n 0, 1) := dk_42 (dk_at dksX1_guessed_0 2 rfl rfl)
theorem dX1_guessed_3 : decode cX1_guessed 3 = .ok (.getfield 35, 3) := dk_180 0 35 (dk_at dksX1_guessed_0 3 rfl rfl)
theorem dX1_guessed_6 : decode cX1_guessed 6 = .ok (.invokevirtual 75, 3) := dk_182 0 75 (dk_at dksX1_guessed_0 6 rfl rfl)
theorem dX1_guessed_9 : decode cX1_guessed 9 = .ok (.invokeinterface 79 1, 5) := by decide +kernel
theorem dX1_guessed_14 : decode cX1_guessed 14 = .ok (.astore_n 3, 1) := dk_78 (dk_at dksX1_guessed_0 14 rfl rfl)
theorem dX1_guessed_15 : decode cX1_guessed 15 = .ok (.aload_n 3, 1) := dk_45 (dk_at dksX1_guessed_0 15 rfl rfl)
theorem dX1_guessed_16 : decode cX1_guessed 16 = .ok (.invokeinterface 51 1, 5) := by decide +kernel
theorem dX1_guessed_21 : decode cX1_guessed 21 = .ok (.ifCond .eq 38, 3) := dk_153 0 38 (dk_at dksX1_guessed_0 21 rfl rfl)
theorem dX1_guessed_24 : decode cX1_guessed 24 = .ok (.aload_n 3, 1) := dk_45 (dk_at dksX1_guessed_1 0 rfl rfl)
theorem dX1_guessed_25 : decode cX1_guessed 25 = .ok (.invokeinterface 57 1, 5) := by decide +kernel
theorem dX1_guessed_30 : decode cX1_guessed 30 = .ok (.checkcast 82, 3) := dk_192 0 82 (dk_at dksX1_guessed_1 6 rfl rfl)
theorem dX1_guessed_33 : decode cX1_guessed 33 = .ok (.invokevirtual 84, 3) := dk_182 0 84 (dk_at dksX1_guessed_1 9 rfl rfl)
theorem dX1_guessed_36 : decode cX1_guessed 36 = .ok (.istore 4, 2) := dk_54 4 (dk_at dksX1_guessed_1 12 rfl rfl)
theorem dX1_guessed_38 : decode cX1_guessed 38 = .ok (.iload_n 2, 1) := dk_28 (dk_at dksX1_guessed_1 14 rfl rfl)
theorem dX1_guessed_39 : decode cX1_guessed 39 = .ok (.aload_n 0, 1) := dk_42 (dk_at dksX1_guessed_1 15 rfl rfl)
theorem dX1_guessed_40 : decode cX1_guessed 40 = .ok (.iload 4, 2) := dk_21 4 (dk_at dksX1_guessed_1 16 rfl rfl)
theorem dX1_guessed_42 : decode cX1_guessed 42 = .ok (.invokevirtual 281, 3) := dk_182 1 25 (dk_at dksX1_guessed_1 18 rfl rfl)
theorem dX1_guessed_45 : decode cX1_guessed 45 = .ok (.iload_n 1, 1) := dk_27 (dk_at dksX1_guessed_1 21 rfl rfl)
theorem dX1_guessed_46 : decode cX1_guessed 46 = .ok (.if_icmp .ne 7, 3) := dk_160 0 7 (dk_at dksX1_guessed_2 0 rfl rfl)
theorem dX1_guessed_49 : decode cX1_guessed 49 = .ok (.iconst 1, 1) := dk_4 (dk_at dksX1_guessed_2 3 rfl rfl)
theorem dX1_guessed_50 : decode cX1_guessed 50 = .ok (.goto 4, 3) := dk_167 0 4 (dk_at dksX1_guessed_2 4 rfl rfl)
theorem dX1_guessed_53 : decode cX1_guessed 53 = .ok (.iconst 0, 1) := dk_3 (dk_at dksX1_guessed_2 7 rfl rfl)
theorem dX1_guessed_54 : decode cX1_guessed 54 = .ok (.iadd, 1) := dk_96 (dk_at dksX1_guessed_2 8 rfl rfl)
theorem dX1_guessed_55 : decode cX1_guessed 55 = .ok (.istore_n 2, 1) := dk_61 (dk_at dksX1_guessed_2 9 rfl rfl)
theorem dX1_guessed_56 : decode cX1_guessed 56 = .ok (.goto (-41), 3) := dk_167 255 215 (dk_at dksX1_guessed_2 10 rfl rfl)
theorem dX1_guessed_59 : decode cX1_guessed 59 = .ok (.iload_n 2, 1) := dk_28 (dk_at dksX1_guessed_2 13 rfl rfl)
theorem dX1_guessed_60 : decode cX1_guessed 60 = .ok (.ireturn, 1) := dk_172 (dk_at dksX1_guessed_2 14 rfl rfl)
def dkwX1_waitingIn_2 : List UInt8 := [192, 0, 61, 180, 0, 145, 27, 160, 0, 7, 4, 167, 0, 4, 3, 96, 61, 167, 255, 206, 28, 172]
abbrev dktX1_waitingIn_2 : List UInt8 := dkwX1_waitingIn_2 ++ []
def dkwX1_waitingIn_1 : List UInt8 := [185, 0, 57, 1, 0, 192, 0, 72, 58, 4, 28, 42, 180, 0, 14, 25, 4, 180, 0, 176, 182, 0, 142]
abbrev dktX1_waitingIn_1 : List UInt8 := dkwX1_waitingIn_1 ++ dktX1_waitingIn_2
def dkwX1_waitingIn_0 : List UInt8 := [3, 61, 42, 180, 0, 28, 182, 0, 71, 78, 45, 185, 0, 51, 1, 0, 153, 0, 47, 45]
abbrev dktX1_waitingIn_0 : List UInt8 := dkwX1_waitingIn_0 ++ dktX1_waitingIn_1
theorem dksX1_waitingIn_0 : cX1_waitingIn.data.toList.drop 0 = dktX1_waitingIn_0 := by decide +kernel
theorem dksX1_waitingIn_1 : cX1_waitingIn.data.toList.drop 20 = dktX1_waitingIn_1 := dk_seg dksX1_waitingIn_0 20 rfl rfl
theorem dksX1_waitingIn_2 : cX1_waitingIn.data.toList.drop 43 = dktX1_waitingIn_2 := dk_seg dksX1_waitingIn_1 23 rfl rfl
theorem dX1_waitingIn_0 : decode cX1_waitingIn 0 = .ok (.iconst 0, 1) := dk_3 (dk_at dksX1_waitingIn_0 0 rfl rfl)
theorem dX1_waitingIn_1 : decode cX1_waitingIn 1 = .ok (.istore_n 2, 1) := dk_61 (dk_at dksX1_waitingIn_0 1 rfl rfl)
theorem dX1_waitingIn_2 : decode cX1_waitingIn 2 = .ok (.aload_n 0, 1) := dk_42 (dk_at dksX1_waitingIn_0 2 rfl rfl)
theorem dX1_waitingIn_3 : decode cX1_waitingIn 3 = .ok (.getfield 28, 3) := dk_180 0 28 (dk_at dksX1_waitingIn_0 3 rfl rfl)
theorem dX1_waitingIn_6 : decode cX1_waitingIn 6 = .ok (.invokevirtual 71, 3) := dk_182 0 71 (dk_at dksX1_waitingIn_0 6 rfl rfl)
theorem dX1_waitingIn_9 : decode cX1_waitingIn 9 = .ok (.astore_n 3, 1) := dk_78 (dk_at dksX1_waitingIn_0 9 rfl rfl)
theorem dX1_waitingIn_10 : decode cX1_waitingIn 10 = .ok (.aload_n 3, 1) := dk_45 (dk_at dksX1_waitingIn_0 10 rfl rfl)
theorem dX1_waitingIn_11 : decode cX1_waitingIn 11 = .ok (.invokeinterface 51 1, 5) := by decide +kernel
theorem dX1_waitingIn_16 : decode cX1_waitingIn 16 = .ok (.ifCond .eq 47, 3) := dk_153 0 47 (dk_at dksX1_waitingIn_0 16 rfl rfl)
theorem dX1_waitingIn_19 : decode cX1_waitingIn 19 = .ok (.aload_n 3, 1) := dk_45 (dk_at dksX1_waitingIn_0 19 rfl rfl)
theorem dX1_waitingIn_20 : decode cX1_waitingIn 20 = .ok (.invokeinterface 57 1, 5) := by decide +kernel
theorem dX1_waitingIn_25 : decode cX1_waitingIn 25 = .ok (.checkcast 72, 3) := dk_192 0 72 (dk_at dksX1_waitingIn_1 5 rfl rfl)
theorem dX1_waitingIn_28 : decode cX1_waitingIn 28 = .ok (.astore 4, 2) := dk_58 4 (dk_at dksX1_waitingIn_1 8 rfl rfl)
theorem dX1_waitingIn_30 : decode cX1_waitingIn 30 = .ok (.iload_n 2, 1) := dk_28 (dk_at dksX1_waitingIn_1 10 rfl rfl)
theorem dX1_waitingIn_31 : decode cX1_waitingIn 31 = .ok (.aload_n 0, 1) := dk_42 (dk_at dksX1_waitingIn_1 11 rfl rfl)
theorem dX1_waitingIn_32 : decode cX1_waitingIn 32 = .ok (.getfield 14, 3) := dk_180 0 14 (dk_at dksX1_waitingIn_1 12 rfl rfl)
theorem dX1_waitingIn_35 : decode cX1_waitingIn 35 = .ok (.aload 4, 2) := dk_25 4 (dk_at dksX1_waitingIn_1 15 rfl rfl)
theorem dX1_waitingIn_37 : decode cX1_waitingIn 37 = .ok (.getfield 176, 3) := dk_180 0 176 (dk_at dksX1_waitingIn_1 17 rfl rfl)
theorem dX1_waitingIn_40 : decode cX1_waitingIn 40 = .ok (.invokevirtual 142, 3) := dk_182 0 142 (dk_at dksX1_waitingIn_1 20 rfl rfl)
theorem dX1_waitingIn_43 : decode cX1_waitingIn 43 = .ok (.checkcast 61, 3) := dk_192 0 61 (dk_at dksX1_waitingIn_2 0 rfl rfl)
theorem dX1_waitingIn_46 : decode cX1_waitingIn 46 = .ok (.getfield 145, 3) := dk_180 0 145 (dk_at dksX1_waitingIn_2 3 rfl rfl)
theorem dX1_waitingIn_49 : decode cX1_waitingIn 49 = .ok (.iload_n 1, 1) := dk_27 (dk_at dksX1_waitingIn_2 6 rfl rfl)
theorem dX1_waitingIn_50 : decode cX1_waitingIn 50 = .ok (.if_icmp .ne 7, 3) := dk_160 0 7 (dk_at dksX1_waitingIn_2 7 rfl rfl)
theorem dX1_waitingIn_53 : decode cX1_waitingIn 53 = .ok (.iconst 1, 1) := dk_4 (dk_at dksX1_waitingIn_2 10 rfl rfl)
theorem dX1_waitingIn_54 : decode cX1_waitingIn 54 = .ok (.goto 4, 3) := dk_167 0 4 (dk_at dksX1_waitingIn_2 11 rfl rfl)
theorem dX1_waitingIn_57 : decode cX1_waitingIn 57 = .ok (.iconst 0, 1) := dk_3 (dk_at dksX1_waitingIn_2 14 rfl rfl)
theorem dX1_waitingIn_58 : decode cX1_waitingIn 58 = .ok (.iadd, 1) := dk_96 (dk_at dksX1_waitingIn_2 15 rfl rfl)
theorem dX1_waitingIn_59 : decode cX1_waitingIn 59 = .ok (.istore_n 2, 1) := dk_61 (dk_at dksX1_waitingIn_2 16 rfl rfl)
theorem dX1_waitingIn_60 : decode cX1_waitingIn 60 = .ok (.goto (-50), 3) := dk_167 255 206 (dk_at dksX1_waitingIn_2 17 rfl rfl)
theorem dX1_waitingIn_63 : decode cX1_waitingIn 63 = .ok (.iload_n 2, 1) := dk_28 (dk_at dksX1_waitingIn_2 20 rfl rfl)
theorem dX1_waitingIn_64 : decode cX1_waitingIn 64 = .ok (.ireturn, 1) := dk_172 (dk_at dksX1_waitingIn_2 21 rfl rfl)
def dkwX1_busiest_3 : List UInt8 := [167, 255, 202, 27, 172]
abbrev dktX1_busiest_3 : List UInt8 := dkwX1_busiest_3 ++ []
def dkwX1_busiest_2 : List UInt8 := [29, 182, 0, 205, 182, 1, 28, 42, 27, 182, 0, 205, 182, 1, 28, 164, 0, 7, 29, 167, 0, 4, 27, 60]
abbrev dktX1_busiest_2 : List UInt8 := dkwX1_busiest_2 ++ dktX1_busiest_3
def dkwX1_busiest_1 : List UInt8 := [153, 0, 51, 44, 185, 0, 57, 1, 0, 192, 0, 82, 182, 0, 84, 62, 27, 17, 252, 9, 159, 0, 22, 42]
abbrev dktX1_busiest_1 : List UInt8 := dkwX1_busiest_1 ++ dktX1_busiest_2
def dkwX1_busiest_0 : List UInt8 := [17, 252, 9, 60, 42, 180, 0, 35, 182, 0, 75, 185, 0, 79, 1, 0, 77, 44, 185, 0, 51, 1, 0]
abbrev dktX1_busiest_0 : List UInt8 := dkwX1_busiest_0 ++ dktX1_busiest_1
theorem dksX1_busiest_0 : cX1_busiest.data.toList.drop 0 = dktX1_busiest_0 := by decide +kernel
theorem dksX1_busiest_1 : cX1_busiest.data.toList.drop 23 = dktX1_busiest_1 := dk_seg dksX1_busiest_0 23 rfl rfl
theorem dksX1_busiest_2 : cX1_busiest.data.toList.drop 47 = dktX1_busiest_2 := dk_seg dksX1_busiest_1 24 rfl rfl
theorem dksX1_busiest_3 : cX1_busiest.data.toList.drop 71 = dktX1_busiest_3 := dk_seg dksX1_busiest_2 24 rfl rfl
theorem dX1_busiest_0 : decode cX1_busiest 0 = .ok (.sipush (-1015), 3) := dk_17 252 9 (dk_at dksX1_busiest_0 0 rfl rfl)
theorem dX1_busiest_3 : decode cX1_busiest 3 = .ok (.istore_n 1, 1) := dk_60 (dk_at dksX1_busiest_0 3 rfl rfl)
theorem dX1_busiest_4 : decode cX1_busiest 4 = .ok (.aload_n 0, 1) := dk_42 (dk_at dksX1_busiest_0 4 rfl rfl)
theorem dX1_busiest_5 : decode cX1_busiest 5 = .ok (.getfield 35, 3) := dk_180 0 35 (dk_at dksX1_busiest_0 5 rfl rfl)
theorem dX1_busiest_8 : decode cX1_busiest 8 = .ok (.invokevirtual 75, 3) := dk_182 0 75 (dk_at dksX1_busiest_0 8 rfl rfl)
theorem dX1_busiest_11 : decode cX1_busiest 11 = .ok (.invokeinterface 79 1, 5) := by decide +kernel
theorem dX1_busiest_16 : decode cX1_busiest 16 = .ok (.astore_n 2, 1) := dk_77 (dk_at dksX1_busiest_0 16 rfl rfl)
theorem dX1_busiest_17 : decode cX1_busiest 17 = .ok (.aload_n 2, 1) := dk_44 (dk_at dksX1_busiest_0 17 rfl rfl)
theorem dX1_busiest_18 : decode cX1_busiest 18 = .ok (.invokeinterface 51 1, 5) := by decide +kernel
theorem dX1_busiest_23 : decode cX1_busiest 23 = .ok (.ifCond .eq 51, 3) := dk_153 0 51 (dk_at dksX1_busiest_1 0 rfl rfl)
theorem dX1_busiest_26 : decode cX1_busiest 26 = .ok (.aload_n 2, 1) := dk_44 (dk_at dksX1_busiest_1 3 rfl rfl)
theorem dX1_busiest_27 : decode cX1_busiest 27 = .ok (.invokeinterface 57 1, 5) := by decide +kernel
theorem dX1_busiest_32 : decode cX1_busiest 32 = .ok (.checkcast 82, 3) := dk_192 0 82 (dk_at dksX1_busiest_1 9 rfl rfl)
theorem dX1_busiest_35 : decode cX1_busiest 35 = .ok (.invokevirtual 84, 3) := dk_182 0 84 (dk_at dksX1_busiest_1 12 rfl rfl)
theorem dX1_busiest_38 : decode cX1_busiest 38 = .ok (.istore_n 3, 1) := dk_62 (dk_at dksX1_busiest_1 15 rfl rfl)
theorem dX1_busiest_39 : decode cX1_busiest 39 = .ok (.iload_n 1, 1) := dk_27 (dk_at dksX1_busiest_1 16 rfl rfl)
theorem dX1_busiest_40 : decode cX1_busiest 40 = .ok (.sipush (-1015), 3) := dk_17 252 9 (dk_at dksX1_busiest_1 17 rfl rfl)
theorem dX1_busiest_43 : decode cX1_busiest 43 = .ok (.if_icmp .eq 22, 3) := dk_159 0 22 (dk_at dksX1_busiest_1 20 rfl rfl)
theorem dX1_busiest_46 : decode cX1_busiest 46 = .ok (.aload_n 0, 1) := dk_42 (dk_at dksX1_busiest_1 23 rfl rfl)
theorem dX1_busiest_47 : decode cX1_busiest 47 = .ok (.iload_n 3, 1) := dk_29 (dk_at dksX1_busiest_2 0 rfl rfl)
theorem dX1_busiest_48 : decode cX1_busiest 48 = .ok (.invokevirtual 205, 3) := dk_182 0 205 (dk_at dksX1_busiest_2 1 rfl rfl)
theorem dX1_busiest_51 : decode cX1_busiest 51 = .ok (.invokevirtual 284, 3) := dk_182 1 28 (dk_at dksX1_busiest_2 4 rfl rfl)
theorem dX1_busiest_54 : decode cX1_busiest 54 = .ok (.aload_n 0, 1) := dk_42 (dk_at dksX1_busiest_2 7 rfl rfl)
theorem dX1_busiest_55 : decode cX1_busiest 55 = .ok (.iload_n 1, 1) := dk_27 (dk_at dksX1_busiest_2 8 rfl rfl)
theorem dX1_busiest_56 : decode cX1_busiest 56 = .ok (.invokevirtual 205, 3) := dk_182 0 205 (dk_at dksX1_busiest_2 9 rfl rfl)
theorem dX1_busiest_59 : decode cX1_busiest 59 = .ok (.invokevirtual 284, 3) := dk_182 1 28 (dk_at dksX1_busiest_2 12 rfl rfl)
theorem dX1_busiest_62 : decode cX1_busiest 62 = .ok (.if_icmp .le 7, 3) := dk_164 0 7 (dk_at dksX1_busiest_2 15 rfl rfl)
theorem dX1_busiest_65 : decode cX1_busiest 65 = .ok (.iload_n 3, 1) := dk_29 (dk_at dksX1_busiest_2 18 rfl rfl)
theorem dX1_busiest_66 : decode cX1_busiest 66 = .ok (.goto 4, 3) := dk_167 0 4 (dk_at dksX1_busiest_2 19 rfl rfl)
theorem dX1_busiest_69 : decode cX1_busiest 69 = .ok (.iload_n 1, 1) := dk_27 (dk_at dksX1_busiest_2 22 rfl rfl)
theorem dX1_busiest_70 : decode cX1_busiest 70 = .ok (.istore_n 1, 1) := dk_60 (dk_at dksX1_busiest_2 23 rfl rfl)
theorem dX1_busiest_71 : decode cX1_busiest 71 = .ok (.goto (-54), 3) := dk_167 255 202 (dk_at dksX1_busiest_3 0 rfl rfl)
theorem dX1_busiest_74 : decode cX1_busiest 74 = .ok (.iload_n 1, 1) := dk_27 (dk_at dksX1_busiest_3 3 rfl rfl)
theorem dX1_busiest_75 : decode cX1_busiest 75 = .ok (.ireturn, 1) := dk_172 (dk_at dksX1_busiest_3 4 rfl rfl)
def dkwX1_rustiest_3 : List UInt8 := [167, 255, 188, 17, 252, 13, 172]
abbrev dktX1_rustiest_3 : List UInt8 := dkwX1_rustiest_3 ++ []
def dkwX1_rustiest_2 : List UInt8 := [167, 0, 4, 3, 96, 62, 132, 4, 1, 167, 255, 217, 29, 27, 160, 0, 5, 28, 172, 132, 2, 1]
abbrev dktX1_rustiest_2 : List UInt8 := dkwX1_rustiest_2 ++ dktX1_rustiest_3
def dkwX1_rustiest_1 : List UInt8 := [182, 0, 130, 162, 0, 33, 29, 21, 4, 28, 159, 0, 17, 42, 21, 4, 28, 182, 1, 49, 153, 0, 7, 4]
abbrev dktX1_rustiest_1 : List UInt8 := dkwX1_rustiest_1 ++ dktX1_rustiest_2
def dkwX1_rustiest_0 : List UInt8 := [3, 61, 28, 42, 180, 0, 14, 182, 0, 130, 162, 0, 63, 3, 62, 3, 54, 4, 21, 4, 42, 180, 0, 14]
abbrev dktX1_rustiest_0 : List UInt8 := dkwX1_rustiest_0 ++ dktX1_rustiest_1
theorem dksX1_rustiest_0 : cX1_rustiest.data.toList.drop 0 = dktX1_rustiest_0 := by decide +kernel
theorem dksX1_rustiest_1 : cX1_rustiest.data.toList.drop 24 = dktX1_rustiest_1 := dk_seg dksX1_rustiest_0 24 rfl rfl
theorem dksX1_rustiest_2 : cX1_rustiest.data.toList.drop 48 = dktX1_rustiest_2 := dk_seg dksX1_rustiest_1 24 rfl rfl
theorem dksX1_rustiest_3 : cX1_rustiest.data.toList.drop 70 = dktX1_rustiest_3 := dk_seg dksX1_rustiest_2 22 rfl rfl
theorem dX1_rustiest_0 : decode cX1_rustiest 0 = .ok (.iconst 0, 1) := dk_3 (dk_at dksX1_rustiest_0 0 rfl rfl)
theorem dX1_rustiest_1 : decode cX1_rustiest 1 = .ok (.istore_n 2, 1) := dk_61 (dk_at dksX1_rustiest_0 1 rfl rfl)
theorem dX1_rustiest_2 : decode cX1_rustiest 2 = .ok (.iload_n 2, 1) := dk_28 (dk_at dksX1_rustiest_0 2 rfl rfl)
theorem dX1_rustiest_3 : decode cX1_rustiest 3 = .ok (.aload_n 0, 1) := dk_42 (dk_at dksX1_rustiest_0 3 rfl rfl)
theorem dX1_rustiest_4 : decode cX1_rustiest 4 = .ok (.getfield 14, 3) := dk_180 0 14 (dk_at dksX1_rustiest_0 4 rfl rfl)
theorem dX1_rustiest_7 : decode cX1_rustiest 7 = .ok (.invokevirtual 130, 3) := dk_182 0 130 (dk_at dksX1_rustiest_0 7 rfl rfl)
theorem dX1_rustiest_10 : decode cX1_rustiest 10 = .ok (.if_icmp .ge 63, 3) := dk_162 0 63 (dk_at dksX1_rustiest_0 10 rfl rfl)
theorem dX1_rustiest_13 : decode cX1_rustiest 13 = .ok (.iconst 0, 1) := dk_3 (dk_at dksX1_rustiest_0 13 rfl rfl)
theorem dX1_rustiest_14 : decode cX1_rustiest 14 = .ok (.istore_n 3, 1) := dk_62 (dk_at dksX1_rustiest_0 14 rfl rfl)
theorem dX1_rustiest_15 : decode cX1_rustiest 15 = .ok (.iconst 0, 1) := dk_3 (dk_at dksX1_rustiest_0 15 rfl rfl)
theorem dX1_rustiest_16 : decode cX1_rustiest 16 = .ok (.istore 4, 2) := dk_54 4 (dk_at dksX1_rustiest_0 16 rfl rfl)
theorem dX1_rustiest_18 : decode cX1_rustiest 18 = .ok (.iload 4, 2) := dk_21 4 (dk_at dksX1_rustiest_0 18 rfl rfl)
theorem dX1_rustiest_20 : decode cX1_rustiest 20 = .ok (.aload_n 0, 1) := dk_42 (dk_at dksX1_rustiest_0 20 rfl rfl)
theorem dX1_rustiest_21 : decode cX1_rustiest 21 = .ok (.getfield 14, 3) := dk_180 0 14 (dk_at dksX1_rustiest_0 21 rfl rfl)
theorem dX1_rustiest_24 : decode cX1_rustiest 24 = .ok (.invokevirtual 130, 3) := dk_182 0 130 (dk_at dksX1_rustiest_1 0 rfl rfl)
theorem dX1_rustiest_27 : decode cX1_rustiest 27 = .ok (.if_icmp .ge 33, 3) := dk_162 0 33 (dk_at dksX1_rustiest_1 3 rfl rfl)
theorem dX1_rustiest_30 : decode cX1_rustiest 30 = .ok (.iload_n 3, 1) := dk_29 (dk_at dksX1_rustiest_1 6 rfl rfl)
theorem dX1_rustiest_31 : decode cX1_rustiest 31 = .ok (.iload 4, 2) := dk_21 4 (dk_at dksX1_rustiest_1 7 rfl rfl)
theorem dX1_rustiest_33 : decode cX1_rustiest 33 = .ok (.iload_n 2, 1) := dk_28 (dk_at dksX1_rustiest_1 9 rfl rfl)
theorem dX1_rustiest_34 : decode cX1_rustiest 34 = .ok (.if_icmp .eq 17, 3) := dk_159 0 17 (dk_at dksX1_rustiest_1 10 rfl rfl)
theorem dX1_rustiest_37 : decode cX1_rustiest 37 = .ok (.aload_n 0, 1) := dk_42 (dk_at dksX1_rustiest_1 13 rfl rfl)
theorem dX1_rustiest_38 : decode cX1_rustiest 38 = .ok (.iload 4, 2) := dk_21 4 (dk_at dksX1_rustiest_1 14 rfl rfl)
theorem dX1_rustiest_40 : decode cX1_rustiest 40 = .ok (.iload_n 2, 1) := dk_28 (dk_at dksX1_rustiest_1 16 rfl rfl)
theorem dX1_rustiest_41 : decode cX1_rustiest 41 = .ok (.invokevirtual 305, 3) := dk_182 1 49 (dk_at dksX1_rustiest_1 17 rfl rfl)
theorem dX1_rustiest_44 : decode cX1_rustiest 44 = .ok (.ifCond .eq 7, 3) := dk_153 0 7 (dk_at dksX1_rustiest_1 20 rfl rfl)
theorem dX1_rustiest_47 : decode cX1_rustiest 47 = .ok (.iconst 1, 1) := dk_4 (dk_at dksX1_rustiest_1 23 rfl rfl)
theorem dX1_rustiest_48 : decode cX1_rustiest 48 = .ok (.goto 4, 3) := dk_167 0 4 (dk_at dksX1_rustiest_2 0 rfl rfl)
theorem dX1_rustiest_51 : decode cX1_rustiest 51 = .ok (.iconst 0, 1) := dk_3 (dk_at dksX1_rustiest_2 3 rfl rfl)
theorem dX1_rustiest_52 : decode cX1_rustiest 52 = .ok (.iadd, 1) := dk_96 (dk_at dksX1_rustiest_2 4 rfl rfl)
theorem dX1_rustiest_53 : decode cX1_rustiest 53 = .ok (.istore_n 3, 1) := dk_62 (dk_at dksX1_rustiest_2 5 rfl rfl)
theorem dX1_rustiest_54 : decode cX1_rustiest 54 = .ok (.iinc 4 1, 3) := dk_132 4 1 (dk_at dksX1_rustiest_2 6 rfl rfl)
theorem dX1_rustiest_57 : decode cX1_rustiest 57 = .ok (.goto (-39), 3) := dk_167 255 217 (dk_at dksX1_rustiest_2 9 rfl rfl)
theorem dX1_rustiest_60 : decode cX1_rustiest 60 = .ok (.iload_n 3, 1) := dk_29 (dk_at dksX1_rustiest_2 12 rfl rfl)
theorem dX1_rustiest_61 : decode cX1_rustiest 61 = .ok (.iload_n 1, 1) := dk_27 (dk_at dksX1_rustiest_2 13 rfl rfl)
theorem dX1_rustiest_62 : decode cX1_rustiest 62 = .ok (.if_icmp .ne 5, 3) := dk_160 0 5 (dk_at dksX1_rustiest_2 14 rfl rfl)
theorem dX1_rustiest_65 : decode cX1_rustiest 65 = .ok (.iload_n 2, 1) := dk_28 (dk_at dksX1_rustiest_2 17 rfl rfl)
theorem dX1_rustiest_66 : decode cX1_rustiest 66 = .ok (.ireturn, 1) := dk_172 (dk_at dksX1_rustiest_2 18 rfl rfl)
theorem dX1_rustiest_67 : decode cX1_rustiest 67 = .ok (.iinc 2 1, 3) := dk_132 2 1 (dk_at dksX1_rustiest_2 19 rfl rfl)
theorem dX1_rustiest_70 : decode cX1_rustiest 70 = .ok (.goto (-68), 3) := dk_167 255 188 (dk_at dksX1_rustiest_3 0 rfl rfl)
theorem dX1_rustiest_73 : decode cX1_rustiest 73 = .ok (.sipush (-1011), 3) := dk_17 252 13 (dk_at dksX1_rustiest_3 3 rfl rfl)
theorem dX1_rustiest_76 : decode cX1_rustiest 76 = .ok (.ireturn, 1) := dk_172 (dk_at dksX1_rustiest_3 6 rfl rfl)
def dkwX1_isRustier_4 : List UInt8 := [27, 28, 162, 0, 7, 4, 167, 0, 4, 3, 172]
abbrev dktX1_isRustier_4 : List UInt8 := dkwX1_isRustier_4 ++ []
def dkwX1_isRustier_3 : List UInt8 := [180, 1, 31, 100, 54, 4, 21, 4, 153, 0, 16, 21, 4, 158, 0, 7, 4, 167, 0, 17, 3, 167, 0, 13]
abbrev dktX1_isRustier_3 : List UInt8 := dkwX1_isRustier_3 ++ dktX1_isRustier_4
def dkwX1_isRustier_2 : List UInt8 := [180, 0, 14, 28, 182, 0, 142, 192, 0, 61, 180, 1, 31, 42, 180, 0, 14, 27, 182, 0, 142, 192, 0, 61]
abbrev dktX1_isRustier_2 : List UInt8 := dkwX1_isRustier_2 ++ dktX1_isRustier_3
def dkwX1_isRustier_1 : List UInt8 := [192, 0, 61, 180, 0, 155, 100, 62, 29, 153, 0, 13, 29, 158, 0, 7, 4, 167, 0, 4, 3, 172, 42]
abbrev dktX1_isRustier_1 : List UInt8 := dkwX1_isRustier_1 ++ dktX1_isRustier_2
def dkwX1_isRustier_0 : List UInt8 := [42, 180, 0, 14, 27, 182, 0, 142, 192, 0, 61, 180, 0, 155, 42, 180, 0, 14, 28, 182, 0, 142]
abbrev dktX1_isRustier_0 : List UInt8 := dkwX1_isRustier_0 ++ dktX1_isRustier_1
theorem dksX1_isRustier_0 : cX1_isRustier.data.toList.drop 0 = dktX1_isRustier_0 := by decide +kernel
theorem dksX1_isRustier_1 : cX1_isRustier.data.toList.drop 22 = dktX1_isRustier_1 := dk_seg dksX1_isRustier_0 22 rfl rfl
theorem dksX1_isRustier_2 : cX1_isRustier.data.toList.drop 45 = dktX1_isRustier_2 := dk_seg dksX1_isRustier_1 23 rfl rfl
theorem dksX1_isRustier_3 : cX1_isRustier.data.toList.drop 69 = dktX1_isRustier_3 := dk_seg dksX1_isRustier_2 24 rfl rfl
theorem dksX1_isRustier_4 : cX1_isRustier.data.toList.drop 93 = dktX1_isRustier_4 := dk_seg dksX1_isRustier_3 24 rfl rfl
theorem dX1_isRustier_0 : decode cX1_isRustier 0 = .ok (.aload_n 0, 1) := dk_42 (dk_at dksX1_isRustier_0 0 rfl rfl)
theorem dX1_isRustier_1 : decode cX1_isRustier 1 = .ok (.getfield 14, 3) := dk_180 0 14 (dk_at dksX1_isRustier_0 1 rfl rfl)
theorem dX1_isRustier_4 : decode cX1_isRustier 4 = .ok (.iload_n 1, 1) := dk_27 (dk_at dksX1_isRustier_0 4 rfl rfl)
theorem dX1_isRustier_5 : decode cX1_isRustier 5 = .ok (.invokevirtual 142, 3) := dk_182 0 142 (dk_at dksX1_isRustier_0 5 rfl rfl)
theorem dX1_isRustier_8 : decode cX1_isRustier 8 = .ok (.checkcast 61, 3) := dk_192 0 61 (dk_at dksX1_isRustier_0 8 rfl rfl)
theorem dX1_isRustier_11 : decode cX1_isRustier 11 = .ok (.getfield 155, 3) := dk_180 0 155 (dk_at dksX1_isRustier_0 11 rfl rfl)
theorem dX1_isRustier_14 : decode cX1_isRustier 14 = .ok (.aload_n 0, 1) := dk_42 (dk_at dksX1_isRustier_0 14 rfl rfl)
theorem dX1_isRustier_15 : decode cX1_isRustier 15 = .ok (.getfield 14, 3) := dk_180 0 14 (dk_at dksX1_isRustier_0 15 rfl rfl)
theorem dX1_isRustier_18 : decode cX1_isRustier 18 = .ok (.iload_n 2, 1) := dk_28 (dk_at dksX1_isRustier_0 18 rfl rfl)
theorem dX1_isRustier_19 : decode cX1_isRustier 19 = .ok (.invokevirtual 142, 3) := dk_182 0 142 (dk_at dksX1_isRustier_0 19 rfl rfl)
theorem dX1_isRustier_22 : decode cX1_isRustier 22 = .ok (.checkcast 61, 3) := dk_192 0 61 (dk_at dksX1_isRustier_1 0 rfl rfl)
theorem dX1_isRustier_25 : decode cX1_isRustier 25 = .ok (.getfield 155, 3) := dk_180 0 155 (dk_at dksX1_isRustier_1 3 rfl rfl)
theorem dX1_isRustier_28 : decode cX1_isRustier 28 = .ok (.isub, 1) := dk_100 (dk_at dksX1_isRustier_1 6 rfl rfl)
theorem dX1_isRustier_29 : decode cX1_isRustier 29 = .ok (.istore_n 3, 1) := dk_62 (dk_at dksX1_isRustier_1 7 rfl rfl)
theorem dX1_isRustier_30 : decode cX1_isRustier 30 = .ok (.iload_n 3, 1) := dk_29 (dk_at dksX1_isRustier_1 8 rfl rfl)
theorem dX1_isRustier_31 : decode cX1_isRustier 31 = .ok (.ifCond .eq 13, 3) := dk_153 0 13 (dk_at dksX1_isRustier_1 9 rfl rfl)
theorem dX1_isRustier_34 : decode cX1_isRustier 34 = .ok (.iload_n 3, 1) := dk_29 (dk_at dksX1_isRustier_1 12 rfl rfl)
theorem dX1_isRustier_35 : decode cX1_isRustier 35 = .ok (.ifCond .le 7, 3) := dk_158 0 7 (dk_at dksX1_isRustier_1 13 rfl rfl)
theorem dX1_isRustier_38 : decode cX1_isRustier 38 = .ok (.iconst 1, 1) := dk_4 (dk_at dksX1_isRustier_1 16 rfl rfl)
theorem dX1_isRustier_39 : decode cX1_isRustier 39 = .ok (.goto 4, 3) := dk_167 0 4 (dk_at dksX1_isRustier_1 17 rfl rfl)
theorem dX1_isRustier_42 : decode cX1_isRustier 42 = .ok (.iconst 0, 1) := dk_3 (dk_at dksX1_isRustier_1 20 rfl rfl)
theorem dX1_isRustier_43 : decode cX1_isRustier 43 = .ok (.ireturn, 1) := dk_172 (dk_at dksX1_isRustier_1 21 rfl rfl)
theorem dX1_isRustier_44 : decode cX1_isRustier 44 = .ok (.aload_n 0, 1) := dk_42 (dk_at dksX1_isRustier_1 22 rfl rfl)
theorem dX1_isRustier_45 : decode cX1_isRustier 45 = .ok (.getfield 14, 3) := dk_180 0 14 (dk_at dksX1_isRustier_2 0 rfl rfl)
theorem dX1_isRustier_48 : decode cX1_isRustier 48 = .ok (.iload_n 2, 1) := dk_28 (dk_at dksX1_isRustier_2 3 rfl rfl)
theorem dX1_isRustier_49 : decode cX1_isRustier 49 = .ok (.invokevirtual 142, 3) := dk_182 0 142 (dk_at dksX1_isRustier_2 4 rfl rfl)
theorem dX1_isRustier_52 : decode cX1_isRustier 52 = .ok (.checkcast 61, 3) := dk_192 0 61 (dk_at dksX1_isRustier_2 7 rfl rfl)
theorem dX1_isRustier_55 : decode cX1_isRustier 55 = .ok (.getfield 287, 3) := dk_180 1 31 (dk_at dksX1_isRustier_2 10 rfl rfl)
theorem dX1_isRustier_58 : decode cX1_isRustier 58 = .ok (.aload_n 0, 1) := dk_42 (dk_at dksX1_isRustier_2 13 rfl rfl)
theorem dX1_isRustier_59 : decode cX1_isRustier 59 = .ok (.getfield 14, 3) := dk_180 0 14 (dk_at dksX1_isRustier_2 14 rfl rfl)
theorem dX1_isRustier_62 : decode cX1_isRustier 62 = .ok (.iload_n 1, 1) := dk_27 (dk_at dksX1_isRustier_2 17 rfl rfl)
theorem dX1_isRustier_63 : decode cX1_isRustier 63 = .ok (.invokevirtual 142, 3) := dk_182 0 142 (dk_at dksX1_isRustier_2 18 rfl rfl)
theorem dX1_isRustier_66 : decode cX1_isRustier 66 = .ok (.checkcast 61, 3) := dk_192 0 61 (dk_at dksX1_isRustier_2 21 rfl rfl)
theorem dX1_isRustier_69 : decode cX1_isRustier 69 = .ok (.getfield 287, 3) := dk_180 1 31 (dk_at dksX1_isRustier_3 0 rfl rfl)
theorem dX1_isRustier_72 : decode cX1_isRustier 72 = .ok (.isub, 1) := dk_100 (dk_at dksX1_isRustier_3 3 rfl rfl)
theorem dX1_isRustier_73 : decode cX1_isRustier 73 = .ok (.istore 4, 2) := dk_54 4 (dk_at dksX1_isRustier_3 4 rfl rfl)
theorem dX1_isRustier_75 : decode cX1_isRustier 75 = .ok (.iload 4, 2) := dk_21 4 (dk_at dksX1_isRustier_3 6 rfl rfl)
theorem dX1_isRustier_77 : decode cX1_isRustier 77 = .ok (.ifCond .eq 16, 3) := dk_153 0 16 (dk_at dksX1_isRustier_3 8 rfl rfl)
theorem dX1_isRustier_80 : decode cX1_isRustier 80 = .ok (.iload 4, 2) := dk_21 4 (dk_at dksX1_isRustier_3 11 rfl rfl)
theorem dX1_isRustier_82 : decode cX1_isRustier 82 = .ok (.ifCond .le 7, 3) := dk_158 0 7 (dk_at dksX1_isRustier_3 13 rfl rfl)
theorem dX1_isRustier_85 : decode cX1_isRustier 85 = .ok (.iconst 1, 1) := dk_4 (dk_at dksX1_isRustier_3 16 rfl rfl)
theorem dX1_isRustier_86 : decode cX1_isRustier 86 = .ok (.goto 17, 3) := dk_167 0 17 (dk_at dksX1_isRustier_3 17 rfl rfl)
theorem dX1_isRustier_89 : decode cX1_isRustier 89 = .ok (.iconst 0, 1) := dk_3 (dk_at dksX1_isRustier_3 20 rfl rfl)
theorem dX1_isRustier_90 : decode cX1_isRustier 90 = .ok (.goto 13, 3) := dk_167 0 13 (dk_at dksX1_isRustier_3 21 rfl rfl)
theorem dX1_isRustier_93 : decode cX1_isRustier 93 = .ok (.iload_n 1, 1) := dk_27 (dk_at dksX1_isRustier_4 0 rfl rfl)
theorem dX1_isRustier_94 : decode cX1_isRustier 94 = .ok (.iload_n 2, 1) := dk_28 (dk_at dksX1_isRustier_4 1 rfl rfl)
theorem dX1_isRustier_95 : decode cX1_isRustier 95 = .ok (.if_icmp .ge 7, 3) := dk_162 0 7 (dk_at dksX1_isRustier_4 2 rfl rfl)
theorem dX1_isRustier_98 : decode cX1_isRustier 98 = .ok (.iconst 1, 1) := dk_4 (dk_at dksX1_isRustier_4 5 rfl rfl)
theorem dX1_isRustier_99 : decode cX1_isRustier 99 = .ok (.goto 4, 3) := dk_167 0 4 (dk_at dksX1_isRustier_4 6 rfl rfl)
theorem dX1_isRustier_102 : decode cX1_isRustier 102 = .ok (.iconst 0, 1) := dk_3 (dk_at dksX1_isRustier_4 9 rfl rfl)
theorem dX1_isRustier_103 : decode cX1_isRustier 103 = .ok (.ireturn, 1) := dk_172 (dk_at dksX1_isRustier_4 10 rfl rfl)
def dkwX1_ranked_2 : List UInt8 := [167, 255, 223, 29, 27, 160, 0, 5, 28, 172, 132, 2, 1, 167, 255, 200, 17, 252, 13, 172]
abbrev dktX1_ranked_2 : List UInt8 := dkwX1_ranked_2 ++ []
def dkwX1_ranked_1 : List UInt8 := [159, 0, 17, 42, 21, 4, 28, 182, 1, 53, 153, 0, 7, 4, 167, 0, 4, 3, 96, 62, 132, 4, 1]
abbrev dktX1_ranked_1 : List UInt8 := dkwX1_ranked_1 ++ dktX1_ranked_2
def dkwX1_ranked_0 : List UInt8 := [3, 61, 28, 7, 162, 0, 57, 3, 62, 3, 54, 4, 21, 4, 7, 162, 0, 33, 29, 21, 4, 28]
abbrev dktX1_ranked_0 : List UInt8 := dkwX1_ranked_0 ++ dktX1_ranked_1
theorem dksX1_ranked_0 : cX1_ranked.data.toList.drop 0 = dktX1_ranked_0 := by decide +kernel
theorem dksX1_ranked_1 : cX1_ranked.data.toList.drop 22 = dktX1_ranked_1 := dk_seg dksX1_ranked_0 22 rfl rfl
theorem dksX1_ranked_2 : cX1_ranked.data.toList.drop 45 = dktX1_ranked_2 := dk_seg dksX1_ranked_1 23 rfl rfl
theorem dX1_ranked_0 : decode cX1_ranked 0 = .ok (.iconst 0, 1) := dk_3 (dk_at dksX1_ranked_0 0 rfl rfl)
theorem dX1_ranked_1 : decode cX1_ranked 1 = .ok (.istore_n 2, 1) := dk_61 (dk_at dksX1_ranked_0 1 rfl rfl)
theorem dX1_ranked_2 : decode cX1_ranked 2 = .ok (.iload_n 2, 1) := dk_28 (dk_at dksX1_ranked_0 2 rfl rfl)
theorem dX1_ranked_3 : decode cX1_ranked 3 = .ok (.iconst 4, 1) := dk_7 (dk_at dksX1_ranked_0 3 rfl rfl)
theorem dX1_ranked_4 : decode cX1_ranked 4 = .ok (.if_icmp .ge 57, 3) := dk_162 0 57 (dk_at dksX1_ranked_0 4 rfl rfl)
theorem dX1_ranked_7 : decode cX1_ranked 7 = .ok (.iconst 0, 1) := dk_3 (dk_at dksX1_ranked_0 7 rfl rfl)
theorem dX1_ranked_8 : decode cX1_ranked 8 = .ok (.istore_n 3, 1) := dk_62 (dk_at dksX1_ranked_0 8 rfl rfl)
theorem dX1_ranked_9 : decode cX1_ranked 9 = .ok (.iconst 0, 1) := dk_3 (dk_at dksX1_ranked_0 9 rfl rfl)
theorem dX1_ranked_10 : decode cX1_ranked 10 = .ok (.istore 4, 2) := dk_54 4 (dk_at dksX1_ranked_0 10 rfl rfl)
theorem dX1_ranked_12 : decode cX1_ranked 12 = .ok (.iload 4, 2) := dk_21 4 (dk_at dksX1_ranked_0 12 rfl rfl)
theorem dX1_ranked_14 : decode cX1_ranked 14 = .ok (.iconst 4, 1) := dk_7 (dk_at dksX1_ranked_0 14 rfl rfl)
theorem dX1_ranked_15 : decode cX1_ranked 15 = .ok (.if_icmp .ge 33, 3) := dk_162 0 33 (dk_at dksX1_ranked_0 15 rfl rfl)
theorem dX1_ranked_18 : decode cX1_ranked 18 = .ok (.iload_n 3, 1) := dk_29 (dk_at dksX1_ranked_0 18 rfl rfl)
theorem dX1_ranked_19 : decode cX1_ranked 19 = .ok (.iload 4, 2) := dk_21 4 (dk_at dksX1_ranked_0 19 rfl rfl)
theorem dX1_ranked_21 : decode cX1_ranked 21 = .ok (.iload_n 2, 1) := dk_28 (dk_at dksX1_ranked_0 21 rfl rfl)
theorem dX1_ranked_22 : decode cX1_ranked 22 = .ok (.if_icmp .eq 17, 3) := dk_159 0 17 (dk_at dksX1_ranked_1 0 rfl rfl)
theorem dX1_ranked_25 : decode cX1_ranked 25 = .ok (.aload_n 0, 1) := dk_42 (dk_at dksX1_ranked_1 3 rfl rfl)
theorem dX1_ranked_26 : decode cX1_ranked 26 = .ok (.iload 4, 2) := dk_21 4 (dk_at dksX1_ranked_1 4 rfl rfl)
theorem dX1_ranked_28 : decode cX1_ranked 28 = .ok (.iload_n 2, 1) := dk_28 (dk_at dksX1_ranked_1 6 rfl rfl)
theorem dX1_ranked_29 : decode cX1_ranked 29 = .ok (.invokevirtual 309, 3) := dk_182 1 53 (dk_at dksX1_ranked_1 7 rfl rfl)
theorem dX1_ranked_32 : decode cX1_ranked 32 = .ok (.ifCond .eq 7, 3) := dk_153 0 7 (dk_at dksX1_ranked_1 10 rfl rfl)
theorem dX1_ranked_35 : decode cX1_ranked 35 = .ok (.iconst 1, 1) := dk_4 (dk_at dksX1_ranked_1 13 rfl rfl)
theorem dX1_ranked_36 : decode cX1_ranked 36 = .ok (.goto 4, 3) := dk_167 0 4 (dk_at dksX1_ranked_1 14 rfl rfl)
theorem dX1_ranked_39 : decode cX1_ranked 39 = .ok (.iconst 0, 1) := dk_3 (dk_at dksX1_ranked_1 17 rfl rfl)
theorem dX1_ranked_40 : decode cX1_ranked 40 = .ok (.iadd, 1) := dk_96 (dk_at dksX1_ranked_1 18 rfl rfl)
theorem dX1_ranked_41 : decode cX1_ranked 41 = .ok (.istore_n 3, 1) := dk_62 (dk_at dksX1_ranked_1 19 rfl rfl)
theorem dX1_ranked_42 : decode cX1_ranked 42 = .ok (.iinc 4 1, 3) := dk_132 4 1 (dk_at dksX1_ranked_1 20 rfl rfl)
theorem dX1_ranked_45 : decode cX1_ranked 45 = .ok (.goto (-33), 3) := dk_167 255 223 (dk_at dksX1_ranked_2 0 rfl rfl)
theorem dX1_ranked_48 : decode cX1_ranked 48 = .ok (.iload_n 3, 1) := dk_29 (dk_at dksX1_ranked_2 3 rfl rfl)
theorem dX1_ranked_49 : decode cX1_ranked 49 = .ok (.iload_n 1, 1) := dk_27 (dk_at dksX1_ranked_2 4 rfl rfl)
theorem dX1_ranked_50 : decode cX1_ranked 50 = .ok (.if_icmp .ne 5, 3) := dk_160 0 5 (dk_at dksX1_ranked_2 5 rfl rfl)
theorem dX1_ranked_53 : decode cX1_ranked 53 = .ok (.iload_n 2, 1) := dk_28 (dk_at dksX1_ranked_2 8 rfl rfl)
theorem dX1_ranked_54 : decode cX1_ranked 54 = .ok (.ireturn, 1) := dk_172 (dk_at dksX1_ranked_2 9 rfl rfl)
theorem dX1_ranked_55 : decode cX1_ranked 55 = .ok (.iinc 2 1, 3) := dk_132 2 1 (dk_at dksX1_ranked_2 10 rfl rfl)
theorem dX1_ranked_58 : decode cX1_ranked 58 = .ok (.goto (-56), 3) := dk_167 255 200 (dk_at dksX1_ranked_2 13 rfl rfl)
theorem dX1_ranked_61 : decode cX1_ranked 61 = .ok (.sipush (-1011), 3) := dk_17 252 13 (dk_at dksX1_ranked_2 16 rfl rfl)
theorem dX1_ranked_64 : decode cX1_ranked 64 = .ok (.ireturn, 1) := dk_172 (dk_at dksX1_ranked_2 19 rfl rfl)
def dkwX1_isAhead_2 : List UInt8 := [158, 0, 7, 4, 167, 0, 17, 3, 167, 0, 13, 27, 28, 162, 0, 7, 4, 167, 0, 4, 3, 172]
abbrev dktX1_isAhead_2 : List UInt8 := dkwX1_isAhead_2 ++ []
def dkwX1_isAhead_1 : List UInt8 := [3, 172, 42, 27, 182, 1, 18, 42, 28, 182, 1, 18, 100, 54, 4, 21, 4, 153, 0, 16, 21, 4]
abbrev dktX1_isAhead_1 : List UInt8 := dkwX1_isAhead_1 ++ dktX1_isAhead_2
def dkwX1_isAhead_0 : List UInt8 := [42, 27, 182, 1, 34, 42, 28, 182, 1, 34, 100, 62, 29, 153, 0, 13, 29, 158, 0, 7, 4, 167, 0, 4]
abbrev dktX1_isAhead_0 : List UInt8 := dkwX1_isAhead_0 ++ dktX1_isAhead_1
theorem dksX1_isAhead_0 : cX1_isAhead.data.toList.drop 0 = dktX1_isAhead_0 := by decide +kernel
theorem dksX1_isAhead_1 : cX1_isAhead.data.toList.drop 24 = dktX1_isAhead_1 := dk_seg dksX1_isAhead_0 24 rfl rfl
theorem dksX1_isAhead_2 : cX1_isAhead.data.toList.drop 46 = dktX1_isAhead_2 := dk_seg dksX1_isAhead_1 22 rfl rfl
theorem dX1_isAhead_0 : decode cX1_isAhead 0 = .ok (.aload_n 0, 1) := dk_42 (dk_at dksX1_isAhead_0 0 rfl rfl)
theorem dX1_isAhead_1 : decode cX1_isAhead 1 = .ok (.iload_n 1, 1) := dk_27 (dk_at dksX1_isAhead_0 1 rfl rfl)
theorem dX1_isAhead_2 : decode cX1_isAhead 2 = .ok (.invokevirtual 290, 3) := dk_182 1 34 (dk_at dksX1_isAhead_0 2 rfl rfl)
theorem dX1_isAhead_5 : decode cX1_isAhead 5 = .ok (.aload_n 0, 1) := dk_42 (dk_at dksX1_isAhead_0 5 rfl rfl)
theorem dX1_isAhead_6 : decode cX1_isAhead 6 = .ok (.iload_n 2, 1) := dk_28 (dk_at dksX1_isAhead_0 6 rfl rfl)
theorem dX1_isAhead_7 : decode cX1_isAhead 7 = .ok (.invokevirtual 290, 3) := dk_182 1 34 (dk_at dksX1_isAhead_0 7 rfl rfl)
theorem dX1_isAhead_10 : decode cX1_isAhead 10 = .ok (.isub, 1) := dk_100 (dk_at dksX1_isAhead_0 10 rfl rfl)
theorem dX1_isAhead_11 : decode cX1_isAhead 11 = .ok (.istore_n 3, 1) := dk_62 (dk_at dksX1_isAhead_0 11 rfl rfl)
theorem dX1_isAhead_12 : decode cX1_isAhead 12 = .ok (.iload_n 3, 1) := dk_29 (dk_at dksX1_isAhead_0 12 rfl rfl)
theorem dX1_isAhead_13 : decode cX1_isAhead 13 = .ok (.ifCond .eq 13, 3) := dk_153 0 13 (dk_at dksX1_isAhead_0 13 rfl rfl)
theorem dX1_isAhead_16 : decode cX1_isAhead 16 = .ok (.iload_n 3, 1) := dk_29 (dk_at dksX1_isAhead_0 16 rfl rfl)
theorem dX1_isAhead_17 : decode cX1_isAhead 17 = .ok (.ifCond .le 7, 3) := dk_158 0 7 (dk_at dksX1_isAhead_0 17 rfl rfl)
theorem dX1_isAhead_20 : decode cX1_isAhead 20 = .ok (.iconst 1, 1) := dk_4 (dk_at dksX1_isAhead_0 20 rfl rfl)
theorem dX1_isAhead_21 : decode cX1_isAhead 21 = .ok (.goto 4, 3) := dk_167 0 4 (dk_at dksX1_isAhead_0 21 rfl rfl)
theorem dX1_isAhead_24 : decode cX1_isAhead 24 = .ok (.iconst 0, 1) := dk_3 (dk_at dksX1_isAhead_1 0 rfl rfl)
theorem dX1_isAhead_25 : decode cX1_isAhead 25 = .ok (.ireturn, 1) := dk_172 (dk_at dksX1_isAhead_1 1 rfl rfl)
theorem dX1_isAhead_26 : decode cX1_isAhead 26 = .ok (.aload_n 0, 1) := dk_42 (dk_at dksX1_isAhead_1 2 rfl rfl)
theorem dX1_isAhead_27 : decode cX1_isAhead 27 = .ok (.iload_n 1, 1) := dk_27 (dk_at dksX1_isAhead_1 3 rfl rfl)
theorem dX1_isAhead_28 : decode cX1_isAhead 28 = .ok (.invokevirtual 274, 3) := dk_182 1 18 (dk_at dksX1_isAhead_1 4 rfl rfl)
theorem dX1_isAhead_31 : decode cX1_isAhead 31 = .ok (.aload_n 0, 1) := dk_42 (dk_at dksX1_isAhead_1 7 rfl rfl)
theorem dX1_isAhead_32 : decode cX1_isAhead 32 = .ok (.iload_n 2, 1) := dk_28 (dk_at dksX1_isAhead_1 8 rfl rfl)
theorem dX1_isAhead_33 : decode cX1_isAhead 33 = .ok (.invokevirtual 274, 3) := dk_182 1 18 (dk_at dksX1_isAhead_1 9 rfl rfl)
theorem dX1_isAhead_36 : decode cX1_isAhead 36 = .ok (.isub, 1) := dk_100 (dk_at dksX1_isAhead_1 12 rfl rfl)
theorem dX1_isAhead_37 : decode cX1_isAhead 37 = .ok (.istore 4, 2) := dk_54 4 (dk_at dksX1_isAhead_1 13 rfl rfl)
theorem dX1_isAhead_39 : decode cX1_isAhead 39 = .ok (.iload 4, 2) := dk_21 4 (dk_at dksX1_isAhead_1 15 rfl rfl)
theorem dX1_isAhead_41 : decode cX1_isAhead 41 = .ok (.ifCond .eq 16, 3) := dk_153 0 16 (dk_at dksX1_isAhead_1 17 rfl rfl)
theorem dX1_isAhead_44 : decode cX1_isAhead 44 = .ok (.iload 4, 2) := dk_21 4 (dk_at dksX1_isAhead_1 20 rfl rfl)
theorem dX1_isAhead_46 : decode cX1_isAhead 46 = .ok (.ifCond .le 7, 3) := dk_158 0 7 (dk_at dksX1_isAhead_2 0 rfl rfl)
theorem dX1_isAhead_49 : decode cX1_isAhead 49 = .ok (.iconst 1, 1) := dk_4 (dk_at dksX1_isAhead_2 3 rfl rfl)
theorem dX1_isAhead_50 : decode cX1_isAhead 50 = .ok (.goto 17, 3) := dk_167 0 17 (dk_at dksX1_isAhead_2 4 rfl rfl)
theorem dX1_isAhead_53 : decode cX1_isAhead 53 = .ok (.iconst 0, 1) := dk_3 (dk_at dksX1_isAhead_2 7 rfl rfl)
theorem dX1_isAhead_54 : decode cX1_isAhead 54 = .ok (.goto 13, 3) := dk_167 0 13 (dk_at dksX1_isAhead_2 8 rfl rfl)
theorem dX1_isAhead_57 : decode cX1_isAhead 57 = .ok (.iload_n 1, 1) := dk_27 (dk_at dksX1_isAhead_2 11 rfl rfl)
theorem dX1_isAhead_58 : decode cX1_isAhead 58 = .ok (.iload_n 2, 1) := dk_28 (dk_at dksX1_isAhead_2 12 rfl rfl)
theorem dX1_isAhead_59 : decode cX1_isAhead 59 = .ok (.if_icmp .ge 7, 3) := dk_162 0 7 (dk_at dksX1_isAhead_2 13 rfl rfl)
theorem dX1_isAhead_62 : decode cX1_isAhead 62 = .ok (.iconst 1, 1) := dk_4 (dk_at dksX1_isAhead_2 16 rfl rfl)
theorem dX1_isAhead_63 : decode cX1_isAhead 63 = .ok (.goto 4, 3) := dk_167 0 4 (dk_at dksX1_isAhead_2 17 rfl rfl)
theorem dX1_isAhead_66 : decode cX1_isAhead 66 = .ok (.iconst 0, 1) := dk_3 (dk_at dksX1_isAhead_2 20 rfl rfl)
theorem dX1_isAhead_67 : decode cX1_isAhead 67 = .ok (.ireturn, 1) := dk_172 (dk_at dksX1_isAhead_2 21 rfl rfl)
def dkwX1_text_6 : List UInt8 := [16, 42, 182, 1, 85, 25, 5, 180, 0, 218, 182, 1, 81, 87, 167, 255, 197, 45, 182, 1, 95, 176]
abbrev dktX1_text_6 : List UInt8 := dkwX1_text_6 ++ []
def dkwX1_text_5 : List UInt8 := [25, 5, 180, 0, 176, 27, 160, 0, 31, 45, 16, 64, 182, 1, 85, 25, 5, 180, 0, 204, 182, 1, 81]
abbrev dktX1_text_5 : List UInt8 := dkwX1_text_5 ++ dktX1_text_6
def dkwX1_text_4 : List UInt8 := [58, 4, 25, 4, 185, 0, 51, 1, 0, 153, 0, 55, 25, 4, 185, 0, 57, 1, 0, 192, 0, 72, 58, 5]
abbrev dktX1_text_4 : List UInt8 := dkwX1_text_4 ++ dktX1_text_5
def dkwX1_text_3 : List UInt8 := [162, 0, 16, 45, 16, 126, 182, 1, 85, 87, 132, 4, 1, 167, 255, 237, 42, 182, 0, 183, 182, 1, 1]
abbrev dktX1_text_3 : List UInt8 := dkwX1_text_3 ++ dktX1_text_4
def dkwX1_text_2 : List UInt8 := [19, 1, 88, 167, 0, 6, 19, 1, 90, 182, 1, 92, 87, 3, 54, 4, 21, 4, 44, 180, 0, 155]
abbrev dktX1_text_2 : List UInt8 := dkwX1_text_2 ++ dktX1_text_3
def dkwX1_text_1 : List UInt8 := [182, 1, 81, 16, 58, 182, 1, 85, 44, 180, 0, 145, 182, 1, 81, 44, 180, 0, 148, 153, 0, 9]
abbrev dktX1_text_1 : List UInt8 := dkwX1_text_1 ++ dktX1_text_2
def dkwX1_text_0 : List UInt8 := [42, 180, 0, 14, 27, 182, 0, 142, 192, 0, 61, 77, 187, 1, 78, 89, 183, 1, 80, 78, 45, 27]
abbrev dktX1_text_0 : List UInt8 := dkwX1_text_0 ++ dktX1_text_1
theorem dksX1_text_0 : cX1_text.data.toList.drop 0 = dktX1_text_0 := by decide +kernel
theorem dksX1_text_1 : cX1_text.data.toList.drop 22 = dktX1_text_1 := dk_seg dksX1_text_0 22 rfl rfl
theorem dksX1_text_2 : cX1_text.data.toList.drop 44 = dktX1_text_2 := dk_seg dksX1_text_1 22 rfl rfl
theorem dksX1_text_3 : cX1_text.data.toList.drop 66 = dktX1_text_3 := dk_seg dksX1_text_2 22 rfl rfl
theorem dksX1_text_4 : cX1_text.data.toList.drop 89 = dktX1_text_4 := dk_seg dksX1_text_3 23 rfl rfl
theorem dksX1_text_5 : cX1_text.data.toList.drop 113 = dktX1_text_5 := dk_seg dksX1_text_4 24 rfl rfl
theorem dksX1_text_6 : cX1_text.data.toList.drop 136 = dktX1_text_6 := dk_seg dksX1_text_5 23 rfl rfl
theorem dX1_text_0 : decode cX1_text 0 = .ok (.aload_n 0, 1) := dk_42 (dk_at dksX1_text_0 0 rfl rfl)
theorem dX1_text_1 : decode cX1_text 1 = .ok (.getfield 14, 3) := dk_180 0 14 (dk_at dksX1_text_0 1 rfl rfl)
theorem dX1_text_4 : decode cX1_text 4 = .ok (.iload_n 1, 1) := dk_27 (dk_at dksX1_text_0 4 rfl rfl)
theorem dX1_text_5 : decode cX1_text 5 = .ok (.invokevirtual 142, 3) := dk_182 0 142 (dk_at dksX1_text_0 5 rfl rfl)
theorem dX1_text_8 : decode cX1_text 8 = .ok (.checkcast 61, 3) := dk_192 0 61 (dk_at dksX1_text_0 8 rfl rfl)
theorem dX1_text_11 : decode cX1_text 11 = .ok (.astore_n 2, 1) := dk_77 (dk_at dksX1_text_0 11 rfl rfl)
theorem dX1_text_12 : decode cX1_text 12 = .ok (.new 334, 3) := dk_187 1 78 (dk_at dksX1_text_0 12 rfl rfl)
theorem dX1_text_15 : decode cX1_text 15 = .ok (.dup, 1) := dk_89 (dk_at dksX1_text_0 15 rfl rfl)
theorem dX1_text_16 : decode cX1_text 16 = .ok (.invokespecial 336, 3) := dk_183 1 80 (dk_at dksX1_text_0 16 rfl rfl)
theorem dX1_text_19 : decode cX1_text 19 = .ok (.astore_n 3, 1) := dk_78 (dk_at dksX1_text_0 19 rfl rfl)
theorem dX1_text_20 : decode cX1_text 20 = .ok (.aload_n 3, 1) := dk_45 (dk_at dksX1_text_0 20 rfl rfl)
theorem dX1_text_21 : decode cX1_text 21 = .ok (.iload_n 1, 1) := dk_27 (dk_at dksX1_text_0 21 rfl rfl)
theorem dX1_text_22 : decode cX1_text 22 = .ok (.invokevirtual 337, 3) := dk_182 1 81 (dk_at dksX1_text_1 0 rfl rfl)
theorem dX1_text_25 : decode cX1_text 25 = .ok (.bipush 58, 2) := dk_16 58 (dk_at dksX1_text_1 3 rfl rfl)
theorem dX1_text_27 : decode cX1_text 27 = .ok (.invokevirtual 341, 3) := dk_182 1 85 (dk_at dksX1_text_1 5 rfl rfl)
theorem dX1_text_30 : decode cX1_text 30 = .ok (.aload_n 2, 1) := dk_44 (dk_at dksX1_text_1 8 rfl rfl)
theorem dX1_text_31 : decode cX1_text 31 = .ok (.getfield 145, 3) := dk_180 0 145 (dk_at dksX1_text_1 9 rfl rfl)
theorem dX1_text_34 : decode cX1_text 34 = .ok (.invokevirtual 337, 3) := dk_182 1 81 (dk_at dksX1_text_1 12 rfl rfl)
theorem dX1_text_37 : decode cX1_text 37 = .ok (.aload_n 2, 1) := dk_44 (dk_at dksX1_text_1 15 rfl rfl)
theorem dX1_text_38 : decode cX1_text 38 = .ok (.getfield 148, 3) := dk_180 0 148 (dk_at dksX1_text_1 16 rfl rfl)
theorem dX1_text_41 : decode cX1_text 41 = .ok (.ifCond .eq 9, 3) := dk_153 0 9 (dk_at dksX1_text_1 19 rfl rfl)
theorem dX1_text_44 : decode cX1_text 44 = .ok (.ldc_w 344, 3) := dk_19 1 88 (dk_at dksX1_text_2 0 rfl rfl)
theorem dX1_text_47 : decode cX1_text 47 = .ok (.goto 6, 3) := dk_167 0 6 (dk_at dksX1_text_2 3 rfl rfl)
theorem dX1_text_50 : decode cX1_text 50 = .ok (.ldc_w 346, 3) := dk_19 1 90 (dk_at dksX1_text_2 6 rfl rfl)
theorem dX1_text_53 : decode cX1_text 53 = .ok (.invokevirtual 348, 3) := dk_182 1 92 (dk_at dksX1_text_2 9 rfl rfl)
theorem dX1_text_56 : decode cX1_text 56 = .ok (.pop, 1) := dk_87 (dk_at dksX1_text_2 12 rfl rfl)
theorem dX1_text_57 : decode cX1_text 57 = .ok (.iconst 0, 1) := dk_3 (dk_at dksX1_text_2 13 rfl rfl)
theorem dX1_text_58 : decode cX1_text 58 = .ok (.istore 4, 2) := dk_54 4 (dk_at dksX1_text_2 14 rfl rfl)
theorem dX1_text_60 : decode cX1_text 60 = .ok (.iload 4, 2) := dk_21 4 (dk_at dksX1_text_2 16 rfl rfl)
theorem dX1_text_62 : decode cX1_text 62 = .ok (.aload_n 2, 1) := dk_44 (dk_at dksX1_text_2 18 rfl rfl)
theorem dX1_text_63 : decode cX1_text 63 = .ok (.getfield 155, 3) := dk_180 0 155 (dk_at dksX1_text_2 19 rfl rfl)
theorem dX1_text_66 : decode cX1_text 66 = .ok (.if_icmp .ge 16, 3) := dk_162 0 16 (dk_at dksX1_text_3 0 rfl rfl)
theorem dX1_text_69 : decode cX1_text 69 = .ok (.aload_n 3, 1) := dk_45 (dk_at dksX1_text_3 3 rfl rfl)
theorem dX1_text_70 : decode cX1_text 70 = .ok (.bipush 126, 2) := dk_16 126 (dk_at dksX1_text_3 4 rfl rfl)
theorem dX1_text_72 : decode cX1_text 72 = .ok (.invokevirtual 341, 3) := dk_182 1 85 (dk_at dksX1_text_3 6 rfl rfl)
theorem dX1_text_75 : decode cX1_text 75 = .ok (.pop, 1) := dk_87 (dk_at dksX1_text_3 9 rfl rfl)
theorem dX1_text_76 : decode cX1_text 76 = .ok (.iinc 4 1, 3) := dk_132 4 1 (dk_at dksX1_text_3 10 rfl rfl)
theorem dX1_text_79 : decode cX1_text 79 = .ok (.goto (-19), 3) := dk_167 255 237 (dk_at dksX1_text_3 13 rfl rfl)
theorem dX1_text_82 : decode cX1_text 82 = .ok (.aload_n 0, 1) := dk_42 (dk_at dksX1_text_3 16 rfl rfl)
theorem dX1_text_83 : decode cX1_text 83 = .ok (.invokevirtual 183, 3) := dk_182 0 183 (dk_at dksX1_text_3 17 rfl rfl)
theorem dX1_text_86 : decode cX1_text 86 = .ok (.invokevirtual 257, 3) := dk_182 1 1 (dk_at dksX1_text_3 20 rfl rfl)
theorem dX1_text_89 : decode cX1_text 89 = .ok (.astore 4, 2) := dk_58 4 (dk_at dksX1_text_4 0 rfl rfl)
theorem dX1_text_91 : decode cX1_text 91 = .ok (.aload 4, 2) := dk_25 4 (dk_at dksX1_text_4 2 rfl rfl)
theorem dX1_text_93 : decode cX1_text 93 = .ok (.invokeinterface 51 1, 5) := by decide +kernel
theorem dX1_text_98 : decode cX1_text 98 = .ok (.ifCond .eq 55, 3) := dk_153 0 55 (dk_at dksX1_text_4 9 rfl rfl)
theorem dX1_text_101 : decode cX1_text 101 = .ok (.aload 4, 2) := dk_25 4 (dk_at dksX1_text_4 12 rfl rfl)
theorem dX1_text_103 : decode cX1_text 103 = .ok (.invokeinterface 57 1, 5) := by decide +kernel
theorem dX1_text_108 : decode cX1_text 108 = .ok (.checkcast 72, 3) := dk_192 0 72 (dk_at dksX1_text_4 19 rfl rfl)
theorem dX1_text_111 : decode cX1_text 111 = .ok (.astore 5, 2) := dk_58 5 (dk_at dksX1_text_4 22 rfl rfl)
theorem dX1_text_113 : decode cX1_text 113 = .ok (.aload 5, 2) := dk_25 5 (dk_at dksX1_text_5 0 rfl rfl)
theorem dX1_text_115 : decode cX1_text 115 = .ok (.getfield 176, 3) := dk_180 0 176 (dk_at dksX1_text_5 2 rfl rfl)
theorem dX1_text_118 : decode cX1_text 118 = .ok (.iload_n 1, 1) := dk_27 (dk_at dksX1_text_5 5 rfl rfl)
theorem dX1_text_119 : decode cX1_text 119 = .ok (.if_icmp .ne 31, 3) := dk_160 0 31 (dk_at dksX1_text_5 6 rfl rfl)
theorem dX1_text_122 : decode cX1_text 122 = .ok (.aload_n 3, 1) := dk_45 (dk_at dksX1_text_5 9 rfl rfl)
theorem dX1_text_123 : decode cX1_text 123 = .ok (.bipush 64, 2) := dk_16 64 (dk_at dksX1_text_5 10 rfl rfl)
theorem dX1_text_125 : decode cX1_text 125 = .ok (.invokevirtual 341, 3) := dk_182 1 85 (dk_at dksX1_text_5 12 rfl rfl)
theorem dX1_text_128 : decode cX1_text 128 = .ok (.aload 5, 2) := dk_25 5 (dk_at dksX1_text_5 15 rfl rfl)
theorem dX1_text_130 : decode cX1_text 130 = .ok (.getfield 204, 3) := dk_180 0 204 (dk_at dksX1_text_5 17 rfl rfl)
theorem dX1_text_133 : decode cX1_text 133 = .ok (.invokevirtual 337, 3) := dk_182 1 81 (dk_at dksX1_text_5 20 rfl rfl)
theorem dX1_text_136 : decode cX1_text 136 = .ok (.bipush 42, 2) := dk_16 42 (dk_at dksX1_text_6 0 rfl rfl)
theorem dX1_text_138 : decode cX1_text 138 = .ok (.invokevirtual 341, 3) := dk_182 1 85 (dk_at dksX1_text_6 2 rfl rfl)
theorem dX1_text_141 : decode cX1_text 141 = .ok (.aload 5, 2) := dk_25 5 (dk_at dksX1_text_6 5 rfl rfl)
theorem dX1_text_143 : decode cX1_text 143 = .ok (.getfield 218, 3) := dk_180 0 218 (dk_at dksX1_text_6 7 rfl rfl)
theorem dX1_text_146 : decode cX1_text 146 = .ok (.invokevirtual 337, 3) := dk_182 1 81 (dk_at dksX1_text_6 10 rfl rfl)
theorem dX1_text_149 : decode cX1_text 149 = .ok (.pop, 1) := dk_87 (dk_at dksX1_text_6 13 rfl rfl)
theorem dX1_text_150 : decode cX1_text 150 = .ok (.goto (-59), 3) := dk_167 255 197 (dk_at dksX1_text_6 14 rfl rfl)
theorem dX1_text_153 : decode cX1_text 153 = .ok (.aload_n 3, 1) := dk_45 (dk_at dksX1_text_6 17 rfl rfl)
theorem dX1_text_154 : decode cX1_text 154 = .ok (.invokevirtual 351, 3) := dk_182 1 95 (dk_at dksX1_text_6 18 rfl rfl)
theorem dX1_text_157 : decode cX1_text 157 = .ok (.areturn, 1) := dk_176 (dk_at dksX1_text_6 21 rfl rfl)
def dkwX1_dayText_3 : List UInt8 := [182, 1, 85, 42, 29, 182, 1, 25, 182, 1, 81, 87, 167, 255, 196, 43, 182, 1, 95, 176]
abbrev dktX1_dayText_3 : List UInt8 := dkwX1_dayText_3 ++ []
def dkwX1_dayText_2 : List UInt8 := [182, 1, 99, 154, 0, 9, 19, 1, 88, 167, 0, 6, 19, 1, 102, 182, 1, 92, 29, 182, 1, 81, 16, 61]
abbrev dktX1_dayText_2 : List UInt8 := dkwX1_dayText_2 ++ dktX1_dayText_3
def dkwX1_dayText_1 : List UInt8 := [185, 0, 51, 1, 0, 153, 0, 57, 44, 185, 0, 57, 1, 0, 192, 0, 82, 182, 0, 84, 62, 43, 43]
abbrev dktX1_dayText_1 : List UInt8 := dkwX1_dayText_1 ++ dktX1_dayText_2
def dkwX1_dayText_0 : List UInt8 := [187, 1, 78, 89, 183, 1, 80, 76, 42, 180, 0, 35, 182, 0, 75, 185, 0, 79, 1, 0, 77, 44]
abbrev dktX1_dayText_0 : List UInt8 := dkwX1_dayText_0 ++ dktX1_dayText_1
theorem dksX1_dayText_0 : cX1_dayText.data.toList.drop 0 = dktX1_dayText_0 := by decide +kernel
theorem dksX1_dayText_1 : cX1_dayText.data.toList.drop 22 = dktX1_dayText_1 := dk_seg dksX1_dayText_0 22 rfl rfl
theorem dksX1_dayText_2 : cX1_dayText.data.toList.drop 45 = dktX1_dayText_2 := dk_seg dksX1_dayText_1 23 rfl rfl
theorem dksX1_dayText_3 : cX1_dayText.data.toList.drop 69 = dktX1_dayText_3 := dk_seg dksX1_dayText_2 24 rfl rfl
theorem dX1_dayText_0 : decode cX1_dayText 0 = .ok (.new 334, 3) := dk_187 1 78 (dk_at dksX1_dayText_0 0 rfl rfl)
theorem dX1_dayText_3 : decode cX1_dayText 3 = .ok (.dup, 1) := dk_89 (dk_at dksX1_dayText_0 3 rfl rfl)
theorem dX1_dayText_4 : decode cX1_dayText 4 = .ok (.invokespecial 336, 3) := dk_183 1 80 (dk_at dksX1_dayText_0 4 rfl rfl)
theorem dX1_dayText_7 : decode cX1_dayText 7 = .ok (.astore_n 1, 1) := dk_76 (dk_at dksX1_dayText_0 7 rfl rfl)
theorem dX1_dayText_8 : decode cX1_dayText 8 = .ok (.aload_n 0, 1) := dk_42 (dk_at dksX1_dayText_0 8 rfl rfl)
theorem dX1_dayText_9 : decode cX1_dayText 9 = .ok (.getfield 35, 3) := dk_180 0 35 (dk_at dksX1_dayText_0 9 rfl rfl)
theorem dX1_dayText_12 : decode cX1_dayText 12 = .ok (.invokevirtual 75, 3) := dk_182 0 75 (dk_at dksX1_dayText_0 12 rfl rfl)
theorem dX1_dayText_15 : decode cX1_dayText 15 = .ok (.invokeinterface 79 1, 5) := by decide +kernel
theorem dX1_dayText_20 : decode cX1_dayText 20 = .ok (.astore_n 2, 1) := dk_77 (dk_at dksX1_dayText_0 20 rfl rfl)
theorem dX1_dayText_21 : decode cX1_dayText 21 = .ok (.aload_n 2, 1) := dk_44 (dk_at dksX1_dayText_0 21 rfl rfl)
theorem dX1_dayText_22 : decode cX1_dayText 22 = .ok (.invokeinterface 51 1, 5) := by decide +kernel
theorem dX1_dayText_27 : decode cX1_dayText 27 = .ok (.ifCond .eq 57, 3) := dk_153 0 57 (dk_at dksX1_dayText_1 5 rfl rfl)
theorem dX1_dayText_30 : decode cX1_dayText 30 = .ok (.aload_n 2, 1) := dk_44 (dk_at dksX1_dayText_1 8 rfl rfl)
theorem dX1_dayText_31 : decode cX1_dayText 31 = .ok (.invokeinterface 57 1, 5) := by decide +kernel
theorem dX1_dayText_36 : decode cX1_dayText 36 = .ok (.checkcast 82, 3) := dk_192 0 82 (dk_at dksX1_dayText_1 14 rfl rfl)
theorem dX1_dayText_39 : decode cX1_dayText 39 = .ok (.invokevirtual 84, 3) := dk_182 0 84 (dk_at dksX1_dayText_1 17 rfl rfl)
theorem dX1_dayText_42 : decode cX1_dayText 42 = .ok (.istore_n 3, 1) := dk_62 (dk_at dksX1_dayText_1 20 rfl rfl)
theorem dX1_dayText_43 : decode cX1_dayText 43 = .ok (.aload_n 1, 1) := dk_43 (dk_at dksX1_dayText_1 21 rfl rfl)
theorem dX1_dayText_44 : decode cX1_dayText 44 = .ok (.aload_n 1, 1) := dk_43 (dk_at dksX1_dayText_1 22 rfl rfl)
theorem dX1_dayText_45 : decode cX1_dayText 45 = .ok (.invokevirtual 355, 3) := dk_182 1 99 (dk_at dksX1_dayText_2 0 rfl rfl)
theorem dX1_dayText_48 : decode cX1_dayText 48 = .ok (.ifCond .ne 9, 3) := dk_154 0 9 (dk_at dksX1_dayText_2 3 rfl rfl)
theorem dX1_dayText_51 : decode cX1_dayText 51 = .ok (.ldc_w 344, 3) := dk_19 1 88 (dk_at dksX1_dayText_2 6 rfl rfl)
theorem dX1_dayText_54 : decode cX1_dayText 54 = .ok (.goto 6, 3) := dk_167 0 6 (dk_at dksX1_dayText_2 9 rfl rfl)
theorem dX1_dayText_57 : decode cX1_dayText 57 = .ok (.ldc_w 358, 3) := dk_19 1 102 (dk_at dksX1_dayText_2 12 rfl rfl)
theorem dX1_dayText_60 : decode cX1_dayText 60 = .ok (.invokevirtual 348, 3) := dk_182 1 92 (dk_at dksX1_dayText_2 15 rfl rfl)
theorem dX1_dayText_63 : decode cX1_dayText 63 = .ok (.iload_n 3, 1) := dk_29 (dk_at dksX1_dayText_2 18 rfl rfl)
theorem dX1_dayText_64 : decode cX1_dayText 64 = .ok (.invokevirtual 337, 3) := dk_182 1 81 (dk_at dksX1_dayText_2 19 rfl rfl)
theorem dX1_dayText_67 : decode cX1_dayText 67 = .ok (.bipush 61, 2) := dk_16 61 (dk_at dksX1_dayText_2 22 rfl rfl)
theorem dX1_dayText_69 : decode cX1_dayText 69 = .ok (.invokevirtual 341, 3) := dk_182 1 85 (dk_at dksX1_dayText_3 0 rfl rfl)
theorem dX1_dayText_72 : decode cX1_dayText 72 = .ok (.aload_n 0, 1) := dk_42 (dk_at dksX1_dayText_3 3 rfl rfl)
theorem dX1_dayText_73 : decode cX1_dayText 73 = .ok (.iload_n 3, 1) := dk_29 (dk_at dksX1_dayText_3 4 rfl rfl)
theorem dX1_dayText_74 : decode cX1_dayText 74 = .ok (.invokevirtual 281, 3) := dk_182 1 25 (dk_at dksX1_dayText_3 5 rfl rfl)
theorem dX1_dayText_77 : decode cX1_dayText 77 = .ok (.invokevirtual 337, 3) := dk_182 1 81 (dk_at dksX1_dayText_3 8 rfl rfl)
theorem dX1_dayText_80 : decode cX1_dayText 80 = .ok (.pop, 1) := dk_87 (dk_at dksX1_dayText_3 11 rfl rfl)
theorem dX1_dayText_81 : decode cX1_dayText 81 = .ok (.goto (-60), 3) := dk_167 255 196 (dk_at dksX1_dayText_3 12 rfl rfl)
theorem dX1_dayText_84 : decode cX1_dayText 84 = .ok (.aload_n 1, 1) := dk_43 (dk_at dksX1_dayText_3 15 rfl rfl)
theorem dX1_dayText_85 : decode cX1_dayText 85 = .ok (.invokevirtual 351, 3) := dk_182 1 95 (dk_at dksX1_dayText_3 16 rfl rfl)
theorem dX1_dayText_88 : decode cX1_dayText 88 = .ok (.areturn, 1) := dk_176 (dk_at dksX1_dayText_3 19 rfl rfl)
def dkwX1_all_2 : List UInt8 := [28, 172]
abbrev dktX1_all_2 : List UInt8 := dkwX1_all_2 ++ []
def dkwX1_all_1 : List UInt8 := [185, 0, 57, 1, 0, 192, 0, 61, 58, 4, 28, 43, 25, 4, 185, 1, 56, 2, 0, 96, 61, 167, 255, 225]
abbrev dktX1_all_1 : List UInt8 := dkwX1_all_1 ++ dktX1_all_2
def dkwX1_all_0 : List UInt8 := [3, 61, 42, 180, 0, 14, 182, 0, 47, 78, 45, 185, 0, 51, 1, 0, 153, 0, 28, 45]
abbrev dktX1_all_0 : List UInt8 := dkwX1_all_0 ++ dktX1_all_1
theorem dksX1_all_0 : cX1_all.data.toList.drop 0 = dktX1_all_0 := by decide +kernel
theorem dksX1_all_1 : cX1_all.data.toList.drop 20 = dktX1_all_1 := dk_seg dksX1_all_0 20 rfl rfl
theorem dksX1_all_2 : cX1_all.data.toList.drop 44 = dktX1_all_2 := dk_seg dksX1_all_1 24 rfl rfl
theorem dX1_all_0 : decode cX1_all 0 = .ok (.iconst 0, 1) := dk_3 (dk_at dksX1_all_0 0 rfl rfl)
theorem dX1_all_1 : decode cX1_all 1 = .ok (.istore_n 2, 1) := dk_61 (dk_at dksX1_all_0 1 rfl rfl)
theorem dX1_all_2 : decode cX1_all 2 = .ok (.aload_n 0, 1) := dk_42 (dk_at dksX1_all_0 2 rfl rfl)
theorem dX1_all_3 : decode cX1_all 3 = .ok (.getfield 14, 3) := dk_180 0 14 (dk_at dksX1_all_0 3 rfl rfl)
theorem dX1_all_6 : decode cX1_all 6 = .ok (.invokevirtual 47, 3) := dk_182 0 47 (dk_at dksX1_all_0 6 rfl rfl)
theorem dX1_all_9 : decode cX1_all 9 = .ok (.astore_n 3, 1) := dk_78 (dk_at dksX1_all_0 9 rfl rfl)
theorem dX1_all_10 : decode cX1_all 10 = .ok (.aload_n 3, 1) := dk_45 (dk_at dksX1_all_0 10 rfl rfl)
theorem dX1_all_11 : decode cX1_all 11 = .ok (.invokeinterface 51 1, 5) := by decide +kernel
theorem dX1_all_16 : decode cX1_all 16 = .ok (.ifCond .eq 28, 3) := dk_153 0 28 (dk_at dksX1_all_0 16 rfl rfl)
theorem dX1_all_19 : decode cX1_all 19 = .ok (.aload_n 3, 1) := dk_45 (dk_at dksX1_all_0 19 rfl rfl)
theorem dX1_all_20 : decode cX1_all 20 = .ok (.invokeinterface 57 1, 5) := by decide +kernel
theorem dX1_all_25 : decode cX1_all 25 = .ok (.checkcast 61, 3) := dk_192 0 61 (dk_at dksX1_all_1 5 rfl rfl)
theorem dX1_all_28 : decode cX1_all 28 = .ok (.astore 4, 2) := dk_58 4 (dk_at dksX1_all_1 8 rfl rfl)
theorem dX1_all_30 : decode cX1_all 30 = .ok (.iload_n 2, 1) := dk_28 (dk_at dksX1_all_1 10 rfl rfl)
theorem dX1_all_31 : decode cX1_all 31 = .ok (.aload_n 1, 1) := dk_43 (dk_at dksX1_all_1 11 rfl rfl)
theorem dX1_all_32 : decode cX1_all 32 = .ok (.aload 4, 2) := dk_25 4 (dk_at dksX1_all_1 12 rfl rfl)
theorem dX1_all_34 : decode cX1_all 34 = .ok (.invokeinterface 312 2, 5) := by decide +kernel
theorem dX1_all_39 : decode cX1_all 39 = .ok (.iadd, 1) := dk_96 (dk_at dksX1_all_1 19 rfl rfl)
theorem dX1_all_40 : decode cX1_all 40 = .ok (.istore_n 2, 1) := dk_61 (dk_at dksX1_all_1 20 rfl rfl)
theorem dX1_all_41 : decode cX1_all 41 = .ok (.goto (-31), 3) := dk_167 255 225 (dk_at dksX1_all_1 21 rfl rfl)
theorem dX1_all_44 : decode cX1_all 44 = .ok (.iload_n 2, 1) := dk_28 (dk_at dksX1_all_2 0 rfl rfl)
theorem dX1_all_45 : decode cX1_all 45 = .ok (.ireturn, 1) := dk_172 (dk_at dksX1_all_2 1 rfl rfl)
def dkwX1_rust_1 : List UInt8 := [185, 0, 57, 1, 0, 192, 0, 61, 78, 27, 45, 180, 0, 155, 96, 60, 167, 255, 230, 27, 172]
abbrev dktX1_rust_1 : List UInt8 := dkwX1_rust_1 ++ []
def dkwX1_rust_0 : List UInt8 := [3, 60, 42, 180, 0, 14, 182, 0, 47, 77, 44, 185, 0, 51, 1, 0, 153, 0, 23, 44]
abbrev dktX1_rust_0 : List UInt8 := dkwX1_rust_0 ++ dktX1_rust_1
theorem dksX1_rust_0 : cX1_rust.data.toList.drop 0 = dktX1_rust_0 := by decide +kernel
theorem dksX1_rust_1 : cX1_rust.data.toList.drop 20 = dktX1_rust_1 := dk_seg dksX1_rust_0 20 rfl rfl
theorem dX1_rust_0 : decode cX1_rust 0 = .ok (.iconst 0, 1) := dk_3 (dk_at dksX1_rust_0 0 rfl rfl)
theorem dX1_rust_1 : decode cX1_rust 1 = .ok (.istore_n 1, 1) := dk_60 (dk_at dksX1_rust_0 1 rfl rfl)
theorem dX1_rust_2 : decode cX1_rust 2 = .ok (.aload_n 0, 1) := dk_42 (dk_at dksX1_rust_0 2 rfl rfl)
theorem dX1_rust_3 : decode cX1_rust 3 = .ok (.getfield 14, 3) := dk_180 0 14 (dk_at dksX1_rust_0 3 rfl rfl)
theorem dX1_rust_6 : decode cX1_rust 6 = .ok (.invokevirtual 47, 3) := dk_182 0 47 (dk_at dksX1_rust_0 6 rfl rfl)
theorem dX1_rust_9 : decode cX1_rust 9 = .ok (.astore_n 2, 1) := dk_77 (dk_at dksX1_rust_0 9 rfl rfl)
theorem dX1_rust_10 : decode cX1_rust 10 = .ok (.aload_n 2, 1) := dk_44 (dk_at dksX1_rust_0 10 rfl rfl)
theorem dX1_rust_11 : decode cX1_rust 11 = .ok (.invokeinterface 51 1, 5) := by decide +kernel
theorem dX1_rust_16 : decode cX1_rust 16 = .ok (.ifCond .eq 23, 3) := dk_153 0 23 (dk_at dksX1_rust_0 16 rfl rfl)
theorem dX1_rust_19 : decode cX1_rust 19 = .ok (.aload_n 2, 1) := dk_44 (dk_at dksX1_rust_0 19 rfl rfl)
theorem dX1_rust_20 : decode cX1_rust 20 = .ok (.invokeinterface 57 1, 5) := by decide +kernel
theorem dX1_rust_25 : decode cX1_rust 25 = .ok (.checkcast 61, 3) := dk_192 0 61 (dk_at dksX1_rust_1 5 rfl rfl)
theorem dX1_rust_28 : decode cX1_rust 28 = .ok (.astore_n 3, 1) := dk_78 (dk_at dksX1_rust_1 8 rfl rfl)
theorem dX1_rust_29 : decode cX1_rust 29 = .ok (.iload_n 1, 1) := dk_27 (dk_at dksX1_rust_1 9 rfl rfl)
theorem dX1_rust_30 : decode cX1_rust 30 = .ok (.aload_n 3, 1) := dk_45 (dk_at dksX1_rust_1 10 rfl rfl)
theorem dX1_rust_31 : decode cX1_rust 31 = .ok (.getfield 155, 3) := dk_180 0 155 (dk_at dksX1_rust_1 11 rfl rfl)
theorem dX1_rust_34 : decode cX1_rust 34 = .ok (.iadd, 1) := dk_96 (dk_at dksX1_rust_1 14 rfl rfl)
theorem dX1_rust_35 : decode cX1_rust 35 = .ok (.istore_n 1, 1) := dk_60 (dk_at dksX1_rust_1 15 rfl rfl)
theorem dX1_rust_36 : decode cX1_rust 36 = .ok (.goto (-26), 3) := dk_167 255 230 (dk_at dksX1_rust_1 16 rfl rfl)
theorem dX1_rust_39 : decode cX1_rust 39 = .ok (.iload_n 1, 1) := dk_27 (dk_at dksX1_rust_1 19 rfl rfl)
theorem dX1_rust_40 : decode cX1_rust 40 = .ok (.ireturn, 1) := dk_172 (dk_at dksX1_rust_1 20 rfl rfl)
def dkwX1_isBalanced_2 : List UInt8 := [160, 0, 7, 4, 167, 0, 4, 3, 126, 61, 132, 3, 1, 167, 255, 226, 28, 172]
abbrev dktX1_isBalanced_2 : List UInt8 := dkwX1_isBalanced_2 ++ []
def dkwX1_isBalanced_1 : List UInt8 := [167, 0, 4, 3, 61, 3, 62, 29, 16, 24, 162, 0, 30, 28, 42, 29, 182, 1, 25, 42, 29, 182, 1, 75]
abbrev dktX1_isBalanced_1 : List UInt8 := dkwX1_isBalanced_1 ++ dktX1_isBalanced_2
def dkwX1_isBalanced_0 : List UInt8 := [42, 180, 0, 121, 42, 43, 182, 1, 65, 160, 0, 18, 42, 182, 1, 69, 42, 182, 1, 72, 160, 0, 7, 4]
abbrev dktX1_isBalanced_0 : List UInt8 := dkwX1_isBalanced_0 ++ dktX1_isBalanced_1
theorem dksX1_isBalanced_0 : cX1_isBalanced.data.toList.drop 0 = dktX1_isBalanced_0 := by decide +kernel
theorem dksX1_isBalanced_1 : cX1_isBalanced.data.toList.drop 24 = dktX1_isBalanced_1 := dk_seg dksX1_isBalanced_0 24 rfl rfl
theorem dksX1_isBalanced_2 : cX1_isBalanced.data.toList.drop 48 = dktX1_isBalanced_2 := dk_seg dksX1_isBalanced_1 24 rfl rfl
theorem dX1_isBalanced_0 : decode cX1_isBalanced 0 = .ok (.aload_n 0, 1) := dk_42 (dk_at dksX1_isBalanced_0 0 rfl rfl)
theorem dX1_isBalanced_1 : decode cX1_isBalanced 1 = .ok (.getfield 121, 3) := dk_180 0 121 (dk_at dksX1_isBalanced_0 1 rfl rfl)
theorem dX1_isBalanced_4 : decode cX1_isBalanced 4 = .ok (.aload_n 0, 1) := dk_42 (dk_at dksX1_isBalanced_0 4 rfl rfl)
theorem dX1_isBalanced_5 : decode cX1_isBalanced 5 = .ok (.aload_n 1, 1) := dk_43 (dk_at dksX1_isBalanced_0 5 rfl rfl)
theorem dX1_isBalanced_6 : decode cX1_isBalanced 6 = .ok (.invokevirtual 321, 3) := dk_182 1 65 (dk_at dksX1_isBalanced_0 6 rfl rfl)
theorem dX1_isBalanced_9 : decode cX1_isBalanced 9 = .ok (.if_icmp .ne 18, 3) := dk_160 0 18 (dk_at dksX1_isBalanced_0 9 rfl rfl)
theorem dX1_isBalanced_12 : decode cX1_isBalanced 12 = .ok (.aload_n 0, 1) := dk_42 (dk_at dksX1_isBalanced_0 12 rfl rfl)
theorem dX1_isBalanced_13 : decode cX1_isBalanced 13 = .ok (.invokevirtual 325, 3) := dk_182 1 69 (dk_at dksX1_isBalanced_0 13 rfl rfl)
theorem dX1_isBalanced_16 : decode cX1_isBalanced 16 = .ok (.aload_n 0, 1) := dk_42 (dk_at dksX1_isBalanced_0 16 rfl rfl)
theorem dX1_isBalanced_17 : decode cX1_isBalanced 17 = .ok (.invokevirtual 328, 3) := dk_182 1 72 (dk_at dksX1_isBalanced_0 17 rfl rfl)
theorem dX1_isBalanced_20 : decode cX1_isBalanced 20 = .ok (.if_icmp .ne 7, 3) := dk_160 0 7 (dk_at dksX1_isBalanced_0 20 rfl rfl)
theorem dX1_isBalanced_23 : decode cX1_isBalanced 23 = .ok (.iconst 1, 1) := dk_4 (dk_at dksX1_isBalanced_0 23 rfl rfl)
theorem dX1_isBalanced_24 : decode cX1_isBalanced 24 = .ok (.goto 4, 3) := dk_167 0 4 (dk_at dksX1_isBalanced_1 0 rfl rfl)
theorem dX1_isBalanced_27 : decode cX1_isBalanced 27 = .ok (.iconst 0, 1) := dk_3 (dk_at dksX1_isBalanced_1 3 rfl rfl)
theorem dX1_isBalanced_28 : decode cX1_isBalanced 28 = .ok (.istore_n 2, 1) := dk_61 (dk_at dksX1_isBalanced_1 4 rfl rfl)
theorem dX1_isBalanced_29 : decode cX1_isBalanced 29 = .ok (.iconst 0, 1) := dk_3 (dk_at dksX1_isBalanced_1 5 rfl rfl)
theorem dX1_isBalanced_30 : decode cX1_isBalanced 30 = .ok (.istore_n 3, 1) := dk_62 (dk_at dksX1_isBalanced_1 6 rfl rfl)
theorem dX1_isBalanced_31 : decode cX1_isBalanced 31 = .ok (.iload_n 3, 1) := dk_29 (dk_at dksX1_isBalanced_1 7 rfl rfl)
theorem dX1_isBalanced_32 : decode cX1_isBalanced 32 = .ok (.bipush 24, 2) := dk_16 24 (dk_at dksX1_isBalanced_1 8 rfl rfl)
theorem dX1_isBalanced_34 : decode cX1_isBalanced 34 = .ok (.if_icmp .ge 30, 3) := dk_162 0 30 (dk_at dksX1_isBalanced_1 10 rfl rfl)
theorem dX1_isBalanced_37 : decode cX1_isBalanced 37 = .ok (.iload_n 2, 1) := dk_28 (dk_at dksX1_isBalanced_1 13 rfl rfl)
theorem dX1_isBalanced_38 : decode cX1_isBalanced 38 = .ok (.aload_n 0, 1) := dk_42 (dk_at dksX1_isBalanced_1 14 rfl rfl)
theorem dX1_isBalanced_39 : decode cX1_isBalanced 39 = .ok (.iload_n 3, 1) := dk_29 (dk_at dksX1_isBalanced_1 15 rfl rfl)
theorem dX1_isBalanced_40 : decode cX1_isBalanced 40 = .ok (.invokevirtual 281, 3) := dk_182 1 25 (dk_at dksX1_isBalanced_1 16 rfl rfl)
theorem dX1_isBalanced_43 : decode cX1_isBalanced 43 = .ok (.aload_n 0, 1) := dk_42 (dk_at dksX1_isBalanced_1 19 rfl rfl)
theorem dX1_isBalanced_44 : decode cX1_isBalanced 44 = .ok (.iload_n 3, 1) := dk_29 (dk_at dksX1_isBalanced_1 20 rfl rfl)
theorem dX1_isBalanced_45 : decode cX1_isBalanced 45 = .ok (.invokevirtual 331, 3) := dk_182 1 75 (dk_at dksX1_isBalanced_1 21 rfl rfl)
theorem dX1_isBalanced_48 : decode cX1_isBalanced 48 = .ok (.if_icmp .ne 7, 3) := dk_160 0 7 (dk_at dksX1_isBalanced_2 0 rfl rfl)
theorem dX1_isBalanced_51 : decode cX1_isBalanced 51 = .ok (.iconst 1, 1) := dk_4 (dk_at dksX1_isBalanced_2 3 rfl rfl)
theorem dX1_isBalanced_52 : decode cX1_isBalanced 52 = .ok (.goto 4, 3) := dk_167 0 4 (dk_at dksX1_isBalanced_2 4 rfl rfl)
theorem dX1_isBalanced_55 : decode cX1_isBalanced 55 = .ok (.iconst 0, 1) := dk_3 (dk_at dksX1_isBalanced_2 7 rfl rfl)
theorem dX1_isBalanced_56 : decode cX1_isBalanced 56 = .ok (.iand, 1) := dk_126 (dk_at dksX1_isBalanced_2 8 rfl rfl)
theorem dX1_isBalanced_57 : decode cX1_isBalanced 57 = .ok (.istore_n 2, 1) := dk_61 (dk_at dksX1_isBalanced_2 9 rfl rfl)
theorem dX1_isBalanced_58 : decode cX1_isBalanced 58 = .ok (.iinc 3 1, 3) := dk_132 3 1 (dk_at dksX1_isBalanced_2 10 rfl rfl)
theorem dX1_isBalanced_61 : decode cX1_isBalanced 61 = .ok (.goto (-30), 3) := dk_167 255 226 (dk_at dksX1_isBalanced_2 13 rfl rfl)
theorem dX1_isBalanced_64 : decode cX1_isBalanced 64 = .ok (.iload_n 2, 1) := dk_28 (dk_at dksX1_isBalanced_2 16 rfl rfl)
theorem dX1_isBalanced_65 : decode cX1_isBalanced 65 = .ok (.ireturn, 1) := dk_172 (dk_at dksX1_isBalanced_2 17 rfl rfl)
def dkwX1_counted_2 : List UInt8 := [167, 255, 231, 28, 172]
abbrev dktX1_counted_2 : List UInt8 := dkwX1_counted_2 ++ []
def dkwX1_counted_1 : List UInt8 := [21, 4, 162, 0, 24, 45, 21, 5, 50, 58, 6, 28, 42, 25, 6, 182, 1, 61, 96, 61, 132, 5, 1]
abbrev dktX1_counted_1 : List UInt8 := dkwX1_counted_1 ++ dktX1_counted_2
def dkwX1_counted_0 : List UInt8 := [42, 180, 0, 28, 182, 0, 168, 42, 180, 0, 127, 96, 61, 43, 78, 45, 190, 54, 4, 3, 54, 5, 21, 5]
abbrev dktX1_counted_0 : List UInt8 := dkwX1_counted_0 ++ dktX1_counted_1
theorem dksX1_counted_0 : cX1_counted.data.toList.drop 0 = dktX1_counted_0 := by decide +kernel
theorem dksX1_counted_1 : cX1_counted.data.toList.drop 24 = dktX1_counted_1 := dk_seg dksX1_counted_0 24 rfl rfl
theorem dksX1_counted_2 : cX1_counted.data.toList.drop 47 = dktX1_counted_2 := dk_seg dksX1_counted_1 23 rfl rfl
theorem dX1_counted_0 : decode cX1_counted 0 = .ok (.aload_n 0, 1) := dk_42 (dk_at dksX1_counted_0 0 rfl rfl)
theorem dX1_counted_1 : decode cX1_counted 1 = .ok (.getfield 28, 3) := dk_180 0 28 (dk_at dksX1_counted_0 1 rfl rfl)
theorem dX1_counted_4 : decode cX1_counted 4 = .ok (.invokevirtual 168, 3) := dk_182 0 168 (dk_at dksX1_counted_0 4 rfl rfl)
theorem dX1_counted_7 : decode cX1_counted 7 = .ok (.aload_n 0, 1) := dk_42 (dk_at dksX1_counted_0 7 rfl rfl)
theorem dX1_counted_8 : decode cX1_counted 8 = .ok (.getfield 127, 3) := dk_180 0 127 (dk_at dksX1_counted_0 8 rfl rfl)
theorem dX1_counted_11 : decode cX1_counted 11 = .ok (.iadd, 1) := dk_96 (dk_at dksX1_counted_0 11 rfl rfl)
theorem dX1_counted_12 : decode cX1_counted 12 = .ok (.istore_n 2, 1) := dk_61 (dk_at dksX1_counted_0 12 rfl rfl)
theorem dX1_counted_13 : decode cX1_counted 13 = .ok (.aload_n 1, 1) := dk_43 (dk_at dksX1_counted_0 13 rfl rfl)
theorem dX1_counted_14 : decode cX1_counted 14 = .ok (.astore_n 3, 1) := dk_78 (dk_at dksX1_counted_0 14 rfl rfl)
theorem dX1_counted_15 : decode cX1_counted 15 = .ok (.aload_n 3, 1) := dk_45 (dk_at dksX1_counted_0 15 rfl rfl)
theorem dX1_counted_16 : decode cX1_counted 16 = .ok (.arraylength, 1) := dk_190 (dk_at dksX1_counted_0 16 rfl rfl)
theorem dX1_counted_17 : decode cX1_counted 17 = .ok (.istore 4, 2) := dk_54 4 (dk_at dksX1_counted_0 17 rfl rfl)
theorem dX1_counted_19 : decode cX1_counted 19 = .ok (.iconst 0, 1) := dk_3 (dk_at dksX1_counted_0 19 rfl rfl)
theorem dX1_counted_20 : decode cX1_counted 20 = .ok (.istore 5, 2) := dk_54 5 (dk_at dksX1_counted_0 20 rfl rfl)
theorem dX1_counted_22 : decode cX1_counted 22 = .ok (.iload 5, 2) := dk_21 5 (dk_at dksX1_counted_0 22 rfl rfl)
theorem dX1_counted_24 : decode cX1_counted 24 = .ok (.iload 4, 2) := dk_21 4 (dk_at dksX1_counted_1 0 rfl rfl)
theorem dX1_counted_26 : decode cX1_counted 26 = .ok (.if_icmp .ge 24, 3) := dk_162 0 24 (dk_at dksX1_counted_1 2 rfl rfl)
theorem dX1_counted_29 : decode cX1_counted 29 = .ok (.aload_n 3, 1) := dk_45 (dk_at dksX1_counted_1 5 rfl rfl)
theorem dX1_counted_30 : decode cX1_counted 30 = .ok (.iload 5, 2) := dk_21 5 (dk_at dksX1_counted_1 6 rfl rfl)
theorem dX1_counted_32 : decode cX1_counted 32 = .ok (.aaload, 1) := dk_50 (dk_at dksX1_counted_1 8 rfl rfl)
theorem dX1_counted_33 : decode cX1_counted 33 = .ok (.astore 6, 2) := dk_58 6 (dk_at dksX1_counted_1 9 rfl rfl)
theorem dX1_counted_35 : decode cX1_counted 35 = .ok (.iload_n 2, 1) := dk_28 (dk_at dksX1_counted_1 11 rfl rfl)
theorem dX1_counted_36 : decode cX1_counted 36 = .ok (.aload_n 0, 1) := dk_42 (dk_at dksX1_counted_1 12 rfl rfl)
theorem dX1_counted_37 : decode cX1_counted 37 = .ok (.aload 6, 2) := dk_25 6 (dk_at dksX1_counted_1 13 rfl rfl)
theorem dX1_counted_39 : decode cX1_counted 39 = .ok (.invokevirtual 317, 3) := dk_182 1 61 (dk_at dksX1_counted_1 15 rfl rfl)
theorem dX1_counted_42 : decode cX1_counted 42 = .ok (.iadd, 1) := dk_96 (dk_at dksX1_counted_1 18 rfl rfl)
theorem dX1_counted_43 : decode cX1_counted 43 = .ok (.istore_n 2, 1) := dk_61 (dk_at dksX1_counted_1 19 rfl rfl)
theorem dX1_counted_44 : decode cX1_counted 44 = .ok (.iinc 5 1, 3) := dk_132 5 1 (dk_at dksX1_counted_1 20 rfl rfl)
theorem dX1_counted_47 : decode cX1_counted 47 = .ok (.goto (-25), 3) := dk_167 255 231 (dk_at dksX1_counted_2 0 rfl rfl)
theorem dX1_counted_50 : decode cX1_counted 50 = .ok (.iload_n 2, 1) := dk_28 (dk_at dksX1_counted_2 3 rfl rfl)
theorem dX1_counted_51 : decode cX1_counted 51 = .ok (.ireturn, 1) := dk_172 (dk_at dksX1_counted_2 4 rfl rfl)
theorem dX2_init_0 : decode cX2_init 0 = .ok (.aload_n 0, 1) := by decide +kernel
theorem dX2_init_1 : decode cX2_init 1 = .ok (.invokespecial 1, 3) := by decide +kernel
theorem dX2_init_4 : decode cX2_init 4 = .ok (.return_, 1) := by decide +kernel
def dkwX2_compare_0 : List UInt8 := [42, 43, 192, 0, 8, 44, 192, 0, 8, 182, 0, 22, 172]
abbrev dktX2_compare_0 : List UInt8 := dkwX2_compare_0 ++ []
theorem dksX2_compare_0 : cX2_compare.data.toList.drop 0 = dktX2_compare_0 := by decide +kernel
theorem dX2_compare_0 : decode cX2_compare 0 = .ok (.aload_n 0, 1) := dk_42 (dk_at dksX2_compare_0 0 rfl rfl)
theorem dX2_compare_1 : decode cX2_compare 1 = .ok (.aload_n 1, 1) := dk_43 (dk_at dksX2_compare_0 1 rfl rfl)
theorem dX2_compare_2 : decode cX2_compare 2 = .ok (.checkcast 8, 3) := dk_192 0 8 (dk_at dksX2_compare_0 2 rfl rfl)
theorem dX2_compare_5 : decode cX2_compare 5 = .ok (.aload_n 2, 1) := dk_44 (dk_at dksX2_compare_0 5 rfl rfl)
theorem dX2_compare_6 : decode cX2_compare 6 = .ok (.checkcast 8, 3) := dk_192 0 8 (dk_at dksX2_compare_0 6 rfl rfl)
theorem dX2_compare_9 : decode cX2_compare 9 = .ok (.invokevirtual 22, 3) := dk_182 0 22 (dk_at dksX2_compare_0 9 rfl rfl)
theorem dX2_compare_12 : decode cX2_compare 12 = .ok (.ireturn, 1) := dk_172 (dk_at dksX2_compare_0 12 rfl rfl)
def dkwX2_compare_2_3 : List UInt8 := [180, 0, 19, 100, 172]
abbrev dktX2_compare_2_3 : List UInt8 := dkwX2_compare_2_3 ++ []
def dkwX2_compare_2_2 : List UInt8 := [44, 180, 0, 16, 159, 0, 15, 43, 180, 0, 16, 44, 180, 0, 16, 100, 167, 0, 12, 43, 180, 0, 19, 44]
abbrev dktX2_compare_2_2 : List UInt8 := dkwX2_compare_2_2 ++ dktX2_compare_2_3
def dkwX2_compare_2_1 : List UInt8 := [180, 0, 13, 44, 180, 0, 13, 159, 0, 13, 44, 180, 0, 13, 43, 180, 0, 13, 100, 172, 43, 180, 0, 16]
abbrev dktX2_compare_2_1 : List UInt8 := dkwX2_compare_2_1 ++ dktX2_compare_2_2
def dkwX2_compare_2_0 : List UInt8 := [43, 180, 0, 7, 44, 180, 0, 7, 159, 0, 13, 43, 180, 0, 7, 44, 180, 0, 7, 100, 172, 43]
abbrev dktX2_compare_2_0 : List UInt8 := dkwX2_compare_2_0 ++ dktX2_compare_2_1
theorem dksX2_compare_2_0 : cX2_compare_2.data.toList.drop 0 = dktX2_compare_2_0 := by decide +kernel
theorem dksX2_compare_2_1 : cX2_compare_2.data.toList.drop 22 = dktX2_compare_2_1 := dk_seg dksX2_compare_2_0 22 rfl rfl
theorem dksX2_compare_2_2 : cX2_compare_2.data.toList.drop 46 = dktX2_compare_2_2 := dk_seg dksX2_compare_2_1 24 rfl rfl
theorem dksX2_compare_2_3 : cX2_compare_2.data.toList.drop 70 = dktX2_compare_2_3 := dk_seg dksX2_compare_2_2 24 rfl rfl
theorem dX2_compare_2_0 : decode cX2_compare_2 0 = .ok (.aload_n 1, 1) := dk_43 (dk_at dksX2_compare_2_0 0 rfl rfl)
theorem dX2_compare_2_1 : decode cX2_compare_2 1 = .ok (.getfield 7, 3) := dk_180 0 7 (dk_at dksX2_compare_2_0 1 rfl rfl)
theorem dX2_compare_2_4 : decode cX2_compare_2 4 = .ok (.aload_n 2, 1) := dk_44 (dk_at dksX2_compare_2_0 4 rfl rfl)
theorem dX2_compare_2_5 : decode cX2_compare_2 5 = .ok (.getfield 7, 3) := dk_180 0 7 (dk_at dksX2_compare_2_0 5 rfl rfl)
theorem dX2_compare_2_8 : decode cX2_compare_2 8 = .ok (.if_icmp .eq 13, 3) := dk_159 0 13 (dk_at dksX2_compare_2_0 8 rfl rfl)
theorem dX2_compare_2_11 : decode cX2_compare_2 11 = .ok (.aload_n 1, 1) := dk_43 (dk_at dksX2_compare_2_0 11 rfl rfl)
theorem dX2_compare_2_12 : decode cX2_compare_2 12 = .ok (.getfield 7, 3) := dk_180 0 7 (dk_at dksX2_compare_2_0 12 rfl rfl)
theorem dX2_compare_2_15 : decode cX2_compare_2 15 = .ok (.aload_n 2, 1) := dk_44 (dk_at dksX2_compare_2_0 15 rfl rfl)
theorem dX2_compare_2_16 : decode cX2_compare_2 16 = .ok (.getfield 7, 3) := dk_180 0 7 (dk_at dksX2_compare_2_0 16 rfl rfl)
theorem dX2_compare_2_19 : decode cX2_compare_2 19 = .ok (.isub, 1) := dk_100 (dk_at dksX2_compare_2_0 19 rfl rfl)
theorem dX2_compare_2_20 : decode cX2_compare_2 20 = .ok (.ireturn, 1) := dk_172 (dk_at dksX2_compare_2_0 20 rfl rfl)
theorem dX2_compare_2_21 : decode cX2_compare_2 21 = .ok (.aload_n 1, 1) := dk_43 (dk_at dksX2_compare_2_0 21 rfl rfl)
theorem dX2_compare_2_22 : decode cX2_compare_2 22 = .ok (.getfield 13, 3) := dk_180 0 13 (dk_at dksX2_compare_2_1 0 rfl rfl)
theorem dX2_compare_2_25 : decode cX2_compare_2 25 = .ok (.aload_n 2, 1) := dk_44 (dk_at dksX2_compare_2_1 3 rfl rfl)
theorem dX2_compare_2_26 : decode cX2_compare_2 26 = .ok (.getfield 13, 3) := dk_180 0 13 (dk_at dksX2_compare_2_1 4 rfl rfl)
theorem dX2_compare_2_29 : decode cX2_compare_2 29 = .ok (.if_icmp .eq 13, 3) := dk_159 0 13 (dk_at dksX2_compare_2_1 7 rfl rfl)
theorem dX2_compare_2_32 : decode cX2_compare_2 32 = .ok (.aload_n 2, 1) := dk_44 (dk_at dksX2_compare_2_1 10 rfl rfl)
theorem dX2_compare_2_33 : decode cX2_compare_2 33 = .ok (.getfield 13, 3) := dk_180 0 13 (dk_at dksX2_compare_2_1 11 rfl rfl)
theorem dX2_compare_2_36 : decode cX2_compare_2 36 = .ok (.aload_n 1, 1) := dk_43 (dk_at dksX2_compare_2_1 14 rfl rfl)
theorem dX2_compare_2_37 : decode cX2_compare_2 37 = .ok (.getfield 13, 3) := dk_180 0 13 (dk_at dksX2_compare_2_1 15 rfl rfl)
theorem dX2_compare_2_40 : decode cX2_compare_2 40 = .ok (.isub, 1) := dk_100 (dk_at dksX2_compare_2_1 18 rfl rfl)
theorem dX2_compare_2_41 : decode cX2_compare_2 41 = .ok (.ireturn, 1) := dk_172 (dk_at dksX2_compare_2_1 19 rfl rfl)
theorem dX2_compare_2_42 : decode cX2_compare_2 42 = .ok (.aload_n 1, 1) := dk_43 (dk_at dksX2_compare_2_1 20 rfl rfl)
theorem dX2_compare_2_43 : decode cX2_compare_2 43 = .ok (.getfield 16, 3) := dk_180 0 16 (dk_at dksX2_compare_2_1 21 rfl rfl)
theorem dX2_compare_2_46 : decode cX2_compare_2 46 = .ok (.aload_n 2, 1) := dk_44 (dk_at dksX2_compare_2_2 0 rfl rfl)
theorem dX2_compare_2_47 : decode cX2_compare_2 47 = .ok (.getfield 16, 3) := dk_180 0 16 (dk_at dksX2_compare_2_2 1 rfl rfl)
theorem dX2_compare_2_50 : decode cX2_compare_2 50 = .ok (.if_icmp .eq 15, 3) := dk_159 0 15 (dk_at dksX2_compare_2_2 4 rfl rfl)
theorem dX2_compare_2_53 : decode cX2_compare_2 53 = .ok (.aload_n 1, 1) := dk_43 (dk_at dksX2_compare_2_2 7 rfl rfl)
theorem dX2_compare_2_54 : decode cX2_compare_2 54 = .ok (.getfield 16, 3) := dk_180 0 16 (dk_at dksX2_compare_2_2 8 rfl rfl)
theorem dX2_compare_2_57 : decode cX2_compare_2 57 = .ok (.aload_n 2, 1) := dk_44 (dk_at dksX2_compare_2_2 11 rfl rfl)
theorem dX2_compare_2_58 : decode cX2_compare_2 58 = .ok (.getfield 16, 3) := dk_180 0 16 (dk_at dksX2_compare_2_2 12 rfl rfl)
theorem dX2_compare_2_61 : decode cX2_compare_2 61 = .ok (.isub, 1) := dk_100 (dk_at dksX2_compare_2_2 15 rfl rfl)
theorem dX2_compare_2_62 : decode cX2_compare_2 62 = .ok (.goto 12, 3) := dk_167 0 12 (dk_at dksX2_compare_2_2 16 rfl rfl)
theorem dX2_compare_2_65 : decode cX2_compare_2 65 = .ok (.aload_n 1, 1) := dk_43 (dk_at dksX2_compare_2_2 19 rfl rfl)
theorem dX2_compare_2_66 : decode cX2_compare_2 66 = .ok (.getfield 19, 3) := dk_180 0 19 (dk_at dksX2_compare_2_2 20 rfl rfl)
theorem dX2_compare_2_69 : decode cX2_compare_2 69 = .ok (.aload_n 2, 1) := dk_44 (dk_at dksX2_compare_2_2 23 rfl rfl)
theorem dX2_compare_2_70 : decode cX2_compare_2 70 = .ok (.getfield 19, 3) := dk_180 0 19 (dk_at dksX2_compare_2_3 0 rfl rfl)
theorem dX2_compare_2_73 : decode cX2_compare_2 73 = .ok (.isub, 1) := dk_100 (dk_at dksX2_compare_2_3 3 rfl rfl)
theorem dX2_compare_2_74 : decode cX2_compare_2 74 = .ok (.ireturn, 1) := dk_172 (dk_at dksX2_compare_2_3 4 rfl rfl)
def dkwX4_copy_2 : List UInt8 := [180, 0, 31, 181, 0, 31, 43, 176]
abbrev dktX4_copy_2 : List UInt8 := dkwX4_copy_2 ++ []
def dkwX4_copy_1 : List UInt8 := [180, 0, 22, 181, 0, 22, 43, 42, 180, 0, 25, 181, 0, 25, 43, 42, 180, 0, 28, 181, 0, 28, 43, 42]
abbrev dktX4_copy_1 : List UInt8 := dkwX4_copy_1 ++ dktX4_copy_2
def dkwX4_copy_0 : List UInt8 := [187, 0, 10, 89, 42, 180, 0, 15, 183, 0, 19, 76, 43, 42, 180, 0, 9, 181, 0, 9, 43, 42]
abbrev dktX4_copy_0 : List UInt8 := dkwX4_copy_0 ++ dktX4_copy_1
theorem dksX4_copy_0 : cX4_copy.data.toList.drop 0 = dktX4_copy_0 := by decide +kernel
theorem dksX4_copy_1 : cX4_copy.data.toList.drop 22 = dktX4_copy_1 := dk_seg dksX4_copy_0 22 rfl rfl
theorem dksX4_copy_2 : cX4_copy.data.toList.drop 46 = dktX4_copy_2 := dk_seg dksX4_copy_1 24 rfl rfl
theorem dX4_copy_0 : decode cX4_copy 0 = .ok (.new 10, 3) := dk_187 0 10 (dk_at dksX4_copy_0 0 rfl rfl)
theorem dX4_copy_3 : decode cX4_copy 3 = .ok (.dup, 1) := dk_89 (dk_at dksX4_copy_0 3 rfl rfl)
theorem dX4_copy_4 : decode cX4_copy 4 = .ok (.aload_n 0, 1) := dk_42 (dk_at dksX4_copy_0 4 rfl rfl)
theorem dX4_copy_5 : decode cX4_copy 5 = .ok (.getfield 15, 3) := dk_180 0 15 (dk_at dksX4_copy_0 5 rfl rfl)
theorem dX4_copy_8 : decode cX4_copy 8 = .ok (.invokespecial 19, 3) := dk_183 0 19 (dk_at dksX4_copy_0 8 rfl rfl)
theorem dX4_copy_11 : decode cX4_copy 11 = .ok (.astore_n 1, 1) := dk_76 (dk_at dksX4_copy_0 11 rfl rfl)
theorem dX4_copy_12 : decode cX4_copy 12 = .ok (.aload_n 1, 1) := dk_43 (dk_at dksX4_copy_0 12 rfl rfl)
theorem dX4_copy_13 : decode cX4_copy 13 = .ok (.aload_n 0, 1) := dk_42 (dk_at dksX4_copy_0 13 rfl rfl)
theorem dX4_copy_14 : decode cX4_copy 14 = .ok (.getfield 9, 3) := dk_180 0 9 (dk_at dksX4_copy_0 14 rfl rfl)
theorem dX4_copy_17 : decode cX4_copy 17 = .ok (.putfield 9, 3) := dk_181 0 9 (dk_at dksX4_copy_0 17 rfl rfl)
theorem dX4_copy_20 : decode cX4_copy 20 = .ok (.aload_n 1, 1) := dk_43 (dk_at dksX4_copy_0 20 rfl rfl)
theorem dX4_copy_21 : decode cX4_copy 21 = .ok (.aload_n 0, 1) := dk_42 (dk_at dksX4_copy_0 21 rfl rfl)
theorem dX4_copy_22 : decode cX4_copy 22 = .ok (.getfield 22, 3) := dk_180 0 22 (dk_at dksX4_copy_1 0 rfl rfl)
theorem dX4_copy_25 : decode cX4_copy 25 = .ok (.putfield 22, 3) := dk_181 0 22 (dk_at dksX4_copy_1 3 rfl rfl)
theorem dX4_copy_28 : decode cX4_copy 28 = .ok (.aload_n 1, 1) := dk_43 (dk_at dksX4_copy_1 6 rfl rfl)
theorem dX4_copy_29 : decode cX4_copy 29 = .ok (.aload_n 0, 1) := dk_42 (dk_at dksX4_copy_1 7 rfl rfl)
theorem dX4_copy_30 : decode cX4_copy 30 = .ok (.getfield 25, 3) := dk_180 0 25 (dk_at dksX4_copy_1 8 rfl rfl)
theorem dX4_copy_33 : decode cX4_copy 33 = .ok (.putfield 25, 3) := dk_181 0 25 (dk_at dksX4_copy_1 11 rfl rfl)
theorem dX4_copy_36 : decode cX4_copy 36 = .ok (.aload_n 1, 1) := dk_43 (dk_at dksX4_copy_1 14 rfl rfl)
theorem dX4_copy_37 : decode cX4_copy 37 = .ok (.aload_n 0, 1) := dk_42 (dk_at dksX4_copy_1 15 rfl rfl)
theorem dX4_copy_38 : decode cX4_copy 38 = .ok (.getfield 28, 3) := dk_180 0 28 (dk_at dksX4_copy_1 16 rfl rfl)
theorem dX4_copy_41 : decode cX4_copy 41 = .ok (.putfield 28, 3) := dk_181 0 28 (dk_at dksX4_copy_1 19 rfl rfl)
theorem dX4_copy_44 : decode cX4_copy 44 = .ok (.aload_n 1, 1) := dk_43 (dk_at dksX4_copy_1 22 rfl rfl)
theorem dX4_copy_45 : decode cX4_copy 45 = .ok (.aload_n 0, 1) := dk_42 (dk_at dksX4_copy_1 23 rfl rfl)
theorem dX4_copy_46 : decode cX4_copy 46 = .ok (.getfield 31, 3) := dk_180 0 31 (dk_at dksX4_copy_2 0 rfl rfl)
theorem dX4_copy_49 : decode cX4_copy 49 = .ok (.putfield 31, 3) := dk_181 0 31 (dk_at dksX4_copy_2 3 rfl rfl)
theorem dX4_copy_52 : decode cX4_copy 52 = .ok (.aload_n 1, 1) := dk_43 (dk_at dksX4_copy_2 6 rfl rfl)
theorem dX4_copy_53 : decode cX4_copy 53 = .ok (.areturn, 1) := dk_176 (dk_at dksX4_copy_2 7 rfl rfl)
def dkwX4_init_0 : List UInt8 := [42, 183, 0, 3, 42, 4, 181, 0, 9, 42, 27, 181, 0, 15, 177]
abbrev dktX4_init_0 : List UInt8 := dkwX4_init_0 ++ []
theorem dksX4_init_0 : cX4_init.data.toList.drop 0 = dktX4_init_0 := by decide +kernel
theorem dX4_init_0 : decode cX4_init 0 = .ok (.aload_n 0, 1) := dk_42 (dk_at dksX4_init_0 0 rfl rfl)
theorem dX4_init_1 : decode cX4_init 1 = .ok (.invokespecial 3, 3) := dk_183 0 3 (dk_at dksX4_init_0 1 rfl rfl)
theorem dX4_init_4 : decode cX4_init 4 = .ok (.aload_n 0, 1) := dk_42 (dk_at dksX4_init_0 4 rfl rfl)
theorem dX4_init_5 : decode cX4_init 5 = .ok (.iconst 1, 1) := dk_4 (dk_at dksX4_init_0 5 rfl rfl)
theorem dX4_init_6 : decode cX4_init 6 = .ok (.putfield 9, 3) := dk_181 0 9 (dk_at dksX4_init_0 6 rfl rfl)
theorem dX4_init_9 : decode cX4_init 9 = .ok (.aload_n 0, 1) := dk_42 (dk_at dksX4_init_0 9 rfl rfl)
theorem dX4_init_10 : decode cX4_init 10 = .ok (.iload_n 1, 1) := dk_27 (dk_at dksX4_init_0 10 rfl rfl)
theorem dX4_init_11 : decode cX4_init 11 = .ok (.putfield 15, 3) := dk_181 0 15 (dk_at dksX4_init_0 11 rfl rfl)
theorem dX4_init_14 : decode cX4_init 14 = .ok (.return_, 1) := dk_177 (dk_at dksX4_init_0 14 rfl rfl)
def dkwX4_wouldAnswer_0 : List UInt8 := [42, 180, 0, 9, 153, 0, 15, 27, 42, 180, 0, 22, 164, 0, 7, 4, 167, 0, 4, 3, 172]
abbrev dktX4_wouldAnswer_0 : List UInt8 := dkwX4_wouldAnswer_0 ++ []
theorem dksX4_wouldAnswer_0 : cX4_wouldAnswer.data.toList.drop 0 = dktX4_wouldAnswer_0 := by decide +kernel
theorem dX4_wouldAnswer_0 : decode cX4_wouldAnswer 0 = .ok (.aload_n 0, 1) := dk_42 (dk_at dksX4_wouldAnswer_0 0 rfl rfl)
theorem dX4_wouldAnswer_1 : decode cX4_wouldAnswer 1 = .ok (.getfield 9, 3) := dk_180 0 9 (dk_at dksX4_wouldAnswer_0 1 rfl rfl)
theorem dX4_wouldAnswer_4 : decode cX4_wouldAnswer 4 = .ok (.ifCond .eq 15, 3) := dk_153 0 15 (dk_at dksX4_wouldAnswer_0 4 rfl rfl)
theorem dX4_wouldAnswer_7 : decode cX4_wouldAnswer 7 = .ok (.iload_n 1, 1) := dk_27 (dk_at dksX4_wouldAnswer_0 7 rfl rfl)
theorem dX4_wouldAnswer_8 : decode cX4_wouldAnswer 8 = .ok (.aload_n 0, 1) := dk_42 (dk_at dksX4_wouldAnswer_0 8 rfl rfl)
theorem dX4_wouldAnswer_9 : decode cX4_wouldAnswer 9 = .ok (.getfield 22, 3) := dk_180 0 22 (dk_at dksX4_wouldAnswer_0 9 rfl rfl)
theorem dX4_wouldAnswer_12 : decode cX4_wouldAnswer 12 = .ok (.if_icmp .le 7, 3) := dk_164 0 7 (dk_at dksX4_wouldAnswer_0 12 rfl rfl)
theorem dX4_wouldAnswer_15 : decode cX4_wouldAnswer 15 = .ok (.iconst 1, 1) := dk_4 (dk_at dksX4_wouldAnswer_0 15 rfl rfl)
theorem dX4_wouldAnswer_16 : decode cX4_wouldAnswer 16 = .ok (.goto 4, 3) := dk_167 0 4 (dk_at dksX4_wouldAnswer_0 16 rfl rfl)
theorem dX4_wouldAnswer_19 : decode cX4_wouldAnswer 19 = .ok (.iconst 0, 1) := dk_3 (dk_at dksX4_wouldAnswer_0 19 rfl rfl)
theorem dX4_wouldAnswer_20 : decode cX4_wouldAnswer 20 = .ok (.ireturn, 1) := dk_172 (dk_at dksX4_wouldAnswer_0 20 rfl rfl)
def dkwX4_answers_1 : List UInt8 := [181, 0, 22, 177]
abbrev dktX4_answers_1 : List UInt8 := dkwX4_answers_1 ++ []
def dkwX4_answers_0 : List UInt8 := [42, 89, 180, 0, 25, 4, 96, 181, 0, 25, 42, 16, 9, 42, 180, 0, 22, 4, 96, 184, 0, 34]
abbrev dktX4_answers_0 : List UInt8 := dkwX4_answers_0 ++ dktX4_answers_1
theorem dksX4_answers_0 : cX4_answers.data.toList.drop 0 = dktX4_answers_0 := by decide +kernel
theorem dksX4_answers_1 : cX4_answers.data.toList.drop 22 = dktX4_answers_1 := dk_seg dksX4_answers_0 22 rfl rfl
theorem dX4_answers_0 : decode cX4_answers 0 = .ok (.aload_n 0, 1) := dk_42 (dk_at dksX4_answers_0 0 rfl rfl)
theorem dX4_answers_1 : decode cX4_answers 1 = .ok (.dup, 1) := dk_89 (dk_at dksX4_answers_0 1 rfl rfl)
theorem dX4_answers_2 : decode cX4_answers 2 = .ok (.getfield 25, 3) := dk_180 0 25 (dk_at dksX4_answers_0 2 rfl rfl)
theorem dX4_answers_5 : decode cX4_answers 5 = .ok (.iconst 1, 1) := dk_4 (dk_at dksX4_answers_0 5 rfl rfl)
theorem dX4_answers_6 : decode cX4_answers 6 = .ok (.iadd, 1) := dk_96 (dk_at dksX4_answers_0 6 rfl rfl)
theorem dX4_answers_7 : decode cX4_answers 7 = .ok (.putfield 25, 3) := dk_181 0 25 (dk_at dksX4_answers_0 7 rfl rfl)
theorem dX4_answers_10 : decode cX4_answers 10 = .ok (.aload_n 0, 1) := dk_42 (dk_at dksX4_answers_0 10 rfl rfl)
theorem dX4_answers_11 : decode cX4_answers 11 = .ok (.bipush 9, 2) := dk_16 9 (dk_at dksX4_answers_0 11 rfl rfl)
theorem dX4_answers_13 : decode cX4_answers 13 = .ok (.aload_n 0, 1) := dk_42 (dk_at dksX4_answers_0 13 rfl rfl)
theorem dX4_answers_14 : decode cX4_answers 14 = .ok (.getfield 22, 3) := dk_180 0 22 (dk_at dksX4_answers_0 14 rfl rfl)
theorem dX4_answers_17 : decode cX4_answers 17 = .ok (.iconst 1, 1) := dk_4 (dk_at dksX4_answers_0 17 rfl rfl)
theorem dX4_answers_18 : decode cX4_answers 18 = .ok (.iadd, 1) := dk_96 (dk_at dksX4_answers_0 18 rfl rfl)
theorem dX4_answers_19 : decode cX4_answers 19 = .ok (.invokestatic 34, 3) := dk_184 0 34 (dk_at dksX4_answers_0 19 rfl rfl)
theorem dX4_answers_22 : decode cX4_answers 22 = .ok (.putfield 22, 3) := dk_181 0 22 (dk_at dksX4_answers_1 0 rfl rfl)
theorem dX4_answers_25 : decode cX4_answers 25 = .ok (.return_, 1) := dk_177 (dk_at dksX4_answers_1 3 rfl rfl)
def dkwX4_rests_0 : List UInt8 := [42, 3, 42, 180, 0, 22, 4, 100, 184, 0, 40, 181, 0, 22, 177]
abbrev dktX4_rests_0 : List UInt8 := dkwX4_rests_0 ++ []
theorem dksX4_rests_0 : cX4_rests.data.toList.drop 0 = dktX4_rests_0 := by decide +kernel
theorem dX4_rests_0 : decode cX4_rests 0 = .ok (.aload_n 0, 1) := dk_42 (dk_at dksX4_rests_0 0 rfl rfl)
theorem dX4_rests_1 : decode cX4_rests 1 = .ok (.iconst 0, 1) := dk_3 (dk_at dksX4_rests_0 1 rfl rfl)
theorem dX4_rests_2 : decode cX4_rests 2 = .ok (.aload_n 0, 1) := dk_42 (dk_at dksX4_rests_0 2 rfl rfl)
theorem dX4_rests_3 : decode cX4_rests 3 = .ok (.getfield 22, 3) := dk_180 0 22 (dk_at dksX4_rests_0 3 rfl rfl)
theorem dX4_rests_6 : decode cX4_rests 6 = .ok (.iconst 1, 1) := dk_4 (dk_at dksX4_rests_0 6 rfl rfl)
theorem dX4_rests_7 : decode cX4_rests 7 = .ok (.isub, 1) := dk_100 (dk_at dksX4_rests_0 7 rfl rfl)
theorem dX4_rests_8 : decode cX4_rests 8 = .ok (.invokestatic 40, 3) := dk_184 0 40 (dk_at dksX4_rests_0 8 rfl rfl)
theorem dX4_rests_11 : decode cX4_rests 11 = .ok (.putfield 22, 3) := dk_181 0 22 (dk_at dksX4_rests_0 11 rfl rfl)
theorem dX4_rests_14 : decode cX4_rests 14 = .ok (.return_, 1) := dk_177 (dk_at dksX4_rests_0 14 rfl rfl)
def dkwX5_init_0 : List UInt8 := [42, 1, 1, 3, 3, 183, 0, 1, 42, 27, 181, 0, 7, 42, 28, 181, 0, 13, 177]
abbrev dktX5_init_0 : List UInt8 := dkwX5_init_0 ++ []
theorem dksX5_init_0 : cX5_init.data.toList.drop 0 = dktX5_init_0 := by decide +kernel
theorem dX5_init_0 : decode cX5_init 0 = .ok (.aload_n 0, 1) := dk_42 (dk_at dksX5_init_0 0 rfl rfl)
theorem dX5_init_1 : decode cX5_init 1 = .ok (.aconst_null, 1) := dk_1 (dk_at dksX5_init_0 1 rfl rfl)
theorem dX5_init_2 : decode cX5_init 2 = .ok (.aconst_null, 1) := dk_1 (dk_at dksX5_init_0 2 rfl rfl)
theorem dX5_init_3 : decode cX5_init 3 = .ok (.iconst 0, 1) := dk_3 (dk_at dksX5_init_0 3 rfl rfl)
theorem dX5_init_4 : decode cX5_init 4 = .ok (.iconst 0, 1) := dk_3 (dk_at dksX5_init_0 4 rfl rfl)
theorem dX5_init_5 : decode cX5_init 5 = .ok (.invokespecial 1, 3) := dk_183 0 1 (dk_at dksX5_init_0 5 rfl rfl)
theorem dX5_init_8 : decode cX5_init 8 = .ok (.aload_n 0, 1) := dk_42 (dk_at dksX5_init_0 8 rfl rfl)
theorem dX5_init_9 : decode cX5_init 9 = .ok (.iload_n 1, 1) := dk_27 (dk_at dksX5_init_0 9 rfl rfl)
theorem dX5_init_10 : decode cX5_init 10 = .ok (.putfield 7, 3) := dk_181 0 7 (dk_at dksX5_init_0 10 rfl rfl)
theorem dX5_init_13 : decode cX5_init 13 = .ok (.aload_n 0, 1) := dk_42 (dk_at dksX5_init_0 13 rfl rfl)
theorem dX5_init_14 : decode cX5_init 14 = .ok (.iload_n 2, 1) := dk_28 (dk_at dksX5_init_0 14 rfl rfl)
theorem dX5_init_15 : decode cX5_init 15 = .ok (.putfield 13, 3) := dk_181 0 13 (dk_at dksX5_init_0 15 rfl rfl)
theorem dX5_init_18 : decode cX5_init 18 = .ok (.return_, 1) := dk_177 (dk_at dksX5_init_0 18 rfl rfl)
def dkwX6_init_1 : List UInt8 := [181, 0, 21, 177]
abbrev dktX6_init_1 : List UInt8 := dkwX6_init_1 ++ []
def dkwX6_init_0 : List UInt8 := [42, 183, 0, 3, 42, 27, 181, 0, 9, 42, 28, 181, 0, 15, 42, 29, 181, 0, 18, 42, 21, 4]
abbrev dktX6_init_0 : List UInt8 := dkwX6_init_0 ++ dktX6_init_1
theorem dksX6_init_0 : cX6_init.data.toList.drop 0 = dktX6_init_0 := by decide +kernel
theorem dksX6_init_1 : cX6_init.data.toList.drop 22 = dktX6_init_1 := dk_seg dksX6_init_0 22 rfl rfl
theorem dX6_init_0 : decode cX6_init 0 = .ok (.aload_n 0, 1) := dk_42 (dk_at dksX6_init_0 0 rfl rfl)
theorem dX6_init_1 : decode cX6_init 1 = .ok (.invokespecial 3, 3) := dk_183 0 3 (dk_at dksX6_init_0 1 rfl rfl)
theorem dX6_init_4 : decode cX6_init 4 = .ok (.aload_n 0, 1) := dk_42 (dk_at dksX6_init_0 4 rfl rfl)
theorem dX6_init_5 : decode cX6_init 5 = .ok (.iload_n 1, 1) := dk_27 (dk_at dksX6_init_0 5 rfl rfl)
theorem dX6_init_6 : decode cX6_init 6 = .ok (.putfield 9, 3) := dk_181 0 9 (dk_at dksX6_init_0 6 rfl rfl)
theorem dX6_init_9 : decode cX6_init 9 = .ok (.aload_n 0, 1) := dk_42 (dk_at dksX6_init_0 9 rfl rfl)
theorem dX6_init_10 : decode cX6_init 10 = .ok (.iload_n 2, 1) := dk_28 (dk_at dksX6_init_0 10 rfl rfl)
theorem dX6_init_11 : decode cX6_init 11 = .ok (.putfield 15, 3) := dk_181 0 15 (dk_at dksX6_init_0 11 rfl rfl)
theorem dX6_init_14 : decode cX6_init 14 = .ok (.aload_n 0, 1) := dk_42 (dk_at dksX6_init_0 14 rfl rfl)
theorem dX6_init_15 : decode cX6_init 15 = .ok (.iload_n 3, 1) := dk_29 (dk_at dksX6_init_0 15 rfl rfl)
theorem dX6_init_16 : decode cX6_init 16 = .ok (.putfield 18, 3) := dk_181 0 18 (dk_at dksX6_init_0 16 rfl rfl)
theorem dX6_init_19 : decode cX6_init 19 = .ok (.aload_n 0, 1) := dk_42 (dk_at dksX6_init_0 19 rfl rfl)
theorem dX6_init_20 : decode cX6_init 20 = .ok (.iload 4, 2) := dk_21 4 (dk_at dksX6_init_0 20 rfl rfl)
theorem dX6_init_22 : decode cX6_init 22 = .ok (.putfield 21, 3) := dk_181 0 21 (dk_at dksX6_init_1 0 rfl rfl)
theorem dX6_init_25 : decode cX6_init 25 = .ok (.return_, 1) := dk_177 (dk_at dksX6_init_1 3 rfl rfl)
def dkwX6_of_3 : List UInt8 := [172]
abbrev dktX6_of_3 : List UInt8 := dkwX6_of_3 ++ []
def dkwX6_of_2 : List UInt8 := [42, 180, 0, 9, 167, 0, 20, 42, 180, 0, 15, 167, 0, 13, 42, 180, 0, 18, 167, 0, 6, 17, 252, 12]
abbrev dktX6_of_2 : List UInt8 := dkwX6_of_2 ++ dktX6_of_3
def dkwX6_of_1 : List UInt8 := [170, 0, 0, 0, 0, 0, 48, 0, 0, 0, 0, 0, 0, 0, 2, 0, 0, 0, 27, 0, 0, 0, 34, 0, 0, 0, 41]
abbrev dktX6_of_1 : List UInt8 := dkwX6_of_1 ++ dktX6_of_2
def dkwX6_of_0 : List UInt8 := [27]
abbrev dktX6_of_0 : List UInt8 := dkwX6_of_0 ++ dktX6_of_1
theorem dksX6_of_0 : cX6_of.data.toList.drop 0 = dktX6_of_0 := by decide +kernel
theorem dksX6_of_1 : cX6_of.data.toList.drop 1 = dktX6_of_1 := dk_seg dksX6_of_0 1 rfl rfl
theorem dksX6_of_2 : cX6_of.data.toList.drop 28 = dktX6_of_2 := dk_seg dksX6_of_1 27 rfl rfl
theorem dksX6_of_3 : cX6_of.data.toList.drop 52 = dktX6_of_3 := dk_seg dksX6_of_2 24 rfl rfl
theorem dX6_of_0 : decode cX6_of 0 = .ok (.iload_n 1, 1) := dk_27 (dk_at dksX6_of_0 0 rfl rfl)
theorem dX6_of_1 : decode cX6_of 1 = .ok (.tableswitch 48 0 2 #[27, 34, 41], 27) := by decide +kernel
theorem dX6_of_28 : decode cX6_of 28 = .ok (.aload_n 0, 1) := dk_42 (dk_at dksX6_of_2 0 rfl rfl)
theorem dX6_of_29 : decode cX6_of 29 = .ok (.getfield 9, 3) := dk_180 0 9 (dk_at dksX6_of_2 1 rfl rfl)
theorem dX6_of_32 : decode cX6_of 32 = .ok (.goto 20, 3) := dk_167 0 20 (dk_at dksX6_of_2 4 rfl rfl)
theorem dX6_of_35 : decode cX6_of 35 = .ok (.aload_n 0, 1) := dk_42 (dk_at dksX6_of_2 7 rfl rfl)
theorem dX6_of_36 : decode cX6_of 36 = .ok (.getfield 15, 3) := dk_180 0 15 (dk_at dksX6_of_2 8 rfl rfl)
theorem dX6_of_39 : decode cX6_of 39 = .ok (.goto 13, 3) := dk_167 0 13 (dk_at dksX6_of_2 11 rfl rfl)
theorem dX6_of_42 : decode cX6_of 42 = .ok (.aload_n 0, 1) := dk_42 (dk_at dksX6_of_2 14 rfl rfl)
theorem dX6_of_43 : decode cX6_of 43 = .ok (.getfield 18, 3) := dk_180 0 18 (dk_at dksX6_of_2 15 rfl rfl)
theorem dX6_of_46 : decode cX6_of 46 = .ok (.goto 6, 3) := dk_167 0 6 (dk_at dksX6_of_2 18 rfl rfl)
theorem dX6_of_49 : decode cX6_of 49 = .ok (.sipush (-1012), 3) := dk_17 252 12 (dk_at dksX6_of_2 21 rfl rfl)
theorem dX6_of_52 : decode cX6_of 52 = .ok (.ireturn, 1) := dk_172 (dk_at dksX6_of_3 0 rfl rfl)
def dkwX7_init_1 : List UInt8 := [180, 0, 22, 181, 0, 25, 42, 28, 181, 0, 26, 177]
abbrev dktX7_init_1 : List UInt8 := dkwX7_init_1 ++ []
def dkwX7_init_0 : List UInt8 := [42, 183, 0, 3, 42, 43, 180, 0, 9, 181, 0, 15, 42, 43, 180, 0, 18, 181, 0, 21, 42, 43]
abbrev dktX7_init_0 : List UInt8 := dkwX7_init_0 ++ dktX7_init_1
theorem dksX7_init_0 : cX7_init.data.toList.drop 0 = dktX7_init_0 := by decide +kernel
theorem dksX7_init_1 : cX7_init.data.toList.drop 22 = dktX7_init_1 := dk_seg dksX7_init_0 22 rfl rfl
theorem dX7_init_0 : decode cX7_init 0 = .ok (.aload_n 0, 1) := dk_42 (dk_at dksX7_init_0 0 rfl rfl)
theorem dX7_init_1 : decode cX7_init 1 = .ok (.invokespecial 3, 3) := dk_183 0 3 (dk_at dksX7_init_0 1 rfl rfl)
theorem dX7_init_4 : decode cX7_init 4 = .ok (.aload_n 0, 1) := dk_42 (dk_at dksX7_init_0 4 rfl rfl)
theorem dX7_init_5 : decode cX7_init 5 = .ok (.aload_n 1, 1) := dk_43 (dk_at dksX7_init_0 5 rfl rfl)
theorem dX7_init_6 : decode cX7_init 6 = .ok (.getfield 9, 3) := dk_180 0 9 (dk_at dksX7_init_0 6 rfl rfl)
theorem dX7_init_9 : decode cX7_init 9 = .ok (.putfield 15, 3) := dk_181 0 15 (dk_at dksX7_init_0 9 rfl rfl)
theorem dX7_init_12 : decode cX7_init 12 = .ok (.aload_n 0, 1) := dk_42 (dk_at dksX7_init_0 12 rfl rfl)
theorem dX7_init_13 : decode cX7_init 13 = .ok (.aload_n 1, 1) := dk_43 (dk_at dksX7_init_0 13 rfl rfl)
theorem dX7_init_14 : decode cX7_init 14 = .ok (.getfield 18, 3) := dk_180 0 18 (dk_at dksX7_init_0 14 rfl rfl)
theorem dX7_init_17 : decode cX7_init 17 = .ok (.putfield 21, 3) := dk_181 0 21 (dk_at dksX7_init_0 17 rfl rfl)
theorem dX7_init_20 : decode cX7_init 20 = .ok (.aload_n 0, 1) := dk_42 (dk_at dksX7_init_0 20 rfl rfl)
theorem dX7_init_21 : decode cX7_init 21 = .ok (.aload_n 1, 1) := dk_43 (dk_at dksX7_init_0 21 rfl rfl)
theorem dX7_init_22 : decode cX7_init 22 = .ok (.getfield 22, 3) := dk_180 0 22 (dk_at dksX7_init_1 0 rfl rfl)
theorem dX7_init_25 : decode cX7_init 25 = .ok (.putfield 25, 3) := dk_181 0 25 (dk_at dksX7_init_1 3 rfl rfl)
theorem dX7_init_28 : decode cX7_init 28 = .ok (.aload_n 0, 1) := dk_42 (dk_at dksX7_init_1 6 rfl rfl)
theorem dX7_init_29 : decode cX7_init 29 = .ok (.iload_n 2, 1) := dk_28 (dk_at dksX7_init_1 7 rfl rfl)
theorem dX7_init_30 : decode cX7_init 30 = .ok (.putfield 26, 3) := dk_181 0 26 (dk_at dksX7_init_1 8 rfl rfl)
theorem dX7_init_33 : decode cX7_init 33 = .ok (.return_, 1) := dk_177 (dk_at dksX7_init_1 11 rfl rfl)
def dkwX7_of_3 : List UInt8 := [180, 0, 25, 167, 0, 6, 17, 252, 12, 172]
abbrev dktX7_of_3 : List UInt8 := dkwX7_of_3 ++ []
def dkwX7_of_2 : List UInt8 := [42, 180, 0, 15, 167, 0, 27, 42, 180, 0, 21, 167, 0, 20, 42, 180, 0, 26, 167, 0, 13, 42]
abbrev dktX7_of_2 : List UInt8 := dkwX7_of_2 ++ dktX7_of_3
def dkwX7_of_1 : List UInt8 := [170, 0, 0, 0, 0, 0, 59, 0, 0, 0, 0, 0, 0, 0, 3, 0, 0, 0, 31, 0, 0, 0, 38, 0, 0, 0, 45, 0, 0, 0, 52]
abbrev dktX7_of_1 : List UInt8 := dkwX7_of_1 ++ dktX7_of_2
def dkwX7_of_0 : List UInt8 := [27]
abbrev dktX7_of_0 : List UInt8 := dkwX7_of_0 ++ dktX7_of_1
theorem dksX7_of_0 : cX7_of.data.toList.drop 0 = dktX7_of_0 := by decide +kernel
theorem dksX7_of_1 : cX7_of.data.toList.drop 1 = dktX7_of_1 := dk_seg dksX7_of_0 1 rfl rfl
theorem dksX7_of_2 : cX7_of.data.toList.drop 32 = dktX7_of_2 := dk_seg dksX7_of_1 31 rfl rfl
theorem dksX7_of_3 : cX7_of.data.toList.drop 54 = dktX7_of_3 := dk_seg dksX7_of_2 22 rfl rfl
theorem dX7_of_0 : decode cX7_of 0 = .ok (.iload_n 1, 1) := dk_27 (dk_at dksX7_of_0 0 rfl rfl)
theorem dX7_of_1 : decode cX7_of 1 = .ok (.tableswitch 59 0 3 #[31, 38, 45, 52], 31) := by decide +kernel
theorem dX7_of_32 : decode cX7_of 32 = .ok (.aload_n 0, 1) := dk_42 (dk_at dksX7_of_2 0 rfl rfl)
theorem dX7_of_33 : decode cX7_of 33 = .ok (.getfield 15, 3) := dk_180 0 15 (dk_at dksX7_of_2 1 rfl rfl)
theorem dX7_of_36 : decode cX7_of 36 = .ok (.goto 27, 3) := dk_167 0 27 (dk_at dksX7_of_2 4 rfl rfl)
theorem dX7_of_39 : decode cX7_of 39 = .ok (.aload_n 0, 1) := dk_42 (dk_at dksX7_of_2 7 rfl rfl)
theorem dX7_of_40 : decode cX7_of 40 = .ok (.getfield 21, 3) := dk_180 0 21 (dk_at dksX7_of_2 8 rfl rfl)
theorem dX7_of_43 : decode cX7_of 43 = .ok (.goto 20, 3) := dk_167 0 20 (dk_at dksX7_of_2 11 rfl rfl)
theorem dX7_of_46 : decode cX7_of 46 = .ok (.aload_n 0, 1) := dk_42 (dk_at dksX7_of_2 14 rfl rfl)
theorem dX7_of_47 : decode cX7_of 47 = .ok (.getfield 26, 3) := dk_180 0 26 (dk_at dksX7_of_2 15 rfl rfl)
theorem dX7_of_50 : decode cX7_of 50 = .ok (.goto 13, 3) := dk_167 0 13 (dk_at dksX7_of_2 18 rfl rfl)
theorem dX7_of_53 : decode cX7_of 53 = .ok (.aload_n 0, 1) := dk_42 (dk_at dksX7_of_2 21 rfl rfl)
theorem dX7_of_54 : decode cX7_of 54 = .ok (.getfield 25, 3) := dk_180 0 25 (dk_at dksX7_of_3 0 rfl rfl)
theorem dX7_of_57 : decode cX7_of 57 = .ok (.goto 6, 3) := dk_167 0 6 (dk_at dksX7_of_3 3 rfl rfl)
theorem dX7_of_60 : decode cX7_of 60 = .ok (.sipush (-1012), 3) := dk_17 252 12 (dk_at dksX7_of_3 6 rfl rfl)
theorem dX7_of_63 : decode cX7_of 63 = .ok (.ireturn, 1) := dk_172 (dk_at dksX7_of_3 9 rfl rfl)
def dkwX8_init_0 : List UInt8 := [42, 43, 181, 0, 3, 42, 183, 0, 9, 177]
abbrev dktX8_init_0 : List UInt8 := dkwX8_init_0 ++ []
theorem dksX8_init_0 : cX8_init.data.toList.drop 0 = dktX8_init_0 := by decide +kernel
theorem dX8_init_0 : decode cX8_init 0 = .ok (.aload_n 0, 1) := dk_42 (dk_at dksX8_init_0 0 rfl rfl)
theorem dX8_init_1 : decode cX8_init 1 = .ok (.aload_n 1, 1) := dk_43 (dk_at dksX8_init_0 1 rfl rfl)
theorem dX8_init_2 : decode cX8_init 2 = .ok (.putfield 3, 3) := dk_181 0 3 (dk_at dksX8_init_0 2 rfl rfl)
theorem dX8_init_5 : decode cX8_init 5 = .ok (.aload_n 0, 1) := dk_42 (dk_at dksX8_init_0 5 rfl rfl)
theorem dX8_init_6 : decode cX8_init 6 = .ok (.invokespecial 9, 3) := dk_183 0 9 (dk_at dksX8_init_0 6 rfl rfl)
theorem dX8_init_9 : decode cX8_init 9 = .ok (.return_, 1) := dk_177 (dk_at dksX8_init_0 9 rfl rfl)
def dkwX8_commands_2 : List UInt8 := [180, 0, 19, 182, 0, 23, 160, 0, 7, 4, 167, 0, 4, 3, 182, 0, 45, 43, 176]
abbrev dktX8_commands_2 : List UInt8 := dkwX8_commands_2 ++ []
def dkwX8_commands_1 : List UInt8 := [153, 0, 14, 43, 42, 182, 0, 89, 182, 0, 93, 167, 255, 239, 42, 42, 180, 0, 15, 42, 180, 0, 3]
abbrev dktX8_commands_1 : List UInt8 := dkwX8_commands_1 ++ dktX8_commands_2
def dkwX8_commands_0 : List UInt8 := [187, 0, 86, 89, 183, 0, 88, 76, 43, 42, 182, 0, 89, 182, 0, 93, 42, 16, 59, 182, 0, 49]
abbrev dktX8_commands_0 : List UInt8 := dkwX8_commands_0 ++ dktX8_commands_1
theorem dksX8_commands_0 : cX8_commands.data.toList.drop 0 = dktX8_commands_0 := by decide +kernel
theorem dksX8_commands_1 : cX8_commands.data.toList.drop 22 = dktX8_commands_1 := dk_seg dksX8_commands_0 22 rfl rfl
theorem dksX8_commands_2 : cX8_commands.data.toList.drop 45 = dktX8_commands_2 := dk_seg dksX8_commands_1 23 rfl rfl
theorem dX8_commands_0 : decode cX8_commands 0 = .ok (.new 86, 3) := dk_187 0 86 (dk_at dksX8_commands_0 0 rfl rfl)
theorem dX8_commands_3 : decode cX8_commands 3 = .ok (.dup, 1) := dk_89 (dk_at dksX8_commands_0 3 rfl rfl)
theorem dX8_commands_4 : decode cX8_commands 4 = .ok (.invokespecial 88, 3) := dk_183 0 88 (dk_at dksX8_commands_0 4 rfl rfl)
theorem dX8_commands_7 : decode cX8_commands 7 = .ok (.astore_n 1, 1) := dk_76 (dk_at dksX8_commands_0 7 rfl rfl)
theorem dX8_commands_8 : decode cX8_commands 8 = .ok (.aload_n 1, 1) := dk_43 (dk_at dksX8_commands_0 8 rfl rfl)
theorem dX8_commands_9 : decode cX8_commands 9 = .ok (.aload_n 0, 1) := dk_42 (dk_at dksX8_commands_0 9 rfl rfl)
theorem dX8_commands_10 : decode cX8_commands 10 = .ok (.invokevirtual 89, 3) := dk_182 0 89 (dk_at dksX8_commands_0 10 rfl rfl)
theorem dX8_commands_13 : decode cX8_commands 13 = .ok (.invokevirtual 93, 3) := dk_182 0 93 (dk_at dksX8_commands_0 13 rfl rfl)
theorem dX8_commands_16 : decode cX8_commands 16 = .ok (.aload_n 0, 1) := dk_42 (dk_at dksX8_commands_0 16 rfl rfl)
theorem dX8_commands_17 : decode cX8_commands 17 = .ok (.bipush 59, 2) := dk_16 59 (dk_at dksX8_commands_0 17 rfl rfl)
theorem dX8_commands_19 : decode cX8_commands 19 = .ok (.invokevirtual 49, 3) := dk_182 0 49 (dk_at dksX8_commands_0 19 rfl rfl)
theorem dX8_commands_22 : decode cX8_commands 22 = .ok (.ifCond .eq 14, 3) := dk_153 0 14 (dk_at dksX8_commands_1 0 rfl rfl)
theorem dX8_commands_25 : decode cX8_commands 25 = .ok (.aload_n 1, 1) := dk_43 (dk_at dksX8_commands_1 3 rfl rfl)
theorem dX8_commands_26 : decode cX8_commands 26 = .ok (.aload_n 0, 1) := dk_42 (dk_at dksX8_commands_1 4 rfl rfl)
theorem dX8_commands_27 : decode cX8_commands 27 = .ok (.invokevirtual 89, 3) := dk_182 0 89 (dk_at dksX8_commands_1 5 rfl rfl)
theorem dX8_commands_30 : decode cX8_commands 30 = .ok (.invokevirtual 93, 3) := dk_182 0 93 (dk_at dksX8_commands_1 8 rfl rfl)
theorem dX8_commands_33 : decode cX8_commands 33 = .ok (.goto (-17), 3) := dk_167 255 239 (dk_at dksX8_commands_1 11 rfl rfl)
theorem dX8_commands_36 : decode cX8_commands 36 = .ok (.aload_n 0, 1) := dk_42 (dk_at dksX8_commands_1 14 rfl rfl)
theorem dX8_commands_37 : decode cX8_commands 37 = .ok (.aload_n 0, 1) := dk_42 (dk_at dksX8_commands_1 15 rfl rfl)
theorem dX8_commands_38 : decode cX8_commands 38 = .ok (.getfield 15, 3) := dk_180 0 15 (dk_at dksX8_commands_1 16 rfl rfl)
theorem dX8_commands_41 : decode cX8_commands 41 = .ok (.aload_n 0, 1) := dk_42 (dk_at dksX8_commands_1 19 rfl rfl)
theorem dX8_commands_42 : decode cX8_commands 42 = .ok (.getfield 3, 3) := dk_180 0 3 (dk_at dksX8_commands_1 20 rfl rfl)
theorem dX8_commands_45 : decode cX8_commands 45 = .ok (.getfield 19, 3) := dk_180 0 19 (dk_at dksX8_commands_2 0 rfl rfl)
theorem dX8_commands_48 : decode cX8_commands 48 = .ok (.invokevirtual 23, 3) := dk_182 0 23 (dk_at dksX8_commands_2 3 rfl rfl)
theorem dX8_commands_51 : decode cX8_commands 51 = .ok (.if_icmp .ne 7, 3) := dk_160 0 7 (dk_at dksX8_commands_2 6 rfl rfl)
theorem dX8_commands_54 : decode cX8_commands 54 = .ok (.iconst 1, 1) := dk_4 (dk_at dksX8_commands_2 9 rfl rfl)
theorem dX8_commands_55 : decode cX8_commands 55 = .ok (.goto 4, 3) := dk_167 0 4 (dk_at dksX8_commands_2 10 rfl rfl)
theorem dX8_commands_58 : decode cX8_commands 58 = .ok (.iconst 0, 1) := dk_3 (dk_at dksX8_commands_2 13 rfl rfl)
theorem dX8_commands_59 : decode cX8_commands 59 = .ok (.invokevirtual 45, 3) := dk_182 0 45 (dk_at dksX8_commands_2 14 rfl rfl)
theorem dX8_commands_62 : decode cX8_commands 62 = .ok (.aload_n 1, 1) := dk_43 (dk_at dksX8_commands_2 17 rfl rfl)
theorem dX8_commands_63 : decode cX8_commands 63 = .ok (.areturn, 1) := dk_176 (dk_at dksX8_commands_2 18 rfl rfl)
def dkwX8_command_4 : List UInt8 := [182, 0, 82, 43, 176]
abbrev dktX8_command_4 : List UInt8 := dkwX8_command_4 ++ []
def dkwX8_command_3 : List UInt8 := [43, 42, 43, 180, 0, 57, 16, 114, 160, 0, 7, 4, 167, 0, 4, 5, 182, 0, 53, 181, 0, 79, 42, 43]
abbrev dktX8_command_3 : List UInt8 := dkwX8_command_3 ++ dktX8_command_4
def dkwX8_command_2 : List UInt8 := [16, 104, 159, 0, 12, 43, 180, 0, 57, 16, 101, 160, 0, 7, 4, 167, 0, 4, 3, 61, 28, 154, 0, 30]
abbrev dktX8_command_2 : List UInt8 := dkwX8_command_2 ++ dktX8_command_3
def dkwX8_command_1 : List UInt8 := [42, 89, 180, 0, 15, 4, 96, 181, 0, 15, 43, 180, 0, 57, 16, 110, 159, 0, 21, 43, 180, 0, 57]
abbrev dktX8_command_1 : List UInt8 := dkwX8_command_1 ++ dktX8_command_2
def dkwX8_command_0 : List UInt8 := [42, 42, 42, 182, 0, 38, 182, 0, 75, 182, 0, 45, 187, 0, 58, 89, 42, 182, 0, 38, 183, 0, 78, 76]
abbrev dktX8_command_0 : List UInt8 := dkwX8_command_0 ++ dktX8_command_1
theorem dksX8_command_0 : cX8_command.data.toList.drop 0 = dktX8_command_0 := by decide +kernel
theorem dksX8_command_1 : cX8_command.data.toList.drop 24 = dktX8_command_1 := dk_seg dksX8_command_0 24 rfl rfl
theorem dksX8_command_2 : cX8_command.data.toList.drop 47 = dktX8_command_2 := dk_seg dksX8_command_1 23 rfl rfl
theorem dksX8_command_3 : cX8_command.data.toList.drop 71 = dktX8_command_3 := dk_seg dksX8_command_2 24 rfl rfl
theorem dksX8_command_4 : cX8_command.data.toList.drop 95 = dktX8_command_4 := dk_seg dksX8_command_3 24 rfl rfl
theorem dX8_command_0 : decode cX8_command 0 = .ok (.aload_n 0, 1) := dk_42 (dk_at dksX8_command_0 0 rfl rfl)
theorem dX8_command_1 : decode cX8_command 1 = .ok (.aload_n 0, 1) := dk_42 (dk_at dksX8_command_0 1 rfl rfl)
theorem dX8_command_2 : decode cX8_command 2 = .ok (.aload_n 0, 1) := dk_42 (dk_at dksX8_command_0 2 rfl rfl)
theorem dX8_command_3 : decode cX8_command 3 = .ok (.invokevirtual 38, 3) := dk_182 0 38 (dk_at dksX8_command_0 3 rfl rfl)
theorem dX8_command_6 : decode cX8_command 6 = .ok (.invokevirtual 75, 3) := dk_182 0 75 (dk_at dksX8_command_0 6 rfl rfl)
theorem dX8_command_9 : decode cX8_command 9 = .ok (.invokevirtual 45, 3) := dk_182 0 45 (dk_at dksX8_command_0 9 rfl rfl)
theorem dX8_command_12 : decode cX8_command 12 = .ok (.new 58, 3) := dk_187 0 58 (dk_at dksX8_command_0 12 rfl rfl)
theorem dX8_command_15 : decode cX8_command 15 = .ok (.dup, 1) := dk_89 (dk_at dksX8_command_0 15 rfl rfl)
theorem dX8_command_16 : decode cX8_command 16 = .ok (.aload_n 0, 1) := dk_42 (dk_at dksX8_command_0 16 rfl rfl)
theorem dX8_command_17 : decode cX8_command 17 = .ok (.invokevirtual 38, 3) := dk_182 0 38 (dk_at dksX8_command_0 17 rfl rfl)
theorem dX8_command_20 : decode cX8_command 20 = .ok (.invokespecial 78, 3) := dk_183 0 78 (dk_at dksX8_command_0 20 rfl rfl)
theorem dX8_command_23 : decode cX8_command 23 = .ok (.astore_n 1, 1) := dk_76 (dk_at dksX8_command_0 23 rfl rfl)
theorem dX8_command_24 : decode cX8_command 24 = .ok (.aload_n 0, 1) := dk_42 (dk_at dksX8_command_1 0 rfl rfl)
theorem dX8_command_25 : decode cX8_command 25 = .ok (.dup, 1) := dk_89 (dk_at dksX8_command_1 1 rfl rfl)
theorem dX8_command_26 : decode cX8_command 26 = .ok (.getfield 15, 3) := dk_180 0 15 (dk_at dksX8_command_1 2 rfl rfl)
theorem dX8_command_29 : decode cX8_command 29 = .ok (.iconst 1, 1) := dk_4 (dk_at dksX8_command_1 5 rfl rfl)
theorem dX8_command_30 : decode cX8_command 30 = .ok (.iadd, 1) := dk_96 (dk_at dksX8_command_1 6 rfl rfl)
theorem dX8_command_31 : decode cX8_command 31 = .ok (.putfield 15, 3) := dk_181 0 15 (dk_at dksX8_command_1 7 rfl rfl)
theorem dX8_command_34 : decode cX8_command 34 = .ok (.aload_n 1, 1) := dk_43 (dk_at dksX8_command_1 10 rfl rfl)
theorem dX8_command_35 : decode cX8_command 35 = .ok (.getfield 57, 3) := dk_180 0 57 (dk_at dksX8_command_1 11 rfl rfl)
theorem dX8_command_38 : decode cX8_command 38 = .ok (.bipush 110, 2) := dk_16 110 (dk_at dksX8_command_1 14 rfl rfl)
theorem dX8_command_40 : decode cX8_command 40 = .ok (.if_icmp .eq 21, 3) := dk_159 0 21 (dk_at dksX8_command_1 16 rfl rfl)
theorem dX8_command_43 : decode cX8_command 43 = .ok (.aload_n 1, 1) := dk_43 (dk_at dksX8_command_1 19 rfl rfl)
theorem dX8_command_44 : decode cX8_command 44 = .ok (.getfield 57, 3) := dk_180 0 57 (dk_at dksX8_command_1 20 rfl rfl)
theorem dX8_command_47 : decode cX8_command 47 = .ok (.bipush 104, 2) := dk_16 104 (dk_at dksX8_command_2 0 rfl rfl)
theorem dX8_command_49 : decode cX8_command 49 = .ok (.if_icmp .eq 12, 3) := dk_159 0 12 (dk_at dksX8_command_2 2 rfl rfl)
theorem dX8_command_52 : decode cX8_command 52 = .ok (.aload_n 1, 1) := dk_43 (dk_at dksX8_command_2 5 rfl rfl)
theorem dX8_command_53 : decode cX8_command 53 = .ok (.getfield 57, 3) := dk_180 0 57 (dk_at dksX8_command_2 6 rfl rfl)
theorem dX8_command_56 : decode cX8_command 56 = .ok (.bipush 101, 2) := dk_16 101 (dk_at dksX8_command_2 9 rfl rfl)
theorem dX8_command_58 : decode cX8_command 58 = .ok (.if_icmp .ne 7, 3) := dk_160 0 7 (dk_at dksX8_command_2 11 rfl rfl)
theorem dX8_command_61 : decode cX8_command 61 = .ok (.iconst 1, 1) := dk_4 (dk_at dksX8_command_2 14 rfl rfl)
theorem dX8_command_62 : decode cX8_command 62 = .ok (.goto 4, 3) := dk_167 0 4 (dk_at dksX8_command_2 15 rfl rfl)
theorem dX8_command_65 : decode cX8_command 65 = .ok (.iconst 0, 1) := dk_3 (dk_at dksX8_command_2 18 rfl rfl)
theorem dX8_command_66 : decode cX8_command 66 = .ok (.istore_n 2, 1) := dk_61 (dk_at dksX8_command_2 19 rfl rfl)
theorem dX8_command_67 : decode cX8_command 67 = .ok (.iload_n 2, 1) := dk_28 (dk_at dksX8_command_2 20 rfl rfl)
theorem dX8_command_68 : decode cX8_command 68 = .ok (.ifCond .ne 30, 3) := dk_154 0 30 (dk_at dksX8_command_2 21 rfl rfl)
theorem dX8_command_71 : decode cX8_command 71 = .ok (.aload_n 1, 1) := dk_43 (dk_at dksX8_command_3 0 rfl rfl)
theorem dX8_command_72 : decode cX8_command 72 = .ok (.aload_n 0, 1) := dk_42 (dk_at dksX8_command_3 1 rfl rfl)
theorem dX8_command_73 : decode cX8_command 73 = .ok (.aload_n 1, 1) := dk_43 (dk_at dksX8_command_3 2 rfl rfl)
theorem dX8_command_74 : decode cX8_command 74 = .ok (.getfield 57, 3) := dk_180 0 57 (dk_at dksX8_command_3 3 rfl rfl)
theorem dX8_command_77 : decode cX8_command 77 = .ok (.bipush 114, 2) := dk_16 114 (dk_at dksX8_command_3 6 rfl rfl)
theorem dX8_command_79 : decode cX8_command 79 = .ok (.if_icmp .ne 7, 3) := dk_160 0 7 (dk_at dksX8_command_3 8 rfl rfl)
theorem dX8_command_82 : decode cX8_command 82 = .ok (.iconst 1, 1) := dk_4 (dk_at dksX8_command_3 11 rfl rfl)
theorem dX8_command_83 : decode cX8_command 83 = .ok (.goto 4, 3) := dk_167 0 4 (dk_at dksX8_command_3 12 rfl rfl)
theorem dX8_command_86 : decode cX8_command 86 = .ok (.iconst 2, 1) := dk_5 (dk_at dksX8_command_3 15 rfl rfl)
theorem dX8_command_87 : decode cX8_command 87 = .ok (.invokevirtual 53, 3) := dk_182 0 53 (dk_at dksX8_command_3 16 rfl rfl)
theorem dX8_command_90 : decode cX8_command 90 = .ok (.putfield 79, 3) := dk_181 0 79 (dk_at dksX8_command_3 19 rfl rfl)
theorem dX8_command_93 : decode cX8_command 93 = .ok (.aload_n 0, 1) := dk_42 (dk_at dksX8_command_3 22 rfl rfl)
theorem dX8_command_94 : decode cX8_command 94 = .ok (.aload_n 1, 1) := dk_43 (dk_at dksX8_command_3 23 rfl rfl)
theorem dX8_command_95 : decode cX8_command 95 = .ok (.invokevirtual 82, 3) := dk_182 0 82 (dk_at dksX8_command_4 0 rfl rfl)
theorem dX8_command_98 : decode cX8_command 98 = .ok (.aload_n 1, 1) := dk_43 (dk_at dksX8_command_4 3 rfl rfl)
theorem dX8_command_99 : decode cX8_command 99 = .ok (.areturn, 1) := dk_176 (dk_at dksX8_command_4 4 rfl rfl)
def dkwX8_here_1 : List UInt8 := [42, 180, 0, 15, 182, 0, 29, 167, 0, 6, 17, 252, 13, 172]
abbrev dktX8_here_1 : List UInt8 := dkwX8_here_1 ++ []
def dkwX8_here_0 : List UInt8 := [42, 180, 0, 15, 42, 180, 0, 3, 180, 0, 19, 182, 0, 23, 162, 0, 20, 42, 180, 0, 3, 180, 0, 19]
abbrev dktX8_here_0 : List UInt8 := dkwX8_here_0 ++ dktX8_here_1
theorem dksX8_here_0 : cX8_here.data.toList.drop 0 = dktX8_here_0 := by decide +kernel
theorem dksX8_here_1 : cX8_here.data.toList.drop 24 = dktX8_here_1 := dk_seg dksX8_here_0 24 rfl rfl
theorem dX8_here_0 : decode cX8_here 0 = .ok (.aload_n 0, 1) := dk_42 (dk_at dksX8_here_0 0 rfl rfl)
theorem dX8_here_1 : decode cX8_here 1 = .ok (.getfield 15, 3) := dk_180 0 15 (dk_at dksX8_here_0 1 rfl rfl)
theorem dX8_here_4 : decode cX8_here 4 = .ok (.aload_n 0, 1) := dk_42 (dk_at dksX8_here_0 4 rfl rfl)
theorem dX8_here_5 : decode cX8_here 5 = .ok (.getfield 3, 3) := dk_180 0 3 (dk_at dksX8_here_0 5 rfl rfl)
theorem dX8_here_8 : decode cX8_here 8 = .ok (.getfield 19, 3) := dk_180 0 19 (dk_at dksX8_here_0 8 rfl rfl)
theorem dX8_here_11 : decode cX8_here 11 = .ok (.invokevirtual 23, 3) := dk_182 0 23 (dk_at dksX8_here_0 11 rfl rfl)
theorem dX8_here_14 : decode cX8_here 14 = .ok (.if_icmp .ge 20, 3) := dk_162 0 20 (dk_at dksX8_here_0 14 rfl rfl)
theorem dX8_here_17 : decode cX8_here 17 = .ok (.aload_n 0, 1) := dk_42 (dk_at dksX8_here_0 17 rfl rfl)
theorem dX8_here_18 : decode cX8_here 18 = .ok (.getfield 3, 3) := dk_180 0 3 (dk_at dksX8_here_0 18 rfl rfl)
theorem dX8_here_21 : decode cX8_here 21 = .ok (.getfield 19, 3) := dk_180 0 19 (dk_at dksX8_here_0 21 rfl rfl)
theorem dX8_here_24 : decode cX8_here 24 = .ok (.aload_n 0, 1) := dk_42 (dk_at dksX8_here_1 0 rfl rfl)
theorem dX8_here_25 : decode cX8_here 25 = .ok (.getfield 15, 3) := dk_180 0 15 (dk_at dksX8_here_1 1 rfl rfl)
theorem dX8_here_28 : decode cX8_here 28 = .ok (.invokevirtual 29, 3) := dk_182 0 29 (dk_at dksX8_here_1 4 rfl rfl)
theorem dX8_here_31 : decode cX8_here 31 = .ok (.goto 6, 3) := dk_167 0 6 (dk_at dksX8_here_1 7 rfl rfl)
theorem dX8_here_34 : decode cX8_here 34 = .ok (.sipush (-1011), 3) := dk_17 252 13 (dk_at dksX8_here_1 10 rfl rfl)
theorem dX8_here_37 : decode cX8_here 37 = .ok (.ireturn, 1) := dk_172 (dk_at dksX8_here_1 13 rfl rfl)
def dkwX8_isKind_2 : List UInt8 := [4, 167, 0, 4, 3, 172]
abbrev dktX8_isKind_2 : List UInt8 := dkwX8_isKind_2 ++ []
def dkwX8_isKind_1 : List UInt8 := [170, 0, 0, 0, 0, 0, 99, 0, 0, 0, 99, 0, 0, 0, 118, 0, 0, 0, 95, 0, 0, 0, 99, 0, 0, 0, 95, 0, 0, 0, 99, 0, 0, 0, 99, 0, 0, 0, 95, 0, 0, 0, 99, 0, 0, 0, 99, 0, 0, 0, 99, 0, 0, 0, 99, 0, 0, 0, 99, 0, 0, 0, 95, 0, 0, 0, 95, 0, 0, 0, 95, 0, 0, 0, 99, 0, 0, 0, 95, 0, 0, 0, 95, 0, 0, 0, 99, 0, 0, 0, 99, 0, 0, 0, 95]
abbrev dktX8_isKind_1 : List UInt8 := dkwX8_isKind_1 ++ dktX8_isKind_2
def dkwX8_isKind_0 : List UInt8 := [27]
abbrev dktX8_isKind_0 : List UInt8 := dkwX8_isKind_0 ++ dktX8_isKind_1
theorem dksX8_isKind_0 : cX8_isKind.data.toList.drop 0 = dktX8_isKind_0 := by decide +kernel
theorem dksX8_isKind_1 : cX8_isKind.data.toList.drop 1 = dktX8_isKind_1 := dk_seg dksX8_isKind_0 1 rfl rfl
theorem dksX8_isKind_2 : cX8_isKind.data.toList.drop 96 = dktX8_isKind_2 := dk_seg dksX8_isKind_1 95 rfl rfl
theorem dX8_isKind_0 : decode cX8_isKind 0 = .ok (.iload_n 1, 1) := dk_27 (dk_at dksX8_isKind_0 0 rfl rfl)
theorem dX8_isKind_1 : decode cX8_isKind 1 = .ok (.tableswitch 99 99 118 #[95, 99, 95, 99, 99, 95, 99, 99, 99, 99, 99, 95, 95, 95, 99, 95, 95, 99, 99, 95], 95) := by decide +kernel
theorem dX8_isKind_96 : decode cX8_isKind 96 = .ok (.iconst 1, 1) := dk_4 (dk_at dksX8_isKind_2 0 rfl rfl)
theorem dX8_isKind_97 : decode cX8_isKind 97 = .ok (.goto 4, 3) := dk_167 0 4 (dk_at dksX8_isKind_2 1 rfl rfl)
theorem dX8_isKind_100 : decode cX8_isKind 100 = .ok (.iconst 0, 1) := dk_3 (dk_at dksX8_isKind_2 4 rfl rfl)
theorem dX8_isKind_101 : decode cX8_isKind 101 = .ok (.ireturn, 1) := dk_172 (dk_at dksX8_isKind_2 5 rfl rfl)
def dkwX8_needs_0 : List UInt8 := [27, 154, 0, 15, 187, 0, 33, 89, 42, 180, 0, 15, 183, 0, 35, 191, 177]
abbrev dktX8_needs_0 : List UInt8 := dkwX8_needs_0 ++ []
theorem dksX8_needs_0 : cX8_needs.data.toList.drop 0 = dktX8_needs_0 := by decide +kernel
theorem dX8_needs_0 : decode cX8_needs 0 = .ok (.iload_n 1, 1) := dk_27 (dk_at dksX8_needs_0 0 rfl rfl)
theorem dX8_needs_1 : decode cX8_needs 1 = .ok (.ifCond .ne 15, 3) := dk_154 0 15 (dk_at dksX8_needs_0 1 rfl rfl)
theorem dX8_needs_4 : decode cX8_needs 4 = .ok (.new 33, 3) := dk_187 0 33 (dk_at dksX8_needs_0 4 rfl rfl)
theorem dX8_needs_7 : decode cX8_needs 7 = .ok (.dup, 1) := dk_89 (dk_at dksX8_needs_0 7 rfl rfl)
theorem dX8_needs_8 : decode cX8_needs 8 = .ok (.aload_n 0, 1) := dk_42 (dk_at dksX8_needs_0 8 rfl rfl)
theorem dX8_needs_9 : decode cX8_needs 9 = .ok (.getfield 15, 3) := dk_180 0 15 (dk_at dksX8_needs_0 9 rfl rfl)
theorem dX8_needs_12 : decode cX8_needs 12 = .ok (.invokespecial 35, 3) := dk_183 0 35 (dk_at dksX8_needs_0 12 rfl rfl)
theorem dX8_needs_15 : decode cX8_needs 15 = .ok (.athrow, 1) := dk_191 (dk_at dksX8_needs_0 15 rfl rfl)
theorem dX8_needs_16 : decode cX8_needs 16 = .ok (.return_, 1) := dk_177 (dk_at dksX8_needs_0 16 rfl rfl)
def dkwX8_number_2 : List UInt8 := [16, 48, 100, 61, 42, 89, 180, 0, 15, 4, 96, 181, 0, 15, 132, 3, 1, 167, 255, 211, 28, 172]
abbrev dktX8_number_2 : List UInt8 := dkwX8_number_2 ++ []
def dkwX8_number_1 : List UInt8 := [42, 182, 0, 38, 16, 48, 16, 57, 184, 0, 41, 153, 0, 32, 16, 10, 28, 104, 42, 182, 0, 38, 96]
abbrev dktX8_number_1 : List UInt8 := dkwX8_number_1 ++ dktX8_number_2
def dkwX8_number_0 : List UInt8 := [42, 42, 182, 0, 38, 16, 48, 16, 57, 184, 0, 41, 182, 0, 45, 3, 61, 3, 62, 29, 27, 162, 0, 46]
abbrev dktX8_number_0 : List UInt8 := dkwX8_number_0 ++ dktX8_number_1
theorem dksX8_number_0 : cX8_number.data.toList.drop 0 = dktX8_number_0 := by decide +kernel
theorem dksX8_number_1 : cX8_number.data.toList.drop 24 = dktX8_number_1 := dk_seg dksX8_number_0 24 rfl rfl
theorem dksX8_number_2 : cX8_number.data.toList.drop 47 = dktX8_number_2 := dk_seg dksX8_number_1 23 rfl rfl
theorem dX8_number_0 : decode cX8_number 0 = .ok (.aload_n 0, 1) := dk_42 (dk_at dksX8_number_0 0 rfl rfl)
theorem dX8_number_1 : decode cX8_number 1 = .ok (.aload_n 0, 1) := dk_42 (dk_at dksX8_number_0 1 rfl rfl)
theorem dX8_number_2 : decode cX8_number 2 = .ok (.invokevirtual 38, 3) := dk_182 0 38 (dk_at dksX8_number_0 2 rfl rfl)
theorem dX8_number_5 : decode cX8_number 5 = .ok (.bipush 48, 2) := dk_16 48 (dk_at dksX8_number_0 5 rfl rfl)
theorem dX8_number_7 : decode cX8_number 7 = .ok (.bipush 57, 2) := dk_16 57 (dk_at dksX8_number_0 7 rfl rfl)
theorem dX8_number_9 : decode cX8_number 9 = .ok (.invokestatic 41, 3) := dk_184 0 41 (dk_at dksX8_number_0 9 rfl rfl)
theorem dX8_number_12 : decode cX8_number 12 = .ok (.invokevirtual 45, 3) := dk_182 0 45 (dk_at dksX8_number_0 12 rfl rfl)
theorem dX8_number_15 : decode cX8_number 15 = .ok (.iconst 0, 1) := dk_3 (dk_at dksX8_number_0 15 rfl rfl)
theorem dX8_number_16 : decode cX8_number 16 = .ok (.istore_n 2, 1) := dk_61 (dk_at dksX8_number_0 16 rfl rfl)
theorem dX8_number_17 : decode cX8_number 17 = .ok (.iconst 0, 1) := dk_3 (dk_at dksX8_number_0 17 rfl rfl)
theorem dX8_number_18 : decode cX8_number 18 = .ok (.istore_n 3, 1) := dk_62 (dk_at dksX8_number_0 18 rfl rfl)
theorem dX8_number_19 : decode cX8_number 19 = .ok (.iload_n 3, 1) := dk_29 (dk_at dksX8_number_0 19 rfl rfl)
theorem dX8_number_20 : decode cX8_number 20 = .ok (.iload_n 1, 1) := dk_27 (dk_at dksX8_number_0 20 rfl rfl)
theorem dX8_number_21 : decode cX8_number 21 = .ok (.if_icmp .ge 46, 3) := dk_162 0 46 (dk_at dksX8_number_0 21 rfl rfl)
theorem dX8_number_24 : decode cX8_number 24 = .ok (.aload_n 0, 1) := dk_42 (dk_at dksX8_number_1 0 rfl rfl)
theorem dX8_number_25 : decode cX8_number 25 = .ok (.invokevirtual 38, 3) := dk_182 0 38 (dk_at dksX8_number_1 1 rfl rfl)
theorem dX8_number_28 : decode cX8_number 28 = .ok (.bipush 48, 2) := dk_16 48 (dk_at dksX8_number_1 4 rfl rfl)
theorem dX8_number_30 : decode cX8_number 30 = .ok (.bipush 57, 2) := dk_16 57 (dk_at dksX8_number_1 6 rfl rfl)
theorem dX8_number_32 : decode cX8_number 32 = .ok (.invokestatic 41, 3) := dk_184 0 41 (dk_at dksX8_number_1 8 rfl rfl)
theorem dX8_number_35 : decode cX8_number 35 = .ok (.ifCond .eq 32, 3) := dk_153 0 32 (dk_at dksX8_number_1 11 rfl rfl)
theorem dX8_number_38 : decode cX8_number 38 = .ok (.bipush 10, 2) := dk_16 10 (dk_at dksX8_number_1 14 rfl rfl)
theorem dX8_number_40 : decode cX8_number 40 = .ok (.iload_n 2, 1) := dk_28 (dk_at dksX8_number_1 16 rfl rfl)
theorem dX8_number_41 : decode cX8_number 41 = .ok (.imul, 1) := dk_104 (dk_at dksX8_number_1 17 rfl rfl)
theorem dX8_number_42 : decode cX8_number 42 = .ok (.aload_n 0, 1) := dk_42 (dk_at dksX8_number_1 18 rfl rfl)
theorem dX8_number_43 : decode cX8_number 43 = .ok (.invokevirtual 38, 3) := dk_182 0 38 (dk_at dksX8_number_1 19 rfl rfl)
theorem dX8_number_46 : decode cX8_number 46 = .ok (.iadd, 1) := dk_96 (dk_at dksX8_number_1 22 rfl rfl)
theorem dX8_number_47 : decode cX8_number 47 = .ok (.bipush 48, 2) := dk_16 48 (dk_at dksX8_number_2 0 rfl rfl)
theorem dX8_number_49 : decode cX8_number 49 = .ok (.isub, 1) := dk_100 (dk_at dksX8_number_2 2 rfl rfl)
theorem dX8_number_50 : decode cX8_number 50 = .ok (.istore_n 2, 1) := dk_61 (dk_at dksX8_number_2 3 rfl rfl)
theorem dX8_number_51 : decode cX8_number 51 = .ok (.aload_n 0, 1) := dk_42 (dk_at dksX8_number_2 4 rfl rfl)
theorem dX8_number_52 : decode cX8_number 52 = .ok (.dup, 1) := dk_89 (dk_at dksX8_number_2 5 rfl rfl)
theorem dX8_number_53 : decode cX8_number 53 = .ok (.getfield 15, 3) := dk_180 0 15 (dk_at dksX8_number_2 6 rfl rfl)
theorem dX8_number_56 : decode cX8_number 56 = .ok (.iconst 1, 1) := dk_4 (dk_at dksX8_number_2 9 rfl rfl)
theorem dX8_number_57 : decode cX8_number 57 = .ok (.iadd, 1) := dk_96 (dk_at dksX8_number_2 10 rfl rfl)
theorem dX8_number_58 : decode cX8_number 58 = .ok (.putfield 15, 3) := dk_181 0 15 (dk_at dksX8_number_2 11 rfl rfl)
theorem dX8_number_61 : decode cX8_number 61 = .ok (.iinc 3 1, 3) := dk_132 3 1 (dk_at dksX8_number_2 14 rfl rfl)
theorem dX8_number_64 : decode cX8_number 64 = .ok (.goto (-45), 3) := dk_167 255 211 (dk_at dksX8_number_2 17 rfl rfl)
theorem dX8_number_67 : decode cX8_number 67 = .ok (.iload_n 2, 1) := dk_28 (dk_at dksX8_number_2 20 rfl rfl)
theorem dX8_number_68 : decode cX8_number 68 = .ok (.ireturn, 1) := dk_172 (dk_at dksX8_number_2 21 rfl rfl)
def dkwX8_rest_4 : List UInt8 := [181, 0, 72, 167, 0, 17, 43, 42, 16, 45, 4, 182, 0, 62, 181, 0, 66, 167, 0, 3, 177]
abbrev dktX8_rest_4 : List UInt8 := dkwX8_rest_4 ++ []
def dkwX8_rest_3 : List UInt8 := [167, 0, 42, 43, 42, 16, 64, 5, 182, 0, 62, 181, 0, 66, 43, 42, 16, 42, 4, 182, 0, 62]
abbrev dktX8_rest_3 : List UInt8 := dkwX8_rest_3 ++ dktX8_rest_4
def dkwX8_rest_2 : List UInt8 := [43, 42, 16, 58, 4, 182, 0, 62, 181, 0, 66, 167, 0, 53, 43, 42, 182, 0, 69, 181, 0, 66]
abbrev dktX8_rest_2 : List UInt8 := dkwX8_rest_2 ++ dktX8_rest_3
def dkwX8_rest_1 : List UInt8 := [170, 0, 0, 0, 0, 0, 0, 112, 0, 0, 0, 111, 0, 0, 0, 118, 0, 0, 0, 98, 0, 0, 0, 73, 0, 0, 0, 112, 0, 0, 0, 112, 0, 0, 0, 62, 0, 0, 0, 112, 0, 0, 0, 112, 0, 0, 0, 48]
abbrev dktX8_rest_1 : List UInt8 := dkwX8_rest_1 ++ dktX8_rest_2
def dkwX8_rest_0 : List UInt8 := [43, 180, 0, 57]
abbrev dktX8_rest_0 : List UInt8 := dkwX8_rest_0 ++ dktX8_rest_1
theorem dksX8_rest_0 : cX8_rest.data.toList.drop 0 = dktX8_rest_0 := by decide +kernel
theorem dksX8_rest_1 : cX8_rest.data.toList.drop 4 = dktX8_rest_1 := dk_seg dksX8_rest_0 4 rfl rfl
theorem dksX8_rest_2 : cX8_rest.data.toList.drop 52 = dktX8_rest_2 := dk_seg dksX8_rest_1 48 rfl rfl
theorem dksX8_rest_3 : cX8_rest.data.toList.drop 74 = dktX8_rest_3 := dk_seg dksX8_rest_2 22 rfl rfl
theorem dksX8_rest_4 : cX8_rest.data.toList.drop 96 = dktX8_rest_4 := dk_seg dksX8_rest_3 22 rfl rfl
theorem dX8_rest_0 : decode cX8_rest 0 = .ok (.aload_n 1, 1) := dk_43 (dk_at dksX8_rest_0 0 rfl rfl)
theorem dX8_rest_1 : decode cX8_rest 1 = .ok (.getfield 57, 3) := dk_180 0 57 (dk_at dksX8_rest_0 1 rfl rfl)
theorem dX8_rest_4 : decode cX8_rest 4 = .ok (.tableswitch 112 111 118 #[98, 73, 112, 112, 62, 112, 112, 48], 48) := by decide +kernel
theorem dX8_rest_52 : decode cX8_rest 52 = .ok (.aload_n 1, 1) := dk_43 (dk_at dksX8_rest_2 0 rfl rfl)
theorem dX8_rest_53 : decode cX8_rest 53 = .ok (.aload_n 0, 1) := dk_42 (dk_at dksX8_rest_2 1 rfl rfl)
theorem dX8_rest_54 : decode cX8_rest 54 = .ok (.bipush 58, 2) := dk_16 58 (dk_at dksX8_rest_2 2 rfl rfl)
theorem dX8_rest_56 : decode cX8_rest 56 = .ok (.iconst 1, 1) := dk_4 (dk_at dksX8_rest_2 4 rfl rfl)
theorem dX8_rest_57 : decode cX8_rest 57 = .ok (.invokevirtual 62, 3) := dk_182 0 62 (dk_at dksX8_rest_2 5 rfl rfl)
theorem dX8_rest_60 : decode cX8_rest 60 = .ok (.putfield 66, 3) := dk_181 0 66 (dk_at dksX8_rest_2 8 rfl rfl)
theorem dX8_rest_63 : decode cX8_rest 63 = .ok (.goto 53, 3) := dk_167 0 53 (dk_at dksX8_rest_2 11 rfl rfl)
theorem dX8_rest_66 : decode cX8_rest 66 = .ok (.aload_n 1, 1) := dk_43 (dk_at dksX8_rest_2 14 rfl rfl)
theorem dX8_rest_67 : decode cX8_rest 67 = .ok (.aload_n 0, 1) := dk_42 (dk_at dksX8_rest_2 15 rfl rfl)
theorem dX8_rest_68 : decode cX8_rest 68 = .ok (.invokevirtual 69, 3) := dk_182 0 69 (dk_at dksX8_rest_2 16 rfl rfl)
theorem dX8_rest_71 : decode cX8_rest 71 = .ok (.putfield 66, 3) := dk_181 0 66 (dk_at dksX8_rest_2 19 rfl rfl)
theorem dX8_rest_74 : decode cX8_rest 74 = .ok (.goto 42, 3) := dk_167 0 42 (dk_at dksX8_rest_3 0 rfl rfl)
theorem dX8_rest_77 : decode cX8_rest 77 = .ok (.aload_n 1, 1) := dk_43 (dk_at dksX8_rest_3 3 rfl rfl)
theorem dX8_rest_78 : decode cX8_rest 78 = .ok (.aload_n 0, 1) := dk_42 (dk_at dksX8_rest_3 4 rfl rfl)
theorem dX8_rest_79 : decode cX8_rest 79 = .ok (.bipush 64, 2) := dk_16 64 (dk_at dksX8_rest_3 5 rfl rfl)
theorem dX8_rest_81 : decode cX8_rest 81 = .ok (.iconst 2, 1) := dk_5 (dk_at dksX8_rest_3 7 rfl rfl)
theorem dX8_rest_82 : decode cX8_rest 82 = .ok (.invokevirtual 62, 3) := dk_182 0 62 (dk_at dksX8_rest_3 8 rfl rfl)
theorem dX8_rest_85 : decode cX8_rest 85 = .ok (.putfield 66, 3) := dk_181 0 66 (dk_at dksX8_rest_3 11 rfl rfl)
theorem dX8_rest_88 : decode cX8_rest 88 = .ok (.aload_n 1, 1) := dk_43 (dk_at dksX8_rest_3 14 rfl rfl)
theorem dX8_rest_89 : decode cX8_rest 89 = .ok (.aload_n 0, 1) := dk_42 (dk_at dksX8_rest_3 15 rfl rfl)
theorem dX8_rest_90 : decode cX8_rest 90 = .ok (.bipush 42, 2) := dk_16 42 (dk_at dksX8_rest_3 16 rfl rfl)
theorem dX8_rest_92 : decode cX8_rest 92 = .ok (.iconst 1, 1) := dk_4 (dk_at dksX8_rest_3 18 rfl rfl)
theorem dX8_rest_93 : decode cX8_rest 93 = .ok (.invokevirtual 62, 3) := dk_182 0 62 (dk_at dksX8_rest_3 19 rfl rfl)
theorem dX8_rest_96 : decode cX8_rest 96 = .ok (.putfield 72, 3) := dk_181 0 72 (dk_at dksX8_rest_4 0 rfl rfl)
theorem dX8_rest_99 : decode cX8_rest 99 = .ok (.goto 17, 3) := dk_167 0 17 (dk_at dksX8_rest_4 3 rfl rfl)
theorem dX8_rest_102 : decode cX8_rest 102 = .ok (.aload_n 1, 1) := dk_43 (dk_at dksX8_rest_4 6 rfl rfl)
theorem dX8_rest_103 : decode cX8_rest 103 = .ok (.aload_n 0, 1) := dk_42 (dk_at dksX8_rest_4 7 rfl rfl)
theorem dX8_rest_104 : decode cX8_rest 104 = .ok (.bipush 45, 2) := dk_16 45 (dk_at dksX8_rest_4 8 rfl rfl)
theorem dX8_rest_106 : decode cX8_rest 106 = .ok (.iconst 1, 1) := dk_4 (dk_at dksX8_rest_4 10 rfl rfl)
theorem dX8_rest_107 : decode cX8_rest 107 = .ok (.invokevirtual 62, 3) := dk_182 0 62 (dk_at dksX8_rest_4 11 rfl rfl)
theorem dX8_rest_110 : decode cX8_rest 110 = .ok (.putfield 66, 3) := dk_181 0 66 (dk_at dksX8_rest_4 14 rfl rfl)
theorem dX8_rest_113 : decode cX8_rest 113 = .ok (.goto 3, 3) := dk_167 0 3 (dk_at dksX8_rest_4 17 rfl rfl)
theorem dX8_rest_116 : decode cX8_rest 116 = .ok (.return_, 1) := dk_177 (dk_at dksX8_rest_4 20 rfl rfl)
def dkwX8_numberBehind_0 : List UInt8 := [42, 42, 27, 182, 0, 49, 182, 0, 45, 42, 28, 182, 0, 53, 172]
abbrev dktX8_numberBehind_0 : List UInt8 := dkwX8_numberBehind_0 ++ []
theorem dksX8_numberBehind_0 : cX8_numberBehind.data.toList.drop 0 = dktX8_numberBehind_0 := by decide +kernel
theorem dX8_numberBehind_0 : decode cX8_numberBehind 0 = .ok (.aload_n 0, 1) := dk_42 (dk_at dksX8_numberBehind_0 0 rfl rfl)
theorem dX8_numberBehind_1 : decode cX8_numberBehind 1 = .ok (.aload_n 0, 1) := dk_42 (dk_at dksX8_numberBehind_0 1 rfl rfl)
theorem dX8_numberBehind_2 : decode cX8_numberBehind 2 = .ok (.iload_n 1, 1) := dk_27 (dk_at dksX8_numberBehind_0 2 rfl rfl)
theorem dX8_numberBehind_3 : decode cX8_numberBehind 3 = .ok (.invokevirtual 49, 3) := dk_182 0 49 (dk_at dksX8_numberBehind_0 3 rfl rfl)
theorem dX8_numberBehind_6 : decode cX8_numberBehind 6 = .ok (.invokevirtual 45, 3) := dk_182 0 45 (dk_at dksX8_numberBehind_0 6 rfl rfl)
theorem dX8_numberBehind_9 : decode cX8_numberBehind 9 = .ok (.aload_n 0, 1) := dk_42 (dk_at dksX8_numberBehind_0 9 rfl rfl)
theorem dX8_numberBehind_10 : decode cX8_numberBehind 10 = .ok (.iload_n 2, 1) := dk_28 (dk_at dksX8_numberBehind_0 10 rfl rfl)
theorem dX8_numberBehind_11 : decode cX8_numberBehind 11 = .ok (.invokevirtual 53, 3) := dk_182 0 53 (dk_at dksX8_numberBehind_0 11 rfl rfl)
theorem dX8_numberBehind_14 : decode cX8_numberBehind 14 = .ok (.ireturn, 1) := dk_172 (dk_at dksX8_numberBehind_0 14 rfl rfl)
def dkwX8_takes_1 : List UInt8 := [167, 0, 4, 3, 96, 181, 0, 15, 28, 172]
abbrev dktX8_takes_1 : List UInt8 := dkwX8_takes_1 ++ []
def dkwX8_takes_0 : List UInt8 := [42, 182, 0, 38, 27, 160, 0, 7, 4, 167, 0, 4, 3, 61, 42, 89, 180, 0, 15, 28, 153, 0, 7, 4]
abbrev dktX8_takes_0 : List UInt8 := dkwX8_takes_0 ++ dktX8_takes_1
theorem dksX8_takes_0 : cX8_takes.data.toList.drop 0 = dktX8_takes_0 := by decide +kernel
theorem dksX8_takes_1 : cX8_takes.data.toList.drop 24 = dktX8_takes_1 := dk_seg dksX8_takes_0 24 rfl rfl
theorem dX8_takes_0 : decode cX8_takes 0 = .ok (.aload_n 0, 1) := dk_42 (dk_at dksX8_takes_0 0 rfl rfl)
theorem dX8_takes_1 : decode cX8_takes 1 = .ok (.invokevirtual 38, 3) := dk_182 0 38 (dk_at dksX8_takes_0 1 rfl rfl)
theorem dX8_takes_4 : decode cX8_takes 4 = .ok (.iload_n 1, 1) := dk_27 (dk_at dksX8_takes_0 4 rfl rfl)
theorem dX8_takes_5 : decode cX8_takes 5 = .ok (.if_icmp .ne 7, 3) := dk_160 0 7 (dk_at dksX8_takes_0 5 rfl rfl)
theorem dX8_takes_8 : decode cX8_takes 8 = .ok (.iconst 1, 1) := dk_4 (dk_at dksX8_takes_0 8 rfl rfl)
theorem dX8_takes_9 : decode cX8_takes 9 = .ok (.goto 4, 3) := dk_167 0 4 (dk_at dksX8_takes_0 9 rfl rfl)
theorem dX8_takes_12 : decode cX8_takes 12 = .ok (.iconst 0, 1) := dk_3 (dk_at dksX8_takes_0 12 rfl rfl)
theorem dX8_takes_13 : decode cX8_takes 13 = .ok (.istore_n 2, 1) := dk_61 (dk_at dksX8_takes_0 13 rfl rfl)
theorem dX8_takes_14 : decode cX8_takes 14 = .ok (.aload_n 0, 1) := dk_42 (dk_at dksX8_takes_0 14 rfl rfl)
theorem dX8_takes_15 : decode cX8_takes 15 = .ok (.dup, 1) := dk_89 (dk_at dksX8_takes_0 15 rfl rfl)
theorem dX8_takes_16 : decode cX8_takes 16 = .ok (.getfield 15, 3) := dk_180 0 15 (dk_at dksX8_takes_0 16 rfl rfl)
theorem dX8_takes_19 : decode cX8_takes 19 = .ok (.iload_n 2, 1) := dk_28 (dk_at dksX8_takes_0 19 rfl rfl)
theorem dX8_takes_20 : decode cX8_takes 20 = .ok (.ifCond .eq 7, 3) := dk_153 0 7 (dk_at dksX8_takes_0 20 rfl rfl)
theorem dX8_takes_23 : decode cX8_takes 23 = .ok (.iconst 1, 1) := dk_4 (dk_at dksX8_takes_0 23 rfl rfl)
theorem dX8_takes_24 : decode cX8_takes 24 = .ok (.goto 4, 3) := dk_167 0 4 (dk_at dksX8_takes_1 0 rfl rfl)
theorem dX8_takes_27 : decode cX8_takes 27 = .ok (.iconst 0, 1) := dk_3 (dk_at dksX8_takes_1 3 rfl rfl)
theorem dX8_takes_28 : decode cX8_takes 28 = .ok (.iadd, 1) := dk_96 (dk_at dksX8_takes_1 4 rfl rfl)
theorem dX8_takes_29 : decode cX8_takes 29 = .ok (.putfield 15, 3) := dk_181 0 15 (dk_at dksX8_takes_1 5 rfl rfl)
theorem dX8_takes_32 : decode cX8_takes 32 = .ok (.iload_n 2, 1) := dk_28 (dk_at dksX8_takes_1 8 rfl rfl)
theorem dX8_takes_33 : decode cX8_takes 33 = .ok (.ireturn, 1) := dk_172 (dk_at dksX8_takes_1 9 rfl rfl)
def dkwX8_isOn_1 : List UInt8 := [167, 0, 4, 3, 182, 0, 45, 27, 153, 0, 7, 4, 167, 0, 4, 3, 172]
abbrev dktX8_isOn_1 : List UInt8 := dkwX8_isOn_1 ++ []
def dkwX8_isOn_0 : List UInt8 := [42, 16, 43, 182, 0, 49, 60, 42, 27, 154, 0, 12, 42, 16, 45, 182, 0, 49, 153, 0, 7, 4]
abbrev dktX8_isOn_0 : List UInt8 := dkwX8_isOn_0 ++ dktX8_isOn_1
theorem dksX8_isOn_0 : cX8_isOn.data.toList.drop 0 = dktX8_isOn_0 := by decide +kernel
theorem dksX8_isOn_1 : cX8_isOn.data.toList.drop 22 = dktX8_isOn_1 := dk_seg dksX8_isOn_0 22 rfl rfl
theorem dX8_isOn_0 : decode cX8_isOn 0 = .ok (.aload_n 0, 1) := dk_42 (dk_at dksX8_isOn_0 0 rfl rfl)
theorem dX8_isOn_1 : decode cX8_isOn 1 = .ok (.bipush 43, 2) := dk_16 43 (dk_at dksX8_isOn_0 1 rfl rfl)
theorem dX8_isOn_3 : decode cX8_isOn 3 = .ok (.invokevirtual 49, 3) := dk_182 0 49 (dk_at dksX8_isOn_0 3 rfl rfl)
theorem dX8_isOn_6 : decode cX8_isOn 6 = .ok (.istore_n 1, 1) := dk_60 (dk_at dksX8_isOn_0 6 rfl rfl)
theorem dX8_isOn_7 : decode cX8_isOn 7 = .ok (.aload_n 0, 1) := dk_42 (dk_at dksX8_isOn_0 7 rfl rfl)
theorem dX8_isOn_8 : decode cX8_isOn 8 = .ok (.iload_n 1, 1) := dk_27 (dk_at dksX8_isOn_0 8 rfl rfl)
theorem dX8_isOn_9 : decode cX8_isOn 9 = .ok (.ifCond .ne 12, 3) := dk_154 0 12 (dk_at dksX8_isOn_0 9 rfl rfl)
theorem dX8_isOn_12 : decode cX8_isOn 12 = .ok (.aload_n 0, 1) := dk_42 (dk_at dksX8_isOn_0 12 rfl rfl)
theorem dX8_isOn_13 : decode cX8_isOn 13 = .ok (.bipush 45, 2) := dk_16 45 (dk_at dksX8_isOn_0 13 rfl rfl)
theorem dX8_isOn_15 : decode cX8_isOn 15 = .ok (.invokevirtual 49, 3) := dk_182 0 49 (dk_at dksX8_isOn_0 15 rfl rfl)
theorem dX8_isOn_18 : decode cX8_isOn 18 = .ok (.ifCond .eq 7, 3) := dk_153 0 7 (dk_at dksX8_isOn_0 18 rfl rfl)
theorem dX8_isOn_21 : decode cX8_isOn 21 = .ok (.iconst 1, 1) := dk_4 (dk_at dksX8_isOn_0 21 rfl rfl)
theorem dX8_isOn_22 : decode cX8_isOn 22 = .ok (.goto 4, 3) := dk_167 0 4 (dk_at dksX8_isOn_1 0 rfl rfl)
theorem dX8_isOn_25 : decode cX8_isOn 25 = .ok (.iconst 0, 1) := dk_3 (dk_at dksX8_isOn_1 3 rfl rfl)
theorem dX8_isOn_26 : decode cX8_isOn 26 = .ok (.invokevirtual 45, 3) := dk_182 0 45 (dk_at dksX8_isOn_1 4 rfl rfl)
theorem dX8_isOn_29 : decode cX8_isOn 29 = .ok (.iload_n 1, 1) := dk_27 (dk_at dksX8_isOn_1 7 rfl rfl)
theorem dX8_isOn_30 : decode cX8_isOn 30 = .ok (.ifCond .eq 7, 3) := dk_153 0 7 (dk_at dksX8_isOn_1 8 rfl rfl)
theorem dX8_isOn_33 : decode cX8_isOn 33 = .ok (.iconst 1, 1) := dk_4 (dk_at dksX8_isOn_1 11 rfl rfl)
theorem dX8_isOn_34 : decode cX8_isOn 34 = .ok (.goto 4, 3) := dk_167 0 4 (dk_at dksX8_isOn_1 12 rfl rfl)
theorem dX8_isOn_37 : decode cX8_isOn 37 = .ok (.iconst 0, 1) := dk_3 (dk_at dksX8_isOn_1 15 rfl rfl)
theorem dX8_isOn_38 : decode cX8_isOn 38 = .ok (.ireturn, 1) := dk_172 (dk_at dksX8_isOn_1 16 rfl rfl)
def dkwX9_init_0 : List UInt8 := [42, 1, 1, 3, 3, 183, 0, 1, 42, 27, 181, 0, 7, 177]
abbrev dktX9_init_0 : List UInt8 := dkwX9_init_0 ++ []
theorem dksX9_init_0 : cX9_init.data.toList.drop 0 = dktX9_init_0 := by decide +kernel
theorem dX9_init_0 : decode cX9_init 0 = .ok (.aload_n 0, 1) := dk_42 (dk_at dksX9_init_0 0 rfl rfl)
theorem dX9_init_1 : decode cX9_init 1 = .ok (.aconst_null, 1) := dk_1 (dk_at dksX9_init_0 1 rfl rfl)
theorem dX9_init_2 : decode cX9_init 2 = .ok (.aconst_null, 1) := dk_1 (dk_at dksX9_init_0 2 rfl rfl)
theorem dX9_init_3 : decode cX9_init 3 = .ok (.iconst 0, 1) := dk_3 (dk_at dksX9_init_0 3 rfl rfl)
theorem dX9_init_4 : decode cX9_init 4 = .ok (.iconst 0, 1) := dk_3 (dk_at dksX9_init_0 4 rfl rfl)
theorem dX9_init_5 : decode cX9_init 5 = .ok (.invokespecial 1, 3) := dk_183 0 1 (dk_at dksX9_init_0 5 rfl rfl)
theorem dX9_init_8 : decode cX9_init 8 = .ok (.aload_n 0, 1) := dk_42 (dk_at dksX9_init_0 8 rfl rfl)
theorem dX9_init_9 : decode cX9_init 9 = .ok (.iload_n 1, 1) := dk_27 (dk_at dksX9_init_0 9 rfl rfl)
theorem dX9_init_10 : decode cX9_init 10 = .ok (.putfield 7, 3) := dk_181 0 7 (dk_at dksX9_init_0 10 rfl rfl)
theorem dX9_init_13 : decode cX9_init 13 = .ok (.return_, 1) := dk_177 (dk_at dksX9_init_0 13 rfl rfl)
def dkwX10_init_0 : List UInt8 := [42, 183, 0, 1, 42, 27, 181, 0, 7, 177]
abbrev dktX10_init_0 : List UInt8 := dkwX10_init_0 ++ []
theorem dksX10_init_0 : cX10_init.data.toList.drop 0 = dktX10_init_0 := by decide +kernel
theorem dX10_init_0 : decode cX10_init 0 = .ok (.aload_n 0, 1) := dk_42 (dk_at dksX10_init_0 0 rfl rfl)
theorem dX10_init_1 : decode cX10_init 1 = .ok (.invokespecial 1, 3) := dk_183 0 1 (dk_at dksX10_init_0 1 rfl rfl)
theorem dX10_init_4 : decode cX10_init 4 = .ok (.aload_n 0, 1) := dk_42 (dk_at dksX10_init_0 4 rfl rfl)
theorem dX10_init_5 : decode cX10_init 5 = .ok (.iload_n 1, 1) := dk_27 (dk_at dksX10_init_0 5 rfl rfl)
theorem dX10_init_6 : decode cX10_init 6 = .ok (.putfield 7, 3) := dk_181 0 7 (dk_at dksX10_init_0 6 rfl rfl)
theorem dX10_init_9 : decode cX10_init 9 = .ok (.return_, 1) := dk_177 (dk_at dksX10_init_0 9 rfl rfl)
def dkwX10_isCarriedOut_0 : List UInt8 := [42, 43, 182, 0, 78, 172, 77, 3, 172]
abbrev dktX10_isCarriedOut_0 : List UInt8 := dkwX10_isCarriedOut_0 ++ []
theorem dksX10_isCarriedOut_0 : cX10_isCarriedOut.data.toList.drop 0 = dktX10_isCarriedOut_0 := by decide +kernel
theorem dX10_isCarriedOut_0 : decode cX10_isCarriedOut 0 = .ok (.aload_n 0, 1) := dk_42 (dk_at dksX10_isCarriedOut_0 0 rfl rfl)
theorem dX10_isCarriedOut_1 : decode cX10_isCarriedOut 1 = .ok (.aload_n 1, 1) := dk_43 (dk_at dksX10_isCarriedOut_0 1 rfl rfl)
theorem dX10_isCarriedOut_2 : decode cX10_isCarriedOut 2 = .ok (.invokevirtual 78, 3) := dk_182 0 78 (dk_at dksX10_isCarriedOut_0 2 rfl rfl)
theorem dX10_isCarriedOut_5 : decode cX10_isCarriedOut 5 = .ok (.ireturn, 1) := dk_172 (dk_at dksX10_isCarriedOut_0 5 rfl rfl)
theorem dX10_isCarriedOut_6 : decode cX10_isCarriedOut 6 = .ok (.astore_n 2, 1) := dk_77 (dk_at dksX10_isCarriedOut_0 6 rfl rfl)
theorem dX10_isCarriedOut_7 : decode cX10_isCarriedOut 7 = .ok (.iconst 0, 1) := dk_3 (dk_at dksX10_isCarriedOut_0 7 rfl rfl)
theorem dX10_isCarriedOut_8 : decode cX10_isCarriedOut 8 = .ok (.ireturn, 1) := dk_172 (dk_at dksX10_isCarriedOut_0 8 rfl rfl)
def dkwX10_isDone_5 : List UInt8 := [182, 0, 74, 172]
abbrev dktX10_isDone_5 : List UInt8 := dkwX10_isDone_5 ++ []
def dkwX10_isDone_4 : List UInt8 := [155, 0, 7, 4, 167, 0, 4, 3, 172, 43, 182, 0, 71, 155, 0, 7, 4, 167, 0, 4, 3, 172, 42, 43]
abbrev dktX10_isDone_4 : List UInt8 := dkwX10_isDone_4 ++ dktX10_isDone_5
def dkwX10_isDone_3 : List UInt8 := [167, 0, 4, 3, 172, 43, 182, 0, 64, 155, 0, 7, 4, 167, 0, 4, 3, 172, 43, 182, 0, 68]
abbrev dktX10_isDone_3 : List UInt8 := dkwX10_isDone_3 ++ dktX10_isDone_4
def dkwX10_isDone_2 : List UInt8 := [42, 180, 0, 13, 184, 0, 25, 153, 0, 18, 43, 42, 180, 0, 13, 182, 0, 61, 155, 0, 7, 4]
abbrev dktX10_isDone_2 : List UInt8 := dkwX10_isDone_2 ++ dktX10_isDone_3
def dkwX10_isDone_1 : List UInt8 := [171, 0, 0, 0, 0, 0, 0, 110, 0, 0, 0, 4, 0, 0, 0, 101, 0, 0, 0, 97, 0, 0, 0, 104, 0, 0, 0, 84, 0, 0, 0, 110, 0, 0, 0, 71, 0, 0, 0, 114, 0, 0, 0, 44]
abbrev dktX10_isDone_1 : List UInt8 := dkwX10_isDone_1 ++ dktX10_isDone_2
def dkwX10_isDone_0 : List UInt8 := [42, 180, 0, 7]
abbrev dktX10_isDone_0 : List UInt8 := dkwX10_isDone_0 ++ dktX10_isDone_1
theorem dksX10_isDone_0 : cX10_isDone.data.toList.drop 0 = dktX10_isDone_0 := by decide +kernel
theorem dksX10_isDone_1 : cX10_isDone.data.toList.drop 4 = dktX10_isDone_1 := dk_seg dksX10_isDone_0 4 rfl rfl
theorem dksX10_isDone_2 : cX10_isDone.data.toList.drop 48 = dktX10_isDone_2 := dk_seg dksX10_isDone_1 44 rfl rfl
theorem dksX10_isDone_3 : cX10_isDone.data.toList.drop 70 = dktX10_isDone_3 := dk_seg dksX10_isDone_2 22 rfl rfl
theorem dksX10_isDone_4 : cX10_isDone.data.toList.drop 92 = dktX10_isDone_4 := dk_seg dksX10_isDone_3 22 rfl rfl
theorem dksX10_isDone_5 : cX10_isDone.data.toList.drop 116 = dktX10_isDone_5 := dk_seg dksX10_isDone_4 24 rfl rfl
theorem dX10_isDone_0 : decode cX10_isDone 0 = .ok (.aload_n 0, 1) := dk_42 (dk_at dksX10_isDone_0 0 rfl rfl)
theorem dX10_isDone_1 : decode cX10_isDone 1 = .ok (.getfield 7, 3) := dk_180 0 7 (dk_at dksX10_isDone_0 1 rfl rfl)
theorem dX10_isDone_4 : decode cX10_isDone 4 = .ok (.lookupswitch 110 #[(101, 97), (104, 84), (110, 71), (114, 44)], 44) := by decide +kernel
theorem dX10_isDone_48 : decode cX10_isDone 48 = .ok (.aload_n 0, 1) := dk_42 (dk_at dksX10_isDone_2 0 rfl rfl)
theorem dX10_isDone_49 : decode cX10_isDone 49 = .ok (.getfield 13, 3) := dk_180 0 13 (dk_at dksX10_isDone_2 1 rfl rfl)
theorem dX10_isDone_52 : decode cX10_isDone 52 = .ok (.invokestatic 25, 3) := dk_184 0 25 (dk_at dksX10_isDone_2 4 rfl rfl)
theorem dX10_isDone_55 : decode cX10_isDone 55 = .ok (.ifCond .eq 18, 3) := dk_153 0 18 (dk_at dksX10_isDone_2 7 rfl rfl)
theorem dX10_isDone_58 : decode cX10_isDone 58 = .ok (.aload_n 1, 1) := dk_43 (dk_at dksX10_isDone_2 10 rfl rfl)
theorem dX10_isDone_59 : decode cX10_isDone 59 = .ok (.aload_n 0, 1) := dk_42 (dk_at dksX10_isDone_2 11 rfl rfl)
theorem dX10_isDone_60 : decode cX10_isDone 60 = .ok (.getfield 13, 3) := dk_180 0 13 (dk_at dksX10_isDone_2 12 rfl rfl)
theorem dX10_isDone_63 : decode cX10_isDone 63 = .ok (.invokevirtual 61, 3) := dk_182 0 61 (dk_at dksX10_isDone_2 15 rfl rfl)
theorem dX10_isDone_66 : decode cX10_isDone 66 = .ok (.ifCond .lt 7, 3) := dk_155 0 7 (dk_at dksX10_isDone_2 18 rfl rfl)
theorem dX10_isDone_69 : decode cX10_isDone 69 = .ok (.iconst 1, 1) := dk_4 (dk_at dksX10_isDone_2 21 rfl rfl)
theorem dX10_isDone_70 : decode cX10_isDone 70 = .ok (.goto 4, 3) := dk_167 0 4 (dk_at dksX10_isDone_3 0 rfl rfl)
theorem dX10_isDone_73 : decode cX10_isDone 73 = .ok (.iconst 0, 1) := dk_3 (dk_at dksX10_isDone_3 3 rfl rfl)
theorem dX10_isDone_74 : decode cX10_isDone 74 = .ok (.ireturn, 1) := dk_172 (dk_at dksX10_isDone_3 4 rfl rfl)
theorem dX10_isDone_75 : decode cX10_isDone 75 = .ok (.aload_n 1, 1) := dk_43 (dk_at dksX10_isDone_3 5 rfl rfl)
theorem dX10_isDone_76 : decode cX10_isDone 76 = .ok (.invokevirtual 64, 3) := dk_182 0 64 (dk_at dksX10_isDone_3 6 rfl rfl)
theorem dX10_isDone_79 : decode cX10_isDone 79 = .ok (.ifCond .lt 7, 3) := dk_155 0 7 (dk_at dksX10_isDone_3 9 rfl rfl)
theorem dX10_isDone_82 : decode cX10_isDone 82 = .ok (.iconst 1, 1) := dk_4 (dk_at dksX10_isDone_3 12 rfl rfl)
theorem dX10_isDone_83 : decode cX10_isDone 83 = .ok (.goto 4, 3) := dk_167 0 4 (dk_at dksX10_isDone_3 13 rfl rfl)
theorem dX10_isDone_86 : decode cX10_isDone 86 = .ok (.iconst 0, 1) := dk_3 (dk_at dksX10_isDone_3 16 rfl rfl)
theorem dX10_isDone_87 : decode cX10_isDone 87 = .ok (.ireturn, 1) := dk_172 (dk_at dksX10_isDone_3 17 rfl rfl)
theorem dX10_isDone_88 : decode cX10_isDone 88 = .ok (.aload_n 1, 1) := dk_43 (dk_at dksX10_isDone_3 18 rfl rfl)
theorem dX10_isDone_89 : decode cX10_isDone 89 = .ok (.invokevirtual 68, 3) := dk_182 0 68 (dk_at dksX10_isDone_3 19 rfl rfl)
theorem dX10_isDone_92 : decode cX10_isDone 92 = .ok (.ifCond .lt 7, 3) := dk_155 0 7 (dk_at dksX10_isDone_4 0 rfl rfl)
theorem dX10_isDone_95 : decode cX10_isDone 95 = .ok (.iconst 1, 1) := dk_4 (dk_at dksX10_isDone_4 3 rfl rfl)
theorem dX10_isDone_96 : decode cX10_isDone 96 = .ok (.goto 4, 3) := dk_167 0 4 (dk_at dksX10_isDone_4 4 rfl rfl)
theorem dX10_isDone_99 : decode cX10_isDone 99 = .ok (.iconst 0, 1) := dk_3 (dk_at dksX10_isDone_4 7 rfl rfl)
theorem dX10_isDone_100 : decode cX10_isDone 100 = .ok (.ireturn, 1) := dk_172 (dk_at dksX10_isDone_4 8 rfl rfl)
theorem dX10_isDone_101 : decode cX10_isDone 101 = .ok (.aload_n 1, 1) := dk_43 (dk_at dksX10_isDone_4 9 rfl rfl)
theorem dX10_isDone_102 : decode cX10_isDone 102 = .ok (.invokevirtual 71, 3) := dk_182 0 71 (dk_at dksX10_isDone_4 10 rfl rfl)
theorem dX10_isDone_105 : decode cX10_isDone 105 = .ok (.ifCond .lt 7, 3) := dk_155 0 7 (dk_at dksX10_isDone_4 13 rfl rfl)
theorem dX10_isDone_108 : decode cX10_isDone 108 = .ok (.iconst 1, 1) := dk_4 (dk_at dksX10_isDone_4 16 rfl rfl)
theorem dX10_isDone_109 : decode cX10_isDone 109 = .ok (.goto 4, 3) := dk_167 0 4 (dk_at dksX10_isDone_4 17 rfl rfl)
theorem dX10_isDone_112 : decode cX10_isDone 112 = .ok (.iconst 0, 1) := dk_3 (dk_at dksX10_isDone_4 20 rfl rfl)
theorem dX10_isDone_113 : decode cX10_isDone 113 = .ok (.ireturn, 1) := dk_172 (dk_at dksX10_isDone_4 21 rfl rfl)
theorem dX10_isDone_114 : decode cX10_isDone 114 = .ok (.aload_n 0, 1) := dk_42 (dk_at dksX10_isDone_4 22 rfl rfl)
theorem dX10_isDone_115 : decode cX10_isDone 115 = .ok (.aload_n 1, 1) := dk_43 (dk_at dksX10_isDone_4 23 rfl rfl)
theorem dX10_isDone_116 : decode cX10_isDone 116 = .ok (.invokevirtual 74, 3) := dk_182 0 74 (dk_at dksX10_isDone_5 0 rfl rfl)
theorem dX10_isDone_119 : decode cX10_isDone 119 = .ok (.ireturn, 1) := dk_172 (dk_at dksX10_isDone_5 3 rfl rfl)
def dkwX10_isOfRope_8 : List UInt8 := [42, 180, 0, 22, 182, 0, 58, 155, 0, 7, 4, 167, 0, 4, 3, 172]
abbrev dktX10_isOfRope_8 : List UInt8 := dkwX10_isOfRope_8 ++ []
def dkwX10_isOfRope_7 : List UInt8 := [155, 0, 7, 4, 167, 0, 4, 3, 172, 42, 180, 0, 22, 184, 0, 55, 153, 0, 22, 43, 42, 180, 0, 13]
abbrev dktX10_isOfRope_7 : List UInt8 := dkwX10_isOfRope_7 ++ dktX10_isOfRope_8
def dkwX10_isOfRope_6 : List UInt8 := [180, 0, 41, 182, 0, 47, 155, 0, 7, 4, 167, 0, 4, 3, 172, 43, 42, 180, 0, 13, 182, 0, 51]
abbrev dktX10_isOfRope_6 : List UInt8 := dkwX10_isOfRope_6 ++ dktX10_isOfRope_7
def dkwX10_isOfRope_5 : List UInt8 := [153, 0, 36, 42, 180, 0, 41, 184, 0, 44, 153, 0, 26, 43, 42, 180, 0, 13, 42, 180, 0, 22, 42]
abbrev dktX10_isOfRope_5 : List UInt8 := dkwX10_isOfRope_5 ++ dktX10_isOfRope_6
def dkwX10_isOfRope_4 : List UInt8 := [167, 0, 4, 3, 182, 0, 34, 155, 0, 7, 4, 167, 0, 4, 3, 172, 42, 180, 0, 22, 184, 0, 38]
abbrev dktX10_isOfRope_4 : List UInt8 := dkwX10_isOfRope_4 ++ dktX10_isOfRope_5
def dkwX10_isOfRope_3 : List UInt8 := [155, 0, 7, 4, 167, 0, 4, 3, 172, 43, 42, 180, 0, 13, 42, 180, 0, 22, 4, 160, 0, 7, 4]
abbrev dktX10_isOfRope_3 : List UInt8 := dkwX10_isOfRope_3 ++ dktX10_isOfRope_4
def dkwX10_isOfRope_2 : List UInt8 := [42, 180, 0, 22, 184, 0, 25, 153, 0, 22, 43, 42, 180, 0, 13, 42, 180, 0, 22, 182, 0, 30]
abbrev dktX10_isOfRope_2 : List UInt8 := dkwX10_isOfRope_2 ++ dktX10_isOfRope_3
def dkwX10_isOfRope_1 : List UInt8 := [171, 0, 0, 0, 0, 0, 166, 0, 0, 0, 4, 0, 0, 0, 99, 0, 0, 0, 149, 0, 0, 0, 112, 0, 0, 0, 104, 0, 0, 0, 115, 0, 0, 0, 74, 0, 0, 0, 118, 0, 0, 0, 43]
abbrev dktX10_isOfRope_1 : List UInt8 := dkwX10_isOfRope_1 ++ dktX10_isOfRope_2
def dkwX10_isOfRope_0 : List UInt8 := [43, 42, 180, 0, 13, 182, 0, 16, 154, 0, 5, 3, 172, 42, 180, 0, 7]
abbrev dktX10_isOfRope_0 : List UInt8 := dkwX10_isOfRope_0 ++ dktX10_isOfRope_1
theorem dksX10_isOfRope_0 : cX10_isOfRope.data.toList.drop 0 = dktX10_isOfRope_0 := by decide +kernel
theorem dksX10_isOfRope_1 : cX10_isOfRope.data.toList.drop 17 = dktX10_isOfRope_1 := dk_seg dksX10_isOfRope_0 17 rfl rfl
theorem dksX10_isOfRope_2 : cX10_isOfRope.data.toList.drop 60 = dktX10_isOfRope_2 := dk_seg dksX10_isOfRope_1 43 rfl rfl
theorem dksX10_isOfRope_3 : cX10_isOfRope.data.toList.drop 82 = dktX10_isOfRope_3 := dk_seg dksX10_isOfRope_2 22 rfl rfl
theorem dksX10_isOfRope_4 : cX10_isOfRope.data.toList.drop 105 = dktX10_isOfRope_4 := dk_seg dksX10_isOfRope_3 23 rfl rfl
theorem dksX10_isOfRope_5 : cX10_isOfRope.data.toList.drop 128 = dktX10_isOfRope_5 := dk_seg dksX10_isOfRope_4 23 rfl rfl
theorem dksX10_isOfRope_6 : cX10_isOfRope.data.toList.drop 151 = dktX10_isOfRope_6 := dk_seg dksX10_isOfRope_5 23 rfl rfl
theorem dksX10_isOfRope_7 : cX10_isOfRope.data.toList.drop 174 = dktX10_isOfRope_7 := dk_seg dksX10_isOfRope_6 23 rfl rfl
theorem dksX10_isOfRope_8 : cX10_isOfRope.data.toList.drop 198 = dktX10_isOfRope_8 := dk_seg dksX10_isOfRope_7 24 rfl rfl
theorem dX10_isOfRope_0 : decode cX10_isOfRope 0 = .ok (.aload_n 1, 1) := dk_43 (dk_at dksX10_isOfRope_0 0 rfl rfl)
theorem dX10_isOfRope_1 : decode cX10_isOfRope 1 = .ok (.aload_n 0, 1) := dk_42 (dk_at dksX10_isOfRope_0 1 rfl rfl)
theorem dX10_isOfRope_2 : decode cX10_isOfRope 2 = .ok (.getfield 13, 3) := dk_180 0 13 (dk_at dksX10_isOfRope_0 2 rfl rfl)
theorem dX10_isOfRope_5 : decode cX10_isOfRope 5 = .ok (.invokevirtual 16, 3) := dk_182 0 16 (dk_at dksX10_isOfRope_0 5 rfl rfl)
theorem dX10_isOfRope_8 : decode cX10_isOfRope 8 = .ok (.ifCond .ne 5, 3) := dk_154 0 5 (dk_at dksX10_isOfRope_0 8 rfl rfl)
theorem dX10_isOfRope_11 : decode cX10_isOfRope 11 = .ok (.iconst 0, 1) := dk_3 (dk_at dksX10_isOfRope_0 11 rfl rfl)
theorem dX10_isOfRope_12 : decode cX10_isOfRope 12 = .ok (.ireturn, 1) := dk_172 (dk_at dksX10_isOfRope_0 12 rfl rfl)
theorem dX10_isOfRope_13 : decode cX10_isOfRope 13 = .ok (.aload_n 0, 1) := dk_42 (dk_at dksX10_isOfRope_0 13 rfl rfl)
theorem dX10_isOfRope_14 : decode cX10_isOfRope 14 = .ok (.getfield 7, 3) := dk_180 0 7 (dk_at dksX10_isOfRope_0 14 rfl rfl)
theorem dX10_isOfRope_17 : decode cX10_isOfRope 17 = .ok (.lookupswitch 166 #[(99, 149), (112, 104), (115, 74), (118, 43)], 43) := by decide +kernel
theorem dX10_isOfRope_60 : decode cX10_isOfRope 60 = .ok (.aload_n 0, 1) := dk_42 (dk_at dksX10_isOfRope_2 0 rfl rfl)
theorem dX10_isOfRope_61 : decode cX10_isOfRope 61 = .ok (.getfield 22, 3) := dk_180 0 22 (dk_at dksX10_isOfRope_2 1 rfl rfl)
theorem dX10_isOfRope_64 : decode cX10_isOfRope 64 = .ok (.invokestatic 25, 3) := dk_184 0 25 (dk_at dksX10_isOfRope_2 4 rfl rfl)
theorem dX10_isOfRope_67 : decode cX10_isOfRope 67 = .ok (.ifCond .eq 22, 3) := dk_153 0 22 (dk_at dksX10_isOfRope_2 7 rfl rfl)
theorem dX10_isOfRope_70 : decode cX10_isOfRope 70 = .ok (.aload_n 1, 1) := dk_43 (dk_at dksX10_isOfRope_2 10 rfl rfl)
theorem dX10_isOfRope_71 : decode cX10_isOfRope 71 = .ok (.aload_n 0, 1) := dk_42 (dk_at dksX10_isOfRope_2 11 rfl rfl)
theorem dX10_isOfRope_72 : decode cX10_isOfRope 72 = .ok (.getfield 13, 3) := dk_180 0 13 (dk_at dksX10_isOfRope_2 12 rfl rfl)
theorem dX10_isOfRope_75 : decode cX10_isOfRope 75 = .ok (.aload_n 0, 1) := dk_42 (dk_at dksX10_isOfRope_2 15 rfl rfl)
theorem dX10_isOfRope_76 : decode cX10_isOfRope 76 = .ok (.getfield 22, 3) := dk_180 0 22 (dk_at dksX10_isOfRope_2 16 rfl rfl)
theorem dX10_isOfRope_79 : decode cX10_isOfRope 79 = .ok (.invokevirtual 30, 3) := dk_182 0 30 (dk_at dksX10_isOfRope_2 19 rfl rfl)
theorem dX10_isOfRope_82 : decode cX10_isOfRope 82 = .ok (.ifCond .lt 7, 3) := dk_155 0 7 (dk_at dksX10_isOfRope_3 0 rfl rfl)
theorem dX10_isOfRope_85 : decode cX10_isOfRope 85 = .ok (.iconst 1, 1) := dk_4 (dk_at dksX10_isOfRope_3 3 rfl rfl)
theorem dX10_isOfRope_86 : decode cX10_isOfRope 86 = .ok (.goto 4, 3) := dk_167 0 4 (dk_at dksX10_isOfRope_3 4 rfl rfl)
theorem dX10_isOfRope_89 : decode cX10_isOfRope 89 = .ok (.iconst 0, 1) := dk_3 (dk_at dksX10_isOfRope_3 7 rfl rfl)
theorem dX10_isOfRope_90 : decode cX10_isOfRope 90 = .ok (.ireturn, 1) := dk_172 (dk_at dksX10_isOfRope_3 8 rfl rfl)
theorem dX10_isOfRope_91 : decode cX10_isOfRope 91 = .ok (.aload_n 1, 1) := dk_43 (dk_at dksX10_isOfRope_3 9 rfl rfl)
theorem dX10_isOfRope_92 : decode cX10_isOfRope 92 = .ok (.aload_n 0, 1) := dk_42 (dk_at dksX10_isOfRope_3 10 rfl rfl)
theorem dX10_isOfRope_93 : decode cX10_isOfRope 93 = .ok (.getfield 13, 3) := dk_180 0 13 (dk_at dksX10_isOfRope_3 11 rfl rfl)
theorem dX10_isOfRope_96 : decode cX10_isOfRope 96 = .ok (.aload_n 0, 1) := dk_42 (dk_at dksX10_isOfRope_3 14 rfl rfl)
theorem dX10_isOfRope_97 : decode cX10_isOfRope 97 = .ok (.getfield 22, 3) := dk_180 0 22 (dk_at dksX10_isOfRope_3 15 rfl rfl)
theorem dX10_isOfRope_100 : decode cX10_isOfRope 100 = .ok (.iconst 1, 1) := dk_4 (dk_at dksX10_isOfRope_3 18 rfl rfl)
theorem dX10_isOfRope_101 : decode cX10_isOfRope 101 = .ok (.if_icmp .ne 7, 3) := dk_160 0 7 (dk_at dksX10_isOfRope_3 19 rfl rfl)
theorem dX10_isOfRope_104 : decode cX10_isOfRope 104 = .ok (.iconst 1, 1) := dk_4 (dk_at dksX10_isOfRope_3 22 rfl rfl)
theorem dX10_isOfRope_105 : decode cX10_isOfRope 105 = .ok (.goto 4, 3) := dk_167 0 4 (dk_at dksX10_isOfRope_4 0 rfl rfl)
theorem dX10_isOfRope_108 : decode cX10_isOfRope 108 = .ok (.iconst 0, 1) := dk_3 (dk_at dksX10_isOfRope_4 3 rfl rfl)
theorem dX10_isOfRope_109 : decode cX10_isOfRope 109 = .ok (.invokevirtual 34, 3) := dk_182 0 34 (dk_at dksX10_isOfRope_4 4 rfl rfl)
theorem dX10_isOfRope_112 : decode cX10_isOfRope 112 = .ok (.ifCond .lt 7, 3) := dk_155 0 7 (dk_at dksX10_isOfRope_4 7 rfl rfl)
theorem dX10_isOfRope_115 : decode cX10_isOfRope 115 = .ok (.iconst 1, 1) := dk_4 (dk_at dksX10_isOfRope_4 10 rfl rfl)
theorem dX10_isOfRope_116 : decode cX10_isOfRope 116 = .ok (.goto 4, 3) := dk_167 0 4 (dk_at dksX10_isOfRope_4 11 rfl rfl)
theorem dX10_isOfRope_119 : decode cX10_isOfRope 119 = .ok (.iconst 0, 1) := dk_3 (dk_at dksX10_isOfRope_4 14 rfl rfl)
theorem dX10_isOfRope_120 : decode cX10_isOfRope 120 = .ok (.ireturn, 1) := dk_172 (dk_at dksX10_isOfRope_4 15 rfl rfl)
theorem dX10_isOfRope_121 : decode cX10_isOfRope 121 = .ok (.aload_n 0, 1) := dk_42 (dk_at dksX10_isOfRope_4 16 rfl rfl)
theorem dX10_isOfRope_122 : decode cX10_isOfRope 122 = .ok (.getfield 22, 3) := dk_180 0 22 (dk_at dksX10_isOfRope_4 17 rfl rfl)
theorem dX10_isOfRope_125 : decode cX10_isOfRope 125 = .ok (.invokestatic 38, 3) := dk_184 0 38 (dk_at dksX10_isOfRope_4 20 rfl rfl)
theorem dX10_isOfRope_128 : decode cX10_isOfRope 128 = .ok (.ifCond .eq 36, 3) := dk_153 0 36 (dk_at dksX10_isOfRope_5 0 rfl rfl)
theorem dX10_isOfRope_131 : decode cX10_isOfRope 131 = .ok (.aload_n 0, 1) := dk_42 (dk_at dksX10_isOfRope_5 3 rfl rfl)
theorem dX10_isOfRope_132 : decode cX10_isOfRope 132 = .ok (.getfield 41, 3) := dk_180 0 41 (dk_at dksX10_isOfRope_5 4 rfl rfl)
theorem dX10_isOfRope_135 : decode cX10_isOfRope 135 = .ok (.invokestatic 44, 3) := dk_184 0 44 (dk_at dksX10_isOfRope_5 7 rfl rfl)
theorem dX10_isOfRope_138 : decode cX10_isOfRope 138 = .ok (.ifCond .eq 26, 3) := dk_153 0 26 (dk_at dksX10_isOfRope_5 10 rfl rfl)
theorem dX10_isOfRope_141 : decode cX10_isOfRope 141 = .ok (.aload_n 1, 1) := dk_43 (dk_at dksX10_isOfRope_5 13 rfl rfl)
theorem dX10_isOfRope_142 : decode cX10_isOfRope 142 = .ok (.aload_n 0, 1) := dk_42 (dk_at dksX10_isOfRope_5 14 rfl rfl)
theorem dX10_isOfRope_143 : decode cX10_isOfRope 143 = .ok (.getfield 13, 3) := dk_180 0 13 (dk_at dksX10_isOfRope_5 15 rfl rfl)
theorem dX10_isOfRope_146 : decode cX10_isOfRope 146 = .ok (.aload_n 0, 1) := dk_42 (dk_at dksX10_isOfRope_5 18 rfl rfl)
theorem dX10_isOfRope_147 : decode cX10_isOfRope 147 = .ok (.getfield 22, 3) := dk_180 0 22 (dk_at dksX10_isOfRope_5 19 rfl rfl)
theorem dX10_isOfRope_150 : decode cX10_isOfRope 150 = .ok (.aload_n 0, 1) := dk_42 (dk_at dksX10_isOfRope_5 22 rfl rfl)
theorem dX10_isOfRope_151 : decode cX10_isOfRope 151 = .ok (.getfield 41, 3) := dk_180 0 41 (dk_at dksX10_isOfRope_6 0 rfl rfl)
theorem dX10_isOfRope_154 : decode cX10_isOfRope 154 = .ok (.invokevirtual 47, 3) := dk_182 0 47 (dk_at dksX10_isOfRope_6 3 rfl rfl)
theorem dX10_isOfRope_157 : decode cX10_isOfRope 157 = .ok (.ifCond .lt 7, 3) := dk_155 0 7 (dk_at dksX10_isOfRope_6 6 rfl rfl)
theorem dX10_isOfRope_160 : decode cX10_isOfRope 160 = .ok (.iconst 1, 1) := dk_4 (dk_at dksX10_isOfRope_6 9 rfl rfl)
theorem dX10_isOfRope_161 : decode cX10_isOfRope 161 = .ok (.goto 4, 3) := dk_167 0 4 (dk_at dksX10_isOfRope_6 10 rfl rfl)
theorem dX10_isOfRope_164 : decode cX10_isOfRope 164 = .ok (.iconst 0, 1) := dk_3 (dk_at dksX10_isOfRope_6 13 rfl rfl)
theorem dX10_isOfRope_165 : decode cX10_isOfRope 165 = .ok (.ireturn, 1) := dk_172 (dk_at dksX10_isOfRope_6 14 rfl rfl)
theorem dX10_isOfRope_166 : decode cX10_isOfRope 166 = .ok (.aload_n 1, 1) := dk_43 (dk_at dksX10_isOfRope_6 15 rfl rfl)
theorem dX10_isOfRope_167 : decode cX10_isOfRope 167 = .ok (.aload_n 0, 1) := dk_42 (dk_at dksX10_isOfRope_6 16 rfl rfl)
theorem dX10_isOfRope_168 : decode cX10_isOfRope 168 = .ok (.getfield 13, 3) := dk_180 0 13 (dk_at dksX10_isOfRope_6 17 rfl rfl)
theorem dX10_isOfRope_171 : decode cX10_isOfRope 171 = .ok (.invokevirtual 51, 3) := dk_182 0 51 (dk_at dksX10_isOfRope_6 20 rfl rfl)
theorem dX10_isOfRope_174 : decode cX10_isOfRope 174 = .ok (.ifCond .lt 7, 3) := dk_155 0 7 (dk_at dksX10_isOfRope_7 0 rfl rfl)
theorem dX10_isOfRope_177 : decode cX10_isOfRope 177 = .ok (.iconst 1, 1) := dk_4 (dk_at dksX10_isOfRope_7 3 rfl rfl)
theorem dX10_isOfRope_178 : decode cX10_isOfRope 178 = .ok (.goto 4, 3) := dk_167 0 4 (dk_at dksX10_isOfRope_7 4 rfl rfl)
theorem dX10_isOfRope_181 : decode cX10_isOfRope 181 = .ok (.iconst 0, 1) := dk_3 (dk_at dksX10_isOfRope_7 7 rfl rfl)
theorem dX10_isOfRope_182 : decode cX10_isOfRope 182 = .ok (.ireturn, 1) := dk_172 (dk_at dksX10_isOfRope_7 8 rfl rfl)
theorem dX10_isOfRope_183 : decode cX10_isOfRope 183 = .ok (.aload_n 0, 1) := dk_42 (dk_at dksX10_isOfRope_7 9 rfl rfl)
theorem dX10_isOfRope_184 : decode cX10_isOfRope 184 = .ok (.getfield 22, 3) := dk_180 0 22 (dk_at dksX10_isOfRope_7 10 rfl rfl)
theorem dX10_isOfRope_187 : decode cX10_isOfRope 187 = .ok (.invokestatic 55, 3) := dk_184 0 55 (dk_at dksX10_isOfRope_7 13 rfl rfl)
theorem dX10_isOfRope_190 : decode cX10_isOfRope 190 = .ok (.ifCond .eq 22, 3) := dk_153 0 22 (dk_at dksX10_isOfRope_7 16 rfl rfl)
theorem dX10_isOfRope_193 : decode cX10_isOfRope 193 = .ok (.aload_n 1, 1) := dk_43 (dk_at dksX10_isOfRope_7 19 rfl rfl)
theorem dX10_isOfRope_194 : decode cX10_isOfRope 194 = .ok (.aload_n 0, 1) := dk_42 (dk_at dksX10_isOfRope_7 20 rfl rfl)
theorem dX10_isOfRope_195 : decode cX10_isOfRope 195 = .ok (.getfield 13, 3) := dk_180 0 13 (dk_at dksX10_isOfRope_7 21 rfl rfl)
theorem dX10_isOfRope_198 : decode cX10_isOfRope 198 = .ok (.aload_n 0, 1) := dk_42 (dk_at dksX10_isOfRope_8 0 rfl rfl)
theorem dX10_isOfRope_199 : decode cX10_isOfRope 199 = .ok (.getfield 22, 3) := dk_180 0 22 (dk_at dksX10_isOfRope_8 1 rfl rfl)
theorem dX10_isOfRope_202 : decode cX10_isOfRope 202 = .ok (.invokevirtual 58, 3) := dk_182 0 58 (dk_at dksX10_isOfRope_8 4 rfl rfl)
theorem dX10_isOfRope_205 : decode cX10_isOfRope 205 = .ok (.ifCond .lt 7, 3) := dk_155 0 7 (dk_at dksX10_isOfRope_8 7 rfl rfl)
theorem dX10_isOfRope_208 : decode cX10_isOfRope 208 = .ok (.iconst 1, 1) := dk_4 (dk_at dksX10_isOfRope_8 10 rfl rfl)
theorem dX10_isOfRope_209 : decode cX10_isOfRope 209 = .ok (.goto 4, 3) := dk_167 0 4 (dk_at dksX10_isOfRope_8 11 rfl rfl)
theorem dX10_isOfRope_212 : decode cX10_isOfRope 212 = .ok (.iconst 0, 1) := dk_3 (dk_at dksX10_isOfRope_8 14 rfl rfl)
theorem dX10_isOfRope_213 : decode cX10_isOfRope 213 = .ok (.ireturn, 1) := dk_172 (dk_at dksX10_isOfRope_8 15 rfl rfl)
