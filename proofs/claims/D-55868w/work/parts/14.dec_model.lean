set_option maxRecDepth 100000
def dkwX3_init_2 : List UInt8 := [181, 0, 22, 42, 16, 60, 188, 10, 181, 0, 25, 42, 17, 0, 130, 188, 10, 181, 0, 28, 177]
abbrev dktX3_init_2 : List UInt8 := dkwX3_init_2 ++ []
def dkwX3_init_1 : List UInt8 := [17, 0, 235, 188, 10, 181, 0, 16, 42, 17, 0, 235, 188, 10, 181, 0, 19, 42, 17, 7, 88, 188, 10]
abbrev dktX3_init_1 : List UInt8 := dkwX3_init_1 ++ dktX3_init_2
def dkwX3_init_0 : List UInt8 := [42, 183, 0, 1, 42, 17, 0, 235, 188, 10, 181, 0, 7, 42, 17, 0, 235, 188, 10, 181, 0, 13, 42]
abbrev dktX3_init_0 : List UInt8 := dkwX3_init_0 ++ dktX3_init_1
theorem dksX3_init_0 : cX3_init.data.toList.drop 0 = dktX3_init_0 := by decide +kernel
theorem dksX3_init_1 : cX3_init.data.toList.drop 23 = dktX3_init_1 := dk_seg dksX3_init_0 23 rfl rfl
theorem dksX3_init_2 : cX3_init.data.toList.drop 46 = dktX3_init_2 := dk_seg dksX3_init_1 23 rfl rfl
theorem dX3_init_0 : decode cX3_init 0 = .ok (.aload_n 0, 1) := dk_42 (dk_at dksX3_init_0 0 rfl rfl)
theorem dX3_init_1 : decode cX3_init 1 = .ok (.invokespecial 1, 3) := dk_183 0 1 (dk_at dksX3_init_0 1 rfl rfl)
theorem dX3_init_4 : decode cX3_init 4 = .ok (.aload_n 0, 1) := dk_42 (dk_at dksX3_init_0 4 rfl rfl)
theorem dX3_init_5 : decode cX3_init 5 = .ok (.sipush 235, 3) := dk_17 0 235 (dk_at dksX3_init_0 5 rfl rfl)
theorem dX3_init_8 : decode cX3_init 8 = .ok (.newarray .int, 2) := dk_188_10 (dk_at dksX3_init_0 8 rfl rfl)
theorem dX3_init_10 : decode cX3_init 10 = .ok (.putfield 7, 3) := dk_181 0 7 (dk_at dksX3_init_0 10 rfl rfl)
theorem dX3_init_13 : decode cX3_init 13 = .ok (.aload_n 0, 1) := dk_42 (dk_at dksX3_init_0 13 rfl rfl)
theorem dX3_init_14 : decode cX3_init 14 = .ok (.sipush 235, 3) := dk_17 0 235 (dk_at dksX3_init_0 14 rfl rfl)
theorem dX3_init_17 : decode cX3_init 17 = .ok (.newarray .int, 2) := dk_188_10 (dk_at dksX3_init_0 17 rfl rfl)
theorem dX3_init_19 : decode cX3_init 19 = .ok (.putfield 13, 3) := dk_181 0 13 (dk_at dksX3_init_0 19 rfl rfl)
theorem dX3_init_22 : decode cX3_init 22 = .ok (.aload_n 0, 1) := dk_42 (dk_at dksX3_init_0 22 rfl rfl)
theorem dX3_init_23 : decode cX3_init 23 = .ok (.sipush 235, 3) := dk_17 0 235 (dk_at dksX3_init_1 0 rfl rfl)
theorem dX3_init_26 : decode cX3_init 26 = .ok (.newarray .int, 2) := dk_188_10 (dk_at dksX3_init_1 3 rfl rfl)
theorem dX3_init_28 : decode cX3_init 28 = .ok (.putfield 16, 3) := dk_181 0 16 (dk_at dksX3_init_1 5 rfl rfl)
theorem dX3_init_31 : decode cX3_init 31 = .ok (.aload_n 0, 1) := dk_42 (dk_at dksX3_init_1 8 rfl rfl)
theorem dX3_init_32 : decode cX3_init 32 = .ok (.sipush 235, 3) := dk_17 0 235 (dk_at dksX3_init_1 9 rfl rfl)
theorem dX3_init_35 : decode cX3_init 35 = .ok (.newarray .int, 2) := dk_188_10 (dk_at dksX3_init_1 12 rfl rfl)
theorem dX3_init_37 : decode cX3_init 37 = .ok (.putfield 19, 3) := dk_181 0 19 (dk_at dksX3_init_1 14 rfl rfl)
theorem dX3_init_40 : decode cX3_init 40 = .ok (.aload_n 0, 1) := dk_42 (dk_at dksX3_init_1 17 rfl rfl)
theorem dX3_init_41 : decode cX3_init 41 = .ok (.sipush 1880, 3) := dk_17 7 88 (dk_at dksX3_init_1 18 rfl rfl)
theorem dX3_init_44 : decode cX3_init 44 = .ok (.newarray .int, 2) := dk_188_10 (dk_at dksX3_init_1 21 rfl rfl)
theorem dX3_init_46 : decode cX3_init 46 = .ok (.putfield 22, 3) := dk_181 0 22 (dk_at dksX3_init_2 0 rfl rfl)
theorem dX3_init_49 : decode cX3_init 49 = .ok (.aload_n 0, 1) := dk_42 (dk_at dksX3_init_2 3 rfl rfl)
theorem dX3_init_50 : decode cX3_init 50 = .ok (.bipush 60, 2) := dk_16 60 (dk_at dksX3_init_2 4 rfl rfl)
theorem dX3_init_52 : decode cX3_init 52 = .ok (.newarray .int, 2) := dk_188_10 (dk_at dksX3_init_2 6 rfl rfl)
theorem dX3_init_54 : decode cX3_init 54 = .ok (.putfield 25, 3) := dk_181 0 25 (dk_at dksX3_init_2 8 rfl rfl)
theorem dX3_init_57 : decode cX3_init 57 = .ok (.aload_n 0, 1) := dk_42 (dk_at dksX3_init_2 11 rfl rfl)
theorem dX3_init_58 : decode cX3_init 58 = .ok (.sipush 130, 3) := dk_17 0 130 (dk_at dksX3_init_2 12 rfl rfl)
theorem dX3_init_61 : decode cX3_init 61 = .ok (.newarray .int, 2) := dk_188_10 (dk_at dksX3_init_2 15 rfl rfl)
theorem dX3_init_63 : decode cX3_init 63 = .ok (.putfield 28, 3) := dk_181 0 28 (dk_at dksX3_init_2 17 rfl rfl)
theorem dX3_init_66 : decode cX3_init 66 = .ok (.return_, 1) := dk_177 (dk_at dksX3_init_2 20 rfl rfl)
def dkwX3_rope_0 : List UInt8 := [42, 182, 0, 67, 42, 42, 27, 182, 0, 70, 182, 0, 73, 172]
abbrev dktX3_rope_0 : List UInt8 := dkwX3_rope_0 ++ []
theorem dksX3_rope_0 : cX3_rope.data.toList.drop 0 = dktX3_rope_0 := by decide +kernel
theorem dX3_rope_0 : decode cX3_rope 0 = .ok (.aload_n 0, 1) := dk_42 (dk_at dksX3_rope_0 0 rfl rfl)
theorem dX3_rope_1 : decode cX3_rope 1 = .ok (.invokevirtual 67, 3) := dk_182 0 67 (dk_at dksX3_rope_0 1 rfl rfl)
theorem dX3_rope_4 : decode cX3_rope 4 = .ok (.aload_n 0, 1) := dk_42 (dk_at dksX3_rope_0 4 rfl rfl)
theorem dX3_rope_5 : decode cX3_rope 5 = .ok (.aload_n 0, 1) := dk_42 (dk_at dksX3_rope_0 5 rfl rfl)
theorem dX3_rope_6 : decode cX3_rope 6 = .ok (.iload_n 1, 1) := dk_27 (dk_at dksX3_rope_0 6 rfl rfl)
theorem dX3_rope_7 : decode cX3_rope 7 = .ok (.invokevirtual 70, 3) := dk_182 0 70 (dk_at dksX3_rope_0 7 rfl rfl)
theorem dX3_rope_10 : decode cX3_rope 10 = .ok (.invokevirtual 73, 3) := dk_182 0 73 (dk_at dksX3_rope_0 10 rfl rfl)
theorem dX3_rope_13 : decode cX3_rope 13 = .ok (.ireturn, 1) := dk_172 (dk_at dksX3_rope_0 13 rfl rfl)
def dkwX3_begins_0 : List UInt8 := [42, 3, 181, 0, 31, 42, 180, 0, 13, 42, 180, 0, 7, 184, 0, 45, 177]
abbrev dktX3_begins_0 : List UInt8 := dkwX3_begins_0 ++ []
theorem dksX3_begins_0 : cX3_begins.data.toList.drop 0 = dktX3_begins_0 := by decide +kernel
theorem dX3_begins_0 : decode cX3_begins 0 = .ok (.aload_n 0, 1) := dk_42 (dk_at dksX3_begins_0 0 rfl rfl)
theorem dX3_begins_1 : decode cX3_begins 1 = .ok (.iconst 0, 1) := dk_3 (dk_at dksX3_begins_0 1 rfl rfl)
theorem dX3_begins_2 : decode cX3_begins 2 = .ok (.putfield 31, 3) := dk_181 0 31 (dk_at dksX3_begins_0 2 rfl rfl)
theorem dX3_begins_5 : decode cX3_begins 5 = .ok (.aload_n 0, 1) := dk_42 (dk_at dksX3_begins_0 5 rfl rfl)
theorem dX3_begins_6 : decode cX3_begins 6 = .ok (.getfield 13, 3) := dk_180 0 13 (dk_at dksX3_begins_0 6 rfl rfl)
theorem dX3_begins_9 : decode cX3_begins 9 = .ok (.aload_n 0, 1) := dk_42 (dk_at dksX3_begins_0 9 rfl rfl)
theorem dX3_begins_10 : decode cX3_begins 10 = .ok (.getfield 7, 3) := dk_180 0 7 (dk_at dksX3_begins_0 10 rfl rfl)
theorem dX3_begins_13 : decode cX3_begins 13 = .ok (.invokestatic 45, 3) := dk_184 0 45 (dk_at dksX3_begins_0 13 rfl rfl)
theorem dX3_begins_16 : decode cX3_begins 16 = .ok (.return_, 1) := dk_177 (dk_at dksX3_begins_0 16 rfl rfl)
def dkwX3_lays_0 : List UInt8 := [3, 61, 28, 17, 0, 235, 162, 0, 15, 42, 28, 43, 28, 46, 79, 132, 2, 1, 167, 255, 240, 177]
abbrev dktX3_lays_0 : List UInt8 := dkwX3_lays_0 ++ []
theorem dksX3_lays_0 : cX3_lays.data.toList.drop 0 = dktX3_lays_0 := by decide +kernel
theorem dX3_lays_0 : decode cX3_lays 0 = .ok (.iconst 0, 1) := dk_3 (dk_at dksX3_lays_0 0 rfl rfl)
theorem dX3_lays_1 : decode cX3_lays 1 = .ok (.istore_n 2, 1) := dk_61 (dk_at dksX3_lays_0 1 rfl rfl)
theorem dX3_lays_2 : decode cX3_lays 2 = .ok (.iload_n 2, 1) := dk_28 (dk_at dksX3_lays_0 2 rfl rfl)
theorem dX3_lays_3 : decode cX3_lays 3 = .ok (.sipush 235, 3) := dk_17 0 235 (dk_at dksX3_lays_0 3 rfl rfl)
theorem dX3_lays_6 : decode cX3_lays 6 = .ok (.if_icmp .ge 15, 3) := dk_162 0 15 (dk_at dksX3_lays_0 6 rfl rfl)
theorem dX3_lays_9 : decode cX3_lays 9 = .ok (.aload_n 0, 1) := dk_42 (dk_at dksX3_lays_0 9 rfl rfl)
theorem dX3_lays_10 : decode cX3_lays 10 = .ok (.iload_n 2, 1) := dk_28 (dk_at dksX3_lays_0 10 rfl rfl)
theorem dX3_lays_11 : decode cX3_lays 11 = .ok (.aload_n 1, 1) := dk_43 (dk_at dksX3_lays_0 11 rfl rfl)
theorem dX3_lays_12 : decode cX3_lays 12 = .ok (.iload_n 2, 1) := dk_28 (dk_at dksX3_lays_0 12 rfl rfl)
theorem dX3_lays_13 : decode cX3_lays 13 = .ok (.iaload, 1) := dk_46 (dk_at dksX3_lays_0 13 rfl rfl)
theorem dX3_lays_14 : decode cX3_lays 14 = .ok (.iastore, 1) := dk_79 (dk_at dksX3_lays_0 14 rfl rfl)
theorem dX3_lays_15 : decode cX3_lays 15 = .ok (.iinc 2 1, 3) := dk_132 2 1 (dk_at dksX3_lays_0 15 rfl rfl)
theorem dX3_lays_18 : decode cX3_lays 18 = .ok (.goto (-16), 3) := dk_167 255 240 (dk_at dksX3_lays_0 18 rfl rfl)
theorem dX3_lays_21 : decode cX3_lays 21 = .ok (.return_, 1) := dk_177 (dk_at dksX3_lays_0 21 rfl rfl)
def dkwX3_comes_2 : List UInt8 := [42, 180, 0, 7, 28, 4, 184, 0, 64, 4, 79, 42, 180, 0, 7, 3, 92, 46, 4, 96, 79, 28, 172]
abbrev dktX3_comes_2 : List UInt8 := dkwX3_comes_2 ++ []
def dkwX3_comes_1 : List UInt8 := [16, 12, 160, 0, 11, 42, 4, 16, 12, 182, 0, 60, 172, 42, 180, 0, 7, 28, 3, 184, 0, 64, 27, 79]
abbrev dktX3_comes_1 : List UInt8 := dkwX3_comes_1 ++ dktX3_comes_2
def dkwX3_comes_0 : List UInt8 := [27, 184, 0, 56, 154, 0, 11, 42, 17, 252, 12, 182, 0, 41, 172, 42, 180, 0, 7, 3, 46, 61, 28]
abbrev dktX3_comes_0 : List UInt8 := dkwX3_comes_0 ++ dktX3_comes_1
theorem dksX3_comes_0 : cX3_comes.data.toList.drop 0 = dktX3_comes_0 := by decide +kernel
theorem dksX3_comes_1 : cX3_comes.data.toList.drop 23 = dktX3_comes_1 := dk_seg dksX3_comes_0 23 rfl rfl
theorem dksX3_comes_2 : cX3_comes.data.toList.drop 47 = dktX3_comes_2 := dk_seg dksX3_comes_1 24 rfl rfl
theorem dX3_comes_0 : decode cX3_comes 0 = .ok (.iload_n 1, 1) := dk_27 (dk_at dksX3_comes_0 0 rfl rfl)
theorem dX3_comes_1 : decode cX3_comes 1 = .ok (.invokestatic 56, 3) := dk_184 0 56 (dk_at dksX3_comes_0 1 rfl rfl)
theorem dX3_comes_4 : decode cX3_comes 4 = .ok (.ifCond .ne 11, 3) := dk_154 0 11 (dk_at dksX3_comes_0 4 rfl rfl)
theorem dX3_comes_7 : decode cX3_comes 7 = .ok (.aload_n 0, 1) := dk_42 (dk_at dksX3_comes_0 7 rfl rfl)
theorem dX3_comes_8 : decode cX3_comes 8 = .ok (.sipush (-1012), 3) := dk_17 252 12 (dk_at dksX3_comes_0 8 rfl rfl)
theorem dX3_comes_11 : decode cX3_comes 11 = .ok (.invokevirtual 41, 3) := dk_182 0 41 (dk_at dksX3_comes_0 11 rfl rfl)
theorem dX3_comes_14 : decode cX3_comes 14 = .ok (.ireturn, 1) := dk_172 (dk_at dksX3_comes_0 14 rfl rfl)
theorem dX3_comes_15 : decode cX3_comes 15 = .ok (.aload_n 0, 1) := dk_42 (dk_at dksX3_comes_0 15 rfl rfl)
theorem dX3_comes_16 : decode cX3_comes 16 = .ok (.getfield 7, 3) := dk_180 0 7 (dk_at dksX3_comes_0 16 rfl rfl)
theorem dX3_comes_19 : decode cX3_comes 19 = .ok (.iconst 0, 1) := dk_3 (dk_at dksX3_comes_0 19 rfl rfl)
theorem dX3_comes_20 : decode cX3_comes 20 = .ok (.iaload, 1) := dk_46 (dk_at dksX3_comes_0 20 rfl rfl)
theorem dX3_comes_21 : decode cX3_comes 21 = .ok (.istore_n 2, 1) := dk_61 (dk_at dksX3_comes_0 21 rfl rfl)
theorem dX3_comes_22 : decode cX3_comes 22 = .ok (.iload_n 2, 1) := dk_28 (dk_at dksX3_comes_0 22 rfl rfl)
theorem dX3_comes_23 : decode cX3_comes 23 = .ok (.bipush 12, 2) := dk_16 12 (dk_at dksX3_comes_1 0 rfl rfl)
theorem dX3_comes_25 : decode cX3_comes 25 = .ok (.if_icmp .ne 11, 3) := dk_160 0 11 (dk_at dksX3_comes_1 2 rfl rfl)
theorem dX3_comes_28 : decode cX3_comes 28 = .ok (.aload_n 0, 1) := dk_42 (dk_at dksX3_comes_1 5 rfl rfl)
theorem dX3_comes_29 : decode cX3_comes 29 = .ok (.iconst 1, 1) := dk_4 (dk_at dksX3_comes_1 6 rfl rfl)
theorem dX3_comes_30 : decode cX3_comes 30 = .ok (.bipush 12, 2) := dk_16 12 (dk_at dksX3_comes_1 7 rfl rfl)
theorem dX3_comes_32 : decode cX3_comes 32 = .ok (.invokevirtual 60, 3) := dk_182 0 60 (dk_at dksX3_comes_1 9 rfl rfl)
theorem dX3_comes_35 : decode cX3_comes 35 = .ok (.ireturn, 1) := dk_172 (dk_at dksX3_comes_1 12 rfl rfl)
theorem dX3_comes_36 : decode cX3_comes 36 = .ok (.aload_n 0, 1) := dk_42 (dk_at dksX3_comes_1 13 rfl rfl)
theorem dX3_comes_37 : decode cX3_comes 37 = .ok (.getfield 7, 3) := dk_180 0 7 (dk_at dksX3_comes_1 14 rfl rfl)
theorem dX3_comes_40 : decode cX3_comes 40 = .ok (.iload_n 2, 1) := dk_28 (dk_at dksX3_comes_1 17 rfl rfl)
theorem dX3_comes_41 : decode cX3_comes 41 = .ok (.iconst 0, 1) := dk_3 (dk_at dksX3_comes_1 18 rfl rfl)
theorem dX3_comes_42 : decode cX3_comes 42 = .ok (.invokestatic 64, 3) := dk_184 0 64 (dk_at dksX3_comes_1 19 rfl rfl)
theorem dX3_comes_45 : decode cX3_comes 45 = .ok (.iload_n 1, 1) := dk_27 (dk_at dksX3_comes_1 22 rfl rfl)
theorem dX3_comes_46 : decode cX3_comes 46 = .ok (.iastore, 1) := dk_79 (dk_at dksX3_comes_1 23 rfl rfl)
theorem dX3_comes_47 : decode cX3_comes 47 = .ok (.aload_n 0, 1) := dk_42 (dk_at dksX3_comes_2 0 rfl rfl)
theorem dX3_comes_48 : decode cX3_comes 48 = .ok (.getfield 7, 3) := dk_180 0 7 (dk_at dksX3_comes_2 1 rfl rfl)
theorem dX3_comes_51 : decode cX3_comes 51 = .ok (.iload_n 2, 1) := dk_28 (dk_at dksX3_comes_2 4 rfl rfl)
theorem dX3_comes_52 : decode cX3_comes 52 = .ok (.iconst 1, 1) := dk_4 (dk_at dksX3_comes_2 5 rfl rfl)
theorem dX3_comes_53 : decode cX3_comes 53 = .ok (.invokestatic 64, 3) := dk_184 0 64 (dk_at dksX3_comes_2 6 rfl rfl)
theorem dX3_comes_56 : decode cX3_comes 56 = .ok (.iconst 1, 1) := dk_4 (dk_at dksX3_comes_2 9 rfl rfl)
theorem dX3_comes_57 : decode cX3_comes 57 = .ok (.iastore, 1) := dk_79 (dk_at dksX3_comes_2 10 rfl rfl)
theorem dX3_comes_58 : decode cX3_comes 58 = .ok (.aload_n 0, 1) := dk_42 (dk_at dksX3_comes_2 11 rfl rfl)
theorem dX3_comes_59 : decode cX3_comes 59 = .ok (.getfield 7, 3) := dk_180 0 7 (dk_at dksX3_comes_2 12 rfl rfl)
theorem dX3_comes_62 : decode cX3_comes 62 = .ok (.iconst 0, 1) := dk_3 (dk_at dksX3_comes_2 15 rfl rfl)
theorem dX3_comes_63 : decode cX3_comes 63 = .ok (.dup2, 1) := dk_92 (dk_at dksX3_comes_2 16 rfl rfl)
theorem dX3_comes_64 : decode cX3_comes 64 = .ok (.iaload, 1) := dk_46 (dk_at dksX3_comes_2 17 rfl rfl)
theorem dX3_comes_65 : decode cX3_comes 65 = .ok (.iconst 1, 1) := dk_4 (dk_at dksX3_comes_2 18 rfl rfl)
theorem dX3_comes_66 : decode cX3_comes 66 = .ok (.iadd, 1) := dk_96 (dk_at dksX3_comes_2 19 rfl rfl)
theorem dX3_comes_67 : decode cX3_comes 67 = .ok (.iastore, 1) := dk_79 (dk_at dksX3_comes_2 20 rfl rfl)
theorem dX3_comes_68 : decode cX3_comes 68 = .ok (.iload_n 2, 1) := dk_28 (dk_at dksX3_comes_2 21 rfl rfl)
theorem dX3_comes_69 : decode cX3_comes 69 = .ok (.ireturn, 1) := dk_172 (dk_at dksX3_comes_2 22 rfl rfl)
def dkwX3_isParish_0 : List UInt8 := [26, 3, 6, 184, 0, 52, 172]
abbrev dktX3_isParish_0 : List UInt8 := dkwX3_isParish_0 ++ []
theorem dksX3_isParish_0 : cX3_isParish.data.toList.drop 0 = dktX3_isParish_0 := by decide +kernel
theorem dX3_isParish_0 : decode cX3_isParish 0 = .ok (.iload_n 0, 1) := dk_26 (dk_at dksX3_isParish_0 0 rfl rfl)
theorem dX3_isParish_1 : decode cX3_isParish 1 = .ok (.iconst 0, 1) := dk_3 (dk_at dksX3_isParish_0 1 rfl rfl)
theorem dX3_isParish_2 : decode cX3_isParish 2 = .ok (.iconst 3, 1) := dk_6 (dk_at dksX3_isParish_0 2 rfl rfl)
theorem dX3_isParish_3 : decode cX3_isParish 3 = .ok (.invokestatic 52, 3) := dk_184 0 52 (dk_at dksX3_isParish_0 3 rfl rfl)
theorem dX3_isParish_6 : decode cX3_isParish 6 = .ok (.ireturn, 1) := dk_172 (dk_at dksX3_isParish_0 6 rfl rfl)
def dkwX3_isIn_0 : List UInt8 := [26, 27, 161, 0, 12, 26, 28, 163, 0, 7, 4, 167, 0, 4, 3, 172]
abbrev dktX3_isIn_0 : List UInt8 := dkwX3_isIn_0 ++ []
theorem dksX3_isIn_0 : cX3_isIn.data.toList.drop 0 = dktX3_isIn_0 := by decide +kernel
theorem dX3_isIn_0 : decode cX3_isIn 0 = .ok (.iload_n 0, 1) := dk_26 (dk_at dksX3_isIn_0 0 rfl rfl)
theorem dX3_isIn_1 : decode cX3_isIn 1 = .ok (.iload_n 1, 1) := dk_27 (dk_at dksX3_isIn_0 1 rfl rfl)
theorem dX3_isIn_2 : decode cX3_isIn 2 = .ok (.if_icmp .lt 12, 3) := dk_161 0 12 (dk_at dksX3_isIn_0 2 rfl rfl)
theorem dX3_isIn_5 : decode cX3_isIn 5 = .ok (.iload_n 0, 1) := dk_26 (dk_at dksX3_isIn_0 5 rfl rfl)
theorem dX3_isIn_6 : decode cX3_isIn 6 = .ok (.iload_n 2, 1) := dk_28 (dk_at dksX3_isIn_0 6 rfl rfl)
theorem dX3_isIn_7 : decode cX3_isIn 7 = .ok (.if_icmp .gt 7, 3) := dk_163 0 7 (dk_at dksX3_isIn_0 7 rfl rfl)
theorem dX3_isIn_10 : decode cX3_isIn 10 = .ok (.iconst 1, 1) := dk_4 (dk_at dksX3_isIn_0 10 rfl rfl)
theorem dX3_isIn_11 : decode cX3_isIn 11 = .ok (.goto 4, 3) := dk_167 0 4 (dk_at dksX3_isIn_0 11 rfl rfl)
theorem dX3_isIn_14 : decode cX3_isIn 14 = .ok (.iconst 0, 1) := dk_3 (dk_at dksX3_isIn_0 14 rfl rfl)
theorem dX3_isIn_15 : decode cX3_isIn 15 = .ok (.ireturn, 1) := dk_172 (dk_at dksX3_isIn_0 15 rfl rfl)
def dkwX3_fail_0 : List UInt8 := [42, 27, 181, 0, 31, 27, 172]
abbrev dktX3_fail_0 : List UInt8 := dkwX3_fail_0 ++ []
theorem dksX3_fail_0 : cX3_fail.data.toList.drop 0 = dktX3_fail_0 := by decide +kernel
theorem dX3_fail_0 : decode cX3_fail 0 = .ok (.aload_n 0, 1) := dk_42 (dk_at dksX3_fail_0 0 rfl rfl)
theorem dX3_fail_1 : decode cX3_fail 1 = .ok (.iload_n 1, 1) := dk_27 (dk_at dksX3_fail_0 1 rfl rfl)
theorem dX3_fail_2 : decode cX3_fail 2 = .ok (.putfield 31, 3) := dk_181 0 31 (dk_at dksX3_fail_0 2 rfl rfl)
theorem dX3_fail_5 : decode cX3_fail 5 = .ok (.iload_n 1, 1) := dk_27 (dk_at dksX3_fail_0 5 rfl rfl)
theorem dX3_fail_6 : decode cX3_fail 6 = .ok (.ireturn, 1) := dk_172 (dk_at dksX3_fail_0 6 rfl rfl)
def dkwX3_refuses_0 : List UInt8 := [42, 27, 181, 0, 35, 42, 28, 181, 0, 38, 42, 17, 252, 10, 182, 0, 41, 172]
abbrev dktX3_refuses_0 : List UInt8 := dkwX3_refuses_0 ++ []
theorem dksX3_refuses_0 : cX3_refuses.data.toList.drop 0 = dktX3_refuses_0 := by decide +kernel
theorem dX3_refuses_0 : decode cX3_refuses 0 = .ok (.aload_n 0, 1) := dk_42 (dk_at dksX3_refuses_0 0 rfl rfl)
theorem dX3_refuses_1 : decode cX3_refuses 1 = .ok (.iload_n 1, 1) := dk_27 (dk_at dksX3_refuses_0 1 rfl rfl)
theorem dX3_refuses_2 : decode cX3_refuses 2 = .ok (.putfield 35, 3) := dk_181 0 35 (dk_at dksX3_refuses_0 2 rfl rfl)
theorem dX3_refuses_5 : decode cX3_refuses 5 = .ok (.aload_n 0, 1) := dk_42 (dk_at dksX3_refuses_0 5 rfl rfl)
theorem dX3_refuses_6 : decode cX3_refuses 6 = .ok (.iload_n 2, 1) := dk_28 (dk_at dksX3_refuses_0 6 rfl rfl)
theorem dX3_refuses_7 : decode cX3_refuses 7 = .ok (.putfield 38, 3) := dk_181 0 38 (dk_at dksX3_refuses_0 7 rfl rfl)
theorem dX3_refuses_10 : decode cX3_refuses 10 = .ok (.aload_n 0, 1) := dk_42 (dk_at dksX3_refuses_0 10 rfl rfl)
theorem dX3_refuses_11 : decode cX3_refuses 11 = .ok (.sipush (-1014), 3) := dk_17 252 10 (dk_at dksX3_refuses_0 11 rfl rfl)
theorem dX3_refuses_14 : decode cX3_refuses 14 = .ok (.invokevirtual 41, 3) := dk_182 0 41 (dk_at dksX3_refuses_0 14 rfl rfl)
theorem dX3_refuses_17 : decode cX3_refuses 17 = .ok (.ireturn, 1) := dk_172 (dk_at dksX3_refuses_0 17 rfl rfl)
def dkwX3_at_0 : List UInt8 := [16, 11, 16, 6, 26, 104, 96, 27, 96, 172]
abbrev dktX3_at_0 : List UInt8 := dkwX3_at_0 ++ []
theorem dksX3_at_0 : cX3_at.data.toList.drop 0 = dktX3_at_0 := by decide +kernel
theorem dX3_at_0 : decode cX3_at 0 = .ok (.bipush 11, 2) := dk_16 11 (dk_at dksX3_at_0 0 rfl rfl)
theorem dX3_at_2 : decode cX3_at 2 = .ok (.bipush 6, 2) := dk_16 6 (dk_at dksX3_at_0 2 rfl rfl)
theorem dX3_at_4 : decode cX3_at 4 = .ok (.iload_n 0, 1) := dk_26 (dk_at dksX3_at_0 4 rfl rfl)
theorem dX3_at_5 : decode cX3_at 5 = .ok (.imul, 1) := dk_104 (dk_at dksX3_at_0 5 rfl rfl)
theorem dX3_at_6 : decode cX3_at 6 = .ok (.iadd, 1) := dk_96 (dk_at dksX3_at_0 6 rfl rfl)
theorem dX3_at_7 : decode cX3_at 7 = .ok (.iload_n 1, 1) := dk_27 (dk_at dksX3_at_0 7 rfl rfl)
theorem dX3_at_8 : decode cX3_at 8 = .ok (.iadd, 1) := dk_96 (dk_at dksX3_at_0 8 rfl rfl)
theorem dX3_at_9 : decode cX3_at 9 = .ok (.ireturn, 1) := dk_172 (dk_at dksX3_at_0 9 rfl rfl)
def dkwX3_ends_5 : List UInt8 := [181, 0, 49, 27, 172]
abbrev dktX3_ends_5 : List UInt8 := dkwX3_ends_5 ++ []
def dkwX3_ends_4 : List UInt8 := [28, 96, 42, 180, 0, 13, 28, 46, 79, 132, 2, 1, 167, 255, 225, 42, 89, 180, 0, 49, 4, 96]
abbrev dktX3_ends_4 : List UInt8 := dkwX3_ends_4 ++ dktX3_ends_5
def dkwX3_ends_3 : List UInt8 := [181, 0, 49, 3, 61, 28, 17, 0, 235, 162, 0, 30, 42, 180, 0, 22, 42, 180, 0, 49, 17, 0, 235, 104]
abbrev dktX3_ends_3 : List UInt8 := dkwX3_ends_3 ++ dktX3_ends_4
def dkwX3_ends_2 : List UInt8 := [180, 0, 22, 28, 17, 0, 235, 96, 46, 79, 132, 2, 1, 167, 255, 230, 42, 89, 180, 0, 49, 4, 100]
abbrev dktX3_ends_2 : List UInt8 := dkwX3_ends_2 ++ dktX3_ends_3
def dkwX3_ends_1 : List UInt8 := [180, 0, 49, 16, 8, 160, 0, 44, 3, 61, 28, 17, 6, 109, 162, 0, 25, 42, 180, 0, 22, 28, 42]
abbrev dktX3_ends_1 : List UInt8 := dkwX3_ends_1 ++ dktX3_ends_2
def dkwX3_ends_0 : List UInt8 := [42, 180, 0, 31, 153, 0, 19, 42, 180, 0, 7, 42, 180, 0, 13, 184, 0, 45, 42, 180, 0, 31, 172, 42]
abbrev dktX3_ends_0 : List UInt8 := dkwX3_ends_0 ++ dktX3_ends_1
theorem dksX3_ends_0 : cX3_ends.data.toList.drop 0 = dktX3_ends_0 := by decide +kernel
theorem dksX3_ends_1 : cX3_ends.data.toList.drop 24 = dktX3_ends_1 := dk_seg dksX3_ends_0 24 rfl rfl
theorem dksX3_ends_2 : cX3_ends.data.toList.drop 47 = dktX3_ends_2 := dk_seg dksX3_ends_1 23 rfl rfl
theorem dksX3_ends_3 : cX3_ends.data.toList.drop 70 = dktX3_ends_3 := dk_seg dksX3_ends_2 23 rfl rfl
theorem dksX3_ends_4 : cX3_ends.data.toList.drop 94 = dktX3_ends_4 := dk_seg dksX3_ends_3 24 rfl rfl
theorem dksX3_ends_5 : cX3_ends.data.toList.drop 116 = dktX3_ends_5 := dk_seg dksX3_ends_4 22 rfl rfl
theorem dX3_ends_0 : decode cX3_ends 0 = .ok (.aload_n 0, 1) := dk_42 (dk_at dksX3_ends_0 0 rfl rfl)
theorem dX3_ends_1 : decode cX3_ends 1 = .ok (.getfield 31, 3) := dk_180 0 31 (dk_at dksX3_ends_0 1 rfl rfl)
theorem dX3_ends_4 : decode cX3_ends 4 = .ok (.ifCond .eq 19, 3) := dk_153 0 19 (dk_at dksX3_ends_0 4 rfl rfl)
theorem dX3_ends_7 : decode cX3_ends 7 = .ok (.aload_n 0, 1) := dk_42 (dk_at dksX3_ends_0 7 rfl rfl)
theorem dX3_ends_8 : decode cX3_ends 8 = .ok (.getfield 7, 3) := dk_180 0 7 (dk_at dksX3_ends_0 8 rfl rfl)
theorem dX3_ends_11 : decode cX3_ends 11 = .ok (.aload_n 0, 1) := dk_42 (dk_at dksX3_ends_0 11 rfl rfl)
theorem dX3_ends_12 : decode cX3_ends 12 = .ok (.getfield 13, 3) := dk_180 0 13 (dk_at dksX3_ends_0 12 rfl rfl)
theorem dX3_ends_15 : decode cX3_ends 15 = .ok (.invokestatic 45, 3) := dk_184 0 45 (dk_at dksX3_ends_0 15 rfl rfl)
theorem dX3_ends_18 : decode cX3_ends 18 = .ok (.aload_n 0, 1) := dk_42 (dk_at dksX3_ends_0 18 rfl rfl)
theorem dX3_ends_19 : decode cX3_ends 19 = .ok (.getfield 31, 3) := dk_180 0 31 (dk_at dksX3_ends_0 19 rfl rfl)
theorem dX3_ends_22 : decode cX3_ends 22 = .ok (.ireturn, 1) := dk_172 (dk_at dksX3_ends_0 22 rfl rfl)
theorem dX3_ends_23 : decode cX3_ends 23 = .ok (.aload_n 0, 1) := dk_42 (dk_at dksX3_ends_0 23 rfl rfl)
theorem dX3_ends_24 : decode cX3_ends 24 = .ok (.getfield 49, 3) := dk_180 0 49 (dk_at dksX3_ends_1 0 rfl rfl)
theorem dX3_ends_27 : decode cX3_ends 27 = .ok (.bipush 8, 2) := dk_16 8 (dk_at dksX3_ends_1 3 rfl rfl)
theorem dX3_ends_29 : decode cX3_ends 29 = .ok (.if_icmp .ne 44, 3) := dk_160 0 44 (dk_at dksX3_ends_1 5 rfl rfl)
theorem dX3_ends_32 : decode cX3_ends 32 = .ok (.iconst 0, 1) := dk_3 (dk_at dksX3_ends_1 8 rfl rfl)
theorem dX3_ends_33 : decode cX3_ends 33 = .ok (.istore_n 2, 1) := dk_61 (dk_at dksX3_ends_1 9 rfl rfl)
theorem dX3_ends_34 : decode cX3_ends 34 = .ok (.iload_n 2, 1) := dk_28 (dk_at dksX3_ends_1 10 rfl rfl)
theorem dX3_ends_35 : decode cX3_ends 35 = .ok (.sipush 1645, 3) := dk_17 6 109 (dk_at dksX3_ends_1 11 rfl rfl)
theorem dX3_ends_38 : decode cX3_ends 38 = .ok (.if_icmp .ge 25, 3) := dk_162 0 25 (dk_at dksX3_ends_1 14 rfl rfl)
theorem dX3_ends_41 : decode cX3_ends 41 = .ok (.aload_n 0, 1) := dk_42 (dk_at dksX3_ends_1 17 rfl rfl)
theorem dX3_ends_42 : decode cX3_ends 42 = .ok (.getfield 22, 3) := dk_180 0 22 (dk_at dksX3_ends_1 18 rfl rfl)
theorem dX3_ends_45 : decode cX3_ends 45 = .ok (.iload_n 2, 1) := dk_28 (dk_at dksX3_ends_1 21 rfl rfl)
theorem dX3_ends_46 : decode cX3_ends 46 = .ok (.aload_n 0, 1) := dk_42 (dk_at dksX3_ends_1 22 rfl rfl)
theorem dX3_ends_47 : decode cX3_ends 47 = .ok (.getfield 22, 3) := dk_180 0 22 (dk_at dksX3_ends_2 0 rfl rfl)
theorem dX3_ends_50 : decode cX3_ends 50 = .ok (.iload_n 2, 1) := dk_28 (dk_at dksX3_ends_2 3 rfl rfl)
theorem dX3_ends_51 : decode cX3_ends 51 = .ok (.sipush 235, 3) := dk_17 0 235 (dk_at dksX3_ends_2 4 rfl rfl)
theorem dX3_ends_54 : decode cX3_ends 54 = .ok (.iadd, 1) := dk_96 (dk_at dksX3_ends_2 7 rfl rfl)
theorem dX3_ends_55 : decode cX3_ends 55 = .ok (.iaload, 1) := dk_46 (dk_at dksX3_ends_2 8 rfl rfl)
theorem dX3_ends_56 : decode cX3_ends 56 = .ok (.iastore, 1) := dk_79 (dk_at dksX3_ends_2 9 rfl rfl)
theorem dX3_ends_57 : decode cX3_ends 57 = .ok (.iinc 2 1, 3) := dk_132 2 1 (dk_at dksX3_ends_2 10 rfl rfl)
theorem dX3_ends_60 : decode cX3_ends 60 = .ok (.goto (-26), 3) := dk_167 255 230 (dk_at dksX3_ends_2 13 rfl rfl)
theorem dX3_ends_63 : decode cX3_ends 63 = .ok (.aload_n 0, 1) := dk_42 (dk_at dksX3_ends_2 16 rfl rfl)
theorem dX3_ends_64 : decode cX3_ends 64 = .ok (.dup, 1) := dk_89 (dk_at dksX3_ends_2 17 rfl rfl)
theorem dX3_ends_65 : decode cX3_ends 65 = .ok (.getfield 49, 3) := dk_180 0 49 (dk_at dksX3_ends_2 18 rfl rfl)
theorem dX3_ends_68 : decode cX3_ends 68 = .ok (.iconst 1, 1) := dk_4 (dk_at dksX3_ends_2 21 rfl rfl)
theorem dX3_ends_69 : decode cX3_ends 69 = .ok (.isub, 1) := dk_100 (dk_at dksX3_ends_2 22 rfl rfl)
theorem dX3_ends_70 : decode cX3_ends 70 = .ok (.putfield 49, 3) := dk_181 0 49 (dk_at dksX3_ends_3 0 rfl rfl)
theorem dX3_ends_73 : decode cX3_ends 73 = .ok (.iconst 0, 1) := dk_3 (dk_at dksX3_ends_3 3 rfl rfl)
theorem dX3_ends_74 : decode cX3_ends 74 = .ok (.istore_n 2, 1) := dk_61 (dk_at dksX3_ends_3 4 rfl rfl)
theorem dX3_ends_75 : decode cX3_ends 75 = .ok (.iload_n 2, 1) := dk_28 (dk_at dksX3_ends_3 5 rfl rfl)
theorem dX3_ends_76 : decode cX3_ends 76 = .ok (.sipush 235, 3) := dk_17 0 235 (dk_at dksX3_ends_3 6 rfl rfl)
theorem dX3_ends_79 : decode cX3_ends 79 = .ok (.if_icmp .ge 30, 3) := dk_162 0 30 (dk_at dksX3_ends_3 9 rfl rfl)
theorem dX3_ends_82 : decode cX3_ends 82 = .ok (.aload_n 0, 1) := dk_42 (dk_at dksX3_ends_3 12 rfl rfl)
theorem dX3_ends_83 : decode cX3_ends 83 = .ok (.getfield 22, 3) := dk_180 0 22 (dk_at dksX3_ends_3 13 rfl rfl)
theorem dX3_ends_86 : decode cX3_ends 86 = .ok (.aload_n 0, 1) := dk_42 (dk_at dksX3_ends_3 16 rfl rfl)
theorem dX3_ends_87 : decode cX3_ends 87 = .ok (.getfield 49, 3) := dk_180 0 49 (dk_at dksX3_ends_3 17 rfl rfl)
theorem dX3_ends_90 : decode cX3_ends 90 = .ok (.sipush 235, 3) := dk_17 0 235 (dk_at dksX3_ends_3 20 rfl rfl)
theorem dX3_ends_93 : decode cX3_ends 93 = .ok (.imul, 1) := dk_104 (dk_at dksX3_ends_3 23 rfl rfl)
theorem dX3_ends_94 : decode cX3_ends 94 = .ok (.iload_n 2, 1) := dk_28 (dk_at dksX3_ends_4 0 rfl rfl)
theorem dX3_ends_95 : decode cX3_ends 95 = .ok (.iadd, 1) := dk_96 (dk_at dksX3_ends_4 1 rfl rfl)
theorem dX3_ends_96 : decode cX3_ends 96 = .ok (.aload_n 0, 1) := dk_42 (dk_at dksX3_ends_4 2 rfl rfl)
theorem dX3_ends_97 : decode cX3_ends 97 = .ok (.getfield 13, 3) := dk_180 0 13 (dk_at dksX3_ends_4 3 rfl rfl)
theorem dX3_ends_100 : decode cX3_ends 100 = .ok (.iload_n 2, 1) := dk_28 (dk_at dksX3_ends_4 6 rfl rfl)
theorem dX3_ends_101 : decode cX3_ends 101 = .ok (.iaload, 1) := dk_46 (dk_at dksX3_ends_4 7 rfl rfl)
theorem dX3_ends_102 : decode cX3_ends 102 = .ok (.iastore, 1) := dk_79 (dk_at dksX3_ends_4 8 rfl rfl)
theorem dX3_ends_103 : decode cX3_ends 103 = .ok (.iinc 2 1, 3) := dk_132 2 1 (dk_at dksX3_ends_4 9 rfl rfl)
theorem dX3_ends_106 : decode cX3_ends 106 = .ok (.goto (-31), 3) := dk_167 255 225 (dk_at dksX3_ends_4 12 rfl rfl)
theorem dX3_ends_109 : decode cX3_ends 109 = .ok (.aload_n 0, 1) := dk_42 (dk_at dksX3_ends_4 15 rfl rfl)
theorem dX3_ends_110 : decode cX3_ends 110 = .ok (.dup, 1) := dk_89 (dk_at dksX3_ends_4 16 rfl rfl)
theorem dX3_ends_111 : decode cX3_ends 111 = .ok (.getfield 49, 3) := dk_180 0 49 (dk_at dksX3_ends_4 17 rfl rfl)
theorem dX3_ends_114 : decode cX3_ends 114 = .ok (.iconst 1, 1) := dk_4 (dk_at dksX3_ends_4 20 rfl rfl)
theorem dX3_ends_115 : decode cX3_ends 115 = .ok (.iadd, 1) := dk_96 (dk_at dksX3_ends_4 21 rfl rfl)
theorem dX3_ends_116 : decode cX3_ends 116 = .ok (.putfield 49, 3) := dk_181 0 49 (dk_at dksX3_ends_5 0 rfl rfl)
theorem dX3_ends_119 : decode cX3_ends 119 = .ok (.iload_n 1, 1) := dk_27 (dk_at dksX3_ends_5 3 rfl rfl)
theorem dX3_ends_120 : decode cX3_ends 120 = .ok (.ireturn, 1) := dk_172 (dk_at dksX3_ends_5 4 rfl rfl)
def dkwX3_move_0 : List UInt8 := [42, 182, 0, 67, 42, 42, 27, 28, 182, 0, 82, 182, 0, 73, 172]
abbrev dktX3_move_0 : List UInt8 := dkwX3_move_0 ++ []
theorem dksX3_move_0 : cX3_move.data.toList.drop 0 = dktX3_move_0 := by decide +kernel
theorem dX3_move_0 : decode cX3_move 0 = .ok (.aload_n 0, 1) := dk_42 (dk_at dksX3_move_0 0 rfl rfl)
theorem dX3_move_1 : decode cX3_move 1 = .ok (.invokevirtual 67, 3) := dk_182 0 67 (dk_at dksX3_move_0 1 rfl rfl)
theorem dX3_move_4 : decode cX3_move 4 = .ok (.aload_n 0, 1) := dk_42 (dk_at dksX3_move_0 4 rfl rfl)
theorem dX3_move_5 : decode cX3_move 5 = .ok (.aload_n 0, 1) := dk_42 (dk_at dksX3_move_0 5 rfl rfl)
theorem dX3_move_6 : decode cX3_move 6 = .ok (.iload_n 1, 1) := dk_27 (dk_at dksX3_move_0 6 rfl rfl)
theorem dX3_move_7 : decode cX3_move 7 = .ok (.iload_n 2, 1) := dk_28 (dk_at dksX3_move_0 7 rfl rfl)
theorem dX3_move_8 : decode cX3_move 8 = .ok (.invokevirtual 82, 3) := dk_182 0 82 (dk_at dksX3_move_0 8 rfl rfl)
theorem dX3_move_11 : decode cX3_move 11 = .ok (.invokevirtual 73, 3) := dk_182 0 73 (dk_at dksX3_move_0 11 rfl rfl)
theorem dX3_move_14 : decode cX3_move 14 = .ok (.ireturn, 1) := dk_172 (dk_at dksX3_move_0 14 rfl rfl)
def dkwX3_moves_1 : List UInt8 := [153, 0, 16, 42, 27, 3, 184, 0, 64, 28, 182, 0, 79, 167, 0, 10, 42, 17, 252, 12, 182, 0, 41, 172]
abbrev dktX3_moves_1 : List UInt8 := dkwX3_moves_1 ++ []
def dkwX3_moves_0 : List UInt8 := [42, 27, 182, 0, 76, 154, 0, 13, 42, 17, 252, 13, 182, 0, 41, 167, 0, 30, 28, 184, 0, 56]
abbrev dktX3_moves_0 : List UInt8 := dkwX3_moves_0 ++ dktX3_moves_1
theorem dksX3_moves_0 : cX3_moves.data.toList.drop 0 = dktX3_moves_0 := by decide +kernel
theorem dksX3_moves_1 : cX3_moves.data.toList.drop 22 = dktX3_moves_1 := dk_seg dksX3_moves_0 22 rfl rfl
theorem dX3_moves_0 : decode cX3_moves 0 = .ok (.aload_n 0, 1) := dk_42 (dk_at dksX3_moves_0 0 rfl rfl)
theorem dX3_moves_1 : decode cX3_moves 1 = .ok (.iload_n 1, 1) := dk_27 (dk_at dksX3_moves_0 1 rfl rfl)
theorem dX3_moves_2 : decode cX3_moves 2 = .ok (.invokevirtual 76, 3) := dk_182 0 76 (dk_at dksX3_moves_0 2 rfl rfl)
theorem dX3_moves_5 : decode cX3_moves 5 = .ok (.ifCond .ne 13, 3) := dk_154 0 13 (dk_at dksX3_moves_0 5 rfl rfl)
theorem dX3_moves_8 : decode cX3_moves 8 = .ok (.aload_n 0, 1) := dk_42 (dk_at dksX3_moves_0 8 rfl rfl)
theorem dX3_moves_9 : decode cX3_moves 9 = .ok (.sipush (-1011), 3) := dk_17 252 13 (dk_at dksX3_moves_0 9 rfl rfl)
theorem dX3_moves_12 : decode cX3_moves 12 = .ok (.invokevirtual 41, 3) := dk_182 0 41 (dk_at dksX3_moves_0 12 rfl rfl)
theorem dX3_moves_15 : decode cX3_moves 15 = .ok (.goto 30, 3) := dk_167 0 30 (dk_at dksX3_moves_0 15 rfl rfl)
theorem dX3_moves_18 : decode cX3_moves 18 = .ok (.iload_n 2, 1) := dk_28 (dk_at dksX3_moves_0 18 rfl rfl)
theorem dX3_moves_19 : decode cX3_moves 19 = .ok (.invokestatic 56, 3) := dk_184 0 56 (dk_at dksX3_moves_0 19 rfl rfl)
theorem dX3_moves_22 : decode cX3_moves 22 = .ok (.ifCond .eq 16, 3) := dk_153 0 16 (dk_at dksX3_moves_1 0 rfl rfl)
theorem dX3_moves_25 : decode cX3_moves 25 = .ok (.aload_n 0, 1) := dk_42 (dk_at dksX3_moves_1 3 rfl rfl)
theorem dX3_moves_26 : decode cX3_moves 26 = .ok (.iload_n 1, 1) := dk_27 (dk_at dksX3_moves_1 4 rfl rfl)
theorem dX3_moves_27 : decode cX3_moves 27 = .ok (.iconst 0, 1) := dk_3 (dk_at dksX3_moves_1 5 rfl rfl)
theorem dX3_moves_28 : decode cX3_moves 28 = .ok (.invokestatic 64, 3) := dk_184 0 64 (dk_at dksX3_moves_1 6 rfl rfl)
theorem dX3_moves_31 : decode cX3_moves 31 = .ok (.iload_n 2, 1) := dk_28 (dk_at dksX3_moves_1 9 rfl rfl)
theorem dX3_moves_32 : decode cX3_moves 32 = .ok (.invokevirtual 79, 3) := dk_182 0 79 (dk_at dksX3_moves_1 10 rfl rfl)
theorem dX3_moves_35 : decode cX3_moves 35 = .ok (.goto 10, 3) := dk_167 0 10 (dk_at dksX3_moves_1 13 rfl rfl)
theorem dX3_moves_38 : decode cX3_moves 38 = .ok (.aload_n 0, 1) := dk_42 (dk_at dksX3_moves_1 16 rfl rfl)
theorem dX3_moves_39 : decode cX3_moves 39 = .ok (.sipush (-1012), 3) := dk_17 252 12 (dk_at dksX3_moves_1 17 rfl rfl)
theorem dX3_moves_42 : decode cX3_moves 42 = .ok (.invokevirtual 41, 3) := dk_182 0 41 (dk_at dksX3_moves_1 20 rfl rfl)
theorem dX3_moves_45 : decode cX3_moves 45 = .ok (.ireturn, 1) := dk_172 (dk_at dksX3_moves_1 23 rfl rfl)
def dkwX3_isRope_0 : List UInt8 := [27, 3, 42, 180, 0, 7, 3, 46, 4, 100, 184, 0, 52, 172]
abbrev dktX3_isRope_0 : List UInt8 := dkwX3_isRope_0 ++ []
theorem dksX3_isRope_0 : cX3_isRope.data.toList.drop 0 = dktX3_isRope_0 := by decide +kernel
theorem dX3_isRope_0 : decode cX3_isRope 0 = .ok (.iload_n 1, 1) := dk_27 (dk_at dksX3_isRope_0 0 rfl rfl)
theorem dX3_isRope_1 : decode cX3_isRope 1 = .ok (.iconst 0, 1) := dk_3 (dk_at dksX3_isRope_0 1 rfl rfl)
theorem dX3_isRope_2 : decode cX3_isRope 2 = .ok (.aload_n 0, 1) := dk_42 (dk_at dksX3_isRope_0 2 rfl rfl)
theorem dX3_isRope_3 : decode cX3_isRope 3 = .ok (.getfield 7, 3) := dk_180 0 7 (dk_at dksX3_isRope_0 3 rfl rfl)
theorem dX3_isRope_6 : decode cX3_isRope 6 = .ok (.iconst 0, 1) := dk_3 (dk_at dksX3_isRope_0 6 rfl rfl)
theorem dX3_isRope_7 : decode cX3_isRope 7 = .ok (.iaload, 1) := dk_46 (dk_at dksX3_isRope_0 7 rfl rfl)
theorem dX3_isRope_8 : decode cX3_isRope 8 = .ok (.iconst 1, 1) := dk_4 (dk_at dksX3_isRope_0 8 rfl rfl)
theorem dX3_isRope_9 : decode cX3_isRope 9 = .ok (.isub, 1) := dk_100 (dk_at dksX3_isRope_0 9 rfl rfl)
theorem dX3_isRope_10 : decode cX3_isRope 10 = .ok (.invokestatic 52, 3) := dk_184 0 52 (dk_at dksX3_isRope_0 10 rfl rfl)
theorem dX3_isRope_13 : decode cX3_isRope 13 = .ok (.ireturn, 1) := dk_172 (dk_at dksX3_isRope_0 13 rfl rfl)
def dkwX3_sets_1 : List UInt8 := [28, 79, 29, 172]
abbrev dktX3_sets_1 : List UInt8 := dkwX3_sets_1 ++ []
def dkwX3_sets_0 : List UInt8 := [42, 180, 0, 7, 27, 46, 62, 29, 28, 160, 0, 10, 42, 7, 28, 182, 0, 60, 172, 42, 180, 0, 7, 27]
abbrev dktX3_sets_0 : List UInt8 := dkwX3_sets_0 ++ dktX3_sets_1
theorem dksX3_sets_0 : cX3_sets.data.toList.drop 0 = dktX3_sets_0 := by decide +kernel
theorem dksX3_sets_1 : cX3_sets.data.toList.drop 24 = dktX3_sets_1 := dk_seg dksX3_sets_0 24 rfl rfl
theorem dX3_sets_0 : decode cX3_sets 0 = .ok (.aload_n 0, 1) := dk_42 (dk_at dksX3_sets_0 0 rfl rfl)
theorem dX3_sets_1 : decode cX3_sets 1 = .ok (.getfield 7, 3) := dk_180 0 7 (dk_at dksX3_sets_0 1 rfl rfl)
theorem dX3_sets_4 : decode cX3_sets 4 = .ok (.iload_n 1, 1) := dk_27 (dk_at dksX3_sets_0 4 rfl rfl)
theorem dX3_sets_5 : decode cX3_sets 5 = .ok (.iaload, 1) := dk_46 (dk_at dksX3_sets_0 5 rfl rfl)
theorem dX3_sets_6 : decode cX3_sets 6 = .ok (.istore_n 3, 1) := dk_62 (dk_at dksX3_sets_0 6 rfl rfl)
theorem dX3_sets_7 : decode cX3_sets 7 = .ok (.iload_n 3, 1) := dk_29 (dk_at dksX3_sets_0 7 rfl rfl)
theorem dX3_sets_8 : decode cX3_sets 8 = .ok (.iload_n 2, 1) := dk_28 (dk_at dksX3_sets_0 8 rfl rfl)
theorem dX3_sets_9 : decode cX3_sets 9 = .ok (.if_icmp .ne 10, 3) := dk_160 0 10 (dk_at dksX3_sets_0 9 rfl rfl)
theorem dX3_sets_12 : decode cX3_sets 12 = .ok (.aload_n 0, 1) := dk_42 (dk_at dksX3_sets_0 12 rfl rfl)
theorem dX3_sets_13 : decode cX3_sets 13 = .ok (.iconst 4, 1) := dk_7 (dk_at dksX3_sets_0 13 rfl rfl)
theorem dX3_sets_14 : decode cX3_sets 14 = .ok (.iload_n 2, 1) := dk_28 (dk_at dksX3_sets_0 14 rfl rfl)
theorem dX3_sets_15 : decode cX3_sets 15 = .ok (.invokevirtual 60, 3) := dk_182 0 60 (dk_at dksX3_sets_0 15 rfl rfl)
theorem dX3_sets_18 : decode cX3_sets 18 = .ok (.ireturn, 1) := dk_172 (dk_at dksX3_sets_0 18 rfl rfl)
theorem dX3_sets_19 : decode cX3_sets 19 = .ok (.aload_n 0, 1) := dk_42 (dk_at dksX3_sets_0 19 rfl rfl)
theorem dX3_sets_20 : decode cX3_sets 20 = .ok (.getfield 7, 3) := dk_180 0 7 (dk_at dksX3_sets_0 20 rfl rfl)
theorem dX3_sets_23 : decode cX3_sets 23 = .ok (.iload_n 1, 1) := dk_27 (dk_at dksX3_sets_0 23 rfl rfl)
theorem dX3_sets_24 : decode cX3_sets 24 = .ok (.iload_n 2, 1) := dk_28 (dk_at dksX3_sets_1 0 rfl rfl)
theorem dX3_sets_25 : decode cX3_sets 25 = .ok (.iastore, 1) := dk_79 (dk_at dksX3_sets_1 1 rfl rfl)
theorem dX3_sets_26 : decode cX3_sets 26 = .ok (.iload_n 3, 1) := dk_29 (dk_at dksX3_sets_1 2 rfl rfl)
theorem dX3_sets_27 : decode cX3_sets 27 = .ok (.ireturn, 1) := dk_172 (dk_at dksX3_sets_1 3 rfl rfl)
def dkwX3_sensor_0 : List UInt8 := [42, 182, 0, 67, 42, 42, 27, 28, 182, 0, 85, 182, 0, 73, 172]
abbrev dktX3_sensor_0 : List UInt8 := dkwX3_sensor_0 ++ []
theorem dksX3_sensor_0 : cX3_sensor.data.toList.drop 0 = dktX3_sensor_0 := by decide +kernel
theorem dX3_sensor_0 : decode cX3_sensor 0 = .ok (.aload_n 0, 1) := dk_42 (dk_at dksX3_sensor_0 0 rfl rfl)
theorem dX3_sensor_1 : decode cX3_sensor 1 = .ok (.invokevirtual 67, 3) := dk_182 0 67 (dk_at dksX3_sensor_0 1 rfl rfl)
theorem dX3_sensor_4 : decode cX3_sensor 4 = .ok (.aload_n 0, 1) := dk_42 (dk_at dksX3_sensor_0 4 rfl rfl)
theorem dX3_sensor_5 : decode cX3_sensor 5 = .ok (.aload_n 0, 1) := dk_42 (dk_at dksX3_sensor_0 5 rfl rfl)
theorem dX3_sensor_6 : decode cX3_sensor 6 = .ok (.iload_n 1, 1) := dk_27 (dk_at dksX3_sensor_0 6 rfl rfl)
theorem dX3_sensor_7 : decode cX3_sensor 7 = .ok (.iload_n 2, 1) := dk_28 (dk_at dksX3_sensor_0 7 rfl rfl)
theorem dX3_sensor_8 : decode cX3_sensor 8 = .ok (.invokevirtual 85, 3) := dk_182 0 85 (dk_at dksX3_sensor_0 8 rfl rfl)
theorem dX3_sensor_11 : decode cX3_sensor 11 = .ok (.invokevirtual 73, 3) := dk_182 0 73 (dk_at dksX3_sensor_0 11 rfl rfl)
theorem dX3_sensor_14 : decode cX3_sensor 14 = .ok (.ireturn, 1) := dk_172 (dk_at dksX3_sensor_0 14 rfl rfl)
def dkwX3_switches_3 : List UInt8 := [4, 184, 0, 64, 46, 96, 54, 4, 132, 5, 1, 167, 255, 226, 21, 4, 172]
abbrev dktX3_switches_3 : List UInt8 := dkwX3_switches_3 ++ []
def dkwX3_switches_2 : List UInt8 := [54, 4, 3, 54, 5, 21, 5, 42, 180, 0, 7, 3, 46, 162, 0, 25, 21, 4, 42, 180, 0, 7, 21, 5]
abbrev dktX3_switches_2 : List UInt8 := dkwX3_switches_2 ++ dktX3_switches_3
def dkwX3_switches_1 : List UInt8 := [154, 0, 11, 42, 17, 252, 12, 182, 0, 41, 172, 42, 27, 4, 184, 0, 64, 28, 182, 0, 79, 62, 3]
abbrev dktX3_switches_1 : List UInt8 := dkwX3_switches_1 ++ dktX3_switches_2
def dkwX3_switches_0 : List UInt8 := [42, 27, 182, 0, 76, 154, 0, 11, 42, 17, 252, 13, 182, 0, 41, 172, 28, 3, 4, 184, 0, 52]
abbrev dktX3_switches_0 : List UInt8 := dkwX3_switches_0 ++ dktX3_switches_1
theorem dksX3_switches_0 : cX3_switches.data.toList.drop 0 = dktX3_switches_0 := by decide +kernel
theorem dksX3_switches_1 : cX3_switches.data.toList.drop 22 = dktX3_switches_1 := dk_seg dksX3_switches_0 22 rfl rfl
theorem dksX3_switches_2 : cX3_switches.data.toList.drop 45 = dktX3_switches_2 := dk_seg dksX3_switches_1 23 rfl rfl
theorem dksX3_switches_3 : cX3_switches.data.toList.drop 69 = dktX3_switches_3 := dk_seg dksX3_switches_2 24 rfl rfl
theorem dX3_switches_0 : decode cX3_switches 0 = .ok (.aload_n 0, 1) := dk_42 (dk_at dksX3_switches_0 0 rfl rfl)
theorem dX3_switches_1 : decode cX3_switches 1 = .ok (.iload_n 1, 1) := dk_27 (dk_at dksX3_switches_0 1 rfl rfl)
theorem dX3_switches_2 : decode cX3_switches 2 = .ok (.invokevirtual 76, 3) := dk_182 0 76 (dk_at dksX3_switches_0 2 rfl rfl)
theorem dX3_switches_5 : decode cX3_switches 5 = .ok (.ifCond .ne 11, 3) := dk_154 0 11 (dk_at dksX3_switches_0 5 rfl rfl)
theorem dX3_switches_8 : decode cX3_switches 8 = .ok (.aload_n 0, 1) := dk_42 (dk_at dksX3_switches_0 8 rfl rfl)
theorem dX3_switches_9 : decode cX3_switches 9 = .ok (.sipush (-1011), 3) := dk_17 252 13 (dk_at dksX3_switches_0 9 rfl rfl)
theorem dX3_switches_12 : decode cX3_switches 12 = .ok (.invokevirtual 41, 3) := dk_182 0 41 (dk_at dksX3_switches_0 12 rfl rfl)
theorem dX3_switches_15 : decode cX3_switches 15 = .ok (.ireturn, 1) := dk_172 (dk_at dksX3_switches_0 15 rfl rfl)
theorem dX3_switches_16 : decode cX3_switches 16 = .ok (.iload_n 2, 1) := dk_28 (dk_at dksX3_switches_0 16 rfl rfl)
theorem dX3_switches_17 : decode cX3_switches 17 = .ok (.iconst 0, 1) := dk_3 (dk_at dksX3_switches_0 17 rfl rfl)
theorem dX3_switches_18 : decode cX3_switches 18 = .ok (.iconst 1, 1) := dk_4 (dk_at dksX3_switches_0 18 rfl rfl)
theorem dX3_switches_19 : decode cX3_switches 19 = .ok (.invokestatic 52, 3) := dk_184 0 52 (dk_at dksX3_switches_0 19 rfl rfl)
theorem dX3_switches_22 : decode cX3_switches 22 = .ok (.ifCond .ne 11, 3) := dk_154 0 11 (dk_at dksX3_switches_1 0 rfl rfl)
theorem dX3_switches_25 : decode cX3_switches 25 = .ok (.aload_n 0, 1) := dk_42 (dk_at dksX3_switches_1 3 rfl rfl)
theorem dX3_switches_26 : decode cX3_switches 26 = .ok (.sipush (-1012), 3) := dk_17 252 12 (dk_at dksX3_switches_1 4 rfl rfl)
theorem dX3_switches_29 : decode cX3_switches 29 = .ok (.invokevirtual 41, 3) := dk_182 0 41 (dk_at dksX3_switches_1 7 rfl rfl)
theorem dX3_switches_32 : decode cX3_switches 32 = .ok (.ireturn, 1) := dk_172 (dk_at dksX3_switches_1 10 rfl rfl)
theorem dX3_switches_33 : decode cX3_switches 33 = .ok (.aload_n 0, 1) := dk_42 (dk_at dksX3_switches_1 11 rfl rfl)
theorem dX3_switches_34 : decode cX3_switches 34 = .ok (.iload_n 1, 1) := dk_27 (dk_at dksX3_switches_1 12 rfl rfl)
theorem dX3_switches_35 : decode cX3_switches 35 = .ok (.iconst 1, 1) := dk_4 (dk_at dksX3_switches_1 13 rfl rfl)
theorem dX3_switches_36 : decode cX3_switches 36 = .ok (.invokestatic 64, 3) := dk_184 0 64 (dk_at dksX3_switches_1 14 rfl rfl)
theorem dX3_switches_39 : decode cX3_switches 39 = .ok (.iload_n 2, 1) := dk_28 (dk_at dksX3_switches_1 17 rfl rfl)
theorem dX3_switches_40 : decode cX3_switches 40 = .ok (.invokevirtual 79, 3) := dk_182 0 79 (dk_at dksX3_switches_1 18 rfl rfl)
theorem dX3_switches_43 : decode cX3_switches 43 = .ok (.istore_n 3, 1) := dk_62 (dk_at dksX3_switches_1 21 rfl rfl)
theorem dX3_switches_44 : decode cX3_switches 44 = .ok (.iconst 0, 1) := dk_3 (dk_at dksX3_switches_1 22 rfl rfl)
theorem dX3_switches_45 : decode cX3_switches 45 = .ok (.istore 4, 2) := dk_54 4 (dk_at dksX3_switches_2 0 rfl rfl)
theorem dX3_switches_47 : decode cX3_switches 47 = .ok (.iconst 0, 1) := dk_3 (dk_at dksX3_switches_2 2 rfl rfl)
theorem dX3_switches_48 : decode cX3_switches 48 = .ok (.istore 5, 2) := dk_54 5 (dk_at dksX3_switches_2 3 rfl rfl)
theorem dX3_switches_50 : decode cX3_switches 50 = .ok (.iload 5, 2) := dk_21 5 (dk_at dksX3_switches_2 5 rfl rfl)
theorem dX3_switches_52 : decode cX3_switches 52 = .ok (.aload_n 0, 1) := dk_42 (dk_at dksX3_switches_2 7 rfl rfl)
theorem dX3_switches_53 : decode cX3_switches 53 = .ok (.getfield 7, 3) := dk_180 0 7 (dk_at dksX3_switches_2 8 rfl rfl)
theorem dX3_switches_56 : decode cX3_switches 56 = .ok (.iconst 0, 1) := dk_3 (dk_at dksX3_switches_2 11 rfl rfl)
theorem dX3_switches_57 : decode cX3_switches 57 = .ok (.iaload, 1) := dk_46 (dk_at dksX3_switches_2 12 rfl rfl)
theorem dX3_switches_58 : decode cX3_switches 58 = .ok (.if_icmp .ge 25, 3) := dk_162 0 25 (dk_at dksX3_switches_2 13 rfl rfl)
theorem dX3_switches_61 : decode cX3_switches 61 = .ok (.iload 4, 2) := dk_21 4 (dk_at dksX3_switches_2 16 rfl rfl)
theorem dX3_switches_63 : decode cX3_switches 63 = .ok (.aload_n 0, 1) := dk_42 (dk_at dksX3_switches_2 18 rfl rfl)
theorem dX3_switches_64 : decode cX3_switches 64 = .ok (.getfield 7, 3) := dk_180 0 7 (dk_at dksX3_switches_2 19 rfl rfl)
theorem dX3_switches_67 : decode cX3_switches 67 = .ok (.iload 5, 2) := dk_21 5 (dk_at dksX3_switches_2 22 rfl rfl)
theorem dX3_switches_69 : decode cX3_switches 69 = .ok (.iconst 1, 1) := dk_4 (dk_at dksX3_switches_3 0 rfl rfl)
theorem dX3_switches_70 : decode cX3_switches 70 = .ok (.invokestatic 64, 3) := dk_184 0 64 (dk_at dksX3_switches_3 1 rfl rfl)
theorem dX3_switches_73 : decode cX3_switches 73 = .ok (.iaload, 1) := dk_46 (dk_at dksX3_switches_3 4 rfl rfl)
theorem dX3_switches_74 : decode cX3_switches 74 = .ok (.iadd, 1) := dk_96 (dk_at dksX3_switches_3 5 rfl rfl)
theorem dX3_switches_75 : decode cX3_switches 75 = .ok (.istore 4, 2) := dk_54 4 (dk_at dksX3_switches_3 6 rfl rfl)
theorem dX3_switches_77 : decode cX3_switches 77 = .ok (.iinc 5 1, 3) := dk_132 5 1 (dk_at dksX3_switches_3 8 rfl rfl)
theorem dX3_switches_80 : decode cX3_switches 80 = .ok (.goto (-30), 3) := dk_167 255 226 (dk_at dksX3_switches_3 11 rfl rfl)
theorem dX3_switches_83 : decode cX3_switches 83 = .ok (.iload 4, 2) := dk_21 4 (dk_at dksX3_switches_3 14 rfl rfl)
theorem dX3_switches_85 : decode cX3_switches 85 = .ok (.ireturn, 1) := dk_172 (dk_at dksX3_switches_3 16 rfl rfl)
def dkwX3_oil_0 : List UInt8 := [42, 182, 0, 67, 42, 42, 27, 28, 182, 0, 88, 182, 0, 73, 172]
abbrev dktX3_oil_0 : List UInt8 := dkwX3_oil_0 ++ []
theorem dksX3_oil_0 : cX3_oil.data.toList.drop 0 = dktX3_oil_0 := by decide +kernel
theorem dX3_oil_0 : decode cX3_oil 0 = .ok (.aload_n 0, 1) := dk_42 (dk_at dksX3_oil_0 0 rfl rfl)
theorem dX3_oil_1 : decode cX3_oil 1 = .ok (.invokevirtual 67, 3) := dk_182 0 67 (dk_at dksX3_oil_0 1 rfl rfl)
theorem dX3_oil_4 : decode cX3_oil 4 = .ok (.aload_n 0, 1) := dk_42 (dk_at dksX3_oil_0 4 rfl rfl)
theorem dX3_oil_5 : decode cX3_oil 5 = .ok (.aload_n 0, 1) := dk_42 (dk_at dksX3_oil_0 5 rfl rfl)
theorem dX3_oil_6 : decode cX3_oil 6 = .ok (.iload_n 1, 1) := dk_27 (dk_at dksX3_oil_0 6 rfl rfl)
theorem dX3_oil_7 : decode cX3_oil 7 = .ok (.iload_n 2, 1) := dk_28 (dk_at dksX3_oil_0 7 rfl rfl)
theorem dX3_oil_8 : decode cX3_oil 8 = .ok (.invokevirtual 88, 3) := dk_182 0 88 (dk_at dksX3_oil_0 8 rfl rfl)
theorem dX3_oil_11 : decode cX3_oil 11 = .ok (.invokevirtual 73, 3) := dk_182 0 73 (dk_at dksX3_oil_0 11 rfl rfl)
theorem dX3_oil_14 : decode cX3_oil 14 = .ok (.ireturn, 1) := dk_172 (dk_at dksX3_oil_0 14 rfl rfl)
def dkwX3_oils_3 : List UInt8 := [29, 28, 100, 172]
abbrev dktX3_oils_3 : List UInt8 := dkwX3_oils_3 ++ []
def dkwX3_oils_2 : List UInt8 := [162, 0, 10, 42, 8, 29, 182, 0, 60, 172, 42, 180, 0, 7, 27, 5, 184, 0, 64, 92, 46, 28, 100, 79]
abbrev dktX3_oils_2 : List UInt8 := dkwX3_oils_2 ++ dktX3_oils_3
def dkwX3_oils_1 : List UInt8 := [154, 0, 11, 42, 17, 252, 12, 182, 0, 41, 172, 42, 180, 0, 7, 27, 5, 184, 0, 64, 46, 62, 29, 28]
abbrev dktX3_oils_1 : List UInt8 := dkwX3_oils_1 ++ dktX3_oils_2
def dkwX3_oils_0 : List UInt8 := [42, 27, 182, 0, 76, 154, 0, 11, 42, 17, 252, 13, 182, 0, 41, 172, 28, 4, 16, 9, 184, 0, 52]
abbrev dktX3_oils_0 : List UInt8 := dkwX3_oils_0 ++ dktX3_oils_1
theorem dksX3_oils_0 : cX3_oils.data.toList.drop 0 = dktX3_oils_0 := by decide +kernel
theorem dksX3_oils_1 : cX3_oils.data.toList.drop 23 = dktX3_oils_1 := dk_seg dksX3_oils_0 23 rfl rfl
theorem dksX3_oils_2 : cX3_oils.data.toList.drop 47 = dktX3_oils_2 := dk_seg dksX3_oils_1 24 rfl rfl
theorem dksX3_oils_3 : cX3_oils.data.toList.drop 71 = dktX3_oils_3 := dk_seg dksX3_oils_2 24 rfl rfl
theorem dX3_oils_0 : decode cX3_oils 0 = .ok (.aload_n 0, 1) := dk_42 (dk_at dksX3_oils_0 0 rfl rfl)
theorem dX3_oils_1 : decode cX3_oils 1 = .ok (.iload_n 1, 1) := dk_27 (dk_at dksX3_oils_0 1 rfl rfl)
theorem dX3_oils_2 : decode cX3_oils 2 = .ok (.invokevirtual 76, 3) := dk_182 0 76 (dk_at dksX3_oils_0 2 rfl rfl)
theorem dX3_oils_5 : decode cX3_oils 5 = .ok (.ifCond .ne 11, 3) := dk_154 0 11 (dk_at dksX3_oils_0 5 rfl rfl)
theorem dX3_oils_8 : decode cX3_oils 8 = .ok (.aload_n 0, 1) := dk_42 (dk_at dksX3_oils_0 8 rfl rfl)
theorem dX3_oils_9 : decode cX3_oils 9 = .ok (.sipush (-1011), 3) := dk_17 252 13 (dk_at dksX3_oils_0 9 rfl rfl)
theorem dX3_oils_12 : decode cX3_oils 12 = .ok (.invokevirtual 41, 3) := dk_182 0 41 (dk_at dksX3_oils_0 12 rfl rfl)
theorem dX3_oils_15 : decode cX3_oils 15 = .ok (.ireturn, 1) := dk_172 (dk_at dksX3_oils_0 15 rfl rfl)
theorem dX3_oils_16 : decode cX3_oils 16 = .ok (.iload_n 2, 1) := dk_28 (dk_at dksX3_oils_0 16 rfl rfl)
theorem dX3_oils_17 : decode cX3_oils 17 = .ok (.iconst 1, 1) := dk_4 (dk_at dksX3_oils_0 17 rfl rfl)
theorem dX3_oils_18 : decode cX3_oils 18 = .ok (.bipush 9, 2) := dk_16 9 (dk_at dksX3_oils_0 18 rfl rfl)
theorem dX3_oils_20 : decode cX3_oils 20 = .ok (.invokestatic 52, 3) := dk_184 0 52 (dk_at dksX3_oils_0 20 rfl rfl)
theorem dX3_oils_23 : decode cX3_oils 23 = .ok (.ifCond .ne 11, 3) := dk_154 0 11 (dk_at dksX3_oils_1 0 rfl rfl)
theorem dX3_oils_26 : decode cX3_oils 26 = .ok (.aload_n 0, 1) := dk_42 (dk_at dksX3_oils_1 3 rfl rfl)
theorem dX3_oils_27 : decode cX3_oils 27 = .ok (.sipush (-1012), 3) := dk_17 252 12 (dk_at dksX3_oils_1 4 rfl rfl)
theorem dX3_oils_30 : decode cX3_oils 30 = .ok (.invokevirtual 41, 3) := dk_182 0 41 (dk_at dksX3_oils_1 7 rfl rfl)
theorem dX3_oils_33 : decode cX3_oils 33 = .ok (.ireturn, 1) := dk_172 (dk_at dksX3_oils_1 10 rfl rfl)
theorem dX3_oils_34 : decode cX3_oils 34 = .ok (.aload_n 0, 1) := dk_42 (dk_at dksX3_oils_1 11 rfl rfl)
theorem dX3_oils_35 : decode cX3_oils 35 = .ok (.getfield 7, 3) := dk_180 0 7 (dk_at dksX3_oils_1 12 rfl rfl)
theorem dX3_oils_38 : decode cX3_oils 38 = .ok (.iload_n 1, 1) := dk_27 (dk_at dksX3_oils_1 15 rfl rfl)
theorem dX3_oils_39 : decode cX3_oils 39 = .ok (.iconst 2, 1) := dk_5 (dk_at dksX3_oils_1 16 rfl rfl)
theorem dX3_oils_40 : decode cX3_oils 40 = .ok (.invokestatic 64, 3) := dk_184 0 64 (dk_at dksX3_oils_1 17 rfl rfl)
theorem dX3_oils_43 : decode cX3_oils 43 = .ok (.iaload, 1) := dk_46 (dk_at dksX3_oils_1 20 rfl rfl)
theorem dX3_oils_44 : decode cX3_oils 44 = .ok (.istore_n 3, 1) := dk_62 (dk_at dksX3_oils_1 21 rfl rfl)
theorem dX3_oils_45 : decode cX3_oils 45 = .ok (.iload_n 3, 1) := dk_29 (dk_at dksX3_oils_1 22 rfl rfl)
theorem dX3_oils_46 : decode cX3_oils 46 = .ok (.iload_n 2, 1) := dk_28 (dk_at dksX3_oils_1 23 rfl rfl)
theorem dX3_oils_47 : decode cX3_oils 47 = .ok (.if_icmp .ge 10, 3) := dk_162 0 10 (dk_at dksX3_oils_2 0 rfl rfl)
theorem dX3_oils_50 : decode cX3_oils 50 = .ok (.aload_n 0, 1) := dk_42 (dk_at dksX3_oils_2 3 rfl rfl)
theorem dX3_oils_51 : decode cX3_oils 51 = .ok (.iconst 5, 1) := dk_8 (dk_at dksX3_oils_2 4 rfl rfl)
theorem dX3_oils_52 : decode cX3_oils 52 = .ok (.iload_n 3, 1) := dk_29 (dk_at dksX3_oils_2 5 rfl rfl)
theorem dX3_oils_53 : decode cX3_oils 53 = .ok (.invokevirtual 60, 3) := dk_182 0 60 (dk_at dksX3_oils_2 6 rfl rfl)
theorem dX3_oils_56 : decode cX3_oils 56 = .ok (.ireturn, 1) := dk_172 (dk_at dksX3_oils_2 9 rfl rfl)
theorem dX3_oils_57 : decode cX3_oils 57 = .ok (.aload_n 0, 1) := dk_42 (dk_at dksX3_oils_2 10 rfl rfl)
theorem dX3_oils_58 : decode cX3_oils 58 = .ok (.getfield 7, 3) := dk_180 0 7 (dk_at dksX3_oils_2 11 rfl rfl)
theorem dX3_oils_61 : decode cX3_oils 61 = .ok (.iload_n 1, 1) := dk_27 (dk_at dksX3_oils_2 14 rfl rfl)
theorem dX3_oils_62 : decode cX3_oils 62 = .ok (.iconst 2, 1) := dk_5 (dk_at dksX3_oils_2 15 rfl rfl)
theorem dX3_oils_63 : decode cX3_oils 63 = .ok (.invokestatic 64, 3) := dk_184 0 64 (dk_at dksX3_oils_2 16 rfl rfl)
theorem dX3_oils_66 : decode cX3_oils 66 = .ok (.dup2, 1) := dk_92 (dk_at dksX3_oils_2 19 rfl rfl)
theorem dX3_oils_67 : decode cX3_oils 67 = .ok (.iaload, 1) := dk_46 (dk_at dksX3_oils_2 20 rfl rfl)
theorem dX3_oils_68 : decode cX3_oils 68 = .ok (.iload_n 2, 1) := dk_28 (dk_at dksX3_oils_2 21 rfl rfl)
theorem dX3_oils_69 : decode cX3_oils 69 = .ok (.isub, 1) := dk_100 (dk_at dksX3_oils_2 22 rfl rfl)
theorem dX3_oils_70 : decode cX3_oils 70 = .ok (.iastore, 1) := dk_79 (dk_at dksX3_oils_2 23 rfl rfl)
theorem dX3_oils_71 : decode cX3_oils 71 = .ok (.iload_n 3, 1) := dk_29 (dk_at dksX3_oils_3 0 rfl rfl)
theorem dX3_oils_72 : decode cX3_oils 72 = .ok (.iload_n 2, 1) := dk_28 (dk_at dksX3_oils_3 1 rfl rfl)
theorem dX3_oils_73 : decode cX3_oils 73 = .ok (.isub, 1) := dk_100 (dk_at dksX3_oils_3 2 rfl rfl)
theorem dX3_oils_74 : decode cX3_oils 74 = .ok (.ireturn, 1) := dk_172 (dk_at dksX3_oils_3 3 rfl rfl)
def dkwX3_ropeOf_2 : List UInt8 := [167, 0, 6, 17, 252, 12, 172]
abbrev dktX3_ropeOf_2 : List UInt8 := dkwX3_ropeOf_2 ++ []
def dkwX3_ropeOf_1 : List UInt8 := [180, 0, 7, 27, 28, 184, 0, 64, 46, 167, 0, 20, 28, 16, 6, 160, 0, 11, 42, 27, 182, 0, 94]
abbrev dktX3_ropeOf_1 : List UInt8 := dkwX3_ropeOf_1 ++ dktX3_ropeOf_2
def dkwX3_ropeOf_0 : List UInt8 := [42, 27, 182, 0, 76, 154, 0, 7, 17, 252, 13, 172, 28, 3, 8, 184, 0, 52, 153, 0, 16, 42]
abbrev dktX3_ropeOf_0 : List UInt8 := dkwX3_ropeOf_0 ++ dktX3_ropeOf_1
theorem dksX3_ropeOf_0 : cX3_ropeOf.data.toList.drop 0 = dktX3_ropeOf_0 := by decide +kernel
theorem dksX3_ropeOf_1 : cX3_ropeOf.data.toList.drop 22 = dktX3_ropeOf_1 := dk_seg dksX3_ropeOf_0 22 rfl rfl
theorem dksX3_ropeOf_2 : cX3_ropeOf.data.toList.drop 45 = dktX3_ropeOf_2 := dk_seg dksX3_ropeOf_1 23 rfl rfl
theorem dX3_ropeOf_0 : decode cX3_ropeOf 0 = .ok (.aload_n 0, 1) := dk_42 (dk_at dksX3_ropeOf_0 0 rfl rfl)
theorem dX3_ropeOf_1 : decode cX3_ropeOf 1 = .ok (.iload_n 1, 1) := dk_27 (dk_at dksX3_ropeOf_0 1 rfl rfl)
theorem dX3_ropeOf_2 : decode cX3_ropeOf 2 = .ok (.invokevirtual 76, 3) := dk_182 0 76 (dk_at dksX3_ropeOf_0 2 rfl rfl)
theorem dX3_ropeOf_5 : decode cX3_ropeOf 5 = .ok (.ifCond .ne 7, 3) := dk_154 0 7 (dk_at dksX3_ropeOf_0 5 rfl rfl)
theorem dX3_ropeOf_8 : decode cX3_ropeOf 8 = .ok (.sipush (-1011), 3) := dk_17 252 13 (dk_at dksX3_ropeOf_0 8 rfl rfl)
theorem dX3_ropeOf_11 : decode cX3_ropeOf 11 = .ok (.ireturn, 1) := dk_172 (dk_at dksX3_ropeOf_0 11 rfl rfl)
theorem dX3_ropeOf_12 : decode cX3_ropeOf 12 = .ok (.iload_n 2, 1) := dk_28 (dk_at dksX3_ropeOf_0 12 rfl rfl)
theorem dX3_ropeOf_13 : decode cX3_ropeOf 13 = .ok (.iconst 0, 1) := dk_3 (dk_at dksX3_ropeOf_0 13 rfl rfl)
theorem dX3_ropeOf_14 : decode cX3_ropeOf 14 = .ok (.iconst 5, 1) := dk_8 (dk_at dksX3_ropeOf_0 14 rfl rfl)
theorem dX3_ropeOf_15 : decode cX3_ropeOf 15 = .ok (.invokestatic 52, 3) := dk_184 0 52 (dk_at dksX3_ropeOf_0 15 rfl rfl)
theorem dX3_ropeOf_18 : decode cX3_ropeOf 18 = .ok (.ifCond .eq 16, 3) := dk_153 0 16 (dk_at dksX3_ropeOf_0 18 rfl rfl)
theorem dX3_ropeOf_21 : decode cX3_ropeOf 21 = .ok (.aload_n 0, 1) := dk_42 (dk_at dksX3_ropeOf_0 21 rfl rfl)
theorem dX3_ropeOf_22 : decode cX3_ropeOf 22 = .ok (.getfield 7, 3) := dk_180 0 7 (dk_at dksX3_ropeOf_1 0 rfl rfl)
theorem dX3_ropeOf_25 : decode cX3_ropeOf 25 = .ok (.iload_n 1, 1) := dk_27 (dk_at dksX3_ropeOf_1 3 rfl rfl)
theorem dX3_ropeOf_26 : decode cX3_ropeOf 26 = .ok (.iload_n 2, 1) := dk_28 (dk_at dksX3_ropeOf_1 4 rfl rfl)
theorem dX3_ropeOf_27 : decode cX3_ropeOf 27 = .ok (.invokestatic 64, 3) := dk_184 0 64 (dk_at dksX3_ropeOf_1 5 rfl rfl)
theorem dX3_ropeOf_30 : decode cX3_ropeOf 30 = .ok (.iaload, 1) := dk_46 (dk_at dksX3_ropeOf_1 8 rfl rfl)
theorem dX3_ropeOf_31 : decode cX3_ropeOf 31 = .ok (.goto 20, 3) := dk_167 0 20 (dk_at dksX3_ropeOf_1 9 rfl rfl)
theorem dX3_ropeOf_34 : decode cX3_ropeOf 34 = .ok (.iload_n 2, 1) := dk_28 (dk_at dksX3_ropeOf_1 12 rfl rfl)
theorem dX3_ropeOf_35 : decode cX3_ropeOf 35 = .ok (.bipush 6, 2) := dk_16 6 (dk_at dksX3_ropeOf_1 13 rfl rfl)
theorem dX3_ropeOf_37 : decode cX3_ropeOf 37 = .ok (.if_icmp .ne 11, 3) := dk_160 0 11 (dk_at dksX3_ropeOf_1 15 rfl rfl)
theorem dX3_ropeOf_40 : decode cX3_ropeOf 40 = .ok (.aload_n 0, 1) := dk_42 (dk_at dksX3_ropeOf_1 18 rfl rfl)
theorem dX3_ropeOf_41 : decode cX3_ropeOf 41 = .ok (.iload_n 1, 1) := dk_27 (dk_at dksX3_ropeOf_1 19 rfl rfl)
theorem dX3_ropeOf_42 : decode cX3_ropeOf 42 = .ok (.invokevirtual 94, 3) := dk_182 0 94 (dk_at dksX3_ropeOf_1 20 rfl rfl)
theorem dX3_ropeOf_45 : decode cX3_ropeOf 45 = .ok (.goto 6, 3) := dk_167 0 6 (dk_at dksX3_ropeOf_2 0 rfl rfl)
theorem dX3_ropeOf_48 : decode cX3_ropeOf 48 = .ok (.sipush (-1012), 3) := dk_17 252 12 (dk_at dksX3_ropeOf_2 3 rfl rfl)
theorem dX3_ropeOf_51 : decode cX3_ropeOf 51 = .ok (.ireturn, 1) := dk_172 (dk_at dksX3_ropeOf_2 6 rfl rfl)
def dkwX3_waitingOf_1 : List UInt8 := [160, 0, 7, 4, 167, 0, 4, 3, 96, 61, 132, 3, 1, 167, 255, 225, 28, 172]
abbrev dktX3_waitingOf_1 : List UInt8 := dkwX3_waitingOf_1 ++ []
def dkwX3_waitingOf_0 : List UInt8 := [3, 61, 3, 62, 29, 42, 180, 0, 7, 4, 46, 162, 0, 27, 28, 42, 29, 3, 182, 0, 91, 27]
abbrev dktX3_waitingOf_0 : List UInt8 := dkwX3_waitingOf_0 ++ dktX3_waitingOf_1
theorem dksX3_waitingOf_0 : cX3_waitingOf.data.toList.drop 0 = dktX3_waitingOf_0 := by decide +kernel
theorem dksX3_waitingOf_1 : cX3_waitingOf.data.toList.drop 22 = dktX3_waitingOf_1 := dk_seg dksX3_waitingOf_0 22 rfl rfl
theorem dX3_waitingOf_0 : decode cX3_waitingOf 0 = .ok (.iconst 0, 1) := dk_3 (dk_at dksX3_waitingOf_0 0 rfl rfl)
theorem dX3_waitingOf_1 : decode cX3_waitingOf 1 = .ok (.istore_n 2, 1) := dk_61 (dk_at dksX3_waitingOf_0 1 rfl rfl)
theorem dX3_waitingOf_2 : decode cX3_waitingOf 2 = .ok (.iconst 0, 1) := dk_3 (dk_at dksX3_waitingOf_0 2 rfl rfl)
theorem dX3_waitingOf_3 : decode cX3_waitingOf 3 = .ok (.istore_n 3, 1) := dk_62 (dk_at dksX3_waitingOf_0 3 rfl rfl)
theorem dX3_waitingOf_4 : decode cX3_waitingOf 4 = .ok (.iload_n 3, 1) := dk_29 (dk_at dksX3_waitingOf_0 4 rfl rfl)
theorem dX3_waitingOf_5 : decode cX3_waitingOf 5 = .ok (.aload_n 0, 1) := dk_42 (dk_at dksX3_waitingOf_0 5 rfl rfl)
theorem dX3_waitingOf_6 : decode cX3_waitingOf 6 = .ok (.getfield 7, 3) := dk_180 0 7 (dk_at dksX3_waitingOf_0 6 rfl rfl)
theorem dX3_waitingOf_9 : decode cX3_waitingOf 9 = .ok (.iconst 1, 1) := dk_4 (dk_at dksX3_waitingOf_0 9 rfl rfl)
theorem dX3_waitingOf_10 : decode cX3_waitingOf 10 = .ok (.iaload, 1) := dk_46 (dk_at dksX3_waitingOf_0 10 rfl rfl)
theorem dX3_waitingOf_11 : decode cX3_waitingOf 11 = .ok (.if_icmp .ge 27, 3) := dk_162 0 27 (dk_at dksX3_waitingOf_0 11 rfl rfl)
theorem dX3_waitingOf_14 : decode cX3_waitingOf 14 = .ok (.iload_n 2, 1) := dk_28 (dk_at dksX3_waitingOf_0 14 rfl rfl)
theorem dX3_waitingOf_15 : decode cX3_waitingOf 15 = .ok (.aload_n 0, 1) := dk_42 (dk_at dksX3_waitingOf_0 15 rfl rfl)
theorem dX3_waitingOf_16 : decode cX3_waitingOf 16 = .ok (.iload_n 3, 1) := dk_29 (dk_at dksX3_waitingOf_0 16 rfl rfl)
theorem dX3_waitingOf_17 : decode cX3_waitingOf 17 = .ok (.iconst 0, 1) := dk_3 (dk_at dksX3_waitingOf_0 17 rfl rfl)
theorem dX3_waitingOf_18 : decode cX3_waitingOf 18 = .ok (.invokevirtual 91, 3) := dk_182 0 91 (dk_at dksX3_waitingOf_0 18 rfl rfl)
theorem dX3_waitingOf_21 : decode cX3_waitingOf 21 = .ok (.iload_n 1, 1) := dk_27 (dk_at dksX3_waitingOf_0 21 rfl rfl)
theorem dX3_waitingOf_22 : decode cX3_waitingOf 22 = .ok (.if_icmp .ne 7, 3) := dk_160 0 7 (dk_at dksX3_waitingOf_1 0 rfl rfl)
theorem dX3_waitingOf_25 : decode cX3_waitingOf 25 = .ok (.iconst 1, 1) := dk_4 (dk_at dksX3_waitingOf_1 3 rfl rfl)
theorem dX3_waitingOf_26 : decode cX3_waitingOf 26 = .ok (.goto 4, 3) := dk_167 0 4 (dk_at dksX3_waitingOf_1 4 rfl rfl)
theorem dX3_waitingOf_29 : decode cX3_waitingOf 29 = .ok (.iconst 0, 1) := dk_3 (dk_at dksX3_waitingOf_1 7 rfl rfl)
theorem dX3_waitingOf_30 : decode cX3_waitingOf 30 = .ok (.iadd, 1) := dk_96 (dk_at dksX3_waitingOf_1 8 rfl rfl)
theorem dX3_waitingOf_31 : decode cX3_waitingOf 31 = .ok (.istore_n 2, 1) := dk_61 (dk_at dksX3_waitingOf_1 9 rfl rfl)
theorem dX3_waitingOf_32 : decode cX3_waitingOf 32 = .ok (.iinc 3 1, 3) := dk_132 3 1 (dk_at dksX3_waitingOf_1 10 rfl rfl)
theorem dX3_waitingOf_35 : decode cX3_waitingOf 35 = .ok (.goto (-31), 3) := dk_167 255 225 (dk_at dksX3_waitingOf_1 13 rfl rfl)
theorem dX3_waitingOf_38 : decode cX3_waitingOf 38 = .ok (.iload_n 2, 1) := dk_28 (dk_at dksX3_waitingOf_1 16 rfl rfl)
theorem dX3_waitingOf_39 : decode cX3_waitingOf 39 = .ok (.ireturn, 1) := dk_172 (dk_at dksX3_waitingOf_1 17 rfl rfl)
def dkwX3_pulled_0 : List UInt8 := [42, 180, 0, 7, 16, 83, 6, 27, 104, 96, 28, 96, 46, 172]
abbrev dktX3_pulled_0 : List UInt8 := dkwX3_pulled_0 ++ []
theorem dksX3_pulled_0 : cX3_pulled.data.toList.drop 0 = dktX3_pulled_0 := by decide +kernel
theorem dX3_pulled_0 : decode cX3_pulled 0 = .ok (.aload_n 0, 1) := dk_42 (dk_at dksX3_pulled_0 0 rfl rfl)
theorem dX3_pulled_1 : decode cX3_pulled 1 = .ok (.getfield 7, 3) := dk_180 0 7 (dk_at dksX3_pulled_0 1 rfl rfl)
theorem dX3_pulled_4 : decode cX3_pulled 4 = .ok (.bipush 83, 2) := dk_16 83 (dk_at dksX3_pulled_0 4 rfl rfl)
theorem dX3_pulled_6 : decode cX3_pulled 6 = .ok (.iconst 3, 1) := dk_6 (dk_at dksX3_pulled_0 6 rfl rfl)
theorem dX3_pulled_7 : decode cX3_pulled 7 = .ok (.iload_n 1, 1) := dk_27 (dk_at dksX3_pulled_0 7 rfl rfl)
theorem dX3_pulled_8 : decode cX3_pulled 8 = .ok (.imul, 1) := dk_104 (dk_at dksX3_pulled_0 8 rfl rfl)
theorem dX3_pulled_9 : decode cX3_pulled 9 = .ok (.iadd, 1) := dk_96 (dk_at dksX3_pulled_0 9 rfl rfl)
theorem dX3_pulled_10 : decode cX3_pulled 10 = .ok (.iload_n 2, 1) := dk_28 (dk_at dksX3_pulled_0 10 rfl rfl)
theorem dX3_pulled_11 : decode cX3_pulled 11 = .ok (.iadd, 1) := dk_96 (dk_at dksX3_pulled_0 11 rfl rfl)
theorem dX3_pulled_12 : decode cX3_pulled 12 = .ok (.iaload, 1) := dk_46 (dk_at dksX3_pulled_0 12 rfl rfl)
theorem dX3_pulled_13 : decode cX3_pulled 13 = .ok (.ireturn, 1) := dk_172 (dk_at dksX3_pulled_0 13 rfl rfl)
def dkwX3_pull_0 : List UInt8 := [42, 182, 0, 67, 42, 42, 27, 28, 29, 182, 0, 101, 182, 0, 73, 172]
abbrev dktX3_pull_0 : List UInt8 := dkwX3_pull_0 ++ []
theorem dksX3_pull_0 : cX3_pull.data.toList.drop 0 = dktX3_pull_0 := by decide +kernel
theorem dX3_pull_0 : decode cX3_pull 0 = .ok (.aload_n 0, 1) := dk_42 (dk_at dksX3_pull_0 0 rfl rfl)
theorem dX3_pull_1 : decode cX3_pull 1 = .ok (.invokevirtual 67, 3) := dk_182 0 67 (dk_at dksX3_pull_0 1 rfl rfl)
theorem dX3_pull_4 : decode cX3_pull 4 = .ok (.aload_n 0, 1) := dk_42 (dk_at dksX3_pull_0 4 rfl rfl)
theorem dX3_pull_5 : decode cX3_pull 5 = .ok (.aload_n 0, 1) := dk_42 (dk_at dksX3_pull_0 5 rfl rfl)
theorem dX3_pull_6 : decode cX3_pull 6 = .ok (.iload_n 1, 1) := dk_27 (dk_at dksX3_pull_0 6 rfl rfl)
theorem dX3_pull_7 : decode cX3_pull 7 = .ok (.iload_n 2, 1) := dk_28 (dk_at dksX3_pull_0 7 rfl rfl)
theorem dX3_pull_8 : decode cX3_pull 8 = .ok (.iload_n 3, 1) := dk_29 (dk_at dksX3_pull_0 8 rfl rfl)
theorem dX3_pull_9 : decode cX3_pull 9 = .ok (.invokevirtual 101, 3) := dk_182 0 101 (dk_at dksX3_pull_0 9 rfl rfl)
theorem dX3_pull_12 : decode cX3_pull 12 = .ok (.invokevirtual 73, 3) := dk_182 0 73 (dk_at dksX3_pull_0 12 rfl rfl)
theorem dX3_pull_15 : decode cX3_pull 15 = .ok (.ireturn, 1) := dk_172 (dk_at dksX3_pull_0 15 rfl rfl)
def dkwX3_waits_9 : List UInt8 := [79, 42, 180, 0, 7, 7, 92, 46, 4, 96, 79, 21, 4, 172]
abbrev dktX3_waits_9 : List UInt8 := dkwX3_waits_9 ++ []
def dkwX3_waits_8 : List UInt8 := [42, 180, 0, 7, 16, 83, 6, 21, 4, 104, 96, 5, 96, 29, 79, 42, 180, 0, 7, 4, 92, 46, 4, 96]
abbrev dktX3_waits_8 : List UInt8 := dkwX3_waits_8 ++ dktX3_waits_9
def dkwX3_waits_7 : List UInt8 := [16, 83, 6, 21, 4, 104, 96, 27, 79, 42, 180, 0, 7, 16, 83, 6, 21, 4, 104, 96, 4, 96, 28, 79]
abbrev dktX3_waits_7 : List UInt8 := dkwX3_waits_7 ++ dktX3_waits_8
def dkwX3_waits_6 : List UInt8 := [6, 100, 21, 5, 96, 46, 79, 132, 5, 1, 167, 255, 215, 132, 4, 255, 167, 255, 187, 42, 180, 0, 7]
abbrev dktX3_waits_6 : List UInt8 := dkwX3_waits_6 ++ dktX3_waits_7
def dkwX3_waits_5 : List UInt8 := [180, 0, 7, 16, 83, 6, 21, 4, 104, 96, 21, 5, 96, 42, 180, 0, 7, 16, 83, 6, 21, 4, 104, 96]
abbrev dktX3_waits_5 : List UInt8 := dkwX3_waits_5 ++ dktX3_waits_6
def dkwX3_waits_4 : List UInt8 := [42, 21, 4, 4, 100, 27, 28, 29, 182, 0, 97, 154, 0, 56, 3, 54, 5, 21, 5, 6, 162, 0, 41, 42]
abbrev dktX3_waits_4 : List UInt8 := dkwX3_waits_4 ++ dktX3_waits_5
def dkwX3_waits_3 : List UInt8 := [4, 46, 54, 4, 21, 4, 16, 16, 160, 0, 11, 42, 4, 16, 16, 182, 0, 60, 172, 21, 4, 158, 0, 70]
abbrev dktX3_waits_3 : List UInt8 := dkwX3_waits_3 ++ dktX3_waits_4
def dkwX3_waits_2 : List UInt8 := [180, 0, 7, 5, 46, 162, 0, 15, 42, 5, 42, 180, 0, 7, 5, 46, 182, 0, 60, 172, 42, 180, 0, 7]
abbrev dktX3_waits_2 : List UInt8 := dkwX3_waits_2 ++ dktX3_waits_3
def dkwX3_waits_1 : List UInt8 := [153, 0, 13, 29, 4, 16, 9, 184, 0, 52, 154, 0, 11, 42, 17, 252, 12, 182, 0, 41, 172, 28, 42]
abbrev dktX3_waits_1 : List UInt8 := dkwX3_waits_1 ++ dktX3_waits_2
def dkwX3_waits_0 : List UInt8 := [42, 27, 182, 0, 76, 154, 0, 11, 42, 17, 252, 13, 182, 0, 41, 172, 28, 3, 16, 23, 184, 0, 52]
abbrev dktX3_waits_0 : List UInt8 := dkwX3_waits_0 ++ dktX3_waits_1
theorem dksX3_waits_0 : cX3_waits.data.toList.drop 0 = dktX3_waits_0 := by decide +kernel
theorem dksX3_waits_1 : cX3_waits.data.toList.drop 23 = dktX3_waits_1 := dk_seg dksX3_waits_0 23 rfl rfl
theorem dksX3_waits_2 : cX3_waits.data.toList.drop 46 = dktX3_waits_2 := dk_seg dksX3_waits_1 23 rfl rfl
theorem dksX3_waits_3 : cX3_waits.data.toList.drop 70 = dktX3_waits_3 := dk_seg dksX3_waits_2 24 rfl rfl
theorem dksX3_waits_4 : cX3_waits.data.toList.drop 94 = dktX3_waits_4 := dk_seg dksX3_waits_3 24 rfl rfl
theorem dksX3_waits_5 : cX3_waits.data.toList.drop 118 = dktX3_waits_5 := dk_seg dksX3_waits_4 24 rfl rfl
theorem dksX3_waits_6 : cX3_waits.data.toList.drop 142 = dktX3_waits_6 := dk_seg dksX3_waits_5 24 rfl rfl
theorem dksX3_waits_7 : cX3_waits.data.toList.drop 165 = dktX3_waits_7 := dk_seg dksX3_waits_6 23 rfl rfl
theorem dksX3_waits_8 : cX3_waits.data.toList.drop 189 = dktX3_waits_8 := dk_seg dksX3_waits_7 24 rfl rfl
theorem dksX3_waits_9 : cX3_waits.data.toList.drop 213 = dktX3_waits_9 := dk_seg dksX3_waits_8 24 rfl rfl
theorem dX3_waits_0 : decode cX3_waits 0 = .ok (.aload_n 0, 1) := dk_42 (dk_at dksX3_waits_0 0 rfl rfl)
theorem dX3_waits_1 : decode cX3_waits 1 = .ok (.iload_n 1, 1) := dk_27 (dk_at dksX3_waits_0 1 rfl rfl)
theorem dX3_waits_2 : decode cX3_waits 2 = .ok (.invokevirtual 76, 3) := dk_182 0 76 (dk_at dksX3_waits_0 2 rfl rfl)
theorem dX3_waits_5 : decode cX3_waits 5 = .ok (.ifCond .ne 11, 3) := dk_154 0 11 (dk_at dksX3_waits_0 5 rfl rfl)
theorem dX3_waits_8 : decode cX3_waits 8 = .ok (.aload_n 0, 1) := dk_42 (dk_at dksX3_waits_0 8 rfl rfl)
theorem dX3_waits_9 : decode cX3_waits 9 = .ok (.sipush (-1011), 3) := dk_17 252 13 (dk_at dksX3_waits_0 9 rfl rfl)
theorem dX3_waits_12 : decode cX3_waits 12 = .ok (.invokevirtual 41, 3) := dk_182 0 41 (dk_at dksX3_waits_0 12 rfl rfl)
theorem dX3_waits_15 : decode cX3_waits 15 = .ok (.ireturn, 1) := dk_172 (dk_at dksX3_waits_0 15 rfl rfl)
theorem dX3_waits_16 : decode cX3_waits 16 = .ok (.iload_n 2, 1) := dk_28 (dk_at dksX3_waits_0 16 rfl rfl)
theorem dX3_waits_17 : decode cX3_waits 17 = .ok (.iconst 0, 1) := dk_3 (dk_at dksX3_waits_0 17 rfl rfl)
theorem dX3_waits_18 : decode cX3_waits 18 = .ok (.bipush 23, 2) := dk_16 23 (dk_at dksX3_waits_0 18 rfl rfl)
theorem dX3_waits_20 : decode cX3_waits 20 = .ok (.invokestatic 52, 3) := dk_184 0 52 (dk_at dksX3_waits_0 20 rfl rfl)
theorem dX3_waits_23 : decode cX3_waits 23 = .ok (.ifCond .eq 13, 3) := dk_153 0 13 (dk_at dksX3_waits_1 0 rfl rfl)
theorem dX3_waits_26 : decode cX3_waits 26 = .ok (.iload_n 3, 1) := dk_29 (dk_at dksX3_waits_1 3 rfl rfl)
theorem dX3_waits_27 : decode cX3_waits 27 = .ok (.iconst 1, 1) := dk_4 (dk_at dksX3_waits_1 4 rfl rfl)
theorem dX3_waits_28 : decode cX3_waits 28 = .ok (.bipush 9, 2) := dk_16 9 (dk_at dksX3_waits_1 5 rfl rfl)
theorem dX3_waits_30 : decode cX3_waits 30 = .ok (.invokestatic 52, 3) := dk_184 0 52 (dk_at dksX3_waits_1 7 rfl rfl)
theorem dX3_waits_33 : decode cX3_waits 33 = .ok (.ifCond .ne 11, 3) := dk_154 0 11 (dk_at dksX3_waits_1 10 rfl rfl)
theorem dX3_waits_36 : decode cX3_waits 36 = .ok (.aload_n 0, 1) := dk_42 (dk_at dksX3_waits_1 13 rfl rfl)
theorem dX3_waits_37 : decode cX3_waits 37 = .ok (.sipush (-1012), 3) := dk_17 252 12 (dk_at dksX3_waits_1 14 rfl rfl)
theorem dX3_waits_40 : decode cX3_waits 40 = .ok (.invokevirtual 41, 3) := dk_182 0 41 (dk_at dksX3_waits_1 17 rfl rfl)
theorem dX3_waits_43 : decode cX3_waits 43 = .ok (.ireturn, 1) := dk_172 (dk_at dksX3_waits_1 20 rfl rfl)
theorem dX3_waits_44 : decode cX3_waits 44 = .ok (.iload_n 2, 1) := dk_28 (dk_at dksX3_waits_1 21 rfl rfl)
theorem dX3_waits_45 : decode cX3_waits 45 = .ok (.aload_n 0, 1) := dk_42 (dk_at dksX3_waits_1 22 rfl rfl)
theorem dX3_waits_46 : decode cX3_waits 46 = .ok (.getfield 7, 3) := dk_180 0 7 (dk_at dksX3_waits_2 0 rfl rfl)
theorem dX3_waits_49 : decode cX3_waits 49 = .ok (.iconst 2, 1) := dk_5 (dk_at dksX3_waits_2 3 rfl rfl)
theorem dX3_waits_50 : decode cX3_waits 50 = .ok (.iaload, 1) := dk_46 (dk_at dksX3_waits_2 4 rfl rfl)
theorem dX3_waits_51 : decode cX3_waits 51 = .ok (.if_icmp .ge 15, 3) := dk_162 0 15 (dk_at dksX3_waits_2 5 rfl rfl)
theorem dX3_waits_54 : decode cX3_waits 54 = .ok (.aload_n 0, 1) := dk_42 (dk_at dksX3_waits_2 8 rfl rfl)
theorem dX3_waits_55 : decode cX3_waits 55 = .ok (.iconst 2, 1) := dk_5 (dk_at dksX3_waits_2 9 rfl rfl)
theorem dX3_waits_56 : decode cX3_waits 56 = .ok (.aload_n 0, 1) := dk_42 (dk_at dksX3_waits_2 10 rfl rfl)
theorem dX3_waits_57 : decode cX3_waits 57 = .ok (.getfield 7, 3) := dk_180 0 7 (dk_at dksX3_waits_2 11 rfl rfl)
theorem dX3_waits_60 : decode cX3_waits 60 = .ok (.iconst 2, 1) := dk_5 (dk_at dksX3_waits_2 14 rfl rfl)
theorem dX3_waits_61 : decode cX3_waits 61 = .ok (.iaload, 1) := dk_46 (dk_at dksX3_waits_2 15 rfl rfl)
theorem dX3_waits_62 : decode cX3_waits 62 = .ok (.invokevirtual 60, 3) := dk_182 0 60 (dk_at dksX3_waits_2 16 rfl rfl)
theorem dX3_waits_65 : decode cX3_waits 65 = .ok (.ireturn, 1) := dk_172 (dk_at dksX3_waits_2 19 rfl rfl)
theorem dX3_waits_66 : decode cX3_waits 66 = .ok (.aload_n 0, 1) := dk_42 (dk_at dksX3_waits_2 20 rfl rfl)
theorem dX3_waits_67 : decode cX3_waits 67 = .ok (.getfield 7, 3) := dk_180 0 7 (dk_at dksX3_waits_2 21 rfl rfl)
theorem dX3_waits_70 : decode cX3_waits 70 = .ok (.iconst 1, 1) := dk_4 (dk_at dksX3_waits_3 0 rfl rfl)
theorem dX3_waits_71 : decode cX3_waits 71 = .ok (.iaload, 1) := dk_46 (dk_at dksX3_waits_3 1 rfl rfl)
theorem dX3_waits_72 : decode cX3_waits 72 = .ok (.istore 4, 2) := dk_54 4 (dk_at dksX3_waits_3 2 rfl rfl)
theorem dX3_waits_74 : decode cX3_waits 74 = .ok (.iload 4, 2) := dk_21 4 (dk_at dksX3_waits_3 4 rfl rfl)
theorem dX3_waits_76 : decode cX3_waits 76 = .ok (.bipush 16, 2) := dk_16 16 (dk_at dksX3_waits_3 6 rfl rfl)
theorem dX3_waits_78 : decode cX3_waits 78 = .ok (.if_icmp .ne 11, 3) := dk_160 0 11 (dk_at dksX3_waits_3 8 rfl rfl)
theorem dX3_waits_81 : decode cX3_waits 81 = .ok (.aload_n 0, 1) := dk_42 (dk_at dksX3_waits_3 11 rfl rfl)
theorem dX3_waits_82 : decode cX3_waits 82 = .ok (.iconst 1, 1) := dk_4 (dk_at dksX3_waits_3 12 rfl rfl)
theorem dX3_waits_83 : decode cX3_waits 83 = .ok (.bipush 16, 2) := dk_16 16 (dk_at dksX3_waits_3 13 rfl rfl)
theorem dX3_waits_85 : decode cX3_waits 85 = .ok (.invokevirtual 60, 3) := dk_182 0 60 (dk_at dksX3_waits_3 15 rfl rfl)
theorem dX3_waits_88 : decode cX3_waits 88 = .ok (.ireturn, 1) := dk_172 (dk_at dksX3_waits_3 18 rfl rfl)
theorem dX3_waits_89 : decode cX3_waits 89 = .ok (.iload 4, 2) := dk_21 4 (dk_at dksX3_waits_3 19 rfl rfl)
theorem dX3_waits_91 : decode cX3_waits 91 = .ok (.ifCond .le 70, 3) := dk_158 0 70 (dk_at dksX3_waits_3 21 rfl rfl)
theorem dX3_waits_94 : decode cX3_waits 94 = .ok (.aload_n 0, 1) := dk_42 (dk_at dksX3_waits_4 0 rfl rfl)
theorem dX3_waits_95 : decode cX3_waits 95 = .ok (.iload 4, 2) := dk_21 4 (dk_at dksX3_waits_4 1 rfl rfl)
theorem dX3_waits_97 : decode cX3_waits 97 = .ok (.iconst 1, 1) := dk_4 (dk_at dksX3_waits_4 3 rfl rfl)
theorem dX3_waits_98 : decode cX3_waits 98 = .ok (.isub, 1) := dk_100 (dk_at dksX3_waits_4 4 rfl rfl)
theorem dX3_waits_99 : decode cX3_waits 99 = .ok (.iload_n 1, 1) := dk_27 (dk_at dksX3_waits_4 5 rfl rfl)
theorem dX3_waits_100 : decode cX3_waits 100 = .ok (.iload_n 2, 1) := dk_28 (dk_at dksX3_waits_4 6 rfl rfl)
theorem dX3_waits_101 : decode cX3_waits 101 = .ok (.iload_n 3, 1) := dk_29 (dk_at dksX3_waits_4 7 rfl rfl)
theorem dX3_waits_102 : decode cX3_waits 102 = .ok (.invokevirtual 97, 3) := dk_182 0 97 (dk_at dksX3_waits_4 8 rfl rfl)
theorem dX3_waits_105 : decode cX3_waits 105 = .ok (.ifCond .ne 56, 3) := dk_154 0 56 (dk_at dksX3_waits_4 11 rfl rfl)
theorem dX3_waits_108 : decode cX3_waits 108 = .ok (.iconst 0, 1) := dk_3 (dk_at dksX3_waits_4 14 rfl rfl)
theorem dX3_waits_109 : decode cX3_waits 109 = .ok (.istore 5, 2) := dk_54 5 (dk_at dksX3_waits_4 15 rfl rfl)
theorem dX3_waits_111 : decode cX3_waits 111 = .ok (.iload 5, 2) := dk_21 5 (dk_at dksX3_waits_4 17 rfl rfl)
theorem dX3_waits_113 : decode cX3_waits 113 = .ok (.iconst 3, 1) := dk_6 (dk_at dksX3_waits_4 19 rfl rfl)
theorem dX3_waits_114 : decode cX3_waits 114 = .ok (.if_icmp .ge 41, 3) := dk_162 0 41 (dk_at dksX3_waits_4 20 rfl rfl)
theorem dX3_waits_117 : decode cX3_waits 117 = .ok (.aload_n 0, 1) := dk_42 (dk_at dksX3_waits_4 23 rfl rfl)
theorem dX3_waits_118 : decode cX3_waits 118 = .ok (.getfield 7, 3) := dk_180 0 7 (dk_at dksX3_waits_5 0 rfl rfl)
theorem dX3_waits_121 : decode cX3_waits 121 = .ok (.bipush 83, 2) := dk_16 83 (dk_at dksX3_waits_5 3 rfl rfl)
theorem dX3_waits_123 : decode cX3_waits 123 = .ok (.iconst 3, 1) := dk_6 (dk_at dksX3_waits_5 5 rfl rfl)
theorem dX3_waits_124 : decode cX3_waits 124 = .ok (.iload 4, 2) := dk_21 4 (dk_at dksX3_waits_5 6 rfl rfl)
theorem dX3_waits_126 : decode cX3_waits 126 = .ok (.imul, 1) := dk_104 (dk_at dksX3_waits_5 8 rfl rfl)
theorem dX3_waits_127 : decode cX3_waits 127 = .ok (.iadd, 1) := dk_96 (dk_at dksX3_waits_5 9 rfl rfl)
theorem dX3_waits_128 : decode cX3_waits 128 = .ok (.iload 5, 2) := dk_21 5 (dk_at dksX3_waits_5 10 rfl rfl)
theorem dX3_waits_130 : decode cX3_waits 130 = .ok (.iadd, 1) := dk_96 (dk_at dksX3_waits_5 12 rfl rfl)
theorem dX3_waits_131 : decode cX3_waits 131 = .ok (.aload_n 0, 1) := dk_42 (dk_at dksX3_waits_5 13 rfl rfl)
theorem dX3_waits_132 : decode cX3_waits 132 = .ok (.getfield 7, 3) := dk_180 0 7 (dk_at dksX3_waits_5 14 rfl rfl)
theorem dX3_waits_135 : decode cX3_waits 135 = .ok (.bipush 83, 2) := dk_16 83 (dk_at dksX3_waits_5 17 rfl rfl)
theorem dX3_waits_137 : decode cX3_waits 137 = .ok (.iconst 3, 1) := dk_6 (dk_at dksX3_waits_5 19 rfl rfl)
theorem dX3_waits_138 : decode cX3_waits 138 = .ok (.iload 4, 2) := dk_21 4 (dk_at dksX3_waits_5 20 rfl rfl)
theorem dX3_waits_140 : decode cX3_waits 140 = .ok (.imul, 1) := dk_104 (dk_at dksX3_waits_5 22 rfl rfl)
theorem dX3_waits_141 : decode cX3_waits 141 = .ok (.iadd, 1) := dk_96 (dk_at dksX3_waits_5 23 rfl rfl)
theorem dX3_waits_142 : decode cX3_waits 142 = .ok (.iconst 3, 1) := dk_6 (dk_at dksX3_waits_6 0 rfl rfl)
theorem dX3_waits_143 : decode cX3_waits 143 = .ok (.isub, 1) := dk_100 (dk_at dksX3_waits_6 1 rfl rfl)
theorem dX3_waits_144 : decode cX3_waits 144 = .ok (.iload 5, 2) := dk_21 5 (dk_at dksX3_waits_6 2 rfl rfl)
theorem dX3_waits_146 : decode cX3_waits 146 = .ok (.iadd, 1) := dk_96 (dk_at dksX3_waits_6 4 rfl rfl)
theorem dX3_waits_147 : decode cX3_waits 147 = .ok (.iaload, 1) := dk_46 (dk_at dksX3_waits_6 5 rfl rfl)
theorem dX3_waits_148 : decode cX3_waits 148 = .ok (.iastore, 1) := dk_79 (dk_at dksX3_waits_6 6 rfl rfl)
theorem dX3_waits_149 : decode cX3_waits 149 = .ok (.iinc 5 1, 3) := dk_132 5 1 (dk_at dksX3_waits_6 7 rfl rfl)
theorem dX3_waits_152 : decode cX3_waits 152 = .ok (.goto (-41), 3) := dk_167 255 215 (dk_at dksX3_waits_6 10 rfl rfl)
theorem dX3_waits_155 : decode cX3_waits 155 = .ok (.iinc 4 (-1), 3) := dk_132 4 255 (dk_at dksX3_waits_6 13 rfl rfl)
theorem dX3_waits_158 : decode cX3_waits 158 = .ok (.goto (-69), 3) := dk_167 255 187 (dk_at dksX3_waits_6 16 rfl rfl)
theorem dX3_waits_161 : decode cX3_waits 161 = .ok (.aload_n 0, 1) := dk_42 (dk_at dksX3_waits_6 19 rfl rfl)
theorem dX3_waits_162 : decode cX3_waits 162 = .ok (.getfield 7, 3) := dk_180 0 7 (dk_at dksX3_waits_6 20 rfl rfl)
theorem dX3_waits_165 : decode cX3_waits 165 = .ok (.bipush 83, 2) := dk_16 83 (dk_at dksX3_waits_7 0 rfl rfl)
theorem dX3_waits_167 : decode cX3_waits 167 = .ok (.iconst 3, 1) := dk_6 (dk_at dksX3_waits_7 2 rfl rfl)
theorem dX3_waits_168 : decode cX3_waits 168 = .ok (.iload 4, 2) := dk_21 4 (dk_at dksX3_waits_7 3 rfl rfl)
theorem dX3_waits_170 : decode cX3_waits 170 = .ok (.imul, 1) := dk_104 (dk_at dksX3_waits_7 5 rfl rfl)
theorem dX3_waits_171 : decode cX3_waits 171 = .ok (.iadd, 1) := dk_96 (dk_at dksX3_waits_7 6 rfl rfl)
theorem dX3_waits_172 : decode cX3_waits 172 = .ok (.iload_n 1, 1) := dk_27 (dk_at dksX3_waits_7 7 rfl rfl)
theorem dX3_waits_173 : decode cX3_waits 173 = .ok (.iastore, 1) := dk_79 (dk_at dksX3_waits_7 8 rfl rfl)
theorem dX3_waits_174 : decode cX3_waits 174 = .ok (.aload_n 0, 1) := dk_42 (dk_at dksX3_waits_7 9 rfl rfl)
theorem dX3_waits_175 : decode cX3_waits 175 = .ok (.getfield 7, 3) := dk_180 0 7 (dk_at dksX3_waits_7 10 rfl rfl)
theorem dX3_waits_178 : decode cX3_waits 178 = .ok (.bipush 83, 2) := dk_16 83 (dk_at dksX3_waits_7 13 rfl rfl)
theorem dX3_waits_180 : decode cX3_waits 180 = .ok (.iconst 3, 1) := dk_6 (dk_at dksX3_waits_7 15 rfl rfl)
theorem dX3_waits_181 : decode cX3_waits 181 = .ok (.iload 4, 2) := dk_21 4 (dk_at dksX3_waits_7 16 rfl rfl)
theorem dX3_waits_183 : decode cX3_waits 183 = .ok (.imul, 1) := dk_104 (dk_at dksX3_waits_7 18 rfl rfl)
theorem dX3_waits_184 : decode cX3_waits 184 = .ok (.iadd, 1) := dk_96 (dk_at dksX3_waits_7 19 rfl rfl)
theorem dX3_waits_185 : decode cX3_waits 185 = .ok (.iconst 1, 1) := dk_4 (dk_at dksX3_waits_7 20 rfl rfl)
theorem dX3_waits_186 : decode cX3_waits 186 = .ok (.iadd, 1) := dk_96 (dk_at dksX3_waits_7 21 rfl rfl)
theorem dX3_waits_187 : decode cX3_waits 187 = .ok (.iload_n 2, 1) := dk_28 (dk_at dksX3_waits_7 22 rfl rfl)
theorem dX3_waits_188 : decode cX3_waits 188 = .ok (.iastore, 1) := dk_79 (dk_at dksX3_waits_7 23 rfl rfl)
theorem dX3_waits_189 : decode cX3_waits 189 = .ok (.aload_n 0, 1) := dk_42 (dk_at dksX3_waits_8 0 rfl rfl)
theorem dX3_waits_190 : decode cX3_waits 190 = .ok (.getfield 7, 3) := dk_180 0 7 (dk_at dksX3_waits_8 1 rfl rfl)
theorem dX3_waits_193 : decode cX3_waits 193 = .ok (.bipush 83, 2) := dk_16 83 (dk_at dksX3_waits_8 4 rfl rfl)
theorem dX3_waits_195 : decode cX3_waits 195 = .ok (.iconst 3, 1) := dk_6 (dk_at dksX3_waits_8 6 rfl rfl)
theorem dX3_waits_196 : decode cX3_waits 196 = .ok (.iload 4, 2) := dk_21 4 (dk_at dksX3_waits_8 7 rfl rfl)
theorem dX3_waits_198 : decode cX3_waits 198 = .ok (.imul, 1) := dk_104 (dk_at dksX3_waits_8 9 rfl rfl)
theorem dX3_waits_199 : decode cX3_waits 199 = .ok (.iadd, 1) := dk_96 (dk_at dksX3_waits_8 10 rfl rfl)
theorem dX3_waits_200 : decode cX3_waits 200 = .ok (.iconst 2, 1) := dk_5 (dk_at dksX3_waits_8 11 rfl rfl)
theorem dX3_waits_201 : decode cX3_waits 201 = .ok (.iadd, 1) := dk_96 (dk_at dksX3_waits_8 12 rfl rfl)
theorem dX3_waits_202 : decode cX3_waits 202 = .ok (.iload_n 3, 1) := dk_29 (dk_at dksX3_waits_8 13 rfl rfl)
theorem dX3_waits_203 : decode cX3_waits 203 = .ok (.iastore, 1) := dk_79 (dk_at dksX3_waits_8 14 rfl rfl)
theorem dX3_waits_204 : decode cX3_waits 204 = .ok (.aload_n 0, 1) := dk_42 (dk_at dksX3_waits_8 15 rfl rfl)
theorem dX3_waits_205 : decode cX3_waits 205 = .ok (.getfield 7, 3) := dk_180 0 7 (dk_at dksX3_waits_8 16 rfl rfl)
theorem dX3_waits_208 : decode cX3_waits 208 = .ok (.iconst 1, 1) := dk_4 (dk_at dksX3_waits_8 19 rfl rfl)
theorem dX3_waits_209 : decode cX3_waits 209 = .ok (.dup2, 1) := dk_92 (dk_at dksX3_waits_8 20 rfl rfl)
theorem dX3_waits_210 : decode cX3_waits 210 = .ok (.iaload, 1) := dk_46 (dk_at dksX3_waits_8 21 rfl rfl)
theorem dX3_waits_211 : decode cX3_waits 211 = .ok (.iconst 1, 1) := dk_4 (dk_at dksX3_waits_8 22 rfl rfl)
theorem dX3_waits_212 : decode cX3_waits 212 = .ok (.iadd, 1) := dk_96 (dk_at dksX3_waits_8 23 rfl rfl)
theorem dX3_waits_213 : decode cX3_waits 213 = .ok (.iastore, 1) := dk_79 (dk_at dksX3_waits_9 0 rfl rfl)
theorem dX3_waits_214 : decode cX3_waits 214 = .ok (.aload_n 0, 1) := dk_42 (dk_at dksX3_waits_9 1 rfl rfl)
theorem dX3_waits_215 : decode cX3_waits 215 = .ok (.getfield 7, 3) := dk_180 0 7 (dk_at dksX3_waits_9 2 rfl rfl)
theorem dX3_waits_218 : decode cX3_waits 218 = .ok (.iconst 4, 1) := dk_7 (dk_at dksX3_waits_9 5 rfl rfl)
theorem dX3_waits_219 : decode cX3_waits 219 = .ok (.dup2, 1) := dk_92 (dk_at dksX3_waits_9 6 rfl rfl)
theorem dX3_waits_220 : decode cX3_waits 220 = .ok (.iaload, 1) := dk_46 (dk_at dksX3_waits_9 7 rfl rfl)
theorem dX3_waits_221 : decode cX3_waits 221 = .ok (.iconst 1, 1) := dk_4 (dk_at dksX3_waits_9 8 rfl rfl)
theorem dX3_waits_222 : decode cX3_waits 222 = .ok (.iadd, 1) := dk_96 (dk_at dksX3_waits_9 9 rfl rfl)
theorem dX3_waits_223 : decode cX3_waits 223 = .ok (.iastore, 1) := dk_79 (dk_at dksX3_waits_9 10 rfl rfl)
theorem dX3_waits_224 : decode cX3_waits 224 = .ok (.iload 4, 2) := dk_21 4 (dk_at dksX3_waits_9 11 rfl rfl)
theorem dX3_waits_226 : decode cX3_waits 226 = .ok (.ireturn, 1) := dk_172 (dk_at dksX3_waits_9 13 rfl rfl)
def dkwX3_isAhead_2 : List UInt8 := [100, 54, 5, 21, 5, 157, 0, 7, 4, 167, 0, 4, 3, 172]
abbrev dktX3_isAhead_2 : List UInt8 := dkwX3_isAhead_2 ++ []
def dkwX3_isAhead_1 : List UInt8 := [5, 182, 0, 91, 100, 54, 5, 21, 5, 153, 0, 8, 21, 5, 167, 0, 11, 42, 27, 3, 182, 0, 91, 28]
abbrev dktX3_isAhead_1 : List UInt8 := dkwX3_isAhead_1 ++ dktX3_isAhead_2
def dkwX3_isAhead_0 : List UInt8 := [42, 27, 4, 182, 0, 91, 29, 100, 54, 5, 21, 5, 153, 0, 8, 21, 5, 167, 0, 12, 21, 4, 42, 27]
abbrev dktX3_isAhead_0 : List UInt8 := dkwX3_isAhead_0 ++ dktX3_isAhead_1
theorem dksX3_isAhead_0 : cX3_isAhead.data.toList.drop 0 = dktX3_isAhead_0 := by decide +kernel
theorem dksX3_isAhead_1 : cX3_isAhead.data.toList.drop 24 = dktX3_isAhead_1 := dk_seg dksX3_isAhead_0 24 rfl rfl
theorem dksX3_isAhead_2 : cX3_isAhead.data.toList.drop 48 = dktX3_isAhead_2 := dk_seg dksX3_isAhead_1 24 rfl rfl
theorem dX3_isAhead_0 : decode cX3_isAhead 0 = .ok (.aload_n 0, 1) := dk_42 (dk_at dksX3_isAhead_0 0 rfl rfl)
theorem dX3_isAhead_1 : decode cX3_isAhead 1 = .ok (.iload_n 1, 1) := dk_27 (dk_at dksX3_isAhead_0 1 rfl rfl)
theorem dX3_isAhead_2 : decode cX3_isAhead 2 = .ok (.iconst 1, 1) := dk_4 (dk_at dksX3_isAhead_0 2 rfl rfl)
theorem dX3_isAhead_3 : decode cX3_isAhead 3 = .ok (.invokevirtual 91, 3) := dk_182 0 91 (dk_at dksX3_isAhead_0 3 rfl rfl)
theorem dX3_isAhead_6 : decode cX3_isAhead 6 = .ok (.iload_n 3, 1) := dk_29 (dk_at dksX3_isAhead_0 6 rfl rfl)
theorem dX3_isAhead_7 : decode cX3_isAhead 7 = .ok (.isub, 1) := dk_100 (dk_at dksX3_isAhead_0 7 rfl rfl)
theorem dX3_isAhead_8 : decode cX3_isAhead 8 = .ok (.istore 5, 2) := dk_54 5 (dk_at dksX3_isAhead_0 8 rfl rfl)
theorem dX3_isAhead_10 : decode cX3_isAhead 10 = .ok (.iload 5, 2) := dk_21 5 (dk_at dksX3_isAhead_0 10 rfl rfl)
theorem dX3_isAhead_12 : decode cX3_isAhead 12 = .ok (.ifCond .eq 8, 3) := dk_153 0 8 (dk_at dksX3_isAhead_0 12 rfl rfl)
theorem dX3_isAhead_15 : decode cX3_isAhead 15 = .ok (.iload 5, 2) := dk_21 5 (dk_at dksX3_isAhead_0 15 rfl rfl)
theorem dX3_isAhead_17 : decode cX3_isAhead 17 = .ok (.goto 12, 3) := dk_167 0 12 (dk_at dksX3_isAhead_0 17 rfl rfl)
theorem dX3_isAhead_20 : decode cX3_isAhead 20 = .ok (.iload 4, 2) := dk_21 4 (dk_at dksX3_isAhead_0 20 rfl rfl)
theorem dX3_isAhead_22 : decode cX3_isAhead 22 = .ok (.aload_n 0, 1) := dk_42 (dk_at dksX3_isAhead_0 22 rfl rfl)
theorem dX3_isAhead_23 : decode cX3_isAhead 23 = .ok (.iload_n 1, 1) := dk_27 (dk_at dksX3_isAhead_0 23 rfl rfl)
theorem dX3_isAhead_24 : decode cX3_isAhead 24 = .ok (.iconst 2, 1) := dk_5 (dk_at dksX3_isAhead_1 0 rfl rfl)
theorem dX3_isAhead_25 : decode cX3_isAhead 25 = .ok (.invokevirtual 91, 3) := dk_182 0 91 (dk_at dksX3_isAhead_1 1 rfl rfl)
theorem dX3_isAhead_28 : decode cX3_isAhead 28 = .ok (.isub, 1) := dk_100 (dk_at dksX3_isAhead_1 4 rfl rfl)
theorem dX3_isAhead_29 : decode cX3_isAhead 29 = .ok (.istore 5, 2) := dk_54 5 (dk_at dksX3_isAhead_1 5 rfl rfl)
theorem dX3_isAhead_31 : decode cX3_isAhead 31 = .ok (.iload 5, 2) := dk_21 5 (dk_at dksX3_isAhead_1 7 rfl rfl)
theorem dX3_isAhead_33 : decode cX3_isAhead 33 = .ok (.ifCond .eq 8, 3) := dk_153 0 8 (dk_at dksX3_isAhead_1 9 rfl rfl)
theorem dX3_isAhead_36 : decode cX3_isAhead 36 = .ok (.iload 5, 2) := dk_21 5 (dk_at dksX3_isAhead_1 12 rfl rfl)
theorem dX3_isAhead_38 : decode cX3_isAhead 38 = .ok (.goto 11, 3) := dk_167 0 11 (dk_at dksX3_isAhead_1 14 rfl rfl)
theorem dX3_isAhead_41 : decode cX3_isAhead 41 = .ok (.aload_n 0, 1) := dk_42 (dk_at dksX3_isAhead_1 17 rfl rfl)
theorem dX3_isAhead_42 : decode cX3_isAhead 42 = .ok (.iload_n 1, 1) := dk_27 (dk_at dksX3_isAhead_1 18 rfl rfl)
theorem dX3_isAhead_43 : decode cX3_isAhead 43 = .ok (.iconst 0, 1) := dk_3 (dk_at dksX3_isAhead_1 19 rfl rfl)
theorem dX3_isAhead_44 : decode cX3_isAhead 44 = .ok (.invokevirtual 91, 3) := dk_182 0 91 (dk_at dksX3_isAhead_1 20 rfl rfl)
theorem dX3_isAhead_47 : decode cX3_isAhead 47 = .ok (.iload_n 2, 1) := dk_28 (dk_at dksX3_isAhead_1 23 rfl rfl)
theorem dX3_isAhead_48 : decode cX3_isAhead 48 = .ok (.isub, 1) := dk_100 (dk_at dksX3_isAhead_2 0 rfl rfl)
theorem dX3_isAhead_49 : decode cX3_isAhead 49 = .ok (.istore 5, 2) := dk_54 5 (dk_at dksX3_isAhead_2 1 rfl rfl)
theorem dX3_isAhead_51 : decode cX3_isAhead 51 = .ok (.iload 5, 2) := dk_21 5 (dk_at dksX3_isAhead_2 3 rfl rfl)
theorem dX3_isAhead_53 : decode cX3_isAhead 53 = .ok (.ifCond .gt 7, 3) := dk_157 0 7 (dk_at dksX3_isAhead_2 5 rfl rfl)
theorem dX3_isAhead_56 : decode cX3_isAhead 56 = .ok (.iconst 1, 1) := dk_4 (dk_at dksX3_isAhead_2 8 rfl rfl)
theorem dX3_isAhead_57 : decode cX3_isAhead 57 = .ok (.goto 4, 3) := dk_167 0 4 (dk_at dksX3_isAhead_2 9 rfl rfl)
theorem dX3_isAhead_60 : decode cX3_isAhead 60 = .ok (.iconst 0, 1) := dk_3 (dk_at dksX3_isAhead_2 12 rfl rfl)
theorem dX3_isAhead_61 : decode cX3_isAhead 61 = .ok (.ireturn, 1) := dk_172 (dk_at dksX3_isAhead_2 13 rfl rfl)
def dkwX3_cancel_0 : List UInt8 := [42, 182, 0, 67, 42, 42, 27, 182, 0, 109, 182, 0, 73, 172]
abbrev dktX3_cancel_0 : List UInt8 := dkwX3_cancel_0 ++ []
theorem dksX3_cancel_0 : cX3_cancel.data.toList.drop 0 = dktX3_cancel_0 := by decide +kernel
theorem dX3_cancel_0 : decode cX3_cancel 0 = .ok (.aload_n 0, 1) := dk_42 (dk_at dksX3_cancel_0 0 rfl rfl)
theorem dX3_cancel_1 : decode cX3_cancel 1 = .ok (.invokevirtual 67, 3) := dk_182 0 67 (dk_at dksX3_cancel_0 1 rfl rfl)
theorem dX3_cancel_4 : decode cX3_cancel 4 = .ok (.aload_n 0, 1) := dk_42 (dk_at dksX3_cancel_0 4 rfl rfl)
theorem dX3_cancel_5 : decode cX3_cancel 5 = .ok (.aload_n 0, 1) := dk_42 (dk_at dksX3_cancel_0 5 rfl rfl)
theorem dX3_cancel_6 : decode cX3_cancel 6 = .ok (.iload_n 1, 1) := dk_27 (dk_at dksX3_cancel_0 6 rfl rfl)
theorem dX3_cancel_7 : decode cX3_cancel 7 = .ok (.invokevirtual 109, 3) := dk_182 0 109 (dk_at dksX3_cancel_0 7 rfl rfl)
theorem dX3_cancel_10 : decode cX3_cancel 10 = .ok (.invokevirtual 73, 3) := dk_182 0 73 (dk_at dksX3_cancel_0 10 rfl rfl)
theorem dX3_cancel_13 : decode cX3_cancel 13 = .ok (.ireturn, 1) := dk_172 (dk_at dksX3_cancel_0 13 rfl rfl)
def dkwX3_cancels_3 : List UInt8 := [167, 255, 234, 42, 180, 0, 7, 16, 8, 92, 46, 28, 96, 79, 42, 180, 0, 7, 4, 46, 172]
abbrev dktX3_cancels_3 : List UInt8 := dkwX3_cancels_3 ++ []
def dkwX3_cancels_2 : List UInt8 := [62, 29, 155, 0, 24, 42, 29, 3, 182, 0, 91, 27, 160, 0, 8, 42, 29, 182, 0, 105, 132, 3, 255]
abbrev dktX3_cancels_2 : List UInt8 := dkwX3_cancels_2 ++ dktX3_cancels_3
def dkwX3_cancels_1 : List UInt8 := [154, 0, 16, 42, 16, 6, 42, 180, 0, 7, 4, 46, 182, 0, 60, 172, 42, 180, 0, 7, 4, 46, 4, 100]
abbrev dktX3_cancels_1 : List UInt8 := dkwX3_cancels_1 ++ dktX3_cancels_2
def dkwX3_cancels_0 : List UInt8 := [42, 27, 182, 0, 76, 154, 0, 11, 42, 17, 252, 13, 182, 0, 41, 172, 42, 27, 182, 0, 94, 61, 28]
abbrev dktX3_cancels_0 : List UInt8 := dkwX3_cancels_0 ++ dktX3_cancels_1
theorem dksX3_cancels_0 : cX3_cancels.data.toList.drop 0 = dktX3_cancels_0 := by decide +kernel
theorem dksX3_cancels_1 : cX3_cancels.data.toList.drop 23 = dktX3_cancels_1 := dk_seg dksX3_cancels_0 23 rfl rfl
theorem dksX3_cancels_2 : cX3_cancels.data.toList.drop 47 = dktX3_cancels_2 := dk_seg dksX3_cancels_1 24 rfl rfl
theorem dksX3_cancels_3 : cX3_cancels.data.toList.drop 70 = dktX3_cancels_3 := dk_seg dksX3_cancels_2 23 rfl rfl
theorem dX3_cancels_0 : decode cX3_cancels 0 = .ok (.aload_n 0, 1) := dk_42 (dk_at dksX3_cancels_0 0 rfl rfl)
theorem dX3_cancels_1 : decode cX3_cancels 1 = .ok (.iload_n 1, 1) := dk_27 (dk_at dksX3_cancels_0 1 rfl rfl)
theorem dX3_cancels_2 : decode cX3_cancels 2 = .ok (.invokevirtual 76, 3) := dk_182 0 76 (dk_at dksX3_cancels_0 2 rfl rfl)
theorem dX3_cancels_5 : decode cX3_cancels 5 = .ok (.ifCond .ne 11, 3) := dk_154 0 11 (dk_at dksX3_cancels_0 5 rfl rfl)
theorem dX3_cancels_8 : decode cX3_cancels 8 = .ok (.aload_n 0, 1) := dk_42 (dk_at dksX3_cancels_0 8 rfl rfl)
theorem dX3_cancels_9 : decode cX3_cancels 9 = .ok (.sipush (-1011), 3) := dk_17 252 13 (dk_at dksX3_cancels_0 9 rfl rfl)
theorem dX3_cancels_12 : decode cX3_cancels 12 = .ok (.invokevirtual 41, 3) := dk_182 0 41 (dk_at dksX3_cancels_0 12 rfl rfl)
theorem dX3_cancels_15 : decode cX3_cancels 15 = .ok (.ireturn, 1) := dk_172 (dk_at dksX3_cancels_0 15 rfl rfl)
theorem dX3_cancels_16 : decode cX3_cancels 16 = .ok (.aload_n 0, 1) := dk_42 (dk_at dksX3_cancels_0 16 rfl rfl)
theorem dX3_cancels_17 : decode cX3_cancels 17 = .ok (.iload_n 1, 1) := dk_27 (dk_at dksX3_cancels_0 17 rfl rfl)
theorem dX3_cancels_18 : decode cX3_cancels 18 = .ok (.invokevirtual 94, 3) := dk_182 0 94 (dk_at dksX3_cancels_0 18 rfl rfl)
theorem dX3_cancels_21 : decode cX3_cancels 21 = .ok (.istore_n 2, 1) := dk_61 (dk_at dksX3_cancels_0 21 rfl rfl)
theorem dX3_cancels_22 : decode cX3_cancels 22 = .ok (.iload_n 2, 1) := dk_28 (dk_at dksX3_cancels_0 22 rfl rfl)
theorem dX3_cancels_23 : decode cX3_cancels 23 = .ok (.ifCond .ne 16, 3) := dk_154 0 16 (dk_at dksX3_cancels_1 0 rfl rfl)
theorem dX3_cancels_26 : decode cX3_cancels 26 = .ok (.aload_n 0, 1) := dk_42 (dk_at dksX3_cancels_1 3 rfl rfl)
theorem dX3_cancels_27 : decode cX3_cancels 27 = .ok (.bipush 6, 2) := dk_16 6 (dk_at dksX3_cancels_1 4 rfl rfl)
theorem dX3_cancels_29 : decode cX3_cancels 29 = .ok (.aload_n 0, 1) := dk_42 (dk_at dksX3_cancels_1 6 rfl rfl)
theorem dX3_cancels_30 : decode cX3_cancels 30 = .ok (.getfield 7, 3) := dk_180 0 7 (dk_at dksX3_cancels_1 7 rfl rfl)
theorem dX3_cancels_33 : decode cX3_cancels 33 = .ok (.iconst 1, 1) := dk_4 (dk_at dksX3_cancels_1 10 rfl rfl)
theorem dX3_cancels_34 : decode cX3_cancels 34 = .ok (.iaload, 1) := dk_46 (dk_at dksX3_cancels_1 11 rfl rfl)
theorem dX3_cancels_35 : decode cX3_cancels 35 = .ok (.invokevirtual 60, 3) := dk_182 0 60 (dk_at dksX3_cancels_1 12 rfl rfl)
theorem dX3_cancels_38 : decode cX3_cancels 38 = .ok (.ireturn, 1) := dk_172 (dk_at dksX3_cancels_1 15 rfl rfl)
theorem dX3_cancels_39 : decode cX3_cancels 39 = .ok (.aload_n 0, 1) := dk_42 (dk_at dksX3_cancels_1 16 rfl rfl)
theorem dX3_cancels_40 : decode cX3_cancels 40 = .ok (.getfield 7, 3) := dk_180 0 7 (dk_at dksX3_cancels_1 17 rfl rfl)
theorem dX3_cancels_43 : decode cX3_cancels 43 = .ok (.iconst 1, 1) := dk_4 (dk_at dksX3_cancels_1 20 rfl rfl)
theorem dX3_cancels_44 : decode cX3_cancels 44 = .ok (.iaload, 1) := dk_46 (dk_at dksX3_cancels_1 21 rfl rfl)
theorem dX3_cancels_45 : decode cX3_cancels 45 = .ok (.iconst 1, 1) := dk_4 (dk_at dksX3_cancels_1 22 rfl rfl)
theorem dX3_cancels_46 : decode cX3_cancels 46 = .ok (.isub, 1) := dk_100 (dk_at dksX3_cancels_1 23 rfl rfl)
theorem dX3_cancels_47 : decode cX3_cancels 47 = .ok (.istore_n 3, 1) := dk_62 (dk_at dksX3_cancels_2 0 rfl rfl)
theorem dX3_cancels_48 : decode cX3_cancels 48 = .ok (.iload_n 3, 1) := dk_29 (dk_at dksX3_cancels_2 1 rfl rfl)
theorem dX3_cancels_49 : decode cX3_cancels 49 = .ok (.ifCond .lt 24, 3) := dk_155 0 24 (dk_at dksX3_cancels_2 2 rfl rfl)
theorem dX3_cancels_52 : decode cX3_cancels 52 = .ok (.aload_n 0, 1) := dk_42 (dk_at dksX3_cancels_2 5 rfl rfl)
theorem dX3_cancels_53 : decode cX3_cancels 53 = .ok (.iload_n 3, 1) := dk_29 (dk_at dksX3_cancels_2 6 rfl rfl)
theorem dX3_cancels_54 : decode cX3_cancels 54 = .ok (.iconst 0, 1) := dk_3 (dk_at dksX3_cancels_2 7 rfl rfl)
theorem dX3_cancels_55 : decode cX3_cancels 55 = .ok (.invokevirtual 91, 3) := dk_182 0 91 (dk_at dksX3_cancels_2 8 rfl rfl)
theorem dX3_cancels_58 : decode cX3_cancels 58 = .ok (.iload_n 1, 1) := dk_27 (dk_at dksX3_cancels_2 11 rfl rfl)
theorem dX3_cancels_59 : decode cX3_cancels 59 = .ok (.if_icmp .ne 8, 3) := dk_160 0 8 (dk_at dksX3_cancels_2 12 rfl rfl)
theorem dX3_cancels_62 : decode cX3_cancels 62 = .ok (.aload_n 0, 1) := dk_42 (dk_at dksX3_cancels_2 15 rfl rfl)
theorem dX3_cancels_63 : decode cX3_cancels 63 = .ok (.iload_n 3, 1) := dk_29 (dk_at dksX3_cancels_2 16 rfl rfl)
theorem dX3_cancels_64 : decode cX3_cancels 64 = .ok (.invokevirtual 105, 3) := dk_182 0 105 (dk_at dksX3_cancels_2 17 rfl rfl)
theorem dX3_cancels_67 : decode cX3_cancels 67 = .ok (.iinc 3 (-1), 3) := dk_132 3 255 (dk_at dksX3_cancels_2 20 rfl rfl)
theorem dX3_cancels_70 : decode cX3_cancels 70 = .ok (.goto (-22), 3) := dk_167 255 234 (dk_at dksX3_cancels_3 0 rfl rfl)
theorem dX3_cancels_73 : decode cX3_cancels 73 = .ok (.aload_n 0, 1) := dk_42 (dk_at dksX3_cancels_3 3 rfl rfl)
theorem dX3_cancels_74 : decode cX3_cancels 74 = .ok (.getfield 7, 3) := dk_180 0 7 (dk_at dksX3_cancels_3 4 rfl rfl)
theorem dX3_cancels_77 : decode cX3_cancels 77 = .ok (.bipush 8, 2) := dk_16 8 (dk_at dksX3_cancels_3 7 rfl rfl)
theorem dX3_cancels_79 : decode cX3_cancels 79 = .ok (.dup2, 1) := dk_92 (dk_at dksX3_cancels_3 9 rfl rfl)
theorem dX3_cancels_80 : decode cX3_cancels 80 = .ok (.iaload, 1) := dk_46 (dk_at dksX3_cancels_3 10 rfl rfl)
theorem dX3_cancels_81 : decode cX3_cancels 81 = .ok (.iload_n 2, 1) := dk_28 (dk_at dksX3_cancels_3 11 rfl rfl)
theorem dX3_cancels_82 : decode cX3_cancels 82 = .ok (.iadd, 1) := dk_96 (dk_at dksX3_cancels_3 12 rfl rfl)
theorem dX3_cancels_83 : decode cX3_cancels 83 = .ok (.iastore, 1) := dk_79 (dk_at dksX3_cancels_3 13 rfl rfl)
theorem dX3_cancels_84 : decode cX3_cancels 84 = .ok (.aload_n 0, 1) := dk_42 (dk_at dksX3_cancels_3 14 rfl rfl)
theorem dX3_cancels_85 : decode cX3_cancels 85 = .ok (.getfield 7, 3) := dk_180 0 7 (dk_at dksX3_cancels_3 15 rfl rfl)
theorem dX3_cancels_88 : decode cX3_cancels 88 = .ok (.iconst 1, 1) := dk_4 (dk_at dksX3_cancels_3 18 rfl rfl)
theorem dX3_cancels_89 : decode cX3_cancels 89 = .ok (.iaload, 1) := dk_46 (dk_at dksX3_cancels_3 19 rfl rfl)
theorem dX3_cancels_90 : decode cX3_cancels 90 = .ok (.ireturn, 1) := dk_172 (dk_at dksX3_cancels_3 20 rfl rfl)
def dkwX3_goes_2 : List UInt8 := [167, 255, 219, 42, 180, 0, 7, 4, 92, 46, 4, 100, 79, 177]
abbrev dktX3_goes_2 : List UInt8 := dkwX3_goes_2 ++ []
def dkwX3_goes_1 : List UInt8 := [17, 0, 131, 162, 0, 14, 42, 180, 0, 7, 28, 6, 96, 46, 167, 0, 4, 3, 79, 132, 2, 1]
abbrev dktX3_goes_1 : List UInt8 := dkwX3_goes_1 ++ dktX3_goes_2
def dkwX3_goes_0 : List UInt8 := [16, 83, 6, 27, 104, 96, 61, 28, 17, 0, 131, 162, 0, 36, 42, 180, 0, 7, 28, 28, 6, 96]
abbrev dktX3_goes_0 : List UInt8 := dkwX3_goes_0 ++ dktX3_goes_1
theorem dksX3_goes_0 : cX3_goes.data.toList.drop 0 = dktX3_goes_0 := by decide +kernel
theorem dksX3_goes_1 : cX3_goes.data.toList.drop 22 = dktX3_goes_1 := dk_seg dksX3_goes_0 22 rfl rfl
theorem dksX3_goes_2 : cX3_goes.data.toList.drop 44 = dktX3_goes_2 := dk_seg dksX3_goes_1 22 rfl rfl
theorem dX3_goes_0 : decode cX3_goes 0 = .ok (.bipush 83, 2) := dk_16 83 (dk_at dksX3_goes_0 0 rfl rfl)
theorem dX3_goes_2 : decode cX3_goes 2 = .ok (.iconst 3, 1) := dk_6 (dk_at dksX3_goes_0 2 rfl rfl)
theorem dX3_goes_3 : decode cX3_goes 3 = .ok (.iload_n 1, 1) := dk_27 (dk_at dksX3_goes_0 3 rfl rfl)
theorem dX3_goes_4 : decode cX3_goes 4 = .ok (.imul, 1) := dk_104 (dk_at dksX3_goes_0 4 rfl rfl)
theorem dX3_goes_5 : decode cX3_goes 5 = .ok (.iadd, 1) := dk_96 (dk_at dksX3_goes_0 5 rfl rfl)
theorem dX3_goes_6 : decode cX3_goes 6 = .ok (.istore_n 2, 1) := dk_61 (dk_at dksX3_goes_0 6 rfl rfl)
theorem dX3_goes_7 : decode cX3_goes 7 = .ok (.iload_n 2, 1) := dk_28 (dk_at dksX3_goes_0 7 rfl rfl)
theorem dX3_goes_8 : decode cX3_goes 8 = .ok (.sipush 131, 3) := dk_17 0 131 (dk_at dksX3_goes_0 8 rfl rfl)
theorem dX3_goes_11 : decode cX3_goes 11 = .ok (.if_icmp .ge 36, 3) := dk_162 0 36 (dk_at dksX3_goes_0 11 rfl rfl)
theorem dX3_goes_14 : decode cX3_goes 14 = .ok (.aload_n 0, 1) := dk_42 (dk_at dksX3_goes_0 14 rfl rfl)
theorem dX3_goes_15 : decode cX3_goes 15 = .ok (.getfield 7, 3) := dk_180 0 7 (dk_at dksX3_goes_0 15 rfl rfl)
theorem dX3_goes_18 : decode cX3_goes 18 = .ok (.iload_n 2, 1) := dk_28 (dk_at dksX3_goes_0 18 rfl rfl)
theorem dX3_goes_19 : decode cX3_goes 19 = .ok (.iload_n 2, 1) := dk_28 (dk_at dksX3_goes_0 19 rfl rfl)
theorem dX3_goes_20 : decode cX3_goes 20 = .ok (.iconst 3, 1) := dk_6 (dk_at dksX3_goes_0 20 rfl rfl)
theorem dX3_goes_21 : decode cX3_goes 21 = .ok (.iadd, 1) := dk_96 (dk_at dksX3_goes_0 21 rfl rfl)
theorem dX3_goes_22 : decode cX3_goes 22 = .ok (.sipush 131, 3) := dk_17 0 131 (dk_at dksX3_goes_1 0 rfl rfl)
theorem dX3_goes_25 : decode cX3_goes 25 = .ok (.if_icmp .ge 14, 3) := dk_162 0 14 (dk_at dksX3_goes_1 3 rfl rfl)
theorem dX3_goes_28 : decode cX3_goes 28 = .ok (.aload_n 0, 1) := dk_42 (dk_at dksX3_goes_1 6 rfl rfl)
theorem dX3_goes_29 : decode cX3_goes 29 = .ok (.getfield 7, 3) := dk_180 0 7 (dk_at dksX3_goes_1 7 rfl rfl)
theorem dX3_goes_32 : decode cX3_goes 32 = .ok (.iload_n 2, 1) := dk_28 (dk_at dksX3_goes_1 10 rfl rfl)
theorem dX3_goes_33 : decode cX3_goes 33 = .ok (.iconst 3, 1) := dk_6 (dk_at dksX3_goes_1 11 rfl rfl)
theorem dX3_goes_34 : decode cX3_goes 34 = .ok (.iadd, 1) := dk_96 (dk_at dksX3_goes_1 12 rfl rfl)
theorem dX3_goes_35 : decode cX3_goes 35 = .ok (.iaload, 1) := dk_46 (dk_at dksX3_goes_1 13 rfl rfl)
theorem dX3_goes_36 : decode cX3_goes 36 = .ok (.goto 4, 3) := dk_167 0 4 (dk_at dksX3_goes_1 14 rfl rfl)
theorem dX3_goes_39 : decode cX3_goes 39 = .ok (.iconst 0, 1) := dk_3 (dk_at dksX3_goes_1 17 rfl rfl)
theorem dX3_goes_40 : decode cX3_goes 40 = .ok (.iastore, 1) := dk_79 (dk_at dksX3_goes_1 18 rfl rfl)
theorem dX3_goes_41 : decode cX3_goes 41 = .ok (.iinc 2 1, 3) := dk_132 2 1 (dk_at dksX3_goes_1 19 rfl rfl)
theorem dX3_goes_44 : decode cX3_goes 44 = .ok (.goto (-37), 3) := dk_167 255 219 (dk_at dksX3_goes_2 0 rfl rfl)
theorem dX3_goes_47 : decode cX3_goes 47 = .ok (.aload_n 0, 1) := dk_42 (dk_at dksX3_goes_2 3 rfl rfl)
theorem dX3_goes_48 : decode cX3_goes 48 = .ok (.getfield 7, 3) := dk_180 0 7 (dk_at dksX3_goes_2 4 rfl rfl)
theorem dX3_goes_51 : decode cX3_goes 51 = .ok (.iconst 1, 1) := dk_4 (dk_at dksX3_goes_2 7 rfl rfl)
theorem dX3_goes_52 : decode cX3_goes 52 = .ok (.dup2, 1) := dk_92 (dk_at dksX3_goes_2 8 rfl rfl)
theorem dX3_goes_53 : decode cX3_goes 53 = .ok (.iaload, 1) := dk_46 (dk_at dksX3_goes_2 9 rfl rfl)
theorem dX3_goes_54 : decode cX3_goes 54 = .ok (.iconst 1, 1) := dk_4 (dk_at dksX3_goes_2 10 rfl rfl)
theorem dX3_goes_55 : decode cX3_goes 55 = .ok (.isub, 1) := dk_100 (dk_at dksX3_goes_2 11 rfl rfl)
theorem dX3_goes_56 : decode cX3_goes 56 = .ok (.iastore, 1) := dk_79 (dk_at dksX3_goes_2 12 rfl rfl)
theorem dX3_goes_57 : decode cX3_goes 57 = .ok (.return_, 1) := dk_177 (dk_at dksX3_goes_2 13 rfl rfl)
def dkwX3_ring_0 : List UInt8 := [42, 182, 0, 67, 42, 42, 182, 0, 124, 182, 0, 73, 172]
abbrev dktX3_ring_0 : List UInt8 := dkwX3_ring_0 ++ []
theorem dksX3_ring_0 : cX3_ring.data.toList.drop 0 = dktX3_ring_0 := by decide +kernel
theorem dX3_ring_0 : decode cX3_ring 0 = .ok (.aload_n 0, 1) := dk_42 (dk_at dksX3_ring_0 0 rfl rfl)
theorem dX3_ring_1 : decode cX3_ring 1 = .ok (.invokevirtual 67, 3) := dk_182 0 67 (dk_at dksX3_ring_0 1 rfl rfl)
theorem dX3_ring_4 : decode cX3_ring 4 = .ok (.aload_n 0, 1) := dk_42 (dk_at dksX3_ring_0 4 rfl rfl)
theorem dX3_ring_5 : decode cX3_ring 5 = .ok (.aload_n 0, 1) := dk_42 (dk_at dksX3_ring_0 5 rfl rfl)
theorem dX3_ring_6 : decode cX3_ring 6 = .ok (.invokevirtual 124, 3) := dk_182 0 124 (dk_at dksX3_ring_0 6 rfl rfl)
theorem dX3_ring_9 : decode cX3_ring 9 = .ok (.invokevirtual 73, 3) := dk_182 0 73 (dk_at dksX3_ring_0 9 rfl rfl)
theorem dX3_ring_12 : decode cX3_ring 12 = .ok (.ireturn, 1) := dk_172 (dk_at dksX3_ring_0 12 rfl rfl)
def dkwX3_rings_1 : List UInt8 := [42, 182, 0, 120, 172]
abbrev dktX3_rings_1 : List UInt8 := dkwX3_rings_1 ++ []
def dkwX3_rings_0 : List UInt8 := [42, 180, 0, 7, 4, 46, 154, 0, 18, 42, 6, 42, 180, 0, 7, 16, 10, 46, 182, 0, 60, 167, 0, 7]
abbrev dktX3_rings_0 : List UInt8 := dkwX3_rings_0 ++ dktX3_rings_1
theorem dksX3_rings_0 : cX3_rings.data.toList.drop 0 = dktX3_rings_0 := by decide +kernel
theorem dksX3_rings_1 : cX3_rings.data.toList.drop 24 = dktX3_rings_1 := dk_seg dksX3_rings_0 24 rfl rfl
theorem dX3_rings_0 : decode cX3_rings 0 = .ok (.aload_n 0, 1) := dk_42 (dk_at dksX3_rings_0 0 rfl rfl)
theorem dX3_rings_1 : decode cX3_rings 1 = .ok (.getfield 7, 3) := dk_180 0 7 (dk_at dksX3_rings_0 1 rfl rfl)
theorem dX3_rings_4 : decode cX3_rings 4 = .ok (.iconst 1, 1) := dk_4 (dk_at dksX3_rings_0 4 rfl rfl)
theorem dX3_rings_5 : decode cX3_rings 5 = .ok (.iaload, 1) := dk_46 (dk_at dksX3_rings_0 5 rfl rfl)
theorem dX3_rings_6 : decode cX3_rings 6 = .ok (.ifCond .ne 18, 3) := dk_154 0 18 (dk_at dksX3_rings_0 6 rfl rfl)
theorem dX3_rings_9 : decode cX3_rings 9 = .ok (.aload_n 0, 1) := dk_42 (dk_at dksX3_rings_0 9 rfl rfl)
theorem dX3_rings_10 : decode cX3_rings 10 = .ok (.iconst 3, 1) := dk_6 (dk_at dksX3_rings_0 10 rfl rfl)
theorem dX3_rings_11 : decode cX3_rings 11 = .ok (.aload_n 0, 1) := dk_42 (dk_at dksX3_rings_0 11 rfl rfl)
theorem dX3_rings_12 : decode cX3_rings 12 = .ok (.getfield 7, 3) := dk_180 0 7 (dk_at dksX3_rings_0 12 rfl rfl)
theorem dX3_rings_15 : decode cX3_rings 15 = .ok (.bipush 10, 2) := dk_16 10 (dk_at dksX3_rings_0 15 rfl rfl)
theorem dX3_rings_17 : decode cX3_rings 17 = .ok (.iaload, 1) := dk_46 (dk_at dksX3_rings_0 17 rfl rfl)
theorem dX3_rings_18 : decode cX3_rings 18 = .ok (.invokevirtual 60, 3) := dk_182 0 60 (dk_at dksX3_rings_0 18 rfl rfl)
theorem dX3_rings_21 : decode cX3_rings 21 = .ok (.goto 7, 3) := dk_167 0 7 (dk_at dksX3_rings_0 21 rfl rfl)
theorem dX3_rings_24 : decode cX3_rings 24 = .ok (.aload_n 0, 1) := dk_42 (dk_at dksX3_rings_1 0 rfl rfl)
theorem dX3_rings_25 : decode cX3_rings 25 = .ok (.invokevirtual 120, 3) := dk_182 0 120 (dk_at dksX3_rings_1 1 rfl rfl)
theorem dX3_rings_28 : decode cX3_rings 28 = .ok (.ireturn, 1) := dk_172 (dk_at dksX3_rings_1 4 rfl rfl)
def dkwX3_ringsNext_5 : List UInt8 := [92, 46, 4, 96, 79, 42, 180, 0, 7, 16, 6, 92, 46, 4, 96, 79, 3, 172]
abbrev dktX3_ringsNext_5 : List UInt8 := dkwX3_ringsNext_5 ++ []
def dkwX3_ringsNext_4 : List UInt8 := [182, 0, 112, 153, 0, 12, 42, 27, 28, 29, 182, 0, 116, 4, 172, 42, 180, 0, 7, 27, 7, 184, 0, 64]
abbrev dktX3_ringsNext_4 : List UInt8 := dkwX3_ringsNext_4 ++ dktX3_ringsNext_5
def dkwX3_ringsNext_3 : List UInt8 := [184, 0, 64, 92, 46, 4, 96, 79, 42, 180, 0, 7, 16, 7, 92, 46, 4, 96, 79, 5, 172, 42, 27, 29]
abbrev dktX3_ringsNext_3 : List UInt8 := dkwX3_ringsNext_3 ++ dktX3_ringsNext_4
def dkwX3_ringsNext_2 : List UInt8 := [180, 0, 7, 17, 0, 211, 28, 96, 46, 27, 122, 4, 126, 4, 160, 0, 30, 42, 180, 0, 7, 27, 8]
abbrev dktX3_ringsNext_2 : List UInt8 := dkwX3_ringsNext_2 ++ dktX3_ringsNext_3
def dkwX3_ringsNext_1 : List UInt8 := [182, 0, 105, 42, 180, 0, 7, 5, 28, 79, 42, 180, 0, 7, 16, 10, 92, 46, 4, 96, 79, 42]
abbrev dktX3_ringsNext_1 : List UInt8 := dkwX3_ringsNext_1 ++ dktX3_ringsNext_2
def dkwX3_ringsNext_0 : List UInt8 := [42, 3, 3, 182, 0, 91, 60, 42, 3, 4, 182, 0, 91, 61, 42, 3, 5, 182, 0, 91, 62, 42, 3]
abbrev dktX3_ringsNext_0 : List UInt8 := dkwX3_ringsNext_0 ++ dktX3_ringsNext_1
theorem dksX3_ringsNext_0 : cX3_ringsNext.data.toList.drop 0 = dktX3_ringsNext_0 := by decide +kernel
theorem dksX3_ringsNext_1 : cX3_ringsNext.data.toList.drop 23 = dktX3_ringsNext_1 := dk_seg dksX3_ringsNext_0 23 rfl rfl
theorem dksX3_ringsNext_2 : cX3_ringsNext.data.toList.drop 45 = dktX3_ringsNext_2 := dk_seg dksX3_ringsNext_1 22 rfl rfl
theorem dksX3_ringsNext_3 : cX3_ringsNext.data.toList.drop 68 = dktX3_ringsNext_3 := dk_seg dksX3_ringsNext_2 23 rfl rfl
theorem dksX3_ringsNext_4 : cX3_ringsNext.data.toList.drop 92 = dktX3_ringsNext_4 := dk_seg dksX3_ringsNext_3 24 rfl rfl
theorem dksX3_ringsNext_5 : cX3_ringsNext.data.toList.drop 116 = dktX3_ringsNext_5 := dk_seg dksX3_ringsNext_4 24 rfl rfl
theorem dX3_ringsNext_0 : decode cX3_ringsNext 0 = .ok (.aload_n 0, 1) := dk_42 (dk_at dksX3_ringsNext_0 0 rfl rfl)
theorem dX3_ringsNext_1 : decode cX3_ringsNext 1 = .ok (.iconst 0, 1) := dk_3 (dk_at dksX3_ringsNext_0 1 rfl rfl)
theorem dX3_ringsNext_2 : decode cX3_ringsNext 2 = .ok (.iconst 0, 1) := dk_3 (dk_at dksX3_ringsNext_0 2 rfl rfl)
theorem dX3_ringsNext_3 : decode cX3_ringsNext 3 = .ok (.invokevirtual 91, 3) := dk_182 0 91 (dk_at dksX3_ringsNext_0 3 rfl rfl)
theorem dX3_ringsNext_6 : decode cX3_ringsNext 6 = .ok (.istore_n 1, 1) := dk_60 (dk_at dksX3_ringsNext_0 6 rfl rfl)
theorem dX3_ringsNext_7 : decode cX3_ringsNext 7 = .ok (.aload_n 0, 1) := dk_42 (dk_at dksX3_ringsNext_0 7 rfl rfl)
theorem dX3_ringsNext_8 : decode cX3_ringsNext 8 = .ok (.iconst 0, 1) := dk_3 (dk_at dksX3_ringsNext_0 8 rfl rfl)
theorem dX3_ringsNext_9 : decode cX3_ringsNext 9 = .ok (.iconst 1, 1) := dk_4 (dk_at dksX3_ringsNext_0 9 rfl rfl)
theorem dX3_ringsNext_10 : decode cX3_ringsNext 10 = .ok (.invokevirtual 91, 3) := dk_182 0 91 (dk_at dksX3_ringsNext_0 10 rfl rfl)
theorem dX3_ringsNext_13 : decode cX3_ringsNext 13 = .ok (.istore_n 2, 1) := dk_61 (dk_at dksX3_ringsNext_0 13 rfl rfl)
theorem dX3_ringsNext_14 : decode cX3_ringsNext 14 = .ok (.aload_n 0, 1) := dk_42 (dk_at dksX3_ringsNext_0 14 rfl rfl)
theorem dX3_ringsNext_15 : decode cX3_ringsNext 15 = .ok (.iconst 0, 1) := dk_3 (dk_at dksX3_ringsNext_0 15 rfl rfl)
theorem dX3_ringsNext_16 : decode cX3_ringsNext 16 = .ok (.iconst 2, 1) := dk_5 (dk_at dksX3_ringsNext_0 16 rfl rfl)
theorem dX3_ringsNext_17 : decode cX3_ringsNext 17 = .ok (.invokevirtual 91, 3) := dk_182 0 91 (dk_at dksX3_ringsNext_0 17 rfl rfl)
theorem dX3_ringsNext_20 : decode cX3_ringsNext 20 = .ok (.istore_n 3, 1) := dk_62 (dk_at dksX3_ringsNext_0 20 rfl rfl)
theorem dX3_ringsNext_21 : decode cX3_ringsNext 21 = .ok (.aload_n 0, 1) := dk_42 (dk_at dksX3_ringsNext_0 21 rfl rfl)
theorem dX3_ringsNext_22 : decode cX3_ringsNext 22 = .ok (.iconst 0, 1) := dk_3 (dk_at dksX3_ringsNext_0 22 rfl rfl)
theorem dX3_ringsNext_23 : decode cX3_ringsNext 23 = .ok (.invokevirtual 105, 3) := dk_182 0 105 (dk_at dksX3_ringsNext_1 0 rfl rfl)
theorem dX3_ringsNext_26 : decode cX3_ringsNext 26 = .ok (.aload_n 0, 1) := dk_42 (dk_at dksX3_ringsNext_1 3 rfl rfl)
theorem dX3_ringsNext_27 : decode cX3_ringsNext 27 = .ok (.getfield 7, 3) := dk_180 0 7 (dk_at dksX3_ringsNext_1 4 rfl rfl)
theorem dX3_ringsNext_30 : decode cX3_ringsNext 30 = .ok (.iconst 2, 1) := dk_5 (dk_at dksX3_ringsNext_1 7 rfl rfl)
theorem dX3_ringsNext_31 : decode cX3_ringsNext 31 = .ok (.iload_n 2, 1) := dk_28 (dk_at dksX3_ringsNext_1 8 rfl rfl)
theorem dX3_ringsNext_32 : decode cX3_ringsNext 32 = .ok (.iastore, 1) := dk_79 (dk_at dksX3_ringsNext_1 9 rfl rfl)
theorem dX3_ringsNext_33 : decode cX3_ringsNext 33 = .ok (.aload_n 0, 1) := dk_42 (dk_at dksX3_ringsNext_1 10 rfl rfl)
theorem dX3_ringsNext_34 : decode cX3_ringsNext 34 = .ok (.getfield 7, 3) := dk_180 0 7 (dk_at dksX3_ringsNext_1 11 rfl rfl)
theorem dX3_ringsNext_37 : decode cX3_ringsNext 37 = .ok (.bipush 10, 2) := dk_16 10 (dk_at dksX3_ringsNext_1 14 rfl rfl)
theorem dX3_ringsNext_39 : decode cX3_ringsNext 39 = .ok (.dup2, 1) := dk_92 (dk_at dksX3_ringsNext_1 16 rfl rfl)
theorem dX3_ringsNext_40 : decode cX3_ringsNext 40 = .ok (.iaload, 1) := dk_46 (dk_at dksX3_ringsNext_1 17 rfl rfl)
theorem dX3_ringsNext_41 : decode cX3_ringsNext 41 = .ok (.iconst 1, 1) := dk_4 (dk_at dksX3_ringsNext_1 18 rfl rfl)
theorem dX3_ringsNext_42 : decode cX3_ringsNext 42 = .ok (.iadd, 1) := dk_96 (dk_at dksX3_ringsNext_1 19 rfl rfl)
theorem dX3_ringsNext_43 : decode cX3_ringsNext 43 = .ok (.iastore, 1) := dk_79 (dk_at dksX3_ringsNext_1 20 rfl rfl)
theorem dX3_ringsNext_44 : decode cX3_ringsNext 44 = .ok (.aload_n 0, 1) := dk_42 (dk_at dksX3_ringsNext_1 21 rfl rfl)
theorem dX3_ringsNext_45 : decode cX3_ringsNext 45 = .ok (.getfield 7, 3) := dk_180 0 7 (dk_at dksX3_ringsNext_2 0 rfl rfl)
theorem dX3_ringsNext_48 : decode cX3_ringsNext 48 = .ok (.sipush 211, 3) := dk_17 0 211 (dk_at dksX3_ringsNext_2 3 rfl rfl)
theorem dX3_ringsNext_51 : decode cX3_ringsNext 51 = .ok (.iload_n 2, 1) := dk_28 (dk_at dksX3_ringsNext_2 6 rfl rfl)
theorem dX3_ringsNext_52 : decode cX3_ringsNext 52 = .ok (.iadd, 1) := dk_96 (dk_at dksX3_ringsNext_2 7 rfl rfl)
theorem dX3_ringsNext_53 : decode cX3_ringsNext 53 = .ok (.iaload, 1) := dk_46 (dk_at dksX3_ringsNext_2 8 rfl rfl)
theorem dX3_ringsNext_54 : decode cX3_ringsNext 54 = .ok (.iload_n 1, 1) := dk_27 (dk_at dksX3_ringsNext_2 9 rfl rfl)
theorem dX3_ringsNext_55 : decode cX3_ringsNext 55 = .ok (.ishr, 1) := dk_122 (dk_at dksX3_ringsNext_2 10 rfl rfl)
theorem dX3_ringsNext_56 : decode cX3_ringsNext 56 = .ok (.iconst 1, 1) := dk_4 (dk_at dksX3_ringsNext_2 11 rfl rfl)
theorem dX3_ringsNext_57 : decode cX3_ringsNext 57 = .ok (.iand, 1) := dk_126 (dk_at dksX3_ringsNext_2 12 rfl rfl)
theorem dX3_ringsNext_58 : decode cX3_ringsNext 58 = .ok (.iconst 1, 1) := dk_4 (dk_at dksX3_ringsNext_2 13 rfl rfl)
theorem dX3_ringsNext_59 : decode cX3_ringsNext 59 = .ok (.if_icmp .ne 30, 3) := dk_160 0 30 (dk_at dksX3_ringsNext_2 14 rfl rfl)
theorem dX3_ringsNext_62 : decode cX3_ringsNext 62 = .ok (.aload_n 0, 1) := dk_42 (dk_at dksX3_ringsNext_2 17 rfl rfl)
theorem dX3_ringsNext_63 : decode cX3_ringsNext 63 = .ok (.getfield 7, 3) := dk_180 0 7 (dk_at dksX3_ringsNext_2 18 rfl rfl)
theorem dX3_ringsNext_66 : decode cX3_ringsNext 66 = .ok (.iload_n 1, 1) := dk_27 (dk_at dksX3_ringsNext_2 21 rfl rfl)
theorem dX3_ringsNext_67 : decode cX3_ringsNext 67 = .ok (.iconst 5, 1) := dk_8 (dk_at dksX3_ringsNext_2 22 rfl rfl)
theorem dX3_ringsNext_68 : decode cX3_ringsNext 68 = .ok (.invokestatic 64, 3) := dk_184 0 64 (dk_at dksX3_ringsNext_3 0 rfl rfl)
theorem dX3_ringsNext_71 : decode cX3_ringsNext 71 = .ok (.dup2, 1) := dk_92 (dk_at dksX3_ringsNext_3 3 rfl rfl)
theorem dX3_ringsNext_72 : decode cX3_ringsNext 72 = .ok (.iaload, 1) := dk_46 (dk_at dksX3_ringsNext_3 4 rfl rfl)
theorem dX3_ringsNext_73 : decode cX3_ringsNext 73 = .ok (.iconst 1, 1) := dk_4 (dk_at dksX3_ringsNext_3 5 rfl rfl)
theorem dX3_ringsNext_74 : decode cX3_ringsNext 74 = .ok (.iadd, 1) := dk_96 (dk_at dksX3_ringsNext_3 6 rfl rfl)
theorem dX3_ringsNext_75 : decode cX3_ringsNext 75 = .ok (.iastore, 1) := dk_79 (dk_at dksX3_ringsNext_3 7 rfl rfl)
theorem dX3_ringsNext_76 : decode cX3_ringsNext 76 = .ok (.aload_n 0, 1) := dk_42 (dk_at dksX3_ringsNext_3 8 rfl rfl)
theorem dX3_ringsNext_77 : decode cX3_ringsNext 77 = .ok (.getfield 7, 3) := dk_180 0 7 (dk_at dksX3_ringsNext_3 9 rfl rfl)
theorem dX3_ringsNext_80 : decode cX3_ringsNext 80 = .ok (.bipush 7, 2) := dk_16 7 (dk_at dksX3_ringsNext_3 12 rfl rfl)
theorem dX3_ringsNext_82 : decode cX3_ringsNext 82 = .ok (.dup2, 1) := dk_92 (dk_at dksX3_ringsNext_3 14 rfl rfl)
theorem dX3_ringsNext_83 : decode cX3_ringsNext 83 = .ok (.iaload, 1) := dk_46 (dk_at dksX3_ringsNext_3 15 rfl rfl)
theorem dX3_ringsNext_84 : decode cX3_ringsNext 84 = .ok (.iconst 1, 1) := dk_4 (dk_at dksX3_ringsNext_3 16 rfl rfl)
theorem dX3_ringsNext_85 : decode cX3_ringsNext 85 = .ok (.iadd, 1) := dk_96 (dk_at dksX3_ringsNext_3 17 rfl rfl)
theorem dX3_ringsNext_86 : decode cX3_ringsNext 86 = .ok (.iastore, 1) := dk_79 (dk_at dksX3_ringsNext_3 18 rfl rfl)
theorem dX3_ringsNext_87 : decode cX3_ringsNext 87 = .ok (.iconst 2, 1) := dk_5 (dk_at dksX3_ringsNext_3 19 rfl rfl)
theorem dX3_ringsNext_88 : decode cX3_ringsNext 88 = .ok (.ireturn, 1) := dk_172 (dk_at dksX3_ringsNext_3 20 rfl rfl)
theorem dX3_ringsNext_89 : decode cX3_ringsNext 89 = .ok (.aload_n 0, 1) := dk_42 (dk_at dksX3_ringsNext_3 21 rfl rfl)
theorem dX3_ringsNext_90 : decode cX3_ringsNext 90 = .ok (.iload_n 1, 1) := dk_27 (dk_at dksX3_ringsNext_3 22 rfl rfl)
theorem dX3_ringsNext_91 : decode cX3_ringsNext 91 = .ok (.iload_n 3, 1) := dk_29 (dk_at dksX3_ringsNext_3 23 rfl rfl)
theorem dX3_ringsNext_92 : decode cX3_ringsNext 92 = .ok (.invokevirtual 112, 3) := dk_182 0 112 (dk_at dksX3_ringsNext_4 0 rfl rfl)
theorem dX3_ringsNext_95 : decode cX3_ringsNext 95 = .ok (.ifCond .eq 12, 3) := dk_153 0 12 (dk_at dksX3_ringsNext_4 3 rfl rfl)
theorem dX3_ringsNext_98 : decode cX3_ringsNext 98 = .ok (.aload_n 0, 1) := dk_42 (dk_at dksX3_ringsNext_4 6 rfl rfl)
theorem dX3_ringsNext_99 : decode cX3_ringsNext 99 = .ok (.iload_n 1, 1) := dk_27 (dk_at dksX3_ringsNext_4 7 rfl rfl)
theorem dX3_ringsNext_100 : decode cX3_ringsNext 100 = .ok (.iload_n 2, 1) := dk_28 (dk_at dksX3_ringsNext_4 8 rfl rfl)
theorem dX3_ringsNext_101 : decode cX3_ringsNext 101 = .ok (.iload_n 3, 1) := dk_29 (dk_at dksX3_ringsNext_4 9 rfl rfl)
theorem dX3_ringsNext_102 : decode cX3_ringsNext 102 = .ok (.invokevirtual 116, 3) := dk_182 0 116 (dk_at dksX3_ringsNext_4 10 rfl rfl)
theorem dX3_ringsNext_105 : decode cX3_ringsNext 105 = .ok (.iconst 1, 1) := dk_4 (dk_at dksX3_ringsNext_4 13 rfl rfl)
theorem dX3_ringsNext_106 : decode cX3_ringsNext 106 = .ok (.ireturn, 1) := dk_172 (dk_at dksX3_ringsNext_4 14 rfl rfl)
theorem dX3_ringsNext_107 : decode cX3_ringsNext 107 = .ok (.aload_n 0, 1) := dk_42 (dk_at dksX3_ringsNext_4 15 rfl rfl)
theorem dX3_ringsNext_108 : decode cX3_ringsNext 108 = .ok (.getfield 7, 3) := dk_180 0 7 (dk_at dksX3_ringsNext_4 16 rfl rfl)
theorem dX3_ringsNext_111 : decode cX3_ringsNext 111 = .ok (.iload_n 1, 1) := dk_27 (dk_at dksX3_ringsNext_4 19 rfl rfl)
theorem dX3_ringsNext_112 : decode cX3_ringsNext 112 = .ok (.iconst 4, 1) := dk_7 (dk_at dksX3_ringsNext_4 20 rfl rfl)
theorem dX3_ringsNext_113 : decode cX3_ringsNext 113 = .ok (.invokestatic 64, 3) := dk_184 0 64 (dk_at dksX3_ringsNext_4 21 rfl rfl)
theorem dX3_ringsNext_116 : decode cX3_ringsNext 116 = .ok (.dup2, 1) := dk_92 (dk_at dksX3_ringsNext_5 0 rfl rfl)
theorem dX3_ringsNext_117 : decode cX3_ringsNext 117 = .ok (.iaload, 1) := dk_46 (dk_at dksX3_ringsNext_5 1 rfl rfl)
theorem dX3_ringsNext_118 : decode cX3_ringsNext 118 = .ok (.iconst 1, 1) := dk_4 (dk_at dksX3_ringsNext_5 2 rfl rfl)
theorem dX3_ringsNext_119 : decode cX3_ringsNext 119 = .ok (.iadd, 1) := dk_96 (dk_at dksX3_ringsNext_5 3 rfl rfl)
theorem dX3_ringsNext_120 : decode cX3_ringsNext 120 = .ok (.iastore, 1) := dk_79 (dk_at dksX3_ringsNext_5 4 rfl rfl)
theorem dX3_ringsNext_121 : decode cX3_ringsNext 121 = .ok (.aload_n 0, 1) := dk_42 (dk_at dksX3_ringsNext_5 5 rfl rfl)
theorem dX3_ringsNext_122 : decode cX3_ringsNext 122 = .ok (.getfield 7, 3) := dk_180 0 7 (dk_at dksX3_ringsNext_5 6 rfl rfl)
theorem dX3_ringsNext_125 : decode cX3_ringsNext 125 = .ok (.bipush 6, 2) := dk_16 6 (dk_at dksX3_ringsNext_5 9 rfl rfl)
theorem dX3_ringsNext_127 : decode cX3_ringsNext 127 = .ok (.dup2, 1) := dk_92 (dk_at dksX3_ringsNext_5 11 rfl rfl)
theorem dX3_ringsNext_128 : decode cX3_ringsNext 128 = .ok (.iaload, 1) := dk_46 (dk_at dksX3_ringsNext_5 12 rfl rfl)
theorem dX3_ringsNext_129 : decode cX3_ringsNext 129 = .ok (.iconst 1, 1) := dk_4 (dk_at dksX3_ringsNext_5 13 rfl rfl)
theorem dX3_ringsNext_130 : decode cX3_ringsNext 130 = .ok (.iadd, 1) := dk_96 (dk_at dksX3_ringsNext_5 14 rfl rfl)
theorem dX3_ringsNext_131 : decode cX3_ringsNext 131 = .ok (.iastore, 1) := dk_79 (dk_at dksX3_ringsNext_5 15 rfl rfl)
theorem dX3_ringsNext_132 : decode cX3_ringsNext 132 = .ok (.iconst 0, 1) := dk_3 (dk_at dksX3_ringsNext_5 16 rfl rfl)
theorem dX3_ringsNext_133 : decode cX3_ringsNext 133 = .ok (.ireturn, 1) := dk_172 (dk_at dksX3_ringsNext_5 17 rfl rfl)
def dkwX3_isHeard_1 : List UInt8 := [46, 164, 0, 7, 4, 167, 0, 4, 3, 172]
abbrev dktX3_isHeard_1 : List UInt8 := dkwX3_isHeard_1 ++ []
def dkwX3_isHeard_0 : List UInt8 := [42, 180, 0, 7, 27, 4, 184, 0, 64, 46, 4, 160, 0, 21, 28, 42, 180, 0, 7, 27, 5, 184, 0, 64]
abbrev dktX3_isHeard_0 : List UInt8 := dkwX3_isHeard_0 ++ dktX3_isHeard_1
theorem dksX3_isHeard_0 : cX3_isHeard.data.toList.drop 0 = dktX3_isHeard_0 := by decide +kernel
theorem dksX3_isHeard_1 : cX3_isHeard.data.toList.drop 24 = dktX3_isHeard_1 := dk_seg dksX3_isHeard_0 24 rfl rfl
theorem dX3_isHeard_0 : decode cX3_isHeard 0 = .ok (.aload_n 0, 1) := dk_42 (dk_at dksX3_isHeard_0 0 rfl rfl)
theorem dX3_isHeard_1 : decode cX3_isHeard 1 = .ok (.getfield 7, 3) := dk_180 0 7 (dk_at dksX3_isHeard_0 1 rfl rfl)
theorem dX3_isHeard_4 : decode cX3_isHeard 4 = .ok (.iload_n 1, 1) := dk_27 (dk_at dksX3_isHeard_0 4 rfl rfl)
theorem dX3_isHeard_5 : decode cX3_isHeard 5 = .ok (.iconst 1, 1) := dk_4 (dk_at dksX3_isHeard_0 5 rfl rfl)
theorem dX3_isHeard_6 : decode cX3_isHeard 6 = .ok (.invokestatic 64, 3) := dk_184 0 64 (dk_at dksX3_isHeard_0 6 rfl rfl)
theorem dX3_isHeard_9 : decode cX3_isHeard 9 = .ok (.iaload, 1) := dk_46 (dk_at dksX3_isHeard_0 9 rfl rfl)
theorem dX3_isHeard_10 : decode cX3_isHeard 10 = .ok (.iconst 1, 1) := dk_4 (dk_at dksX3_isHeard_0 10 rfl rfl)
theorem dX3_isHeard_11 : decode cX3_isHeard 11 = .ok (.if_icmp .ne 21, 3) := dk_160 0 21 (dk_at dksX3_isHeard_0 11 rfl rfl)
theorem dX3_isHeard_14 : decode cX3_isHeard 14 = .ok (.iload_n 2, 1) := dk_28 (dk_at dksX3_isHeard_0 14 rfl rfl)
theorem dX3_isHeard_15 : decode cX3_isHeard 15 = .ok (.aload_n 0, 1) := dk_42 (dk_at dksX3_isHeard_0 15 rfl rfl)
theorem dX3_isHeard_16 : decode cX3_isHeard 16 = .ok (.getfield 7, 3) := dk_180 0 7 (dk_at dksX3_isHeard_0 16 rfl rfl)
theorem dX3_isHeard_19 : decode cX3_isHeard 19 = .ok (.iload_n 1, 1) := dk_27 (dk_at dksX3_isHeard_0 19 rfl rfl)
theorem dX3_isHeard_20 : decode cX3_isHeard 20 = .ok (.iconst 2, 1) := dk_5 (dk_at dksX3_isHeard_0 20 rfl rfl)
theorem dX3_isHeard_21 : decode cX3_isHeard 21 = .ok (.invokestatic 64, 3) := dk_184 0 64 (dk_at dksX3_isHeard_0 21 rfl rfl)
theorem dX3_isHeard_24 : decode cX3_isHeard 24 = .ok (.iaload, 1) := dk_46 (dk_at dksX3_isHeard_1 0 rfl rfl)
theorem dX3_isHeard_25 : decode cX3_isHeard 25 = .ok (.if_icmp .le 7, 3) := dk_164 0 7 (dk_at dksX3_isHeard_1 1 rfl rfl)
theorem dX3_isHeard_28 : decode cX3_isHeard 28 = .ok (.iconst 1, 1) := dk_4 (dk_at dksX3_isHeard_1 4 rfl rfl)
theorem dX3_isHeard_29 : decode cX3_isHeard 29 = .ok (.goto 4, 3) := dk_167 0 4 (dk_at dksX3_isHeard_1 5 rfl rfl)
theorem dX3_isHeard_32 : decode cX3_isHeard 32 = .ok (.iconst 0, 1) := dk_3 (dk_at dksX3_isHeard_1 8 rfl rfl)
theorem dX3_isHeard_33 : decode cX3_isHeard 33 = .ok (.ireturn, 1) := dk_172 (dk_at dksX3_isHeard_1 9 rfl rfl)
def dkwX3_answers_7 : List UInt8 := [16, 9, 46, 4, 96, 167, 0, 5, 16, 20, 79, 177]
abbrev dktX3_answers_7 : List UInt8 := dkwX3_answers_7 ++ []
def dkwX3_answers_6 : List UInt8 := [79, 42, 180, 0, 7, 16, 9, 42, 180, 0, 7, 16, 9, 46, 16, 20, 162, 0, 15, 42, 180, 0, 7]
abbrev dktX3_answers_6 : List UInt8 := dkwX3_answers_6 ++ dktX3_answers_7
def dkwX3_answers_5 : List UInt8 := [28, 79, 42, 180, 0, 7, 17, 0, 133, 42, 180, 0, 7, 6, 46, 79, 42, 180, 0, 7, 17, 0, 134, 29]
abbrev dktX3_answers_5 : List UInt8 := dkwX3_answers_5 ++ dktX3_answers_6
def dkwX3_answers_4 : List UInt8 := [46, 79, 132, 4, 255, 167, 255, 229, 42, 180, 0, 7, 17, 0, 131, 27, 79, 42, 180, 0, 7, 17, 0, 132]
abbrev dktX3_answers_4 : List UInt8 := dkwX3_answers_4 ++ dktX3_answers_5
def dkwX3_answers_3 : List UInt8 := [54, 4, 21, 4, 17, 0, 135, 161, 0, 25, 42, 180, 0, 7, 21, 4, 42, 180, 0, 7, 21, 4, 7, 100]
abbrev dktX3_answers_3 : List UInt8 := dkwX3_answers_3 ++ dktX3_answers_4
def dkwX3_answers_2 : List UInt8 := [92, 46, 4, 96, 79, 42, 180, 0, 7, 17, 0, 211, 28, 96, 92, 46, 4, 27, 120, 128, 79, 17, 0, 210]
abbrev dktX3_answers_2 : List UInt8 := dkwX3_answers_2 ++ dktX3_answers_3
def dkwX3_answers_1 : List UInt8 := [92, 46, 4, 96, 79, 42, 180, 0, 7, 27, 6, 184, 0, 64, 92, 46, 4, 96, 79, 42, 180, 0, 7, 8]
abbrev dktX3_answers_1 : List UInt8 := dkwX3_answers_1 ++ dktX3_answers_2
def dkwX3_answers_0 : List UInt8 := [42, 180, 0, 7, 27, 5, 184, 0, 64, 46, 16, 9, 162, 0, 17, 42, 180, 0, 7, 27, 5, 184, 0, 64]
abbrev dktX3_answers_0 : List UInt8 := dkwX3_answers_0 ++ dktX3_answers_1
theorem dksX3_answers_0 : cX3_answers.data.toList.drop 0 = dktX3_answers_0 := by decide +kernel
theorem dksX3_answers_1 : cX3_answers.data.toList.drop 24 = dktX3_answers_1 := dk_seg dksX3_answers_0 24 rfl rfl
theorem dksX3_answers_2 : cX3_answers.data.toList.drop 48 = dktX3_answers_2 := dk_seg dksX3_answers_1 24 rfl rfl
theorem dksX3_answers_3 : cX3_answers.data.toList.drop 72 = dktX3_answers_3 := dk_seg dksX3_answers_2 24 rfl rfl
theorem dksX3_answers_4 : cX3_answers.data.toList.drop 96 = dktX3_answers_4 := dk_seg dksX3_answers_3 24 rfl rfl
theorem dksX3_answers_5 : cX3_answers.data.toList.drop 120 = dktX3_answers_5 := dk_seg dksX3_answers_4 24 rfl rfl
theorem dksX3_answers_6 : cX3_answers.data.toList.drop 144 = dktX3_answers_6 := dk_seg dksX3_answers_5 24 rfl rfl
theorem dksX3_answers_7 : cX3_answers.data.toList.drop 167 = dktX3_answers_7 := dk_seg dksX3_answers_6 23 rfl rfl
theorem dX3_answers_0 : decode cX3_answers 0 = .ok (.aload_n 0, 1) := dk_42 (dk_at dksX3_answers_0 0 rfl rfl)
theorem dX3_answers_1 : decode cX3_answers 1 = .ok (.getfield 7, 3) := dk_180 0 7 (dk_at dksX3_answers_0 1 rfl rfl)
theorem dX3_answers_4 : decode cX3_answers 4 = .ok (.iload_n 1, 1) := dk_27 (dk_at dksX3_answers_0 4 rfl rfl)
theorem dX3_answers_5 : decode cX3_answers 5 = .ok (.iconst 2, 1) := dk_5 (dk_at dksX3_answers_0 5 rfl rfl)
theorem dX3_answers_6 : decode cX3_answers 6 = .ok (.invokestatic 64, 3) := dk_184 0 64 (dk_at dksX3_answers_0 6 rfl rfl)
theorem dX3_answers_9 : decode cX3_answers 9 = .ok (.iaload, 1) := dk_46 (dk_at dksX3_answers_0 9 rfl rfl)
theorem dX3_answers_10 : decode cX3_answers 10 = .ok (.bipush 9, 2) := dk_16 9 (dk_at dksX3_answers_0 10 rfl rfl)
theorem dX3_answers_12 : decode cX3_answers 12 = .ok (.if_icmp .ge 17, 3) := dk_162 0 17 (dk_at dksX3_answers_0 12 rfl rfl)
theorem dX3_answers_15 : decode cX3_answers 15 = .ok (.aload_n 0, 1) := dk_42 (dk_at dksX3_answers_0 15 rfl rfl)
theorem dX3_answers_16 : decode cX3_answers 16 = .ok (.getfield 7, 3) := dk_180 0 7 (dk_at dksX3_answers_0 16 rfl rfl)
theorem dX3_answers_19 : decode cX3_answers 19 = .ok (.iload_n 1, 1) := dk_27 (dk_at dksX3_answers_0 19 rfl rfl)
theorem dX3_answers_20 : decode cX3_answers 20 = .ok (.iconst 2, 1) := dk_5 (dk_at dksX3_answers_0 20 rfl rfl)
theorem dX3_answers_21 : decode cX3_answers 21 = .ok (.invokestatic 64, 3) := dk_184 0 64 (dk_at dksX3_answers_0 21 rfl rfl)
theorem dX3_answers_24 : decode cX3_answers 24 = .ok (.dup2, 1) := dk_92 (dk_at dksX3_answers_1 0 rfl rfl)
theorem dX3_answers_25 : decode cX3_answers 25 = .ok (.iaload, 1) := dk_46 (dk_at dksX3_answers_1 1 rfl rfl)
theorem dX3_answers_26 : decode cX3_answers 26 = .ok (.iconst 1, 1) := dk_4 (dk_at dksX3_answers_1 2 rfl rfl)
theorem dX3_answers_27 : decode cX3_answers 27 = .ok (.iadd, 1) := dk_96 (dk_at dksX3_answers_1 3 rfl rfl)
theorem dX3_answers_28 : decode cX3_answers 28 = .ok (.iastore, 1) := dk_79 (dk_at dksX3_answers_1 4 rfl rfl)
theorem dX3_answers_29 : decode cX3_answers 29 = .ok (.aload_n 0, 1) := dk_42 (dk_at dksX3_answers_1 5 rfl rfl)
theorem dX3_answers_30 : decode cX3_answers 30 = .ok (.getfield 7, 3) := dk_180 0 7 (dk_at dksX3_answers_1 6 rfl rfl)
theorem dX3_answers_33 : decode cX3_answers 33 = .ok (.iload_n 1, 1) := dk_27 (dk_at dksX3_answers_1 9 rfl rfl)
theorem dX3_answers_34 : decode cX3_answers 34 = .ok (.iconst 3, 1) := dk_6 (dk_at dksX3_answers_1 10 rfl rfl)
theorem dX3_answers_35 : decode cX3_answers 35 = .ok (.invokestatic 64, 3) := dk_184 0 64 (dk_at dksX3_answers_1 11 rfl rfl)
theorem dX3_answers_38 : decode cX3_answers 38 = .ok (.dup2, 1) := dk_92 (dk_at dksX3_answers_1 14 rfl rfl)
theorem dX3_answers_39 : decode cX3_answers 39 = .ok (.iaload, 1) := dk_46 (dk_at dksX3_answers_1 15 rfl rfl)
theorem dX3_answers_40 : decode cX3_answers 40 = .ok (.iconst 1, 1) := dk_4 (dk_at dksX3_answers_1 16 rfl rfl)
theorem dX3_answers_41 : decode cX3_answers 41 = .ok (.iadd, 1) := dk_96 (dk_at dksX3_answers_1 17 rfl rfl)
theorem dX3_answers_42 : decode cX3_answers 42 = .ok (.iastore, 1) := dk_79 (dk_at dksX3_answers_1 18 rfl rfl)
theorem dX3_answers_43 : decode cX3_answers 43 = .ok (.aload_n 0, 1) := dk_42 (dk_at dksX3_answers_1 19 rfl rfl)
theorem dX3_answers_44 : decode cX3_answers 44 = .ok (.getfield 7, 3) := dk_180 0 7 (dk_at dksX3_answers_1 20 rfl rfl)
theorem dX3_answers_47 : decode cX3_answers 47 = .ok (.iconst 5, 1) := dk_8 (dk_at dksX3_answers_1 23 rfl rfl)
theorem dX3_answers_48 : decode cX3_answers 48 = .ok (.dup2, 1) := dk_92 (dk_at dksX3_answers_2 0 rfl rfl)
theorem dX3_answers_49 : decode cX3_answers 49 = .ok (.iaload, 1) := dk_46 (dk_at dksX3_answers_2 1 rfl rfl)
theorem dX3_answers_50 : decode cX3_answers 50 = .ok (.iconst 1, 1) := dk_4 (dk_at dksX3_answers_2 2 rfl rfl)
theorem dX3_answers_51 : decode cX3_answers 51 = .ok (.iadd, 1) := dk_96 (dk_at dksX3_answers_2 3 rfl rfl)
theorem dX3_answers_52 : decode cX3_answers 52 = .ok (.iastore, 1) := dk_79 (dk_at dksX3_answers_2 4 rfl rfl)
theorem dX3_answers_53 : decode cX3_answers 53 = .ok (.aload_n 0, 1) := dk_42 (dk_at dksX3_answers_2 5 rfl rfl)
theorem dX3_answers_54 : decode cX3_answers 54 = .ok (.getfield 7, 3) := dk_180 0 7 (dk_at dksX3_answers_2 6 rfl rfl)
theorem dX3_answers_57 : decode cX3_answers 57 = .ok (.sipush 211, 3) := dk_17 0 211 (dk_at dksX3_answers_2 9 rfl rfl)
theorem dX3_answers_60 : decode cX3_answers 60 = .ok (.iload_n 2, 1) := dk_28 (dk_at dksX3_answers_2 12 rfl rfl)
theorem dX3_answers_61 : decode cX3_answers 61 = .ok (.iadd, 1) := dk_96 (dk_at dksX3_answers_2 13 rfl rfl)
theorem dX3_answers_62 : decode cX3_answers 62 = .ok (.dup2, 1) := dk_92 (dk_at dksX3_answers_2 14 rfl rfl)
theorem dX3_answers_63 : decode cX3_answers 63 = .ok (.iaload, 1) := dk_46 (dk_at dksX3_answers_2 15 rfl rfl)
theorem dX3_answers_64 : decode cX3_answers 64 = .ok (.iconst 1, 1) := dk_4 (dk_at dksX3_answers_2 16 rfl rfl)
theorem dX3_answers_65 : decode cX3_answers 65 = .ok (.iload_n 1, 1) := dk_27 (dk_at dksX3_answers_2 17 rfl rfl)
theorem dX3_answers_66 : decode cX3_answers 66 = .ok (.ishl, 1) := dk_120 (dk_at dksX3_answers_2 18 rfl rfl)
theorem dX3_answers_67 : decode cX3_answers 67 = .ok (.ior, 1) := dk_128 (dk_at dksX3_answers_2 19 rfl rfl)
theorem dX3_answers_68 : decode cX3_answers 68 = .ok (.iastore, 1) := dk_79 (dk_at dksX3_answers_2 20 rfl rfl)
theorem dX3_answers_69 : decode cX3_answers 69 = .ok (.sipush 210, 3) := dk_17 0 210 (dk_at dksX3_answers_2 21 rfl rfl)
theorem dX3_answers_72 : decode cX3_answers 72 = .ok (.istore 4, 2) := dk_54 4 (dk_at dksX3_answers_3 0 rfl rfl)
theorem dX3_answers_74 : decode cX3_answers 74 = .ok (.iload 4, 2) := dk_21 4 (dk_at dksX3_answers_3 2 rfl rfl)
theorem dX3_answers_76 : decode cX3_answers 76 = .ok (.sipush 135, 3) := dk_17 0 135 (dk_at dksX3_answers_3 4 rfl rfl)
theorem dX3_answers_79 : decode cX3_answers 79 = .ok (.if_icmp .lt 25, 3) := dk_161 0 25 (dk_at dksX3_answers_3 7 rfl rfl)
theorem dX3_answers_82 : decode cX3_answers 82 = .ok (.aload_n 0, 1) := dk_42 (dk_at dksX3_answers_3 10 rfl rfl)
theorem dX3_answers_83 : decode cX3_answers 83 = .ok (.getfield 7, 3) := dk_180 0 7 (dk_at dksX3_answers_3 11 rfl rfl)
theorem dX3_answers_86 : decode cX3_answers 86 = .ok (.iload 4, 2) := dk_21 4 (dk_at dksX3_answers_3 14 rfl rfl)
theorem dX3_answers_88 : decode cX3_answers 88 = .ok (.aload_n 0, 1) := dk_42 (dk_at dksX3_answers_3 16 rfl rfl)
theorem dX3_answers_89 : decode cX3_answers 89 = .ok (.getfield 7, 3) := dk_180 0 7 (dk_at dksX3_answers_3 17 rfl rfl)
theorem dX3_answers_92 : decode cX3_answers 92 = .ok (.iload 4, 2) := dk_21 4 (dk_at dksX3_answers_3 20 rfl rfl)
theorem dX3_answers_94 : decode cX3_answers 94 = .ok (.iconst 4, 1) := dk_7 (dk_at dksX3_answers_3 22 rfl rfl)
theorem dX3_answers_95 : decode cX3_answers 95 = .ok (.isub, 1) := dk_100 (dk_at dksX3_answers_3 23 rfl rfl)
theorem dX3_answers_96 : decode cX3_answers 96 = .ok (.iaload, 1) := dk_46 (dk_at dksX3_answers_4 0 rfl rfl)
theorem dX3_answers_97 : decode cX3_answers 97 = .ok (.iastore, 1) := dk_79 (dk_at dksX3_answers_4 1 rfl rfl)
theorem dX3_answers_98 : decode cX3_answers 98 = .ok (.iinc 4 (-1), 3) := dk_132 4 255 (dk_at dksX3_answers_4 2 rfl rfl)
theorem dX3_answers_101 : decode cX3_answers 101 = .ok (.goto (-27), 3) := dk_167 255 229 (dk_at dksX3_answers_4 5 rfl rfl)
theorem dX3_answers_104 : decode cX3_answers 104 = .ok (.aload_n 0, 1) := dk_42 (dk_at dksX3_answers_4 8 rfl rfl)
theorem dX3_answers_105 : decode cX3_answers 105 = .ok (.getfield 7, 3) := dk_180 0 7 (dk_at dksX3_answers_4 9 rfl rfl)
theorem dX3_answers_108 : decode cX3_answers 108 = .ok (.sipush 131, 3) := dk_17 0 131 (dk_at dksX3_answers_4 12 rfl rfl)
theorem dX3_answers_111 : decode cX3_answers 111 = .ok (.iload_n 1, 1) := dk_27 (dk_at dksX3_answers_4 15 rfl rfl)
theorem dX3_answers_112 : decode cX3_answers 112 = .ok (.iastore, 1) := dk_79 (dk_at dksX3_answers_4 16 rfl rfl)
theorem dX3_answers_113 : decode cX3_answers 113 = .ok (.aload_n 0, 1) := dk_42 (dk_at dksX3_answers_4 17 rfl rfl)
theorem dX3_answers_114 : decode cX3_answers 114 = .ok (.getfield 7, 3) := dk_180 0 7 (dk_at dksX3_answers_4 18 rfl rfl)
theorem dX3_answers_117 : decode cX3_answers 117 = .ok (.sipush 132, 3) := dk_17 0 132 (dk_at dksX3_answers_4 21 rfl rfl)
theorem dX3_answers_120 : decode cX3_answers 120 = .ok (.iload_n 2, 1) := dk_28 (dk_at dksX3_answers_5 0 rfl rfl)
theorem dX3_answers_121 : decode cX3_answers 121 = .ok (.iastore, 1) := dk_79 (dk_at dksX3_answers_5 1 rfl rfl)
theorem dX3_answers_122 : decode cX3_answers 122 = .ok (.aload_n 0, 1) := dk_42 (dk_at dksX3_answers_5 2 rfl rfl)
theorem dX3_answers_123 : decode cX3_answers 123 = .ok (.getfield 7, 3) := dk_180 0 7 (dk_at dksX3_answers_5 3 rfl rfl)
theorem dX3_answers_126 : decode cX3_answers 126 = .ok (.sipush 133, 3) := dk_17 0 133 (dk_at dksX3_answers_5 6 rfl rfl)
theorem dX3_answers_129 : decode cX3_answers 129 = .ok (.aload_n 0, 1) := dk_42 (dk_at dksX3_answers_5 9 rfl rfl)
theorem dX3_answers_130 : decode cX3_answers 130 = .ok (.getfield 7, 3) := dk_180 0 7 (dk_at dksX3_answers_5 10 rfl rfl)
theorem dX3_answers_133 : decode cX3_answers 133 = .ok (.iconst 3, 1) := dk_6 (dk_at dksX3_answers_5 13 rfl rfl)
theorem dX3_answers_134 : decode cX3_answers 134 = .ok (.iaload, 1) := dk_46 (dk_at dksX3_answers_5 14 rfl rfl)
theorem dX3_answers_135 : decode cX3_answers 135 = .ok (.iastore, 1) := dk_79 (dk_at dksX3_answers_5 15 rfl rfl)
theorem dX3_answers_136 : decode cX3_answers 136 = .ok (.aload_n 0, 1) := dk_42 (dk_at dksX3_answers_5 16 rfl rfl)
theorem dX3_answers_137 : decode cX3_answers 137 = .ok (.getfield 7, 3) := dk_180 0 7 (dk_at dksX3_answers_5 17 rfl rfl)
theorem dX3_answers_140 : decode cX3_answers 140 = .ok (.sipush 134, 3) := dk_17 0 134 (dk_at dksX3_answers_5 20 rfl rfl)
theorem dX3_answers_143 : decode cX3_answers 143 = .ok (.iload_n 3, 1) := dk_29 (dk_at dksX3_answers_5 23 rfl rfl)
theorem dX3_answers_144 : decode cX3_answers 144 = .ok (.iastore, 1) := dk_79 (dk_at dksX3_answers_6 0 rfl rfl)
theorem dX3_answers_145 : decode cX3_answers 145 = .ok (.aload_n 0, 1) := dk_42 (dk_at dksX3_answers_6 1 rfl rfl)
theorem dX3_answers_146 : decode cX3_answers 146 = .ok (.getfield 7, 3) := dk_180 0 7 (dk_at dksX3_answers_6 2 rfl rfl)
theorem dX3_answers_149 : decode cX3_answers 149 = .ok (.bipush 9, 2) := dk_16 9 (dk_at dksX3_answers_6 5 rfl rfl)
theorem dX3_answers_151 : decode cX3_answers 151 = .ok (.aload_n 0, 1) := dk_42 (dk_at dksX3_answers_6 7 rfl rfl)
theorem dX3_answers_152 : decode cX3_answers 152 = .ok (.getfield 7, 3) := dk_180 0 7 (dk_at dksX3_answers_6 8 rfl rfl)
theorem dX3_answers_155 : decode cX3_answers 155 = .ok (.bipush 9, 2) := dk_16 9 (dk_at dksX3_answers_6 11 rfl rfl)
theorem dX3_answers_157 : decode cX3_answers 157 = .ok (.iaload, 1) := dk_46 (dk_at dksX3_answers_6 13 rfl rfl)
theorem dX3_answers_158 : decode cX3_answers 158 = .ok (.bipush 20, 2) := dk_16 20 (dk_at dksX3_answers_6 14 rfl rfl)
theorem dX3_answers_160 : decode cX3_answers 160 = .ok (.if_icmp .ge 15, 3) := dk_162 0 15 (dk_at dksX3_answers_6 16 rfl rfl)
theorem dX3_answers_163 : decode cX3_answers 163 = .ok (.aload_n 0, 1) := dk_42 (dk_at dksX3_answers_6 19 rfl rfl)
theorem dX3_answers_164 : decode cX3_answers 164 = .ok (.getfield 7, 3) := dk_180 0 7 (dk_at dksX3_answers_6 20 rfl rfl)
theorem dX3_answers_167 : decode cX3_answers 167 = .ok (.bipush 9, 2) := dk_16 9 (dk_at dksX3_answers_7 0 rfl rfl)
theorem dX3_answers_169 : decode cX3_answers 169 = .ok (.iaload, 1) := dk_46 (dk_at dksX3_answers_7 2 rfl rfl)
theorem dX3_answers_170 : decode cX3_answers 170 = .ok (.iconst 1, 1) := dk_4 (dk_at dksX3_answers_7 3 rfl rfl)
theorem dX3_answers_171 : decode cX3_answers 171 = .ok (.iadd, 1) := dk_96 (dk_at dksX3_answers_7 4 rfl rfl)
theorem dX3_answers_172 : decode cX3_answers 172 = .ok (.goto 5, 3) := dk_167 0 5 (dk_at dksX3_answers_7 5 rfl rfl)
theorem dX3_answers_175 : decode cX3_answers 175 = .ok (.bipush 20, 2) := dk_16 20 (dk_at dksX3_answers_7 8 rfl rfl)
theorem dX3_answers_177 : decode cX3_answers 177 = .ok (.iastore, 1) := dk_79 (dk_at dksX3_answers_7 10 rfl rfl)
theorem dX3_answers_178 : decode cX3_answers 178 = .ok (.return_, 1) := dk_177 (dk_at dksX3_answers_7 11 rfl rfl)
def dkwX3_hour_0 : List UInt8 := [42, 182, 0, 67, 42, 42, 182, 0, 127, 182, 0, 73, 172]
abbrev dktX3_hour_0 : List UInt8 := dkwX3_hour_0 ++ []
theorem dksX3_hour_0 : cX3_hour.data.toList.drop 0 = dktX3_hour_0 := by decide +kernel
theorem dX3_hour_0 : decode cX3_hour 0 = .ok (.aload_n 0, 1) := dk_42 (dk_at dksX3_hour_0 0 rfl rfl)
theorem dX3_hour_1 : decode cX3_hour 1 = .ok (.invokevirtual 67, 3) := dk_182 0 67 (dk_at dksX3_hour_0 1 rfl rfl)
theorem dX3_hour_4 : decode cX3_hour 4 = .ok (.aload_n 0, 1) := dk_42 (dk_at dksX3_hour_0 4 rfl rfl)
theorem dX3_hour_5 : decode cX3_hour 5 = .ok (.aload_n 0, 1) := dk_42 (dk_at dksX3_hour_0 5 rfl rfl)
theorem dX3_hour_6 : decode cX3_hour 6 = .ok (.invokevirtual 127, 3) := dk_182 0 127 (dk_at dksX3_hour_0 6 rfl rfl)
theorem dX3_hour_9 : decode cX3_hour 9 = .ok (.invokevirtual 73, 3) := dk_182 0 73 (dk_at dksX3_hour_0 9 rfl rfl)
theorem dX3_hour_12 : decode cX3_hour 12 = .ok (.ireturn, 1) := dk_172 (dk_at dksX3_hour_0 12 rfl rfl)
def dkwX3_hours_2 : List UInt8 := [160, 0, 22, 28, 42, 182, 0, 120, 4, 160, 0, 7, 4, 167, 0, 4, 3, 96, 61, 167, 255, 221, 28, 172]
abbrev dktX3_hours_2 : List UInt8 := dkwX3_hours_2 ++ []
def dkwX3_hours_1 : List UInt8 := [4, 182, 0, 91, 60, 3, 61, 42, 180, 0, 7, 4, 46, 158, 0, 32, 42, 3, 4, 182, 0, 91, 27]
abbrev dktX3_hours_1 : List UInt8 := dkwX3_hours_1 ++ dktX3_hours_2
def dkwX3_hours_0 : List UInt8 := [42, 180, 0, 7, 4, 46, 154, 0, 16, 42, 6, 42, 180, 0, 7, 16, 10, 46, 182, 0, 60, 172, 42, 3]
abbrev dktX3_hours_0 : List UInt8 := dkwX3_hours_0 ++ dktX3_hours_1
theorem dksX3_hours_0 : cX3_hours.data.toList.drop 0 = dktX3_hours_0 := by decide +kernel
theorem dksX3_hours_1 : cX3_hours.data.toList.drop 24 = dktX3_hours_1 := dk_seg dksX3_hours_0 24 rfl rfl
theorem dksX3_hours_2 : cX3_hours.data.toList.drop 47 = dktX3_hours_2 := dk_seg dksX3_hours_1 23 rfl rfl
theorem dX3_hours_0 : decode cX3_hours 0 = .ok (.aload_n 0, 1) := dk_42 (dk_at dksX3_hours_0 0 rfl rfl)
theorem dX3_hours_1 : decode cX3_hours 1 = .ok (.getfield 7, 3) := dk_180 0 7 (dk_at dksX3_hours_0 1 rfl rfl)
theorem dX3_hours_4 : decode cX3_hours 4 = .ok (.iconst 1, 1) := dk_4 (dk_at dksX3_hours_0 4 rfl rfl)
theorem dX3_hours_5 : decode cX3_hours 5 = .ok (.iaload, 1) := dk_46 (dk_at dksX3_hours_0 5 rfl rfl)
theorem dX3_hours_6 : decode cX3_hours 6 = .ok (.ifCond .ne 16, 3) := dk_154 0 16 (dk_at dksX3_hours_0 6 rfl rfl)
theorem dX3_hours_9 : decode cX3_hours 9 = .ok (.aload_n 0, 1) := dk_42 (dk_at dksX3_hours_0 9 rfl rfl)
theorem dX3_hours_10 : decode cX3_hours 10 = .ok (.iconst 3, 1) := dk_6 (dk_at dksX3_hours_0 10 rfl rfl)
theorem dX3_hours_11 : decode cX3_hours 11 = .ok (.aload_n 0, 1) := dk_42 (dk_at dksX3_hours_0 11 rfl rfl)
theorem dX3_hours_12 : decode cX3_hours 12 = .ok (.getfield 7, 3) := dk_180 0 7 (dk_at dksX3_hours_0 12 rfl rfl)
theorem dX3_hours_15 : decode cX3_hours 15 = .ok (.bipush 10, 2) := dk_16 10 (dk_at dksX3_hours_0 15 rfl rfl)
theorem dX3_hours_17 : decode cX3_hours 17 = .ok (.iaload, 1) := dk_46 (dk_at dksX3_hours_0 17 rfl rfl)
theorem dX3_hours_18 : decode cX3_hours 18 = .ok (.invokevirtual 60, 3) := dk_182 0 60 (dk_at dksX3_hours_0 18 rfl rfl)
theorem dX3_hours_21 : decode cX3_hours 21 = .ok (.ireturn, 1) := dk_172 (dk_at dksX3_hours_0 21 rfl rfl)
theorem dX3_hours_22 : decode cX3_hours 22 = .ok (.aload_n 0, 1) := dk_42 (dk_at dksX3_hours_0 22 rfl rfl)
theorem dX3_hours_23 : decode cX3_hours 23 = .ok (.iconst 0, 1) := dk_3 (dk_at dksX3_hours_0 23 rfl rfl)
theorem dX3_hours_24 : decode cX3_hours 24 = .ok (.iconst 1, 1) := dk_4 (dk_at dksX3_hours_1 0 rfl rfl)
theorem dX3_hours_25 : decode cX3_hours 25 = .ok (.invokevirtual 91, 3) := dk_182 0 91 (dk_at dksX3_hours_1 1 rfl rfl)
theorem dX3_hours_28 : decode cX3_hours 28 = .ok (.istore_n 1, 1) := dk_60 (dk_at dksX3_hours_1 4 rfl rfl)
theorem dX3_hours_29 : decode cX3_hours 29 = .ok (.iconst 0, 1) := dk_3 (dk_at dksX3_hours_1 5 rfl rfl)
theorem dX3_hours_30 : decode cX3_hours 30 = .ok (.istore_n 2, 1) := dk_61 (dk_at dksX3_hours_1 6 rfl rfl)
theorem dX3_hours_31 : decode cX3_hours 31 = .ok (.aload_n 0, 1) := dk_42 (dk_at dksX3_hours_1 7 rfl rfl)
theorem dX3_hours_32 : decode cX3_hours 32 = .ok (.getfield 7, 3) := dk_180 0 7 (dk_at dksX3_hours_1 8 rfl rfl)
theorem dX3_hours_35 : decode cX3_hours 35 = .ok (.iconst 1, 1) := dk_4 (dk_at dksX3_hours_1 11 rfl rfl)
theorem dX3_hours_36 : decode cX3_hours 36 = .ok (.iaload, 1) := dk_46 (dk_at dksX3_hours_1 12 rfl rfl)
theorem dX3_hours_37 : decode cX3_hours 37 = .ok (.ifCond .le 32, 3) := dk_158 0 32 (dk_at dksX3_hours_1 13 rfl rfl)
theorem dX3_hours_40 : decode cX3_hours 40 = .ok (.aload_n 0, 1) := dk_42 (dk_at dksX3_hours_1 16 rfl rfl)
theorem dX3_hours_41 : decode cX3_hours 41 = .ok (.iconst 0, 1) := dk_3 (dk_at dksX3_hours_1 17 rfl rfl)
theorem dX3_hours_42 : decode cX3_hours 42 = .ok (.iconst 1, 1) := dk_4 (dk_at dksX3_hours_1 18 rfl rfl)
theorem dX3_hours_43 : decode cX3_hours 43 = .ok (.invokevirtual 91, 3) := dk_182 0 91 (dk_at dksX3_hours_1 19 rfl rfl)
theorem dX3_hours_46 : decode cX3_hours 46 = .ok (.iload_n 1, 1) := dk_27 (dk_at dksX3_hours_1 22 rfl rfl)
theorem dX3_hours_47 : decode cX3_hours 47 = .ok (.if_icmp .ne 22, 3) := dk_160 0 22 (dk_at dksX3_hours_2 0 rfl rfl)
theorem dX3_hours_50 : decode cX3_hours 50 = .ok (.iload_n 2, 1) := dk_28 (dk_at dksX3_hours_2 3 rfl rfl)
theorem dX3_hours_51 : decode cX3_hours 51 = .ok (.aload_n 0, 1) := dk_42 (dk_at dksX3_hours_2 4 rfl rfl)
theorem dX3_hours_52 : decode cX3_hours 52 = .ok (.invokevirtual 120, 3) := dk_182 0 120 (dk_at dksX3_hours_2 5 rfl rfl)
theorem dX3_hours_55 : decode cX3_hours 55 = .ok (.iconst 1, 1) := dk_4 (dk_at dksX3_hours_2 8 rfl rfl)
theorem dX3_hours_56 : decode cX3_hours 56 = .ok (.if_icmp .ne 7, 3) := dk_160 0 7 (dk_at dksX3_hours_2 9 rfl rfl)
theorem dX3_hours_59 : decode cX3_hours 59 = .ok (.iconst 1, 1) := dk_4 (dk_at dksX3_hours_2 12 rfl rfl)
theorem dX3_hours_60 : decode cX3_hours 60 = .ok (.goto 4, 3) := dk_167 0 4 (dk_at dksX3_hours_2 13 rfl rfl)
theorem dX3_hours_63 : decode cX3_hours 63 = .ok (.iconst 0, 1) := dk_3 (dk_at dksX3_hours_2 16 rfl rfl)
theorem dX3_hours_64 : decode cX3_hours 64 = .ok (.iadd, 1) := dk_96 (dk_at dksX3_hours_2 17 rfl rfl)
theorem dX3_hours_65 : decode cX3_hours 65 = .ok (.istore_n 2, 1) := dk_61 (dk_at dksX3_hours_2 18 rfl rfl)
theorem dX3_hours_66 : decode cX3_hours 66 = .ok (.goto (-35), 3) := dk_167 255 221 (dk_at dksX3_hours_2 19 rfl rfl)
theorem dX3_hours_69 : decode cX3_hours 69 = .ok (.iload_n 2, 1) := dk_28 (dk_at dksX3_hours_2 22 rfl rfl)
theorem dX3_hours_70 : decode cX3_hours 70 = .ok (.ireturn, 1) := dk_172 (dk_at dksX3_hours_2 23 rfl rfl)
def dkwX3_end_0 : List UInt8 := [42, 182, 0, 67, 42, 42, 182, 0, 130, 182, 0, 73, 172]
abbrev dktX3_end_0 : List UInt8 := dkwX3_end_0 ++ []
theorem dksX3_end_0 : cX3_end.data.toList.drop 0 = dktX3_end_0 := by decide +kernel
theorem dX3_end_0 : decode cX3_end 0 = .ok (.aload_n 0, 1) := dk_42 (dk_at dksX3_end_0 0 rfl rfl)
theorem dX3_end_1 : decode cX3_end 1 = .ok (.invokevirtual 67, 3) := dk_182 0 67 (dk_at dksX3_end_0 1 rfl rfl)
theorem dX3_end_4 : decode cX3_end 4 = .ok (.aload_n 0, 1) := dk_42 (dk_at dksX3_end_0 4 rfl rfl)
theorem dX3_end_5 : decode cX3_end 5 = .ok (.aload_n 0, 1) := dk_42 (dk_at dksX3_end_0 5 rfl rfl)
theorem dX3_end_6 : decode cX3_end 6 = .ok (.invokevirtual 130, 3) := dk_182 0 130 (dk_at dksX3_end_0 6 rfl rfl)
theorem dX3_end_9 : decode cX3_end 9 = .ok (.invokevirtual 73, 3) := dk_182 0 73 (dk_at dksX3_end_0 9 rfl rfl)
theorem dX3_end_12 : decode cX3_end 12 = .ok (.ireturn, 1) := dk_172 (dk_at dksX3_end_0 12 rfl rfl)
def dkwX3_endsDay_8 : List UInt8 := [180, 0, 7, 6, 92, 46, 4, 96, 79, 27, 172]
abbrev dktX3_endsDay_8 : List UInt8 := dkwX3_endsDay_8 ++ []
def dkwX3_endsDay_7 : List UInt8 := [184, 0, 64, 92, 46, 4, 100, 79, 132, 3, 1, 167, 255, 208, 42, 180, 0, 7, 5, 3, 79, 42]
abbrev dktX3_endsDay_7 : List UInt8 := dkwX3_endsDay_7 ++ dktX3_endsDay_8
def dkwX3_endsDay_6 : List UInt8 := [154, 0, 30, 42, 180, 0, 7, 29, 5, 184, 0, 64, 46, 158, 0, 17, 42, 180, 0, 7, 29, 5]
abbrev dktX3_endsDay_6 : List UInt8 := dkwX3_endsDay_6 ++ dktX3_endsDay_7
def dkwX3_endsDay_5 : List UInt8 := [132, 3, 1, 167, 255, 223, 3, 62, 29, 42, 180, 0, 7, 3, 46, 162, 0, 44, 28, 29, 122, 4, 126]
abbrev dktX3_endsDay_5 : List UInt8 := dkwX3_endsDay_5 ++ dktX3_endsDay_6
def dkwX3_endsDay_4 : List UInt8 := [180, 0, 7, 17, 0, 211, 29, 96, 46, 128, 61, 42, 180, 0, 7, 17, 0, 211, 29, 96, 3, 79]
abbrev dktX3_endsDay_4 : List UInt8 := dkwX3_endsDay_4 ++ dktX3_endsDay_5
def dkwX3_endsDay_3 : List UInt8 := [3, 79, 42, 180, 0, 7, 16, 6, 92, 46, 27, 96, 79, 3, 62, 29, 16, 24, 162, 0, 33, 28, 42]
abbrev dktX3_endsDay_3 : List UInt8 := dkwX3_endsDay_3 ++ dktX3_endsDay_4
def dkwX3_endsDay_2 : List UInt8 := [17, 0, 131, 162, 0, 16, 42, 180, 0, 7, 29, 3, 79, 132, 3, 1, 167, 255, 239, 42, 180, 0, 7, 4]
abbrev dktX3_endsDay_2 : List UInt8 := dkwX3_endsDay_2 ++ dktX3_endsDay_3
def dkwX3_endsDay_1 : List UInt8 := [182, 0, 91, 7, 184, 0, 64, 92, 46, 4, 96, 79, 132, 3, 1, 167, 255, 229, 16, 83, 62, 29]
abbrev dktX3_endsDay_1 : List UInt8 := dkwX3_endsDay_1 ++ dktX3_endsDay_2
def dkwX3_endsDay_0 : List UInt8 := [42, 180, 0, 7, 4, 46, 60, 3, 61, 3, 62, 29, 27, 162, 0, 28, 42, 180, 0, 7, 42, 29, 3]
abbrev dktX3_endsDay_0 : List UInt8 := dkwX3_endsDay_0 ++ dktX3_endsDay_1
theorem dksX3_endsDay_0 : cX3_endsDay.data.toList.drop 0 = dktX3_endsDay_0 := by decide +kernel
theorem dksX3_endsDay_1 : cX3_endsDay.data.toList.drop 23 = dktX3_endsDay_1 := dk_seg dksX3_endsDay_0 23 rfl rfl
theorem dksX3_endsDay_2 : cX3_endsDay.data.toList.drop 45 = dktX3_endsDay_2 := dk_seg dksX3_endsDay_1 22 rfl rfl
theorem dksX3_endsDay_3 : cX3_endsDay.data.toList.drop 69 = dktX3_endsDay_3 := dk_seg dksX3_endsDay_2 24 rfl rfl
theorem dksX3_endsDay_4 : cX3_endsDay.data.toList.drop 92 = dktX3_endsDay_4 := dk_seg dksX3_endsDay_3 23 rfl rfl
theorem dksX3_endsDay_5 : cX3_endsDay.data.toList.drop 114 = dktX3_endsDay_5 := dk_seg dksX3_endsDay_4 22 rfl rfl
theorem dksX3_endsDay_6 : cX3_endsDay.data.toList.drop 137 = dktX3_endsDay_6 := dk_seg dksX3_endsDay_5 23 rfl rfl
theorem dksX3_endsDay_7 : cX3_endsDay.data.toList.drop 159 = dktX3_endsDay_7 := dk_seg dksX3_endsDay_6 22 rfl rfl
theorem dksX3_endsDay_8 : cX3_endsDay.data.toList.drop 181 = dktX3_endsDay_8 := dk_seg dksX3_endsDay_7 22 rfl rfl
theorem dX3_endsDay_0 : decode cX3_endsDay 0 = .ok (.aload_n 0, 1) := dk_42 (dk_at dksX3_endsDay_0 0 rfl rfl)
theorem dX3_endsDay_1 : decode cX3_endsDay 1 = .ok (.getfield 7, 3) := dk_180 0 7 (dk_at dksX3_endsDay_0 1 rfl rfl)
theorem dX3_endsDay_4 : decode cX3_endsDay 4 = .ok (.iconst 1, 1) := dk_4 (dk_at dksX3_endsDay_0 4 rfl rfl)
theorem dX3_endsDay_5 : decode cX3_endsDay 5 = .ok (.iaload, 1) := dk_46 (dk_at dksX3_endsDay_0 5 rfl rfl)
theorem dX3_endsDay_6 : decode cX3_endsDay 6 = .ok (.istore_n 1, 1) := dk_60 (dk_at dksX3_endsDay_0 6 rfl rfl)
theorem dX3_endsDay_7 : decode cX3_endsDay 7 = .ok (.iconst 0, 1) := dk_3 (dk_at dksX3_endsDay_0 7 rfl rfl)
theorem dX3_endsDay_8 : decode cX3_endsDay 8 = .ok (.istore_n 2, 1) := dk_61 (dk_at dksX3_endsDay_0 8 rfl rfl)
theorem dX3_endsDay_9 : decode cX3_endsDay 9 = .ok (.iconst 0, 1) := dk_3 (dk_at dksX3_endsDay_0 9 rfl rfl)
theorem dX3_endsDay_10 : decode cX3_endsDay 10 = .ok (.istore_n 3, 1) := dk_62 (dk_at dksX3_endsDay_0 10 rfl rfl)
theorem dX3_endsDay_11 : decode cX3_endsDay 11 = .ok (.iload_n 3, 1) := dk_29 (dk_at dksX3_endsDay_0 11 rfl rfl)
theorem dX3_endsDay_12 : decode cX3_endsDay 12 = .ok (.iload_n 1, 1) := dk_27 (dk_at dksX3_endsDay_0 12 rfl rfl)
theorem dX3_endsDay_13 : decode cX3_endsDay 13 = .ok (.if_icmp .ge 28, 3) := dk_162 0 28 (dk_at dksX3_endsDay_0 13 rfl rfl)
theorem dX3_endsDay_16 : decode cX3_endsDay 16 = .ok (.aload_n 0, 1) := dk_42 (dk_at dksX3_endsDay_0 16 rfl rfl)
theorem dX3_endsDay_17 : decode cX3_endsDay 17 = .ok (.getfield 7, 3) := dk_180 0 7 (dk_at dksX3_endsDay_0 17 rfl rfl)
theorem dX3_endsDay_20 : decode cX3_endsDay 20 = .ok (.aload_n 0, 1) := dk_42 (dk_at dksX3_endsDay_0 20 rfl rfl)
theorem dX3_endsDay_21 : decode cX3_endsDay 21 = .ok (.iload_n 3, 1) := dk_29 (dk_at dksX3_endsDay_0 21 rfl rfl)
theorem dX3_endsDay_22 : decode cX3_endsDay 22 = .ok (.iconst 0, 1) := dk_3 (dk_at dksX3_endsDay_0 22 rfl rfl)
theorem dX3_endsDay_23 : decode cX3_endsDay 23 = .ok (.invokevirtual 91, 3) := dk_182 0 91 (dk_at dksX3_endsDay_1 0 rfl rfl)
theorem dX3_endsDay_26 : decode cX3_endsDay 26 = .ok (.iconst 4, 1) := dk_7 (dk_at dksX3_endsDay_1 3 rfl rfl)
theorem dX3_endsDay_27 : decode cX3_endsDay 27 = .ok (.invokestatic 64, 3) := dk_184 0 64 (dk_at dksX3_endsDay_1 4 rfl rfl)
theorem dX3_endsDay_30 : decode cX3_endsDay 30 = .ok (.dup2, 1) := dk_92 (dk_at dksX3_endsDay_1 7 rfl rfl)
theorem dX3_endsDay_31 : decode cX3_endsDay 31 = .ok (.iaload, 1) := dk_46 (dk_at dksX3_endsDay_1 8 rfl rfl)
theorem dX3_endsDay_32 : decode cX3_endsDay 32 = .ok (.iconst 1, 1) := dk_4 (dk_at dksX3_endsDay_1 9 rfl rfl)
theorem dX3_endsDay_33 : decode cX3_endsDay 33 = .ok (.iadd, 1) := dk_96 (dk_at dksX3_endsDay_1 10 rfl rfl)
theorem dX3_endsDay_34 : decode cX3_endsDay 34 = .ok (.iastore, 1) := dk_79 (dk_at dksX3_endsDay_1 11 rfl rfl)
theorem dX3_endsDay_35 : decode cX3_endsDay 35 = .ok (.iinc 3 1, 3) := dk_132 3 1 (dk_at dksX3_endsDay_1 12 rfl rfl)
theorem dX3_endsDay_38 : decode cX3_endsDay 38 = .ok (.goto (-27), 3) := dk_167 255 229 (dk_at dksX3_endsDay_1 15 rfl rfl)
theorem dX3_endsDay_41 : decode cX3_endsDay 41 = .ok (.bipush 83, 2) := dk_16 83 (dk_at dksX3_endsDay_1 18 rfl rfl)
theorem dX3_endsDay_43 : decode cX3_endsDay 43 = .ok (.istore_n 3, 1) := dk_62 (dk_at dksX3_endsDay_1 20 rfl rfl)
theorem dX3_endsDay_44 : decode cX3_endsDay 44 = .ok (.iload_n 3, 1) := dk_29 (dk_at dksX3_endsDay_1 21 rfl rfl)
theorem dX3_endsDay_45 : decode cX3_endsDay 45 = .ok (.sipush 131, 3) := dk_17 0 131 (dk_at dksX3_endsDay_2 0 rfl rfl)
theorem dX3_endsDay_48 : decode cX3_endsDay 48 = .ok (.if_icmp .ge 16, 3) := dk_162 0 16 (dk_at dksX3_endsDay_2 3 rfl rfl)
theorem dX3_endsDay_51 : decode cX3_endsDay 51 = .ok (.aload_n 0, 1) := dk_42 (dk_at dksX3_endsDay_2 6 rfl rfl)
theorem dX3_endsDay_52 : decode cX3_endsDay 52 = .ok (.getfield 7, 3) := dk_180 0 7 (dk_at dksX3_endsDay_2 7 rfl rfl)
theorem dX3_endsDay_55 : decode cX3_endsDay 55 = .ok (.iload_n 3, 1) := dk_29 (dk_at dksX3_endsDay_2 10 rfl rfl)
theorem dX3_endsDay_56 : decode cX3_endsDay 56 = .ok (.iconst 0, 1) := dk_3 (dk_at dksX3_endsDay_2 11 rfl rfl)
theorem dX3_endsDay_57 : decode cX3_endsDay 57 = .ok (.iastore, 1) := dk_79 (dk_at dksX3_endsDay_2 12 rfl rfl)
theorem dX3_endsDay_58 : decode cX3_endsDay 58 = .ok (.iinc 3 1, 3) := dk_132 3 1 (dk_at dksX3_endsDay_2 13 rfl rfl)
theorem dX3_endsDay_61 : decode cX3_endsDay 61 = .ok (.goto (-17), 3) := dk_167 255 239 (dk_at dksX3_endsDay_2 16 rfl rfl)
theorem dX3_endsDay_64 : decode cX3_endsDay 64 = .ok (.aload_n 0, 1) := dk_42 (dk_at dksX3_endsDay_2 19 rfl rfl)
theorem dX3_endsDay_65 : decode cX3_endsDay 65 = .ok (.getfield 7, 3) := dk_180 0 7 (dk_at dksX3_endsDay_2 20 rfl rfl)
theorem dX3_endsDay_68 : decode cX3_endsDay 68 = .ok (.iconst 1, 1) := dk_4 (dk_at dksX3_endsDay_2 23 rfl rfl)
theorem dX3_endsDay_69 : decode cX3_endsDay 69 = .ok (.iconst 0, 1) := dk_3 (dk_at dksX3_endsDay_3 0 rfl rfl)
theorem dX3_endsDay_70 : decode cX3_endsDay 70 = .ok (.iastore, 1) := dk_79 (dk_at dksX3_endsDay_3 1 rfl rfl)
theorem dX3_endsDay_71 : decode cX3_endsDay 71 = .ok (.aload_n 0, 1) := dk_42 (dk_at dksX3_endsDay_3 2 rfl rfl)
theorem dX3_endsDay_72 : decode cX3_endsDay 72 = .ok (.getfield 7, 3) := dk_180 0 7 (dk_at dksX3_endsDay_3 3 rfl rfl)
theorem dX3_endsDay_75 : decode cX3_endsDay 75 = .ok (.bipush 6, 2) := dk_16 6 (dk_at dksX3_endsDay_3 6 rfl rfl)
theorem dX3_endsDay_77 : decode cX3_endsDay 77 = .ok (.dup2, 1) := dk_92 (dk_at dksX3_endsDay_3 8 rfl rfl)
theorem dX3_endsDay_78 : decode cX3_endsDay 78 = .ok (.iaload, 1) := dk_46 (dk_at dksX3_endsDay_3 9 rfl rfl)
theorem dX3_endsDay_79 : decode cX3_endsDay 79 = .ok (.iload_n 1, 1) := dk_27 (dk_at dksX3_endsDay_3 10 rfl rfl)
theorem dX3_endsDay_80 : decode cX3_endsDay 80 = .ok (.iadd, 1) := dk_96 (dk_at dksX3_endsDay_3 11 rfl rfl)
theorem dX3_endsDay_81 : decode cX3_endsDay 81 = .ok (.iastore, 1) := dk_79 (dk_at dksX3_endsDay_3 12 rfl rfl)
theorem dX3_endsDay_82 : decode cX3_endsDay 82 = .ok (.iconst 0, 1) := dk_3 (dk_at dksX3_endsDay_3 13 rfl rfl)
theorem dX3_endsDay_83 : decode cX3_endsDay 83 = .ok (.istore_n 3, 1) := dk_62 (dk_at dksX3_endsDay_3 14 rfl rfl)
theorem dX3_endsDay_84 : decode cX3_endsDay 84 = .ok (.iload_n 3, 1) := dk_29 (dk_at dksX3_endsDay_3 15 rfl rfl)
theorem dX3_endsDay_85 : decode cX3_endsDay 85 = .ok (.bipush 24, 2) := dk_16 24 (dk_at dksX3_endsDay_3 16 rfl rfl)
theorem dX3_endsDay_87 : decode cX3_endsDay 87 = .ok (.if_icmp .ge 33, 3) := dk_162 0 33 (dk_at dksX3_endsDay_3 18 rfl rfl)
theorem dX3_endsDay_90 : decode cX3_endsDay 90 = .ok (.iload_n 2, 1) := dk_28 (dk_at dksX3_endsDay_3 21 rfl rfl)
theorem dX3_endsDay_91 : decode cX3_endsDay 91 = .ok (.aload_n 0, 1) := dk_42 (dk_at dksX3_endsDay_3 22 rfl rfl)
theorem dX3_endsDay_92 : decode cX3_endsDay 92 = .ok (.getfield 7, 3) := dk_180 0 7 (dk_at dksX3_endsDay_4 0 rfl rfl)
theorem dX3_endsDay_95 : decode cX3_endsDay 95 = .ok (.sipush 211, 3) := dk_17 0 211 (dk_at dksX3_endsDay_4 3 rfl rfl)
theorem dX3_endsDay_98 : decode cX3_endsDay 98 = .ok (.iload_n 3, 1) := dk_29 (dk_at dksX3_endsDay_4 6 rfl rfl)
theorem dX3_endsDay_99 : decode cX3_endsDay 99 = .ok (.iadd, 1) := dk_96 (dk_at dksX3_endsDay_4 7 rfl rfl)
theorem dX3_endsDay_100 : decode cX3_endsDay 100 = .ok (.iaload, 1) := dk_46 (dk_at dksX3_endsDay_4 8 rfl rfl)
theorem dX3_endsDay_101 : decode cX3_endsDay 101 = .ok (.ior, 1) := dk_128 (dk_at dksX3_endsDay_4 9 rfl rfl)
theorem dX3_endsDay_102 : decode cX3_endsDay 102 = .ok (.istore_n 2, 1) := dk_61 (dk_at dksX3_endsDay_4 10 rfl rfl)
theorem dX3_endsDay_103 : decode cX3_endsDay 103 = .ok (.aload_n 0, 1) := dk_42 (dk_at dksX3_endsDay_4 11 rfl rfl)
theorem dX3_endsDay_104 : decode cX3_endsDay 104 = .ok (.getfield 7, 3) := dk_180 0 7 (dk_at dksX3_endsDay_4 12 rfl rfl)
theorem dX3_endsDay_107 : decode cX3_endsDay 107 = .ok (.sipush 211, 3) := dk_17 0 211 (dk_at dksX3_endsDay_4 15 rfl rfl)
theorem dX3_endsDay_110 : decode cX3_endsDay 110 = .ok (.iload_n 3, 1) := dk_29 (dk_at dksX3_endsDay_4 18 rfl rfl)
theorem dX3_endsDay_111 : decode cX3_endsDay 111 = .ok (.iadd, 1) := dk_96 (dk_at dksX3_endsDay_4 19 rfl rfl)
theorem dX3_endsDay_112 : decode cX3_endsDay 112 = .ok (.iconst 0, 1) := dk_3 (dk_at dksX3_endsDay_4 20 rfl rfl)
theorem dX3_endsDay_113 : decode cX3_endsDay 113 = .ok (.iastore, 1) := dk_79 (dk_at dksX3_endsDay_4 21 rfl rfl)
theorem dX3_endsDay_114 : decode cX3_endsDay 114 = .ok (.iinc 3 1, 3) := dk_132 3 1 (dk_at dksX3_endsDay_5 0 rfl rfl)
theorem dX3_endsDay_117 : decode cX3_endsDay 117 = .ok (.goto (-33), 3) := dk_167 255 223 (dk_at dksX3_endsDay_5 3 rfl rfl)
theorem dX3_endsDay_120 : decode cX3_endsDay 120 = .ok (.iconst 0, 1) := dk_3 (dk_at dksX3_endsDay_5 6 rfl rfl)
theorem dX3_endsDay_121 : decode cX3_endsDay 121 = .ok (.istore_n 3, 1) := dk_62 (dk_at dksX3_endsDay_5 7 rfl rfl)
theorem dX3_endsDay_122 : decode cX3_endsDay 122 = .ok (.iload_n 3, 1) := dk_29 (dk_at dksX3_endsDay_5 8 rfl rfl)
theorem dX3_endsDay_123 : decode cX3_endsDay 123 = .ok (.aload_n 0, 1) := dk_42 (dk_at dksX3_endsDay_5 9 rfl rfl)
theorem dX3_endsDay_124 : decode cX3_endsDay 124 = .ok (.getfield 7, 3) := dk_180 0 7 (dk_at dksX3_endsDay_5 10 rfl rfl)
theorem dX3_endsDay_127 : decode cX3_endsDay 127 = .ok (.iconst 0, 1) := dk_3 (dk_at dksX3_endsDay_5 13 rfl rfl)
theorem dX3_endsDay_128 : decode cX3_endsDay 128 = .ok (.iaload, 1) := dk_46 (dk_at dksX3_endsDay_5 14 rfl rfl)
theorem dX3_endsDay_129 : decode cX3_endsDay 129 = .ok (.if_icmp .ge 44, 3) := dk_162 0 44 (dk_at dksX3_endsDay_5 15 rfl rfl)
theorem dX3_endsDay_132 : decode cX3_endsDay 132 = .ok (.iload_n 2, 1) := dk_28 (dk_at dksX3_endsDay_5 18 rfl rfl)
theorem dX3_endsDay_133 : decode cX3_endsDay 133 = .ok (.iload_n 3, 1) := dk_29 (dk_at dksX3_endsDay_5 19 rfl rfl)
theorem dX3_endsDay_134 : decode cX3_endsDay 134 = .ok (.ishr, 1) := dk_122 (dk_at dksX3_endsDay_5 20 rfl rfl)
theorem dX3_endsDay_135 : decode cX3_endsDay 135 = .ok (.iconst 1, 1) := dk_4 (dk_at dksX3_endsDay_5 21 rfl rfl)
theorem dX3_endsDay_136 : decode cX3_endsDay 136 = .ok (.iand, 1) := dk_126 (dk_at dksX3_endsDay_5 22 rfl rfl)
theorem dX3_endsDay_137 : decode cX3_endsDay 137 = .ok (.ifCond .ne 30, 3) := dk_154 0 30 (dk_at dksX3_endsDay_6 0 rfl rfl)
theorem dX3_endsDay_140 : decode cX3_endsDay 140 = .ok (.aload_n 0, 1) := dk_42 (dk_at dksX3_endsDay_6 3 rfl rfl)
theorem dX3_endsDay_141 : decode cX3_endsDay 141 = .ok (.getfield 7, 3) := dk_180 0 7 (dk_at dksX3_endsDay_6 4 rfl rfl)
theorem dX3_endsDay_144 : decode cX3_endsDay 144 = .ok (.iload_n 3, 1) := dk_29 (dk_at dksX3_endsDay_6 7 rfl rfl)
theorem dX3_endsDay_145 : decode cX3_endsDay 145 = .ok (.iconst 2, 1) := dk_5 (dk_at dksX3_endsDay_6 8 rfl rfl)
theorem dX3_endsDay_146 : decode cX3_endsDay 146 = .ok (.invokestatic 64, 3) := dk_184 0 64 (dk_at dksX3_endsDay_6 9 rfl rfl)
theorem dX3_endsDay_149 : decode cX3_endsDay 149 = .ok (.iaload, 1) := dk_46 (dk_at dksX3_endsDay_6 12 rfl rfl)
theorem dX3_endsDay_150 : decode cX3_endsDay 150 = .ok (.ifCond .le 17, 3) := dk_158 0 17 (dk_at dksX3_endsDay_6 13 rfl rfl)
theorem dX3_endsDay_153 : decode cX3_endsDay 153 = .ok (.aload_n 0, 1) := dk_42 (dk_at dksX3_endsDay_6 16 rfl rfl)
theorem dX3_endsDay_154 : decode cX3_endsDay 154 = .ok (.getfield 7, 3) := dk_180 0 7 (dk_at dksX3_endsDay_6 17 rfl rfl)
theorem dX3_endsDay_157 : decode cX3_endsDay 157 = .ok (.iload_n 3, 1) := dk_29 (dk_at dksX3_endsDay_6 20 rfl rfl)
theorem dX3_endsDay_158 : decode cX3_endsDay 158 = .ok (.iconst 2, 1) := dk_5 (dk_at dksX3_endsDay_6 21 rfl rfl)
theorem dX3_endsDay_159 : decode cX3_endsDay 159 = .ok (.invokestatic 64, 3) := dk_184 0 64 (dk_at dksX3_endsDay_7 0 rfl rfl)
theorem dX3_endsDay_162 : decode cX3_endsDay 162 = .ok (.dup2, 1) := dk_92 (dk_at dksX3_endsDay_7 3 rfl rfl)
theorem dX3_endsDay_163 : decode cX3_endsDay 163 = .ok (.iaload, 1) := dk_46 (dk_at dksX3_endsDay_7 4 rfl rfl)
theorem dX3_endsDay_164 : decode cX3_endsDay 164 = .ok (.iconst 1, 1) := dk_4 (dk_at dksX3_endsDay_7 5 rfl rfl)
theorem dX3_endsDay_165 : decode cX3_endsDay 165 = .ok (.isub, 1) := dk_100 (dk_at dksX3_endsDay_7 6 rfl rfl)
theorem dX3_endsDay_166 : decode cX3_endsDay 166 = .ok (.iastore, 1) := dk_79 (dk_at dksX3_endsDay_7 7 rfl rfl)
theorem dX3_endsDay_167 : decode cX3_endsDay 167 = .ok (.iinc 3 1, 3) := dk_132 3 1 (dk_at dksX3_endsDay_7 8 rfl rfl)
theorem dX3_endsDay_170 : decode cX3_endsDay 170 = .ok (.goto (-48), 3) := dk_167 255 208 (dk_at dksX3_endsDay_7 11 rfl rfl)
theorem dX3_endsDay_173 : decode cX3_endsDay 173 = .ok (.aload_n 0, 1) := dk_42 (dk_at dksX3_endsDay_7 14 rfl rfl)
theorem dX3_endsDay_174 : decode cX3_endsDay 174 = .ok (.getfield 7, 3) := dk_180 0 7 (dk_at dksX3_endsDay_7 15 rfl rfl)
theorem dX3_endsDay_177 : decode cX3_endsDay 177 = .ok (.iconst 2, 1) := dk_5 (dk_at dksX3_endsDay_7 18 rfl rfl)
theorem dX3_endsDay_178 : decode cX3_endsDay 178 = .ok (.iconst 0, 1) := dk_3 (dk_at dksX3_endsDay_7 19 rfl rfl)
theorem dX3_endsDay_179 : decode cX3_endsDay 179 = .ok (.iastore, 1) := dk_79 (dk_at dksX3_endsDay_7 20 rfl rfl)
theorem dX3_endsDay_180 : decode cX3_endsDay 180 = .ok (.aload_n 0, 1) := dk_42 (dk_at dksX3_endsDay_7 21 rfl rfl)
theorem dX3_endsDay_181 : decode cX3_endsDay 181 = .ok (.getfield 7, 3) := dk_180 0 7 (dk_at dksX3_endsDay_8 0 rfl rfl)
theorem dX3_endsDay_184 : decode cX3_endsDay 184 = .ok (.iconst 3, 1) := dk_6 (dk_at dksX3_endsDay_8 3 rfl rfl)
theorem dX3_endsDay_185 : decode cX3_endsDay 185 = .ok (.dup2, 1) := dk_92 (dk_at dksX3_endsDay_8 4 rfl rfl)
theorem dX3_endsDay_186 : decode cX3_endsDay 186 = .ok (.iaload, 1) := dk_46 (dk_at dksX3_endsDay_8 5 rfl rfl)
theorem dX3_endsDay_187 : decode cX3_endsDay 187 = .ok (.iconst 1, 1) := dk_4 (dk_at dksX3_endsDay_8 6 rfl rfl)
theorem dX3_endsDay_188 : decode cX3_endsDay 188 = .ok (.iadd, 1) := dk_96 (dk_at dksX3_endsDay_8 7 rfl rfl)
theorem dX3_endsDay_189 : decode cX3_endsDay 189 = .ok (.iastore, 1) := dk_79 (dk_at dksX3_endsDay_8 8 rfl rfl)
theorem dX3_endsDay_190 : decode cX3_endsDay 190 = .ok (.iload_n 1, 1) := dk_27 (dk_at dksX3_endsDay_8 9 rfl rfl)
theorem dX3_endsDay_191 : decode cX3_endsDay 191 = .ok (.ireturn, 1) := dk_172 (dk_at dksX3_endsDay_8 10 rfl rfl)
def dkwX3_waiting_1 : List UInt8 := [184, 0, 52, 153, 0, 12, 42, 27, 28, 182, 0, 91, 167, 0, 6, 17, 252, 12, 172]
abbrev dktX3_waiting_1 : List UInt8 := dkwX3_waiting_1 ++ []
def dkwX3_waiting_0 : List UInt8 := [27, 3, 42, 180, 0, 7, 4, 46, 4, 100, 184, 0, 52, 154, 0, 7, 17, 252, 13, 172, 28, 3, 5]
abbrev dktX3_waiting_0 : List UInt8 := dkwX3_waiting_0 ++ dktX3_waiting_1
theorem dksX3_waiting_0 : cX3_waiting.data.toList.drop 0 = dktX3_waiting_0 := by decide +kernel
theorem dksX3_waiting_1 : cX3_waiting.data.toList.drop 23 = dktX3_waiting_1 := dk_seg dksX3_waiting_0 23 rfl rfl
theorem dX3_waiting_0 : decode cX3_waiting 0 = .ok (.iload_n 1, 1) := dk_27 (dk_at dksX3_waiting_0 0 rfl rfl)
theorem dX3_waiting_1 : decode cX3_waiting 1 = .ok (.iconst 0, 1) := dk_3 (dk_at dksX3_waiting_0 1 rfl rfl)
theorem dX3_waiting_2 : decode cX3_waiting 2 = .ok (.aload_n 0, 1) := dk_42 (dk_at dksX3_waiting_0 2 rfl rfl)
theorem dX3_waiting_3 : decode cX3_waiting 3 = .ok (.getfield 7, 3) := dk_180 0 7 (dk_at dksX3_waiting_0 3 rfl rfl)
theorem dX3_waiting_6 : decode cX3_waiting 6 = .ok (.iconst 1, 1) := dk_4 (dk_at dksX3_waiting_0 6 rfl rfl)
theorem dX3_waiting_7 : decode cX3_waiting 7 = .ok (.iaload, 1) := dk_46 (dk_at dksX3_waiting_0 7 rfl rfl)
theorem dX3_waiting_8 : decode cX3_waiting 8 = .ok (.iconst 1, 1) := dk_4 (dk_at dksX3_waiting_0 8 rfl rfl)
theorem dX3_waiting_9 : decode cX3_waiting 9 = .ok (.isub, 1) := dk_100 (dk_at dksX3_waiting_0 9 rfl rfl)
theorem dX3_waiting_10 : decode cX3_waiting 10 = .ok (.invokestatic 52, 3) := dk_184 0 52 (dk_at dksX3_waiting_0 10 rfl rfl)
theorem dX3_waiting_13 : decode cX3_waiting 13 = .ok (.ifCond .ne 7, 3) := dk_154 0 7 (dk_at dksX3_waiting_0 13 rfl rfl)
theorem dX3_waiting_16 : decode cX3_waiting 16 = .ok (.sipush (-1011), 3) := dk_17 252 13 (dk_at dksX3_waiting_0 16 rfl rfl)
theorem dX3_waiting_19 : decode cX3_waiting 19 = .ok (.ireturn, 1) := dk_172 (dk_at dksX3_waiting_0 19 rfl rfl)
theorem dX3_waiting_20 : decode cX3_waiting 20 = .ok (.iload_n 2, 1) := dk_28 (dk_at dksX3_waiting_0 20 rfl rfl)
theorem dX3_waiting_21 : decode cX3_waiting 21 = .ok (.iconst 0, 1) := dk_3 (dk_at dksX3_waiting_0 21 rfl rfl)
theorem dX3_waiting_22 : decode cX3_waiting 22 = .ok (.iconst 2, 1) := dk_5 (dk_at dksX3_waiting_0 22 rfl rfl)
theorem dX3_waiting_23 : decode cX3_waiting 23 = .ok (.invokestatic 52, 3) := dk_184 0 52 (dk_at dksX3_waiting_1 0 rfl rfl)
theorem dX3_waiting_26 : decode cX3_waiting 26 = .ok (.ifCond .eq 12, 3) := dk_153 0 12 (dk_at dksX3_waiting_1 3 rfl rfl)
theorem dX3_waiting_29 : decode cX3_waiting 29 = .ok (.aload_n 0, 1) := dk_42 (dk_at dksX3_waiting_1 6 rfl rfl)
theorem dX3_waiting_30 : decode cX3_waiting 30 = .ok (.iload_n 1, 1) := dk_27 (dk_at dksX3_waiting_1 7 rfl rfl)
theorem dX3_waiting_31 : decode cX3_waiting 31 = .ok (.iload_n 2, 1) := dk_28 (dk_at dksX3_waiting_1 8 rfl rfl)
theorem dX3_waiting_32 : decode cX3_waiting 32 = .ok (.invokevirtual 91, 3) := dk_182 0 91 (dk_at dksX3_waiting_1 9 rfl rfl)
theorem dX3_waiting_35 : decode cX3_waiting 35 = .ok (.goto 6, 3) := dk_167 0 6 (dk_at dksX3_waiting_1 12 rfl rfl)
theorem dX3_waiting_38 : decode cX3_waiting 38 = .ok (.sipush (-1012), 3) := dk_17 252 12 (dk_at dksX3_waiting_1 15 rfl rfl)
theorem dX3_waiting_41 : decode cX3_waiting 41 = .ok (.ireturn, 1) := dk_172 (dk_at dksX3_waiting_1 18 rfl rfl)
def dkwX3_would_1 : List UInt8 := [17, 252, 12, 167, 0, 17, 42, 27, 28, 182, 0, 112, 153, 0, 7, 4, 167, 0, 4, 3, 172]
abbrev dktX3_would_1 : List UInt8 := dkwX3_would_1 ++ []
def dkwX3_would_0 : List UInt8 := [42, 27, 182, 0, 76, 154, 0, 9, 17, 252, 13, 167, 0, 33, 28, 4, 16, 9, 184, 0, 52, 154, 0, 9]
abbrev dktX3_would_0 : List UInt8 := dkwX3_would_0 ++ dktX3_would_1
theorem dksX3_would_0 : cX3_would.data.toList.drop 0 = dktX3_would_0 := by decide +kernel
theorem dksX3_would_1 : cX3_would.data.toList.drop 24 = dktX3_would_1 := dk_seg dksX3_would_0 24 rfl rfl
theorem dX3_would_0 : decode cX3_would 0 = .ok (.aload_n 0, 1) := dk_42 (dk_at dksX3_would_0 0 rfl rfl)
theorem dX3_would_1 : decode cX3_would 1 = .ok (.iload_n 1, 1) := dk_27 (dk_at dksX3_would_0 1 rfl rfl)
theorem dX3_would_2 : decode cX3_would 2 = .ok (.invokevirtual 76, 3) := dk_182 0 76 (dk_at dksX3_would_0 2 rfl rfl)
theorem dX3_would_5 : decode cX3_would 5 = .ok (.ifCond .ne 9, 3) := dk_154 0 9 (dk_at dksX3_would_0 5 rfl rfl)
theorem dX3_would_8 : decode cX3_would 8 = .ok (.sipush (-1011), 3) := dk_17 252 13 (dk_at dksX3_would_0 8 rfl rfl)
theorem dX3_would_11 : decode cX3_would 11 = .ok (.goto 33, 3) := dk_167 0 33 (dk_at dksX3_would_0 11 rfl rfl)
theorem dX3_would_14 : decode cX3_would 14 = .ok (.iload_n 2, 1) := dk_28 (dk_at dksX3_would_0 14 rfl rfl)
theorem dX3_would_15 : decode cX3_would 15 = .ok (.iconst 1, 1) := dk_4 (dk_at dksX3_would_0 15 rfl rfl)
theorem dX3_would_16 : decode cX3_would 16 = .ok (.bipush 9, 2) := dk_16 9 (dk_at dksX3_would_0 16 rfl rfl)
theorem dX3_would_18 : decode cX3_would 18 = .ok (.invokestatic 52, 3) := dk_184 0 52 (dk_at dksX3_would_0 18 rfl rfl)
theorem dX3_would_21 : decode cX3_would 21 = .ok (.ifCond .ne 9, 3) := dk_154 0 9 (dk_at dksX3_would_0 21 rfl rfl)
theorem dX3_would_24 : decode cX3_would 24 = .ok (.sipush (-1012), 3) := dk_17 252 12 (dk_at dksX3_would_1 0 rfl rfl)
theorem dX3_would_27 : decode cX3_would 27 = .ok (.goto 17, 3) := dk_167 0 17 (dk_at dksX3_would_1 3 rfl rfl)
theorem dX3_would_30 : decode cX3_would 30 = .ok (.aload_n 0, 1) := dk_42 (dk_at dksX3_would_1 6 rfl rfl)
theorem dX3_would_31 : decode cX3_would 31 = .ok (.iload_n 1, 1) := dk_27 (dk_at dksX3_would_1 7 rfl rfl)
theorem dX3_would_32 : decode cX3_would 32 = .ok (.iload_n 2, 1) := dk_28 (dk_at dksX3_would_1 8 rfl rfl)
theorem dX3_would_33 : decode cX3_would 33 = .ok (.invokevirtual 112, 3) := dk_182 0 112 (dk_at dksX3_would_1 9 rfl rfl)
theorem dX3_would_36 : decode cX3_would 36 = .ok (.ifCond .eq 7, 3) := dk_153 0 7 (dk_at dksX3_would_1 12 rfl rfl)
theorem dX3_would_39 : decode cX3_would 39 = .ok (.iconst 1, 1) := dk_4 (dk_at dksX3_would_1 15 rfl rfl)
theorem dX3_would_40 : decode cX3_would 40 = .ok (.goto 4, 3) := dk_167 0 4 (dk_at dksX3_would_1 16 rfl rfl)
theorem dX3_would_43 : decode cX3_would 43 = .ok (.iconst 0, 1) := dk_3 (dk_at dksX3_would_1 19 rfl rfl)
theorem dX3_would_44 : decode cX3_would 44 = .ok (.ireturn, 1) := dk_172 (dk_at dksX3_would_1 20 rfl rfl)
def dkwX3_forecast_2 : List UInt8 := [180, 0, 19, 184, 0, 45, 27, 172]
abbrev dktX3_forecast_2 : List UInt8 := dkwX3_forecast_2 ++ []
def dkwX3_forecast_1 : List UInt8 := [182, 0, 120, 4, 160, 0, 7, 4, 167, 0, 4, 3, 96, 60, 167, 255, 231, 42, 180, 0, 7, 42]
abbrev dktX3_forecast_1 : List UInt8 := dkwX3_forecast_1 ++ dktX3_forecast_2
def dkwX3_forecast_0 : List UInt8 := [42, 180, 0, 19, 42, 180, 0, 7, 184, 0, 45, 3, 60, 42, 180, 0, 7, 4, 46, 158, 0, 22, 27, 42]
abbrev dktX3_forecast_0 : List UInt8 := dkwX3_forecast_0 ++ dktX3_forecast_1
theorem dksX3_forecast_0 : cX3_forecast.data.toList.drop 0 = dktX3_forecast_0 := by decide +kernel
theorem dksX3_forecast_1 : cX3_forecast.data.toList.drop 24 = dktX3_forecast_1 := dk_seg dksX3_forecast_0 24 rfl rfl
theorem dksX3_forecast_2 : cX3_forecast.data.toList.drop 46 = dktX3_forecast_2 := dk_seg dksX3_forecast_1 22 rfl rfl
theorem dX3_forecast_0 : decode cX3_forecast 0 = .ok (.aload_n 0, 1) := dk_42 (dk_at dksX3_forecast_0 0 rfl rfl)
theorem dX3_forecast_1 : decode cX3_forecast 1 = .ok (.getfield 19, 3) := dk_180 0 19 (dk_at dksX3_forecast_0 1 rfl rfl)
theorem dX3_forecast_4 : decode cX3_forecast 4 = .ok (.aload_n 0, 1) := dk_42 (dk_at dksX3_forecast_0 4 rfl rfl)
theorem dX3_forecast_5 : decode cX3_forecast 5 = .ok (.getfield 7, 3) := dk_180 0 7 (dk_at dksX3_forecast_0 5 rfl rfl)
theorem dX3_forecast_8 : decode cX3_forecast 8 = .ok (.invokestatic 45, 3) := dk_184 0 45 (dk_at dksX3_forecast_0 8 rfl rfl)
theorem dX3_forecast_11 : decode cX3_forecast 11 = .ok (.iconst 0, 1) := dk_3 (dk_at dksX3_forecast_0 11 rfl rfl)
theorem dX3_forecast_12 : decode cX3_forecast 12 = .ok (.istore_n 1, 1) := dk_60 (dk_at dksX3_forecast_0 12 rfl rfl)
theorem dX3_forecast_13 : decode cX3_forecast 13 = .ok (.aload_n 0, 1) := dk_42 (dk_at dksX3_forecast_0 13 rfl rfl)
theorem dX3_forecast_14 : decode cX3_forecast 14 = .ok (.getfield 7, 3) := dk_180 0 7 (dk_at dksX3_forecast_0 14 rfl rfl)
theorem dX3_forecast_17 : decode cX3_forecast 17 = .ok (.iconst 1, 1) := dk_4 (dk_at dksX3_forecast_0 17 rfl rfl)
theorem dX3_forecast_18 : decode cX3_forecast 18 = .ok (.iaload, 1) := dk_46 (dk_at dksX3_forecast_0 18 rfl rfl)
theorem dX3_forecast_19 : decode cX3_forecast 19 = .ok (.ifCond .le 22, 3) := dk_158 0 22 (dk_at dksX3_forecast_0 19 rfl rfl)
theorem dX3_forecast_22 : decode cX3_forecast 22 = .ok (.iload_n 1, 1) := dk_27 (dk_at dksX3_forecast_0 22 rfl rfl)
theorem dX3_forecast_23 : decode cX3_forecast 23 = .ok (.aload_n 0, 1) := dk_42 (dk_at dksX3_forecast_0 23 rfl rfl)
theorem dX3_forecast_24 : decode cX3_forecast 24 = .ok (.invokevirtual 120, 3) := dk_182 0 120 (dk_at dksX3_forecast_1 0 rfl rfl)
theorem dX3_forecast_27 : decode cX3_forecast 27 = .ok (.iconst 1, 1) := dk_4 (dk_at dksX3_forecast_1 3 rfl rfl)
theorem dX3_forecast_28 : decode cX3_forecast 28 = .ok (.if_icmp .ne 7, 3) := dk_160 0 7 (dk_at dksX3_forecast_1 4 rfl rfl)
theorem dX3_forecast_31 : decode cX3_forecast 31 = .ok (.iconst 1, 1) := dk_4 (dk_at dksX3_forecast_1 7 rfl rfl)
theorem dX3_forecast_32 : decode cX3_forecast 32 = .ok (.goto 4, 3) := dk_167 0 4 (dk_at dksX3_forecast_1 8 rfl rfl)
theorem dX3_forecast_35 : decode cX3_forecast 35 = .ok (.iconst 0, 1) := dk_3 (dk_at dksX3_forecast_1 11 rfl rfl)
theorem dX3_forecast_36 : decode cX3_forecast 36 = .ok (.iadd, 1) := dk_96 (dk_at dksX3_forecast_1 12 rfl rfl)
theorem dX3_forecast_37 : decode cX3_forecast 37 = .ok (.istore_n 1, 1) := dk_60 (dk_at dksX3_forecast_1 13 rfl rfl)
theorem dX3_forecast_38 : decode cX3_forecast 38 = .ok (.goto (-25), 3) := dk_167 255 231 (dk_at dksX3_forecast_1 14 rfl rfl)
theorem dX3_forecast_41 : decode cX3_forecast 41 = .ok (.aload_n 0, 1) := dk_42 (dk_at dksX3_forecast_1 17 rfl rfl)
theorem dX3_forecast_42 : decode cX3_forecast 42 = .ok (.getfield 7, 3) := dk_180 0 7 (dk_at dksX3_forecast_1 18 rfl rfl)
theorem dX3_forecast_45 : decode cX3_forecast 45 = .ok (.aload_n 0, 1) := dk_42 (dk_at dksX3_forecast_1 21 rfl rfl)
theorem dX3_forecast_46 : decode cX3_forecast 46 = .ok (.getfield 19, 3) := dk_180 0 19 (dk_at dksX3_forecast_2 0 rfl rfl)
theorem dX3_forecast_49 : decode cX3_forecast 49 = .ok (.invokestatic 45, 3) := dk_184 0 45 (dk_at dksX3_forecast_2 3 rfl rfl)
theorem dX3_forecast_52 : decode cX3_forecast 52 = .ok (.iload_n 1, 1) := dk_27 (dk_at dksX3_forecast_2 6 rfl rfl)
theorem dX3_forecast_53 : decode cX3_forecast 53 = .ok (.ireturn, 1) := dk_172 (dk_at dksX3_forecast_2 7 rfl rfl)
theorem dX3_forecastAgain_0 : decode cX3_forecastAgain 0 = .ok (.aload_n 0, 1) := by decide +kernel
theorem dX3_forecastAgain_1 : decode cX3_forecastAgain 1 = .ok (.invokevirtual 133, 3) := by decide +kernel
theorem dX3_forecastAgain_4 : decode cX3_forecastAgain 4 = .ok (.ireturn, 1) := by decide +kernel
def dkwX3_answerOf_2 : List UInt8 := [17, 252, 12, 172]
abbrev dktX3_answerOf_2 : List UInt8 := dkwX3_answerOf_2 ++ []
def dkwX3_answerOf_1 : List UInt8 := [184, 0, 52, 153, 0, 20, 42, 180, 0, 7, 17, 0, 131, 7, 27, 104, 96, 28, 96, 46, 167, 0, 6]
abbrev dktX3_answerOf_1 : List UInt8 := dkwX3_answerOf_1 ++ dktX3_answerOf_2
def dkwX3_answerOf_0 : List UInt8 := [27, 3, 42, 180, 0, 7, 16, 9, 46, 4, 100, 184, 0, 52, 154, 0, 7, 17, 252, 13, 172, 28, 3, 6]
abbrev dktX3_answerOf_0 : List UInt8 := dkwX3_answerOf_0 ++ dktX3_answerOf_1
theorem dksX3_answerOf_0 : cX3_answerOf.data.toList.drop 0 = dktX3_answerOf_0 := by decide +kernel
theorem dksX3_answerOf_1 : cX3_answerOf.data.toList.drop 24 = dktX3_answerOf_1 := dk_seg dksX3_answerOf_0 24 rfl rfl
theorem dksX3_answerOf_2 : cX3_answerOf.data.toList.drop 47 = dktX3_answerOf_2 := dk_seg dksX3_answerOf_1 23 rfl rfl
theorem dX3_answerOf_0 : decode cX3_answerOf 0 = .ok (.iload_n 1, 1) := dk_27 (dk_at dksX3_answerOf_0 0 rfl rfl)
theorem dX3_answerOf_1 : decode cX3_answerOf 1 = .ok (.iconst 0, 1) := dk_3 (dk_at dksX3_answerOf_0 1 rfl rfl)
theorem dX3_answerOf_2 : decode cX3_answerOf 2 = .ok (.aload_n 0, 1) := dk_42 (dk_at dksX3_answerOf_0 2 rfl rfl)
theorem dX3_answerOf_3 : decode cX3_answerOf 3 = .ok (.getfield 7, 3) := dk_180 0 7 (dk_at dksX3_answerOf_0 3 rfl rfl)
theorem dX3_answerOf_6 : decode cX3_answerOf 6 = .ok (.bipush 9, 2) := dk_16 9 (dk_at dksX3_answerOf_0 6 rfl rfl)
theorem dX3_answerOf_8 : decode cX3_answerOf 8 = .ok (.iaload, 1) := dk_46 (dk_at dksX3_answerOf_0 8 rfl rfl)
theorem dX3_answerOf_9 : decode cX3_answerOf 9 = .ok (.iconst 1, 1) := dk_4 (dk_at dksX3_answerOf_0 9 rfl rfl)
theorem dX3_answerOf_10 : decode cX3_answerOf 10 = .ok (.isub, 1) := dk_100 (dk_at dksX3_answerOf_0 10 rfl rfl)
theorem dX3_answerOf_11 : decode cX3_answerOf 11 = .ok (.invokestatic 52, 3) := dk_184 0 52 (dk_at dksX3_answerOf_0 11 rfl rfl)
theorem dX3_answerOf_14 : decode cX3_answerOf 14 = .ok (.ifCond .ne 7, 3) := dk_154 0 7 (dk_at dksX3_answerOf_0 14 rfl rfl)
theorem dX3_answerOf_17 : decode cX3_answerOf 17 = .ok (.sipush (-1011), 3) := dk_17 252 13 (dk_at dksX3_answerOf_0 17 rfl rfl)
theorem dX3_answerOf_20 : decode cX3_answerOf 20 = .ok (.ireturn, 1) := dk_172 (dk_at dksX3_answerOf_0 20 rfl rfl)
theorem dX3_answerOf_21 : decode cX3_answerOf 21 = .ok (.iload_n 2, 1) := dk_28 (dk_at dksX3_answerOf_0 21 rfl rfl)
theorem dX3_answerOf_22 : decode cX3_answerOf 22 = .ok (.iconst 0, 1) := dk_3 (dk_at dksX3_answerOf_0 22 rfl rfl)
theorem dX3_answerOf_23 : decode cX3_answerOf 23 = .ok (.iconst 3, 1) := dk_6 (dk_at dksX3_answerOf_0 23 rfl rfl)
theorem dX3_answerOf_24 : decode cX3_answerOf 24 = .ok (.invokestatic 52, 3) := dk_184 0 52 (dk_at dksX3_answerOf_1 0 rfl rfl)
theorem dX3_answerOf_27 : decode cX3_answerOf 27 = .ok (.ifCond .eq 20, 3) := dk_153 0 20 (dk_at dksX3_answerOf_1 3 rfl rfl)
theorem dX3_answerOf_30 : decode cX3_answerOf 30 = .ok (.aload_n 0, 1) := dk_42 (dk_at dksX3_answerOf_1 6 rfl rfl)
theorem dX3_answerOf_31 : decode cX3_answerOf 31 = .ok (.getfield 7, 3) := dk_180 0 7 (dk_at dksX3_answerOf_1 7 rfl rfl)
theorem dX3_answerOf_34 : decode cX3_answerOf 34 = .ok (.sipush 131, 3) := dk_17 0 131 (dk_at dksX3_answerOf_1 10 rfl rfl)
theorem dX3_answerOf_37 : decode cX3_answerOf 37 = .ok (.iconst 4, 1) := dk_7 (dk_at dksX3_answerOf_1 13 rfl rfl)
theorem dX3_answerOf_38 : decode cX3_answerOf 38 = .ok (.iload_n 1, 1) := dk_27 (dk_at dksX3_answerOf_1 14 rfl rfl)
theorem dX3_answerOf_39 : decode cX3_answerOf 39 = .ok (.imul, 1) := dk_104 (dk_at dksX3_answerOf_1 15 rfl rfl)
theorem dX3_answerOf_40 : decode cX3_answerOf 40 = .ok (.iadd, 1) := dk_96 (dk_at dksX3_answerOf_1 16 rfl rfl)
theorem dX3_answerOf_41 : decode cX3_answerOf 41 = .ok (.iload_n 2, 1) := dk_28 (dk_at dksX3_answerOf_1 17 rfl rfl)
theorem dX3_answerOf_42 : decode cX3_answerOf 42 = .ok (.iadd, 1) := dk_96 (dk_at dksX3_answerOf_1 18 rfl rfl)
theorem dX3_answerOf_43 : decode cX3_answerOf 43 = .ok (.iaload, 1) := dk_46 (dk_at dksX3_answerOf_1 19 rfl rfl)
theorem dX3_answerOf_44 : decode cX3_answerOf 44 = .ok (.goto 6, 3) := dk_167 0 6 (dk_at dksX3_answerOf_1 20 rfl rfl)
theorem dX3_answerOf_47 : decode cX3_answerOf 47 = .ok (.sipush (-1012), 3) := dk_17 252 12 (dk_at dksX3_answerOf_2 0 rfl rfl)
theorem dX3_answerOf_50 : decode cX3_answerOf 50 = .ok (.ireturn, 1) := dk_172 (dk_at dksX3_answerOf_2 3 rfl rfl)
def dkwX3_answered_0 : List UInt8 := [27, 184, 0, 136, 153, 0, 16, 42, 180, 0, 7, 17, 0, 211, 27, 96, 46, 167, 0, 6, 17, 252, 12, 172]
abbrev dktX3_answered_0 : List UInt8 := dkwX3_answered_0 ++ []
theorem dksX3_answered_0 : cX3_answered.data.toList.drop 0 = dktX3_answered_0 := by decide +kernel
theorem dX3_answered_0 : decode cX3_answered 0 = .ok (.iload_n 1, 1) := dk_27 (dk_at dksX3_answered_0 0 rfl rfl)
theorem dX3_answered_1 : decode cX3_answered 1 = .ok (.invokestatic 136, 3) := dk_184 0 136 (dk_at dksX3_answered_0 1 rfl rfl)
theorem dX3_answered_4 : decode cX3_answered 4 = .ok (.ifCond .eq 16, 3) := dk_153 0 16 (dk_at dksX3_answered_0 4 rfl rfl)
theorem dX3_answered_7 : decode cX3_answered 7 = .ok (.aload_n 0, 1) := dk_42 (dk_at dksX3_answered_0 7 rfl rfl)
theorem dX3_answered_8 : decode cX3_answered 8 = .ok (.getfield 7, 3) := dk_180 0 7 (dk_at dksX3_answered_0 8 rfl rfl)
theorem dX3_answered_11 : decode cX3_answered 11 = .ok (.sipush 211, 3) := dk_17 0 211 (dk_at dksX3_answered_0 11 rfl rfl)
theorem dX3_answered_14 : decode cX3_answered 14 = .ok (.iload_n 1, 1) := dk_27 (dk_at dksX3_answered_0 14 rfl rfl)
theorem dX3_answered_15 : decode cX3_answered 15 = .ok (.iadd, 1) := dk_96 (dk_at dksX3_answered_0 15 rfl rfl)
theorem dX3_answered_16 : decode cX3_answered 16 = .ok (.iaload, 1) := dk_46 (dk_at dksX3_answered_0 16 rfl rfl)
theorem dX3_answered_17 : decode cX3_answered 17 = .ok (.goto 6, 3) := dk_167 0 6 (dk_at dksX3_answered_0 17 rfl rfl)
theorem dX3_answered_20 : decode cX3_answered 20 = .ok (.sipush (-1012), 3) := dk_17 252 12 (dk_at dksX3_answered_0 20 rfl rfl)
theorem dX3_answered_23 : decode cX3_answered 23 = .ok (.ireturn, 1) := dk_172 (dk_at dksX3_answered_0 23 rfl rfl)
def dkwX3_isHour_0 : List UInt8 := [26, 3, 16, 23, 184, 0, 52, 172]
abbrev dktX3_isHour_0 : List UInt8 := dkwX3_isHour_0 ++ []
theorem dksX3_isHour_0 : cX3_isHour.data.toList.drop 0 = dktX3_isHour_0 := by decide +kernel
theorem dX3_isHour_0 : decode cX3_isHour 0 = .ok (.iload_n 0, 1) := dk_26 (dk_at dksX3_isHour_0 0 rfl rfl)
theorem dX3_isHour_1 : decode cX3_isHour 1 = .ok (.iconst 0, 1) := dk_3 (dk_at dksX3_isHour_0 1 rfl rfl)
theorem dX3_isHour_2 : decode cX3_isHour 2 = .ok (.bipush 23, 2) := dk_16 23 (dk_at dksX3_isHour_0 2 rfl rfl)
theorem dX3_isHour_4 : decode cX3_isHour 4 = .ok (.invokestatic 52, 3) := dk_184 0 52 (dk_at dksX3_isHour_0 4 rfl rfl)
theorem dX3_isHour_7 : decode cX3_isHour 7 = .ok (.ireturn, 1) := dk_172 (dk_at dksX3_isHour_0 7 rfl rfl)
def dkwX3_guess_0 : List UInt8 := [27, 184, 0, 136, 153, 0, 11, 42, 27, 182, 0, 142, 167, 0, 6, 17, 252, 12, 172]
abbrev dktX3_guess_0 : List UInt8 := dkwX3_guess_0 ++ []
theorem dksX3_guess_0 : cX3_guess.data.toList.drop 0 = dktX3_guess_0 := by decide +kernel
theorem dX3_guess_0 : decode cX3_guess 0 = .ok (.iload_n 1, 1) := dk_27 (dk_at dksX3_guess_0 0 rfl rfl)
theorem dX3_guess_1 : decode cX3_guess 1 = .ok (.invokestatic 136, 3) := dk_184 0 136 (dk_at dksX3_guess_0 1 rfl rfl)
theorem dX3_guess_4 : decode cX3_guess 4 = .ok (.ifCond .eq 11, 3) := dk_153 0 11 (dk_at dksX3_guess_0 4 rfl rfl)
theorem dX3_guess_7 : decode cX3_guess 7 = .ok (.aload_n 0, 1) := dk_42 (dk_at dksX3_guess_0 7 rfl rfl)
theorem dX3_guess_8 : decode cX3_guess 8 = .ok (.iload_n 1, 1) := dk_27 (dk_at dksX3_guess_0 8 rfl rfl)
theorem dX3_guess_9 : decode cX3_guess 9 = .ok (.invokevirtual 142, 3) := dk_182 0 142 (dk_at dksX3_guess_0 9 rfl rfl)
theorem dX3_guess_12 : decode cX3_guess 12 = .ok (.goto 6, 3) := dk_167 0 6 (dk_at dksX3_guess_0 12 rfl rfl)
theorem dX3_guess_15 : decode cX3_guess 15 = .ok (.sipush (-1012), 3) := dk_17 252 12 (dk_at dksX3_guess_0 15 rfl rfl)
theorem dX3_guess_18 : decode cX3_guess 18 = .ok (.ireturn, 1) := dk_172 (dk_at dksX3_guess_0 18 rfl rfl)
def dkwX3_guessed_5 : List UInt8 := [167, 0, 4, 29, 172]
abbrev dktX3_guessed_5 : List UInt8 := dkwX3_guessed_5 ++ []
def dkwX3_guessed_4 : List UInt8 := [21, 6, 62, 21, 7, 54, 4, 21, 8, 54, 5, 132, 6, 1, 167, 255, 169, 29, 156, 0, 9, 17, 252, 9]
abbrev dktX3_guessed_4 : List UInt8 := dkwX3_guessed_4 ++ dktX3_guessed_5
def dkwX3_guessed_3 : List UInt8 := [155, 0, 23, 21, 9, 155, 0, 29, 21, 9, 154, 0, 13, 21, 7, 21, 4, 163, 0, 6, 167, 0, 14]
abbrev dktX3_guessed_3 : List UInt8 := dkwX3_guessed_3 ++ dktX3_guessed_4
def dkwX3_guessed_2 : List UInt8 := [54, 8, 21, 7, 154, 0, 6, 167, 0, 51, 21, 7, 21, 5, 104, 21, 4, 21, 8, 104, 100, 54, 9, 29]
abbrev dktX3_guessed_2 : List UInt8 := dkwX3_guessed_2 ++ dktX3_guessed_3
def dkwX3_guessed_1 : List UInt8 := [7, 162, 0, 87, 28, 153, 0, 83, 42, 21, 6, 28, 182, 0, 139, 54, 7, 42, 21, 6, 2, 182, 0, 139]
abbrev dktX3_guessed_1 : List UInt8 := dkwX3_guessed_1 ++ dktX3_guessed_2
def dkwX3_guessed_0 : List UInt8 := [42, 180, 0, 7, 17, 0, 211, 27, 96, 46, 61, 2, 62, 3, 54, 4, 4, 54, 5, 3, 54, 6, 21, 6]
abbrev dktX3_guessed_0 : List UInt8 := dkwX3_guessed_0 ++ dktX3_guessed_1
theorem dksX3_guessed_0 : cX3_guessed.data.toList.drop 0 = dktX3_guessed_0 := by decide +kernel
theorem dksX3_guessed_1 : cX3_guessed.data.toList.drop 24 = dktX3_guessed_1 := dk_seg dksX3_guessed_0 24 rfl rfl
theorem dksX3_guessed_2 : cX3_guessed.data.toList.drop 48 = dktX3_guessed_2 := dk_seg dksX3_guessed_1 24 rfl rfl
theorem dksX3_guessed_3 : cX3_guessed.data.toList.drop 72 = dktX3_guessed_3 := dk_seg dksX3_guessed_2 24 rfl rfl
theorem dksX3_guessed_4 : cX3_guessed.data.toList.drop 95 = dktX3_guessed_4 := dk_seg dksX3_guessed_3 23 rfl rfl
theorem dksX3_guessed_5 : cX3_guessed.data.toList.drop 119 = dktX3_guessed_5 := dk_seg dksX3_guessed_4 24 rfl rfl
theorem dX3_guessed_0 : decode cX3_guessed 0 = .ok (.aload_n 0, 1) := dk_42 (dk_at dksX3_guessed_0 0 rfl rfl)
theorem dX3_guessed_1 : decode cX3_guessed 1 = .ok (.getfield 7, 3) := dk_180 0 7 (dk_at dksX3_guessed_0 1 rfl rfl)
theorem dX3_guessed_4 : decode cX3_guessed 4 = .ok (.sipush 211, 3) := dk_17 0 211 (dk_at dksX3_guessed_0 4 rfl rfl)
theorem dX3_guessed_7 : decode cX3_guessed 7 = .ok (.iload_n 1, 1) := dk_27 (dk_at dksX3_guessed_0 7 rfl rfl)
theorem dX3_guessed_8 : decode cX3_guessed 8 = .ok (.iadd, 1) := dk_96 (dk_at dksX3_guessed_0 8 rfl rfl)
theorem dX3_guessed_9 : decode cX3_guessed 9 = .ok (.iaload, 1) := dk_46 (dk_at dksX3_guessed_0 9 rfl rfl)
theorem dX3_guessed_10 : decode cX3_guessed 10 = .ok (.istore_n 2, 1) := dk_61 (dk_at dksX3_guessed_0 10 rfl rfl)
theorem dX3_guessed_11 : decode cX3_guessed 11 = .ok (.iconst (-1), 1) := dk_2 (dk_at dksX3_guessed_0 11 rfl rfl)
theorem dX3_guessed_12 : decode cX3_guessed 12 = .ok (.istore_n 3, 1) := dk_62 (dk_at dksX3_guessed_0 12 rfl rfl)
theorem dX3_guessed_13 : decode cX3_guessed 13 = .ok (.iconst 0, 1) := dk_3 (dk_at dksX3_guessed_0 13 rfl rfl)
theorem dX3_guessed_14 : decode cX3_guessed 14 = .ok (.istore 4, 2) := dk_54 4 (dk_at dksX3_guessed_0 14 rfl rfl)
theorem dX3_guessed_16 : decode cX3_guessed 16 = .ok (.iconst 1, 1) := dk_4 (dk_at dksX3_guessed_0 16 rfl rfl)
theorem dX3_guessed_17 : decode cX3_guessed 17 = .ok (.istore 5, 2) := dk_54 5 (dk_at dksX3_guessed_0 17 rfl rfl)
theorem dX3_guessed_19 : decode cX3_guessed 19 = .ok (.iconst 0, 1) := dk_3 (dk_at dksX3_guessed_0 19 rfl rfl)
theorem dX3_guessed_20 : decode cX3_guessed 20 = .ok (.istore 6, 2) := dk_54 6 (dk_at dksX3_guessed_0 20 rfl rfl)
theorem dX3_guessed_22 : decode cX3_guessed 22 = .ok (.iload 6, 2) := dk_21 6 (dk_at dksX3_guessed_0 22 rfl rfl)
theorem dX3_guessed_24 : decode cX3_guessed 24 = .ok (.iconst 4, 1) := dk_7 (dk_at dksX3_guessed_1 0 rfl rfl)
theorem dX3_guessed_25 : decode cX3_guessed 25 = .ok (.if_icmp .ge 87, 3) := dk_162 0 87 (dk_at dksX3_guessed_1 1 rfl rfl)
theorem dX3_guessed_28 : decode cX3_guessed 28 = .ok (.iload_n 2, 1) := dk_28 (dk_at dksX3_guessed_1 4 rfl rfl)
theorem dX3_guessed_29 : decode cX3_guessed 29 = .ok (.ifCond .eq 83, 3) := dk_153 0 83 (dk_at dksX3_guessed_1 5 rfl rfl)
theorem dX3_guessed_32 : decode cX3_guessed 32 = .ok (.aload_n 0, 1) := dk_42 (dk_at dksX3_guessed_1 8 rfl rfl)
theorem dX3_guessed_33 : decode cX3_guessed 33 = .ok (.iload 6, 2) := dk_21 6 (dk_at dksX3_guessed_1 9 rfl rfl)
theorem dX3_guessed_35 : decode cX3_guessed 35 = .ok (.iload_n 2, 1) := dk_28 (dk_at dksX3_guessed_1 11 rfl rfl)
theorem dX3_guessed_36 : decode cX3_guessed 36 = .ok (.invokevirtual 139, 3) := dk_182 0 139 (dk_at dksX3_guessed_1 12 rfl rfl)
theorem dX3_guessed_39 : decode cX3_guessed 39 = .ok (.istore 7, 2) := dk_54 7 (dk_at dksX3_guessed_1 15 rfl rfl)
theorem dX3_guessed_41 : decode cX3_guessed 41 = .ok (.aload_n 0, 1) := dk_42 (dk_at dksX3_guessed_1 17 rfl rfl)
theorem dX3_guessed_42 : decode cX3_guessed 42 = .ok (.iload 6, 2) := dk_21 6 (dk_at dksX3_guessed_1 18 rfl rfl)
theorem dX3_guessed_44 : decode cX3_guessed 44 = .ok (.iconst (-1), 1) := dk_2 (dk_at dksX3_guessed_1 20 rfl rfl)
theorem dX3_guessed_45 : decode cX3_guessed 45 = .ok (.invokevirtual 139, 3) := dk_182 0 139 (dk_at dksX3_guessed_1 21 rfl rfl)
theorem dX3_guessed_48 : decode cX3_guessed 48 = .ok (.istore 8, 2) := dk_54 8 (dk_at dksX3_guessed_2 0 rfl rfl)
theorem dX3_guessed_50 : decode cX3_guessed 50 = .ok (.iload 7, 2) := dk_21 7 (dk_at dksX3_guessed_2 2 rfl rfl)
theorem dX3_guessed_52 : decode cX3_guessed 52 = .ok (.ifCond .ne 6, 3) := dk_154 0 6 (dk_at dksX3_guessed_2 4 rfl rfl)
theorem dX3_guessed_55 : decode cX3_guessed 55 = .ok (.goto 51, 3) := dk_167 0 51 (dk_at dksX3_guessed_2 7 rfl rfl)
theorem dX3_guessed_58 : decode cX3_guessed 58 = .ok (.iload 7, 2) := dk_21 7 (dk_at dksX3_guessed_2 10 rfl rfl)
theorem dX3_guessed_60 : decode cX3_guessed 60 = .ok (.iload 5, 2) := dk_21 5 (dk_at dksX3_guessed_2 12 rfl rfl)
theorem dX3_guessed_62 : decode cX3_guessed 62 = .ok (.imul, 1) := dk_104 (dk_at dksX3_guessed_2 14 rfl rfl)
theorem dX3_guessed_63 : decode cX3_guessed 63 = .ok (.iload 4, 2) := dk_21 4 (dk_at dksX3_guessed_2 15 rfl rfl)
theorem dX3_guessed_65 : decode cX3_guessed 65 = .ok (.iload 8, 2) := dk_21 8 (dk_at dksX3_guessed_2 17 rfl rfl)
theorem dX3_guessed_67 : decode cX3_guessed 67 = .ok (.imul, 1) := dk_104 (dk_at dksX3_guessed_2 19 rfl rfl)
theorem dX3_guessed_68 : decode cX3_guessed 68 = .ok (.isub, 1) := dk_100 (dk_at dksX3_guessed_2 20 rfl rfl)
theorem dX3_guessed_69 : decode cX3_guessed 69 = .ok (.istore 9, 2) := dk_54 9 (dk_at dksX3_guessed_2 21 rfl rfl)
theorem dX3_guessed_71 : decode cX3_guessed 71 = .ok (.iload_n 3, 1) := dk_29 (dk_at dksX3_guessed_2 23 rfl rfl)
theorem dX3_guessed_72 : decode cX3_guessed 72 = .ok (.ifCond .lt 23, 3) := dk_155 0 23 (dk_at dksX3_guessed_3 0 rfl rfl)
theorem dX3_guessed_75 : decode cX3_guessed 75 = .ok (.iload 9, 2) := dk_21 9 (dk_at dksX3_guessed_3 3 rfl rfl)
theorem dX3_guessed_77 : decode cX3_guessed 77 = .ok (.ifCond .lt 29, 3) := dk_155 0 29 (dk_at dksX3_guessed_3 5 rfl rfl)
theorem dX3_guessed_80 : decode cX3_guessed 80 = .ok (.iload 9, 2) := dk_21 9 (dk_at dksX3_guessed_3 8 rfl rfl)
theorem dX3_guessed_82 : decode cX3_guessed 82 = .ok (.ifCond .ne 13, 3) := dk_154 0 13 (dk_at dksX3_guessed_3 10 rfl rfl)
theorem dX3_guessed_85 : decode cX3_guessed 85 = .ok (.iload 7, 2) := dk_21 7 (dk_at dksX3_guessed_3 13 rfl rfl)
theorem dX3_guessed_87 : decode cX3_guessed 87 = .ok (.iload 4, 2) := dk_21 4 (dk_at dksX3_guessed_3 15 rfl rfl)
theorem dX3_guessed_89 : decode cX3_guessed 89 = .ok (.if_icmp .gt 6, 3) := dk_163 0 6 (dk_at dksX3_guessed_3 17 rfl rfl)
theorem dX3_guessed_92 : decode cX3_guessed 92 = .ok (.goto 14, 3) := dk_167 0 14 (dk_at dksX3_guessed_3 20 rfl rfl)
theorem dX3_guessed_95 : decode cX3_guessed 95 = .ok (.iload 6, 2) := dk_21 6 (dk_at dksX3_guessed_4 0 rfl rfl)
theorem dX3_guessed_97 : decode cX3_guessed 97 = .ok (.istore_n 3, 1) := dk_62 (dk_at dksX3_guessed_4 2 rfl rfl)
theorem dX3_guessed_98 : decode cX3_guessed 98 = .ok (.iload 7, 2) := dk_21 7 (dk_at dksX3_guessed_4 3 rfl rfl)
theorem dX3_guessed_100 : decode cX3_guessed 100 = .ok (.istore 4, 2) := dk_54 4 (dk_at dksX3_guessed_4 5 rfl rfl)
theorem dX3_guessed_102 : decode cX3_guessed 102 = .ok (.iload 8, 2) := dk_21 8 (dk_at dksX3_guessed_4 7 rfl rfl)
theorem dX3_guessed_104 : decode cX3_guessed 104 = .ok (.istore 5, 2) := dk_54 5 (dk_at dksX3_guessed_4 9 rfl rfl)
theorem dX3_guessed_106 : decode cX3_guessed 106 = .ok (.iinc 6 1, 3) := dk_132 6 1 (dk_at dksX3_guessed_4 11 rfl rfl)
theorem dX3_guessed_109 : decode cX3_guessed 109 = .ok (.goto (-87), 3) := dk_167 255 169 (dk_at dksX3_guessed_4 14 rfl rfl)
theorem dX3_guessed_112 : decode cX3_guessed 112 = .ok (.iload_n 3, 1) := dk_29 (dk_at dksX3_guessed_4 17 rfl rfl)
theorem dX3_guessed_113 : decode cX3_guessed 113 = .ok (.ifCond .ge 9, 3) := dk_156 0 9 (dk_at dksX3_guessed_4 18 rfl rfl)
theorem dX3_guessed_116 : decode cX3_guessed 116 = .ok (.sipush (-1015), 3) := dk_17 252 9 (dk_at dksX3_guessed_4 21 rfl rfl)
theorem dX3_guessed_119 : decode cX3_guessed 119 = .ok (.goto 4, 3) := dk_167 0 4 (dk_at dksX3_guessed_5 0 rfl rfl)
theorem dX3_guessed_122 : decode cX3_guessed 122 = .ok (.iload_n 3, 1) := dk_29 (dk_at dksX3_guessed_5 3 rfl rfl)
theorem dX3_guessed_123 : decode cX3_guessed 123 = .ok (.ireturn, 1) := dk_172 (dk_at dksX3_guessed_5 4 rfl rfl)
def dkwX3_ropesOf_2 : List UInt8 := [62, 132, 4, 1, 167, 255, 209, 29, 172]
abbrev dktX3_ropesOf_2 : List UInt8 := dkwX3_ropesOf_2 ++ []
def dkwX3_ropesOf_1 : List UInt8 := [184, 0, 64, 46, 27, 160, 0, 17, 28, 21, 4, 122, 4, 126, 4, 160, 0, 7, 4, 167, 0, 4, 3, 96]
abbrev dktX3_ropesOf_1 : List UInt8 := dkwX3_ropesOf_1 ++ dktX3_ropesOf_2
def dkwX3_ropesOf_0 : List UInt8 := [3, 62, 3, 54, 4, 21, 4, 42, 180, 0, 7, 3, 46, 162, 0, 42, 29, 42, 180, 0, 7, 21, 4, 3]
abbrev dktX3_ropesOf_0 : List UInt8 := dkwX3_ropesOf_0 ++ dktX3_ropesOf_1
theorem dksX3_ropesOf_0 : cX3_ropesOf.data.toList.drop 0 = dktX3_ropesOf_0 := by decide +kernel
theorem dksX3_ropesOf_1 : cX3_ropesOf.data.toList.drop 24 = dktX3_ropesOf_1 := dk_seg dksX3_ropesOf_0 24 rfl rfl
theorem dksX3_ropesOf_2 : cX3_ropesOf.data.toList.drop 48 = dktX3_ropesOf_2 := dk_seg dksX3_ropesOf_1 24 rfl rfl
theorem dX3_ropesOf_0 : decode cX3_ropesOf 0 = .ok (.iconst 0, 1) := dk_3 (dk_at dksX3_ropesOf_0 0 rfl rfl)
theorem dX3_ropesOf_1 : decode cX3_ropesOf 1 = .ok (.istore_n 3, 1) := dk_62 (dk_at dksX3_ropesOf_0 1 rfl rfl)
theorem dX3_ropesOf_2 : decode cX3_ropesOf 2 = .ok (.iconst 0, 1) := dk_3 (dk_at dksX3_ropesOf_0 2 rfl rfl)
theorem dX3_ropesOf_3 : decode cX3_ropesOf 3 = .ok (.istore 4, 2) := dk_54 4 (dk_at dksX3_ropesOf_0 3 rfl rfl)
theorem dX3_ropesOf_5 : decode cX3_ropesOf 5 = .ok (.iload 4, 2) := dk_21 4 (dk_at dksX3_ropesOf_0 5 rfl rfl)
theorem dX3_ropesOf_7 : decode cX3_ropesOf 7 = .ok (.aload_n 0, 1) := dk_42 (dk_at dksX3_ropesOf_0 7 rfl rfl)
theorem dX3_ropesOf_8 : decode cX3_ropesOf 8 = .ok (.getfield 7, 3) := dk_180 0 7 (dk_at dksX3_ropesOf_0 8 rfl rfl)
theorem dX3_ropesOf_11 : decode cX3_ropesOf 11 = .ok (.iconst 0, 1) := dk_3 (dk_at dksX3_ropesOf_0 11 rfl rfl)
theorem dX3_ropesOf_12 : decode cX3_ropesOf 12 = .ok (.iaload, 1) := dk_46 (dk_at dksX3_ropesOf_0 12 rfl rfl)
theorem dX3_ropesOf_13 : decode cX3_ropesOf 13 = .ok (.if_icmp .ge 42, 3) := dk_162 0 42 (dk_at dksX3_ropesOf_0 13 rfl rfl)
theorem dX3_ropesOf_16 : decode cX3_ropesOf 16 = .ok (.iload_n 3, 1) := dk_29 (dk_at dksX3_ropesOf_0 16 rfl rfl)
theorem dX3_ropesOf_17 : decode cX3_ropesOf 17 = .ok (.aload_n 0, 1) := dk_42 (dk_at dksX3_ropesOf_0 17 rfl rfl)
theorem dX3_ropesOf_18 : decode cX3_ropesOf 18 = .ok (.getfield 7, 3) := dk_180 0 7 (dk_at dksX3_ropesOf_0 18 rfl rfl)
theorem dX3_ropesOf_21 : decode cX3_ropesOf 21 = .ok (.iload 4, 2) := dk_21 4 (dk_at dksX3_ropesOf_0 21 rfl rfl)
theorem dX3_ropesOf_23 : decode cX3_ropesOf 23 = .ok (.iconst 0, 1) := dk_3 (dk_at dksX3_ropesOf_0 23 rfl rfl)
theorem dX3_ropesOf_24 : decode cX3_ropesOf 24 = .ok (.invokestatic 64, 3) := dk_184 0 64 (dk_at dksX3_ropesOf_1 0 rfl rfl)
theorem dX3_ropesOf_27 : decode cX3_ropesOf 27 = .ok (.iaload, 1) := dk_46 (dk_at dksX3_ropesOf_1 3 rfl rfl)
theorem dX3_ropesOf_28 : decode cX3_ropesOf 28 = .ok (.iload_n 1, 1) := dk_27 (dk_at dksX3_ropesOf_1 4 rfl rfl)
theorem dX3_ropesOf_29 : decode cX3_ropesOf 29 = .ok (.if_icmp .ne 17, 3) := dk_160 0 17 (dk_at dksX3_ropesOf_1 5 rfl rfl)
theorem dX3_ropesOf_32 : decode cX3_ropesOf 32 = .ok (.iload_n 2, 1) := dk_28 (dk_at dksX3_ropesOf_1 8 rfl rfl)
theorem dX3_ropesOf_33 : decode cX3_ropesOf 33 = .ok (.iload 4, 2) := dk_21 4 (dk_at dksX3_ropesOf_1 9 rfl rfl)
theorem dX3_ropesOf_35 : decode cX3_ropesOf 35 = .ok (.ishr, 1) := dk_122 (dk_at dksX3_ropesOf_1 11 rfl rfl)
theorem dX3_ropesOf_36 : decode cX3_ropesOf 36 = .ok (.iconst 1, 1) := dk_4 (dk_at dksX3_ropesOf_1 12 rfl rfl)
theorem dX3_ropesOf_37 : decode cX3_ropesOf 37 = .ok (.iand, 1) := dk_126 (dk_at dksX3_ropesOf_1 13 rfl rfl)
theorem dX3_ropesOf_38 : decode cX3_ropesOf 38 = .ok (.iconst 1, 1) := dk_4 (dk_at dksX3_ropesOf_1 14 rfl rfl)
theorem dX3_ropesOf_39 : decode cX3_ropesOf 39 = .ok (.if_icmp .ne 7, 3) := dk_160 0 7 (dk_at dksX3_ropesOf_1 15 rfl rfl)
theorem dX3_ropesOf_42 : decode cX3_ropesOf 42 = .ok (.iconst 1, 1) := dk_4 (dk_at dksX3_ropesOf_1 18 rfl rfl)
theorem dX3_ropesOf_43 : decode cX3_ropesOf 43 = .ok (.goto 4, 3) := dk_167 0 4 (dk_at dksX3_ropesOf_1 19 rfl rfl)
theorem dX3_ropesOf_46 : decode cX3_ropesOf 46 = .ok (.iconst 0, 1) := dk_3 (dk_at dksX3_ropesOf_1 22 rfl rfl)
theorem dX3_ropesOf_47 : decode cX3_ropesOf 47 = .ok (.iadd, 1) := dk_96 (dk_at dksX3_ropesOf_1 23 rfl rfl)
theorem dX3_ropesOf_48 : decode cX3_ropesOf 48 = .ok (.istore_n 3, 1) := dk_62 (dk_at dksX3_ropesOf_2 0 rfl rfl)
theorem dX3_ropesOf_49 : decode cX3_ropesOf 49 = .ok (.iinc 4 1, 3) := dk_132 4 1 (dk_at dksX3_ropesOf_2 1 rfl rfl)
theorem dX3_ropesOf_52 : decode cX3_ropesOf 52 = .ok (.goto (-47), 3) := dk_167 255 209 (dk_at dksX3_ropesOf_2 4 rfl rfl)
theorem dX3_ropesOf_55 : decode cX3_ropesOf 55 = .ok (.iload_n 3, 1) := dk_29 (dk_at dksX3_ropesOf_2 7 rfl rfl)
theorem dX3_ropesOf_56 : decode cX3_ropesOf 56 = .ok (.ireturn, 1) := dk_172 (dk_at dksX3_ropesOf_2 8 rfl rfl)
def dkwX3_guessAgain_0 : List UInt8 := [42, 27, 182, 0, 145, 172]
abbrev dktX3_guessAgain_0 : List UInt8 := dkwX3_guessAgain_0 ++ []
theorem dksX3_guessAgain_0 : cX3_guessAgain.data.toList.drop 0 = dktX3_guessAgain_0 := by decide +kernel
theorem dX3_guessAgain_0 : decode cX3_guessAgain 0 = .ok (.aload_n 0, 1) := dk_42 (dk_at dksX3_guessAgain_0 0 rfl rfl)
theorem dX3_guessAgain_1 : decode cX3_guessAgain 1 = .ok (.iload_n 1, 1) := dk_27 (dk_at dksX3_guessAgain_0 1 rfl rfl)
theorem dX3_guessAgain_2 : decode cX3_guessAgain 2 = .ok (.invokevirtual 145, 3) := dk_182 0 145 (dk_at dksX3_guessAgain_0 2 rfl rfl)
theorem dX3_guessAgain_5 : decode cX3_guessAgain 5 = .ok (.ireturn, 1) := dk_172 (dk_at dksX3_guessAgain_0 5 rfl rfl)
def dkwX3_parishOf_3 : List UInt8 := [182, 0, 151, 172, 42, 27, 16, 6, 182, 0, 148, 172, 17, 252, 12, 172]
abbrev dktX3_parishOf_3 : List UInt8 := dkwX3_parishOf_3 ++ []
def dkwX3_parishOf_2 : List UInt8 := [42, 27, 2, 182, 0, 139, 172, 42, 27, 6, 182, 0, 148, 172, 42, 27, 5, 182, 0, 148, 172, 42, 27]
abbrev dktX3_parishOf_2 : List UInt8 := dkwX3_parishOf_2 ++ dktX3_parishOf_3
def dkwX3_parishOf_1 : List UInt8 := [170, 0, 0, 0, 0, 0, 0, 71, 0, 0, 0, 0, 0, 0, 0, 4, 0, 0, 0, 36, 0, 0, 0, 43, 0, 0, 0, 50, 0, 0, 0, 57, 0, 0, 0, 63]
abbrev dktX3_parishOf_1 : List UInt8 := dkwX3_parishOf_1 ++ dktX3_parishOf_2
def dkwX3_parishOf_0 : List UInt8 := [27, 184, 0, 56, 154, 0, 7, 17, 252, 13, 172, 28]
abbrev dktX3_parishOf_0 : List UInt8 := dkwX3_parishOf_0 ++ dktX3_parishOf_1
theorem dksX3_parishOf_0 : cX3_parishOf.data.toList.drop 0 = dktX3_parishOf_0 := by decide +kernel
theorem dksX3_parishOf_1 : cX3_parishOf.data.toList.drop 12 = dktX3_parishOf_1 := dk_seg dksX3_parishOf_0 12 rfl rfl
theorem dksX3_parishOf_2 : cX3_parishOf.data.toList.drop 48 = dktX3_parishOf_2 := dk_seg dksX3_parishOf_1 36 rfl rfl
theorem dksX3_parishOf_3 : cX3_parishOf.data.toList.drop 71 = dktX3_parishOf_3 := dk_seg dksX3_parishOf_2 23 rfl rfl
theorem dX3_parishOf_0 : decode cX3_parishOf 0 = .ok (.iload_n 1, 1) := dk_27 (dk_at dksX3_parishOf_0 0 rfl rfl)
theorem dX3_parishOf_1 : decode cX3_parishOf 1 = .ok (.invokestatic 56, 3) := dk_184 0 56 (dk_at dksX3_parishOf_0 1 rfl rfl)
theorem dX3_parishOf_4 : decode cX3_parishOf 4 = .ok (.ifCond .ne 7, 3) := dk_154 0 7 (dk_at dksX3_parishOf_0 4 rfl rfl)
theorem dX3_parishOf_7 : decode cX3_parishOf 7 = .ok (.sipush (-1011), 3) := dk_17 252 13 (dk_at dksX3_parishOf_0 7 rfl rfl)
theorem dX3_parishOf_10 : decode cX3_parishOf 10 = .ok (.ireturn, 1) := dk_172 (dk_at dksX3_parishOf_0 10 rfl rfl)
theorem dX3_parishOf_11 : decode cX3_parishOf 11 = .ok (.iload_n 2, 1) := dk_28 (dk_at dksX3_parishOf_0 11 rfl rfl)
theorem dX3_parishOf_12 : decode cX3_parishOf 12 = .ok (.tableswitch 71 0 4 #[36, 43, 50, 57, 63], 36) := by decide +kernel
theorem dX3_parishOf_48 : decode cX3_parishOf 48 = .ok (.aload_n 0, 1) := dk_42 (dk_at dksX3_parishOf_2 0 rfl rfl)
theorem dX3_parishOf_49 : decode cX3_parishOf 49 = .ok (.iload_n 1, 1) := dk_27 (dk_at dksX3_parishOf_2 1 rfl rfl)
theorem dX3_parishOf_50 : decode cX3_parishOf 50 = .ok (.iconst (-1), 1) := dk_2 (dk_at dksX3_parishOf_2 2 rfl rfl)
theorem dX3_parishOf_51 : decode cX3_parishOf 51 = .ok (.invokevirtual 139, 3) := dk_182 0 139 (dk_at dksX3_parishOf_2 3 rfl rfl)
theorem dX3_parishOf_54 : decode cX3_parishOf 54 = .ok (.ireturn, 1) := dk_172 (dk_at dksX3_parishOf_2 6 rfl rfl)
theorem dX3_parishOf_55 : decode cX3_parishOf 55 = .ok (.aload_n 0, 1) := dk_42 (dk_at dksX3_parishOf_2 7 rfl rfl)
theorem dX3_parishOf_56 : decode cX3_parishOf 56 = .ok (.iload_n 1, 1) := dk_27 (dk_at dksX3_parishOf_2 8 rfl rfl)
theorem dX3_parishOf_57 : decode cX3_parishOf 57 = .ok (.iconst 3, 1) := dk_6 (dk_at dksX3_parishOf_2 9 rfl rfl)
theorem dX3_parishOf_58 : decode cX3_parishOf 58 = .ok (.invokevirtual 148, 3) := dk_182 0 148 (dk_at dksX3_parishOf_2 10 rfl rfl)
theorem dX3_parishOf_61 : decode cX3_parishOf 61 = .ok (.ireturn, 1) := dk_172 (dk_at dksX3_parishOf_2 13 rfl rfl)
theorem dX3_parishOf_62 : decode cX3_parishOf 62 = .ok (.aload_n 0, 1) := dk_42 (dk_at dksX3_parishOf_2 14 rfl rfl)
theorem dX3_parishOf_63 : decode cX3_parishOf 63 = .ok (.iload_n 1, 1) := dk_27 (dk_at dksX3_parishOf_2 15 rfl rfl)
theorem dX3_parishOf_64 : decode cX3_parishOf 64 = .ok (.iconst 2, 1) := dk_5 (dk_at dksX3_parishOf_2 16 rfl rfl)
theorem dX3_parishOf_65 : decode cX3_parishOf 65 = .ok (.invokevirtual 148, 3) := dk_182 0 148 (dk_at dksX3_parishOf_2 17 rfl rfl)
theorem dX3_parishOf_68 : decode cX3_parishOf 68 = .ok (.ireturn, 1) := dk_172 (dk_at dksX3_parishOf_2 20 rfl rfl)
theorem dX3_parishOf_69 : decode cX3_parishOf 69 = .ok (.aload_n 0, 1) := dk_42 (dk_at dksX3_parishOf_2 21 rfl rfl)
theorem dX3_parishOf_70 : decode cX3_parishOf 70 = .ok (.iload_n 1, 1) := dk_27 (dk_at dksX3_parishOf_2 22 rfl rfl)
theorem dX3_parishOf_71 : decode cX3_parishOf 71 = .ok (.invokevirtual 151, 3) := dk_182 0 151 (dk_at dksX3_parishOf_3 0 rfl rfl)
theorem dX3_parishOf_74 : decode cX3_parishOf 74 = .ok (.ireturn, 1) := dk_172 (dk_at dksX3_parishOf_3 3 rfl rfl)
theorem dX3_parishOf_75 : decode cX3_parishOf 75 = .ok (.aload_n 0, 1) := dk_42 (dk_at dksX3_parishOf_3 4 rfl rfl)
theorem dX3_parishOf_76 : decode cX3_parishOf 76 = .ok (.iload_n 1, 1) := dk_27 (dk_at dksX3_parishOf_3 5 rfl rfl)
theorem dX3_parishOf_77 : decode cX3_parishOf 77 = .ok (.bipush 6, 2) := dk_16 6 (dk_at dksX3_parishOf_3 6 rfl rfl)
theorem dX3_parishOf_79 : decode cX3_parishOf 79 = .ok (.invokevirtual 148, 3) := dk_182 0 148 (dk_at dksX3_parishOf_3 8 rfl rfl)
theorem dX3_parishOf_82 : decode cX3_parishOf 82 = .ok (.ireturn, 1) := dk_172 (dk_at dksX3_parishOf_3 11 rfl rfl)
theorem dX3_parishOf_83 : decode cX3_parishOf 83 = .ok (.sipush (-1012), 3) := dk_17 252 12 (dk_at dksX3_parishOf_3 12 rfl rfl)
theorem dX3_parishOf_86 : decode cX3_parishOf 86 = .ok (.ireturn, 1) := dk_172 (dk_at dksX3_parishOf_3 15 rfl rfl)
def dkwX3_sum_2 : List UInt8 := [42, 180, 0, 7, 21, 4, 28, 184, 0, 64, 46, 96, 62, 132, 4, 1, 167, 255, 198, 29, 172]
abbrev dktX3_sum_2 : List UInt8 := dkwX3_sum_2 ++ []
def dkwX3_sum_1 : List UInt8 := [184, 0, 64, 46, 27, 160, 0, 32, 29, 28, 16, 6, 160, 0, 12, 42, 21, 4, 182, 0, 94, 167, 0, 14]
abbrev dktX3_sum_1 : List UInt8 := dkwX3_sum_1 ++ dktX3_sum_2
def dkwX3_sum_0 : List UInt8 := [3, 62, 3, 54, 4, 21, 4, 42, 180, 0, 7, 3, 46, 162, 0, 53, 42, 180, 0, 7, 21, 4, 3]
abbrev dktX3_sum_0 : List UInt8 := dkwX3_sum_0 ++ dktX3_sum_1
theorem dksX3_sum_0 : cX3_sum.data.toList.drop 0 = dktX3_sum_0 := by decide +kernel
theorem dksX3_sum_1 : cX3_sum.data.toList.drop 23 = dktX3_sum_1 := dk_seg dksX3_sum_0 23 rfl rfl
theorem dksX3_sum_2 : cX3_sum.data.toList.drop 47 = dktX3_sum_2 := dk_seg dksX3_sum_1 24 rfl rfl
theorem dX3_sum_0 : decode cX3_sum 0 = .ok (.iconst 0, 1) := dk_3 (dk_at dksX3_sum_0 0 rfl rfl)
theorem dX3_sum_1 : decode cX3_sum 1 = .ok (.istore_n 3, 1) := dk_62 (dk_at dksX3_sum_0 1 rfl rfl)
theorem dX3_sum_2 : decode cX3_sum 2 = .ok (.iconst 0, 1) := dk_3 (dk_at dksX3_sum_0 2 rfl rfl)
theorem dX3_sum_3 : decode cX3_sum 3 = .ok (.istore 4, 2) := dk_54 4 (dk_at dksX3_sum_0 3 rfl rfl)
theorem dX3_sum_5 : decode cX3_sum 5 = .ok (.iload 4, 2) := dk_21 4 (dk_at dksX3_sum_0 5 rfl rfl)
theorem dX3_sum_7 : decode cX3_sum 7 = .ok (.aload_n 0, 1) := dk_42 (dk_at dksX3_sum_0 7 rfl rfl)
theorem dX3_sum_8 : decode cX3_sum 8 = .ok (.getfield 7, 3) := dk_180 0 7 (dk_at dksX3_sum_0 8 rfl rfl)
theorem dX3_sum_11 : decode cX3_sum 11 = .ok (.iconst 0, 1) := dk_3 (dk_at dksX3_sum_0 11 rfl rfl)
theorem dX3_sum_12 : decode cX3_sum 12 = .ok (.iaload, 1) := dk_46 (dk_at dksX3_sum_0 12 rfl rfl)
theorem dX3_sum_13 : decode cX3_sum 13 = .ok (.if_icmp .ge 53, 3) := dk_162 0 53 (dk_at dksX3_sum_0 13 rfl rfl)
theorem dX3_sum_16 : decode cX3_sum 16 = .ok (.aload_n 0, 1) := dk_42 (dk_at dksX3_sum_0 16 rfl rfl)
theorem dX3_sum_17 : decode cX3_sum 17 = .ok (.getfield 7, 3) := dk_180 0 7 (dk_at dksX3_sum_0 17 rfl rfl)
theorem dX3_sum_20 : decode cX3_sum 20 = .ok (.iload 4, 2) := dk_21 4 (dk_at dksX3_sum_0 20 rfl rfl)
theorem dX3_sum_22 : decode cX3_sum 22 = .ok (.iconst 0, 1) := dk_3 (dk_at dksX3_sum_0 22 rfl rfl)
theorem dX3_sum_23 : decode cX3_sum 23 = .ok (.invokestatic 64, 3) := dk_184 0 64 (dk_at dksX3_sum_1 0 rfl rfl)
theorem dX3_sum_26 : decode cX3_sum 26 = .ok (.iaload, 1) := dk_46 (dk_at dksX3_sum_1 3 rfl rfl)
theorem dX3_sum_27 : decode cX3_sum 27 = .ok (.iload_n 1, 1) := dk_27 (dk_at dksX3_sum_1 4 rfl rfl)
theorem dX3_sum_28 : decode cX3_sum 28 = .ok (.if_icmp .ne 32, 3) := dk_160 0 32 (dk_at dksX3_sum_1 5 rfl rfl)
theorem dX3_sum_31 : decode cX3_sum 31 = .ok (.iload_n 3, 1) := dk_29 (dk_at dksX3_sum_1 8 rfl rfl)
theorem dX3_sum_32 : decode cX3_sum 32 = .ok (.iload_n 2, 1) := dk_28 (dk_at dksX3_sum_1 9 rfl rfl)
theorem dX3_sum_33 : decode cX3_sum 33 = .ok (.bipush 6, 2) := dk_16 6 (dk_at dksX3_sum_1 10 rfl rfl)
theorem dX3_sum_35 : decode cX3_sum 35 = .ok (.if_icmp .ne 12, 3) := dk_160 0 12 (dk_at dksX3_sum_1 12 rfl rfl)
theorem dX3_sum_38 : decode cX3_sum 38 = .ok (.aload_n 0, 1) := dk_42 (dk_at dksX3_sum_1 15 rfl rfl)
theorem dX3_sum_39 : decode cX3_sum 39 = .ok (.iload 4, 2) := dk_21 4 (dk_at dksX3_sum_1 16 rfl rfl)
theorem dX3_sum_41 : decode cX3_sum 41 = .ok (.invokevirtual 94, 3) := dk_182 0 94 (dk_at dksX3_sum_1 18 rfl rfl)
theorem dX3_sum_44 : decode cX3_sum 44 = .ok (.goto 14, 3) := dk_167 0 14 (dk_at dksX3_sum_1 21 rfl rfl)
theorem dX3_sum_47 : decode cX3_sum 47 = .ok (.aload_n 0, 1) := dk_42 (dk_at dksX3_sum_2 0 rfl rfl)
theorem dX3_sum_48 : decode cX3_sum 48 = .ok (.getfield 7, 3) := dk_180 0 7 (dk_at dksX3_sum_2 1 rfl rfl)
theorem dX3_sum_51 : decode cX3_sum 51 = .ok (.iload 4, 2) := dk_21 4 (dk_at dksX3_sum_2 4 rfl rfl)
theorem dX3_sum_53 : decode cX3_sum 53 = .ok (.iload_n 2, 1) := dk_28 (dk_at dksX3_sum_2 6 rfl rfl)
theorem dX3_sum_54 : decode cX3_sum 54 = .ok (.invokestatic 64, 3) := dk_184 0 64 (dk_at dksX3_sum_2 7 rfl rfl)
theorem dX3_sum_57 : decode cX3_sum 57 = .ok (.iaload, 1) := dk_46 (dk_at dksX3_sum_2 10 rfl rfl)
theorem dX3_sum_58 : decode cX3_sum 58 = .ok (.iadd, 1) := dk_96 (dk_at dksX3_sum_2 11 rfl rfl)
theorem dX3_sum_59 : decode cX3_sum 59 = .ok (.istore_n 3, 1) := dk_62 (dk_at dksX3_sum_2 12 rfl rfl)
theorem dX3_sum_60 : decode cX3_sum 60 = .ok (.iinc 4 1, 3) := dk_132 4 1 (dk_at dksX3_sum_2 13 rfl rfl)
theorem dX3_sum_63 : decode cX3_sum 63 = .ok (.goto (-58), 3) := dk_167 255 198 (dk_at dksX3_sum_2 16 rfl rfl)
theorem dX3_sum_66 : decode cX3_sum 66 = .ok (.iload_n 3, 1) := dk_29 (dk_at dksX3_sum_2 19 rfl rfl)
theorem dX3_sum_67 : decode cX3_sum 67 = .ok (.ireturn, 1) := dk_172 (dk_at dksX3_sum_2 20 rfl rfl)
def dkwX3_hoursOf_1 : List UInt8 := [3, 96, 61, 132, 3, 1, 167, 255, 230, 28, 172]
abbrev dktX3_hoursOf_1 : List UInt8 := dkwX3_hoursOf_1 ++ []
def dkwX3_hoursOf_0 : List UInt8 := [3, 61, 3, 62, 29, 16, 24, 162, 0, 26, 28, 42, 29, 182, 0, 142, 27, 160, 0, 7, 4, 167, 0, 4]
abbrev dktX3_hoursOf_0 : List UInt8 := dkwX3_hoursOf_0 ++ dktX3_hoursOf_1
theorem dksX3_hoursOf_0 : cX3_hoursOf.data.toList.drop 0 = dktX3_hoursOf_0 := by decide +kernel
theorem dksX3_hoursOf_1 : cX3_hoursOf.data.toList.drop 24 = dktX3_hoursOf_1 := dk_seg dksX3_hoursOf_0 24 rfl rfl
theorem dX3_hoursOf_0 : decode cX3_hoursOf 0 = .ok (.iconst 0, 1) := dk_3 (dk_at dksX3_hoursOf_0 0 rfl rfl)
theorem dX3_hoursOf_1 : decode cX3_hoursOf 1 = .ok (.istore_n 2, 1) := dk_61 (dk_at dksX3_hoursOf_0 1 rfl rfl)
theorem dX3_hoursOf_2 : decode cX3_hoursOf 2 = .ok (.iconst 0, 1) := dk_3 (dk_at dksX3_hoursOf_0 2 rfl rfl)
theorem dX3_hoursOf_3 : decode cX3_hoursOf 3 = .ok (.istore_n 3, 1) := dk_62 (dk_at dksX3_hoursOf_0 3 rfl rfl)
theorem dX3_hoursOf_4 : decode cX3_hoursOf 4 = .ok (.iload_n 3, 1) := dk_29 (dk_at dksX3_hoursOf_0 4 rfl rfl)
theorem dX3_hoursOf_5 : decode cX3_hoursOf 5 = .ok (.bipush 24, 2) := dk_16 24 (dk_at dksX3_hoursOf_0 5 rfl rfl)
theorem dX3_hoursOf_7 : decode cX3_hoursOf 7 = .ok (.if_icmp .ge 26, 3) := dk_162 0 26 (dk_at dksX3_hoursOf_0 7 rfl rfl)
theorem dX3_hoursOf_10 : decode cX3_hoursOf 10 = .ok (.iload_n 2, 1) := dk_28 (dk_at dksX3_hoursOf_0 10 rfl rfl)
theorem dX3_hoursOf_11 : decode cX3_hoursOf 11 = .ok (.aload_n 0, 1) := dk_42 (dk_at dksX3_hoursOf_0 11 rfl rfl)
theorem dX3_hoursOf_12 : decode cX3_hoursOf 12 = .ok (.iload_n 3, 1) := dk_29 (dk_at dksX3_hoursOf_0 12 rfl rfl)
theorem dX3_hoursOf_13 : decode cX3_hoursOf 13 = .ok (.invokevirtual 142, 3) := dk_182 0 142 (dk_at dksX3_hoursOf_0 13 rfl rfl)
theorem dX3_hoursOf_16 : decode cX3_hoursOf 16 = .ok (.iload_n 1, 1) := dk_27 (dk_at dksX3_hoursOf_0 16 rfl rfl)
theorem dX3_hoursOf_17 : decode cX3_hoursOf 17 = .ok (.if_icmp .ne 7, 3) := dk_160 0 7 (dk_at dksX3_hoursOf_0 17 rfl rfl)
theorem dX3_hoursOf_20 : decode cX3_hoursOf 20 = .ok (.iconst 1, 1) := dk_4 (dk_at dksX3_hoursOf_0 20 rfl rfl)
theorem dX3_hoursOf_21 : decode cX3_hoursOf 21 = .ok (.goto 4, 3) := dk_167 0 4 (dk_at dksX3_hoursOf_0 21 rfl rfl)
theorem dX3_hoursOf_24 : decode cX3_hoursOf 24 = .ok (.iconst 0, 1) := dk_3 (dk_at dksX3_hoursOf_1 0 rfl rfl)
theorem dX3_hoursOf_25 : decode cX3_hoursOf 25 = .ok (.iadd, 1) := dk_96 (dk_at dksX3_hoursOf_1 1 rfl rfl)
theorem dX3_hoursOf_26 : decode cX3_hoursOf 26 = .ok (.istore_n 2, 1) := dk_61 (dk_at dksX3_hoursOf_1 2 rfl rfl)
theorem dX3_hoursOf_27 : decode cX3_hoursOf 27 = .ok (.iinc 3 1, 3) := dk_132 3 1 (dk_at dksX3_hoursOf_1 3 rfl rfl)
theorem dX3_hoursOf_30 : decode cX3_hoursOf 30 = .ok (.goto (-26), 3) := dk_167 255 230 (dk_at dksX3_hoursOf_1 6 rfl rfl)
theorem dX3_hoursOf_33 : decode cX3_hoursOf 33 = .ok (.iload_n 2, 1) := dk_28 (dk_at dksX3_hoursOf_1 9 rfl rfl)
theorem dX3_hoursOf_34 : decode cX3_hoursOf 34 = .ok (.ireturn, 1) := dk_172 (dk_at dksX3_hoursOf_1 10 rfl rfl)
def dkwX3_busiest_2 : List UInt8 := [180, 0, 7, 17, 0, 211, 27, 96, 46, 154, 0, 9, 17, 252, 9, 167, 0, 4, 27, 172]
abbrev dktX3_busiest_2 : List UInt8 := dkwX3_busiest_2 ++ []
def dkwX3_busiest_1 : List UInt8 := [180, 0, 7, 17, 0, 211, 27, 96, 46, 184, 0, 154, 164, 0, 5, 28, 60, 132, 2, 1, 167, 255, 216, 42]
abbrev dktX3_busiest_1 : List UInt8 := dkwX3_busiest_1 ++ dktX3_busiest_2
def dkwX3_busiest_0 : List UInt8 := [3, 60, 4, 61, 28, 16, 24, 162, 0, 40, 42, 180, 0, 7, 17, 0, 211, 28, 96, 46, 184, 0, 154, 42]
abbrev dktX3_busiest_0 : List UInt8 := dkwX3_busiest_0 ++ dktX3_busiest_1
theorem dksX3_busiest_0 : cX3_busiest.data.toList.drop 0 = dktX3_busiest_0 := by decide +kernel
theorem dksX3_busiest_1 : cX3_busiest.data.toList.drop 24 = dktX3_busiest_1 := dk_seg dksX3_busiest_0 24 rfl rfl
theorem dksX3_busiest_2 : cX3_busiest.data.toList.drop 48 = dktX3_busiest_2 := dk_seg dksX3_busiest_1 24 rfl rfl
theorem dX3_busiest_0 : decode cX3_busiest 0 = .ok (.iconst 0, 1) := dk_3 (dk_at dksX3_busiest_0 0 rfl rfl)
theorem dX3_busiest_1 : decode cX3_busiest 1 = .ok (.istore_n 1, 1) := dk_60 (dk_at dksX3_busiest_0 1 rfl rfl)
theorem dX3_busiest_2 : decode cX3_busiest 2 = .ok (.iconst 1, 1) := dk_4 (dk_at dksX3_busiest_0 2 rfl rfl)
theorem dX3_busiest_3 : decode cX3_busiest 3 = .ok (.istore_n 2, 1) := dk_61 (dk_at dksX3_busiest_0 3 rfl rfl)
theorem dX3_busiest_4 : decode cX3_busiest 4 = .ok (.iload_n 2, 1) := dk_28 (dk_at dksX3_busiest_0 4 rfl rfl)
theorem dX3_busiest_5 : decode cX3_busiest 5 = .ok (.bipush 24, 2) := dk_16 24 (dk_at dksX3_busiest_0 5 rfl rfl)
theorem dX3_busiest_7 : decode cX3_busiest 7 = .ok (.if_icmp .ge 40, 3) := dk_162 0 40 (dk_at dksX3_busiest_0 7 rfl rfl)
theorem dX3_busiest_10 : decode cX3_busiest 10 = .ok (.aload_n 0, 1) := dk_42 (dk_at dksX3_busiest_0 10 rfl rfl)
theorem dX3_busiest_11 : decode cX3_busiest 11 = .ok (.getfield 7, 3) := dk_180 0 7 (dk_at dksX3_busiest_0 11 rfl rfl)
theorem dX3_busiest_14 : decode cX3_busiest 14 = .ok (.sipush 211, 3) := dk_17 0 211 (dk_at dksX3_busiest_0 14 rfl rfl)
theorem dX3_busiest_17 : decode cX3_busiest 17 = .ok (.iload_n 2, 1) := dk_28 (dk_at dksX3_busiest_0 17 rfl rfl)
theorem dX3_busiest_18 : decode cX3_busiest 18 = .ok (.iadd, 1) := dk_96 (dk_at dksX3_busiest_0 18 rfl rfl)
theorem dX3_busiest_19 : decode cX3_busiest 19 = .ok (.iaload, 1) := dk_46 (dk_at dksX3_busiest_0 19 rfl rfl)
theorem dX3_busiest_20 : decode cX3_busiest 20 = .ok (.invokestatic 154, 3) := dk_184 0 154 (dk_at dksX3_busiest_0 20 rfl rfl)
theorem dX3_busiest_23 : decode cX3_busiest 23 = .ok (.aload_n 0, 1) := dk_42 (dk_at dksX3_busiest_0 23 rfl rfl)
theorem dX3_busiest_24 : decode cX3_busiest 24 = .ok (.getfield 7, 3) := dk_180 0 7 (dk_at dksX3_busiest_1 0 rfl rfl)
theorem dX3_busiest_27 : decode cX3_busiest 27 = .ok (.sipush 211, 3) := dk_17 0 211 (dk_at dksX3_busiest_1 3 rfl rfl)
theorem dX3_busiest_30 : decode cX3_busiest 30 = .ok (.iload_n 1, 1) := dk_27 (dk_at dksX3_busiest_1 6 rfl rfl)
theorem dX3_busiest_31 : decode cX3_busiest 31 = .ok (.iadd, 1) := dk_96 (dk_at dksX3_busiest_1 7 rfl rfl)
theorem dX3_busiest_32 : decode cX3_busiest 32 = .ok (.iaload, 1) := dk_46 (dk_at dksX3_busiest_1 8 rfl rfl)
theorem dX3_busiest_33 : decode cX3_busiest 33 = .ok (.invokestatic 154, 3) := dk_184 0 154 (dk_at dksX3_busiest_1 9 rfl rfl)
theorem dX3_busiest_36 : decode cX3_busiest 36 = .ok (.if_icmp .le 5, 3) := dk_164 0 5 (dk_at dksX3_busiest_1 12 rfl rfl)
theorem dX3_busiest_39 : decode cX3_busiest 39 = .ok (.iload_n 2, 1) := dk_28 (dk_at dksX3_busiest_1 15 rfl rfl)
theorem dX3_busiest_40 : decode cX3_busiest 40 = .ok (.istore_n 1, 1) := dk_60 (dk_at dksX3_busiest_1 16 rfl rfl)
theorem dX3_busiest_41 : decode cX3_busiest 41 = .ok (.iinc 2 1, 3) := dk_132 2 1 (dk_at dksX3_busiest_1 17 rfl rfl)
theorem dX3_busiest_44 : decode cX3_busiest 44 = .ok (.goto (-40), 3) := dk_167 255 216 (dk_at dksX3_busiest_1 20 rfl rfl)
theorem dX3_busiest_47 : decode cX3_busiest 47 = .ok (.aload_n 0, 1) := dk_42 (dk_at dksX3_busiest_1 23 rfl rfl)
theorem dX3_busiest_48 : decode cX3_busiest 48 = .ok (.getfield 7, 3) := dk_180 0 7 (dk_at dksX3_busiest_2 0 rfl rfl)
theorem dX3_busiest_51 : decode cX3_busiest 51 = .ok (.sipush 211, 3) := dk_17 0 211 (dk_at dksX3_busiest_2 3 rfl rfl)
theorem dX3_busiest_54 : decode cX3_busiest 54 = .ok (.iload_n 1, 1) := dk_27 (dk_at dksX3_busiest_2 6 rfl rfl)
theorem dX3_busiest_55 : decode cX3_busiest 55 = .ok (.iadd, 1) := dk_96 (dk_at dksX3_busiest_2 7 rfl rfl)
theorem dX3_busiest_56 : decode cX3_busiest 56 = .ok (.iaload, 1) := dk_46 (dk_at dksX3_busiest_2 8 rfl rfl)
theorem dX3_busiest_57 : decode cX3_busiest 57 = .ok (.ifCond .ne 9, 3) := dk_154 0 9 (dk_at dksX3_busiest_2 9 rfl rfl)
theorem dX3_busiest_60 : decode cX3_busiest 60 = .ok (.sipush (-1015), 3) := dk_17 252 9 (dk_at dksX3_busiest_2 12 rfl rfl)
theorem dX3_busiest_63 : decode cX3_busiest 63 = .ok (.goto 4, 3) := dk_167 0 4 (dk_at dksX3_busiest_2 15 rfl rfl)
theorem dX3_busiest_66 : decode cX3_busiest 66 = .ok (.iload_n 1, 1) := dk_27 (dk_at dksX3_busiest_2 18 rfl rfl)
theorem dX3_busiest_67 : decode cX3_busiest 67 = .ok (.ireturn, 1) := dk_172 (dk_at dksX3_busiest_2 19 rfl rfl)
def dkwX3_bits_0 : List UInt8 := [3, 60, 26, 61, 28, 153, 0, 15, 132, 1, 1, 28, 28, 4, 100, 126, 61, 167, 255, 243, 27, 172]
abbrev dktX3_bits_0 : List UInt8 := dkwX3_bits_0 ++ []
theorem dksX3_bits_0 : cX3_bits.data.toList.drop 0 = dktX3_bits_0 := by decide +kernel
theorem dX3_bits_0 : decode cX3_bits 0 = .ok (.iconst 0, 1) := dk_3 (dk_at dksX3_bits_0 0 rfl rfl)
theorem dX3_bits_1 : decode cX3_bits 1 = .ok (.istore_n 1, 1) := dk_60 (dk_at dksX3_bits_0 1 rfl rfl)
theorem dX3_bits_2 : decode cX3_bits 2 = .ok (.iload_n 0, 1) := dk_26 (dk_at dksX3_bits_0 2 rfl rfl)
theorem dX3_bits_3 : decode cX3_bits 3 = .ok (.istore_n 2, 1) := dk_61 (dk_at dksX3_bits_0 3 rfl rfl)
theorem dX3_bits_4 : decode cX3_bits 4 = .ok (.iload_n 2, 1) := dk_28 (dk_at dksX3_bits_0 4 rfl rfl)
theorem dX3_bits_5 : decode cX3_bits 5 = .ok (.ifCond .eq 15, 3) := dk_153 0 15 (dk_at dksX3_bits_0 5 rfl rfl)
theorem dX3_bits_8 : decode cX3_bits 8 = .ok (.iinc 1 1, 3) := dk_132 1 1 (dk_at dksX3_bits_0 8 rfl rfl)
theorem dX3_bits_11 : decode cX3_bits 11 = .ok (.iload_n 2, 1) := dk_28 (dk_at dksX3_bits_0 11 rfl rfl)
theorem dX3_bits_12 : decode cX3_bits 12 = .ok (.iload_n 2, 1) := dk_28 (dk_at dksX3_bits_0 12 rfl rfl)
theorem dX3_bits_13 : decode cX3_bits 13 = .ok (.iconst 1, 1) := dk_4 (dk_at dksX3_bits_0 13 rfl rfl)
theorem dX3_bits_14 : decode cX3_bits 14 = .ok (.isub, 1) := dk_100 (dk_at dksX3_bits_0 14 rfl rfl)
theorem dX3_bits_15 : decode cX3_bits 15 = .ok (.iand, 1) := dk_126 (dk_at dksX3_bits_0 15 rfl rfl)
theorem dX3_bits_16 : decode cX3_bits 16 = .ok (.istore_n 2, 1) := dk_61 (dk_at dksX3_bits_0 16 rfl rfl)
theorem dX3_bits_17 : decode cX3_bits 17 = .ok (.goto (-13), 3) := dk_167 255 243 (dk_at dksX3_bits_0 17 rfl rfl)
theorem dX3_bits_20 : decode cX3_bits 20 = .ok (.iload_n 1, 1) := dk_27 (dk_at dksX3_bits_0 20 rfl rfl)
theorem dX3_bits_21 : decode cX3_bits 21 = .ok (.ireturn, 1) := dk_172 (dk_at dksX3_bits_0 21 rfl rfl)
def dkwX3_rustiest_5 : List UInt8 := [167, 255, 154, 29, 27, 160, 0, 5, 28, 172, 132, 2, 1, 167, 255, 126, 17, 252, 13, 172]
abbrev dktX3_rustiest_5 : List UInt8 := dkwX3_rustiest_5 ++ []
def dkwX3_rustiest_4 : List UInt8 := [157, 0, 14, 21, 5, 154, 0, 13, 21, 4, 28, 162, 0, 7, 4, 167, 0, 4, 3, 96, 62, 132, 4, 1]
abbrev dktX3_rustiest_4 : List UInt8 := dkwX3_rustiest_4 ++ dktX3_rustiest_5
def dkwX3_rustiest_3 : List UInt8 := [42, 180, 0, 7, 21, 4, 6, 184, 0, 64, 46, 100, 54, 5, 29, 21, 4, 28, 159, 0, 23, 21, 5]
abbrev dktX3_rustiest_3 : List UInt8 := dkwX3_rustiest_3 ++ dktX3_rustiest_4
def dkwX3_rustiest_2 : List UInt8 := [46, 100, 54, 5, 21, 5, 153, 0, 8, 21, 5, 167, 0, 25, 42, 180, 0, 7, 28, 6, 184, 0, 64, 46]
abbrev dktX3_rustiest_2 : List UInt8 := dkwX3_rustiest_2 ++ dktX3_rustiest_3
def dkwX3_rustiest_1 : List UInt8 := [46, 162, 0, 97, 42, 180, 0, 7, 21, 4, 5, 184, 0, 64, 46, 42, 180, 0, 7, 28, 5, 184, 0, 64]
abbrev dktX3_rustiest_1 : List UInt8 := dkwX3_rustiest_1 ++ dktX3_rustiest_2
def dkwX3_rustiest_0 : List UInt8 := [3, 61, 28, 42, 180, 0, 7, 3, 46, 162, 0, 126, 3, 62, 3, 54, 4, 21, 4, 42, 180, 0, 7, 3]
abbrev dktX3_rustiest_0 : List UInt8 := dkwX3_rustiest_0 ++ dktX3_rustiest_1
theorem dksX3_rustiest_0 : cX3_rustiest.data.toList.drop 0 = dktX3_rustiest_0 := by decide +kernel
theorem dksX3_rustiest_1 : cX3_rustiest.data.toList.drop 24 = dktX3_rustiest_1 := dk_seg dksX3_rustiest_0 24 rfl rfl
theorem dksX3_rustiest_2 : cX3_rustiest.data.toList.drop 48 = dktX3_rustiest_2 := dk_seg dksX3_rustiest_1 24 rfl rfl
theorem dksX3_rustiest_3 : cX3_rustiest.data.toList.drop 72 = dktX3_rustiest_3 := dk_seg dksX3_rustiest_2 24 rfl rfl
theorem dksX3_rustiest_4 : cX3_rustiest.data.toList.drop 95 = dktX3_rustiest_4 := dk_seg dksX3_rustiest_3 23 rfl rfl
theorem dksX3_rustiest_5 : cX3_rustiest.data.toList.drop 119 = dktX3_rustiest_5 := dk_seg dksX3_rustiest_4 24 rfl rfl
theorem dX3_rustiest_0 : decode cX3_rustiest 0 = .ok (.iconst 0, 1) := dk_3 (dk_at dksX3_rustiest_0 0 rfl rfl)
theorem dX3_rustiest_1 : decode cX3_rustiest 1 = .ok (.istore_n 2, 1) := dk_61 (dk_at dksX3_rustiest_0 1 rfl rfl)
theorem dX3_rustiest_2 : decode cX3_rustiest 2 = .ok (.iload_n 2, 1) := dk_28 (dk_at dksX3_rustiest_0 2 rfl rfl)
theorem dX3_rustiest_3 : decode cX3_rustiest 3 = .ok (.aload_n 0, 1) := dk_42 (dk_at dksX3_rustiest_0 3 rfl rfl)
theorem dX3_rustiest_4 : decode cX3_rustiest 4 = .ok (.getfield 7, 3) := dk_180 0 7 (dk_at dksX3_rustiest_0 4 rfl rfl)
theorem dX3_rustiest_7 : decode cX3_rustiest 7 = .ok (.iconst 0, 1) := dk_3 (dk_at dksX3_rustiest_0 7 rfl rfl)
theorem dX3_rustiest_8 : decode cX3_rustiest 8 = .ok (.iaload, 1) := dk_46 (dk_at dksX3_rustiest_0 8 rfl rfl)
theorem dX3_rustiest_9 : decode cX3_rustiest 9 = .ok (.if_icmp .ge 126, 3) := dk_162 0 126 (dk_at dksX3_rustiest_0 9 rfl rfl)
theorem dX3_rustiest_12 : decode cX3_rustiest 12 = .ok (.iconst 0, 1) := dk_3 (dk_at dksX3_rustiest_0 12 rfl rfl)
theorem dX3_rustiest_13 : decode cX3_rustiest 13 = .ok (.istore_n 3, 1) := dk_62 (dk_at dksX3_rustiest_0 13 rfl rfl)
theorem dX3_rustiest_14 : decode cX3_rustiest 14 = .ok (.iconst 0, 1) := dk_3 (dk_at dksX3_rustiest_0 14 rfl rfl)
theorem dX3_rustiest_15 : decode cX3_rustiest 15 = .ok (.istore 4, 2) := dk_54 4 (dk_at dksX3_rustiest_0 15 rfl rfl)
theorem dX3_rustiest_17 : decode cX3_rustiest 17 = .ok (.iload 4, 2) := dk_21 4 (dk_at dksX3_rustiest_0 17 rfl rfl)
theorem dX3_rustiest_19 : decode cX3_rustiest 19 = .ok (.aload_n 0, 1) := dk_42 (dk_at dksX3_rustiest_0 19 rfl rfl)
theorem dX3_rustiest_20 : decode cX3_rustiest 20 = .ok (.getfield 7, 3) := dk_180 0 7 (dk_at dksX3_rustiest_0 20 rfl rfl)
theorem dX3_rustiest_23 : decode cX3_rustiest 23 = .ok (.iconst 0, 1) := dk_3 (dk_at dksX3_rustiest_0 23 rfl rfl)
theorem dX3_rustiest_24 : decode cX3_rustiest 24 = .ok (.iaload, 1) := dk_46 (dk_at dksX3_rustiest_1 0 rfl rfl)
theorem dX3_rustiest_25 : decode cX3_rustiest 25 = .ok (.if_icmp .ge 97, 3) := dk_162 0 97 (dk_at dksX3_rustiest_1 1 rfl rfl)
theorem dX3_rustiest_28 : decode cX3_rustiest 28 = .ok (.aload_n 0, 1) := dk_42 (dk_at dksX3_rustiest_1 4 rfl rfl)
theorem dX3_rustiest_29 : decode cX3_rustiest 29 = .ok (.getfield 7, 3) := dk_180 0 7 (dk_at dksX3_rustiest_1 5 rfl rfl)
theorem dX3_rustiest_32 : decode cX3_rustiest 32 = .ok (.iload 4, 2) := dk_21 4 (dk_at dksX3_rustiest_1 8 rfl rfl)
theorem dX3_rustiest_34 : decode cX3_rustiest 34 = .ok (.iconst 2, 1) := dk_5 (dk_at dksX3_rustiest_1 10 rfl rfl)
theorem dX3_rustiest_35 : decode cX3_rustiest 35 = .ok (.invokestatic 64, 3) := dk_184 0 64 (dk_at dksX3_rustiest_1 11 rfl rfl)
theorem dX3_rustiest_38 : decode cX3_rustiest 38 = .ok (.iaload, 1) := dk_46 (dk_at dksX3_rustiest_1 14 rfl rfl)
theorem dX3_rustiest_39 : decode cX3_rustiest 39 = .ok (.aload_n 0, 1) := dk_42 (dk_at dksX3_rustiest_1 15 rfl rfl)
theorem dX3_rustiest_40 : decode cX3_rustiest 40 = .ok (.getfield 7, 3) := dk_180 0 7 (dk_at dksX3_rustiest_1 16 rfl rfl)
theorem dX3_rustiest_43 : decode cX3_rustiest 43 = .ok (.iload_n 2, 1) := dk_28 (dk_at dksX3_rustiest_1 19 rfl rfl)
theorem dX3_rustiest_44 : decode cX3_rustiest 44 = .ok (.iconst 2, 1) := dk_5 (dk_at dksX3_rustiest_1 20 rfl rfl)
theorem dX3_rustiest_45 : decode cX3_rustiest 45 = .ok (.invokestatic 64, 3) := dk_184 0 64 (dk_at dksX3_rustiest_1 21 rfl rfl)
theorem dX3_rustiest_48 : decode cX3_rustiest 48 = .ok (.iaload, 1) := dk_46 (dk_at dksX3_rustiest_2 0 rfl rfl)
theorem dX3_rustiest_49 : decode cX3_rustiest 49 = .ok (.isub, 1) := dk_100 (dk_at dksX3_rustiest_2 1 rfl rfl)
theorem dX3_rustiest_50 : decode cX3_rustiest 50 = .ok (.istore 5, 2) := dk_54 5 (dk_at dksX3_rustiest_2 2 rfl rfl)
theorem dX3_rustiest_52 : decode cX3_rustiest 52 = .ok (.iload 5, 2) := dk_21 5 (dk_at dksX3_rustiest_2 4 rfl rfl)
theorem dX3_rustiest_54 : decode cX3_rustiest 54 = .ok (.ifCond .eq 8, 3) := dk_153 0 8 (dk_at dksX3_rustiest_2 6 rfl rfl)
theorem dX3_rustiest_57 : decode cX3_rustiest 57 = .ok (.iload 5, 2) := dk_21 5 (dk_at dksX3_rustiest_2 9 rfl rfl)
theorem dX3_rustiest_59 : decode cX3_rustiest 59 = .ok (.goto 25, 3) := dk_167 0 25 (dk_at dksX3_rustiest_2 11 rfl rfl)
theorem dX3_rustiest_62 : decode cX3_rustiest 62 = .ok (.aload_n 0, 1) := dk_42 (dk_at dksX3_rustiest_2 14 rfl rfl)
theorem dX3_rustiest_63 : decode cX3_rustiest 63 = .ok (.getfield 7, 3) := dk_180 0 7 (dk_at dksX3_rustiest_2 15 rfl rfl)
theorem dX3_rustiest_66 : decode cX3_rustiest 66 = .ok (.iload_n 2, 1) := dk_28 (dk_at dksX3_rustiest_2 18 rfl rfl)
theorem dX3_rustiest_67 : decode cX3_rustiest 67 = .ok (.iconst 3, 1) := dk_6 (dk_at dksX3_rustiest_2 19 rfl rfl)
theorem dX3_rustiest_68 : decode cX3_rustiest 68 = .ok (.invokestatic 64, 3) := dk_184 0 64 (dk_at dksX3_rustiest_2 20 rfl rfl)
theorem dX3_rustiest_71 : decode cX3_rustiest 71 = .ok (.iaload, 1) := dk_46 (dk_at dksX3_rustiest_2 23 rfl rfl)
theorem dX3_rustiest_72 : decode cX3_rustiest 72 = .ok (.aload_n 0, 1) := dk_42 (dk_at dksX3_rustiest_3 0 rfl rfl)
theorem dX3_rustiest_73 : decode cX3_rustiest 73 = .ok (.getfield 7, 3) := dk_180 0 7 (dk_at dksX3_rustiest_3 1 rfl rfl)
theorem dX3_rustiest_76 : decode cX3_rustiest 76 = .ok (.iload 4, 2) := dk_21 4 (dk_at dksX3_rustiest_3 4 rfl rfl)
theorem dX3_rustiest_78 : decode cX3_rustiest 78 = .ok (.iconst 3, 1) := dk_6 (dk_at dksX3_rustiest_3 6 rfl rfl)
theorem dX3_rustiest_79 : decode cX3_rustiest 79 = .ok (.invokestatic 64, 3) := dk_184 0 64 (dk_at dksX3_rustiest_3 7 rfl rfl)
theorem dX3_rustiest_82 : decode cX3_rustiest 82 = .ok (.iaload, 1) := dk_46 (dk_at dksX3_rustiest_3 10 rfl rfl)
theorem dX3_rustiest_83 : decode cX3_rustiest 83 = .ok (.isub, 1) := dk_100 (dk_at dksX3_rustiest_3 11 rfl rfl)
theorem dX3_rustiest_84 : decode cX3_rustiest 84 = .ok (.istore 5, 2) := dk_54 5 (dk_at dksX3_rustiest_3 12 rfl rfl)
theorem dX3_rustiest_86 : decode cX3_rustiest 86 = .ok (.iload_n 3, 1) := dk_29 (dk_at dksX3_rustiest_3 14 rfl rfl)
theorem dX3_rustiest_87 : decode cX3_rustiest 87 = .ok (.iload 4, 2) := dk_21 4 (dk_at dksX3_rustiest_3 15 rfl rfl)
theorem dX3_rustiest_89 : decode cX3_rustiest 89 = .ok (.iload_n 2, 1) := dk_28 (dk_at dksX3_rustiest_3 17 rfl rfl)
theorem dX3_rustiest_90 : decode cX3_rustiest 90 = .ok (.if_icmp .eq 23, 3) := dk_159 0 23 (dk_at dksX3_rustiest_3 18 rfl rfl)
theorem dX3_rustiest_93 : decode cX3_rustiest 93 = .ok (.iload 5, 2) := dk_21 5 (dk_at dksX3_rustiest_3 21 rfl rfl)
theorem dX3_rustiest_95 : decode cX3_rustiest 95 = .ok (.ifCond .gt 14, 3) := dk_157 0 14 (dk_at dksX3_rustiest_4 0 rfl rfl)
theorem dX3_rustiest_98 : decode cX3_rustiest 98 = .ok (.iload 5, 2) := dk_21 5 (dk_at dksX3_rustiest_4 3 rfl rfl)
theorem dX3_rustiest_100 : decode cX3_rustiest 100 = .ok (.ifCond .ne 13, 3) := dk_154 0 13 (dk_at dksX3_rustiest_4 5 rfl rfl)
theorem dX3_rustiest_103 : decode cX3_rustiest 103 = .ok (.iload 4, 2) := dk_21 4 (dk_at dksX3_rustiest_4 8 rfl rfl)
theorem dX3_rustiest_105 : decode cX3_rustiest 105 = .ok (.iload_n 2, 1) := dk_28 (dk_at dksX3_rustiest_4 10 rfl rfl)
theorem dX3_rustiest_106 : decode cX3_rustiest 106 = .ok (.if_icmp .ge 7, 3) := dk_162 0 7 (dk_at dksX3_rustiest_4 11 rfl rfl)
theorem dX3_rustiest_109 : decode cX3_rustiest 109 = .ok (.iconst 1, 1) := dk_4 (dk_at dksX3_rustiest_4 14 rfl rfl)
theorem dX3_rustiest_110 : decode cX3_rustiest 110 = .ok (.goto 4, 3) := dk_167 0 4 (dk_at dksX3_rustiest_4 15 rfl rfl)
theorem dX3_rustiest_113 : decode cX3_rustiest 113 = .ok (.iconst 0, 1) := dk_3 (dk_at dksX3_rustiest_4 18 rfl rfl)
theorem dX3_rustiest_114 : decode cX3_rustiest 114 = .ok (.iadd, 1) := dk_96 (dk_at dksX3_rustiest_4 19 rfl rfl)
theorem dX3_rustiest_115 : decode cX3_rustiest 115 = .ok (.istore_n 3, 1) := dk_62 (dk_at dksX3_rustiest_4 20 rfl rfl)
theorem dX3_rustiest_116 : decode cX3_rustiest 116 = .ok (.iinc 4 1, 3) := dk_132 4 1 (dk_at dksX3_rustiest_4 21 rfl rfl)
theorem dX3_rustiest_119 : decode cX3_rustiest 119 = .ok (.goto (-102), 3) := dk_167 255 154 (dk_at dksX3_rustiest_5 0 rfl rfl)
theorem dX3_rustiest_122 : decode cX3_rustiest 122 = .ok (.iload_n 3, 1) := dk_29 (dk_at dksX3_rustiest_5 3 rfl rfl)
theorem dX3_rustiest_123 : decode cX3_rustiest 123 = .ok (.iload_n 1, 1) := dk_27 (dk_at dksX3_rustiest_5 4 rfl rfl)
theorem dX3_rustiest_124 : decode cX3_rustiest 124 = .ok (.if_icmp .ne 5, 3) := dk_160 0 5 (dk_at dksX3_rustiest_5 5 rfl rfl)
theorem dX3_rustiest_127 : decode cX3_rustiest 127 = .ok (.iload_n 2, 1) := dk_28 (dk_at dksX3_rustiest_5 8 rfl rfl)
theorem dX3_rustiest_128 : decode cX3_rustiest 128 = .ok (.ireturn, 1) := dk_172 (dk_at dksX3_rustiest_5 9 rfl rfl)
theorem dX3_rustiest_129 : decode cX3_rustiest 129 = .ok (.iinc 2 1, 3) := dk_132 2 1 (dk_at dksX3_rustiest_5 10 rfl rfl)
theorem dX3_rustiest_132 : decode cX3_rustiest 132 = .ok (.goto (-130), 3) := dk_167 255 126 (dk_at dksX3_rustiest_5 13 rfl rfl)
theorem dX3_rustiest_135 : decode cX3_rustiest 135 = .ok (.sipush (-1011), 3) := dk_17 252 13 (dk_at dksX3_rustiest_5 16 rfl rfl)
theorem dX3_rustiest_138 : decode cX3_rustiest 138 = .ok (.ireturn, 1) := dk_172 (dk_at dksX3_rustiest_5 19 rfl rfl)
def dkwX3_ranked_4 : List UInt8 := [167, 255, 175, 29, 27, 160, 0, 5, 28, 172, 132, 2, 1, 167, 255, 152, 17, 252, 13, 172]
abbrev dktX3_ranked_4 : List UInt8 := dkwX3_ranked_4 ++ []
def dkwX3_ranked_3 : List UInt8 := [157, 0, 14, 21, 5, 154, 0, 13, 21, 4, 28, 162, 0, 7, 4, 167, 0, 4, 3, 96, 62, 132, 4, 1]
abbrev dktX3_ranked_3 : List UInt8 := dkwX3_ranked_3 ++ dktX3_ranked_4
def dkwX3_ranked_2 : List UInt8 := [21, 4, 2, 182, 0, 139, 42, 28, 2, 182, 0, 139, 100, 54, 5, 29, 21, 4, 28, 159, 0, 23, 21, 5]
abbrev dktX3_ranked_2 : List UInt8 := dkwX3_ranked_2 ++ dktX3_ranked_3
def dkwX3_ranked_1 : List UInt8 := [182, 0, 148, 42, 28, 6, 182, 0, 148, 100, 54, 5, 21, 5, 153, 0, 8, 21, 5, 167, 0, 17, 42]
abbrev dktX3_ranked_1 : List UInt8 := dkwX3_ranked_1 ++ dktX3_ranked_2
def dkwX3_ranked_0 : List UInt8 := [3, 61, 28, 7, 162, 0, 105, 3, 62, 3, 54, 4, 21, 4, 7, 162, 0, 81, 42, 21, 4, 6]
abbrev dktX3_ranked_0 : List UInt8 := dkwX3_ranked_0 ++ dktX3_ranked_1
theorem dksX3_ranked_0 : cX3_ranked.data.toList.drop 0 = dktX3_ranked_0 := by decide +kernel
theorem dksX3_ranked_1 : cX3_ranked.data.toList.drop 22 = dktX3_ranked_1 := dk_seg dksX3_ranked_0 22 rfl rfl
theorem dksX3_ranked_2 : cX3_ranked.data.toList.drop 45 = dktX3_ranked_2 := dk_seg dksX3_ranked_1 23 rfl rfl
theorem dksX3_ranked_3 : cX3_ranked.data.toList.drop 69 = dktX3_ranked_3 := dk_seg dksX3_ranked_2 24 rfl rfl
theorem dksX3_ranked_4 : cX3_ranked.data.toList.drop 93 = dktX3_ranked_4 := dk_seg dksX3_ranked_3 24 rfl rfl
theorem dX3_ranked_0 : decode cX3_ranked 0 = .ok (.iconst 0, 1) := dk_3 (dk_at dksX3_ranked_0 0 rfl rfl)
theorem dX3_ranked_1 : decode cX3_ranked 1 = .ok (.istore_n 2, 1) := dk_61 (dk_at dksX3_ranked_0 1 rfl rfl)
theorem dX3_ranked_2 : decode cX3_ranked 2 = .ok (.iload_n 2, 1) := dk_28 (dk_at dksX3_ranked_0 2 rfl rfl)
theorem dX3_ranked_3 : decode cX3_ranked 3 = .ok (.iconst 4, 1) := dk_7 (dk_at dksX3_ranked_0 3 rfl rfl)
theorem dX3_ranked_4 : decode cX3_ranked 4 = .ok (.if_icmp .ge 105, 3) := dk_162 0 105 (dk_at dksX3_ranked_0 4 rfl rfl)
theorem dX3_ranked_7 : decode cX3_ranked 7 = .ok (.iconst 0, 1) := dk_3 (dk_at dksX3_ranked_0 7 rfl rfl)
theorem dX3_ranked_8 : decode cX3_ranked 8 = .ok (.istore_n 3, 1) := dk_62 (dk_at dksX3_ranked_0 8 rfl rfl)
theorem dX3_ranked_9 : decode cX3_ranked 9 = .ok (.iconst 0, 1) := dk_3 (dk_at dksX3_ranked_0 9 rfl rfl)
theorem dX3_ranked_10 : decode cX3_ranked 10 = .ok (.istore 4, 2) := dk_54 4 (dk_at dksX3_ranked_0 10 rfl rfl)
theorem dX3_ranked_12 : decode cX3_ranked 12 = .ok (.iload 4, 2) := dk_21 4 (dk_at dksX3_ranked_0 12 rfl rfl)
theorem dX3_ranked_14 : decode cX3_ranked 14 = .ok (.iconst 4, 1) := dk_7 (dk_at dksX3_ranked_0 14 rfl rfl)
theorem dX3_ranked_15 : decode cX3_ranked 15 = .ok (.if_icmp .ge 81, 3) := dk_162 0 81 (dk_at dksX3_ranked_0 15 rfl rfl)
theorem dX3_ranked_18 : decode cX3_ranked 18 = .ok (.aload_n 0, 1) := dk_42 (dk_at dksX3_ranked_0 18 rfl rfl)
theorem dX3_ranked_19 : decode cX3_ranked 19 = .ok (.iload 4, 2) := dk_21 4 (dk_at dksX3_ranked_0 19 rfl rfl)
theorem dX3_ranked_21 : decode cX3_ranked 21 = .ok (.iconst 3, 1) := dk_6 (dk_at dksX3_ranked_0 21 rfl rfl)
theorem dX3_ranked_22 : decode cX3_ranked 22 = .ok (.invokevirtual 148, 3) := dk_182 0 148 (dk_at dksX3_ranked_1 0 rfl rfl)
theorem dX3_ranked_25 : decode cX3_ranked 25 = .ok (.aload_n 0, 1) := dk_42 (dk_at dksX3_ranked_1 3 rfl rfl)
theorem dX3_ranked_26 : decode cX3_ranked 26 = .ok (.iload_n 2, 1) := dk_28 (dk_at dksX3_ranked_1 4 rfl rfl)
theorem dX3_ranked_27 : decode cX3_ranked 27 = .ok (.iconst 3, 1) := dk_6 (dk_at dksX3_ranked_1 5 rfl rfl)
theorem dX3_ranked_28 : decode cX3_ranked 28 = .ok (.invokevirtual 148, 3) := dk_182 0 148 (dk_at dksX3_ranked_1 6 rfl rfl)
theorem dX3_ranked_31 : decode cX3_ranked 31 = .ok (.isub, 1) := dk_100 (dk_at dksX3_ranked_1 9 rfl rfl)
theorem dX3_ranked_32 : decode cX3_ranked 32 = .ok (.istore 5, 2) := dk_54 5 (dk_at dksX3_ranked_1 10 rfl rfl)
theorem dX3_ranked_34 : decode cX3_ranked 34 = .ok (.iload 5, 2) := dk_21 5 (dk_at dksX3_ranked_1 12 rfl rfl)
theorem dX3_ranked_36 : decode cX3_ranked 36 = .ok (.ifCond .eq 8, 3) := dk_153 0 8 (dk_at dksX3_ranked_1 14 rfl rfl)
theorem dX3_ranked_39 : decode cX3_ranked 39 = .ok (.iload 5, 2) := dk_21 5 (dk_at dksX3_ranked_1 17 rfl rfl)
theorem dX3_ranked_41 : decode cX3_ranked 41 = .ok (.goto 17, 3) := dk_167 0 17 (dk_at dksX3_ranked_1 19 rfl rfl)
theorem dX3_ranked_44 : decode cX3_ranked 44 = .ok (.aload_n 0, 1) := dk_42 (dk_at dksX3_ranked_1 22 rfl rfl)
theorem dX3_ranked_45 : decode cX3_ranked 45 = .ok (.iload 4, 2) := dk_21 4 (dk_at dksX3_ranked_2 0 rfl rfl)
theorem dX3_ranked_47 : decode cX3_ranked 47 = .ok (.iconst (-1), 1) := dk_2 (dk_at dksX3_ranked_2 2 rfl rfl)
theorem dX3_ranked_48 : decode cX3_ranked 48 = .ok (.invokevirtual 139, 3) := dk_182 0 139 (dk_at dksX3_ranked_2 3 rfl rfl)
theorem dX3_ranked_51 : decode cX3_ranked 51 = .ok (.aload_n 0, 1) := dk_42 (dk_at dksX3_ranked_2 6 rfl rfl)
theorem dX3_ranked_52 : decode cX3_ranked 52 = .ok (.iload_n 2, 1) := dk_28 (dk_at dksX3_ranked_2 7 rfl rfl)
theorem dX3_ranked_53 : decode cX3_ranked 53 = .ok (.iconst (-1), 1) := dk_2 (dk_at dksX3_ranked_2 8 rfl rfl)
theorem dX3_ranked_54 : decode cX3_ranked 54 = .ok (.invokevirtual 139, 3) := dk_182 0 139 (dk_at dksX3_ranked_2 9 rfl rfl)
theorem dX3_ranked_57 : decode cX3_ranked 57 = .ok (.isub, 1) := dk_100 (dk_at dksX3_ranked_2 12 rfl rfl)
theorem dX3_ranked_58 : decode cX3_ranked 58 = .ok (.istore 5, 2) := dk_54 5 (dk_at dksX3_ranked_2 13 rfl rfl)
theorem dX3_ranked_60 : decode cX3_ranked 60 = .ok (.iload_n 3, 1) := dk_29 (dk_at dksX3_ranked_2 15 rfl rfl)
theorem dX3_ranked_61 : decode cX3_ranked 61 = .ok (.iload 4, 2) := dk_21 4 (dk_at dksX3_ranked_2 16 rfl rfl)
theorem dX3_ranked_63 : decode cX3_ranked 63 = .ok (.iload_n 2, 1) := dk_28 (dk_at dksX3_ranked_2 18 rfl rfl)
theorem dX3_ranked_64 : decode cX3_ranked 64 = .ok (.if_icmp .eq 23, 3) := dk_159 0 23 (dk_at dksX3_ranked_2 19 rfl rfl)
theorem dX3_ranked_67 : decode cX3_ranked 67 = .ok (.iload 5, 2) := dk_21 5 (dk_at dksX3_ranked_2 22 rfl rfl)
theorem dX3_ranked_69 : decode cX3_ranked 69 = .ok (.ifCond .gt 14, 3) := dk_157 0 14 (dk_at dksX3_ranked_3 0 rfl rfl)
theorem dX3_ranked_72 : decode cX3_ranked 72 = .ok (.iload 5, 2) := dk_21 5 (dk_at dksX3_ranked_3 3 rfl rfl)
theorem dX3_ranked_74 : decode cX3_ranked 74 = .ok (.ifCond .ne 13, 3) := dk_154 0 13 (dk_at dksX3_ranked_3 5 rfl rfl)
theorem dX3_ranked_77 : decode cX3_ranked 77 = .ok (.iload 4, 2) := dk_21 4 (dk_at dksX3_ranked_3 8 rfl rfl)
theorem dX3_ranked_79 : decode cX3_ranked 79 = .ok (.iload_n 2, 1) := dk_28 (dk_at dksX3_ranked_3 10 rfl rfl)
theorem dX3_ranked_80 : decode cX3_ranked 80 = .ok (.if_icmp .ge 7, 3) := dk_162 0 7 (dk_at dksX3_ranked_3 11 rfl rfl)
theorem dX3_ranked_83 : decode cX3_ranked 83 = .ok (.iconst 1, 1) := dk_4 (dk_at dksX3_ranked_3 14 rfl rfl)
theorem dX3_ranked_84 : decode cX3_ranked 84 = .ok (.goto 4, 3) := dk_167 0 4 (dk_at dksX3_ranked_3 15 rfl rfl)
theorem dX3_ranked_87 : decode cX3_ranked 87 = .ok (.iconst 0, 1) := dk_3 (dk_at dksX3_ranked_3 18 rfl rfl)
theorem dX3_ranked_88 : decode cX3_ranked 88 = .ok (.iadd, 1) := dk_96 (dk_at dksX3_ranked_3 19 rfl rfl)
theorem dX3_ranked_89 : decode cX3_ranked 89 = .ok (.istore_n 3, 1) := dk_62 (dk_at dksX3_ranked_3 20 rfl rfl)
theorem dX3_ranked_90 : decode cX3_ranked 90 = .ok (.iinc 4 1, 3) := dk_132 4 1 (dk_at dksX3_ranked_3 21 rfl rfl)
theorem dX3_ranked_93 : decode cX3_ranked 93 = .ok (.goto (-81), 3) := dk_167 255 175 (dk_at dksX3_ranked_4 0 rfl rfl)
theorem dX3_ranked_96 : decode cX3_ranked 96 = .ok (.iload_n 3, 1) := dk_29 (dk_at dksX3_ranked_4 3 rfl rfl)
theorem dX3_ranked_97 : decode cX3_ranked 97 = .ok (.iload_n 1, 1) := dk_27 (dk_at dksX3_ranked_4 4 rfl rfl)
theorem dX3_ranked_98 : decode cX3_ranked 98 = .ok (.if_icmp .ne 5, 3) := dk_160 0 5 (dk_at dksX3_ranked_4 5 rfl rfl)
theorem dX3_ranked_101 : decode cX3_ranked 101 = .ok (.iload_n 2, 1) := dk_28 (dk_at dksX3_ranked_4 8 rfl rfl)
theorem dX3_ranked_102 : decode cX3_ranked 102 = .ok (.ireturn, 1) := dk_172 (dk_at dksX3_ranked_4 9 rfl rfl)
theorem dX3_ranked_103 : decode cX3_ranked 103 = .ok (.iinc 2 1, 3) := dk_132 2 1 (dk_at dksX3_ranked_4 10 rfl rfl)
theorem dX3_ranked_106 : decode cX3_ranked 106 = .ok (.goto (-104), 3) := dk_167 255 152 (dk_at dksX3_ranked_4 13 rfl rfl)
theorem dX3_ranked_109 : decode cX3_ranked 109 = .ok (.sipush (-1011), 3) := dk_17 252 13 (dk_at dksX3_ranked_4 16 rfl rfl)
theorem dX3_ranked_112 : decode cX3_ranked 112 = .ok (.ireturn, 1) := dk_172 (dk_at dksX3_ranked_4 19 rfl rfl)
def dkwX3_append_2 : List UInt8 := [42, 180, 0, 163, 172]
abbrev dktX3_append_2 : List UInt8 := dkwX3_append_2 ++ []
def dkwX3_append_1 : List UInt8 := [17, 252, 11, 172, 42, 180, 0, 25, 42, 180, 0, 163, 27, 79, 42, 89, 180, 0, 163, 4, 96, 181, 0, 163]
abbrev dktX3_append_1 : List UInt8 := dkwX3_append_1 ++ dktX3_append_2
def dkwX3_append_0 : List UInt8 := [27, 16, 32, 16, 126, 184, 0, 52, 154, 0, 7, 17, 252, 12, 172, 42, 180, 0, 163, 16, 60, 160, 0, 7]
abbrev dktX3_append_0 : List UInt8 := dkwX3_append_0 ++ dktX3_append_1
theorem dksX3_append_0 : cX3_append.data.toList.drop 0 = dktX3_append_0 := by decide +kernel
theorem dksX3_append_1 : cX3_append.data.toList.drop 24 = dktX3_append_1 := dk_seg dksX3_append_0 24 rfl rfl
theorem dksX3_append_2 : cX3_append.data.toList.drop 48 = dktX3_append_2 := dk_seg dksX3_append_1 24 rfl rfl
theorem dX3_append_0 : decode cX3_append 0 = .ok (.iload_n 1, 1) := dk_27 (dk_at dksX3_append_0 0 rfl rfl)
theorem dX3_append_1 : decode cX3_append 1 = .ok (.bipush 32, 2) := dk_16 32 (dk_at dksX3_append_0 1 rfl rfl)
theorem dX3_append_3 : decode cX3_append 3 = .ok (.bipush 126, 2) := dk_16 126 (dk_at dksX3_append_0 3 rfl rfl)
theorem dX3_append_5 : decode cX3_append 5 = .ok (.invokestatic 52, 3) := dk_184 0 52 (dk_at dksX3_append_0 5 rfl rfl)
theorem dX3_append_8 : decode cX3_append 8 = .ok (.ifCond .ne 7, 3) := dk_154 0 7 (dk_at dksX3_append_0 8 rfl rfl)
theorem dX3_append_11 : decode cX3_append 11 = .ok (.sipush (-1012), 3) := dk_17 252 12 (dk_at dksX3_append_0 11 rfl rfl)
theorem dX3_append_14 : decode cX3_append 14 = .ok (.ireturn, 1) := dk_172 (dk_at dksX3_append_0 14 rfl rfl)
theorem dX3_append_15 : decode cX3_append 15 = .ok (.aload_n 0, 1) := dk_42 (dk_at dksX3_append_0 15 rfl rfl)
theorem dX3_append_16 : decode cX3_append 16 = .ok (.getfield 163, 3) := dk_180 0 163 (dk_at dksX3_append_0 16 rfl rfl)
theorem dX3_append_19 : decode cX3_append 19 = .ok (.bipush 60, 2) := dk_16 60 (dk_at dksX3_append_0 19 rfl rfl)
theorem dX3_append_21 : decode cX3_append 21 = .ok (.if_icmp .ne 7, 3) := dk_160 0 7 (dk_at dksX3_append_0 21 rfl rfl)
theorem dX3_append_24 : decode cX3_append 24 = .ok (.sipush (-1013), 3) := dk_17 252 11 (dk_at dksX3_append_1 0 rfl rfl)
theorem dX3_append_27 : decode cX3_append 27 = .ok (.ireturn, 1) := dk_172 (dk_at dksX3_append_1 3 rfl rfl)
theorem dX3_append_28 : decode cX3_append 28 = .ok (.aload_n 0, 1) := dk_42 (dk_at dksX3_append_1 4 rfl rfl)
theorem dX3_append_29 : decode cX3_append 29 = .ok (.getfield 25, 3) := dk_180 0 25 (dk_at dksX3_append_1 5 rfl rfl)
theorem dX3_append_32 : decode cX3_append 32 = .ok (.aload_n 0, 1) := dk_42 (dk_at dksX3_append_1 8 rfl rfl)
theorem dX3_append_33 : decode cX3_append 33 = .ok (.getfield 163, 3) := dk_180 0 163 (dk_at dksX3_append_1 9 rfl rfl)
theorem dX3_append_36 : decode cX3_append 36 = .ok (.iload_n 1, 1) := dk_27 (dk_at dksX3_append_1 12 rfl rfl)
theorem dX3_append_37 : decode cX3_append 37 = .ok (.iastore, 1) := dk_79 (dk_at dksX3_append_1 13 rfl rfl)
theorem dX3_append_38 : decode cX3_append 38 = .ok (.aload_n 0, 1) := dk_42 (dk_at dksX3_append_1 14 rfl rfl)
theorem dX3_append_39 : decode cX3_append 39 = .ok (.dup, 1) := dk_89 (dk_at dksX3_append_1 15 rfl rfl)
theorem dX3_append_40 : decode cX3_append 40 = .ok (.getfield 163, 3) := dk_180 0 163 (dk_at dksX3_append_1 16 rfl rfl)
theorem dX3_append_43 : decode cX3_append 43 = .ok (.iconst 1, 1) := dk_4 (dk_at dksX3_append_1 19 rfl rfl)
theorem dX3_append_44 : decode cX3_append 44 = .ok (.iadd, 1) := dk_96 (dk_at dksX3_append_1 20 rfl rfl)
theorem dX3_append_45 : decode cX3_append 45 = .ok (.putfield 163, 3) := dk_181 0 163 (dk_at dksX3_append_1 21 rfl rfl)
theorem dX3_append_48 : decode cX3_append 48 = .ok (.aload_n 0, 1) := dk_42 (dk_at dksX3_append_2 0 rfl rfl)
theorem dX3_append_49 : decode cX3_append 49 = .ok (.getfield 163, 3) := dk_180 0 163 (dk_at dksX3_append_2 1 rfl rfl)
theorem dX3_append_52 : decode cX3_append 52 = .ok (.ireturn, 1) := dk_172 (dk_at dksX3_append_2 4 rfl rfl)
def dkwX3_run_3 : List UInt8 := [4, 100, 182, 0, 60, 182, 0, 73, 172]
abbrev dktX3_run_3 : List UInt8 := dkwX3_run_3 ++ []
def dkwX3_run_2 : List UInt8 := [181, 0, 194, 42, 182, 0, 204, 60, 42, 42, 180, 0, 31, 154, 0, 7, 27, 167, 0, 12, 42, 16, 7, 27]
abbrev dktX3_run_2 : List UInt8 := dkwX3_run_2 ++ dktX3_run_3
def dkwX3_run_1 : List UInt8 := [182, 0, 204, 60, 42, 180, 0, 172, 153, 0, 12, 17, 248, 48, 42, 180, 0, 166, 100, 172, 42, 4]
abbrev dktX3_run_1 : List UInt8 := dkwX3_run_1 ++ dktX3_run_2
def dkwX3_run_0 : List UInt8 := [42, 182, 0, 67, 42, 42, 180, 0, 163, 181, 0, 169, 42, 3, 181, 0, 163, 42, 3, 181, 0, 194, 42]
abbrev dktX3_run_0 : List UInt8 := dkwX3_run_0 ++ dktX3_run_1
theorem dksX3_run_0 : cX3_run.data.toList.drop 0 = dktX3_run_0 := by decide +kernel
theorem dksX3_run_1 : cX3_run.data.toList.drop 23 = dktX3_run_1 := dk_seg dksX3_run_0 23 rfl rfl
theorem dksX3_run_2 : cX3_run.data.toList.drop 45 = dktX3_run_2 := dk_seg dksX3_run_1 22 rfl rfl
theorem dksX3_run_3 : cX3_run.data.toList.drop 69 = dktX3_run_3 := dk_seg dksX3_run_2 24 rfl rfl
theorem dX3_run_0 : decode cX3_run 0 = .ok (.aload_n 0, 1) := dk_42 (dk_at dksX3_run_0 0 rfl rfl)
theorem dX3_run_1 : decode cX3_run 1 = .ok (.invokevirtual 67, 3) := dk_182 0 67 (dk_at dksX3_run_0 1 rfl rfl)
theorem dX3_run_4 : decode cX3_run 4 = .ok (.aload_n 0, 1) := dk_42 (dk_at dksX3_run_0 4 rfl rfl)
theorem dX3_run_5 : decode cX3_run 5 = .ok (.aload_n 0, 1) := dk_42 (dk_at dksX3_run_0 5 rfl rfl)
theorem dX3_run_6 : decode cX3_run 6 = .ok (.getfield 163, 3) := dk_180 0 163 (dk_at dksX3_run_0 6 rfl rfl)
theorem dX3_run_9 : decode cX3_run 9 = .ok (.putfield 169, 3) := dk_181 0 169 (dk_at dksX3_run_0 9 rfl rfl)
theorem dX3_run_12 : decode cX3_run 12 = .ok (.aload_n 0, 1) := dk_42 (dk_at dksX3_run_0 12 rfl rfl)
theorem dX3_run_13 : decode cX3_run 13 = .ok (.iconst 0, 1) := dk_3 (dk_at dksX3_run_0 13 rfl rfl)
theorem dX3_run_14 : decode cX3_run 14 = .ok (.putfield 163, 3) := dk_181 0 163 (dk_at dksX3_run_0 14 rfl rfl)
theorem dX3_run_17 : decode cX3_run 17 = .ok (.aload_n 0, 1) := dk_42 (dk_at dksX3_run_0 17 rfl rfl)
theorem dX3_run_18 : decode cX3_run 18 = .ok (.iconst 0, 1) := dk_3 (dk_at dksX3_run_0 18 rfl rfl)
theorem dX3_run_19 : decode cX3_run 19 = .ok (.putfield 194, 3) := dk_181 0 194 (dk_at dksX3_run_0 19 rfl rfl)
theorem dX3_run_22 : decode cX3_run 22 = .ok (.aload_n 0, 1) := dk_42 (dk_at dksX3_run_0 22 rfl rfl)
theorem dX3_run_23 : decode cX3_run 23 = .ok (.invokevirtual 204, 3) := dk_182 0 204 (dk_at dksX3_run_1 0 rfl rfl)
theorem dX3_run_26 : decode cX3_run 26 = .ok (.istore_n 1, 1) := dk_60 (dk_at dksX3_run_1 3 rfl rfl)
theorem dX3_run_27 : decode cX3_run 27 = .ok (.aload_n 0, 1) := dk_42 (dk_at dksX3_run_1 4 rfl rfl)
theorem dX3_run_28 : decode cX3_run 28 = .ok (.getfield 172, 3) := dk_180 0 172 (dk_at dksX3_run_1 5 rfl rfl)
theorem dX3_run_31 : decode cX3_run 31 = .ok (.ifCond .eq 12, 3) := dk_153 0 12 (dk_at dksX3_run_1 8 rfl rfl)
theorem dX3_run_34 : decode cX3_run 34 = .ok (.sipush (-2000), 3) := dk_17 248 48 (dk_at dksX3_run_1 11 rfl rfl)
theorem dX3_run_37 : decode cX3_run 37 = .ok (.aload_n 0, 1) := dk_42 (dk_at dksX3_run_1 14 rfl rfl)
theorem dX3_run_38 : decode cX3_run 38 = .ok (.getfield 166, 3) := dk_180 0 166 (dk_at dksX3_run_1 15 rfl rfl)
theorem dX3_run_41 : decode cX3_run 41 = .ok (.isub, 1) := dk_100 (dk_at dksX3_run_1 18 rfl rfl)
theorem dX3_run_42 : decode cX3_run 42 = .ok (.ireturn, 1) := dk_172 (dk_at dksX3_run_1 19 rfl rfl)
theorem dX3_run_43 : decode cX3_run 43 = .ok (.aload_n 0, 1) := dk_42 (dk_at dksX3_run_1 20 rfl rfl)
theorem dX3_run_44 : decode cX3_run 44 = .ok (.iconst 1, 1) := dk_4 (dk_at dksX3_run_1 21 rfl rfl)
theorem dX3_run_45 : decode cX3_run 45 = .ok (.putfield 194, 3) := dk_181 0 194 (dk_at dksX3_run_2 0 rfl rfl)
theorem dX3_run_48 : decode cX3_run 48 = .ok (.aload_n 0, 1) := dk_42 (dk_at dksX3_run_2 3 rfl rfl)
theorem dX3_run_49 : decode cX3_run 49 = .ok (.invokevirtual 204, 3) := dk_182 0 204 (dk_at dksX3_run_2 4 rfl rfl)
theorem dX3_run_52 : decode cX3_run 52 = .ok (.istore_n 1, 1) := dk_60 (dk_at dksX3_run_2 7 rfl rfl)
theorem dX3_run_53 : decode cX3_run 53 = .ok (.aload_n 0, 1) := dk_42 (dk_at dksX3_run_2 8 rfl rfl)
theorem dX3_run_54 : decode cX3_run 54 = .ok (.aload_n 0, 1) := dk_42 (dk_at dksX3_run_2 9 rfl rfl)
theorem dX3_run_55 : decode cX3_run 55 = .ok (.getfield 31, 3) := dk_180 0 31 (dk_at dksX3_run_2 10 rfl rfl)
theorem dX3_run_58 : decode cX3_run 58 = .ok (.ifCond .ne 7, 3) := dk_154 0 7 (dk_at dksX3_run_2 13 rfl rfl)
theorem dX3_run_61 : decode cX3_run 61 = .ok (.iload_n 1, 1) := dk_27 (dk_at dksX3_run_2 16 rfl rfl)
theorem dX3_run_62 : decode cX3_run 62 = .ok (.goto 12, 3) := dk_167 0 12 (dk_at dksX3_run_2 17 rfl rfl)
theorem dX3_run_65 : decode cX3_run 65 = .ok (.aload_n 0, 1) := dk_42 (dk_at dksX3_run_2 20 rfl rfl)
theorem dX3_run_66 : decode cX3_run 66 = .ok (.bipush 7, 2) := dk_16 7 (dk_at dksX3_run_2 21 rfl rfl)
theorem dX3_run_68 : decode cX3_run 68 = .ok (.iload_n 1, 1) := dk_27 (dk_at dksX3_run_2 23 rfl rfl)
theorem dX3_run_69 : decode cX3_run 69 = .ok (.iconst 1, 1) := dk_4 (dk_at dksX3_run_3 0 rfl rfl)
theorem dX3_run_70 : decode cX3_run 70 = .ok (.isub, 1) := dk_100 (dk_at dksX3_run_3 1 rfl rfl)
theorem dX3_run_71 : decode cX3_run 71 = .ok (.invokevirtual 60, 3) := dk_182 0 60 (dk_at dksX3_run_3 2 rfl rfl)
theorem dX3_run_74 : decode cX3_run 74 = .ok (.invokevirtual 73, 3) := dk_182 0 73 (dk_at dksX3_run_3 5 rfl rfl)
theorem dX3_run_77 : decode cX3_run 77 = .ok (.ireturn, 1) := dk_172 (dk_at dksX3_run_3 8 rfl rfl)
def dkwX3_orders_2 : List UInt8 := [180, 0, 172, 154, 0, 7, 42, 182, 0, 201, 132, 1, 1, 167, 255, 211, 27, 172]
abbrev dktX3_orders_2 : List UInt8 := dkwX3_orders_2 ++ []
def dkwX3_orders_1 : List UInt8 := [180, 0, 31, 154, 0, 37, 42, 180, 0, 166, 42, 180, 0, 169, 162, 0, 26, 42, 16, 59, 182, 0, 179, 42]
abbrev dktX3_orders_1 : List UInt8 := dkwX3_orders_1 ++ dktX3_orders_2
def dkwX3_orders_0 : List UInt8 := [42, 3, 181, 0, 166, 42, 3, 181, 0, 172, 4, 60, 42, 182, 0, 201, 42, 180, 0, 172, 154, 0, 44, 42]
abbrev dktX3_orders_0 : List UInt8 := dkwX3_orders_0 ++ dktX3_orders_1
theorem dksX3_orders_0 : cX3_orders.data.toList.drop 0 = dktX3_orders_0 := by decide +kernel
theorem dksX3_orders_1 : cX3_orders.data.toList.drop 24 = dktX3_orders_1 := dk_seg dksX3_orders_0 24 rfl rfl
theorem dksX3_orders_2 : cX3_orders.data.toList.drop 48 = dktX3_orders_2 := dk_seg dksX3_orders_1 24 rfl rfl
theorem dX3_orders_0 : decode cX3_orders 0 = .ok (.aload_n 0, 1) := dk_42 (dk_at dksX3_orders_0 0 rfl rfl)
theorem dX3_orders_1 : decode cX3_orders 1 = .ok (.iconst 0, 1) := dk_3 (dk_at dksX3_orders_0 1 rfl rfl)
theorem dX3_orders_2 : decode cX3_orders 2 = .ok (.putfield 166, 3) := dk_181 0 166 (dk_at dksX3_orders_0 2 rfl rfl)
theorem dX3_orders_5 : decode cX3_orders 5 = .ok (.aload_n 0, 1) := dk_42 (dk_at dksX3_orders_0 5 rfl rfl)
theorem dX3_orders_6 : decode cX3_orders 6 = .ok (.iconst 0, 1) := dk_3 (dk_at dksX3_orders_0 6 rfl rfl)
theorem dX3_orders_7 : decode cX3_orders 7 = .ok (.putfield 172, 3) := dk_181 0 172 (dk_at dksX3_orders_0 7 rfl rfl)
theorem dX3_orders_10 : decode cX3_orders 10 = .ok (.iconst 1, 1) := dk_4 (dk_at dksX3_orders_0 10 rfl rfl)
theorem dX3_orders_11 : decode cX3_orders 11 = .ok (.istore_n 1, 1) := dk_60 (dk_at dksX3_orders_0 11 rfl rfl)
theorem dX3_orders_12 : decode cX3_orders 12 = .ok (.aload_n 0, 1) := dk_42 (dk_at dksX3_orders_0 12 rfl rfl)
theorem dX3_orders_13 : decode cX3_orders 13 = .ok (.invokevirtual 201, 3) := dk_182 0 201 (dk_at dksX3_orders_0 13 rfl rfl)
theorem dX3_orders_16 : decode cX3_orders 16 = .ok (.aload_n 0, 1) := dk_42 (dk_at dksX3_orders_0 16 rfl rfl)
theorem dX3_orders_17 : decode cX3_orders 17 = .ok (.getfield 172, 3) := dk_180 0 172 (dk_at dksX3_orders_0 17 rfl rfl)
theorem dX3_orders_20 : decode cX3_orders 20 = .ok (.ifCond .ne 44, 3) := dk_154 0 44 (dk_at dksX3_orders_0 20 rfl rfl)
theorem dX3_orders_23 : decode cX3_orders 23 = .ok (.aload_n 0, 1) := dk_42 (dk_at dksX3_orders_0 23 rfl rfl)
theorem dX3_orders_24 : decode cX3_orders 24 = .ok (.getfield 31, 3) := dk_180 0 31 (dk_at dksX3_orders_1 0 rfl rfl)
theorem dX3_orders_27 : decode cX3_orders 27 = .ok (.ifCond .ne 37, 3) := dk_154 0 37 (dk_at dksX3_orders_1 3 rfl rfl)
theorem dX3_orders_30 : decode cX3_orders 30 = .ok (.aload_n 0, 1) := dk_42 (dk_at dksX3_orders_1 6 rfl rfl)
theorem dX3_orders_31 : decode cX3_orders 31 = .ok (.getfield 166, 3) := dk_180 0 166 (dk_at dksX3_orders_1 7 rfl rfl)
theorem dX3_orders_34 : decode cX3_orders 34 = .ok (.aload_n 0, 1) := dk_42 (dk_at dksX3_orders_1 10 rfl rfl)
theorem dX3_orders_35 : decode cX3_orders 35 = .ok (.getfield 169, 3) := dk_180 0 169 (dk_at dksX3_orders_1 11 rfl rfl)
theorem dX3_orders_38 : decode cX3_orders 38 = .ok (.if_icmp .ge 26, 3) := dk_162 0 26 (dk_at dksX3_orders_1 14 rfl rfl)
theorem dX3_orders_41 : decode cX3_orders 41 = .ok (.aload_n 0, 1) := dk_42 (dk_at dksX3_orders_1 17 rfl rfl)
theorem dX3_orders_42 : decode cX3_orders 42 = .ok (.bipush 59, 2) := dk_16 59 (dk_at dksX3_orders_1 18 rfl rfl)
theorem dX3_orders_44 : decode cX3_orders 44 = .ok (.invokevirtual 179, 3) := dk_182 0 179 (dk_at dksX3_orders_1 20 rfl rfl)
theorem dX3_orders_47 : decode cX3_orders 47 = .ok (.aload_n 0, 1) := dk_42 (dk_at dksX3_orders_1 23 rfl rfl)
theorem dX3_orders_48 : decode cX3_orders 48 = .ok (.getfield 172, 3) := dk_180 0 172 (dk_at dksX3_orders_2 0 rfl rfl)
theorem dX3_orders_51 : decode cX3_orders 51 = .ok (.ifCond .ne 7, 3) := dk_154 0 7 (dk_at dksX3_orders_2 3 rfl rfl)
theorem dX3_orders_54 : decode cX3_orders 54 = .ok (.aload_n 0, 1) := dk_42 (dk_at dksX3_orders_2 6 rfl rfl)
theorem dX3_orders_55 : decode cX3_orders 55 = .ok (.invokevirtual 201, 3) := dk_182 0 201 (dk_at dksX3_orders_2 7 rfl rfl)
theorem dX3_orders_58 : decode cX3_orders 58 = .ok (.iinc 1 1, 3) := dk_132 1 1 (dk_at dksX3_orders_2 10 rfl rfl)
theorem dX3_orders_61 : decode cX3_orders 61 = .ok (.goto (-45), 3) := dk_167 255 211 (dk_at dksX3_orders_2 13 rfl rfl)
theorem dX3_orders_64 : decode cX3_orders 64 = .ok (.iload_n 1, 1) := dk_27 (dk_at dksX3_orders_2 16 rfl rfl)
theorem dX3_orders_65 : decode cX3_orders 65 = .ok (.ireturn, 1) := dk_172 (dk_at dksX3_orders_2 17 rfl rfl)
def dkwX3_order_7 : List UInt8 := [154, 0, 10, 42, 180, 0, 194, 154, 0, 4, 177, 42, 27, 28, 29, 21, 4, 182, 0, 197, 54, 6, 177]
abbrev dktX3_order_7 : List UInt8 := dkwX3_order_7 ++ []
def dkwX3_order_6 : List UInt8 := [182, 0, 188, 54, 4, 27, 16, 111, 160, 0, 11, 42, 16, 45, 4, 182, 0, 188, 62, 42, 180, 0, 172]
abbrev dktX3_order_6 : List UInt8 := dkwX3_order_6 ++ dktX3_order_7
def dkwX3_order_5 : List UInt8 := [16, 112, 160, 0, 11, 42, 16, 64, 5, 182, 0, 188, 62, 27, 16, 112, 160, 0, 12, 42, 16, 42, 4]
abbrev dktX3_order_5 : List UInt8 := dkwX3_order_5 ++ dktX3_order_6
def dkwX3_order_4 : List UInt8 := [160, 0, 11, 42, 16, 58, 4, 182, 0, 188, 62, 27, 16, 115, 160, 0, 8, 42, 182, 0, 191, 62, 27]
abbrev dktX3_order_4 : List UInt8 := dkwX3_order_4 ++ dktX3_order_5
def dkwX3_order_3 : List UInt8 := [21, 5, 154, 0, 19, 42, 27, 16, 114, 160, 0, 7, 4, 167, 0, 4, 5, 182, 0, 182, 61, 27, 16, 118]
abbrev dktX3_order_3 : List UInt8 := dkwX3_order_3 ++ dktX3_order_4
def dkwX3_order_2 : List UInt8 := [16, 110, 159, 0, 15, 27, 16, 104, 159, 0, 9, 27, 16, 101, 160, 0, 7, 4, 167, 0, 4, 3, 54, 5]
abbrev dktX3_order_2 : List UInt8 := dkwX3_order_2 ++ dktX3_order_3
def dkwX3_order_1 : List UInt8 := [3, 181, 0, 172, 42, 180, 0, 172, 153, 0, 4, 177, 42, 89, 180, 0, 166, 4, 96, 181, 0, 166, 27]
abbrev dktX3_order_1 : List UInt8 := dkwX3_order_1 ++ dktX3_order_2
def dkwX3_order_0 : List UInt8 := [42, 182, 0, 176, 60, 3, 61, 3, 62, 3, 54, 4, 42, 27, 184, 0, 185, 154, 0, 7, 4, 167, 0, 4]
abbrev dktX3_order_0 : List UInt8 := dkwX3_order_0 ++ dktX3_order_1
theorem dksX3_order_0 : cX3_order.data.toList.drop 0 = dktX3_order_0 := by decide +kernel
theorem dksX3_order_1 : cX3_order.data.toList.drop 24 = dktX3_order_1 := dk_seg dksX3_order_0 24 rfl rfl
theorem dksX3_order_2 : cX3_order.data.toList.drop 47 = dktX3_order_2 := dk_seg dksX3_order_1 23 rfl rfl
theorem dksX3_order_3 : cX3_order.data.toList.drop 71 = dktX3_order_3 := dk_seg dksX3_order_2 24 rfl rfl
theorem dksX3_order_4 : cX3_order.data.toList.drop 95 = dktX3_order_4 := dk_seg dksX3_order_3 24 rfl rfl
theorem dksX3_order_5 : cX3_order.data.toList.drop 118 = dktX3_order_5 := dk_seg dksX3_order_4 23 rfl rfl
theorem dksX3_order_6 : cX3_order.data.toList.drop 141 = dktX3_order_6 := dk_seg dksX3_order_5 23 rfl rfl
theorem dksX3_order_7 : cX3_order.data.toList.drop 164 = dktX3_order_7 := dk_seg dksX3_order_6 23 rfl rfl
theorem dX3_order_0 : decode cX3_order 0 = .ok (.aload_n 0, 1) := dk_42 (dk_at dksX3_order_0 0 rfl rfl)
theorem dX3_order_1 : decode cX3_order 1 = .ok (.invokevirtual 176, 3) := dk_182 0 176 (dk_at dksX3_order_0 1 rfl rfl)
theorem dX3_order_4 : decode cX3_order 4 = .ok (.istore_n 1, 1) := dk_60 (dk_at dksX3_order_0 4 rfl rfl)
theorem dX3_order_5 : decode cX3_order 5 = .ok (.iconst 0, 1) := dk_3 (dk_at dksX3_order_0 5 rfl rfl)
theorem dX3_order_6 : decode cX3_order 6 = .ok (.istore_n 2, 1) := dk_61 (dk_at dksX3_order_0 6 rfl rfl)
theorem dX3_order_7 : decode cX3_order 7 = .ok (.iconst 0, 1) := dk_3 (dk_at dksX3_order_0 7 rfl rfl)
theorem dX3_order_8 : decode cX3_order 8 = .ok (.istore_n 3, 1) := dk_62 (dk_at dksX3_order_0 8 rfl rfl)
theorem dX3_order_9 : decode cX3_order 9 = .ok (.iconst 0, 1) := dk_3 (dk_at dksX3_order_0 9 rfl rfl)
theorem dX3_order_10 : decode cX3_order 10 = .ok (.istore 4, 2) := dk_54 4 (dk_at dksX3_order_0 10 rfl rfl)
theorem dX3_order_12 : decode cX3_order 12 = .ok (.aload_n 0, 1) := dk_42 (dk_at dksX3_order_0 12 rfl rfl)
theorem dX3_order_13 : decode cX3_order 13 = .ok (.iload_n 1, 1) := dk_27 (dk_at dksX3_order_0 13 rfl rfl)
theorem dX3_order_14 : decode cX3_order 14 = .ok (.invokestatic 185, 3) := dk_184 0 185 (dk_at dksX3_order_0 14 rfl rfl)
theorem dX3_order_17 : decode cX3_order 17 = .ok (.ifCond .ne 7, 3) := dk_154 0 7 (dk_at dksX3_order_0 17 rfl rfl)
theorem dX3_order_20 : decode cX3_order 20 = .ok (.iconst 1, 1) := dk_4 (dk_at dksX3_order_0 20 rfl rfl)
theorem dX3_order_21 : decode cX3_order 21 = .ok (.goto 4, 3) := dk_167 0 4 (dk_at dksX3_order_0 21 rfl rfl)
theorem dX3_order_24 : decode cX3_order 24 = .ok (.iconst 0, 1) := dk_3 (dk_at dksX3_order_1 0 rfl rfl)
theorem dX3_order_25 : decode cX3_order 25 = .ok (.putfield 172, 3) := dk_181 0 172 (dk_at dksX3_order_1 1 rfl rfl)
theorem dX3_order_28 : decode cX3_order 28 = .ok (.aload_n 0, 1) := dk_42 (dk_at dksX3_order_1 4 rfl rfl)
theorem dX3_order_29 : decode cX3_order 29 = .ok (.getfield 172, 3) := dk_180 0 172 (dk_at dksX3_order_1 5 rfl rfl)
theorem dX3_order_32 : decode cX3_order 32 = .ok (.ifCond .eq 4, 3) := dk_153 0 4 (dk_at dksX3_order_1 8 rfl rfl)
theorem dX3_order_35 : decode cX3_order 35 = .ok (.return_, 1) := dk_177 (dk_at dksX3_order_1 11 rfl rfl)
theorem dX3_order_36 : decode cX3_order 36 = .ok (.aload_n 0, 1) := dk_42 (dk_at dksX3_order_1 12 rfl rfl)
theorem dX3_order_37 : decode cX3_order 37 = .ok (.dup, 1) := dk_89 (dk_at dksX3_order_1 13 rfl rfl)
theorem dX3_order_38 : decode cX3_order 38 = .ok (.getfield 166, 3) := dk_180 0 166 (dk_at dksX3_order_1 14 rfl rfl)
theorem dX3_order_41 : decode cX3_order 41 = .ok (.iconst 1, 1) := dk_4 (dk_at dksX3_order_1 17 rfl rfl)
theorem dX3_order_42 : decode cX3_order 42 = .ok (.iadd, 1) := dk_96 (dk_at dksX3_order_1 18 rfl rfl)
theorem dX3_order_43 : decode cX3_order 43 = .ok (.putfield 166, 3) := dk_181 0 166 (dk_at dksX3_order_1 19 rfl rfl)
theorem dX3_order_46 : decode cX3_order 46 = .ok (.iload_n 1, 1) := dk_27 (dk_at dksX3_order_1 22 rfl rfl)
theorem dX3_order_47 : decode cX3_order 47 = .ok (.bipush 110, 2) := dk_16 110 (dk_at dksX3_order_2 0 rfl rfl)
theorem dX3_order_49 : decode cX3_order 49 = .ok (.if_icmp .eq 15, 3) := dk_159 0 15 (dk_at dksX3_order_2 2 rfl rfl)
theorem dX3_order_52 : decode cX3_order 52 = .ok (.iload_n 1, 1) := dk_27 (dk_at dksX3_order_2 5 rfl rfl)
theorem dX3_order_53 : decode cX3_order 53 = .ok (.bipush 104, 2) := dk_16 104 (dk_at dksX3_order_2 6 rfl rfl)
theorem dX3_order_55 : decode cX3_order 55 = .ok (.if_icmp .eq 9, 3) := dk_159 0 9 (dk_at dksX3_order_2 8 rfl rfl)
theorem dX3_order_58 : decode cX3_order 58 = .ok (.iload_n 1, 1) := dk_27 (dk_at dksX3_order_2 11 rfl rfl)
theorem dX3_order_59 : decode cX3_order 59 = .ok (.bipush 101, 2) := dk_16 101 (dk_at dksX3_order_2 12 rfl rfl)
theorem dX3_order_61 : decode cX3_order 61 = .ok (.if_icmp .ne 7, 3) := dk_160 0 7 (dk_at dksX3_order_2 14 rfl rfl)
theorem dX3_order_64 : decode cX3_order 64 = .ok (.iconst 1, 1) := dk_4 (dk_at dksX3_order_2 17 rfl rfl)
theorem dX3_order_65 : decode cX3_order 65 = .ok (.goto 4, 3) := dk_167 0 4 (dk_at dksX3_order_2 18 rfl rfl)
theorem dX3_order_68 : decode cX3_order 68 = .ok (.iconst 0, 1) := dk_3 (dk_at dksX3_order_2 21 rfl rfl)
theorem dX3_order_69 : decode cX3_order 69 = .ok (.istore 5, 2) := dk_54 5 (dk_at dksX3_order_2 22 rfl rfl)
theorem dX3_order_71 : decode cX3_order 71 = .ok (.iload 5, 2) := dk_21 5 (dk_at dksX3_order_3 0 rfl rfl)
theorem dX3_order_73 : decode cX3_order 73 = .ok (.ifCond .ne 19, 3) := dk_154 0 19 (dk_at dksX3_order_3 2 rfl rfl)
theorem dX3_order_76 : decode cX3_order 76 = .ok (.aload_n 0, 1) := dk_42 (dk_at dksX3_order_3 5 rfl rfl)
theorem dX3_order_77 : decode cX3_order 77 = .ok (.iload_n 1, 1) := dk_27 (dk_at dksX3_order_3 6 rfl rfl)
theorem dX3_order_78 : decode cX3_order 78 = .ok (.bipush 114, 2) := dk_16 114 (dk_at dksX3_order_3 7 rfl rfl)
theorem dX3_order_80 : decode cX3_order 80 = .ok (.if_icmp .ne 7, 3) := dk_160 0 7 (dk_at dksX3_order_3 9 rfl rfl)
theorem dX3_order_83 : decode cX3_order 83 = .ok (.iconst 1, 1) := dk_4 (dk_at dksX3_order_3 12 rfl rfl)
theorem dX3_order_84 : decode cX3_order 84 = .ok (.goto 4, 3) := dk_167 0 4 (dk_at dksX3_order_3 13 rfl rfl)
theorem dX3_order_87 : decode cX3_order 87 = .ok (.iconst 2, 1) := dk_5 (dk_at dksX3_order_3 16 rfl rfl)
theorem dX3_order_88 : decode cX3_order 88 = .ok (.invokevirtual 182, 3) := dk_182 0 182 (dk_at dksX3_order_3 17 rfl rfl)
theorem dX3_order_91 : decode cX3_order 91 = .ok (.istore_n 2, 1) := dk_61 (dk_at dksX3_order_3 20 rfl rfl)
theorem dX3_order_92 : decode cX3_order 92 = .ok (.iload_n 1, 1) := dk_27 (dk_at dksX3_order_3 21 rfl rfl)
theorem dX3_order_93 : decode cX3_order 93 = .ok (.bipush 118, 2) := dk_16 118 (dk_at dksX3_order_3 22 rfl rfl)
theorem dX3_order_95 : decode cX3_order 95 = .ok (.if_icmp .ne 11, 3) := dk_160 0 11 (dk_at dksX3_order_4 0 rfl rfl)
theorem dX3_order_98 : decode cX3_order 98 = .ok (.aload_n 0, 1) := dk_42 (dk_at dksX3_order_4 3 rfl rfl)
theorem dX3_order_99 : decode cX3_order 99 = .ok (.bipush 58, 2) := dk_16 58 (dk_at dksX3_order_4 4 rfl rfl)
theorem dX3_order_101 : decode cX3_order 101 = .ok (.iconst 1, 1) := dk_4 (dk_at dksX3_order_4 6 rfl rfl)
theorem dX3_order_102 : decode cX3_order 102 = .ok (.invokevirtual 188, 3) := dk_182 0 188 (dk_at dksX3_order_4 7 rfl rfl)
theorem dX3_order_105 : decode cX3_order 105 = .ok (.istore_n 3, 1) := dk_62 (dk_at dksX3_order_4 10 rfl rfl)
theorem dX3_order_106 : decode cX3_order 106 = .ok (.iload_n 1, 1) := dk_27 (dk_at dksX3_order_4 11 rfl rfl)
theorem dX3_order_107 : decode cX3_order 107 = .ok (.bipush 115, 2) := dk_16 115 (dk_at dksX3_order_4 12 rfl rfl)
theorem dX3_order_109 : decode cX3_order 109 = .ok (.if_icmp .ne 8, 3) := dk_160 0 8 (dk_at dksX3_order_4 14 rfl rfl)
theorem dX3_order_112 : decode cX3_order 112 = .ok (.aload_n 0, 1) := dk_42 (dk_at dksX3_order_4 17 rfl rfl)
theorem dX3_order_113 : decode cX3_order 113 = .ok (.invokevirtual 191, 3) := dk_182 0 191 (dk_at dksX3_order_4 18 rfl rfl)
theorem dX3_order_116 : decode cX3_order 116 = .ok (.istore_n 3, 1) := dk_62 (dk_at dksX3_order_4 21 rfl rfl)
theorem dX3_order_117 : decode cX3_order 117 = .ok (.iload_n 1, 1) := dk_27 (dk_at dksX3_order_4 22 rfl rfl)
theorem dX3_order_118 : decode cX3_order 118 = .ok (.bipush 112, 2) := dk_16 112 (dk_at dksX3_order_5 0 rfl rfl)
theorem dX3_order_120 : decode cX3_order 120 = .ok (.if_icmp .ne 11, 3) := dk_160 0 11 (dk_at dksX3_order_5 2 rfl rfl)
theorem dX3_order_123 : decode cX3_order 123 = .ok (.aload_n 0, 1) := dk_42 (dk_at dksX3_order_5 5 rfl rfl)
theorem dX3_order_124 : decode cX3_order 124 = .ok (.bipush 64, 2) := dk_16 64 (dk_at dksX3_order_5 6 rfl rfl)
theorem dX3_order_126 : decode cX3_order 126 = .ok (.iconst 2, 1) := dk_5 (dk_at dksX3_order_5 8 rfl rfl)
theorem dX3_order_127 : decode cX3_order 127 = .ok (.invokevirtual 188, 3) := dk_182 0 188 (dk_at dksX3_order_5 9 rfl rfl)
theorem dX3_order_130 : decode cX3_order 130 = .ok (.istore_n 3, 1) := dk_62 (dk_at dksX3_order_5 12 rfl rfl)
theorem dX3_order_131 : decode cX3_order 131 = .ok (.iload_n 1, 1) := dk_27 (dk_at dksX3_order_5 13 rfl rfl)
theorem dX3_order_132 : decode cX3_order 132 = .ok (.bipush 112, 2) := dk_16 112 (dk_at dksX3_order_5 14 rfl rfl)
theorem dX3_order_134 : decode cX3_order 134 = .ok (.if_icmp .ne 12, 3) := dk_160 0 12 (dk_at dksX3_order_5 16 rfl rfl)
theorem dX3_order_137 : decode cX3_order 137 = .ok (.aload_n 0, 1) := dk_42 (dk_at dksX3_order_5 19 rfl rfl)
theorem dX3_order_138 : decode cX3_order 138 = .ok (.bipush 42, 2) := dk_16 42 (dk_at dksX3_order_5 20 rfl rfl)
theorem dX3_order_140 : decode cX3_order 140 = .ok (.iconst 1, 1) := dk_4 (dk_at dksX3_order_5 22 rfl rfl)
theorem dX3_order_141 : decode cX3_order 141 = .ok (.invokevirtual 188, 3) := dk_182 0 188 (dk_at dksX3_order_6 0 rfl rfl)
theorem dX3_order_144 : decode cX3_order 144 = .ok (.istore 4, 2) := dk_54 4 (dk_at dksX3_order_6 3 rfl rfl)
theorem dX3_order_146 : decode cX3_order 146 = .ok (.iload_n 1, 1) := dk_27 (dk_at dksX3_order_6 5 rfl rfl)
theorem dX3_order_147 : decode cX3_order 147 = .ok (.bipush 111, 2) := dk_16 111 (dk_at dksX3_order_6 6 rfl rfl)
theorem dX3_order_149 : decode cX3_order 149 = .ok (.if_icmp .ne 11, 3) := dk_160 0 11 (dk_at dksX3_order_6 8 rfl rfl)
theorem dX3_order_152 : decode cX3_order 152 = .ok (.aload_n 0, 1) := dk_42 (dk_at dksX3_order_6 11 rfl rfl)
theorem dX3_order_153 : decode cX3_order 153 = .ok (.bipush 45, 2) := dk_16 45 (dk_at dksX3_order_6 12 rfl rfl)
theorem dX3_order_155 : decode cX3_order 155 = .ok (.iconst 1, 1) := dk_4 (dk_at dksX3_order_6 14 rfl rfl)
theorem dX3_order_156 : decode cX3_order 156 = .ok (.invokevirtual 188, 3) := dk_182 0 188 (dk_at dksX3_order_6 15 rfl rfl)
theorem dX3_order_159 : decode cX3_order 159 = .ok (.istore_n 3, 1) := dk_62 (dk_at dksX3_order_6 18 rfl rfl)
theorem dX3_order_160 : decode cX3_order 160 = .ok (.aload_n 0, 1) := dk_42 (dk_at dksX3_order_6 19 rfl rfl)
theorem dX3_order_161 : decode cX3_order 161 = .ok (.getfield 172, 3) := dk_180 0 172 (dk_at dksX3_order_6 20 rfl rfl)
theorem dX3_order_164 : decode cX3_order 164 = .ok (.ifCond .ne 10, 3) := dk_154 0 10 (dk_at dksX3_order_7 0 rfl rfl)
theorem dX3_order_167 : decode cX3_order 167 = .ok (.aload_n 0, 1) := dk_42 (dk_at dksX3_order_7 3 rfl rfl)
theorem dX3_order_168 : decode cX3_order 168 = .ok (.getfield 194, 3) := dk_180 0 194 (dk_at dksX3_order_7 4 rfl rfl)
theorem dX3_order_171 : decode cX3_order 171 = .ok (.ifCond .ne 4, 3) := dk_154 0 4 (dk_at dksX3_order_7 7 rfl rfl)
theorem dX3_order_174 : decode cX3_order 174 = .ok (.return_, 1) := dk_177 (dk_at dksX3_order_7 10 rfl rfl)
theorem dX3_order_175 : decode cX3_order 175 = .ok (.aload_n 0, 1) := dk_42 (dk_at dksX3_order_7 11 rfl rfl)
theorem dX3_order_176 : decode cX3_order 176 = .ok (.iload_n 1, 1) := dk_27 (dk_at dksX3_order_7 12 rfl rfl)
theorem dX3_order_177 : decode cX3_order 177 = .ok (.iload_n 2, 1) := dk_28 (dk_at dksX3_order_7 13 rfl rfl)
theorem dX3_order_178 : decode cX3_order 178 = .ok (.iload_n 3, 1) := dk_29 (dk_at dksX3_order_7 14 rfl rfl)
theorem dX3_order_179 : decode cX3_order 179 = .ok (.iload 4, 2) := dk_21 4 (dk_at dksX3_order_7 15 rfl rfl)
theorem dX3_order_181 : decode cX3_order 181 = .ok (.invokevirtual 197, 3) := dk_182 0 197 (dk_at dksX3_order_7 17 rfl rfl)
theorem dX3_order_184 : decode cX3_order 184 = .ok (.istore 6, 2) := dk_54 6 (dk_at dksX3_order_7 20 rfl rfl)
theorem dX3_order_186 : decode cX3_order 186 = .ok (.return_, 1) := dk_177 (dk_at dksX3_order_7 22 rfl rfl)
def dkwX3_sign_1 : List UInt8 := [172]
abbrev dktX3_sign_1 : List UInt8 := dkwX3_sign_1 ++ []
def dkwX3_sign_0 : List UInt8 := [42, 180, 0, 166, 42, 180, 0, 169, 162, 0, 15, 42, 180, 0, 25, 42, 180, 0, 166, 46, 167, 0, 4, 2]
abbrev dktX3_sign_0 : List UInt8 := dkwX3_sign_0 ++ dktX3_sign_1
theorem dksX3_sign_0 : cX3_sign.data.toList.drop 0 = dktX3_sign_0 := by decide +kernel
theorem dksX3_sign_1 : cX3_sign.data.toList.drop 24 = dktX3_sign_1 := dk_seg dksX3_sign_0 24 rfl rfl
theorem dX3_sign_0 : decode cX3_sign 0 = .ok (.aload_n 0, 1) := dk_42 (dk_at dksX3_sign_0 0 rfl rfl)
theorem dX3_sign_1 : decode cX3_sign 1 = .ok (.getfield 166, 3) := dk_180 0 166 (dk_at dksX3_sign_0 1 rfl rfl)
theorem dX3_sign_4 : decode cX3_sign 4 = .ok (.aload_n 0, 1) := dk_42 (dk_at dksX3_sign_0 4 rfl rfl)
theorem dX3_sign_5 : decode cX3_sign 5 = .ok (.getfield 169, 3) := dk_180 0 169 (dk_at dksX3_sign_0 5 rfl rfl)
theorem dX3_sign_8 : decode cX3_sign 8 = .ok (.if_icmp .ge 15, 3) := dk_162 0 15 (dk_at dksX3_sign_0 8 rfl rfl)
theorem dX3_sign_11 : decode cX3_sign 11 = .ok (.aload_n 0, 1) := dk_42 (dk_at dksX3_sign_0 11 rfl rfl)
theorem dX3_sign_12 : decode cX3_sign 12 = .ok (.getfield 25, 3) := dk_180 0 25 (dk_at dksX3_sign_0 12 rfl rfl)
theorem dX3_sign_15 : decode cX3_sign 15 = .ok (.aload_n 0, 1) := dk_42 (dk_at dksX3_sign_0 15 rfl rfl)
theorem dX3_sign_16 : decode cX3_sign 16 = .ok (.getfield 166, 3) := dk_180 0 166 (dk_at dksX3_sign_0 16 rfl rfl)
theorem dX3_sign_19 : decode cX3_sign 19 = .ok (.iaload, 1) := dk_46 (dk_at dksX3_sign_0 19 rfl rfl)
theorem dX3_sign_20 : decode cX3_sign 20 = .ok (.goto 4, 3) := dk_167 0 4 (dk_at dksX3_sign_0 20 rfl rfl)
theorem dX3_sign_23 : decode cX3_sign 23 = .ok (.iconst (-1), 1) := dk_2 (dk_at dksX3_sign_0 23 rfl rfl)
theorem dX3_sign_24 : decode cX3_sign 24 = .ok (.ireturn, 1) := dk_172 (dk_at dksX3_sign_1 0 rfl rfl)
def dkwX3_isKnown_2 : List UInt8 := [26, 16, 101, 160, 0, 7, 4, 167, 0, 4, 3, 172]
abbrev dktX3_isKnown_2 : List UInt8 := dkwX3_isKnown_2 ++ []
def dkwX3_isKnown_1 : List UInt8 := [26, 16, 99, 159, 0, 27, 26, 16, 110, 159, 0, 21, 26, 16, 104, 159, 0, 15, 26, 16, 111, 159, 0, 9]
abbrev dktX3_isKnown_1 : List UInt8 := dkwX3_isKnown_1 ++ dktX3_isKnown_2
def dkwX3_isKnown_0 : List UInt8 := [26, 16, 114, 159, 0, 51, 26, 16, 118, 159, 0, 45, 26, 16, 115, 159, 0, 39, 26, 16, 112, 159, 0, 33]
abbrev dktX3_isKnown_0 : List UInt8 := dkwX3_isKnown_0 ++ dktX3_isKnown_1
theorem dksX3_isKnown_0 : cX3_isKnown.data.toList.drop 0 = dktX3_isKnown_0 := by decide +kernel
theorem dksX3_isKnown_1 : cX3_isKnown.data.toList.drop 24 = dktX3_isKnown_1 := dk_seg dksX3_isKnown_0 24 rfl rfl
theorem dksX3_isKnown_2 : cX3_isKnown.data.toList.drop 48 = dktX3_isKnown_2 := dk_seg dksX3_isKnown_1 24 rfl rfl
theorem dX3_isKnown_0 : decode cX3_isKnown 0 = .ok (.iload_n 0, 1) := dk_26 (dk_at dksX3_isKnown_0 0 rfl rfl)
theorem dX3_isKnown_1 : decode cX3_isKnown 1 = .ok (.bipush 114, 2) := dk_16 114 (dk_at dksX3_isKnown_0 1 rfl rfl)
theorem dX3_isKnown_3 : decode cX3_isKnown 3 = .ok (.if_icmp .eq 51, 3) := dk_159 0 51 (dk_at dksX3_isKnown_0 3 rfl rfl)
theorem dX3_isKnown_6 : decode cX3_isKnown 6 = .ok (.iload_n 0, 1) := dk_26 (dk_at dksX3_isKnown_0 6 rfl rfl)
theorem dX3_isKnown_7 : decode cX3_isKnown 7 = .ok (.bipush 118, 2) := dk_16 118 (dk_at dksX3_isKnown_0 7 rfl rfl)
theorem dX3_isKnown_9 : decode cX3_isKnown 9 = .ok (.if_icmp .eq 45, 3) := dk_159 0 45 (dk_at dksX3_isKnown_0 9 rfl rfl)
theorem dX3_isKnown_12 : decode cX3_isKnown 12 = .ok (.iload_n 0, 1) := dk_26 (dk_at dksX3_isKnown_0 12 rfl rfl)
theorem dX3_isKnown_13 : decode cX3_isKnown 13 = .ok (.bipush 115, 2) := dk_16 115 (dk_at dksX3_isKnown_0 13 rfl rfl)
theorem dX3_isKnown_15 : decode cX3_isKnown 15 = .ok (.if_icmp .eq 39, 3) := dk_159 0 39 (dk_at dksX3_isKnown_0 15 rfl rfl)
theorem dX3_isKnown_18 : decode cX3_isKnown 18 = .ok (.iload_n 0, 1) := dk_26 (dk_at dksX3_isKnown_0 18 rfl rfl)
theorem dX3_isKnown_19 : decode cX3_isKnown 19 = .ok (.bipush 112, 2) := dk_16 112 (dk_at dksX3_isKnown_0 19 rfl rfl)
theorem dX3_isKnown_21 : decode cX3_isKnown 21 = .ok (.if_icmp .eq 33, 3) := dk_159 0 33 (dk_at dksX3_isKnown_0 21 rfl rfl)
theorem dX3_isKnown_24 : decode cX3_isKnown 24 = .ok (.iload_n 0, 1) := dk_26 (dk_at dksX3_isKnown_1 0 rfl rfl)
theorem dX3_isKnown_25 : decode cX3_isKnown 25 = .ok (.bipush 99, 2) := dk_16 99 (dk_at dksX3_isKnown_1 1 rfl rfl)
theorem dX3_isKnown_27 : decode cX3_isKnown 27 = .ok (.if_icmp .eq 27, 3) := dk_159 0 27 (dk_at dksX3_isKnown_1 3 rfl rfl)
theorem dX3_isKnown_30 : decode cX3_isKnown 30 = .ok (.iload_n 0, 1) := dk_26 (dk_at dksX3_isKnown_1 6 rfl rfl)
theorem dX3_isKnown_31 : decode cX3_isKnown 31 = .ok (.bipush 110, 2) := dk_16 110 (dk_at dksX3_isKnown_1 7 rfl rfl)
theorem dX3_isKnown_33 : decode cX3_isKnown 33 = .ok (.if_icmp .eq 21, 3) := dk_159 0 21 (dk_at dksX3_isKnown_1 9 rfl rfl)
theorem dX3_isKnown_36 : decode cX3_isKnown 36 = .ok (.iload_n 0, 1) := dk_26 (dk_at dksX3_isKnown_1 12 rfl rfl)
theorem dX3_isKnown_37 : decode cX3_isKnown 37 = .ok (.bipush 104, 2) := dk_16 104 (dk_at dksX3_isKnown_1 13 rfl rfl)
theorem dX3_isKnown_39 : decode cX3_isKnown 39 = .ok (.if_icmp .eq 15, 3) := dk_159 0 15 (dk_at dksX3_isKnown_1 15 rfl rfl)
theorem dX3_isKnown_42 : decode cX3_isKnown 42 = .ok (.iload_n 0, 1) := dk_26 (dk_at dksX3_isKnown_1 18 rfl rfl)
theorem dX3_isKnown_43 : decode cX3_isKnown 43 = .ok (.bipush 111, 2) := dk_16 111 (dk_at dksX3_isKnown_1 19 rfl rfl)
theorem dX3_isKnown_45 : decode cX3_isKnown 45 = .ok (.if_icmp .eq 9, 3) := dk_159 0 9 (dk_at dksX3_isKnown_1 21 rfl rfl)
theorem dX3_isKnown_48 : decode cX3_isKnown 48 = .ok (.iload_n 0, 1) := dk_26 (dk_at dksX3_isKnown_2 0 rfl rfl)
theorem dX3_isKnown_49 : decode cX3_isKnown 49 = .ok (.bipush 101, 2) := dk_16 101 (dk_at dksX3_isKnown_2 1 rfl rfl)
theorem dX3_isKnown_51 : decode cX3_isKnown 51 = .ok (.if_icmp .ne 7, 3) := dk_160 0 7 (dk_at dksX3_isKnown_2 3 rfl rfl)
theorem dX3_isKnown_54 : decode cX3_isKnown 54 = .ok (.iconst 1, 1) := dk_4 (dk_at dksX3_isKnown_2 6 rfl rfl)
theorem dX3_isKnown_55 : decode cX3_isKnown 55 = .ok (.goto 4, 3) := dk_167 0 4 (dk_at dksX3_isKnown_2 7 rfl rfl)
theorem dX3_isKnown_58 : decode cX3_isKnown 58 = .ok (.iconst 0, 1) := dk_3 (dk_at dksX3_isKnown_2 10 rfl rfl)
theorem dX3_isKnown_59 : decode cX3_isKnown 59 = .ok (.ireturn, 1) := dk_172 (dk_at dksX3_isKnown_2 11 rfl rfl)
def dkwX3_digits_3 : List UInt8 := [3, 128, 181, 0, 172, 28, 172]
abbrev dktX3_digits_3 : List UInt8 := dkwX3_digits_3 ++ []
def dkwX3_digits_2 : List UInt8 := [4, 96, 181, 0, 166, 132, 3, 1, 167, 255, 204, 42, 89, 180, 0, 172, 29, 154, 0, 7, 4, 167, 0, 4]
abbrev dktX3_digits_2 : List UInt8 := dkwX3_digits_2 ++ dktX3_digits_3
def dkwX3_digits_1 : List UInt8 := [184, 0, 52, 153, 0, 32, 16, 10, 28, 104, 42, 182, 0, 176, 96, 16, 48, 100, 61, 42, 89, 180, 0, 166]
abbrev dktX3_digits_1 : List UInt8 := dkwX3_digits_1 ++ dktX3_digits_2
def dkwX3_digits_0 : List UInt8 := [3, 61, 3, 62, 42, 180, 0, 172, 154, 0, 51, 29, 27, 162, 0, 46, 42, 182, 0, 176, 16, 48, 16, 57]
abbrev dktX3_digits_0 : List UInt8 := dkwX3_digits_0 ++ dktX3_digits_1
theorem dksX3_digits_0 : cX3_digits.data.toList.drop 0 = dktX3_digits_0 := by decide +kernel
theorem dksX3_digits_1 : cX3_digits.data.toList.drop 24 = dktX3_digits_1 := dk_seg dksX3_digits_0 24 rfl rfl
theorem dksX3_digits_2 : cX3_digits.data.toList.drop 48 = dktX3_digits_2 := dk_seg dksX3_digits_1 24 rfl rfl
theorem dksX3_digits_3 : cX3_digits.data.toList.drop 72 = dktX3_digits_3 := dk_seg dksX3_digits_2 24 rfl rfl
theorem dX3_digits_0 : decode cX3_digits 0 = .ok (.iconst 0, 1) := dk_3 (dk_at dksX3_digits_0 0 rfl rfl)
theorem dX3_digits_1 : decode cX3_digits 1 = .ok (.istore_n 2, 1) := dk_61 (dk_at dksX3_digits_0 1 rfl rfl)
theorem dX3_digits_2 : decode cX3_digits 2 = .ok (.iconst 0, 1) := dk_3 (dk_at dksX3_digits_0 2 rfl rfl)
theorem dX3_digits_3 : decode cX3_digits 3 = .ok (.istore_n 3, 1) := dk_62 (dk_at dksX3_digits_0 3 rfl rfl)
theorem dX3_digits_4 : decode cX3_digits 4 = .ok (.aload_n 0, 1) := dk_42 (dk_at dksX3_digits_0 4 rfl rfl)
theorem dX3_digits_5 : decode cX3_digits 5 = .ok (.getfield 172, 3) := dk_180 0 172 (dk_at dksX3_digits_0 5 rfl rfl)
theorem dX3_digits_8 : decode cX3_digits 8 = .ok (.ifCond .ne 51, 3) := dk_154 0 51 (dk_at dksX3_digits_0 8 rfl rfl)
theorem dX3_digits_11 : decode cX3_digits 11 = .ok (.iload_n 3, 1) := dk_29 (dk_at dksX3_digits_0 11 rfl rfl)
theorem dX3_digits_12 : decode cX3_digits 12 = .ok (.iload_n 1, 1) := dk_27 (dk_at dksX3_digits_0 12 rfl rfl)
theorem dX3_digits_13 : decode cX3_digits 13 = .ok (.if_icmp .ge 46, 3) := dk_162 0 46 (dk_at dksX3_digits_0 13 rfl rfl)
theorem dX3_digits_16 : decode cX3_digits 16 = .ok (.aload_n 0, 1) := dk_42 (dk_at dksX3_digits_0 16 rfl rfl)
theorem dX3_digits_17 : decode cX3_digits 17 = .ok (.invokevirtual 176, 3) := dk_182 0 176 (dk_at dksX3_digits_0 17 rfl rfl)
theorem dX3_digits_20 : decode cX3_digits 20 = .ok (.bipush 48, 2) := dk_16 48 (dk_at dksX3_digits_0 20 rfl rfl)
theorem dX3_digits_22 : decode cX3_digits 22 = .ok (.bipush 57, 2) := dk_16 57 (dk_at dksX3_digits_0 22 rfl rfl)
theorem dX3_digits_24 : decode cX3_digits 24 = .ok (.invokestatic 52, 3) := dk_184 0 52 (dk_at dksX3_digits_1 0 rfl rfl)
theorem dX3_digits_27 : decode cX3_digits 27 = .ok (.ifCond .eq 32, 3) := dk_153 0 32 (dk_at dksX3_digits_1 3 rfl rfl)
theorem dX3_digits_30 : decode cX3_digits 30 = .ok (.bipush 10, 2) := dk_16 10 (dk_at dksX3_digits_1 6 rfl rfl)
theorem dX3_digits_32 : decode cX3_digits 32 = .ok (.iload_n 2, 1) := dk_28 (dk_at dksX3_digits_1 8 rfl rfl)
theorem dX3_digits_33 : decode cX3_digits 33 = .ok (.imul, 1) := dk_104 (dk_at dksX3_digits_1 9 rfl rfl)
theorem dX3_digits_34 : decode cX3_digits 34 = .ok (.aload_n 0, 1) := dk_42 (dk_at dksX3_digits_1 10 rfl rfl)
theorem dX3_digits_35 : decode cX3_digits 35 = .ok (.invokevirtual 176, 3) := dk_182 0 176 (dk_at dksX3_digits_1 11 rfl rfl)
theorem dX3_digits_38 : decode cX3_digits 38 = .ok (.iadd, 1) := dk_96 (dk_at dksX3_digits_1 14 rfl rfl)
theorem dX3_digits_39 : decode cX3_digits 39 = .ok (.bipush 48, 2) := dk_16 48 (dk_at dksX3_digits_1 15 rfl rfl)
theorem dX3_digits_41 : decode cX3_digits 41 = .ok (.isub, 1) := dk_100 (dk_at dksX3_digits_1 17 rfl rfl)
theorem dX3_digits_42 : decode cX3_digits 42 = .ok (.istore_n 2, 1) := dk_61 (dk_at dksX3_digits_1 18 rfl rfl)
theorem dX3_digits_43 : decode cX3_digits 43 = .ok (.aload_n 0, 1) := dk_42 (dk_at dksX3_digits_1 19 rfl rfl)
theorem dX3_digits_44 : decode cX3_digits 44 = .ok (.dup, 1) := dk_89 (dk_at dksX3_digits_1 20 rfl rfl)
theorem dX3_digits_45 : decode cX3_digits 45 = .ok (.getfield 166, 3) := dk_180 0 166 (dk_at dksX3_digits_1 21 rfl rfl)
theorem dX3_digits_48 : decode cX3_digits 48 = .ok (.iconst 1, 1) := dk_4 (dk_at dksX3_digits_2 0 rfl rfl)
theorem dX3_digits_49 : decode cX3_digits 49 = .ok (.iadd, 1) := dk_96 (dk_at dksX3_digits_2 1 rfl rfl)
theorem dX3_digits_50 : decode cX3_digits 50 = .ok (.putfield 166, 3) := dk_181 0 166 (dk_at dksX3_digits_2 2 rfl rfl)
theorem dX3_digits_53 : decode cX3_digits 53 = .ok (.iinc 3 1, 3) := dk_132 3 1 (dk_at dksX3_digits_2 5 rfl rfl)
theorem dX3_digits_56 : decode cX3_digits 56 = .ok (.goto (-52), 3) := dk_167 255 204 (dk_at dksX3_digits_2 8 rfl rfl)
theorem dX3_digits_59 : decode cX3_digits 59 = .ok (.aload_n 0, 1) := dk_42 (dk_at dksX3_digits_2 11 rfl rfl)
theorem dX3_digits_60 : decode cX3_digits 60 = .ok (.dup, 1) := dk_89 (dk_at dksX3_digits_2 12 rfl rfl)
theorem dX3_digits_61 : decode cX3_digits 61 = .ok (.getfield 172, 3) := dk_180 0 172 (dk_at dksX3_digits_2 13 rfl rfl)
theorem dX3_digits_64 : decode cX3_digits 64 = .ok (.iload_n 3, 1) := dk_29 (dk_at dksX3_digits_2 16 rfl rfl)
theorem dX3_digits_65 : decode cX3_digits 65 = .ok (.ifCond .ne 7, 3) := dk_154 0 7 (dk_at dksX3_digits_2 17 rfl rfl)
theorem dX3_digits_68 : decode cX3_digits 68 = .ok (.iconst 1, 1) := dk_4 (dk_at dksX3_digits_2 20 rfl rfl)
theorem dX3_digits_69 : decode cX3_digits 69 = .ok (.goto 4, 3) := dk_167 0 4 (dk_at dksX3_digits_2 21 rfl rfl)
theorem dX3_digits_72 : decode cX3_digits 72 = .ok (.iconst 0, 1) := dk_3 (dk_at dksX3_digits_3 0 rfl rfl)
theorem dX3_digits_73 : decode cX3_digits 73 = .ok (.ior, 1) := dk_128 (dk_at dksX3_digits_3 1 rfl rfl)
theorem dX3_digits_74 : decode cX3_digits 74 = .ok (.putfield 172, 3) := dk_181 0 172 (dk_at dksX3_digits_3 2 rfl rfl)
theorem dX3_digits_77 : decode cX3_digits 77 = .ok (.iload_n 2, 1) := dk_28 (dk_at dksX3_digits_3 5 rfl rfl)
theorem dX3_digits_78 : decode cX3_digits 78 = .ok (.ireturn, 1) := dk_172 (dk_at dksX3_digits_3 6 rfl rfl)
def dkwX3_behind_0 : List UInt8 := [42, 27, 182, 0, 179, 42, 180, 0, 172, 153, 0, 7, 3, 167, 0, 8, 42, 28, 182, 0, 182, 172]
abbrev dktX3_behind_0 : List UInt8 := dkwX3_behind_0 ++ []
theorem dksX3_behind_0 : cX3_behind.data.toList.drop 0 = dktX3_behind_0 := by decide +kernel
theorem dX3_behind_0 : decode cX3_behind 0 = .ok (.aload_n 0, 1) := dk_42 (dk_at dksX3_behind_0 0 rfl rfl)
theorem dX3_behind_1 : decode cX3_behind 1 = .ok (.iload_n 1, 1) := dk_27 (dk_at dksX3_behind_0 1 rfl rfl)
theorem dX3_behind_2 : decode cX3_behind 2 = .ok (.invokevirtual 179, 3) := dk_182 0 179 (dk_at dksX3_behind_0 2 rfl rfl)
theorem dX3_behind_5 : decode cX3_behind 5 = .ok (.aload_n 0, 1) := dk_42 (dk_at dksX3_behind_0 5 rfl rfl)
theorem dX3_behind_6 : decode cX3_behind 6 = .ok (.getfield 172, 3) := dk_180 0 172 (dk_at dksX3_behind_0 6 rfl rfl)
theorem dX3_behind_9 : decode cX3_behind 9 = .ok (.ifCond .eq 7, 3) := dk_153 0 7 (dk_at dksX3_behind_0 9 rfl rfl)
theorem dX3_behind_12 : decode cX3_behind 12 = .ok (.iconst 0, 1) := dk_3 (dk_at dksX3_behind_0 12 rfl rfl)
theorem dX3_behind_13 : decode cX3_behind 13 = .ok (.goto 8, 3) := dk_167 0 8 (dk_at dksX3_behind_0 13 rfl rfl)
theorem dX3_behind_16 : decode cX3_behind 16 = .ok (.aload_n 0, 1) := dk_42 (dk_at dksX3_behind_0 16 rfl rfl)
theorem dX3_behind_17 : decode cX3_behind 17 = .ok (.iload_n 2, 1) := dk_28 (dk_at dksX3_behind_0 17 rfl rfl)
theorem dX3_behind_18 : decode cX3_behind 18 = .ok (.invokevirtual 182, 3) := dk_182 0 182 (dk_at dksX3_behind_0 18 rfl rfl)
theorem dX3_behind_21 : decode cX3_behind 21 = .ok (.ireturn, 1) := dk_172 (dk_at dksX3_behind_0 21 rfl rfl)
def dkwX3_mark_2 : List UInt8 := [177]
abbrev dktX3_mark_2 : List UInt8 := dkwX3_mark_2 ++ []
def dkwX3_mark_1 : List UInt8 := [181, 0, 172, 42, 89, 180, 0, 166, 42, 180, 0, 172, 153, 0, 7, 3, 167, 0, 4, 4, 96, 181, 0, 166]
abbrev dktX3_mark_1 : List UInt8 := dkwX3_mark_1 ++ dktX3_mark_2
def dkwX3_mark_0 : List UInt8 := [42, 180, 0, 172, 153, 0, 4, 177, 42, 42, 182, 0, 176, 27, 159, 0, 7, 4, 167, 0, 4, 3]
abbrev dktX3_mark_0 : List UInt8 := dkwX3_mark_0 ++ dktX3_mark_1
theorem dksX3_mark_0 : cX3_mark.data.toList.drop 0 = dktX3_mark_0 := by decide +kernel
theorem dksX3_mark_1 : cX3_mark.data.toList.drop 22 = dktX3_mark_1 := dk_seg dksX3_mark_0 22 rfl rfl
theorem dksX3_mark_2 : cX3_mark.data.toList.drop 46 = dktX3_mark_2 := dk_seg dksX3_mark_1 24 rfl rfl
theorem dX3_mark_0 : decode cX3_mark 0 = .ok (.aload_n 0, 1) := dk_42 (dk_at dksX3_mark_0 0 rfl rfl)
theorem dX3_mark_1 : decode cX3_mark 1 = .ok (.getfield 172, 3) := dk_180 0 172 (dk_at dksX3_mark_0 1 rfl rfl)
theorem dX3_mark_4 : decode cX3_mark 4 = .ok (.ifCond .eq 4, 3) := dk_153 0 4 (dk_at dksX3_mark_0 4 rfl rfl)
theorem dX3_mark_7 : decode cX3_mark 7 = .ok (.return_, 1) := dk_177 (dk_at dksX3_mark_0 7 rfl rfl)
theorem dX3_mark_8 : decode cX3_mark 8 = .ok (.aload_n 0, 1) := dk_42 (dk_at dksX3_mark_0 8 rfl rfl)
theorem dX3_mark_9 : decode cX3_mark 9 = .ok (.aload_n 0, 1) := dk_42 (dk_at dksX3_mark_0 9 rfl rfl)
theorem dX3_mark_10 : decode cX3_mark 10 = .ok (.invokevirtual 176, 3) := dk_182 0 176 (dk_at dksX3_mark_0 10 rfl rfl)
theorem dX3_mark_13 : decode cX3_mark 13 = .ok (.iload_n 1, 1) := dk_27 (dk_at dksX3_mark_0 13 rfl rfl)
theorem dX3_mark_14 : decode cX3_mark 14 = .ok (.if_icmp .eq 7, 3) := dk_159 0 7 (dk_at dksX3_mark_0 14 rfl rfl)
theorem dX3_mark_17 : decode cX3_mark 17 = .ok (.iconst 1, 1) := dk_4 (dk_at dksX3_mark_0 17 rfl rfl)
theorem dX3_mark_18 : decode cX3_mark 18 = .ok (.goto 4, 3) := dk_167 0 4 (dk_at dksX3_mark_0 18 rfl rfl)
theorem dX3_mark_21 : decode cX3_mark 21 = .ok (.iconst 0, 1) := dk_3 (dk_at dksX3_mark_0 21 rfl rfl)
theorem dX3_mark_22 : decode cX3_mark 22 = .ok (.putfield 172, 3) := dk_181 0 172 (dk_at dksX3_mark_1 0 rfl rfl)
theorem dX3_mark_25 : decode cX3_mark 25 = .ok (.aload_n 0, 1) := dk_42 (dk_at dksX3_mark_1 3 rfl rfl)
theorem dX3_mark_26 : decode cX3_mark 26 = .ok (.dup, 1) := dk_89 (dk_at dksX3_mark_1 4 rfl rfl)
theorem dX3_mark_27 : decode cX3_mark 27 = .ok (.getfield 166, 3) := dk_180 0 166 (dk_at dksX3_mark_1 5 rfl rfl)
theorem dX3_mark_30 : decode cX3_mark 30 = .ok (.aload_n 0, 1) := dk_42 (dk_at dksX3_mark_1 8 rfl rfl)
theorem dX3_mark_31 : decode cX3_mark 31 = .ok (.getfield 172, 3) := dk_180 0 172 (dk_at dksX3_mark_1 9 rfl rfl)
theorem dX3_mark_34 : decode cX3_mark 34 = .ok (.ifCond .eq 7, 3) := dk_153 0 7 (dk_at dksX3_mark_1 12 rfl rfl)
theorem dX3_mark_37 : decode cX3_mark 37 = .ok (.iconst 0, 1) := dk_3 (dk_at dksX3_mark_1 15 rfl rfl)
theorem dX3_mark_38 : decode cX3_mark 38 = .ok (.goto 4, 3) := dk_167 0 4 (dk_at dksX3_mark_1 16 rfl rfl)
theorem dX3_mark_41 : decode cX3_mark 41 = .ok (.iconst 1, 1) := dk_4 (dk_at dksX3_mark_1 19 rfl rfl)
theorem dX3_mark_42 : decode cX3_mark 42 = .ok (.iadd, 1) := dk_96 (dk_at dksX3_mark_1 20 rfl rfl)
theorem dX3_mark_43 : decode cX3_mark 43 = .ok (.putfield 166, 3) := dk_181 0 166 (dk_at dksX3_mark_1 21 rfl rfl)
theorem dX3_mark_46 : decode cX3_mark 46 = .ok (.return_, 1) := dk_177 (dk_at dksX3_mark_2 0 rfl rfl)
def dkwX3_plus_2 : List UInt8 := [172]
abbrev dktX3_plus_2 : List UInt8 := dkwX3_plus_2 ++ []
def dkwX3_plus_1 : List UInt8 := [42, 27, 153, 0, 8, 16, 43, 167, 0, 5, 16, 45, 182, 0, 179, 27, 153, 0, 7, 4, 167, 0, 4, 3]
abbrev dktX3_plus_1 : List UInt8 := dkwX3_plus_1 ++ dktX3_plus_2
def dkwX3_plus_0 : List UInt8 := [42, 180, 0, 172, 153, 0, 5, 3, 172, 42, 182, 0, 176, 16, 43, 160, 0, 7, 4, 167, 0, 4, 3, 60]
abbrev dktX3_plus_0 : List UInt8 := dkwX3_plus_0 ++ dktX3_plus_1
theorem dksX3_plus_0 : cX3_plus.data.toList.drop 0 = dktX3_plus_0 := by decide +kernel
theorem dksX3_plus_1 : cX3_plus.data.toList.drop 24 = dktX3_plus_1 := dk_seg dksX3_plus_0 24 rfl rfl
theorem dksX3_plus_2 : cX3_plus.data.toList.drop 48 = dktX3_plus_2 := dk_seg dksX3_plus_1 24 rfl rfl
theorem dX3_plus_0 : decode cX3_plus 0 = .ok (.aload_n 0, 1) := dk_42 (dk_at dksX3_plus_0 0 rfl rfl)
theorem dX3_plus_1 : decode cX3_plus 1 = .ok (.getfield 172, 3) := dk_180 0 172 (dk_at dksX3_plus_0 1 rfl rfl)
theorem dX3_plus_4 : decode cX3_plus 4 = .ok (.ifCond .eq 5, 3) := dk_153 0 5 (dk_at dksX3_plus_0 4 rfl rfl)
theorem dX3_plus_7 : decode cX3_plus 7 = .ok (.iconst 0, 1) := dk_3 (dk_at dksX3_plus_0 7 rfl rfl)
theorem dX3_plus_8 : decode cX3_plus 8 = .ok (.ireturn, 1) := dk_172 (dk_at dksX3_plus_0 8 rfl rfl)
theorem dX3_plus_9 : decode cX3_plus 9 = .ok (.aload_n 0, 1) := dk_42 (dk_at dksX3_plus_0 9 rfl rfl)
theorem dX3_plus_10 : decode cX3_plus 10 = .ok (.invokevirtual 176, 3) := dk_182 0 176 (dk_at dksX3_plus_0 10 rfl rfl)
theorem dX3_plus_13 : decode cX3_plus 13 = .ok (.bipush 43, 2) := dk_16 43 (dk_at dksX3_plus_0 13 rfl rfl)
theorem dX3_plus_15 : decode cX3_plus 15 = .ok (.if_icmp .ne 7, 3) := dk_160 0 7 (dk_at dksX3_plus_0 15 rfl rfl)
theorem dX3_plus_18 : decode cX3_plus 18 = .ok (.iconst 1, 1) := dk_4 (dk_at dksX3_plus_0 18 rfl rfl)
theorem dX3_plus_19 : decode cX3_plus 19 = .ok (.goto 4, 3) := dk_167 0 4 (dk_at dksX3_plus_0 19 rfl rfl)
theorem dX3_plus_22 : decode cX3_plus 22 = .ok (.iconst 0, 1) := dk_3 (dk_at dksX3_plus_0 22 rfl rfl)
theorem dX3_plus_23 : decode cX3_plus 23 = .ok (.istore_n 1, 1) := dk_60 (dk_at dksX3_plus_0 23 rfl rfl)
theorem dX3_plus_24 : decode cX3_plus 24 = .ok (.aload_n 0, 1) := dk_42 (dk_at dksX3_plus_1 0 rfl rfl)
theorem dX3_plus_25 : decode cX3_plus 25 = .ok (.iload_n 1, 1) := dk_27 (dk_at dksX3_plus_1 1 rfl rfl)
theorem dX3_plus_26 : decode cX3_plus 26 = .ok (.ifCond .eq 8, 3) := dk_153 0 8 (dk_at dksX3_plus_1 2 rfl rfl)
theorem dX3_plus_29 : decode cX3_plus 29 = .ok (.bipush 43, 2) := dk_16 43 (dk_at dksX3_plus_1 5 rfl rfl)
theorem dX3_plus_31 : decode cX3_plus 31 = .ok (.goto 5, 3) := dk_167 0 5 (dk_at dksX3_plus_1 7 rfl rfl)
theorem dX3_plus_34 : decode cX3_plus 34 = .ok (.bipush 45, 2) := dk_16 45 (dk_at dksX3_plus_1 10 rfl rfl)
theorem dX3_plus_36 : decode cX3_plus 36 = .ok (.invokevirtual 179, 3) := dk_182 0 179 (dk_at dksX3_plus_1 12 rfl rfl)
theorem dX3_plus_39 : decode cX3_plus 39 = .ok (.iload_n 1, 1) := dk_27 (dk_at dksX3_plus_1 15 rfl rfl)
theorem dX3_plus_40 : decode cX3_plus 40 = .ok (.ifCond .eq 7, 3) := dk_153 0 7 (dk_at dksX3_plus_1 16 rfl rfl)
theorem dX3_plus_43 : decode cX3_plus 43 = .ok (.iconst 1, 1) := dk_4 (dk_at dksX3_plus_1 19 rfl rfl)
theorem dX3_plus_44 : decode cX3_plus 44 = .ok (.goto 4, 3) := dk_167 0 4 (dk_at dksX3_plus_1 20 rfl rfl)
theorem dX3_plus_47 : decode cX3_plus 47 = .ok (.iconst 0, 1) := dk_3 (dk_at dksX3_plus_1 23 rfl rfl)
theorem dX3_plus_48 : decode cX3_plus 48 = .ok (.ireturn, 1) := dk_172 (dk_at dksX3_plus_2 0 rfl rfl)
def dkwX3_does_4 : List UInt8 := [29, 182, 0, 88, 172, 42, 182, 0, 130, 172]
abbrev dktX3_does_4 : List UInt8 := dkwX3_does_4 ++ []
def dkwX3_does_3 : List UInt8 := [21, 4, 182, 0, 101, 172, 42, 28, 182, 0, 109, 172, 42, 182, 0, 124, 172, 42, 182, 0, 127, 172, 42, 28]
abbrev dktX3_does_3 : List UInt8 := dkwX3_does_3 ++ dktX3_does_4
def dkwX3_does_2 : List UInt8 := [42, 28, 182, 0, 70, 172, 42, 28, 29, 182, 0, 82, 172, 42, 28, 29, 182, 0, 85, 172, 42, 28, 29]
abbrev dktX3_does_2 : List UInt8 := dkwX3_does_2 ++ dktX3_does_3
def dkwX3_does_1 : List UInt8 := [170, 0, 0, 0, 0, 0, 147, 0, 0, 0, 99, 0, 0, 0, 118, 0, 0, 0, 124, 0, 0, 0, 147, 0, 0, 0, 147, 0, 0, 0, 147, 0, 0, 0, 147, 0, 0, 0, 135, 0, 0, 0, 147, 0, 0, 0, 147, 0, 0, 0, 147, 0, 0, 0, 147, 0, 0, 0, 147, 0, 0, 0, 130, 0, 0, 0, 140, 0, 0, 0, 115, 0, 0, 0, 147, 0, 0, 0, 95, 0, 0, 0, 108, 0, 0, 0, 147, 0, 0, 0, 147, 0, 0, 0, 101]
abbrev dktX3_does_1 : List UInt8 := dkwX3_does_1 ++ dktX3_does_2
def dkwX3_does_0 : List UInt8 := [27]
abbrev dktX3_does_0 : List UInt8 := dkwX3_does_0 ++ dktX3_does_1
theorem dksX3_does_0 : cX3_does.data.toList.drop 0 = dktX3_does_0 := by decide +kernel
theorem dksX3_does_1 : cX3_does.data.toList.drop 1 = dktX3_does_1 := dk_seg dksX3_does_0 1 rfl rfl
theorem dksX3_does_2 : cX3_does.data.toList.drop 96 = dktX3_does_2 := dk_seg dksX3_does_1 95 rfl rfl
theorem dksX3_does_3 : cX3_does.data.toList.drop 119 = dktX3_does_3 := dk_seg dksX3_does_2 23 rfl rfl
theorem dksX3_does_4 : cX3_does.data.toList.drop 143 = dktX3_does_4 := dk_seg dksX3_does_3 24 rfl rfl
theorem dX3_does_0 : decode cX3_does 0 = .ok (.iload_n 1, 1) := dk_27 (dk_at dksX3_does_0 0 rfl rfl)
theorem dX3_does_1 : decode cX3_does 1 = .ok (.tableswitch 147 99 118 #[124, 147, 147, 147, 147, 135, 147, 147, 147, 147, 147, 130, 140, 115, 147, 95, 108, 147, 147, 101], 95) := by decide +kernel
theorem dX3_does_96 : decode cX3_does 96 = .ok (.aload_n 0, 1) := dk_42 (dk_at dksX3_does_2 0 rfl rfl)
theorem dX3_does_97 : decode cX3_does 97 = .ok (.iload_n 2, 1) := dk_28 (dk_at dksX3_does_2 1 rfl rfl)
theorem dX3_does_98 : decode cX3_does 98 = .ok (.invokevirtual 70, 3) := dk_182 0 70 (dk_at dksX3_does_2 2 rfl rfl)
theorem dX3_does_101 : decode cX3_does 101 = .ok (.ireturn, 1) := dk_172 (dk_at dksX3_does_2 5 rfl rfl)
theorem dX3_does_102 : decode cX3_does 102 = .ok (.aload_n 0, 1) := dk_42 (dk_at dksX3_does_2 6 rfl rfl)
theorem dX3_does_103 : decode cX3_does 103 = .ok (.iload_n 2, 1) := dk_28 (dk_at dksX3_does_2 7 rfl rfl)
theorem dX3_does_104 : decode cX3_does 104 = .ok (.iload_n 3, 1) := dk_29 (dk_at dksX3_does_2 8 rfl rfl)
theorem dX3_does_105 : decode cX3_does 105 = .ok (.invokevirtual 82, 3) := dk_182 0 82 (dk_at dksX3_does_2 9 rfl rfl)
theorem dX3_does_108 : decode cX3_does 108 = .ok (.ireturn, 1) := dk_172 (dk_at dksX3_does_2 12 rfl rfl)
theorem dX3_does_109 : decode cX3_does 109 = .ok (.aload_n 0, 1) := dk_42 (dk_at dksX3_does_2 13 rfl rfl)
theorem dX3_does_110 : decode cX3_does 110 = .ok (.iload_n 2, 1) := dk_28 (dk_at dksX3_does_2 14 rfl rfl)
theorem dX3_does_111 : decode cX3_does 111 = .ok (.iload_n 3, 1) := dk_29 (dk_at dksX3_does_2 15 rfl rfl)
theorem dX3_does_112 : decode cX3_does 112 = .ok (.invokevirtual 85, 3) := dk_182 0 85 (dk_at dksX3_does_2 16 rfl rfl)
theorem dX3_does_115 : decode cX3_does 115 = .ok (.ireturn, 1) := dk_172 (dk_at dksX3_does_2 19 rfl rfl)
theorem dX3_does_116 : decode cX3_does 116 = .ok (.aload_n 0, 1) := dk_42 (dk_at dksX3_does_2 20 rfl rfl)
theorem dX3_does_117 : decode cX3_does 117 = .ok (.iload_n 2, 1) := dk_28 (dk_at dksX3_does_2 21 rfl rfl)
theorem dX3_does_118 : decode cX3_does 118 = .ok (.iload_n 3, 1) := dk_29 (dk_at dksX3_does_2 22 rfl rfl)
theorem dX3_does_119 : decode cX3_does 119 = .ok (.iload 4, 2) := dk_21 4 (dk_at dksX3_does_3 0 rfl rfl)
theorem dX3_does_121 : decode cX3_does 121 = .ok (.invokevirtual 101, 3) := dk_182 0 101 (dk_at dksX3_does_3 2 rfl rfl)
theorem dX3_does_124 : decode cX3_does 124 = .ok (.ireturn, 1) := dk_172 (dk_at dksX3_does_3 5 rfl rfl)
theorem dX3_does_125 : decode cX3_does 125 = .ok (.aload_n 0, 1) := dk_42 (dk_at dksX3_does_3 6 rfl rfl)
theorem dX3_does_126 : decode cX3_does 126 = .ok (.iload_n 2, 1) := dk_28 (dk_at dksX3_does_3 7 rfl rfl)
theorem dX3_does_127 : decode cX3_does 127 = .ok (.invokevirtual 109, 3) := dk_182 0 109 (dk_at dksX3_does_3 8 rfl rfl)
theorem dX3_does_130 : decode cX3_does 130 = .ok (.ireturn, 1) := dk_172 (dk_at dksX3_does_3 11 rfl rfl)
theorem dX3_does_131 : decode cX3_does 131 = .ok (.aload_n 0, 1) := dk_42 (dk_at dksX3_does_3 12 rfl rfl)
theorem dX3_does_132 : decode cX3_does 132 = .ok (.invokevirtual 124, 3) := dk_182 0 124 (dk_at dksX3_does_3 13 rfl rfl)
theorem dX3_does_135 : decode cX3_does 135 = .ok (.ireturn, 1) := dk_172 (dk_at dksX3_does_3 16 rfl rfl)
theorem dX3_does_136 : decode cX3_does 136 = .ok (.aload_n 0, 1) := dk_42 (dk_at dksX3_does_3 17 rfl rfl)
theorem dX3_does_137 : decode cX3_does 137 = .ok (.invokevirtual 127, 3) := dk_182 0 127 (dk_at dksX3_does_3 18 rfl rfl)
theorem dX3_does_140 : decode cX3_does 140 = .ok (.ireturn, 1) := dk_172 (dk_at dksX3_does_3 21 rfl rfl)
theorem dX3_does_141 : decode cX3_does 141 = .ok (.aload_n 0, 1) := dk_42 (dk_at dksX3_does_3 22 rfl rfl)
theorem dX3_does_142 : decode cX3_does 142 = .ok (.iload_n 2, 1) := dk_28 (dk_at dksX3_does_3 23 rfl rfl)
theorem dX3_does_143 : decode cX3_does 143 = .ok (.iload_n 3, 1) := dk_29 (dk_at dksX3_does_4 0 rfl rfl)
theorem dX3_does_144 : decode cX3_does 144 = .ok (.invokevirtual 88, 3) := dk_182 0 88 (dk_at dksX3_does_4 1 rfl rfl)
theorem dX3_does_147 : decode cX3_does 147 = .ok (.ireturn, 1) := dk_172 (dk_at dksX3_does_4 4 rfl rfl)
theorem dX3_does_148 : decode cX3_does 148 = .ok (.aload_n 0, 1) := dk_42 (dk_at dksX3_does_4 5 rfl rfl)
theorem dX3_does_149 : decode cX3_does 149 = .ok (.invokevirtual 130, 3) := dk_182 0 130 (dk_at dksX3_does_4 6 rfl rfl)
theorem dX3_does_152 : decode cX3_does 152 = .ok (.ireturn, 1) := dk_172 (dk_at dksX3_does_4 9 rfl rfl)
def dkwX3_tell_6 : List UInt8 := [182, 0, 91, 182, 0, 207, 132, 2, 1, 167, 255, 198, 42, 180, 0, 157, 172]
abbrev dktX3_tell_6 : List UInt8 := dkwX3_tell_6 ++ []
def dkwX3_tell_5 : List UInt8 := [182, 0, 160, 42, 42, 28, 4, 182, 0, 91, 182, 0, 207, 42, 16, 42, 182, 0, 160, 42, 42, 28, 5]
abbrev dktX3_tell_5 : List UInt8 := dkwX3_tell_5 ++ dktX3_tell_6
def dkwX3_tell_4 : List UInt8 := [180, 0, 7, 4, 46, 162, 0, 54, 42, 28, 3, 182, 0, 91, 27, 159, 0, 6, 167, 0, 35, 42, 16, 64]
abbrev dktX3_tell_4 : List UInt8 := dkwX3_tell_4 ++ dktX3_tell_5
def dkwX3_tell_3 : List UInt8 := [184, 0, 64, 46, 162, 0, 15, 42, 16, 126, 182, 0, 160, 132, 2, 1, 167, 255, 233, 3, 61, 28, 42]
abbrev dktX3_tell_3 : List UInt8 := dkwX3_tell_3 ++ dktX3_tell_4
def dkwX3_tell_2 : List UInt8 := [4, 184, 0, 64, 46, 154, 0, 9, 42, 16, 35, 182, 0, 160, 3, 61, 28, 42, 180, 0, 7, 27, 5]
abbrev dktX3_tell_2 : List UInt8 := dkwX3_tell_2 ++ dktX3_tell_3
def dkwX3_tell_1 : List UInt8 := [16, 58, 182, 0, 160, 42, 42, 180, 0, 7, 27, 3, 184, 0, 64, 46, 182, 0, 207, 42, 180, 0, 7, 27]
abbrev dktX3_tell_1 : List UInt8 := dkwX3_tell_1 ++ dktX3_tell_2
def dkwX3_tell_0 : List UInt8 := [42, 27, 182, 0, 76, 154, 0, 7, 17, 252, 13, 172, 42, 3, 181, 0, 157, 42, 27, 182, 0, 207, 42]
abbrev dktX3_tell_0 : List UInt8 := dkwX3_tell_0 ++ dktX3_tell_1
theorem dksX3_tell_0 : cX3_tell.data.toList.drop 0 = dktX3_tell_0 := by decide +kernel
theorem dksX3_tell_1 : cX3_tell.data.toList.drop 23 = dktX3_tell_1 := dk_seg dksX3_tell_0 23 rfl rfl
theorem dksX3_tell_2 : cX3_tell.data.toList.drop 47 = dktX3_tell_2 := dk_seg dksX3_tell_1 24 rfl rfl
theorem dksX3_tell_3 : cX3_tell.data.toList.drop 70 = dktX3_tell_3 := dk_seg dksX3_tell_2 23 rfl rfl
theorem dksX3_tell_4 : cX3_tell.data.toList.drop 93 = dktX3_tell_4 := dk_seg dksX3_tell_3 23 rfl rfl
theorem dksX3_tell_5 : cX3_tell.data.toList.drop 117 = dktX3_tell_5 := dk_seg dksX3_tell_4 24 rfl rfl
theorem dksX3_tell_6 : cX3_tell.data.toList.drop 140 = dktX3_tell_6 := dk_seg dksX3_tell_5 23 rfl rfl
theorem dX3_tell_0 : decode cX3_tell 0 = .ok (.aload_n 0, 1) := dk_42 (dk_at dksX3_tell_0 0 rfl rfl)
theorem dX3_tell_1 : decode cX3_tell 1 = .ok (.iload_n 1, 1) := dk_27 (dk_at dksX3_tell_0 1 rfl rfl)
theorem dX3_tell_2 : decode cX3_tell 2 = .ok (.invokevirtual 76, 3) := dk_182 0 76 (dk_at dksX3_tell_0 2 rfl rfl)
theorem dX3_tell_5 : decode cX3_tell 5 = .ok (.ifCond .ne 7, 3) := dk_154 0 7 (dk_at dksX3_tell_0 5 rfl rfl)
theorem dX3_tell_8 : decode cX3_tell 8 = .ok (.sipush (-1011), 3) := dk_17 252 13 (dk_at dksX3_tell_0 8 rfl rfl)
theorem dX3_tell_11 : decode cX3_tell 11 = .ok (.ireturn, 1) := dk_172 (dk_at dksX3_tell_0 11 rfl rfl)
theorem dX3_tell_12 : decode cX3_tell 12 = .ok (.aload_n 0, 1) := dk_42 (dk_at dksX3_tell_0 12 rfl rfl)
theorem dX3_tell_13 : decode cX3_tell 13 = .ok (.iconst 0, 1) := dk_3 (dk_at dksX3_tell_0 13 rfl rfl)
theorem dX3_tell_14 : decode cX3_tell 14 = .ok (.putfield 157, 3) := dk_181 0 157 (dk_at dksX3_tell_0 14 rfl rfl)
theorem dX3_tell_17 : decode cX3_tell 17 = .ok (.aload_n 0, 1) := dk_42 (dk_at dksX3_tell_0 17 rfl rfl)
theorem dX3_tell_18 : decode cX3_tell 18 = .ok (.iload_n 1, 1) := dk_27 (dk_at dksX3_tell_0 18 rfl rfl)
theorem dX3_tell_19 : decode cX3_tell 19 = .ok (.invokevirtual 207, 3) := dk_182 0 207 (dk_at dksX3_tell_0 19 rfl rfl)
theorem dX3_tell_22 : decode cX3_tell 22 = .ok (.aload_n 0, 1) := dk_42 (dk_at dksX3_tell_0 22 rfl rfl)
theorem dX3_tell_23 : decode cX3_tell 23 = .ok (.bipush 58, 2) := dk_16 58 (dk_at dksX3_tell_1 0 rfl rfl)
theorem dX3_tell_25 : decode cX3_tell 25 = .ok (.invokevirtual 160, 3) := dk_182 0 160 (dk_at dksX3_tell_1 2 rfl rfl)
theorem dX3_tell_28 : decode cX3_tell 28 = .ok (.aload_n 0, 1) := dk_42 (dk_at dksX3_tell_1 5 rfl rfl)
theorem dX3_tell_29 : decode cX3_tell 29 = .ok (.aload_n 0, 1) := dk_42 (dk_at dksX3_tell_1 6 rfl rfl)
theorem dX3_tell_30 : decode cX3_tell 30 = .ok (.getfield 7, 3) := dk_180 0 7 (dk_at dksX3_tell_1 7 rfl rfl)
theorem dX3_tell_33 : decode cX3_tell 33 = .ok (.iload_n 1, 1) := dk_27 (dk_at dksX3_tell_1 10 rfl rfl)
theorem dX3_tell_34 : decode cX3_tell 34 = .ok (.iconst 0, 1) := dk_3 (dk_at dksX3_tell_1 11 rfl rfl)
theorem dX3_tell_35 : decode cX3_tell 35 = .ok (.invokestatic 64, 3) := dk_184 0 64 (dk_at dksX3_tell_1 12 rfl rfl)
theorem dX3_tell_38 : decode cX3_tell 38 = .ok (.iaload, 1) := dk_46 (dk_at dksX3_tell_1 15 rfl rfl)
theorem dX3_tell_39 : decode cX3_tell 39 = .ok (.invokevirtual 207, 3) := dk_182 0 207 (dk_at dksX3_tell_1 16 rfl rfl)
theorem dX3_tell_42 : decode cX3_tell 42 = .ok (.aload_n 0, 1) := dk_42 (dk_at dksX3_tell_1 19 rfl rfl)
theorem dX3_tell_43 : decode cX3_tell 43 = .ok (.getfield 7, 3) := dk_180 0 7 (dk_at dksX3_tell_1 20 rfl rfl)
theorem dX3_tell_46 : decode cX3_tell 46 = .ok (.iload_n 1, 1) := dk_27 (dk_at dksX3_tell_1 23 rfl rfl)
theorem dX3_tell_47 : decode cX3_tell 47 = .ok (.iconst 1, 1) := dk_4 (dk_at dksX3_tell_2 0 rfl rfl)
theorem dX3_tell_48 : decode cX3_tell 48 = .ok (.invokestatic 64, 3) := dk_184 0 64 (dk_at dksX3_tell_2 1 rfl rfl)
theorem dX3_tell_51 : decode cX3_tell 51 = .ok (.iaload, 1) := dk_46 (dk_at dksX3_tell_2 4 rfl rfl)
theorem dX3_tell_52 : decode cX3_tell 52 = .ok (.ifCond .ne 9, 3) := dk_154 0 9 (dk_at dksX3_tell_2 5 rfl rfl)
theorem dX3_tell_55 : decode cX3_tell 55 = .ok (.aload_n 0, 1) := dk_42 (dk_at dksX3_tell_2 8 rfl rfl)
theorem dX3_tell_56 : decode cX3_tell 56 = .ok (.bipush 35, 2) := dk_16 35 (dk_at dksX3_tell_2 9 rfl rfl)
theorem dX3_tell_58 : decode cX3_tell 58 = .ok (.invokevirtual 160, 3) := dk_182 0 160 (dk_at dksX3_tell_2 11 rfl rfl)
theorem dX3_tell_61 : decode cX3_tell 61 = .ok (.iconst 0, 1) := dk_3 (dk_at dksX3_tell_2 14 rfl rfl)
theorem dX3_tell_62 : decode cX3_tell 62 = .ok (.istore_n 2, 1) := dk_61 (dk_at dksX3_tell_2 15 rfl rfl)
theorem dX3_tell_63 : decode cX3_tell 63 = .ok (.iload_n 2, 1) := dk_28 (dk_at dksX3_tell_2 16 rfl rfl)
theorem dX3_tell_64 : decode cX3_tell 64 = .ok (.aload_n 0, 1) := dk_42 (dk_at dksX3_tell_2 17 rfl rfl)
theorem dX3_tell_65 : decode cX3_tell 65 = .ok (.getfield 7, 3) := dk_180 0 7 (dk_at dksX3_tell_2 18 rfl rfl)
theorem dX3_tell_68 : decode cX3_tell 68 = .ok (.iload_n 1, 1) := dk_27 (dk_at dksX3_tell_2 21 rfl rfl)
theorem dX3_tell_69 : decode cX3_tell 69 = .ok (.iconst 2, 1) := dk_5 (dk_at dksX3_tell_2 22 rfl rfl)
theorem dX3_tell_70 : decode cX3_tell 70 = .ok (.invokestatic 64, 3) := dk_184 0 64 (dk_at dksX3_tell_3 0 rfl rfl)
theorem dX3_tell_73 : decode cX3_tell 73 = .ok (.iaload, 1) := dk_46 (dk_at dksX3_tell_3 3 rfl rfl)
theorem dX3_tell_74 : decode cX3_tell 74 = .ok (.if_icmp .ge 15, 3) := dk_162 0 15 (dk_at dksX3_tell_3 4 rfl rfl)
theorem dX3_tell_77 : decode cX3_tell 77 = .ok (.aload_n 0, 1) := dk_42 (dk_at dksX3_tell_3 7 rfl rfl)
theorem dX3_tell_78 : decode cX3_tell 78 = .ok (.bipush 126, 2) := dk_16 126 (dk_at dksX3_tell_3 8 rfl rfl)
theorem dX3_tell_80 : decode cX3_tell 80 = .ok (.invokevirtual 160, 3) := dk_182 0 160 (dk_at dksX3_tell_3 10 rfl rfl)
theorem dX3_tell_83 : decode cX3_tell 83 = .ok (.iinc 2 1, 3) := dk_132 2 1 (dk_at dksX3_tell_3 13 rfl rfl)
theorem dX3_tell_86 : decode cX3_tell 86 = .ok (.goto (-23), 3) := dk_167 255 233 (dk_at dksX3_tell_3 16 rfl rfl)
theorem dX3_tell_89 : decode cX3_tell 89 = .ok (.iconst 0, 1) := dk_3 (dk_at dksX3_tell_3 19 rfl rfl)
theorem dX3_tell_90 : decode cX3_tell 90 = .ok (.istore_n 2, 1) := dk_61 (dk_at dksX3_tell_3 20 rfl rfl)
theorem dX3_tell_91 : decode cX3_tell 91 = .ok (.iload_n 2, 1) := dk_28 (dk_at dksX3_tell_3 21 rfl rfl)
theorem dX3_tell_92 : decode cX3_tell 92 = .ok (.aload_n 0, 1) := dk_42 (dk_at dksX3_tell_3 22 rfl rfl)
theorem dX3_tell_93 : decode cX3_tell 93 = .ok (.getfield 7, 3) := dk_180 0 7 (dk_at dksX3_tell_4 0 rfl rfl)
theorem dX3_tell_96 : decode cX3_tell 96 = .ok (.iconst 1, 1) := dk_4 (dk_at dksX3_tell_4 3 rfl rfl)
theorem dX3_tell_97 : decode cX3_tell 97 = .ok (.iaload, 1) := dk_46 (dk_at dksX3_tell_4 4 rfl rfl)
theorem dX3_tell_98 : decode cX3_tell 98 = .ok (.if_icmp .ge 54, 3) := dk_162 0 54 (dk_at dksX3_tell_4 5 rfl rfl)
theorem dX3_tell_101 : decode cX3_tell 101 = .ok (.aload_n 0, 1) := dk_42 (dk_at dksX3_tell_4 8 rfl rfl)
theorem dX3_tell_102 : decode cX3_tell 102 = .ok (.iload_n 2, 1) := dk_28 (dk_at dksX3_tell_4 9 rfl rfl)
theorem dX3_tell_103 : decode cX3_tell 103 = .ok (.iconst 0, 1) := dk_3 (dk_at dksX3_tell_4 10 rfl rfl)
theorem dX3_tell_104 : decode cX3_tell 104 = .ok (.invokevirtual 91, 3) := dk_182 0 91 (dk_at dksX3_tell_4 11 rfl rfl)
theorem dX3_tell_107 : decode cX3_tell 107 = .ok (.iload_n 1, 1) := dk_27 (dk_at dksX3_tell_4 14 rfl rfl)
theorem dX3_tell_108 : decode cX3_tell 108 = .ok (.if_icmp .eq 6, 3) := dk_159 0 6 (dk_at dksX3_tell_4 15 rfl rfl)
theorem dX3_tell_111 : decode cX3_tell 111 = .ok (.goto 35, 3) := dk_167 0 35 (dk_at dksX3_tell_4 18 rfl rfl)
theorem dX3_tell_114 : decode cX3_tell 114 = .ok (.aload_n 0, 1) := dk_42 (dk_at dksX3_tell_4 21 rfl rfl)
theorem dX3_tell_115 : decode cX3_tell 115 = .ok (.bipush 64, 2) := dk_16 64 (dk_at dksX3_tell_4 22 rfl rfl)
theorem dX3_tell_117 : decode cX3_tell 117 = .ok (.invokevirtual 160, 3) := dk_182 0 160 (dk_at dksX3_tell_5 0 rfl rfl)
theorem dX3_tell_120 : decode cX3_tell 120 = .ok (.aload_n 0, 1) := dk_42 (dk_at dksX3_tell_5 3 rfl rfl)
theorem dX3_tell_121 : decode cX3_tell 121 = .ok (.aload_n 0, 1) := dk_42 (dk_at dksX3_tell_5 4 rfl rfl)
theorem dX3_tell_122 : decode cX3_tell 122 = .ok (.iload_n 2, 1) := dk_28 (dk_at dksX3_tell_5 5 rfl rfl)
theorem dX3_tell_123 : decode cX3_tell 123 = .ok (.iconst 1, 1) := dk_4 (dk_at dksX3_tell_5 6 rfl rfl)
theorem dX3_tell_124 : decode cX3_tell 124 = .ok (.invokevirtual 91, 3) := dk_182 0 91 (dk_at dksX3_tell_5 7 rfl rfl)
theorem dX3_tell_127 : decode cX3_tell 127 = .ok (.invokevirtual 207, 3) := dk_182 0 207 (dk_at dksX3_tell_5 10 rfl rfl)
theorem dX3_tell_130 : decode cX3_tell 130 = .ok (.aload_n 0, 1) := dk_42 (dk_at dksX3_tell_5 13 rfl rfl)
theorem dX3_tell_131 : decode cX3_tell 131 = .ok (.bipush 42, 2) := dk_16 42 (dk_at dksX3_tell_5 14 rfl rfl)
theorem dX3_tell_133 : decode cX3_tell 133 = .ok (.invokevirtual 160, 3) := dk_182 0 160 (dk_at dksX3_tell_5 16 rfl rfl)
theorem dX3_tell_136 : decode cX3_tell 136 = .ok (.aload_n 0, 1) := dk_42 (dk_at dksX3_tell_5 19 rfl rfl)
theorem dX3_tell_137 : decode cX3_tell 137 = .ok (.aload_n 0, 1) := dk_42 (dk_at dksX3_tell_5 20 rfl rfl)
theorem dX3_tell_138 : decode cX3_tell 138 = .ok (.iload_n 2, 1) := dk_28 (dk_at dksX3_tell_5 21 rfl rfl)
theorem dX3_tell_139 : decode cX3_tell 139 = .ok (.iconst 2, 1) := dk_5 (dk_at dksX3_tell_5 22 rfl rfl)
theorem dX3_tell_140 : decode cX3_tell 140 = .ok (.invokevirtual 91, 3) := dk_182 0 91 (dk_at dksX3_tell_6 0 rfl rfl)
theorem dX3_tell_143 : decode cX3_tell 143 = .ok (.invokevirtual 207, 3) := dk_182 0 207 (dk_at dksX3_tell_6 3 rfl rfl)
theorem dX3_tell_146 : decode cX3_tell 146 = .ok (.iinc 2 1, 3) := dk_132 2 1 (dk_at dksX3_tell_6 6 rfl rfl)
theorem dX3_tell_149 : decode cX3_tell 149 = .ok (.goto (-58), 3) := dk_167 255 198 (dk_at dksX3_tell_6 9 rfl rfl)
theorem dX3_tell_152 : decode cX3_tell 152 = .ok (.aload_n 0, 1) := dk_42 (dk_at dksX3_tell_6 12 rfl rfl)
theorem dX3_tell_153 : decode cX3_tell 153 = .ok (.getfield 157, 3) := dk_180 0 157 (dk_at dksX3_tell_6 13 rfl rfl)
theorem dX3_tell_156 : decode cX3_tell 156 = .ok (.ireturn, 1) := dk_172 (dk_at dksX3_tell_6 16 rfl rfl)
def dkwX3_writesNumber_1 : List UInt8 := [96, 182, 0, 160, 177]
abbrev dktX3_writesNumber_1 : List UInt8 := dkwX3_writesNumber_1 ++ []
def dkwX3_writesNumber_0 : List UInt8 := [27, 16, 10, 161, 0, 14, 42, 16, 48, 27, 16, 10, 108, 96, 182, 0, 160, 42, 16, 48, 27, 16, 10, 112]
abbrev dktX3_writesNumber_0 : List UInt8 := dkwX3_writesNumber_0 ++ dktX3_writesNumber_1
theorem dksX3_writesNumber_0 : cX3_writesNumber.data.toList.drop 0 = dktX3_writesNumber_0 := by decide +kernel
theorem dksX3_writesNumber_1 : cX3_writesNumber.data.toList.drop 24 = dktX3_writesNumber_1 := dk_seg dksX3_writesNumber_0 24 rfl rfl
theorem dX3_writesNumber_0 : decode cX3_writesNumber 0 = .ok (.iload_n 1, 1) := dk_27 (dk_at dksX3_writesNumber_0 0 rfl rfl)
theorem dX3_writesNumber_1 : decode cX3_writesNumber 1 = .ok (.bipush 10, 2) := dk_16 10 (dk_at dksX3_writesNumber_0 1 rfl rfl)
theorem dX3_writesNumber_3 : decode cX3_writesNumber 3 = .ok (.if_icmp .lt 14, 3) := dk_161 0 14 (dk_at dksX3_writesNumber_0 3 rfl rfl)
theorem dX3_writesNumber_6 : decode cX3_writesNumber 6 = .ok (.aload_n 0, 1) := dk_42 (dk_at dksX3_writesNumber_0 6 rfl rfl)
theorem dX3_writesNumber_7 : decode cX3_writesNumber 7 = .ok (.bipush 48, 2) := dk_16 48 (dk_at dksX3_writesNumber_0 7 rfl rfl)
theorem dX3_writesNumber_9 : decode cX3_writesNumber 9 = .ok (.iload_n 1, 1) := dk_27 (dk_at dksX3_writesNumber_0 9 rfl rfl)
theorem dX3_writesNumber_10 : decode cX3_writesNumber 10 = .ok (.bipush 10, 2) := dk_16 10 (dk_at dksX3_writesNumber_0 10 rfl rfl)
theorem dX3_writesNumber_12 : decode cX3_writesNumber 12 = .ok (.idiv, 1) := dk_108 (dk_at dksX3_writesNumber_0 12 rfl rfl)
theorem dX3_writesNumber_13 : decode cX3_writesNumber 13 = .ok (.iadd, 1) := dk_96 (dk_at dksX3_writesNumber_0 13 rfl rfl)
theorem dX3_writesNumber_14 : decode cX3_writesNumber 14 = .ok (.invokevirtual 160, 3) := dk_182 0 160 (dk_at dksX3_writesNumber_0 14 rfl rfl)
theorem dX3_writesNumber_17 : decode cX3_writesNumber 17 = .ok (.aload_n 0, 1) := dk_42 (dk_at dksX3_writesNumber_0 17 rfl rfl)
theorem dX3_writesNumber_18 : decode cX3_writesNumber 18 = .ok (.bipush 48, 2) := dk_16 48 (dk_at dksX3_writesNumber_0 18 rfl rfl)
theorem dX3_writesNumber_20 : decode cX3_writesNumber 20 = .ok (.iload_n 1, 1) := dk_27 (dk_at dksX3_writesNumber_0 20 rfl rfl)
theorem dX3_writesNumber_21 : decode cX3_writesNumber 21 = .ok (.bipush 10, 2) := dk_16 10 (dk_at dksX3_writesNumber_0 21 rfl rfl)
theorem dX3_writesNumber_23 : decode cX3_writesNumber 23 = .ok (.irem, 1) := dk_112 (dk_at dksX3_writesNumber_0 23 rfl rfl)
theorem dX3_writesNumber_24 : decode cX3_writesNumber 24 = .ok (.iadd, 1) := dk_96 (dk_at dksX3_writesNumber_1 0 rfl rfl)
theorem dX3_writesNumber_25 : decode cX3_writesNumber 25 = .ok (.invokevirtual 160, 3) := dk_182 0 160 (dk_at dksX3_writesNumber_1 1 rfl rfl)
theorem dX3_writesNumber_28 : decode cX3_writesNumber 28 = .ok (.return_, 1) := dk_177 (dk_at dksX3_writesNumber_1 4 rfl rfl)
def dkwX3_writes_0 : List UInt8 := [42, 180, 0, 28, 42, 180, 0, 157, 27, 79, 42, 89, 180, 0, 157, 4, 96, 181, 0, 157, 177]
abbrev dktX3_writes_0 : List UInt8 := dkwX3_writes_0 ++ []
theorem dksX3_writes_0 : cX3_writes.data.toList.drop 0 = dktX3_writes_0 := by decide +kernel
theorem dX3_writes_0 : decode cX3_writes 0 = .ok (.aload_n 0, 1) := dk_42 (dk_at dksX3_writes_0 0 rfl rfl)
theorem dX3_writes_1 : decode cX3_writes 1 = .ok (.getfield 28, 3) := dk_180 0 28 (dk_at dksX3_writes_0 1 rfl rfl)
theorem dX3_writes_4 : decode cX3_writes 4 = .ok (.aload_n 0, 1) := dk_42 (dk_at dksX3_writes_0 4 rfl rfl)
theorem dX3_writes_5 : decode cX3_writes 5 = .ok (.getfield 157, 3) := dk_180 0 157 (dk_at dksX3_writes_0 5 rfl rfl)
theorem dX3_writes_8 : decode cX3_writes 8 = .ok (.iload_n 1, 1) := dk_27 (dk_at dksX3_writes_0 8 rfl rfl)
theorem dX3_writes_9 : decode cX3_writes 9 = .ok (.iastore, 1) := dk_79 (dk_at dksX3_writes_0 9 rfl rfl)
theorem dX3_writes_10 : decode cX3_writes 10 = .ok (.aload_n 0, 1) := dk_42 (dk_at dksX3_writes_0 10 rfl rfl)
theorem dX3_writes_11 : decode cX3_writes 11 = .ok (.dup, 1) := dk_89 (dk_at dksX3_writes_0 11 rfl rfl)
theorem dX3_writes_12 : decode cX3_writes 12 = .ok (.getfield 157, 3) := dk_180 0 157 (dk_at dksX3_writes_0 12 rfl rfl)
theorem dX3_writes_15 : decode cX3_writes 15 = .ok (.iconst 1, 1) := dk_4 (dk_at dksX3_writes_0 15 rfl rfl)
theorem dX3_writes_16 : decode cX3_writes 16 = .ok (.iadd, 1) := dk_96 (dk_at dksX3_writes_0 16 rfl rfl)
theorem dX3_writes_17 : decode cX3_writes 17 = .ok (.putfield 157, 3) := dk_181 0 157 (dk_at dksX3_writes_0 17 rfl rfl)
theorem dX3_writes_20 : decode cX3_writes 20 = .ok (.return_, 1) := dk_177 (dk_at dksX3_writes_0 20 rfl rfl)
def dkwX3_tellDay_3 : List UInt8 := [180, 0, 157, 172]
abbrev dktX3_tellDay_3 : List UInt8 := dkwX3_tellDay_3 ++ []
def dkwX3_tellDay_2 : List UInt8 := [42, 16, 61, 182, 0, 160, 42, 42, 27, 182, 0, 142, 182, 0, 207, 132, 1, 1, 167, 255, 198, 42]
abbrev dktX3_tellDay_2 : List UInt8 := dkwX3_tellDay_2 ++ dktX3_tellDay_3
def dkwX3_tellDay_1 : List UInt8 := [154, 0, 6, 167, 0, 36, 42, 180, 0, 157, 158, 0, 9, 42, 16, 32, 182, 0, 160, 42, 27, 182, 0, 207]
abbrev dktX3_tellDay_1 : List UInt8 := dkwX3_tellDay_1 ++ dktX3_tellDay_2
def dkwX3_tellDay_0 : List UInt8 := [42, 3, 181, 0, 157, 3, 60, 27, 16, 24, 162, 0, 58, 42, 180, 0, 7, 17, 0, 211, 27, 96, 46]
abbrev dktX3_tellDay_0 : List UInt8 := dkwX3_tellDay_0 ++ dktX3_tellDay_1
theorem dksX3_tellDay_0 : cX3_tellDay.data.toList.drop 0 = dktX3_tellDay_0 := by decide +kernel
theorem dksX3_tellDay_1 : cX3_tellDay.data.toList.drop 23 = dktX3_tellDay_1 := dk_seg dksX3_tellDay_0 23 rfl rfl
theorem dksX3_tellDay_2 : cX3_tellDay.data.toList.drop 47 = dktX3_tellDay_2 := dk_seg dksX3_tellDay_1 24 rfl rfl
theorem dksX3_tellDay_3 : cX3_tellDay.data.toList.drop 69 = dktX3_tellDay_3 := dk_seg dksX3_tellDay_2 22 rfl rfl
theorem dX3_tellDay_0 : decode cX3_tellDay 0 = .ok (.aload_n 0, 1) := dk_42 (dk_at dksX3_tellDay_0 0 rfl rfl)
theorem dX3_tellDay_1 : decode cX3_tellDay 1 = .ok (.iconst 0, 1) := dk_3 (dk_at dksX3_tellDay_0 1 rfl rfl)
theorem dX3_tellDay_2 : decode cX3_tellDay 2 = .ok (.putfield 157, 3) := dk_181 0 157 (dk_at dksX3_tellDay_0 2 rfl rfl)
theorem dX3_tellDay_5 : decode cX3_tellDay 5 = .ok (.iconst 0, 1) := dk_3 (dk_at dksX3_tellDay_0 5 rfl rfl)
theorem dX3_tellDay_6 : decode cX3_tellDay 6 = .ok (.istore_n 1, 1) := dk_60 (dk_at dksX3_tellDay_0 6 rfl rfl)
theorem dX3_tellDay_7 : decode cX3_tellDay 7 = .ok (.iload_n 1, 1) := dk_27 (dk_at dksX3_tellDay_0 7 rfl rfl)
theorem dX3_tellDay_8 : decode cX3_tellDay 8 = .ok (.bipush 24, 2) := dk_16 24 (dk_at dksX3_tellDay_0 8 rfl rfl)
theorem dX3_tellDay_10 : decode cX3_tellDay 10 = .ok (.if_icmp .ge 58, 3) := dk_162 0 58 (dk_at dksX3_tellDay_0 10 rfl rfl)
theorem dX3_tellDay_13 : decode cX3_tellDay 13 = .ok (.aload_n 0, 1) := dk_42 (dk_at dksX3_tellDay_0 13 rfl rfl)
theorem dX3_tellDay_14 : decode cX3_tellDay 14 = .ok (.getfield 7, 3) := dk_180 0 7 (dk_at dksX3_tellDay_0 14 rfl rfl)
theorem dX3_tellDay_17 : decode cX3_tellDay 17 = .ok (.sipush 211, 3) := dk_17 0 211 (dk_at dksX3_tellDay_0 17 rfl rfl)
theorem dX3_tellDay_20 : decode cX3_tellDay 20 = .ok (.iload_n 1, 1) := dk_27 (dk_at dksX3_tellDay_0 20 rfl rfl)
theorem dX3_tellDay_21 : decode cX3_tellDay 21 = .ok (.iadd, 1) := dk_96 (dk_at dksX3_tellDay_0 21 rfl rfl)
theorem dX3_tellDay_22 : decode cX3_tellDay 22 = .ok (.iaload, 1) := dk_46 (dk_at dksX3_tellDay_0 22 rfl rfl)
theorem dX3_tellDay_23 : decode cX3_tellDay 23 = .ok (.ifCond .ne 6, 3) := dk_154 0 6 (dk_at dksX3_tellDay_1 0 rfl rfl)
theorem dX3_tellDay_26 : decode cX3_tellDay 26 = .ok (.goto 36, 3) := dk_167 0 36 (dk_at dksX3_tellDay_1 3 rfl rfl)
theorem dX3_tellDay_29 : decode cX3_tellDay 29 = .ok (.aload_n 0, 1) := dk_42 (dk_at dksX3_tellDay_1 6 rfl rfl)
theorem dX3_tellDay_30 : decode cX3_tellDay 30 = .ok (.getfield 157, 3) := dk_180 0 157 (dk_at dksX3_tellDay_1 7 rfl rfl)
theorem dX3_tellDay_33 : decode cX3_tellDay 33 = .ok (.ifCond .le 9, 3) := dk_158 0 9 (dk_at dksX3_tellDay_1 10 rfl rfl)
theorem dX3_tellDay_36 : decode cX3_tellDay 36 = .ok (.aload_n 0, 1) := dk_42 (dk_at dksX3_tellDay_1 13 rfl rfl)
theorem dX3_tellDay_37 : decode cX3_tellDay 37 = .ok (.bipush 32, 2) := dk_16 32 (dk_at dksX3_tellDay_1 14 rfl rfl)
theorem dX3_tellDay_39 : decode cX3_tellDay 39 = .ok (.invokevirtual 160, 3) := dk_182 0 160 (dk_at dksX3_tellDay_1 16 rfl rfl)
theorem dX3_tellDay_42 : decode cX3_tellDay 42 = .ok (.aload_n 0, 1) := dk_42 (dk_at dksX3_tellDay_1 19 rfl rfl)
theorem dX3_tellDay_43 : decode cX3_tellDay 43 = .ok (.iload_n 1, 1) := dk_27 (dk_at dksX3_tellDay_1 20 rfl rfl)
theorem dX3_tellDay_44 : decode cX3_tellDay 44 = .ok (.invokevirtual 207, 3) := dk_182 0 207 (dk_at dksX3_tellDay_1 21 rfl rfl)
theorem dX3_tellDay_47 : decode cX3_tellDay 47 = .ok (.aload_n 0, 1) := dk_42 (dk_at dksX3_tellDay_2 0 rfl rfl)
theorem dX3_tellDay_48 : decode cX3_tellDay 48 = .ok (.bipush 61, 2) := dk_16 61 (dk_at dksX3_tellDay_2 1 rfl rfl)
theorem dX3_tellDay_50 : decode cX3_tellDay 50 = .ok (.invokevirtual 160, 3) := dk_182 0 160 (dk_at dksX3_tellDay_2 3 rfl rfl)
theorem dX3_tellDay_53 : decode cX3_tellDay 53 = .ok (.aload_n 0, 1) := dk_42 (dk_at dksX3_tellDay_2 6 rfl rfl)
theorem dX3_tellDay_54 : decode cX3_tellDay 54 = .ok (.aload_n 0, 1) := dk_42 (dk_at dksX3_tellDay_2 7 rfl rfl)
theorem dX3_tellDay_55 : decode cX3_tellDay 55 = .ok (.iload_n 1, 1) := dk_27 (dk_at dksX3_tellDay_2 8 rfl rfl)
theorem dX3_tellDay_56 : decode cX3_tellDay 56 = .ok (.invokevirtual 142, 3) := dk_182 0 142 (dk_at dksX3_tellDay_2 9 rfl rfl)
theorem dX3_tellDay_59 : decode cX3_tellDay 59 = .ok (.invokevirtual 207, 3) := dk_182 0 207 (dk_at dksX3_tellDay_2 12 rfl rfl)
theorem dX3_tellDay_62 : decode cX3_tellDay 62 = .ok (.iinc 1 1, 3) := dk_132 1 1 (dk_at dksX3_tellDay_2 15 rfl rfl)
theorem dX3_tellDay_65 : decode cX3_tellDay 65 = .ok (.goto (-58), 3) := dk_167 255 198 (dk_at dksX3_tellDay_2 18 rfl rfl)
theorem dX3_tellDay_68 : decode cX3_tellDay 68 = .ok (.aload_n 0, 1) := dk_42 (dk_at dksX3_tellDay_2 21 rfl rfl)
theorem dX3_tellDay_69 : decode cX3_tellDay 69 = .ok (.getfield 157, 3) := dk_180 0 157 (dk_at dksX3_tellDay_3 0 rfl rfl)
theorem dX3_tellDay_72 : decode cX3_tellDay 72 = .ok (.ireturn, 1) := dk_172 (dk_at dksX3_tellDay_3 3 rfl rfl)
def dkwX3_character_1 : List UInt8 := [17, 252, 13, 172]
abbrev dktX3_character_1 : List UInt8 := dkwX3_character_1 ++ []
def dkwX3_character_0 : List UInt8 := [27, 3, 42, 180, 0, 157, 4, 100, 184, 0, 52, 153, 0, 12, 42, 180, 0, 28, 27, 46, 167, 0, 6]
abbrev dktX3_character_0 : List UInt8 := dkwX3_character_0 ++ dktX3_character_1
theorem dksX3_character_0 : cX3_character.data.toList.drop 0 = dktX3_character_0 := by decide +kernel
theorem dksX3_character_1 : cX3_character.data.toList.drop 23 = dktX3_character_1 := dk_seg dksX3_character_0 23 rfl rfl
theorem dX3_character_0 : decode cX3_character 0 = .ok (.iload_n 1, 1) := dk_27 (dk_at dksX3_character_0 0 rfl rfl)
theorem dX3_character_1 : decode cX3_character 1 = .ok (.iconst 0, 1) := dk_3 (dk_at dksX3_character_0 1 rfl rfl)
theorem dX3_character_2 : decode cX3_character 2 = .ok (.aload_n 0, 1) := dk_42 (dk_at dksX3_character_0 2 rfl rfl)
theorem dX3_character_3 : decode cX3_character 3 = .ok (.getfield 157, 3) := dk_180 0 157 (dk_at dksX3_character_0 3 rfl rfl)
theorem dX3_character_6 : decode cX3_character 6 = .ok (.iconst 1, 1) := dk_4 (dk_at dksX3_character_0 6 rfl rfl)
theorem dX3_character_7 : decode cX3_character 7 = .ok (.isub, 1) := dk_100 (dk_at dksX3_character_0 7 rfl rfl)
theorem dX3_character_8 : decode cX3_character 8 = .ok (.invokestatic 52, 3) := dk_184 0 52 (dk_at dksX3_character_0 8 rfl rfl)
theorem dX3_character_11 : decode cX3_character 11 = .ok (.ifCond .eq 12, 3) := dk_153 0 12 (dk_at dksX3_character_0 11 rfl rfl)
theorem dX3_character_14 : decode cX3_character 14 = .ok (.aload_n 0, 1) := dk_42 (dk_at dksX3_character_0 14 rfl rfl)
theorem dX3_character_15 : decode cX3_character 15 = .ok (.getfield 28, 3) := dk_180 0 28 (dk_at dksX3_character_0 15 rfl rfl)
theorem dX3_character_18 : decode cX3_character 18 = .ok (.iload_n 1, 1) := dk_27 (dk_at dksX3_character_0 18 rfl rfl)
theorem dX3_character_19 : decode cX3_character 19 = .ok (.iaload, 1) := dk_46 (dk_at dksX3_character_0 19 rfl rfl)
theorem dX3_character_20 : decode cX3_character 20 = .ok (.goto 6, 3) := dk_167 0 6 (dk_at dksX3_character_0 20 rfl rfl)
theorem dX3_character_23 : decode cX3_character 23 = .ok (.sipush (-1011), 3) := dk_17 252 13 (dk_at dksX3_character_1 0 rfl rfl)
theorem dX3_character_26 : decode cX3_character 26 = .ok (.ireturn, 1) := dk_172 (dk_at dksX3_character_1 3 rfl rfl)
def dkwX3_reason_1 : List UInt8 := [42, 180, 0, 35, 172]
abbrev dktX3_reason_1 : List UInt8 := dkwX3_reason_1 ++ []
def dkwX3_reason_0 : List UInt8 := [42, 180, 0, 35, 154, 0, 9, 17, 252, 9, 167, 0, 18, 27, 153, 0, 10, 42, 180, 0, 38, 167, 0, 7]
abbrev dktX3_reason_0 : List UInt8 := dkwX3_reason_0 ++ dktX3_reason_1
theorem dksX3_reason_0 : cX3_reason.data.toList.drop 0 = dktX3_reason_0 := by decide +kernel
theorem dksX3_reason_1 : cX3_reason.data.toList.drop 24 = dktX3_reason_1 := dk_seg dksX3_reason_0 24 rfl rfl
theorem dX3_reason_0 : decode cX3_reason 0 = .ok (.aload_n 0, 1) := dk_42 (dk_at dksX3_reason_0 0 rfl rfl)
theorem dX3_reason_1 : decode cX3_reason 1 = .ok (.getfield 35, 3) := dk_180 0 35 (dk_at dksX3_reason_0 1 rfl rfl)
theorem dX3_reason_4 : decode cX3_reason 4 = .ok (.ifCond .ne 9, 3) := dk_154 0 9 (dk_at dksX3_reason_0 4 rfl rfl)
theorem dX3_reason_7 : decode cX3_reason 7 = .ok (.sipush (-1015), 3) := dk_17 252 9 (dk_at dksX3_reason_0 7 rfl rfl)
theorem dX3_reason_10 : decode cX3_reason 10 = .ok (.goto 18, 3) := dk_167 0 18 (dk_at dksX3_reason_0 10 rfl rfl)
theorem dX3_reason_13 : decode cX3_reason 13 = .ok (.iload_n 1, 1) := dk_27 (dk_at dksX3_reason_0 13 rfl rfl)
theorem dX3_reason_14 : decode cX3_reason 14 = .ok (.ifCond .eq 10, 3) := dk_153 0 10 (dk_at dksX3_reason_0 14 rfl rfl)
theorem dX3_reason_17 : decode cX3_reason 17 = .ok (.aload_n 0, 1) := dk_42 (dk_at dksX3_reason_0 17 rfl rfl)
theorem dX3_reason_18 : decode cX3_reason 18 = .ok (.getfield 38, 3) := dk_180 0 38 (dk_at dksX3_reason_0 18 rfl rfl)
theorem dX3_reason_21 : decode cX3_reason 21 = .ok (.goto 7, 3) := dk_167 0 7 (dk_at dksX3_reason_0 21 rfl rfl)
theorem dX3_reason_24 : decode cX3_reason 24 = .ok (.aload_n 0, 1) := dk_42 (dk_at dksX3_reason_1 0 rfl rfl)
theorem dX3_reason_25 : decode cX3_reason 25 = .ok (.getfield 35, 3) := dk_180 0 35 (dk_at dksX3_reason_1 1 rfl rfl)
theorem dX3_reason_28 : decode cX3_reason 28 = .ok (.ireturn, 1) := dk_172 (dk_at dksX3_reason_1 4 rfl rfl)
def dkwX3_account_3 : List UInt8 := [17, 252, 12, 172]
abbrev dktX3_account_3 : List UInt8 := dkwX3_account_3 ++ []
def dkwX3_account_2 : List UInt8 := [42, 182, 0, 210, 172, 42, 180, 0, 7, 16, 9, 46, 172, 42, 180, 0, 163, 172, 42, 180, 0, 49, 172]
abbrev dktX3_account_2 : List UInt8 := dkwX3_account_2 ++ dktX3_account_3
def dkwX3_account_1 : List UInt8 := [170, 0, 0, 0, 0, 53, 0, 0, 0, 9, 0, 0, 0, 12, 0, 0, 0, 30, 0, 0, 0, 35, 0, 0, 0, 43, 0, 0, 0, 48]
abbrev dktX3_account_1 : List UInt8 := dkwX3_account_1 ++ dktX3_account_2
def dkwX3_account_0 : List UInt8 := [27, 3, 16, 8, 184, 0, 52, 153, 0, 10, 42, 180, 0, 7, 27, 46, 172, 27]
abbrev dktX3_account_0 : List UInt8 := dkwX3_account_0 ++ dktX3_account_1
theorem dksX3_account_0 : cX3_account.data.toList.drop 0 = dktX3_account_0 := by decide +kernel
theorem dksX3_account_1 : cX3_account.data.toList.drop 18 = dktX3_account_1 := dk_seg dksX3_account_0 18 rfl rfl
theorem dksX3_account_2 : cX3_account.data.toList.drop 48 = dktX3_account_2 := dk_seg dksX3_account_1 30 rfl rfl
theorem dksX3_account_3 : cX3_account.data.toList.drop 71 = dktX3_account_3 := dk_seg dksX3_account_2 23 rfl rfl
theorem dX3_account_0 : decode cX3_account 0 = .ok (.iload_n 1, 1) := dk_27 (dk_at dksX3_account_0 0 rfl rfl)
theorem dX3_account_1 : decode cX3_account 1 = .ok (.iconst 0, 1) := dk_3 (dk_at dksX3_account_0 1 rfl rfl)
theorem dX3_account_2 : decode cX3_account 2 = .ok (.bipush 8, 2) := dk_16 8 (dk_at dksX3_account_0 2 rfl rfl)
theorem dX3_account_4 : decode cX3_account 4 = .ok (.invokestatic 52, 3) := dk_184 0 52 (dk_at dksX3_account_0 4 rfl rfl)
theorem dX3_account_7 : decode cX3_account 7 = .ok (.ifCond .eq 10, 3) := dk_153 0 10 (dk_at dksX3_account_0 7 rfl rfl)
theorem dX3_account_10 : decode cX3_account 10 = .ok (.aload_n 0, 1) := dk_42 (dk_at dksX3_account_0 10 rfl rfl)
theorem dX3_account_11 : decode cX3_account 11 = .ok (.getfield 7, 3) := dk_180 0 7 (dk_at dksX3_account_0 11 rfl rfl)
theorem dX3_account_14 : decode cX3_account 14 = .ok (.iload_n 1, 1) := dk_27 (dk_at dksX3_account_0 14 rfl rfl)
theorem dX3_account_15 : decode cX3_account 15 = .ok (.iaload, 1) := dk_46 (dk_at dksX3_account_0 15 rfl rfl)
theorem dX3_account_16 : decode cX3_account 16 = .ok (.ireturn, 1) := dk_172 (dk_at dksX3_account_0 16 rfl rfl)
theorem dX3_account_17 : decode cX3_account 17 = .ok (.iload_n 1, 1) := dk_27 (dk_at dksX3_account_0 17 rfl rfl)
theorem dX3_account_18 : decode cX3_account 18 = .ok (.tableswitch 53 9 12 #[30, 35, 43, 48], 30) := by decide +kernel
theorem dX3_account_48 : decode cX3_account 48 = .ok (.aload_n 0, 1) := dk_42 (dk_at dksX3_account_2 0 rfl rfl)
theorem dX3_account_49 : decode cX3_account 49 = .ok (.invokevirtual 210, 3) := dk_182 0 210 (dk_at dksX3_account_2 1 rfl rfl)
theorem dX3_account_52 : decode cX3_account 52 = .ok (.ireturn, 1) := dk_172 (dk_at dksX3_account_2 4 rfl rfl)
theorem dX3_account_53 : decode cX3_account 53 = .ok (.aload_n 0, 1) := dk_42 (dk_at dksX3_account_2 5 rfl rfl)
theorem dX3_account_54 : decode cX3_account 54 = .ok (.getfield 7, 3) := dk_180 0 7 (dk_at dksX3_account_2 6 rfl rfl)
theorem dX3_account_57 : decode cX3_account 57 = .ok (.bipush 9, 2) := dk_16 9 (dk_at dksX3_account_2 9 rfl rfl)
theorem dX3_account_59 : decode cX3_account 59 = .ok (.iaload, 1) := dk_46 (dk_at dksX3_account_2 11 rfl rfl)
theorem dX3_account_60 : decode cX3_account 60 = .ok (.ireturn, 1) := dk_172 (dk_at dksX3_account_2 12 rfl rfl)
theorem dX3_account_61 : decode cX3_account 61 = .ok (.aload_n 0, 1) := dk_42 (dk_at dksX3_account_2 13 rfl rfl)
theorem dX3_account_62 : decode cX3_account 62 = .ok (.getfield 163, 3) := dk_180 0 163 (dk_at dksX3_account_2 14 rfl rfl)
theorem dX3_account_65 : decode cX3_account 65 = .ok (.ireturn, 1) := dk_172 (dk_at dksX3_account_2 17 rfl rfl)
theorem dX3_account_66 : decode cX3_account 66 = .ok (.aload_n 0, 1) := dk_42 (dk_at dksX3_account_2 18 rfl rfl)
theorem dX3_account_67 : decode cX3_account 67 = .ok (.getfield 49, 3) := dk_180 0 49 (dk_at dksX3_account_2 19 rfl rfl)
theorem dX3_account_70 : decode cX3_account 70 = .ok (.ireturn, 1) := dk_172 (dk_at dksX3_account_2 22 rfl rfl)
theorem dX3_account_71 : decode cX3_account 71 = .ok (.sipush (-1012), 3) := dk_17 252 12 (dk_at dksX3_account_3 0 rfl rfl)
theorem dX3_account_74 : decode cX3_account 74 = .ok (.ireturn, 1) := dk_172 (dk_at dksX3_account_3 3 rfl rfl)
def dkwX3_rust_1 : List UInt8 := [46, 96, 60, 132, 2, 1, 167, 255, 230, 27, 172]
abbrev dktX3_rust_1 : List UInt8 := dkwX3_rust_1 ++ []
def dkwX3_rust_0 : List UInt8 := [3, 60, 3, 61, 28, 42, 180, 0, 7, 3, 46, 162, 0, 22, 27, 42, 180, 0, 7, 28, 5, 184, 0, 64]
abbrev dktX3_rust_0 : List UInt8 := dkwX3_rust_0 ++ dktX3_rust_1
theorem dksX3_rust_0 : cX3_rust.data.toList.drop 0 = dktX3_rust_0 := by decide +kernel
theorem dksX3_rust_1 : cX3_rust.data.toList.drop 24 = dktX3_rust_1 := dk_seg dksX3_rust_0 24 rfl rfl
theorem dX3_rust_0 : decode cX3_rust 0 = .ok (.iconst 0, 1) := dk_3 (dk_at dksX3_rust_0 0 rfl rfl)
theorem dX3_rust_1 : decode cX3_rust 1 = .ok (.istore_n 1, 1) := dk_60 (dk_at dksX3_rust_0 1 rfl rfl)
theorem dX3_rust_2 : decode cX3_rust 2 = .ok (.iconst 0, 1) := dk_3 (dk_at dksX3_rust_0 2 rfl rfl)
theorem dX3_rust_3 : decode cX3_rust 3 = .ok (.istore_n 2, 1) := dk_61 (dk_at dksX3_rust_0 3 rfl rfl)
theorem dX3_rust_4 : decode cX3_rust 4 = .ok (.iload_n 2, 1) := dk_28 (dk_at dksX3_rust_0 4 rfl rfl)
theorem dX3_rust_5 : decode cX3_rust 5 = .ok (.aload_n 0, 1) := dk_42 (dk_at dksX3_rust_0 5 rfl rfl)
theorem dX3_rust_6 : decode cX3_rust 6 = .ok (.getfield 7, 3) := dk_180 0 7 (dk_at dksX3_rust_0 6 rfl rfl)
theorem dX3_rust_9 : decode cX3_rust 9 = .ok (.iconst 0, 1) := dk_3 (dk_at dksX3_rust_0 9 rfl rfl)
theorem dX3_rust_10 : decode cX3_rust 10 = .ok (.iaload, 1) := dk_46 (dk_at dksX3_rust_0 10 rfl rfl)
theorem dX3_rust_11 : decode cX3_rust 11 = .ok (.if_icmp .ge 22, 3) := dk_162 0 22 (dk_at dksX3_rust_0 11 rfl rfl)
theorem dX3_rust_14 : decode cX3_rust 14 = .ok (.iload_n 1, 1) := dk_27 (dk_at dksX3_rust_0 14 rfl rfl)
theorem dX3_rust_15 : decode cX3_rust 15 = .ok (.aload_n 0, 1) := dk_42 (dk_at dksX3_rust_0 15 rfl rfl)
theorem dX3_rust_16 : decode cX3_rust 16 = .ok (.getfield 7, 3) := dk_180 0 7 (dk_at dksX3_rust_0 16 rfl rfl)
theorem dX3_rust_19 : decode cX3_rust 19 = .ok (.iload_n 2, 1) := dk_28 (dk_at dksX3_rust_0 19 rfl rfl)
theorem dX3_rust_20 : decode cX3_rust 20 = .ok (.iconst 2, 1) := dk_5 (dk_at dksX3_rust_0 20 rfl rfl)
theorem dX3_rust_21 : decode cX3_rust 21 = .ok (.invokestatic 64, 3) := dk_184 0 64 (dk_at dksX3_rust_0 21 rfl rfl)
theorem dX3_rust_24 : decode cX3_rust 24 = .ok (.iaload, 1) := dk_46 (dk_at dksX3_rust_1 0 rfl rfl)
theorem dX3_rust_25 : decode cX3_rust 25 = .ok (.iadd, 1) := dk_96 (dk_at dksX3_rust_1 1 rfl rfl)
theorem dX3_rust_26 : decode cX3_rust 26 = .ok (.istore_n 1, 1) := dk_60 (dk_at dksX3_rust_1 2 rfl rfl)
theorem dX3_rust_27 : decode cX3_rust 27 = .ok (.iinc 2 1, 3) := dk_132 2 1 (dk_at dksX3_rust_1 3 rfl rfl)
theorem dX3_rust_30 : decode cX3_rust 30 = .ok (.goto (-26), 3) := dk_167 255 230 (dk_at dksX3_rust_1 6 rfl rfl)
theorem dX3_rust_33 : decode cX3_rust 33 = .ok (.iload_n 1, 1) := dk_27 (dk_at dksX3_rust_1 9 rfl rfl)
theorem dX3_rust_34 : decode cX3_rust 34 = .ok (.ireturn, 1) := dk_172 (dk_at dksX3_rust_1 10 rfl rfl)
def dkwX3_isBalanced_2 : List UInt8 := [167, 0, 4, 3, 172]
abbrev dktX3_isBalanced_2 : List UInt8 := dkwX3_isBalanced_2 ++ []
def dkwX3_isBalanced_1 : List UInt8 := [16, 6, 46, 96, 42, 180, 0, 7, 16, 7, 46, 96, 42, 180, 0, 7, 16, 8, 46, 96, 160, 0, 7, 4]
abbrev dktX3_isBalanced_1 : List UInt8 := dkwX3_isBalanced_1 ++ dktX3_isBalanced_2
def dkwX3_isBalanced_0 : List UInt8 := [42, 180, 0, 7, 7, 46, 42, 180, 0, 7, 4, 46, 42, 180, 0, 7, 8, 46, 96, 42, 180, 0, 7]
abbrev dktX3_isBalanced_0 : List UInt8 := dkwX3_isBalanced_0 ++ dktX3_isBalanced_1
theorem dksX3_isBalanced_0 : cX3_isBalanced.data.toList.drop 0 = dktX3_isBalanced_0 := by decide +kernel
theorem dksX3_isBalanced_1 : cX3_isBalanced.data.toList.drop 23 = dktX3_isBalanced_1 := dk_seg dksX3_isBalanced_0 23 rfl rfl
theorem dksX3_isBalanced_2 : cX3_isBalanced.data.toList.drop 47 = dktX3_isBalanced_2 := dk_seg dksX3_isBalanced_1 24 rfl rfl
theorem dX3_isBalanced_0 : decode cX3_isBalanced 0 = .ok (.aload_n 0, 1) := dk_42 (dk_at dksX3_isBalanced_0 0 rfl rfl)
theorem dX3_isBalanced_1 : decode cX3_isBalanced 1 = .ok (.getfield 7, 3) := dk_180 0 7 (dk_at dksX3_isBalanced_0 1 rfl rfl)
theorem dX3_isBalanced_4 : decode cX3_isBalanced 4 = .ok (.iconst 4, 1) := dk_7 (dk_at dksX3_isBalanced_0 4 rfl rfl)
theorem dX3_isBalanced_5 : decode cX3_isBalanced 5 = .ok (.iaload, 1) := dk_46 (dk_at dksX3_isBalanced_0 5 rfl rfl)
theorem dX3_isBalanced_6 : decode cX3_isBalanced 6 = .ok (.aload_n 0, 1) := dk_42 (dk_at dksX3_isBalanced_0 6 rfl rfl)
theorem dX3_isBalanced_7 : decode cX3_isBalanced 7 = .ok (.getfield 7, 3) := dk_180 0 7 (dk_at dksX3_isBalanced_0 7 rfl rfl)
theorem dX3_isBalanced_10 : decode cX3_isBalanced 10 = .ok (.iconst 1, 1) := dk_4 (dk_at dksX3_isBalanced_0 10 rfl rfl)
theorem dX3_isBalanced_11 : decode cX3_isBalanced 11 = .ok (.iaload, 1) := dk_46 (dk_at dksX3_isBalanced_0 11 rfl rfl)
theorem dX3_isBalanced_12 : decode cX3_isBalanced 12 = .ok (.aload_n 0, 1) := dk_42 (dk_at dksX3_isBalanced_0 12 rfl rfl)
theorem dX3_isBalanced_13 : decode cX3_isBalanced 13 = .ok (.getfield 7, 3) := dk_180 0 7 (dk_at dksX3_isBalanced_0 13 rfl rfl)
theorem dX3_isBalanced_16 : decode cX3_isBalanced 16 = .ok (.iconst 5, 1) := dk_8 (dk_at dksX3_isBalanced_0 16 rfl rfl)
theorem dX3_isBalanced_17 : decode cX3_isBalanced 17 = .ok (.iaload, 1) := dk_46 (dk_at dksX3_isBalanced_0 17 rfl rfl)
theorem dX3_isBalanced_18 : decode cX3_isBalanced 18 = .ok (.iadd, 1) := dk_96 (dk_at dksX3_isBalanced_0 18 rfl rfl)
theorem dX3_isBalanced_19 : decode cX3_isBalanced 19 = .ok (.aload_n 0, 1) := dk_42 (dk_at dksX3_isBalanced_0 19 rfl rfl)
theorem dX3_isBalanced_20 : decode cX3_isBalanced 20 = .ok (.getfield 7, 3) := dk_180 0 7 (dk_at dksX3_isBalanced_0 20 rfl rfl)
theorem dX3_isBalanced_23 : decode cX3_isBalanced 23 = .ok (.bipush 6, 2) := dk_16 6 (dk_at dksX3_isBalanced_1 0 rfl rfl)
theorem dX3_isBalanced_25 : decode cX3_isBalanced 25 = .ok (.iaload, 1) := dk_46 (dk_at dksX3_isBalanced_1 2 rfl rfl)
theorem dX3_isBalanced_26 : decode cX3_isBalanced 26 = .ok (.iadd, 1) := dk_96 (dk_at dksX3_isBalanced_1 3 rfl rfl)
theorem dX3_isBalanced_27 : decode cX3_isBalanced 27 = .ok (.aload_n 0, 1) := dk_42 (dk_at dksX3_isBalanced_1 4 rfl rfl)
theorem dX3_isBalanced_28 : decode cX3_isBalanced 28 = .ok (.getfield 7, 3) := dk_180 0 7 (dk_at dksX3_isBalanced_1 5 rfl rfl)
theorem dX3_isBalanced_31 : decode cX3_isBalanced 31 = .ok (.bipush 7, 2) := dk_16 7 (dk_at dksX3_isBalanced_1 8 rfl rfl)
theorem dX3_isBalanced_33 : decode cX3_isBalanced 33 = .ok (.iaload, 1) := dk_46 (dk_at dksX3_isBalanced_1 10 rfl rfl)
theorem dX3_isBalanced_34 : decode cX3_isBalanced 34 = .ok (.iadd, 1) := dk_96 (dk_at dksX3_isBalanced_1 11 rfl rfl)
theorem dX3_isBalanced_35 : decode cX3_isBalanced 35 = .ok (.aload_n 0, 1) := dk_42 (dk_at dksX3_isBalanced_1 12 rfl rfl)
theorem dX3_isBalanced_36 : decode cX3_isBalanced 36 = .ok (.getfield 7, 3) := dk_180 0 7 (dk_at dksX3_isBalanced_1 13 rfl rfl)
theorem dX3_isBalanced_39 : decode cX3_isBalanced 39 = .ok (.bipush 8, 2) := dk_16 8 (dk_at dksX3_isBalanced_1 16 rfl rfl)
theorem dX3_isBalanced_41 : decode cX3_isBalanced 41 = .ok (.iaload, 1) := dk_46 (dk_at dksX3_isBalanced_1 18 rfl rfl)
theorem dX3_isBalanced_42 : decode cX3_isBalanced 42 = .ok (.iadd, 1) := dk_96 (dk_at dksX3_isBalanced_1 19 rfl rfl)
theorem dX3_isBalanced_43 : decode cX3_isBalanced 43 = .ok (.if_icmp .ne 7, 3) := dk_160 0 7 (dk_at dksX3_isBalanced_1 20 rfl rfl)
theorem dX3_isBalanced_46 : decode cX3_isBalanced 46 = .ok (.iconst 1, 1) := dk_4 (dk_at dksX3_isBalanced_1 23 rfl rfl)
theorem dX3_isBalanced_47 : decode cX3_isBalanced 47 = .ok (.goto 4, 3) := dk_167 0 4 (dk_at dksX3_isBalanced_2 0 rfl rfl)
theorem dX3_isBalanced_50 : decode cX3_isBalanced 50 = .ok (.iconst 0, 1) := dk_3 (dk_at dksX3_isBalanced_2 3 rfl rfl)
theorem dX3_isBalanced_51 : decode cX3_isBalanced 51 = .ok (.ireturn, 1) := dk_172 (dk_at dksX3_isBalanced_2 4 rfl rfl)
def dkwX3_meanRust_1 : List UInt8 := [135, 111, 175]
abbrev dktX3_meanRust_1 : List UInt8 := dkwX3_meanRust_1 ++ []
def dkwX3_meanRust_0 : List UInt8 := [42, 180, 0, 7, 3, 46, 154, 0, 7, 14, 167, 0, 16, 42, 182, 0, 210, 135, 42, 180, 0, 7, 3, 46]
abbrev dktX3_meanRust_0 : List UInt8 := dkwX3_meanRust_0 ++ dktX3_meanRust_1
theorem dksX3_meanRust_0 : cX3_meanRust.data.toList.drop 0 = dktX3_meanRust_0 := by decide +kernel
theorem dksX3_meanRust_1 : cX3_meanRust.data.toList.drop 24 = dktX3_meanRust_1 := dk_seg dksX3_meanRust_0 24 rfl rfl
theorem dX3_meanRust_0 : decode cX3_meanRust 0 = .ok (.aload_n 0, 1) := dk_42 (dk_at dksX3_meanRust_0 0 rfl rfl)
theorem dX3_meanRust_1 : decode cX3_meanRust 1 = .ok (.getfield 7, 3) := dk_180 0 7 (dk_at dksX3_meanRust_0 1 rfl rfl)
theorem dX3_meanRust_4 : decode cX3_meanRust 4 = .ok (.iconst 0, 1) := dk_3 (dk_at dksX3_meanRust_0 4 rfl rfl)
theorem dX3_meanRust_5 : decode cX3_meanRust 5 = .ok (.iaload, 1) := dk_46 (dk_at dksX3_meanRust_0 5 rfl rfl)
theorem dX3_meanRust_6 : decode cX3_meanRust 6 = .ok (.ifCond .ne 7, 3) := dk_154 0 7 (dk_at dksX3_meanRust_0 6 rfl rfl)
theorem dX3_meanRust_9 : decode cX3_meanRust 9 = .ok (.dconst 0, 1) := dk_14 (dk_at dksX3_meanRust_0 9 rfl rfl)
theorem dX3_meanRust_10 : decode cX3_meanRust 10 = .ok (.goto 16, 3) := dk_167 0 16 (dk_at dksX3_meanRust_0 10 rfl rfl)
theorem dX3_meanRust_13 : decode cX3_meanRust 13 = .ok (.aload_n 0, 1) := dk_42 (dk_at dksX3_meanRust_0 13 rfl rfl)
theorem dX3_meanRust_14 : decode cX3_meanRust 14 = .ok (.invokevirtual 210, 3) := dk_182 0 210 (dk_at dksX3_meanRust_0 14 rfl rfl)
theorem dX3_meanRust_17 : decode cX3_meanRust 17 = .ok (.i2d, 1) := dk_135 (dk_at dksX3_meanRust_0 17 rfl rfl)
theorem dX3_meanRust_18 : decode cX3_meanRust 18 = .ok (.aload_n 0, 1) := dk_42 (dk_at dksX3_meanRust_0 18 rfl rfl)
theorem dX3_meanRust_19 : decode cX3_meanRust 19 = .ok (.getfield 7, 3) := dk_180 0 7 (dk_at dksX3_meanRust_0 19 rfl rfl)
theorem dX3_meanRust_22 : decode cX3_meanRust 22 = .ok (.iconst 0, 1) := dk_3 (dk_at dksX3_meanRust_0 22 rfl rfl)
theorem dX3_meanRust_23 : decode cX3_meanRust 23 = .ok (.iaload, 1) := dk_46 (dk_at dksX3_meanRust_0 23 rfl rfl)
theorem dX3_meanRust_24 : decode cX3_meanRust 24 = .ok (.i2d, 1) := dk_135 (dk_at dksX3_meanRust_1 0 rfl rfl)
theorem dX3_meanRust_25 : decode cX3_meanRust 25 = .ok (.ddiv, 1) := dk_111 (dk_at dksX3_meanRust_1 1 rfl rfl)
theorem dX3_meanRust_26 : decode cX3_meanRust 26 = .ok (.dreturn, 1) := dk_175 (dk_at dksX3_meanRust_1 2 rfl rfl)
def dkwX3_answerShare_1 : List UInt8 := [154, 0, 7, 11, 167, 0, 13, 42, 180, 0, 7, 8, 46, 134, 27, 134, 110, 174]
abbrev dktX3_answerShare_1 : List UInt8 := dkwX3_answerShare_1 ++ []
def dkwX3_answerShare_0 : List UInt8 := [42, 180, 0, 7, 8, 46, 42, 180, 0, 7, 16, 6, 46, 96, 42, 180, 0, 7, 16, 7, 46, 96, 60, 27]
abbrev dktX3_answerShare_0 : List UInt8 := dkwX3_answerShare_0 ++ dktX3_answerShare_1
theorem dksX3_answerShare_0 : cX3_answerShare.data.toList.drop 0 = dktX3_answerShare_0 := by decide +kernel
theorem dksX3_answerShare_1 : cX3_answerShare.data.toList.drop 24 = dktX3_answerShare_1 := dk_seg dksX3_answerShare_0 24 rfl rfl
theorem dX3_answerShare_0 : decode cX3_answerShare 0 = .ok (.aload_n 0, 1) := dk_42 (dk_at dksX3_answerShare_0 0 rfl rfl)
theorem dX3_answerShare_1 : decode cX3_answerShare 1 = .ok (.getfield 7, 3) := dk_180 0 7 (dk_at dksX3_answerShare_0 1 rfl rfl)
theorem dX3_answerShare_4 : decode cX3_answerShare 4 = .ok (.iconst 5, 1) := dk_8 (dk_at dksX3_answerShare_0 4 rfl rfl)
theorem dX3_answerShare_5 : decode cX3_answerShare 5 = .ok (.iaload, 1) := dk_46 (dk_at dksX3_answerShare_0 5 rfl rfl)
theorem dX3_answerShare_6 : decode cX3_answerShare 6 = .ok (.aload_n 0, 1) := dk_42 (dk_at dksX3_answerShare_0 6 rfl rfl)
theorem dX3_answerShare_7 : decode cX3_answerShare 7 = .ok (.getfield 7, 3) := dk_180 0 7 (dk_at dksX3_answerShare_0 7 rfl rfl)
theorem dX3_answerShare_10 : decode cX3_answerShare 10 = .ok (.bipush 6, 2) := dk_16 6 (dk_at dksX3_answerShare_0 10 rfl rfl)
theorem dX3_answerShare_12 : decode cX3_answerShare 12 = .ok (.iaload, 1) := dk_46 (dk_at dksX3_answerShare_0 12 rfl rfl)
theorem dX3_answerShare_13 : decode cX3_answerShare 13 = .ok (.iadd, 1) := dk_96 (dk_at dksX3_answerShare_0 13 rfl rfl)
theorem dX3_answerShare_14 : decode cX3_answerShare 14 = .ok (.aload_n 0, 1) := dk_42 (dk_at dksX3_answerShare_0 14 rfl rfl)
theorem dX3_answerShare_15 : decode cX3_answerShare 15 = .ok (.getfield 7, 3) := dk_180 0 7 (dk_at dksX3_answerShare_0 15 rfl rfl)
theorem dX3_answerShare_18 : decode cX3_answerShare 18 = .ok (.bipush 7, 2) := dk_16 7 (dk_at dksX3_answerShare_0 18 rfl rfl)
theorem dX3_answerShare_20 : decode cX3_answerShare 20 = .ok (.iaload, 1) := dk_46 (dk_at dksX3_answerShare_0 20 rfl rfl)
theorem dX3_answerShare_21 : decode cX3_answerShare 21 = .ok (.iadd, 1) := dk_96 (dk_at dksX3_answerShare_0 21 rfl rfl)
theorem dX3_answerShare_22 : decode cX3_answerShare 22 = .ok (.istore_n 1, 1) := dk_60 (dk_at dksX3_answerShare_0 22 rfl rfl)
theorem dX3_answerShare_23 : decode cX3_answerShare 23 = .ok (.iload_n 1, 1) := dk_27 (dk_at dksX3_answerShare_0 23 rfl rfl)
theorem dX3_answerShare_24 : decode cX3_answerShare 24 = .ok (.ifCond .ne 7, 3) := dk_154 0 7 (dk_at dksX3_answerShare_1 0 rfl rfl)
theorem dX3_answerShare_27 : decode cX3_answerShare 27 = .ok (.fconst 0, 1) := dk_11 (dk_at dksX3_answerShare_1 3 rfl rfl)
theorem dX3_answerShare_28 : decode cX3_answerShare 28 = .ok (.goto 13, 3) := dk_167 0 13 (dk_at dksX3_answerShare_1 4 rfl rfl)
theorem dX3_answerShare_31 : decode cX3_answerShare 31 = .ok (.aload_n 0, 1) := dk_42 (dk_at dksX3_answerShare_1 7 rfl rfl)
theorem dX3_answerShare_32 : decode cX3_answerShare 32 = .ok (.getfield 7, 3) := dk_180 0 7 (dk_at dksX3_answerShare_1 8 rfl rfl)
theorem dX3_answerShare_35 : decode cX3_answerShare 35 = .ok (.iconst 5, 1) := dk_8 (dk_at dksX3_answerShare_1 11 rfl rfl)
theorem dX3_answerShare_36 : decode cX3_answerShare 36 = .ok (.iaload, 1) := dk_46 (dk_at dksX3_answerShare_1 12 rfl rfl)
theorem dX3_answerShare_37 : decode cX3_answerShare 37 = .ok (.i2f, 1) := dk_134 (dk_at dksX3_answerShare_1 13 rfl rfl)
theorem dX3_answerShare_38 : decode cX3_answerShare 38 = .ok (.iload_n 1, 1) := dk_27 (dk_at dksX3_answerShare_1 14 rfl rfl)
theorem dX3_answerShare_39 : decode cX3_answerShare 39 = .ok (.i2f, 1) := dk_134 (dk_at dksX3_answerShare_1 15 rfl rfl)
theorem dX3_answerShare_40 : decode cX3_answerShare 40 = .ok (.fdiv, 1) := dk_110 (dk_at dksX3_answerShare_1 16 rfl rfl)
theorem dX3_answerShare_41 : decode cX3_answerShare 41 = .ok (.freturn, 1) := dk_174 (dk_at dksX3_answerShare_1 17 rfl rfl)
def dkwX3_undo_2 : List UInt8 := [96, 46, 79, 132, 1, 1, 167, 255, 225, 42, 180, 0, 49, 172]
abbrev dktX3_undo_2 : List UInt8 := dkwX3_undo_2 ++ []
def dkwX3_undo_1 : List UInt8 := [17, 0, 235, 162, 0, 30, 42, 180, 0, 7, 27, 42, 180, 0, 22, 42, 180, 0, 49, 17, 0, 235, 104, 27]
abbrev dktX3_undo_1 : List UInt8 := dkwX3_undo_1 ++ dktX3_undo_2
def dkwX3_undo_0 : List UInt8 := [42, 180, 0, 49, 154, 0, 7, 17, 252, 9, 172, 42, 89, 180, 0, 49, 4, 100, 181, 0, 49, 3, 60, 27]
abbrev dktX3_undo_0 : List UInt8 := dkwX3_undo_0 ++ dktX3_undo_1
theorem dksX3_undo_0 : cX3_undo.data.toList.drop 0 = dktX3_undo_0 := by decide +kernel
theorem dksX3_undo_1 : cX3_undo.data.toList.drop 24 = dktX3_undo_1 := dk_seg dksX3_undo_0 24 rfl rfl
theorem dksX3_undo_2 : cX3_undo.data.toList.drop 48 = dktX3_undo_2 := dk_seg dksX3_undo_1 24 rfl rfl
theorem dX3_undo_0 : decode cX3_undo 0 = .ok (.aload_n 0, 1) := dk_42 (dk_at dksX3_undo_0 0 rfl rfl)
theorem dX3_undo_1 : decode cX3_undo 1 = .ok (.getfield 49, 3) := dk_180 0 49 (dk_at dksX3_undo_0 1 rfl rfl)
theorem dX3_undo_4 : decode cX3_undo 4 = .ok (.ifCond .ne 7, 3) := dk_154 0 7 (dk_at dksX3_undo_0 4 rfl rfl)
theorem dX3_undo_7 : decode cX3_undo 7 = .ok (.sipush (-1015), 3) := dk_17 252 9 (dk_at dksX3_undo_0 7 rfl rfl)
theorem dX3_undo_10 : decode cX3_undo 10 = .ok (.ireturn, 1) := dk_172 (dk_at dksX3_undo_0 10 rfl rfl)
theorem dX3_undo_11 : decode cX3_undo 11 = .ok (.aload_n 0, 1) := dk_42 (dk_at dksX3_undo_0 11 rfl rfl)
theorem dX3_undo_12 : decode cX3_undo 12 = .ok (.dup, 1) := dk_89 (dk_at dksX3_undo_0 12 rfl rfl)
theorem dX3_undo_13 : decode cX3_undo 13 = .ok (.getfield 49, 3) := dk_180 0 49 (dk_at dksX3_undo_0 13 rfl rfl)
theorem dX3_undo_16 : decode cX3_undo 16 = .ok (.iconst 1, 1) := dk_4 (dk_at dksX3_undo_0 16 rfl rfl)
theorem dX3_undo_17 : decode cX3_undo 17 = .ok (.isub, 1) := dk_100 (dk_at dksX3_undo_0 17 rfl rfl)
theorem dX3_undo_18 : decode cX3_undo 18 = .ok (.putfield 49, 3) := dk_181 0 49 (dk_at dksX3_undo_0 18 rfl rfl)
theorem dX3_undo_21 : decode cX3_undo 21 = .ok (.iconst 0, 1) := dk_3 (dk_at dksX3_undo_0 21 rfl rfl)
theorem dX3_undo_22 : decode cX3_undo 22 = .ok (.istore_n 1, 1) := dk_60 (dk_at dksX3_undo_0 22 rfl rfl)
theorem dX3_undo_23 : decode cX3_undo 23 = .ok (.iload_n 1, 1) := dk_27 (dk_at dksX3_undo_0 23 rfl rfl)
theorem dX3_undo_24 : decode cX3_undo 24 = .ok (.sipush 235, 3) := dk_17 0 235 (dk_at dksX3_undo_1 0 rfl rfl)
theorem dX3_undo_27 : decode cX3_undo 27 = .ok (.if_icmp .ge 30, 3) := dk_162 0 30 (dk_at dksX3_undo_1 3 rfl rfl)
theorem dX3_undo_30 : decode cX3_undo 30 = .ok (.aload_n 0, 1) := dk_42 (dk_at dksX3_undo_1 6 rfl rfl)
theorem dX3_undo_31 : decode cX3_undo 31 = .ok (.getfield 7, 3) := dk_180 0 7 (dk_at dksX3_undo_1 7 rfl rfl)
theorem dX3_undo_34 : decode cX3_undo 34 = .ok (.iload_n 1, 1) := dk_27 (dk_at dksX3_undo_1 10 rfl rfl)
theorem dX3_undo_35 : decode cX3_undo 35 = .ok (.aload_n 0, 1) := dk_42 (dk_at dksX3_undo_1 11 rfl rfl)
theorem dX3_undo_36 : decode cX3_undo 36 = .ok (.getfield 22, 3) := dk_180 0 22 (dk_at dksX3_undo_1 12 rfl rfl)
theorem dX3_undo_39 : decode cX3_undo 39 = .ok (.aload_n 0, 1) := dk_42 (dk_at dksX3_undo_1 15 rfl rfl)
theorem dX3_undo_40 : decode cX3_undo 40 = .ok (.getfield 49, 3) := dk_180 0 49 (dk_at dksX3_undo_1 16 rfl rfl)
theorem dX3_undo_43 : decode cX3_undo 43 = .ok (.sipush 235, 3) := dk_17 0 235 (dk_at dksX3_undo_1 19 rfl rfl)
theorem dX3_undo_46 : decode cX3_undo 46 = .ok (.imul, 1) := dk_104 (dk_at dksX3_undo_1 22 rfl rfl)
theorem dX3_undo_47 : decode cX3_undo 47 = .ok (.iload_n 1, 1) := dk_27 (dk_at dksX3_undo_1 23 rfl rfl)
theorem dX3_undo_48 : decode cX3_undo 48 = .ok (.iadd, 1) := dk_96 (dk_at dksX3_undo_2 0 rfl rfl)
theorem dX3_undo_49 : decode cX3_undo 49 = .ok (.iaload, 1) := dk_46 (dk_at dksX3_undo_2 1 rfl rfl)
theorem dX3_undo_50 : decode cX3_undo 50 = .ok (.iastore, 1) := dk_79 (dk_at dksX3_undo_2 2 rfl rfl)
theorem dX3_undo_51 : decode cX3_undo 51 = .ok (.iinc 1 1, 3) := dk_132 1 1 (dk_at dksX3_undo_2 3 rfl rfl)
theorem dX3_undo_54 : decode cX3_undo 54 = .ok (.goto (-31), 3) := dk_167 255 225 (dk_at dksX3_undo_2 6 rfl rfl)
theorem dX3_undo_57 : decode cX3_undo 57 = .ok (.aload_n 0, 1) := dk_42 (dk_at dksX3_undo_2 9 rfl rfl)
theorem dX3_undo_58 : decode cX3_undo 58 = .ok (.getfield 49, 3) := dk_180 0 49 (dk_at dksX3_undo_2 10 rfl rfl)
theorem dX3_undo_61 : decode cX3_undo 61 = .ok (.ireturn, 1) := dk_172 (dk_at dksX3_undo_2 13 rfl rfl)
def dkwX3_save_0 : List UInt8 := [42, 180, 0, 16, 42, 180, 0, 7, 184, 0, 45, 42, 4, 181, 0, 213, 42, 180, 0, 7, 3, 46, 172]
abbrev dktX3_save_0 : List UInt8 := dkwX3_save_0 ++ []
theorem dksX3_save_0 : cX3_save.data.toList.drop 0 = dktX3_save_0 := by decide +kernel
theorem dX3_save_0 : decode cX3_save 0 = .ok (.aload_n 0, 1) := dk_42 (dk_at dksX3_save_0 0 rfl rfl)
theorem dX3_save_1 : decode cX3_save 1 = .ok (.getfield 16, 3) := dk_180 0 16 (dk_at dksX3_save_0 1 rfl rfl)
theorem dX3_save_4 : decode cX3_save 4 = .ok (.aload_n 0, 1) := dk_42 (dk_at dksX3_save_0 4 rfl rfl)
theorem dX3_save_5 : decode cX3_save 5 = .ok (.getfield 7, 3) := dk_180 0 7 (dk_at dksX3_save_0 5 rfl rfl)
theorem dX3_save_8 : decode cX3_save 8 = .ok (.invokestatic 45, 3) := dk_184 0 45 (dk_at dksX3_save_0 8 rfl rfl)
theorem dX3_save_11 : decode cX3_save 11 = .ok (.aload_n 0, 1) := dk_42 (dk_at dksX3_save_0 11 rfl rfl)
theorem dX3_save_12 : decode cX3_save 12 = .ok (.iconst 1, 1) := dk_4 (dk_at dksX3_save_0 12 rfl rfl)
theorem dX3_save_13 : decode cX3_save 13 = .ok (.putfield 213, 3) := dk_181 0 213 (dk_at dksX3_save_0 13 rfl rfl)
theorem dX3_save_16 : decode cX3_save 16 = .ok (.aload_n 0, 1) := dk_42 (dk_at dksX3_save_0 16 rfl rfl)
theorem dX3_save_17 : decode cX3_save 17 = .ok (.getfield 7, 3) := dk_180 0 7 (dk_at dksX3_save_0 17 rfl rfl)
theorem dX3_save_20 : decode cX3_save 20 = .ok (.iconst 0, 1) := dk_3 (dk_at dksX3_save_0 20 rfl rfl)
theorem dX3_save_21 : decode cX3_save 21 = .ok (.iaload, 1) := dk_46 (dk_at dksX3_save_0 21 rfl rfl)
theorem dX3_save_22 : decode cX3_save 22 = .ok (.ireturn, 1) := dk_172 (dk_at dksX3_save_0 22 rfl rfl)
def dkwX3_restore_1 : List UInt8 := [181, 0, 49, 42, 180, 0, 7, 3, 46, 172]
abbrev dktX3_restore_1 : List UInt8 := dkwX3_restore_1 ++ []
def dkwX3_restore_0 : List UInt8 := [42, 180, 0, 213, 154, 0, 7, 17, 252, 9, 172, 42, 180, 0, 7, 42, 180, 0, 16, 184, 0, 45, 42, 3]
abbrev dktX3_restore_0 : List UInt8 := dkwX3_restore_0 ++ dktX3_restore_1
theorem dksX3_restore_0 : cX3_restore.data.toList.drop 0 = dktX3_restore_0 := by decide +kernel
theorem dksX3_restore_1 : cX3_restore.data.toList.drop 24 = dktX3_restore_1 := dk_seg dksX3_restore_0 24 rfl rfl
theorem dX3_restore_0 : decode cX3_restore 0 = .ok (.aload_n 0, 1) := dk_42 (dk_at dksX3_restore_0 0 rfl rfl)
theorem dX3_restore_1 : decode cX3_restore 1 = .ok (.getfield 213, 3) := dk_180 0 213 (dk_at dksX3_restore_0 1 rfl rfl)
theorem dX3_restore_4 : decode cX3_restore 4 = .ok (.ifCond .ne 7, 3) := dk_154 0 7 (dk_at dksX3_restore_0 4 rfl rfl)
theorem dX3_restore_7 : decode cX3_restore 7 = .ok (.sipush (-1015), 3) := dk_17 252 9 (dk_at dksX3_restore_0 7 rfl rfl)
theorem dX3_restore_10 : decode cX3_restore 10 = .ok (.ireturn, 1) := dk_172 (dk_at dksX3_restore_0 10 rfl rfl)
theorem dX3_restore_11 : decode cX3_restore 11 = .ok (.aload_n 0, 1) := dk_42 (dk_at dksX3_restore_0 11 rfl rfl)
theorem dX3_restore_12 : decode cX3_restore 12 = .ok (.getfield 7, 3) := dk_180 0 7 (dk_at dksX3_restore_0 12 rfl rfl)
theorem dX3_restore_15 : decode cX3_restore 15 = .ok (.aload_n 0, 1) := dk_42 (dk_at dksX3_restore_0 15 rfl rfl)
theorem dX3_restore_16 : decode cX3_restore 16 = .ok (.getfield 16, 3) := dk_180 0 16 (dk_at dksX3_restore_0 16 rfl rfl)
theorem dX3_restore_19 : decode cX3_restore 19 = .ok (.invokestatic 45, 3) := dk_184 0 45 (dk_at dksX3_restore_0 19 rfl rfl)
theorem dX3_restore_22 : decode cX3_restore 22 = .ok (.aload_n 0, 1) := dk_42 (dk_at dksX3_restore_0 22 rfl rfl)
theorem dX3_restore_23 : decode cX3_restore 23 = .ok (.iconst 0, 1) := dk_3 (dk_at dksX3_restore_0 23 rfl rfl)
theorem dX3_restore_24 : decode cX3_restore 24 = .ok (.putfield 49, 3) := dk_181 0 49 (dk_at dksX3_restore_1 0 rfl rfl)
theorem dX3_restore_27 : decode cX3_restore 27 = .ok (.aload_n 0, 1) := dk_42 (dk_at dksX3_restore_1 3 rfl rfl)
theorem dX3_restore_28 : decode cX3_restore 28 = .ok (.getfield 7, 3) := dk_180 0 7 (dk_at dksX3_restore_1 4 rfl rfl)
theorem dX3_restore_31 : decode cX3_restore 31 = .ok (.iconst 0, 1) := dk_3 (dk_at dksX3_restore_1 7 rfl rfl)
theorem dX3_restore_32 : decode cX3_restore 32 = .ok (.iaload, 1) := dk_46 (dk_at dksX3_restore_1 8 rfl rfl)
theorem dX3_restore_33 : decode cX3_restore 33 = .ok (.ireturn, 1) := dk_172 (dk_at dksX3_restore_1 9 rfl rfl)
