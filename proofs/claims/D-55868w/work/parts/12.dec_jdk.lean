set_option maxRecDepth 100000
theorem dJ0_init_0 : decode cJ0_init 0 = .ok (.aload_n 0, 1) := by decide +kernel
theorem dJ0_init_1 : decode cJ0_init 1 = .ok (.invokespecial 1, 3) := by decide +kernel
theorem dJ0_init_4 : decode cJ0_init 4 = .ok (.return_, 1) := by decide +kernel
def dkwJ0_isEmpty_0 : List UInt8 := [42, 182, 0, 7, 154, 0, 7, 4, 167, 0, 4, 3, 172]
abbrev dktJ0_isEmpty_0 : List UInt8 := dkwJ0_isEmpty_0 ++ []
theorem dksJ0_isEmpty_0 : cJ0_isEmpty.data.toList.drop 0 = dktJ0_isEmpty_0 := by decide +kernel
theorem dJ0_isEmpty_0 : decode cJ0_isEmpty 0 = .ok (.aload_n 0, 1) := dk_42 (dk_at dksJ0_isEmpty_0 0 rfl rfl)
theorem dJ0_isEmpty_1 : decode cJ0_isEmpty 1 = .ok (.invokevirtual 7, 3) := dk_182 0 7 (dk_at dksJ0_isEmpty_0 1 rfl rfl)
theorem dJ0_isEmpty_4 : decode cJ0_isEmpty 4 = .ok (.ifCond .ne 7, 3) := dk_154 0 7 (dk_at dksJ0_isEmpty_0 4 rfl rfl)
theorem dJ0_isEmpty_7 : decode cJ0_isEmpty 7 = .ok (.iconst 1, 1) := dk_4 (dk_at dksJ0_isEmpty_0 7 rfl rfl)
theorem dJ0_isEmpty_8 : decode cJ0_isEmpty 8 = .ok (.goto 4, 3) := dk_167 0 4 (dk_at dksJ0_isEmpty_0 8 rfl rfl)
theorem dJ0_isEmpty_11 : decode cJ0_isEmpty 11 = .ok (.iconst 0, 1) := dk_3 (dk_at dksJ0_isEmpty_0 11 rfl rfl)
theorem dJ0_isEmpty_12 : decode cJ0_isEmpty 12 = .ok (.ireturn, 1) := dk_172 (dk_at dksJ0_isEmpty_0 12 rfl rfl)
def dkwJ1_init_0 : List UInt8 := [42, 183, 0, 1, 42, 3, 181, 0, 7, 177]
abbrev dktJ1_init_0 : List UInt8 := dkwJ1_init_0 ++ []
theorem dksJ1_init_0 : cJ1_init.data.toList.drop 0 = dktJ1_init_0 := by decide +kernel
theorem dJ1_init_0 : decode cJ1_init 0 = .ok (.aload_n 0, 1) := dk_42 (dk_at dksJ1_init_0 0 rfl rfl)
theorem dJ1_init_1 : decode cJ1_init 1 = .ok (.invokespecial 1, 3) := dk_183 0 1 (dk_at dksJ1_init_0 1 rfl rfl)
theorem dJ1_init_4 : decode cJ1_init 4 = .ok (.aload_n 0, 1) := dk_42 (dk_at dksJ1_init_0 4 rfl rfl)
theorem dJ1_init_5 : decode cJ1_init 5 = .ok (.iconst 0, 1) := dk_3 (dk_at dksJ1_init_0 5 rfl rfl)
theorem dJ1_init_6 : decode cJ1_init 6 = .ok (.putfield 7, 3) := dk_181 0 7 (dk_at dksJ1_init_0 6 rfl rfl)
theorem dJ1_init_9 : decode cJ1_init 9 = .ok (.return_, 1) := dk_177 (dk_at dksJ1_init_0 9 rfl rfl)
def dkwJ1_listIterator_0 : List UInt8 := [42, 3, 182, 0, 47, 176]
abbrev dktJ1_listIterator_0 : List UInt8 := dkwJ1_listIterator_0 ++ []
theorem dksJ1_listIterator_0 : cJ1_listIterator.data.toList.drop 0 = dktJ1_listIterator_0 := by decide +kernel
theorem dJ1_listIterator_0 : decode cJ1_listIterator 0 = .ok (.aload_n 0, 1) := dk_42 (dk_at dksJ1_listIterator_0 0 rfl rfl)
theorem dJ1_listIterator_1 : decode cJ1_listIterator 1 = .ok (.iconst 0, 1) := dk_3 (dk_at dksJ1_listIterator_0 1 rfl rfl)
theorem dJ1_listIterator_2 : decode cJ1_listIterator 2 = .ok (.invokevirtual 47, 3) := dk_182 0 47 (dk_at dksJ1_listIterator_0 2 rfl rfl)
theorem dJ1_listIterator_5 : decode cJ1_listIterator 5 = .ok (.areturn, 1) := dk_176 (dk_at dksJ1_listIterator_0 5 rfl rfl)
def dkwJ2_init_2 : List UInt8 := [182, 0, 25, 27, 182, 0, 29, 182, 0, 32, 183, 0, 36, 191, 177]
abbrev dktJ2_init_2 : List UInt8 := dkwJ2_init_2 ++ []
def dkwJ2_init_1 : List UInt8 := [178, 0, 15, 181, 0, 9, 167, 0, 30, 187, 0, 18, 89, 187, 0, 20, 89, 183, 0, 22, 18, 23]
abbrev dktJ2_init_1 : List UInt8 := dkwJ2_init_1 ++ dktJ2_init_2
def dkwJ2_init_0 : List UInt8 := [42, 183, 0, 1, 27, 158, 0, 14, 42, 27, 189, 0, 7, 181, 0, 9, 167, 0, 44, 27, 154, 0, 13, 42]
abbrev dktJ2_init_0 : List UInt8 := dkwJ2_init_0 ++ dktJ2_init_1
theorem dksJ2_init_0 : cJ2_init.data.toList.drop 0 = dktJ2_init_0 := by decide +kernel
theorem dksJ2_init_1 : cJ2_init.data.toList.drop 24 = dktJ2_init_1 := dk_seg dksJ2_init_0 24 rfl rfl
theorem dksJ2_init_2 : cJ2_init.data.toList.drop 46 = dktJ2_init_2 := dk_seg dksJ2_init_1 22 rfl rfl
theorem dJ2_init_0 : decode cJ2_init 0 = .ok (.aload_n 0, 1) := dk_42 (dk_at dksJ2_init_0 0 rfl rfl)
theorem dJ2_init_1 : decode cJ2_init 1 = .ok (.invokespecial 1, 3) := dk_183 0 1 (dk_at dksJ2_init_0 1 rfl rfl)
theorem dJ2_init_4 : decode cJ2_init 4 = .ok (.iload_n 1, 1) := dk_27 (dk_at dksJ2_init_0 4 rfl rfl)
theorem dJ2_init_5 : decode cJ2_init 5 = .ok (.ifCond .le 14, 3) := dk_158 0 14 (dk_at dksJ2_init_0 5 rfl rfl)
theorem dJ2_init_8 : decode cJ2_init 8 = .ok (.aload_n 0, 1) := dk_42 (dk_at dksJ2_init_0 8 rfl rfl)
theorem dJ2_init_9 : decode cJ2_init 9 = .ok (.iload_n 1, 1) := dk_27 (dk_at dksJ2_init_0 9 rfl rfl)
theorem dJ2_init_10 : decode cJ2_init 10 = .ok (.anewarray 7, 3) := dk_189 0 7 (dk_at dksJ2_init_0 10 rfl rfl)
theorem dJ2_init_13 : decode cJ2_init 13 = .ok (.putfield 9, 3) := dk_181 0 9 (dk_at dksJ2_init_0 13 rfl rfl)
theorem dJ2_init_16 : decode cJ2_init 16 = .ok (.goto 44, 3) := dk_167 0 44 (dk_at dksJ2_init_0 16 rfl rfl)
theorem dJ2_init_19 : decode cJ2_init 19 = .ok (.iload_n 1, 1) := dk_27 (dk_at dksJ2_init_0 19 rfl rfl)
theorem dJ2_init_20 : decode cJ2_init 20 = .ok (.ifCond .ne 13, 3) := dk_154 0 13 (dk_at dksJ2_init_0 20 rfl rfl)
theorem dJ2_init_23 : decode cJ2_init 23 = .ok (.aload_n 0, 1) := dk_42 (dk_at dksJ2_init_0 23 rfl rfl)
theorem dJ2_init_24 : decode cJ2_init 24 = .ok (.getstatic 15, 3) := dk_178 0 15 (dk_at dksJ2_init_1 0 rfl rfl)
theorem dJ2_init_27 : decode cJ2_init 27 = .ok (.putfield 9, 3) := dk_181 0 9 (dk_at dksJ2_init_1 3 rfl rfl)
theorem dJ2_init_30 : decode cJ2_init 30 = .ok (.goto 30, 3) := dk_167 0 30 (dk_at dksJ2_init_1 6 rfl rfl)
theorem dJ2_init_60 : decode cJ2_init 60 = .ok (.return_, 1) := dk_177 (dk_at dksJ2_init_2 14 rfl rfl)
def dkwJ2_iterator_0 : List UInt8 := [187, 1, 11, 89, 42, 183, 1, 13, 176]
abbrev dktJ2_iterator_0 : List UInt8 := dkwJ2_iterator_0 ++ []
theorem dksJ2_iterator_0 : cJ2_iterator.data.toList.drop 0 = dktJ2_iterator_0 := by decide +kernel
theorem dJ2_iterator_0 : decode cJ2_iterator 0 = .ok (.new 267, 3) := dk_187 1 11 (dk_at dksJ2_iterator_0 0 rfl rfl)
theorem dJ2_iterator_3 : decode cJ2_iterator 3 = .ok (.dup, 1) := dk_89 (dk_at dksJ2_iterator_0 3 rfl rfl)
theorem dJ2_iterator_4 : decode cJ2_iterator 4 = .ok (.aload_n 0, 1) := dk_42 (dk_at dksJ2_iterator_0 4 rfl rfl)
theorem dJ2_iterator_5 : decode cJ2_iterator 5 = .ok (.invokespecial 269, 3) := dk_183 1 13 (dk_at dksJ2_iterator_0 5 rfl rfl)
theorem dJ2_iterator_8 : decode cJ2_iterator 8 = .ok (.areturn, 1) := dk_176 (dk_at dksJ2_iterator_0 8 rfl rfl)
theorem dJ2_size_0 : decode cJ2_size 0 = .ok (.aload_n 0, 1) := by decide +kernel
theorem dJ2_size_1 : decode cJ2_size 1 = .ok (.getfield 48, 3) := by decide +kernel
theorem dJ2_size_4 : decode cJ2_size 4 = .ok (.ireturn, 1) := by decide +kernel
def dkwJ2_get_0 : List UInt8 := [27, 42, 180, 0, 48, 184, 0, 118, 87, 42, 27, 182, 0, 123, 176]
abbrev dktJ2_get_0 : List UInt8 := dkwJ2_get_0 ++ []
theorem dksJ2_get_0 : cJ2_get.data.toList.drop 0 = dktJ2_get_0 := by decide +kernel
theorem dJ2_get_0 : decode cJ2_get 0 = .ok (.iload_n 1, 1) := dk_27 (dk_at dksJ2_get_0 0 rfl rfl)
theorem dJ2_get_1 : decode cJ2_get 1 = .ok (.aload_n 0, 1) := dk_42 (dk_at dksJ2_get_0 1 rfl rfl)
theorem dJ2_get_2 : decode cJ2_get 2 = .ok (.getfield 48, 3) := dk_180 0 48 (dk_at dksJ2_get_0 2 rfl rfl)
theorem dJ2_get_5 : decode cJ2_get 5 = .ok (.invokestatic 118, 3) := dk_184 0 118 (dk_at dksJ2_get_0 5 rfl rfl)
theorem dJ2_get_8 : decode cJ2_get 8 = .ok (.pop, 1) := dk_87 (dk_at dksJ2_get_0 8 rfl rfl)
theorem dJ2_get_9 : decode cJ2_get 9 = .ok (.aload_n 0, 1) := dk_42 (dk_at dksJ2_get_0 9 rfl rfl)
theorem dJ2_get_10 : decode cJ2_get 10 = .ok (.iload_n 1, 1) := dk_27 (dk_at dksJ2_get_0 10 rfl rfl)
theorem dJ2_get_11 : decode cJ2_get 11 = .ok (.invokevirtual 123, 3) := dk_182 0 123 (dk_at dksJ2_get_0 11 rfl rfl)
theorem dJ2_get_14 : decode cJ2_get 14 = .ok (.areturn, 1) := dk_176 (dk_at dksJ2_get_0 14 rfl rfl)
def dkwJ2_elementData_0 : List UInt8 := [42, 180, 0, 9, 27, 50, 176]
abbrev dktJ2_elementData_0 : List UInt8 := dkwJ2_elementData_0 ++ []
theorem dksJ2_elementData_0 : cJ2_elementData.data.toList.drop 0 = dktJ2_elementData_0 := by decide +kernel
theorem dJ2_elementData_0 : decode cJ2_elementData 0 = .ok (.aload_n 0, 1) := dk_42 (dk_at dksJ2_elementData_0 0 rfl rfl)
theorem dJ2_elementData_1 : decode cJ2_elementData 1 = .ok (.getfield 9, 3) := dk_180 0 9 (dk_at dksJ2_elementData_0 1 rfl rfl)
theorem dJ2_elementData_4 : decode cJ2_elementData 4 = .ok (.iload_n 1, 1) := dk_27 (dk_at dksJ2_elementData_0 4 rfl rfl)
theorem dJ2_elementData_5 : decode cJ2_elementData 5 = .ok (.aaload, 1) := dk_50 (dk_at dksJ2_elementData_0 5 rfl rfl)
theorem dJ2_elementData_6 : decode cJ2_elementData 6 = .ok (.areturn, 1) := dk_176 (dk_at dksJ2_elementData_0 6 rfl rfl)
def dkwJ2_add_1 : List UInt8 := [172]
abbrev dktJ2_add_1 : List UInt8 := dkwJ2_add_1 ++ []
def dkwJ2_add_0 : List UInt8 := [42, 89, 180, 0, 63, 4, 96, 181, 0, 63, 42, 43, 42, 180, 0, 9, 42, 180, 0, 48, 182, 0, 131, 4]
abbrev dktJ2_add_0 : List UInt8 := dkwJ2_add_0 ++ dktJ2_add_1
theorem dksJ2_add_0 : cJ2_add.data.toList.drop 0 = dktJ2_add_0 := by decide +kernel
theorem dksJ2_add_1 : cJ2_add.data.toList.drop 24 = dktJ2_add_1 := dk_seg dksJ2_add_0 24 rfl rfl
theorem dJ2_add_0 : decode cJ2_add 0 = .ok (.aload_n 0, 1) := dk_42 (dk_at dksJ2_add_0 0 rfl rfl)
theorem dJ2_add_1 : decode cJ2_add 1 = .ok (.dup, 1) := dk_89 (dk_at dksJ2_add_0 1 rfl rfl)
theorem dJ2_add_2 : decode cJ2_add 2 = .ok (.getfield 63, 3) := dk_180 0 63 (dk_at dksJ2_add_0 2 rfl rfl)
theorem dJ2_add_5 : decode cJ2_add 5 = .ok (.iconst 1, 1) := dk_4 (dk_at dksJ2_add_0 5 rfl rfl)
theorem dJ2_add_6 : decode cJ2_add 6 = .ok (.iadd, 1) := dk_96 (dk_at dksJ2_add_0 6 rfl rfl)
theorem dJ2_add_7 : decode cJ2_add 7 = .ok (.putfield 63, 3) := dk_181 0 63 (dk_at dksJ2_add_0 7 rfl rfl)
theorem dJ2_add_10 : decode cJ2_add 10 = .ok (.aload_n 0, 1) := dk_42 (dk_at dksJ2_add_0 10 rfl rfl)
theorem dJ2_add_11 : decode cJ2_add 11 = .ok (.aload_n 1, 1) := dk_43 (dk_at dksJ2_add_0 11 rfl rfl)
theorem dJ2_add_12 : decode cJ2_add 12 = .ok (.aload_n 0, 1) := dk_42 (dk_at dksJ2_add_0 12 rfl rfl)
theorem dJ2_add_13 : decode cJ2_add 13 = .ok (.getfield 9, 3) := dk_180 0 9 (dk_at dksJ2_add_0 13 rfl rfl)
theorem dJ2_add_16 : decode cJ2_add 16 = .ok (.aload_n 0, 1) := dk_42 (dk_at dksJ2_add_0 16 rfl rfl)
theorem dJ2_add_17 : decode cJ2_add 17 = .ok (.getfield 48, 3) := dk_180 0 48 (dk_at dksJ2_add_0 17 rfl rfl)
theorem dJ2_add_20 : decode cJ2_add 20 = .ok (.invokevirtual 131, 3) := dk_182 0 131 (dk_at dksJ2_add_0 20 rfl rfl)
theorem dJ2_add_23 : decode cJ2_add 23 = .ok (.iconst 1, 1) := dk_4 (dk_at dksJ2_add_0 23 rfl rfl)
theorem dJ2_add_24 : decode cJ2_add 24 = .ok (.ireturn, 1) := dk_172 (dk_at dksJ2_add_1 0 rfl rfl)
def dkwJ2_add_2_0 : List UInt8 := [29, 44, 190, 160, 0, 8, 42, 182, 0, 129, 77, 44, 29, 43, 83, 42, 29, 4, 96, 181, 0, 48, 177]
abbrev dktJ2_add_2_0 : List UInt8 := dkwJ2_add_2_0 ++ []
theorem dksJ2_add_2_0 : cJ2_add_2.data.toList.drop 0 = dktJ2_add_2_0 := by decide +kernel
theorem dJ2_add_2_0 : decode cJ2_add_2 0 = .ok (.iload_n 3, 1) := dk_29 (dk_at dksJ2_add_2_0 0 rfl rfl)
theorem dJ2_add_2_1 : decode cJ2_add_2 1 = .ok (.aload_n 2, 1) := dk_44 (dk_at dksJ2_add_2_0 1 rfl rfl)
theorem dJ2_add_2_2 : decode cJ2_add_2 2 = .ok (.arraylength, 1) := dk_190 (dk_at dksJ2_add_2_0 2 rfl rfl)
theorem dJ2_add_2_3 : decode cJ2_add_2 3 = .ok (.if_icmp .ne 8, 3) := dk_160 0 8 (dk_at dksJ2_add_2_0 3 rfl rfl)
theorem dJ2_add_2_11 : decode cJ2_add_2 11 = .ok (.aload_n 2, 1) := dk_44 (dk_at dksJ2_add_2_0 11 rfl rfl)
theorem dJ2_add_2_12 : decode cJ2_add_2 12 = .ok (.iload_n 3, 1) := dk_29 (dk_at dksJ2_add_2_0 12 rfl rfl)
theorem dJ2_add_2_13 : decode cJ2_add_2 13 = .ok (.aload_n 1, 1) := dk_43 (dk_at dksJ2_add_2_0 13 rfl rfl)
theorem dJ2_add_2_14 : decode cJ2_add_2 14 = .ok (.aastore, 1) := dk_83 (dk_at dksJ2_add_2_0 14 rfl rfl)
theorem dJ2_add_2_15 : decode cJ2_add_2 15 = .ok (.aload_n 0, 1) := dk_42 (dk_at dksJ2_add_2_0 15 rfl rfl)
theorem dJ2_add_2_16 : decode cJ2_add_2 16 = .ok (.iload_n 3, 1) := dk_29 (dk_at dksJ2_add_2_0 16 rfl rfl)
theorem dJ2_add_2_17 : decode cJ2_add_2 17 = .ok (.iconst 1, 1) := dk_4 (dk_at dksJ2_add_2_0 17 rfl rfl)
theorem dJ2_add_2_18 : decode cJ2_add_2 18 = .ok (.iadd, 1) := dk_96 (dk_at dksJ2_add_2_0 18 rfl rfl)
theorem dJ2_add_2_19 : decode cJ2_add_2 19 = .ok (.putfield 48, 3) := dk_181 0 48 (dk_at dksJ2_add_2_0 19 rfl rfl)
theorem dJ2_add_2_22 : decode cJ2_add_2 22 = .ok (.return_, 1) := dk_177 (dk_at dksJ2_add_2_0 22 rfl rfl)
theorem dJ3_init_0 : decode cJ3_init 0 = .ok (.aload_n 0, 1) := by decide +kernel
theorem dJ3_init_1 : decode cJ3_init 1 = .ok (.invokespecial 1, 3) := by decide +kernel
theorem dJ3_init_4 : decode cJ3_init 4 = .ok (.return_, 1) := by decide +kernel
def dkwJ4_init_0 : List UInt8 := [42, 16, 11, 43, 183, 0, 3, 177]
abbrev dktJ4_init_0 : List UInt8 := dkwJ4_init_0 ++ []
theorem dksJ4_init_0 : cJ4_init.data.toList.drop 0 = dktJ4_init_0 := by decide +kernel
theorem dJ4_init_0 : decode cJ4_init 0 = .ok (.aload_n 0, 1) := dk_42 (dk_at dksJ4_init_0 0 rfl rfl)
theorem dJ4_init_1 : decode cJ4_init 1 = .ok (.bipush 11, 2) := dk_16 11 (dk_at dksJ4_init_0 1 rfl rfl)
theorem dJ4_init_3 : decode cJ4_init 3 = .ok (.aload_n 1, 1) := dk_43 (dk_at dksJ4_init_0 3 rfl rfl)
theorem dJ4_init_4 : decode cJ4_init 4 = .ok (.invokespecial 3, 3) := dk_183 0 3 (dk_at dksJ4_init_0 4 rfl rfl)
theorem dJ4_init_7 : decode cJ4_init 7 = .ok (.return_, 1) := dk_177 (dk_at dksJ4_init_0 7 rfl rfl)
def dkwJ4_init_2_1 : List UInt8 := [181, 0, 17, 42, 44, 181, 0, 21, 177]
abbrev dktJ4_init_2_1 : List UInt8 := dkwJ4_init_2_1 ++ []
def dkwJ4_init_2_0 : List UInt8 := [42, 183, 0, 7, 27, 4, 162, 0, 11, 187, 0, 12, 89, 183, 0, 14, 191, 42, 27, 189, 0, 15]
abbrev dktJ4_init_2_0 : List UInt8 := dkwJ4_init_2_0 ++ dktJ4_init_2_1
theorem dksJ4_init_2_0 : cJ4_init_2.data.toList.drop 0 = dktJ4_init_2_0 := by decide +kernel
theorem dksJ4_init_2_1 : cJ4_init_2.data.toList.drop 22 = dktJ4_init_2_1 := dk_seg dksJ4_init_2_0 22 rfl rfl
theorem dJ4_init_2_0 : decode cJ4_init_2 0 = .ok (.aload_n 0, 1) := dk_42 (dk_at dksJ4_init_2_0 0 rfl rfl)
theorem dJ4_init_2_1 : decode cJ4_init_2 1 = .ok (.invokespecial 7, 3) := dk_183 0 7 (dk_at dksJ4_init_2_0 1 rfl rfl)
theorem dJ4_init_2_4 : decode cJ4_init_2 4 = .ok (.iload_n 1, 1) := dk_27 (dk_at dksJ4_init_2_0 4 rfl rfl)
theorem dJ4_init_2_5 : decode cJ4_init_2 5 = .ok (.iconst 1, 1) := dk_4 (dk_at dksJ4_init_2_0 5 rfl rfl)
theorem dJ4_init_2_6 : decode cJ4_init_2 6 = .ok (.if_icmp .ge 11, 3) := dk_162 0 11 (dk_at dksJ4_init_2_0 6 rfl rfl)
theorem dJ4_init_2_17 : decode cJ4_init_2 17 = .ok (.aload_n 0, 1) := dk_42 (dk_at dksJ4_init_2_0 17 rfl rfl)
theorem dJ4_init_2_18 : decode cJ4_init_2 18 = .ok (.iload_n 1, 1) := dk_27 (dk_at dksJ4_init_2_0 18 rfl rfl)
theorem dJ4_init_2_19 : decode cJ4_init_2 19 = .ok (.anewarray 15, 3) := dk_189 0 15 (dk_at dksJ4_init_2_0 19 rfl rfl)
theorem dJ4_init_2_22 : decode cJ4_init_2 22 = .ok (.putfield 17, 3) := dk_181 0 17 (dk_at dksJ4_init_2_1 0 rfl rfl)
theorem dJ4_init_2_25 : decode cJ4_init_2 25 = .ok (.aload_n 0, 1) := dk_42 (dk_at dksJ4_init_2_1 3 rfl rfl)
theorem dJ4_init_2_26 : decode cJ4_init_2 26 = .ok (.aload_n 2, 1) := dk_44 (dk_at dksJ4_init_2_1 4 rfl rfl)
theorem dJ4_init_2_27 : decode cJ4_init_2 27 = .ok (.putfield 21, 3) := dk_181 0 21 (dk_at dksJ4_init_2_1 5 rfl rfl)
theorem dJ4_init_2_30 : decode cJ4_init_2 30 = .ok (.return_, 1) := dk_177 (dk_at dksJ4_init_2_1 8 rfl rfl)
def dkwJ4_iterator_0 : List UInt8 := [187, 0, 121, 89, 42, 183, 0, 123, 176]
abbrev dktJ4_iterator_0 : List UInt8 := dkwJ4_iterator_0 ++ []
theorem dksJ4_iterator_0 : cJ4_iterator.data.toList.drop 0 = dktJ4_iterator_0 := by decide +kernel
theorem dJ4_iterator_0 : decode cJ4_iterator 0 = .ok (.new 121, 3) := dk_187 0 121 (dk_at dksJ4_iterator_0 0 rfl rfl)
theorem dJ4_iterator_3 : decode cJ4_iterator 3 = .ok (.dup, 1) := dk_89 (dk_at dksJ4_iterator_0 3 rfl rfl)
theorem dJ4_iterator_4 : decode cJ4_iterator 4 = .ok (.aload_n 0, 1) := dk_42 (dk_at dksJ4_iterator_0 4 rfl rfl)
theorem dJ4_iterator_5 : decode cJ4_iterator 5 = .ok (.invokespecial 123, 3) := dk_183 0 123 (dk_at dksJ4_iterator_0 5 rfl rfl)
theorem dJ4_iterator_8 : decode cJ4_iterator 8 = .ok (.areturn, 1) := dk_176 (dk_at dksJ4_iterator_0 8 rfl rfl)
def dkwJ4_add_0 : List UInt8 := [42, 43, 182, 0, 89, 172]
abbrev dktJ4_add_0 : List UInt8 := dkwJ4_add_0 ++ []
theorem dksJ4_add_0 : cJ4_add.data.toList.drop 0 = dktJ4_add_0 := by decide +kernel
theorem dJ4_add_0 : decode cJ4_add 0 = .ok (.aload_n 0, 1) := dk_42 (dk_at dksJ4_add_0 0 rfl rfl)
theorem dJ4_add_1 : decode cJ4_add 1 = .ok (.aload_n 1, 1) := dk_43 (dk_at dksJ4_add_0 1 rfl rfl)
theorem dJ4_add_2 : decode cJ4_add 2 = .ok (.invokevirtual 89, 3) := dk_182 0 89 (dk_at dksJ4_add_0 2 rfl rfl)
theorem dJ4_add_5 : decode cJ4_add 5 = .ok (.ireturn, 1) := dk_172 (dk_at dksJ4_add_0 5 rfl rfl)
def dkwJ4_offer_2 : List UInt8 := [182, 0, 100, 42, 28, 4, 96, 181, 0, 58, 4, 172]
abbrev dktJ4_offer_2 : List UInt8 := dkwJ4_offer_2 ++ []
def dkwJ4_offer_1 : List UInt8 := [180, 0, 58, 61, 28, 42, 180, 0, 17, 190, 161, 0, 10, 42, 28, 4, 96, 182, 0, 96, 42, 28, 43]
abbrev dktJ4_offer_1 : List UInt8 := dkwJ4_offer_1 ++ dktJ4_offer_2
def dkwJ4_offer_0 : List UInt8 := [43, 199, 0, 11, 187, 0, 74, 89, 183, 0, 76, 191, 42, 89, 180, 0, 93, 4, 96, 181, 0, 93, 42]
abbrev dktJ4_offer_0 : List UInt8 := dkwJ4_offer_0 ++ dktJ4_offer_1
theorem dksJ4_offer_0 : cJ4_offer.data.toList.drop 0 = dktJ4_offer_0 := by decide +kernel
theorem dksJ4_offer_1 : cJ4_offer.data.toList.drop 23 = dktJ4_offer_1 := dk_seg dksJ4_offer_0 23 rfl rfl
theorem dksJ4_offer_2 : cJ4_offer.data.toList.drop 46 = dktJ4_offer_2 := dk_seg dksJ4_offer_1 23 rfl rfl
theorem dJ4_offer_0 : decode cJ4_offer 0 = .ok (.aload_n 1, 1) := dk_43 (dk_at dksJ4_offer_0 0 rfl rfl)
theorem dJ4_offer_1 : decode cJ4_offer 1 = .ok (.ifnonnull 11, 3) := dk_199 0 11 (dk_at dksJ4_offer_0 1 rfl rfl)
theorem dJ4_offer_12 : decode cJ4_offer 12 = .ok (.aload_n 0, 1) := dk_42 (dk_at dksJ4_offer_0 12 rfl rfl)
theorem dJ4_offer_13 : decode cJ4_offer 13 = .ok (.dup, 1) := dk_89 (dk_at dksJ4_offer_0 13 rfl rfl)
theorem dJ4_offer_14 : decode cJ4_offer 14 = .ok (.getfield 93, 3) := dk_180 0 93 (dk_at dksJ4_offer_0 14 rfl rfl)
theorem dJ4_offer_17 : decode cJ4_offer 17 = .ok (.iconst 1, 1) := dk_4 (dk_at dksJ4_offer_0 17 rfl rfl)
theorem dJ4_offer_18 : decode cJ4_offer 18 = .ok (.iadd, 1) := dk_96 (dk_at dksJ4_offer_0 18 rfl rfl)
theorem dJ4_offer_19 : decode cJ4_offer 19 = .ok (.putfield 93, 3) := dk_181 0 93 (dk_at dksJ4_offer_0 19 rfl rfl)
theorem dJ4_offer_22 : decode cJ4_offer 22 = .ok (.aload_n 0, 1) := dk_42 (dk_at dksJ4_offer_0 22 rfl rfl)
theorem dJ4_offer_23 : decode cJ4_offer 23 = .ok (.getfield 58, 3) := dk_180 0 58 (dk_at dksJ4_offer_1 0 rfl rfl)
theorem dJ4_offer_26 : decode cJ4_offer 26 = .ok (.istore_n 2, 1) := dk_61 (dk_at dksJ4_offer_1 3 rfl rfl)
theorem dJ4_offer_27 : decode cJ4_offer 27 = .ok (.iload_n 2, 1) := dk_28 (dk_at dksJ4_offer_1 4 rfl rfl)
theorem dJ4_offer_28 : decode cJ4_offer 28 = .ok (.aload_n 0, 1) := dk_42 (dk_at dksJ4_offer_1 5 rfl rfl)
theorem dJ4_offer_29 : decode cJ4_offer 29 = .ok (.getfield 17, 3) := dk_180 0 17 (dk_at dksJ4_offer_1 6 rfl rfl)
theorem dJ4_offer_32 : decode cJ4_offer 32 = .ok (.arraylength, 1) := dk_190 (dk_at dksJ4_offer_1 9 rfl rfl)
theorem dJ4_offer_33 : decode cJ4_offer 33 = .ok (.if_icmp .lt 10, 3) := dk_161 0 10 (dk_at dksJ4_offer_1 10 rfl rfl)
theorem dJ4_offer_36 : decode cJ4_offer 36 = .ok (.aload_n 0, 1) := dk_42 (dk_at dksJ4_offer_1 13 rfl rfl)
theorem dJ4_offer_37 : decode cJ4_offer 37 = .ok (.iload_n 2, 1) := dk_28 (dk_at dksJ4_offer_1 14 rfl rfl)
theorem dJ4_offer_38 : decode cJ4_offer 38 = .ok (.iconst 1, 1) := dk_4 (dk_at dksJ4_offer_1 15 rfl rfl)
theorem dJ4_offer_39 : decode cJ4_offer 39 = .ok (.iadd, 1) := dk_96 (dk_at dksJ4_offer_1 16 rfl rfl)
theorem dJ4_offer_40 : decode cJ4_offer 40 = .ok (.invokevirtual 96, 3) := dk_182 0 96 (dk_at dksJ4_offer_1 17 rfl rfl)
theorem dJ4_offer_43 : decode cJ4_offer 43 = .ok (.aload_n 0, 1) := dk_42 (dk_at dksJ4_offer_1 20 rfl rfl)
theorem dJ4_offer_44 : decode cJ4_offer 44 = .ok (.iload_n 2, 1) := dk_28 (dk_at dksJ4_offer_1 21 rfl rfl)
theorem dJ4_offer_45 : decode cJ4_offer 45 = .ok (.aload_n 1, 1) := dk_43 (dk_at dksJ4_offer_1 22 rfl rfl)
theorem dJ4_offer_46 : decode cJ4_offer 46 = .ok (.invokevirtual 100, 3) := dk_182 0 100 (dk_at dksJ4_offer_2 0 rfl rfl)
theorem dJ4_offer_49 : decode cJ4_offer 49 = .ok (.aload_n 0, 1) := dk_42 (dk_at dksJ4_offer_2 3 rfl rfl)
theorem dJ4_offer_50 : decode cJ4_offer 50 = .ok (.iload_n 2, 1) := dk_28 (dk_at dksJ4_offer_2 4 rfl rfl)
theorem dJ4_offer_51 : decode cJ4_offer 51 = .ok (.iconst 1, 1) := dk_4 (dk_at dksJ4_offer_2 5 rfl rfl)
theorem dJ4_offer_52 : decode cJ4_offer 52 = .ok (.iadd, 1) := dk_96 (dk_at dksJ4_offer_2 6 rfl rfl)
theorem dJ4_offer_53 : decode cJ4_offer 53 = .ok (.putfield 58, 3) := dk_181 0 58 (dk_at dksJ4_offer_2 7 rfl rfl)
theorem dJ4_offer_56 : decode cJ4_offer 56 = .ok (.iconst 1, 1) := dk_4 (dk_at dksJ4_offer_2 10 rfl rfl)
theorem dJ4_offer_57 : decode cJ4_offer 57 = .ok (.ireturn, 1) := dk_172 (dk_at dksJ4_offer_2 11 rfl rfl)
def dkwJ4_grow_1 : List UInt8 := [122, 184, 0, 80, 62, 42, 42, 180, 0, 17, 29, 184, 0, 86, 181, 0, 17, 177]
abbrev dktJ4_grow_1 : List UInt8 := dkwJ4_grow_1 ++ []
def dkwJ4_grow_0 : List UInt8 := [42, 180, 0, 17, 190, 61, 28, 27, 28, 100, 28, 16, 64, 162, 0, 9, 28, 5, 96, 167, 0, 6, 28, 4]
abbrev dktJ4_grow_0 : List UInt8 := dkwJ4_grow_0 ++ dktJ4_grow_1
theorem dksJ4_grow_0 : cJ4_grow.data.toList.drop 0 = dktJ4_grow_0 := by decide +kernel
theorem dksJ4_grow_1 : cJ4_grow.data.toList.drop 24 = dktJ4_grow_1 := dk_seg dksJ4_grow_0 24 rfl rfl
theorem dJ4_grow_0 : decode cJ4_grow 0 = .ok (.aload_n 0, 1) := dk_42 (dk_at dksJ4_grow_0 0 rfl rfl)
theorem dJ4_grow_1 : decode cJ4_grow 1 = .ok (.getfield 17, 3) := dk_180 0 17 (dk_at dksJ4_grow_0 1 rfl rfl)
theorem dJ4_grow_4 : decode cJ4_grow 4 = .ok (.arraylength, 1) := dk_190 (dk_at dksJ4_grow_0 4 rfl rfl)
theorem dJ4_grow_5 : decode cJ4_grow 5 = .ok (.istore_n 2, 1) := dk_61 (dk_at dksJ4_grow_0 5 rfl rfl)
theorem dJ4_grow_6 : decode cJ4_grow 6 = .ok (.iload_n 2, 1) := dk_28 (dk_at dksJ4_grow_0 6 rfl rfl)
theorem dJ4_grow_7 : decode cJ4_grow 7 = .ok (.iload_n 1, 1) := dk_27 (dk_at dksJ4_grow_0 7 rfl rfl)
theorem dJ4_grow_8 : decode cJ4_grow 8 = .ok (.iload_n 2, 1) := dk_28 (dk_at dksJ4_grow_0 8 rfl rfl)
theorem dJ4_grow_9 : decode cJ4_grow 9 = .ok (.isub, 1) := dk_100 (dk_at dksJ4_grow_0 9 rfl rfl)
theorem dJ4_grow_10 : decode cJ4_grow 10 = .ok (.iload_n 2, 1) := dk_28 (dk_at dksJ4_grow_0 10 rfl rfl)
theorem dJ4_grow_11 : decode cJ4_grow 11 = .ok (.bipush 64, 2) := dk_16 64 (dk_at dksJ4_grow_0 11 rfl rfl)
theorem dJ4_grow_13 : decode cJ4_grow 13 = .ok (.if_icmp .ge 9, 3) := dk_162 0 9 (dk_at dksJ4_grow_0 13 rfl rfl)
theorem dJ4_grow_16 : decode cJ4_grow 16 = .ok (.iload_n 2, 1) := dk_28 (dk_at dksJ4_grow_0 16 rfl rfl)
theorem dJ4_grow_17 : decode cJ4_grow 17 = .ok (.iconst 2, 1) := dk_5 (dk_at dksJ4_grow_0 17 rfl rfl)
theorem dJ4_grow_18 : decode cJ4_grow 18 = .ok (.iadd, 1) := dk_96 (dk_at dksJ4_grow_0 18 rfl rfl)
theorem dJ4_grow_19 : decode cJ4_grow 19 = .ok (.goto 6, 3) := dk_167 0 6 (dk_at dksJ4_grow_0 19 rfl rfl)
theorem dJ4_grow_22 : decode cJ4_grow 22 = .ok (.iload_n 2, 1) := dk_28 (dk_at dksJ4_grow_0 22 rfl rfl)
theorem dJ4_grow_23 : decode cJ4_grow 23 = .ok (.iconst 1, 1) := dk_4 (dk_at dksJ4_grow_0 23 rfl rfl)
theorem dJ4_grow_24 : decode cJ4_grow 24 = .ok (.ishr, 1) := dk_122 (dk_at dksJ4_grow_1 0 rfl rfl)
theorem dJ4_grow_25 : decode cJ4_grow 25 = .ok (.invokestatic 80, 3) := dk_184 0 80 (dk_at dksJ4_grow_1 1 rfl rfl)
theorem dJ4_grow_28 : decode cJ4_grow 28 = .ok (.istore_n 3, 1) := dk_62 (dk_at dksJ4_grow_1 4 rfl rfl)
theorem dJ4_grow_29 : decode cJ4_grow 29 = .ok (.aload_n 0, 1) := dk_42 (dk_at dksJ4_grow_1 5 rfl rfl)
theorem dJ4_grow_30 : decode cJ4_grow 30 = .ok (.aload_n 0, 1) := dk_42 (dk_at dksJ4_grow_1 6 rfl rfl)
theorem dJ4_grow_31 : decode cJ4_grow 31 = .ok (.getfield 17, 3) := dk_180 0 17 (dk_at dksJ4_grow_1 7 rfl rfl)
theorem dJ4_grow_34 : decode cJ4_grow 34 = .ok (.iload_n 3, 1) := dk_29 (dk_at dksJ4_grow_1 10 rfl rfl)
theorem dJ4_grow_35 : decode cJ4_grow 35 = .ok (.invokestatic 86, 3) := dk_184 0 86 (dk_at dksJ4_grow_1 11 rfl rfl)
theorem dJ4_grow_38 : decode cJ4_grow 38 = .ok (.putfield 17, 3) := dk_181 0 17 (dk_at dksJ4_grow_1 14 rfl rfl)
theorem dJ4_grow_41 : decode cJ4_grow 41 = .ok (.return_, 1) := dk_177 (dk_at dksJ4_grow_1 17 rfl rfl)
def dkwJ4_siftUp_1 : List UInt8 := [44, 42, 180, 0, 17, 184, 0, 140, 177]
abbrev dktJ4_siftUp_1 : List UInt8 := dkwJ4_siftUp_1 ++ []
def dkwJ4_siftUp_0 : List UInt8 := [42, 180, 0, 21, 198, 0, 19, 27, 44, 42, 180, 0, 17, 42, 180, 0, 21, 184, 0, 136, 167, 0, 12, 27]
abbrev dktJ4_siftUp_0 : List UInt8 := dkwJ4_siftUp_0 ++ dktJ4_siftUp_1
theorem dksJ4_siftUp_0 : cJ4_siftUp.data.toList.drop 0 = dktJ4_siftUp_0 := by decide +kernel
theorem dksJ4_siftUp_1 : cJ4_siftUp.data.toList.drop 24 = dktJ4_siftUp_1 := dk_seg dksJ4_siftUp_0 24 rfl rfl
theorem dJ4_siftUp_0 : decode cJ4_siftUp 0 = .ok (.aload_n 0, 1) := dk_42 (dk_at dksJ4_siftUp_0 0 rfl rfl)
theorem dJ4_siftUp_1 : decode cJ4_siftUp 1 = .ok (.getfield 21, 3) := dk_180 0 21 (dk_at dksJ4_siftUp_0 1 rfl rfl)
theorem dJ4_siftUp_4 : decode cJ4_siftUp 4 = .ok (.ifnull 19, 3) := dk_198 0 19 (dk_at dksJ4_siftUp_0 4 rfl rfl)
theorem dJ4_siftUp_7 : decode cJ4_siftUp 7 = .ok (.iload_n 1, 1) := dk_27 (dk_at dksJ4_siftUp_0 7 rfl rfl)
theorem dJ4_siftUp_8 : decode cJ4_siftUp 8 = .ok (.aload_n 2, 1) := dk_44 (dk_at dksJ4_siftUp_0 8 rfl rfl)
theorem dJ4_siftUp_9 : decode cJ4_siftUp 9 = .ok (.aload_n 0, 1) := dk_42 (dk_at dksJ4_siftUp_0 9 rfl rfl)
theorem dJ4_siftUp_10 : decode cJ4_siftUp 10 = .ok (.getfield 17, 3) := dk_180 0 17 (dk_at dksJ4_siftUp_0 10 rfl rfl)
theorem dJ4_siftUp_13 : decode cJ4_siftUp 13 = .ok (.aload_n 0, 1) := dk_42 (dk_at dksJ4_siftUp_0 13 rfl rfl)
theorem dJ4_siftUp_14 : decode cJ4_siftUp 14 = .ok (.getfield 21, 3) := dk_180 0 21 (dk_at dksJ4_siftUp_0 14 rfl rfl)
theorem dJ4_siftUp_17 : decode cJ4_siftUp 17 = .ok (.invokestatic 136, 3) := dk_184 0 136 (dk_at dksJ4_siftUp_0 17 rfl rfl)
theorem dJ4_siftUp_20 : decode cJ4_siftUp 20 = .ok (.goto 12, 3) := dk_167 0 12 (dk_at dksJ4_siftUp_0 20 rfl rfl)
theorem dJ4_siftUp_32 : decode cJ4_siftUp 32 = .ok (.return_, 1) := dk_177 (dk_at dksJ4_siftUp_1 8 rfl rfl)
def dkwJ4_siftUpUsingComparator_2 : List UInt8 := [43, 83, 177]
abbrev dktJ4_siftUpUsingComparator_2 : List UInt8 := dkwJ4_siftUpUsingComparator_2 ++ []
def dkwJ4_siftUpUsingComparator_1 : List UInt8 := [185, 0, 149, 3, 0, 155, 0, 6, 167, 0, 14, 44, 26, 25, 5, 83, 21, 4, 59, 167, 255, 216, 44, 26]
abbrev dktJ4_siftUpUsingComparator_1 : List UInt8 := dkwJ4_siftUpUsingComparator_1 ++ dktJ4_siftUpUsingComparator_2
def dkwJ4_siftUpUsingComparator_0 : List UInt8 := [26, 158, 0, 42, 26, 4, 100, 4, 124, 54, 4, 44, 21, 4, 50, 58, 5, 45, 43, 25, 5]
abbrev dktJ4_siftUpUsingComparator_0 : List UInt8 := dkwJ4_siftUpUsingComparator_0 ++ dktJ4_siftUpUsingComparator_1
theorem dksJ4_siftUpUsingComparator_0 : cJ4_siftUpUsingComparator.data.toList.drop 0 = dktJ4_siftUpUsingComparator_0 := by decide +kernel
theorem dksJ4_siftUpUsingComparator_1 : cJ4_siftUpUsingComparator.data.toList.drop 21 = dktJ4_siftUpUsingComparator_1 := dk_seg dksJ4_siftUpUsingComparator_0 21 rfl rfl
theorem dksJ4_siftUpUsingComparator_2 : cJ4_siftUpUsingComparator.data.toList.drop 45 = dktJ4_siftUpUsingComparator_2 := dk_seg dksJ4_siftUpUsingComparator_1 24 rfl rfl
theorem dJ4_siftUpUsingComparator_0 : decode cJ4_siftUpUsingComparator 0 = .ok (.iload_n 0, 1) := dk_26 (dk_at dksJ4_siftUpUsingComparator_0 0 rfl rfl)
theorem dJ4_siftUpUsingComparator_1 : decode cJ4_siftUpUsingComparator 1 = .ok (.ifCond .le 42, 3) := dk_158 0 42 (dk_at dksJ4_siftUpUsingComparator_0 1 rfl rfl)
theorem dJ4_siftUpUsingComparator_4 : decode cJ4_siftUpUsingComparator 4 = .ok (.iload_n 0, 1) := dk_26 (dk_at dksJ4_siftUpUsingComparator_0 4 rfl rfl)
theorem dJ4_siftUpUsingComparator_5 : decode cJ4_siftUpUsingComparator 5 = .ok (.iconst 1, 1) := dk_4 (dk_at dksJ4_siftUpUsingComparator_0 5 rfl rfl)
theorem dJ4_siftUpUsingComparator_6 : decode cJ4_siftUpUsingComparator 6 = .ok (.isub, 1) := dk_100 (dk_at dksJ4_siftUpUsingComparator_0 6 rfl rfl)
theorem dJ4_siftUpUsingComparator_7 : decode cJ4_siftUpUsingComparator 7 = .ok (.iconst 1, 1) := dk_4 (dk_at dksJ4_siftUpUsingComparator_0 7 rfl rfl)
theorem dJ4_siftUpUsingComparator_8 : decode cJ4_siftUpUsingComparator 8 = .ok (.iushr, 1) := dk_124 (dk_at dksJ4_siftUpUsingComparator_0 8 rfl rfl)
theorem dJ4_siftUpUsingComparator_9 : decode cJ4_siftUpUsingComparator 9 = .ok (.istore 4, 2) := dk_54 4 (dk_at dksJ4_siftUpUsingComparator_0 9 rfl rfl)
theorem dJ4_siftUpUsingComparator_11 : decode cJ4_siftUpUsingComparator 11 = .ok (.aload_n 2, 1) := dk_44 (dk_at dksJ4_siftUpUsingComparator_0 11 rfl rfl)
theorem dJ4_siftUpUsingComparator_12 : decode cJ4_siftUpUsingComparator 12 = .ok (.iload 4, 2) := dk_21 4 (dk_at dksJ4_siftUpUsingComparator_0 12 rfl rfl)
theorem dJ4_siftUpUsingComparator_14 : decode cJ4_siftUpUsingComparator 14 = .ok (.aaload, 1) := dk_50 (dk_at dksJ4_siftUpUsingComparator_0 14 rfl rfl)
theorem dJ4_siftUpUsingComparator_15 : decode cJ4_siftUpUsingComparator 15 = .ok (.astore 5, 2) := dk_58 5 (dk_at dksJ4_siftUpUsingComparator_0 15 rfl rfl)
theorem dJ4_siftUpUsingComparator_17 : decode cJ4_siftUpUsingComparator 17 = .ok (.aload_n 3, 1) := dk_45 (dk_at dksJ4_siftUpUsingComparator_0 17 rfl rfl)
theorem dJ4_siftUpUsingComparator_18 : decode cJ4_siftUpUsingComparator 18 = .ok (.aload_n 1, 1) := dk_43 (dk_at dksJ4_siftUpUsingComparator_0 18 rfl rfl)
theorem dJ4_siftUpUsingComparator_19 : decode cJ4_siftUpUsingComparator 19 = .ok (.aload 5, 2) := dk_25 5 (dk_at dksJ4_siftUpUsingComparator_0 19 rfl rfl)
theorem dJ4_siftUpUsingComparator_21 : decode cJ4_siftUpUsingComparator 21 = .ok (.invokeinterface 149 3, 5) := by decide +kernel
theorem dJ4_siftUpUsingComparator_26 : decode cJ4_siftUpUsingComparator 26 = .ok (.ifCond .lt 6, 3) := dk_155 0 6 (dk_at dksJ4_siftUpUsingComparator_1 5 rfl rfl)
theorem dJ4_siftUpUsingComparator_29 : decode cJ4_siftUpUsingComparator 29 = .ok (.goto 14, 3) := dk_167 0 14 (dk_at dksJ4_siftUpUsingComparator_1 8 rfl rfl)
theorem dJ4_siftUpUsingComparator_32 : decode cJ4_siftUpUsingComparator 32 = .ok (.aload_n 2, 1) := dk_44 (dk_at dksJ4_siftUpUsingComparator_1 11 rfl rfl)
theorem dJ4_siftUpUsingComparator_33 : decode cJ4_siftUpUsingComparator 33 = .ok (.iload_n 0, 1) := dk_26 (dk_at dksJ4_siftUpUsingComparator_1 12 rfl rfl)
theorem dJ4_siftUpUsingComparator_34 : decode cJ4_siftUpUsingComparator 34 = .ok (.aload 5, 2) := dk_25 5 (dk_at dksJ4_siftUpUsingComparator_1 13 rfl rfl)
theorem dJ4_siftUpUsingComparator_36 : decode cJ4_siftUpUsingComparator 36 = .ok (.aastore, 1) := dk_83 (dk_at dksJ4_siftUpUsingComparator_1 15 rfl rfl)
theorem dJ4_siftUpUsingComparator_37 : decode cJ4_siftUpUsingComparator 37 = .ok (.iload 4, 2) := dk_21 4 (dk_at dksJ4_siftUpUsingComparator_1 16 rfl rfl)
theorem dJ4_siftUpUsingComparator_39 : decode cJ4_siftUpUsingComparator 39 = .ok (.istore_n 0, 1) := dk_59 (dk_at dksJ4_siftUpUsingComparator_1 18 rfl rfl)
theorem dJ4_siftUpUsingComparator_40 : decode cJ4_siftUpUsingComparator 40 = .ok (.goto (-40), 3) := dk_167 255 216 (dk_at dksJ4_siftUpUsingComparator_1 19 rfl rfl)
theorem dJ4_siftUpUsingComparator_43 : decode cJ4_siftUpUsingComparator 43 = .ok (.aload_n 2, 1) := dk_44 (dk_at dksJ4_siftUpUsingComparator_1 22 rfl rfl)
theorem dJ4_siftUpUsingComparator_44 : decode cJ4_siftUpUsingComparator 44 = .ok (.iload_n 0, 1) := dk_26 (dk_at dksJ4_siftUpUsingComparator_1 23 rfl rfl)
theorem dJ4_siftUpUsingComparator_45 : decode cJ4_siftUpUsingComparator 45 = .ok (.aload_n 1, 1) := dk_43 (dk_at dksJ4_siftUpUsingComparator_2 0 rfl rfl)
theorem dJ4_siftUpUsingComparator_46 : decode cJ4_siftUpUsingComparator 46 = .ok (.aastore, 1) := dk_83 (dk_at dksJ4_siftUpUsingComparator_2 1 rfl rfl)
theorem dJ4_siftUpUsingComparator_47 : decode cJ4_siftUpUsingComparator 47 = .ok (.return_, 1) := dk_177 (dk_at dksJ4_siftUpUsingComparator_2 2 rfl rfl)
theorem dJ4_size_0 : decode cJ4_size 0 = .ok (.aload_n 0, 1) := by decide +kernel
theorem dJ4_size_1 : decode cJ4_size 1 = .ok (.getfield 58, 3) := by decide +kernel
theorem dJ4_size_4 : decode cJ4_size 4 = .ok (.ireturn, 1) := by decide +kernel
def dkwJ4_poll_3 : List UInt8 := [43, 29, 25, 5, 184, 0, 129, 44, 176]
abbrev dktJ4_poll_3 : List UInt8 := dkwJ4_poll_3 ++ []
def dkwJ4_poll_2 : List UInt8 := [42, 180, 0, 21, 89, 58, 5, 199, 0, 14, 3, 25, 4, 43, 29, 184, 0, 125, 167, 0, 13, 3, 25, 4]
abbrev dktJ4_poll_2 : List UInt8 := dkwJ4_poll_2 ++ dktJ4_poll_3
def dkwJ4_poll_1 : List UInt8 := [42, 89, 180, 0, 58, 4, 100, 90, 181, 0, 58, 89, 62, 50, 58, 4, 43, 29, 1, 83, 29, 158, 0, 34]
abbrev dktJ4_poll_1 : List UInt8 := dkwJ4_poll_1 ++ dktJ4_poll_2
def dkwJ4_poll_0 : List UInt8 := [42, 180, 0, 17, 89, 76, 3, 50, 89, 77, 198, 0, 69, 42, 89, 180, 0, 93, 4, 96, 181, 0, 93, 43]
abbrev dktJ4_poll_0 : List UInt8 := dkwJ4_poll_0 ++ dktJ4_poll_1
theorem dksJ4_poll_0 : cJ4_poll.data.toList.drop 0 = dktJ4_poll_0 := by decide +kernel
theorem dksJ4_poll_1 : cJ4_poll.data.toList.drop 24 = dktJ4_poll_1 := dk_seg dksJ4_poll_0 24 rfl rfl
theorem dksJ4_poll_2 : cJ4_poll.data.toList.drop 48 = dktJ4_poll_2 := dk_seg dksJ4_poll_1 24 rfl rfl
theorem dksJ4_poll_3 : cJ4_poll.data.toList.drop 72 = dktJ4_poll_3 := dk_seg dksJ4_poll_2 24 rfl rfl
theorem dJ4_poll_0 : decode cJ4_poll 0 = .ok (.aload_n 0, 1) := dk_42 (dk_at dksJ4_poll_0 0 rfl rfl)
theorem dJ4_poll_1 : decode cJ4_poll 1 = .ok (.getfield 17, 3) := dk_180 0 17 (dk_at dksJ4_poll_0 1 rfl rfl)
theorem dJ4_poll_4 : decode cJ4_poll 4 = .ok (.dup, 1) := dk_89 (dk_at dksJ4_poll_0 4 rfl rfl)
theorem dJ4_poll_5 : decode cJ4_poll 5 = .ok (.astore_n 1, 1) := dk_76 (dk_at dksJ4_poll_0 5 rfl rfl)
theorem dJ4_poll_6 : decode cJ4_poll 6 = .ok (.iconst 0, 1) := dk_3 (dk_at dksJ4_poll_0 6 rfl rfl)
theorem dJ4_poll_7 : decode cJ4_poll 7 = .ok (.aaload, 1) := dk_50 (dk_at dksJ4_poll_0 7 rfl rfl)
theorem dJ4_poll_8 : decode cJ4_poll 8 = .ok (.dup, 1) := dk_89 (dk_at dksJ4_poll_0 8 rfl rfl)
theorem dJ4_poll_9 : decode cJ4_poll 9 = .ok (.astore_n 2, 1) := dk_77 (dk_at dksJ4_poll_0 9 rfl rfl)
theorem dJ4_poll_10 : decode cJ4_poll 10 = .ok (.ifnull 69, 3) := dk_198 0 69 (dk_at dksJ4_poll_0 10 rfl rfl)
theorem dJ4_poll_13 : decode cJ4_poll 13 = .ok (.aload_n 0, 1) := dk_42 (dk_at dksJ4_poll_0 13 rfl rfl)
theorem dJ4_poll_14 : decode cJ4_poll 14 = .ok (.dup, 1) := dk_89 (dk_at dksJ4_poll_0 14 rfl rfl)
theorem dJ4_poll_15 : decode cJ4_poll 15 = .ok (.getfield 93, 3) := dk_180 0 93 (dk_at dksJ4_poll_0 15 rfl rfl)
theorem dJ4_poll_18 : decode cJ4_poll 18 = .ok (.iconst 1, 1) := dk_4 (dk_at dksJ4_poll_0 18 rfl rfl)
theorem dJ4_poll_19 : decode cJ4_poll 19 = .ok (.iadd, 1) := dk_96 (dk_at dksJ4_poll_0 19 rfl rfl)
theorem dJ4_poll_20 : decode cJ4_poll 20 = .ok (.putfield 93, 3) := dk_181 0 93 (dk_at dksJ4_poll_0 20 rfl rfl)
theorem dJ4_poll_23 : decode cJ4_poll 23 = .ok (.aload_n 1, 1) := dk_43 (dk_at dksJ4_poll_0 23 rfl rfl)
theorem dJ4_poll_24 : decode cJ4_poll 24 = .ok (.aload_n 0, 1) := dk_42 (dk_at dksJ4_poll_1 0 rfl rfl)
theorem dJ4_poll_25 : decode cJ4_poll 25 = .ok (.dup, 1) := dk_89 (dk_at dksJ4_poll_1 1 rfl rfl)
theorem dJ4_poll_26 : decode cJ4_poll 26 = .ok (.getfield 58, 3) := dk_180 0 58 (dk_at dksJ4_poll_1 2 rfl rfl)
theorem dJ4_poll_29 : decode cJ4_poll 29 = .ok (.iconst 1, 1) := dk_4 (dk_at dksJ4_poll_1 5 rfl rfl)
theorem dJ4_poll_30 : decode cJ4_poll 30 = .ok (.isub, 1) := dk_100 (dk_at dksJ4_poll_1 6 rfl rfl)
theorem dJ4_poll_31 : decode cJ4_poll 31 = .ok (.dup_x1, 1) := dk_90 (dk_at dksJ4_poll_1 7 rfl rfl)
theorem dJ4_poll_32 : decode cJ4_poll 32 = .ok (.putfield 58, 3) := dk_181 0 58 (dk_at dksJ4_poll_1 8 rfl rfl)
theorem dJ4_poll_35 : decode cJ4_poll 35 = .ok (.dup, 1) := dk_89 (dk_at dksJ4_poll_1 11 rfl rfl)
theorem dJ4_poll_36 : decode cJ4_poll 36 = .ok (.istore_n 3, 1) := dk_62 (dk_at dksJ4_poll_1 12 rfl rfl)
theorem dJ4_poll_37 : decode cJ4_poll 37 = .ok (.aaload, 1) := dk_50 (dk_at dksJ4_poll_1 13 rfl rfl)
theorem dJ4_poll_38 : decode cJ4_poll 38 = .ok (.astore 4, 2) := dk_58 4 (dk_at dksJ4_poll_1 14 rfl rfl)
theorem dJ4_poll_40 : decode cJ4_poll 40 = .ok (.aload_n 1, 1) := dk_43 (dk_at dksJ4_poll_1 16 rfl rfl)
theorem dJ4_poll_41 : decode cJ4_poll 41 = .ok (.iload_n 3, 1) := dk_29 (dk_at dksJ4_poll_1 17 rfl rfl)
theorem dJ4_poll_42 : decode cJ4_poll 42 = .ok (.aconst_null, 1) := dk_1 (dk_at dksJ4_poll_1 18 rfl rfl)
theorem dJ4_poll_43 : decode cJ4_poll 43 = .ok (.aastore, 1) := dk_83 (dk_at dksJ4_poll_1 19 rfl rfl)
theorem dJ4_poll_44 : decode cJ4_poll 44 = .ok (.iload_n 3, 1) := dk_29 (dk_at dksJ4_poll_1 20 rfl rfl)
theorem dJ4_poll_45 : decode cJ4_poll 45 = .ok (.ifCond .le 34, 3) := dk_158 0 34 (dk_at dksJ4_poll_1 21 rfl rfl)
theorem dJ4_poll_48 : decode cJ4_poll 48 = .ok (.aload_n 0, 1) := dk_42 (dk_at dksJ4_poll_2 0 rfl rfl)
theorem dJ4_poll_49 : decode cJ4_poll 49 = .ok (.getfield 21, 3) := dk_180 0 21 (dk_at dksJ4_poll_2 1 rfl rfl)
theorem dJ4_poll_52 : decode cJ4_poll 52 = .ok (.dup, 1) := dk_89 (dk_at dksJ4_poll_2 4 rfl rfl)
theorem dJ4_poll_53 : decode cJ4_poll 53 = .ok (.astore 5, 2) := dk_58 5 (dk_at dksJ4_poll_2 5 rfl rfl)
theorem dJ4_poll_55 : decode cJ4_poll 55 = .ok (.ifnonnull 14, 3) := dk_199 0 14 (dk_at dksJ4_poll_2 7 rfl rfl)
theorem dJ4_poll_69 : decode cJ4_poll 69 = .ok (.iconst 0, 1) := dk_3 (dk_at dksJ4_poll_2 21 rfl rfl)
theorem dJ4_poll_70 : decode cJ4_poll 70 = .ok (.aload 4, 2) := dk_25 4 (dk_at dksJ4_poll_2 22 rfl rfl)
theorem dJ4_poll_72 : decode cJ4_poll 72 = .ok (.aload_n 1, 1) := dk_43 (dk_at dksJ4_poll_3 0 rfl rfl)
theorem dJ4_poll_73 : decode cJ4_poll 73 = .ok (.iload_n 3, 1) := dk_29 (dk_at dksJ4_poll_3 1 rfl rfl)
theorem dJ4_poll_74 : decode cJ4_poll 74 = .ok (.aload 5, 2) := dk_25 5 (dk_at dksJ4_poll_3 2 rfl rfl)
theorem dJ4_poll_76 : decode cJ4_poll 76 = .ok (.invokestatic 129, 3) := dk_184 0 129 (dk_at dksJ4_poll_3 4 rfl rfl)
theorem dJ4_poll_79 : decode cJ4_poll 79 = .ok (.aload_n 2, 1) := dk_44 (dk_at dksJ4_poll_3 7 rfl rfl)
theorem dJ4_poll_80 : decode cJ4_poll 80 = .ok (.areturn, 1) := dk_176 (dk_at dksJ4_poll_3 8 rfl rfl)
def dkwJ4_siftDownUsingComparator_4 : List UInt8 := [43, 83, 177]
abbrev dktJ4_siftDownUsingComparator_4 : List UInt8 := dkwJ4_siftDownUsingComparator_4 ++ []
def dkwJ4_siftDownUsingComparator_3 : List UInt8 := [185, 0, 149, 3, 0, 157, 0, 6, 167, 0, 14, 44, 26, 25, 7, 83, 21, 6, 59, 167, 255, 176, 44, 26]
abbrev dktJ4_siftDownUsingComparator_3 : List UInt8 := dkwJ4_siftDownUsingComparator_3 ++ dktJ4_siftDownUsingComparator_4
def dkwJ4_siftDownUsingComparator_2 : List UInt8 := [185, 0, 149, 3, 0, 158, 0, 12, 44, 21, 8, 89, 54, 6, 50, 58, 7, 25, 4, 43, 25, 7]
abbrev dktJ4_siftDownUsingComparator_2 : List UInt8 := dkwJ4_siftDownUsingComparator_2 ++ dktJ4_siftDownUsingComparator_3
def dkwJ4_siftDownUsingComparator_1 : List UInt8 := [21, 6, 4, 96, 54, 8, 21, 8, 29, 162, 0, 28, 25, 4, 25, 7, 44, 21, 8, 50]
abbrev dktJ4_siftDownUsingComparator_1 : List UInt8 := dkwJ4_siftDownUsingComparator_1 ++ dktJ4_siftDownUsingComparator_2
def dkwJ4_siftDownUsingComparator_0 : List UInt8 := [29, 4, 124, 54, 5, 26, 21, 5, 162, 0, 80, 26, 4, 120, 4, 96, 54, 6, 44, 21, 6, 50, 58, 7]
abbrev dktJ4_siftDownUsingComparator_0 : List UInt8 := dkwJ4_siftDownUsingComparator_0 ++ dktJ4_siftDownUsingComparator_1
theorem dksJ4_siftDownUsingComparator_0 : cJ4_siftDownUsingComparator.data.toList.drop 0 = dktJ4_siftDownUsingComparator_0 := by decide +kernel
theorem dksJ4_siftDownUsingComparator_1 : cJ4_siftDownUsingComparator.data.toList.drop 24 = dktJ4_siftDownUsingComparator_1 := dk_seg dksJ4_siftDownUsingComparator_0 24 rfl rfl
theorem dksJ4_siftDownUsingComparator_2 : cJ4_siftDownUsingComparator.data.toList.drop 44 = dktJ4_siftDownUsingComparator_2 := dk_seg dksJ4_siftDownUsingComparator_1 20 rfl rfl
theorem dksJ4_siftDownUsingComparator_3 : cJ4_siftDownUsingComparator.data.toList.drop 66 = dktJ4_siftDownUsingComparator_3 := dk_seg dksJ4_siftDownUsingComparator_2 22 rfl rfl
theorem dksJ4_siftDownUsingComparator_4 : cJ4_siftDownUsingComparator.data.toList.drop 90 = dktJ4_siftDownUsingComparator_4 := dk_seg dksJ4_siftDownUsingComparator_3 24 rfl rfl
theorem dJ4_siftDownUsingComparator_0 : decode cJ4_siftDownUsingComparator 0 = .ok (.iload_n 3, 1) := dk_29 (dk_at dksJ4_siftDownUsingComparator_0 0 rfl rfl)
theorem dJ4_siftDownUsingComparator_1 : decode cJ4_siftDownUsingComparator 1 = .ok (.iconst 1, 1) := dk_4 (dk_at dksJ4_siftDownUsingComparator_0 1 rfl rfl)
theorem dJ4_siftDownUsingComparator_2 : decode cJ4_siftDownUsingComparator 2 = .ok (.iushr, 1) := dk_124 (dk_at dksJ4_siftDownUsingComparator_0 2 rfl rfl)
theorem dJ4_siftDownUsingComparator_3 : decode cJ4_siftDownUsingComparator 3 = .ok (.istore 5, 2) := dk_54 5 (dk_at dksJ4_siftDownUsingComparator_0 3 rfl rfl)
theorem dJ4_siftDownUsingComparator_5 : decode cJ4_siftDownUsingComparator 5 = .ok (.iload_n 0, 1) := dk_26 (dk_at dksJ4_siftDownUsingComparator_0 5 rfl rfl)
theorem dJ4_siftDownUsingComparator_6 : decode cJ4_siftDownUsingComparator 6 = .ok (.iload 5, 2) := dk_21 5 (dk_at dksJ4_siftDownUsingComparator_0 6 rfl rfl)
theorem dJ4_siftDownUsingComparator_8 : decode cJ4_siftDownUsingComparator 8 = .ok (.if_icmp .ge 80, 3) := dk_162 0 80 (dk_at dksJ4_siftDownUsingComparator_0 8 rfl rfl)
theorem dJ4_siftDownUsingComparator_11 : decode cJ4_siftDownUsingComparator 11 = .ok (.iload_n 0, 1) := dk_26 (dk_at dksJ4_siftDownUsingComparator_0 11 rfl rfl)
theorem dJ4_siftDownUsingComparator_12 : decode cJ4_siftDownUsingComparator 12 = .ok (.iconst 1, 1) := dk_4 (dk_at dksJ4_siftDownUsingComparator_0 12 rfl rfl)
theorem dJ4_siftDownUsingComparator_13 : decode cJ4_siftDownUsingComparator 13 = .ok (.ishl, 1) := dk_120 (dk_at dksJ4_siftDownUsingComparator_0 13 rfl rfl)
theorem dJ4_siftDownUsingComparator_14 : decode cJ4_siftDownUsingComparator 14 = .ok (.iconst 1, 1) := dk_4 (dk_at dksJ4_siftDownUsingComparator_0 14 rfl rfl)
theorem dJ4_siftDownUsingComparator_15 : decode cJ4_siftDownUsingComparator 15 = .ok (.iadd, 1) := dk_96 (dk_at dksJ4_siftDownUsingComparator_0 15 rfl rfl)
theorem dJ4_siftDownUsingComparator_16 : decode cJ4_siftDownUsingComparator 16 = .ok (.istore 6, 2) := dk_54 6 (dk_at dksJ4_siftDownUsingComparator_0 16 rfl rfl)
theorem dJ4_siftDownUsingComparator_18 : decode cJ4_siftDownUsingComparator 18 = .ok (.aload_n 2, 1) := dk_44 (dk_at dksJ4_siftDownUsingComparator_0 18 rfl rfl)
theorem dJ4_siftDownUsingComparator_19 : decode cJ4_siftDownUsingComparator 19 = .ok (.iload 6, 2) := dk_21 6 (dk_at dksJ4_siftDownUsingComparator_0 19 rfl rfl)
theorem dJ4_siftDownUsingComparator_21 : decode cJ4_siftDownUsingComparator 21 = .ok (.aaload, 1) := dk_50 (dk_at dksJ4_siftDownUsingComparator_0 21 rfl rfl)
theorem dJ4_siftDownUsingComparator_22 : decode cJ4_siftDownUsingComparator 22 = .ok (.astore 7, 2) := dk_58 7 (dk_at dksJ4_siftDownUsingComparator_0 22 rfl rfl)
theorem dJ4_siftDownUsingComparator_24 : decode cJ4_siftDownUsingComparator 24 = .ok (.iload 6, 2) := dk_21 6 (dk_at dksJ4_siftDownUsingComparator_1 0 rfl rfl)
theorem dJ4_siftDownUsingComparator_26 : decode cJ4_siftDownUsingComparator 26 = .ok (.iconst 1, 1) := dk_4 (dk_at dksJ4_siftDownUsingComparator_1 2 rfl rfl)
theorem dJ4_siftDownUsingComparator_27 : decode cJ4_siftDownUsingComparator 27 = .ok (.iadd, 1) := dk_96 (dk_at dksJ4_siftDownUsingComparator_1 3 rfl rfl)
theorem dJ4_siftDownUsingComparator_28 : decode cJ4_siftDownUsingComparator 28 = .ok (.istore 8, 2) := dk_54 8 (dk_at dksJ4_siftDownUsingComparator_1 4 rfl rfl)
theorem dJ4_siftDownUsingComparator_30 : decode cJ4_siftDownUsingComparator 30 = .ok (.iload 8, 2) := dk_21 8 (dk_at dksJ4_siftDownUsingComparator_1 6 rfl rfl)
theorem dJ4_siftDownUsingComparator_32 : decode cJ4_siftDownUsingComparator 32 = .ok (.iload_n 3, 1) := dk_29 (dk_at dksJ4_siftDownUsingComparator_1 8 rfl rfl)
theorem dJ4_siftDownUsingComparator_33 : decode cJ4_siftDownUsingComparator 33 = .ok (.if_icmp .ge 28, 3) := dk_162 0 28 (dk_at dksJ4_siftDownUsingComparator_1 9 rfl rfl)
theorem dJ4_siftDownUsingComparator_36 : decode cJ4_siftDownUsingComparator 36 = .ok (.aload 4, 2) := dk_25 4 (dk_at dksJ4_siftDownUsingComparator_1 12 rfl rfl)
theorem dJ4_siftDownUsingComparator_38 : decode cJ4_siftDownUsingComparator 38 = .ok (.aload 7, 2) := dk_25 7 (dk_at dksJ4_siftDownUsingComparator_1 14 rfl rfl)
theorem dJ4_siftDownUsingComparator_40 : decode cJ4_siftDownUsingComparator 40 = .ok (.aload_n 2, 1) := dk_44 (dk_at dksJ4_siftDownUsingComparator_1 16 rfl rfl)
theorem dJ4_siftDownUsingComparator_41 : decode cJ4_siftDownUsingComparator 41 = .ok (.iload 8, 2) := dk_21 8 (dk_at dksJ4_siftDownUsingComparator_1 17 rfl rfl)
theorem dJ4_siftDownUsingComparator_43 : decode cJ4_siftDownUsingComparator 43 = .ok (.aaload, 1) := dk_50 (dk_at dksJ4_siftDownUsingComparator_1 19 rfl rfl)
theorem dJ4_siftDownUsingComparator_44 : decode cJ4_siftDownUsingComparator 44 = .ok (.invokeinterface 149 3, 5) := by decide +kernel
theorem dJ4_siftDownUsingComparator_49 : decode cJ4_siftDownUsingComparator 49 = .ok (.ifCond .le 12, 3) := dk_158 0 12 (dk_at dksJ4_siftDownUsingComparator_2 5 rfl rfl)
theorem dJ4_siftDownUsingComparator_52 : decode cJ4_siftDownUsingComparator 52 = .ok (.aload_n 2, 1) := dk_44 (dk_at dksJ4_siftDownUsingComparator_2 8 rfl rfl)
theorem dJ4_siftDownUsingComparator_53 : decode cJ4_siftDownUsingComparator 53 = .ok (.iload 8, 2) := dk_21 8 (dk_at dksJ4_siftDownUsingComparator_2 9 rfl rfl)
theorem dJ4_siftDownUsingComparator_55 : decode cJ4_siftDownUsingComparator 55 = .ok (.dup, 1) := dk_89 (dk_at dksJ4_siftDownUsingComparator_2 11 rfl rfl)
theorem dJ4_siftDownUsingComparator_56 : decode cJ4_siftDownUsingComparator 56 = .ok (.istore 6, 2) := dk_54 6 (dk_at dksJ4_siftDownUsingComparator_2 12 rfl rfl)
theorem dJ4_siftDownUsingComparator_58 : decode cJ4_siftDownUsingComparator 58 = .ok (.aaload, 1) := dk_50 (dk_at dksJ4_siftDownUsingComparator_2 14 rfl rfl)
theorem dJ4_siftDownUsingComparator_59 : decode cJ4_siftDownUsingComparator 59 = .ok (.astore 7, 2) := dk_58 7 (dk_at dksJ4_siftDownUsingComparator_2 15 rfl rfl)
theorem dJ4_siftDownUsingComparator_61 : decode cJ4_siftDownUsingComparator 61 = .ok (.aload 4, 2) := dk_25 4 (dk_at dksJ4_siftDownUsingComparator_2 17 rfl rfl)
theorem dJ4_siftDownUsingComparator_63 : decode cJ4_siftDownUsingComparator 63 = .ok (.aload_n 1, 1) := dk_43 (dk_at dksJ4_siftDownUsingComparator_2 19 rfl rfl)
theorem dJ4_siftDownUsingComparator_64 : decode cJ4_siftDownUsingComparator 64 = .ok (.aload 7, 2) := dk_25 7 (dk_at dksJ4_siftDownUsingComparator_2 20 rfl rfl)
theorem dJ4_siftDownUsingComparator_66 : decode cJ4_siftDownUsingComparator 66 = .ok (.invokeinterface 149 3, 5) := by decide +kernel
theorem dJ4_siftDownUsingComparator_71 : decode cJ4_siftDownUsingComparator 71 = .ok (.ifCond .gt 6, 3) := dk_157 0 6 (dk_at dksJ4_siftDownUsingComparator_3 5 rfl rfl)
theorem dJ4_siftDownUsingComparator_74 : decode cJ4_siftDownUsingComparator 74 = .ok (.goto 14, 3) := dk_167 0 14 (dk_at dksJ4_siftDownUsingComparator_3 8 rfl rfl)
theorem dJ4_siftDownUsingComparator_77 : decode cJ4_siftDownUsingComparator 77 = .ok (.aload_n 2, 1) := dk_44 (dk_at dksJ4_siftDownUsingComparator_3 11 rfl rfl)
theorem dJ4_siftDownUsingComparator_78 : decode cJ4_siftDownUsingComparator 78 = .ok (.iload_n 0, 1) := dk_26 (dk_at dksJ4_siftDownUsingComparator_3 12 rfl rfl)
theorem dJ4_siftDownUsingComparator_79 : decode cJ4_siftDownUsingComparator 79 = .ok (.aload 7, 2) := dk_25 7 (dk_at dksJ4_siftDownUsingComparator_3 13 rfl rfl)
theorem dJ4_siftDownUsingComparator_81 : decode cJ4_siftDownUsingComparator 81 = .ok (.aastore, 1) := dk_83 (dk_at dksJ4_siftDownUsingComparator_3 15 rfl rfl)
theorem dJ4_siftDownUsingComparator_82 : decode cJ4_siftDownUsingComparator 82 = .ok (.iload 6, 2) := dk_21 6 (dk_at dksJ4_siftDownUsingComparator_3 16 rfl rfl)
theorem dJ4_siftDownUsingComparator_84 : decode cJ4_siftDownUsingComparator 84 = .ok (.istore_n 0, 1) := dk_59 (dk_at dksJ4_siftDownUsingComparator_3 18 rfl rfl)
theorem dJ4_siftDownUsingComparator_85 : decode cJ4_siftDownUsingComparator 85 = .ok (.goto (-80), 3) := dk_167 255 176 (dk_at dksJ4_siftDownUsingComparator_3 19 rfl rfl)
theorem dJ4_siftDownUsingComparator_88 : decode cJ4_siftDownUsingComparator 88 = .ok (.aload_n 2, 1) := dk_44 (dk_at dksJ4_siftDownUsingComparator_3 22 rfl rfl)
theorem dJ4_siftDownUsingComparator_89 : decode cJ4_siftDownUsingComparator 89 = .ok (.iload_n 0, 1) := dk_26 (dk_at dksJ4_siftDownUsingComparator_3 23 rfl rfl)
theorem dJ4_siftDownUsingComparator_90 : decode cJ4_siftDownUsingComparator 90 = .ok (.aload_n 1, 1) := dk_43 (dk_at dksJ4_siftDownUsingComparator_4 0 rfl rfl)
theorem dJ4_siftDownUsingComparator_91 : decode cJ4_siftDownUsingComparator 91 = .ok (.aastore, 1) := dk_83 (dk_at dksJ4_siftDownUsingComparator_4 1 rfl rfl)
theorem dJ4_siftDownUsingComparator_92 : decode cJ4_siftDownUsingComparator 92 = .ok (.return_, 1) := dk_177 (dk_at dksJ4_siftDownUsingComparator_4 2 rfl rfl)
def dkwJ4_clear_1 : List UInt8 := [162, 0, 13, 43, 28, 1, 83, 132, 2, 1, 167, 255, 244, 42, 3, 181, 0, 58, 177]
abbrev dktJ4_clear_1 : List UInt8 := dkwJ4_clear_1 ++ []
def dkwJ4_clear_0 : List UInt8 := [42, 89, 180, 0, 93, 4, 96, 181, 0, 93, 42, 180, 0, 17, 76, 3, 61, 42, 180, 0, 58, 62, 28, 29]
abbrev dktJ4_clear_0 : List UInt8 := dkwJ4_clear_0 ++ dktJ4_clear_1
theorem dksJ4_clear_0 : cJ4_clear.data.toList.drop 0 = dktJ4_clear_0 := by decide +kernel
theorem dksJ4_clear_1 : cJ4_clear.data.toList.drop 24 = dktJ4_clear_1 := dk_seg dksJ4_clear_0 24 rfl rfl
theorem dJ4_clear_0 : decode cJ4_clear 0 = .ok (.aload_n 0, 1) := dk_42 (dk_at dksJ4_clear_0 0 rfl rfl)
theorem dJ4_clear_1 : decode cJ4_clear 1 = .ok (.dup, 1) := dk_89 (dk_at dksJ4_clear_0 1 rfl rfl)
theorem dJ4_clear_2 : decode cJ4_clear 2 = .ok (.getfield 93, 3) := dk_180 0 93 (dk_at dksJ4_clear_0 2 rfl rfl)
theorem dJ4_clear_5 : decode cJ4_clear 5 = .ok (.iconst 1, 1) := dk_4 (dk_at dksJ4_clear_0 5 rfl rfl)
theorem dJ4_clear_6 : decode cJ4_clear 6 = .ok (.iadd, 1) := dk_96 (dk_at dksJ4_clear_0 6 rfl rfl)
theorem dJ4_clear_7 : decode cJ4_clear 7 = .ok (.putfield 93, 3) := dk_181 0 93 (dk_at dksJ4_clear_0 7 rfl rfl)
theorem dJ4_clear_10 : decode cJ4_clear 10 = .ok (.aload_n 0, 1) := dk_42 (dk_at dksJ4_clear_0 10 rfl rfl)
theorem dJ4_clear_11 : decode cJ4_clear 11 = .ok (.getfield 17, 3) := dk_180 0 17 (dk_at dksJ4_clear_0 11 rfl rfl)
theorem dJ4_clear_14 : decode cJ4_clear 14 = .ok (.astore_n 1, 1) := dk_76 (dk_at dksJ4_clear_0 14 rfl rfl)
theorem dJ4_clear_15 : decode cJ4_clear 15 = .ok (.iconst 0, 1) := dk_3 (dk_at dksJ4_clear_0 15 rfl rfl)
theorem dJ4_clear_16 : decode cJ4_clear 16 = .ok (.istore_n 2, 1) := dk_61 (dk_at dksJ4_clear_0 16 rfl rfl)
theorem dJ4_clear_17 : decode cJ4_clear 17 = .ok (.aload_n 0, 1) := dk_42 (dk_at dksJ4_clear_0 17 rfl rfl)
theorem dJ4_clear_18 : decode cJ4_clear 18 = .ok (.getfield 58, 3) := dk_180 0 58 (dk_at dksJ4_clear_0 18 rfl rfl)
theorem dJ4_clear_21 : decode cJ4_clear 21 = .ok (.istore_n 3, 1) := dk_62 (dk_at dksJ4_clear_0 21 rfl rfl)
theorem dJ4_clear_22 : decode cJ4_clear 22 = .ok (.iload_n 2, 1) := dk_28 (dk_at dksJ4_clear_0 22 rfl rfl)
theorem dJ4_clear_23 : decode cJ4_clear 23 = .ok (.iload_n 3, 1) := dk_29 (dk_at dksJ4_clear_0 23 rfl rfl)
theorem dJ4_clear_24 : decode cJ4_clear 24 = .ok (.if_icmp .ge 13, 3) := dk_162 0 13 (dk_at dksJ4_clear_1 0 rfl rfl)
theorem dJ4_clear_27 : decode cJ4_clear 27 = .ok (.aload_n 1, 1) := dk_43 (dk_at dksJ4_clear_1 3 rfl rfl)
theorem dJ4_clear_28 : decode cJ4_clear 28 = .ok (.iload_n 2, 1) := dk_28 (dk_at dksJ4_clear_1 4 rfl rfl)
theorem dJ4_clear_29 : decode cJ4_clear 29 = .ok (.aconst_null, 1) := dk_1 (dk_at dksJ4_clear_1 5 rfl rfl)
theorem dJ4_clear_30 : decode cJ4_clear 30 = .ok (.aastore, 1) := dk_83 (dk_at dksJ4_clear_1 6 rfl rfl)
theorem dJ4_clear_31 : decode cJ4_clear 31 = .ok (.iinc 2 1, 3) := dk_132 2 1 (dk_at dksJ4_clear_1 7 rfl rfl)
theorem dJ4_clear_34 : decode cJ4_clear 34 = .ok (.goto (-12), 3) := dk_167 255 244 (dk_at dksJ4_clear_1 10 rfl rfl)
theorem dJ4_clear_37 : decode cJ4_clear 37 = .ok (.aload_n 0, 1) := dk_42 (dk_at dksJ4_clear_1 13 rfl rfl)
theorem dJ4_clear_38 : decode cJ4_clear 38 = .ok (.iconst 0, 1) := dk_3 (dk_at dksJ4_clear_1 14 rfl rfl)
theorem dJ4_clear_39 : decode cJ4_clear 39 = .ok (.putfield 58, 3) := dk_181 0 58 (dk_at dksJ4_clear_1 15 rfl rfl)
theorem dJ4_clear_42 : decode cJ4_clear 42 = .ok (.return_, 1) := dk_177 (dk_at dksJ4_clear_1 18 rfl rfl)
def dkwJ4_peek_0 : List UInt8 := [42, 180, 0, 17, 3, 50, 176]
abbrev dktJ4_peek_0 : List UInt8 := dkwJ4_peek_0 ++ []
theorem dksJ4_peek_0 : cJ4_peek.data.toList.drop 0 = dktJ4_peek_0 := by decide +kernel
theorem dJ4_peek_0 : decode cJ4_peek 0 = .ok (.aload_n 0, 1) := dk_42 (dk_at dksJ4_peek_0 0 rfl rfl)
theorem dJ4_peek_1 : decode cJ4_peek 1 = .ok (.getfield 17, 3) := dk_180 0 17 (dk_at dksJ4_peek_0 1 rfl rfl)
theorem dJ4_peek_4 : decode cJ4_peek 4 = .ok (.iconst 0, 1) := dk_3 (dk_at dksJ4_peek_0 4 rfl rfl)
theorem dJ4_peek_5 : decode cJ4_peek 5 = .ok (.aaload, 1) := dk_50 (dk_at dksJ4_peek_0 5 rfl rfl)
theorem dJ4_peek_6 : decode cJ4_peek 6 = .ok (.areturn, 1) := dk_176 (dk_at dksJ4_peek_0 6 rfl rfl)
theorem dJ5_init_0 : decode cJ5_init 0 = .ok (.aload_n 0, 1) := by decide +kernel
theorem dJ5_init_1 : decode cJ5_init 1 = .ok (.invokespecial 1, 3) := by decide +kernel
theorem dJ5_init_4 : decode cJ5_init 4 = .ok (.return_, 1) := by decide +kernel
def dkwJ6_init_0 : List UInt8 := [42, 183, 0, 1, 42, 3, 181, 0, 7, 42, 3, 181, 0, 13, 42, 1, 181, 0, 16, 177]
abbrev dktJ6_init_0 : List UInt8 := dkwJ6_init_0 ++ []
theorem dksJ6_init_0 : cJ6_init.data.toList.drop 0 = dktJ6_init_0 := by decide +kernel
theorem dJ6_init_0 : decode cJ6_init 0 = .ok (.aload_n 0, 1) := dk_42 (dk_at dksJ6_init_0 0 rfl rfl)
theorem dJ6_init_1 : decode cJ6_init 1 = .ok (.invokespecial 1, 3) := dk_183 0 1 (dk_at dksJ6_init_0 1 rfl rfl)
theorem dJ6_init_4 : decode cJ6_init 4 = .ok (.aload_n 0, 1) := dk_42 (dk_at dksJ6_init_0 4 rfl rfl)
theorem dJ6_init_5 : decode cJ6_init 5 = .ok (.iconst 0, 1) := dk_3 (dk_at dksJ6_init_0 5 rfl rfl)
theorem dJ6_init_6 : decode cJ6_init 6 = .ok (.putfield 7, 3) := dk_181 0 7 (dk_at dksJ6_init_0 6 rfl rfl)
theorem dJ6_init_9 : decode cJ6_init 9 = .ok (.aload_n 0, 1) := dk_42 (dk_at dksJ6_init_0 9 rfl rfl)
theorem dJ6_init_10 : decode cJ6_init 10 = .ok (.iconst 0, 1) := dk_3 (dk_at dksJ6_init_0 10 rfl rfl)
theorem dJ6_init_11 : decode cJ6_init 11 = .ok (.putfield 13, 3) := dk_181 0 13 (dk_at dksJ6_init_0 11 rfl rfl)
theorem dJ6_init_14 : decode cJ6_init 14 = .ok (.aload_n 0, 1) := dk_42 (dk_at dksJ6_init_0 14 rfl rfl)
theorem dJ6_init_15 : decode cJ6_init 15 = .ok (.aconst_null, 1) := dk_1 (dk_at dksJ6_init_0 15 rfl rfl)
theorem dJ6_init_16 : decode cJ6_init 16 = .ok (.putfield 16, 3) := dk_181 0 16 (dk_at dksJ6_init_0 16 rfl rfl)
theorem dJ6_init_19 : decode cJ6_init 19 = .ok (.return_, 1) := dk_177 (dk_at dksJ6_init_0 19 rfl rfl)
def dkwJ6_successor_2 : List UInt8 := [44, 43, 180, 0, 114, 166, 0, 13, 43, 77, 43, 180, 0, 124, 76, 167, 255, 237, 43, 176]
abbrev dktJ6_successor_2 : List UInt8 := dkwJ6_successor_2 ++ []
def dkwJ6_successor_1 : List UInt8 := [198, 0, 11, 43, 180, 0, 111, 76, 167, 255, 244, 43, 176, 42, 180, 0, 124, 76, 42, 77, 43, 198, 0, 21]
abbrev dktJ6_successor_1 : List UInt8 := dkwJ6_successor_1 ++ dktJ6_successor_2
def dkwJ6_successor_0 : List UInt8 := [42, 199, 0, 5, 1, 176, 42, 180, 0, 114, 198, 0, 25, 42, 180, 0, 114, 76, 43, 180, 0, 111]
abbrev dktJ6_successor_0 : List UInt8 := dkwJ6_successor_0 ++ dktJ6_successor_1
theorem dksJ6_successor_0 : cJ6_successor.data.toList.drop 0 = dktJ6_successor_0 := by decide +kernel
theorem dksJ6_successor_1 : cJ6_successor.data.toList.drop 22 = dktJ6_successor_1 := dk_seg dksJ6_successor_0 22 rfl rfl
theorem dksJ6_successor_2 : cJ6_successor.data.toList.drop 46 = dktJ6_successor_2 := dk_seg dksJ6_successor_1 24 rfl rfl
theorem dJ6_successor_0 : decode cJ6_successor 0 = .ok (.aload_n 0, 1) := dk_42 (dk_at dksJ6_successor_0 0 rfl rfl)
theorem dJ6_successor_1 : decode cJ6_successor 1 = .ok (.ifnonnull 5, 3) := dk_199 0 5 (dk_at dksJ6_successor_0 1 rfl rfl)
theorem dJ6_successor_4 : decode cJ6_successor 4 = .ok (.aconst_null, 1) := dk_1 (dk_at dksJ6_successor_0 4 rfl rfl)
theorem dJ6_successor_5 : decode cJ6_successor 5 = .ok (.areturn, 1) := dk_176 (dk_at dksJ6_successor_0 5 rfl rfl)
theorem dJ6_successor_6 : decode cJ6_successor 6 = .ok (.aload_n 0, 1) := dk_42 (dk_at dksJ6_successor_0 6 rfl rfl)
theorem dJ6_successor_7 : decode cJ6_successor 7 = .ok (.getfield 114, 3) := dk_180 0 114 (dk_at dksJ6_successor_0 7 rfl rfl)
theorem dJ6_successor_10 : decode cJ6_successor 10 = .ok (.ifnull 25, 3) := dk_198 0 25 (dk_at dksJ6_successor_0 10 rfl rfl)
theorem dJ6_successor_13 : decode cJ6_successor 13 = .ok (.aload_n 0, 1) := dk_42 (dk_at dksJ6_successor_0 13 rfl rfl)
theorem dJ6_successor_14 : decode cJ6_successor 14 = .ok (.getfield 114, 3) := dk_180 0 114 (dk_at dksJ6_successor_0 14 rfl rfl)
theorem dJ6_successor_17 : decode cJ6_successor 17 = .ok (.astore_n 1, 1) := dk_76 (dk_at dksJ6_successor_0 17 rfl rfl)
theorem dJ6_successor_18 : decode cJ6_successor 18 = .ok (.aload_n 1, 1) := dk_43 (dk_at dksJ6_successor_0 18 rfl rfl)
theorem dJ6_successor_19 : decode cJ6_successor 19 = .ok (.getfield 111, 3) := dk_180 0 111 (dk_at dksJ6_successor_0 19 rfl rfl)
theorem dJ6_successor_22 : decode cJ6_successor 22 = .ok (.ifnull 11, 3) := dk_198 0 11 (dk_at dksJ6_successor_1 0 rfl rfl)
theorem dJ6_successor_25 : decode cJ6_successor 25 = .ok (.aload_n 1, 1) := dk_43 (dk_at dksJ6_successor_1 3 rfl rfl)
theorem dJ6_successor_26 : decode cJ6_successor 26 = .ok (.getfield 111, 3) := dk_180 0 111 (dk_at dksJ6_successor_1 4 rfl rfl)
theorem dJ6_successor_29 : decode cJ6_successor 29 = .ok (.astore_n 1, 1) := dk_76 (dk_at dksJ6_successor_1 7 rfl rfl)
theorem dJ6_successor_30 : decode cJ6_successor 30 = .ok (.goto (-12), 3) := dk_167 255 244 (dk_at dksJ6_successor_1 8 rfl rfl)
theorem dJ6_successor_33 : decode cJ6_successor 33 = .ok (.aload_n 1, 1) := dk_43 (dk_at dksJ6_successor_1 11 rfl rfl)
theorem dJ6_successor_34 : decode cJ6_successor 34 = .ok (.areturn, 1) := dk_176 (dk_at dksJ6_successor_1 12 rfl rfl)
theorem dJ6_successor_35 : decode cJ6_successor 35 = .ok (.aload_n 0, 1) := dk_42 (dk_at dksJ6_successor_1 13 rfl rfl)
theorem dJ6_successor_36 : decode cJ6_successor 36 = .ok (.getfield 124, 3) := dk_180 0 124 (dk_at dksJ6_successor_1 14 rfl rfl)
theorem dJ6_successor_39 : decode cJ6_successor 39 = .ok (.astore_n 1, 1) := dk_76 (dk_at dksJ6_successor_1 17 rfl rfl)
theorem dJ6_successor_40 : decode cJ6_successor 40 = .ok (.aload_n 0, 1) := dk_42 (dk_at dksJ6_successor_1 18 rfl rfl)
theorem dJ6_successor_41 : decode cJ6_successor 41 = .ok (.astore_n 2, 1) := dk_77 (dk_at dksJ6_successor_1 19 rfl rfl)
theorem dJ6_successor_42 : decode cJ6_successor 42 = .ok (.aload_n 1, 1) := dk_43 (dk_at dksJ6_successor_1 20 rfl rfl)
theorem dJ6_successor_43 : decode cJ6_successor 43 = .ok (.ifnull 21, 3) := dk_198 0 21 (dk_at dksJ6_successor_1 21 rfl rfl)
theorem dJ6_successor_46 : decode cJ6_successor 46 = .ok (.aload_n 2, 1) := dk_44 (dk_at dksJ6_successor_2 0 rfl rfl)
theorem dJ6_successor_47 : decode cJ6_successor 47 = .ok (.aload_n 1, 1) := dk_43 (dk_at dksJ6_successor_2 1 rfl rfl)
theorem dJ6_successor_48 : decode cJ6_successor 48 = .ok (.getfield 114, 3) := dk_180 0 114 (dk_at dksJ6_successor_2 2 rfl rfl)
theorem dJ6_successor_51 : decode cJ6_successor 51 = .ok (.if_acmp .ne 13, 3) := dk_166 0 13 (dk_at dksJ6_successor_2 5 rfl rfl)
theorem dJ6_successor_54 : decode cJ6_successor 54 = .ok (.aload_n 1, 1) := dk_43 (dk_at dksJ6_successor_2 8 rfl rfl)
theorem dJ6_successor_55 : decode cJ6_successor 55 = .ok (.astore_n 2, 1) := dk_77 (dk_at dksJ6_successor_2 9 rfl rfl)
theorem dJ6_successor_56 : decode cJ6_successor 56 = .ok (.aload_n 1, 1) := dk_43 (dk_at dksJ6_successor_2 10 rfl rfl)
theorem dJ6_successor_57 : decode cJ6_successor 57 = .ok (.getfield 124, 3) := dk_180 0 124 (dk_at dksJ6_successor_2 11 rfl rfl)
theorem dJ6_successor_60 : decode cJ6_successor 60 = .ok (.astore_n 1, 1) := dk_76 (dk_at dksJ6_successor_2 14 rfl rfl)
theorem dJ6_successor_61 : decode cJ6_successor 61 = .ok (.goto (-19), 3) := dk_167 255 237 (dk_at dksJ6_successor_2 15 rfl rfl)
theorem dJ6_successor_64 : decode cJ6_successor 64 = .ok (.aload_n 1, 1) := dk_43 (dk_at dksJ6_successor_2 18 rfl rfl)
theorem dJ6_successor_65 : decode cJ6_successor 65 = .ok (.areturn, 1) := dk_176 (dk_at dksJ6_successor_2 19 rfl rfl)
theorem dJ6_keySet_0 : decode cJ6_keySet 0 = .ok (.aload_n 0, 1) := by decide +kernel
theorem dJ6_keySet_1 : decode cJ6_keySet 1 = .ok (.invokevirtual 219, 3) := by decide +kernel
theorem dJ6_keySet_4 : decode cJ6_keySet 4 = .ok (.areturn, 1) := by decide +kernel
def dkwJ6_navigableKeySet_1 : List UInt8 := [181, 0, 191, 176]
abbrev dktJ6_navigableKeySet_1 : List UInt8 := dkwJ6_navigableKeySet_1 ++ []
def dkwJ6_navigableKeySet_0 : List UInt8 := [42, 180, 0, 191, 76, 43, 198, 0, 7, 43, 167, 0, 16, 42, 187, 0, 222, 89, 42, 183, 0, 224, 90]
abbrev dktJ6_navigableKeySet_0 : List UInt8 := dkwJ6_navigableKeySet_0 ++ dktJ6_navigableKeySet_1
theorem dksJ6_navigableKeySet_0 : cJ6_navigableKeySet.data.toList.drop 0 = dktJ6_navigableKeySet_0 := by decide +kernel
theorem dksJ6_navigableKeySet_1 : cJ6_navigableKeySet.data.toList.drop 23 = dktJ6_navigableKeySet_1 := dk_seg dksJ6_navigableKeySet_0 23 rfl rfl
theorem dJ6_navigableKeySet_0 : decode cJ6_navigableKeySet 0 = .ok (.aload_n 0, 1) := dk_42 (dk_at dksJ6_navigableKeySet_0 0 rfl rfl)
theorem dJ6_navigableKeySet_1 : decode cJ6_navigableKeySet 1 = .ok (.getfield 191, 3) := dk_180 0 191 (dk_at dksJ6_navigableKeySet_0 1 rfl rfl)
theorem dJ6_navigableKeySet_4 : decode cJ6_navigableKeySet 4 = .ok (.astore_n 1, 1) := dk_76 (dk_at dksJ6_navigableKeySet_0 4 rfl rfl)
theorem dJ6_navigableKeySet_5 : decode cJ6_navigableKeySet 5 = .ok (.aload_n 1, 1) := dk_43 (dk_at dksJ6_navigableKeySet_0 5 rfl rfl)
theorem dJ6_navigableKeySet_6 : decode cJ6_navigableKeySet 6 = .ok (.ifnull 7, 3) := dk_198 0 7 (dk_at dksJ6_navigableKeySet_0 6 rfl rfl)
theorem dJ6_navigableKeySet_9 : decode cJ6_navigableKeySet 9 = .ok (.aload_n 1, 1) := dk_43 (dk_at dksJ6_navigableKeySet_0 9 rfl rfl)
theorem dJ6_navigableKeySet_10 : decode cJ6_navigableKeySet 10 = .ok (.goto 16, 3) := dk_167 0 16 (dk_at dksJ6_navigableKeySet_0 10 rfl rfl)
theorem dJ6_navigableKeySet_13 : decode cJ6_navigableKeySet 13 = .ok (.aload_n 0, 1) := dk_42 (dk_at dksJ6_navigableKeySet_0 13 rfl rfl)
theorem dJ6_navigableKeySet_14 : decode cJ6_navigableKeySet 14 = .ok (.new 222, 3) := dk_187 0 222 (dk_at dksJ6_navigableKeySet_0 14 rfl rfl)
theorem dJ6_navigableKeySet_17 : decode cJ6_navigableKeySet 17 = .ok (.dup, 1) := dk_89 (dk_at dksJ6_navigableKeySet_0 17 rfl rfl)
theorem dJ6_navigableKeySet_18 : decode cJ6_navigableKeySet 18 = .ok (.aload_n 0, 1) := dk_42 (dk_at dksJ6_navigableKeySet_0 18 rfl rfl)
theorem dJ6_navigableKeySet_19 : decode cJ6_navigableKeySet 19 = .ok (.invokespecial 224, 3) := dk_183 0 224 (dk_at dksJ6_navigableKeySet_0 19 rfl rfl)
theorem dJ6_navigableKeySet_22 : decode cJ6_navigableKeySet 22 = .ok (.dup_x1, 1) := dk_90 (dk_at dksJ6_navigableKeySet_0 22 rfl rfl)
theorem dJ6_navigableKeySet_23 : decode cJ6_navigableKeySet 23 = .ok (.putfield 191, 3) := dk_181 0 191 (dk_at dksJ6_navigableKeySet_1 0 rfl rfl)
theorem dJ6_navigableKeySet_26 : decode cJ6_navigableKeySet 26 = .ok (.areturn, 1) := dk_176 (dk_at dksJ6_navigableKeySet_1 3 rfl rfl)
def dkwJ6_keyIterator_0 : List UInt8 := [187, 1, 13, 89, 42, 42, 182, 0, 54, 183, 1, 15, 176]
abbrev dktJ6_keyIterator_0 : List UInt8 := dkwJ6_keyIterator_0 ++ []
theorem dksJ6_keyIterator_0 : cJ6_keyIterator.data.toList.drop 0 = dktJ6_keyIterator_0 := by decide +kernel
theorem dJ6_keyIterator_0 : decode cJ6_keyIterator 0 = .ok (.new 269, 3) := dk_187 1 13 (dk_at dksJ6_keyIterator_0 0 rfl rfl)
theorem dJ6_keyIterator_3 : decode cJ6_keyIterator 3 = .ok (.dup, 1) := dk_89 (dk_at dksJ6_keyIterator_0 3 rfl rfl)
theorem dJ6_keyIterator_4 : decode cJ6_keyIterator 4 = .ok (.aload_n 0, 1) := dk_42 (dk_at dksJ6_keyIterator_0 4 rfl rfl)
theorem dJ6_keyIterator_5 : decode cJ6_keyIterator 5 = .ok (.aload_n 0, 1) := dk_42 (dk_at dksJ6_keyIterator_0 5 rfl rfl)
theorem dJ6_keyIterator_6 : decode cJ6_keyIterator 6 = .ok (.invokevirtual 54, 3) := dk_182 0 54 (dk_at dksJ6_keyIterator_0 6 rfl rfl)
theorem dJ6_keyIterator_9 : decode cJ6_keyIterator 9 = .ok (.invokespecial 271, 3) := dk_183 1 15 (dk_at dksJ6_keyIterator_0 9 rfl rfl)
theorem dJ6_keyIterator_12 : decode cJ6_keyIterator 12 = .ok (.areturn, 1) := dk_176 (dk_at dksJ6_keyIterator_0 12 rfl rfl)
def dkwJ6_getFirstEntry_1 : List UInt8 := [43, 176]
abbrev dktJ6_getFirstEntry_1 : List UInt8 := dkwJ6_getFirstEntry_1 ++ []
def dkwJ6_getFirstEntry_0 : List UInt8 := [42, 180, 0, 101, 76, 43, 198, 0, 18, 43, 180, 0, 111, 198, 0, 11, 43, 180, 0, 111, 76, 167, 255, 244]
abbrev dktJ6_getFirstEntry_0 : List UInt8 := dkwJ6_getFirstEntry_0 ++ dktJ6_getFirstEntry_1
theorem dksJ6_getFirstEntry_0 : cJ6_getFirstEntry.data.toList.drop 0 = dktJ6_getFirstEntry_0 := by decide +kernel
theorem dksJ6_getFirstEntry_1 : cJ6_getFirstEntry.data.toList.drop 24 = dktJ6_getFirstEntry_1 := dk_seg dksJ6_getFirstEntry_0 24 rfl rfl
theorem dJ6_getFirstEntry_0 : decode cJ6_getFirstEntry 0 = .ok (.aload_n 0, 1) := dk_42 (dk_at dksJ6_getFirstEntry_0 0 rfl rfl)
theorem dJ6_getFirstEntry_1 : decode cJ6_getFirstEntry 1 = .ok (.getfield 101, 3) := dk_180 0 101 (dk_at dksJ6_getFirstEntry_0 1 rfl rfl)
theorem dJ6_getFirstEntry_4 : decode cJ6_getFirstEntry 4 = .ok (.astore_n 1, 1) := dk_76 (dk_at dksJ6_getFirstEntry_0 4 rfl rfl)
theorem dJ6_getFirstEntry_5 : decode cJ6_getFirstEntry 5 = .ok (.aload_n 1, 1) := dk_43 (dk_at dksJ6_getFirstEntry_0 5 rfl rfl)
theorem dJ6_getFirstEntry_6 : decode cJ6_getFirstEntry 6 = .ok (.ifnull 18, 3) := dk_198 0 18 (dk_at dksJ6_getFirstEntry_0 6 rfl rfl)
theorem dJ6_getFirstEntry_9 : decode cJ6_getFirstEntry 9 = .ok (.aload_n 1, 1) := dk_43 (dk_at dksJ6_getFirstEntry_0 9 rfl rfl)
theorem dJ6_getFirstEntry_10 : decode cJ6_getFirstEntry 10 = .ok (.getfield 111, 3) := dk_180 0 111 (dk_at dksJ6_getFirstEntry_0 10 rfl rfl)
theorem dJ6_getFirstEntry_13 : decode cJ6_getFirstEntry 13 = .ok (.ifnull 11, 3) := dk_198 0 11 (dk_at dksJ6_getFirstEntry_0 13 rfl rfl)
theorem dJ6_getFirstEntry_16 : decode cJ6_getFirstEntry 16 = .ok (.aload_n 1, 1) := dk_43 (dk_at dksJ6_getFirstEntry_0 16 rfl rfl)
theorem dJ6_getFirstEntry_17 : decode cJ6_getFirstEntry 17 = .ok (.getfield 111, 3) := dk_180 0 111 (dk_at dksJ6_getFirstEntry_0 17 rfl rfl)
theorem dJ6_getFirstEntry_20 : decode cJ6_getFirstEntry 20 = .ok (.astore_n 1, 1) := dk_76 (dk_at dksJ6_getFirstEntry_0 20 rfl rfl)
theorem dJ6_getFirstEntry_21 : decode cJ6_getFirstEntry 21 = .ok (.goto (-12), 3) := dk_167 255 244 (dk_at dksJ6_getFirstEntry_0 21 rfl rfl)
theorem dJ6_getFirstEntry_24 : decode cJ6_getFirstEntry 24 = .ok (.aload_n 1, 1) := dk_43 (dk_at dksJ6_getFirstEntry_1 0 rfl rfl)
theorem dJ6_getFirstEntry_25 : decode cJ6_getFirstEntry 25 = .ok (.areturn, 1) := dk_176 (dk_at dksJ6_getFirstEntry_1 1 rfl rfl)
def dkwJ6_get_0 : List UInt8 := [42, 43, 182, 0, 50, 77, 44, 199, 0, 7, 1, 167, 0, 7, 44, 180, 0, 58, 176]
abbrev dktJ6_get_0 : List UInt8 := dkwJ6_get_0 ++ []
theorem dksJ6_get_0 : cJ6_get.data.toList.drop 0 = dktJ6_get_0 := by decide +kernel
theorem dJ6_get_0 : decode cJ6_get 0 = .ok (.aload_n 0, 1) := dk_42 (dk_at dksJ6_get_0 0 rfl rfl)
theorem dJ6_get_1 : decode cJ6_get 1 = .ok (.aload_n 1, 1) := dk_43 (dk_at dksJ6_get_0 1 rfl rfl)
theorem dJ6_get_2 : decode cJ6_get 2 = .ok (.invokevirtual 50, 3) := dk_182 0 50 (dk_at dksJ6_get_0 2 rfl rfl)
theorem dJ6_get_5 : decode cJ6_get 5 = .ok (.astore_n 2, 1) := dk_77 (dk_at dksJ6_get_0 5 rfl rfl)
theorem dJ6_get_6 : decode cJ6_get 6 = .ok (.aload_n 2, 1) := dk_44 (dk_at dksJ6_get_0 6 rfl rfl)
theorem dJ6_get_7 : decode cJ6_get 7 = .ok (.ifnonnull 7, 3) := dk_199 0 7 (dk_at dksJ6_get_0 7 rfl rfl)
theorem dJ6_get_10 : decode cJ6_get 10 = .ok (.aconst_null, 1) := dk_1 (dk_at dksJ6_get_0 10 rfl rfl)
theorem dJ6_get_11 : decode cJ6_get 11 = .ok (.goto 7, 3) := dk_167 0 7 (dk_at dksJ6_get_0 11 rfl rfl)
theorem dJ6_get_14 : decode cJ6_get 14 = .ok (.aload_n 2, 1) := dk_44 (dk_at dksJ6_get_0 14 rfl rfl)
theorem dJ6_get_15 : decode cJ6_get 15 = .ok (.getfield 58, 3) := dk_180 0 58 (dk_at dksJ6_get_0 15 rfl rfl)
theorem dJ6_get_18 : decode cJ6_get 18 = .ok (.areturn, 1) := dk_176 (dk_at dksJ6_get_0 18 rfl rfl)
def dkwJ6_getEntry_3 : List UInt8 := [45, 176, 167, 255, 212, 1, 176]
abbrev dktJ6_getEntry_3 : List UInt8 := dkwJ6_getEntry_3 ++ []
def dkwJ6_getEntry_2 : List UInt8 := [156, 0, 11, 45, 180, 0, 111, 78, 167, 0, 18, 21, 4, 158, 0, 11, 45, 180, 0, 114, 78, 167, 0, 5]
abbrev dktJ6_getEntry_2 : List UInt8 := dkwJ6_getEntry_2 ++ dktJ6_getEntry_3
def dkwJ6_getEntry_1 : List UInt8 := [180, 0, 101, 78, 45, 198, 0, 46, 44, 45, 180, 0, 105, 185, 0, 107, 2, 0, 54, 4, 21, 4]
abbrev dktJ6_getEntry_1 : List UInt8 := dkwJ6_getEntry_1 ++ dktJ6_getEntry_2
def dkwJ6_getEntry_0 : List UInt8 := [42, 180, 0, 16, 198, 0, 9, 42, 43, 182, 0, 92, 176, 43, 184, 0, 95, 87, 43, 192, 0, 99, 77, 42]
abbrev dktJ6_getEntry_0 : List UInt8 := dkwJ6_getEntry_0 ++ dktJ6_getEntry_1
theorem dksJ6_getEntry_0 : cJ6_getEntry.data.toList.drop 0 = dktJ6_getEntry_0 := by decide +kernel
theorem dksJ6_getEntry_1 : cJ6_getEntry.data.toList.drop 24 = dktJ6_getEntry_1 := dk_seg dksJ6_getEntry_0 24 rfl rfl
theorem dksJ6_getEntry_2 : cJ6_getEntry.data.toList.drop 46 = dktJ6_getEntry_2 := dk_seg dksJ6_getEntry_1 22 rfl rfl
theorem dksJ6_getEntry_3 : cJ6_getEntry.data.toList.drop 70 = dktJ6_getEntry_3 := dk_seg dksJ6_getEntry_2 24 rfl rfl
theorem dJ6_getEntry_0 : decode cJ6_getEntry 0 = .ok (.aload_n 0, 1) := dk_42 (dk_at dksJ6_getEntry_0 0 rfl rfl)
theorem dJ6_getEntry_1 : decode cJ6_getEntry 1 = .ok (.getfield 16, 3) := dk_180 0 16 (dk_at dksJ6_getEntry_0 1 rfl rfl)
theorem dJ6_getEntry_4 : decode cJ6_getEntry 4 = .ok (.ifnull 9, 3) := dk_198 0 9 (dk_at dksJ6_getEntry_0 4 rfl rfl)
theorem dJ6_getEntry_13 : decode cJ6_getEntry 13 = .ok (.aload_n 1, 1) := dk_43 (dk_at dksJ6_getEntry_0 13 rfl rfl)
theorem dJ6_getEntry_14 : decode cJ6_getEntry 14 = .ok (.invokestatic 95, 3) := dk_184 0 95 (dk_at dksJ6_getEntry_0 14 rfl rfl)
theorem dJ6_getEntry_17 : decode cJ6_getEntry 17 = .ok (.pop, 1) := dk_87 (dk_at dksJ6_getEntry_0 17 rfl rfl)
theorem dJ6_getEntry_18 : decode cJ6_getEntry 18 = .ok (.aload_n 1, 1) := dk_43 (dk_at dksJ6_getEntry_0 18 rfl rfl)
theorem dJ6_getEntry_19 : decode cJ6_getEntry 19 = .ok (.checkcast 99, 3) := dk_192 0 99 (dk_at dksJ6_getEntry_0 19 rfl rfl)
theorem dJ6_getEntry_22 : decode cJ6_getEntry 22 = .ok (.astore_n 2, 1) := dk_77 (dk_at dksJ6_getEntry_0 22 rfl rfl)
theorem dJ6_getEntry_23 : decode cJ6_getEntry 23 = .ok (.aload_n 0, 1) := dk_42 (dk_at dksJ6_getEntry_0 23 rfl rfl)
theorem dJ6_getEntry_24 : decode cJ6_getEntry 24 = .ok (.getfield 101, 3) := dk_180 0 101 (dk_at dksJ6_getEntry_1 0 rfl rfl)
theorem dJ6_getEntry_27 : decode cJ6_getEntry 27 = .ok (.astore_n 3, 1) := dk_78 (dk_at dksJ6_getEntry_1 3 rfl rfl)
theorem dJ6_getEntry_28 : decode cJ6_getEntry 28 = .ok (.aload_n 3, 1) := dk_45 (dk_at dksJ6_getEntry_1 4 rfl rfl)
theorem dJ6_getEntry_29 : decode cJ6_getEntry 29 = .ok (.ifnull 46, 3) := dk_198 0 46 (dk_at dksJ6_getEntry_1 5 rfl rfl)
theorem dJ6_getEntry_32 : decode cJ6_getEntry 32 = .ok (.aload_n 2, 1) := dk_44 (dk_at dksJ6_getEntry_1 8 rfl rfl)
theorem dJ6_getEntry_33 : decode cJ6_getEntry 33 = .ok (.aload_n 3, 1) := dk_45 (dk_at dksJ6_getEntry_1 9 rfl rfl)
theorem dJ6_getEntry_34 : decode cJ6_getEntry 34 = .ok (.getfield 105, 3) := dk_180 0 105 (dk_at dksJ6_getEntry_1 10 rfl rfl)
theorem dJ6_getEntry_37 : decode cJ6_getEntry 37 = .ok (.invokeinterface 107 2, 5) := by decide +kernel
theorem dJ6_getEntry_42 : decode cJ6_getEntry 42 = .ok (.istore 4, 2) := dk_54 4 (dk_at dksJ6_getEntry_1 18 rfl rfl)
theorem dJ6_getEntry_44 : decode cJ6_getEntry 44 = .ok (.iload 4, 2) := dk_21 4 (dk_at dksJ6_getEntry_1 20 rfl rfl)
theorem dJ6_getEntry_46 : decode cJ6_getEntry 46 = .ok (.ifCond .ge 11, 3) := dk_156 0 11 (dk_at dksJ6_getEntry_2 0 rfl rfl)
theorem dJ6_getEntry_49 : decode cJ6_getEntry 49 = .ok (.aload_n 3, 1) := dk_45 (dk_at dksJ6_getEntry_2 3 rfl rfl)
theorem dJ6_getEntry_50 : decode cJ6_getEntry 50 = .ok (.getfield 111, 3) := dk_180 0 111 (dk_at dksJ6_getEntry_2 4 rfl rfl)
theorem dJ6_getEntry_53 : decode cJ6_getEntry 53 = .ok (.astore_n 3, 1) := dk_78 (dk_at dksJ6_getEntry_2 7 rfl rfl)
theorem dJ6_getEntry_54 : decode cJ6_getEntry 54 = .ok (.goto 18, 3) := dk_167 0 18 (dk_at dksJ6_getEntry_2 8 rfl rfl)
theorem dJ6_getEntry_57 : decode cJ6_getEntry 57 = .ok (.iload 4, 2) := dk_21 4 (dk_at dksJ6_getEntry_2 11 rfl rfl)
theorem dJ6_getEntry_59 : decode cJ6_getEntry 59 = .ok (.ifCond .le 11, 3) := dk_158 0 11 (dk_at dksJ6_getEntry_2 13 rfl rfl)
theorem dJ6_getEntry_62 : decode cJ6_getEntry 62 = .ok (.aload_n 3, 1) := dk_45 (dk_at dksJ6_getEntry_2 16 rfl rfl)
theorem dJ6_getEntry_63 : decode cJ6_getEntry 63 = .ok (.getfield 114, 3) := dk_180 0 114 (dk_at dksJ6_getEntry_2 17 rfl rfl)
theorem dJ6_getEntry_66 : decode cJ6_getEntry 66 = .ok (.astore_n 3, 1) := dk_78 (dk_at dksJ6_getEntry_2 20 rfl rfl)
theorem dJ6_getEntry_67 : decode cJ6_getEntry 67 = .ok (.goto 5, 3) := dk_167 0 5 (dk_at dksJ6_getEntry_2 21 rfl rfl)
theorem dJ6_getEntry_70 : decode cJ6_getEntry 70 = .ok (.aload_n 3, 1) := dk_45 (dk_at dksJ6_getEntry_3 0 rfl rfl)
theorem dJ6_getEntry_71 : decode cJ6_getEntry 71 = .ok (.areturn, 1) := dk_176 (dk_at dksJ6_getEntry_3 1 rfl rfl)
theorem dJ6_getEntry_72 : decode cJ6_getEntry 72 = .ok (.goto (-44), 3) := dk_167 255 212 (dk_at dksJ6_getEntry_3 2 rfl rfl)
theorem dJ6_getEntry_75 : decode cJ6_getEntry 75 = .ok (.aconst_null, 1) := dk_1 (dk_at dksJ6_getEntry_3 5 rfl rfl)
theorem dJ6_getEntry_76 : decode cJ6_getEntry 76 = .ok (.areturn, 1) := dk_176 (dk_at dksJ6_getEntry_3 6 rfl rfl)
def dkwJ6_put_0 : List UInt8 := [42, 43, 44, 4, 182, 0, 127, 176]
abbrev dktJ6_put_0 : List UInt8 := dkwJ6_put_0 ++ []
theorem dksJ6_put_0 : cJ6_put.data.toList.drop 0 = dktJ6_put_0 := by decide +kernel
theorem dJ6_put_0 : decode cJ6_put 0 = .ok (.aload_n 0, 1) := dk_42 (dk_at dksJ6_put_0 0 rfl rfl)
theorem dJ6_put_1 : decode cJ6_put 1 = .ok (.aload_n 1, 1) := dk_43 (dk_at dksJ6_put_0 1 rfl rfl)
theorem dJ6_put_2 : decode cJ6_put 2 = .ok (.aload_n 2, 1) := dk_44 (dk_at dksJ6_put_0 2 rfl rfl)
theorem dJ6_put_3 : decode cJ6_put 3 = .ok (.iconst 1, 1) := dk_4 (dk_at dksJ6_put_0 3 rfl rfl)
theorem dJ6_put_4 : decode cJ6_put 4 = .ok (.invokevirtual 127, 3) := dk_182 0 127 (dk_at dksJ6_put_0 4 rfl rfl)
theorem dJ6_put_7 : decode cJ6_put 7 = .ok (.areturn, 1) := dk_176 (dk_at dksJ6_put_0 7 rfl rfl)
def dkwJ6_put_2_9 : List UInt8 := [4, 167, 0, 4, 3, 182, 0, 139, 1, 176]
abbrev dktJ6_put_2_9 : List UInt8 := dkwJ6_put_2_9 ++ []
def dkwJ6_put_2_8 : List UInt8 := [25, 4, 44, 181, 0, 58, 25, 9, 176, 25, 4, 199, 255, 181, 42, 43, 44, 25, 6, 21, 5, 156, 0, 7]
abbrev dktJ6_put_2_8 : List UInt8 := dkwJ6_put_2_8 ++ dktJ6_put_2_9
def dkwJ6_put_2_7 : List UInt8 := [180, 0, 114, 58, 4, 167, 0, 28, 25, 4, 180, 0, 58, 58, 9, 29, 154, 0, 8, 25, 9, 199, 0, 9]
abbrev dktJ6_put_2_7 : List UInt8 := dkwJ6_put_2_7 ++ dktJ6_put_2_8
def dkwJ6_put_2_6 : List UInt8 := [21, 5, 156, 0, 13, 25, 4, 180, 0, 111, 58, 4, 167, 0, 43, 21, 5, 158, 0, 13, 25, 4]
abbrev dktJ6_put_2_6 : List UInt8 := dkwJ6_put_2_6 ++ dktJ6_put_2_7
def dkwJ6_put_2_5 : List UInt8 := [192, 0, 99, 58, 8, 25, 4, 58, 6, 25, 8, 25, 4, 180, 0, 105, 185, 0, 107, 2, 0, 54, 5]
abbrev dktJ6_put_2_5 : List UInt8 := dkwJ6_put_2_5 ++ dktJ6_put_2_6
def dkwJ6_put_2_4 : List UInt8 := [25, 4, 44, 181, 0, 58, 25, 8, 176, 25, 4, 199, 255, 180, 167, 0, 92, 43, 184, 0, 95, 87, 43]
abbrev dktJ6_put_2_4 : List UInt8 := dkwJ6_put_2_4 ++ dktJ6_put_2_5
def dkwJ6_put_2_3 : List UInt8 := [180, 0, 114, 58, 4, 167, 0, 28, 25, 4, 180, 0, 58, 58, 8, 29, 154, 0, 8, 25, 8, 199, 0, 9]
abbrev dktJ6_put_2_3 : List UInt8 := dkwJ6_put_2_3 ++ dktJ6_put_2_4
def dkwJ6_put_2_2 : List UInt8 := [54, 5, 21, 5, 156, 0, 13, 25, 4, 180, 0, 111, 58, 4, 167, 0, 43, 21, 5, 158, 0, 13, 25, 4]
abbrev dktJ6_put_2_2 : List UInt8 := dkwJ6_put_2_2 ++ dktJ6_put_2_3
def dkwJ6_put_2_1 : List UInt8 := [58, 7, 25, 7, 198, 0, 85, 25, 4, 58, 6, 25, 7, 43, 25, 4, 180, 0, 105, 185, 0, 117, 3, 0]
abbrev dktJ6_put_2_1 : List UInt8 := dkwJ6_put_2_1 ++ dktJ6_put_2_2
def dkwJ6_put_2_0 : List UInt8 := [42, 180, 0, 101, 58, 4, 25, 4, 199, 0, 11, 42, 43, 44, 182, 0, 135, 1, 176, 42, 180, 0, 16]
abbrev dktJ6_put_2_0 : List UInt8 := dkwJ6_put_2_0 ++ dktJ6_put_2_1
theorem dksJ6_put_2_0 : cJ6_put_2.data.toList.drop 0 = dktJ6_put_2_0 := by decide +kernel
theorem dksJ6_put_2_1 : cJ6_put_2.data.toList.drop 23 = dktJ6_put_2_1 := dk_seg dksJ6_put_2_0 23 rfl rfl
theorem dksJ6_put_2_2 : cJ6_put_2.data.toList.drop 47 = dktJ6_put_2_2 := dk_seg dksJ6_put_2_1 24 rfl rfl
theorem dksJ6_put_2_3 : cJ6_put_2.data.toList.drop 71 = dktJ6_put_2_3 := dk_seg dksJ6_put_2_2 24 rfl rfl
theorem dksJ6_put_2_4 : cJ6_put_2.data.toList.drop 95 = dktJ6_put_2_4 := dk_seg dksJ6_put_2_3 24 rfl rfl
theorem dksJ6_put_2_5 : cJ6_put_2.data.toList.drop 118 = dktJ6_put_2_5 := dk_seg dksJ6_put_2_4 23 rfl rfl
theorem dksJ6_put_2_6 : cJ6_put_2.data.toList.drop 141 = dktJ6_put_2_6 := dk_seg dksJ6_put_2_5 23 rfl rfl
theorem dksJ6_put_2_7 : cJ6_put_2.data.toList.drop 163 = dktJ6_put_2_7 := dk_seg dksJ6_put_2_6 22 rfl rfl
theorem dksJ6_put_2_8 : cJ6_put_2.data.toList.drop 187 = dktJ6_put_2_8 := dk_seg dksJ6_put_2_7 24 rfl rfl
theorem dksJ6_put_2_9 : cJ6_put_2.data.toList.drop 211 = dktJ6_put_2_9 := dk_seg dksJ6_put_2_8 24 rfl rfl
theorem dJ6_put_2_0 : decode cJ6_put_2 0 = .ok (.aload_n 0, 1) := dk_42 (dk_at dksJ6_put_2_0 0 rfl rfl)
theorem dJ6_put_2_1 : decode cJ6_put_2 1 = .ok (.getfield 101, 3) := dk_180 0 101 (dk_at dksJ6_put_2_0 1 rfl rfl)
theorem dJ6_put_2_4 : decode cJ6_put_2 4 = .ok (.astore 4, 2) := dk_58 4 (dk_at dksJ6_put_2_0 4 rfl rfl)
theorem dJ6_put_2_6 : decode cJ6_put_2 6 = .ok (.aload 4, 2) := dk_25 4 (dk_at dksJ6_put_2_0 6 rfl rfl)
theorem dJ6_put_2_8 : decode cJ6_put_2 8 = .ok (.ifnonnull 11, 3) := dk_199 0 11 (dk_at dksJ6_put_2_0 8 rfl rfl)
theorem dJ6_put_2_11 : decode cJ6_put_2 11 = .ok (.aload_n 0, 1) := dk_42 (dk_at dksJ6_put_2_0 11 rfl rfl)
theorem dJ6_put_2_12 : decode cJ6_put_2 12 = .ok (.aload_n 1, 1) := dk_43 (dk_at dksJ6_put_2_0 12 rfl rfl)
theorem dJ6_put_2_13 : decode cJ6_put_2 13 = .ok (.aload_n 2, 1) := dk_44 (dk_at dksJ6_put_2_0 13 rfl rfl)
theorem dJ6_put_2_14 : decode cJ6_put_2 14 = .ok (.invokevirtual 135, 3) := dk_182 0 135 (dk_at dksJ6_put_2_0 14 rfl rfl)
theorem dJ6_put_2_17 : decode cJ6_put_2 17 = .ok (.aconst_null, 1) := dk_1 (dk_at dksJ6_put_2_0 17 rfl rfl)
theorem dJ6_put_2_18 : decode cJ6_put_2 18 = .ok (.areturn, 1) := dk_176 (dk_at dksJ6_put_2_0 18 rfl rfl)
theorem dJ6_put_2_19 : decode cJ6_put_2 19 = .ok (.aload_n 0, 1) := dk_42 (dk_at dksJ6_put_2_0 19 rfl rfl)
theorem dJ6_put_2_20 : decode cJ6_put_2 20 = .ok (.getfield 16, 3) := dk_180 0 16 (dk_at dksJ6_put_2_0 20 rfl rfl)
theorem dJ6_put_2_23 : decode cJ6_put_2 23 = .ok (.astore 7, 2) := dk_58 7 (dk_at dksJ6_put_2_1 0 rfl rfl)
theorem dJ6_put_2_25 : decode cJ6_put_2 25 = .ok (.aload 7, 2) := dk_25 7 (dk_at dksJ6_put_2_1 2 rfl rfl)
theorem dJ6_put_2_27 : decode cJ6_put_2 27 = .ok (.ifnull 85, 3) := dk_198 0 85 (dk_at dksJ6_put_2_1 4 rfl rfl)
theorem dJ6_put_2_30 : decode cJ6_put_2 30 = .ok (.aload 4, 2) := dk_25 4 (dk_at dksJ6_put_2_1 7 rfl rfl)
theorem dJ6_put_2_32 : decode cJ6_put_2 32 = .ok (.astore 6, 2) := dk_58 6 (dk_at dksJ6_put_2_1 9 rfl rfl)
theorem dJ6_put_2_34 : decode cJ6_put_2 34 = .ok (.aload 7, 2) := dk_25 7 (dk_at dksJ6_put_2_1 11 rfl rfl)
theorem dJ6_put_2_36 : decode cJ6_put_2 36 = .ok (.aload_n 1, 1) := dk_43 (dk_at dksJ6_put_2_1 13 rfl rfl)
theorem dJ6_put_2_37 : decode cJ6_put_2 37 = .ok (.aload 4, 2) := dk_25 4 (dk_at dksJ6_put_2_1 14 rfl rfl)
theorem dJ6_put_2_39 : decode cJ6_put_2 39 = .ok (.getfield 105, 3) := dk_180 0 105 (dk_at dksJ6_put_2_1 16 rfl rfl)
theorem dJ6_put_2_42 : decode cJ6_put_2 42 = .ok (.invokeinterface 117 3, 5) := by decide +kernel
theorem dJ6_put_2_47 : decode cJ6_put_2 47 = .ok (.istore 5, 2) := dk_54 5 (dk_at dksJ6_put_2_2 0 rfl rfl)
theorem dJ6_put_2_49 : decode cJ6_put_2 49 = .ok (.iload 5, 2) := dk_21 5 (dk_at dksJ6_put_2_2 2 rfl rfl)
theorem dJ6_put_2_51 : decode cJ6_put_2 51 = .ok (.ifCond .ge 13, 3) := dk_156 0 13 (dk_at dksJ6_put_2_2 4 rfl rfl)
theorem dJ6_put_2_54 : decode cJ6_put_2 54 = .ok (.aload 4, 2) := dk_25 4 (dk_at dksJ6_put_2_2 7 rfl rfl)
theorem dJ6_put_2_56 : decode cJ6_put_2 56 = .ok (.getfield 111, 3) := dk_180 0 111 (dk_at dksJ6_put_2_2 9 rfl rfl)
theorem dJ6_put_2_59 : decode cJ6_put_2 59 = .ok (.astore 4, 2) := dk_58 4 (dk_at dksJ6_put_2_2 12 rfl rfl)
theorem dJ6_put_2_61 : decode cJ6_put_2 61 = .ok (.goto 43, 3) := dk_167 0 43 (dk_at dksJ6_put_2_2 14 rfl rfl)
theorem dJ6_put_2_64 : decode cJ6_put_2 64 = .ok (.iload 5, 2) := dk_21 5 (dk_at dksJ6_put_2_2 17 rfl rfl)
theorem dJ6_put_2_66 : decode cJ6_put_2 66 = .ok (.ifCond .le 13, 3) := dk_158 0 13 (dk_at dksJ6_put_2_2 19 rfl rfl)
theorem dJ6_put_2_69 : decode cJ6_put_2 69 = .ok (.aload 4, 2) := dk_25 4 (dk_at dksJ6_put_2_2 22 rfl rfl)
theorem dJ6_put_2_71 : decode cJ6_put_2 71 = .ok (.getfield 114, 3) := dk_180 0 114 (dk_at dksJ6_put_2_3 0 rfl rfl)
theorem dJ6_put_2_74 : decode cJ6_put_2 74 = .ok (.astore 4, 2) := dk_58 4 (dk_at dksJ6_put_2_3 3 rfl rfl)
theorem dJ6_put_2_76 : decode cJ6_put_2 76 = .ok (.goto 28, 3) := dk_167 0 28 (dk_at dksJ6_put_2_3 5 rfl rfl)
theorem dJ6_put_2_79 : decode cJ6_put_2 79 = .ok (.aload 4, 2) := dk_25 4 (dk_at dksJ6_put_2_3 8 rfl rfl)
theorem dJ6_put_2_81 : decode cJ6_put_2 81 = .ok (.getfield 58, 3) := dk_180 0 58 (dk_at dksJ6_put_2_3 10 rfl rfl)
theorem dJ6_put_2_84 : decode cJ6_put_2 84 = .ok (.astore 8, 2) := dk_58 8 (dk_at dksJ6_put_2_3 13 rfl rfl)
theorem dJ6_put_2_86 : decode cJ6_put_2 86 = .ok (.iload_n 3, 1) := dk_29 (dk_at dksJ6_put_2_3 15 rfl rfl)
theorem dJ6_put_2_87 : decode cJ6_put_2 87 = .ok (.ifCond .ne 8, 3) := dk_154 0 8 (dk_at dksJ6_put_2_3 16 rfl rfl)
theorem dJ6_put_2_90 : decode cJ6_put_2 90 = .ok (.aload 8, 2) := dk_25 8 (dk_at dksJ6_put_2_3 19 rfl rfl)
theorem dJ6_put_2_92 : decode cJ6_put_2 92 = .ok (.ifnonnull 9, 3) := dk_199 0 9 (dk_at dksJ6_put_2_3 21 rfl rfl)
theorem dJ6_put_2_95 : decode cJ6_put_2 95 = .ok (.aload 4, 2) := dk_25 4 (dk_at dksJ6_put_2_4 0 rfl rfl)
theorem dJ6_put_2_97 : decode cJ6_put_2 97 = .ok (.aload_n 2, 1) := dk_44 (dk_at dksJ6_put_2_4 2 rfl rfl)
theorem dJ6_put_2_98 : decode cJ6_put_2 98 = .ok (.putfield 58, 3) := dk_181 0 58 (dk_at dksJ6_put_2_4 3 rfl rfl)
theorem dJ6_put_2_101 : decode cJ6_put_2 101 = .ok (.aload 8, 2) := dk_25 8 (dk_at dksJ6_put_2_4 6 rfl rfl)
theorem dJ6_put_2_103 : decode cJ6_put_2 103 = .ok (.areturn, 1) := dk_176 (dk_at dksJ6_put_2_4 8 rfl rfl)
theorem dJ6_put_2_104 : decode cJ6_put_2 104 = .ok (.aload 4, 2) := dk_25 4 (dk_at dksJ6_put_2_4 9 rfl rfl)
theorem dJ6_put_2_106 : decode cJ6_put_2 106 = .ok (.ifnonnull (-76), 3) := dk_199 255 180 (dk_at dksJ6_put_2_4 11 rfl rfl)
theorem dJ6_put_2_109 : decode cJ6_put_2 109 = .ok (.goto 92, 3) := dk_167 0 92 (dk_at dksJ6_put_2_4 14 rfl rfl)
theorem dJ6_put_2_112 : decode cJ6_put_2 112 = .ok (.aload_n 1, 1) := dk_43 (dk_at dksJ6_put_2_4 17 rfl rfl)
theorem dJ6_put_2_113 : decode cJ6_put_2 113 = .ok (.invokestatic 95, 3) := dk_184 0 95 (dk_at dksJ6_put_2_4 18 rfl rfl)
theorem dJ6_put_2_116 : decode cJ6_put_2 116 = .ok (.pop, 1) := dk_87 (dk_at dksJ6_put_2_4 21 rfl rfl)
theorem dJ6_put_2_117 : decode cJ6_put_2 117 = .ok (.aload_n 1, 1) := dk_43 (dk_at dksJ6_put_2_4 22 rfl rfl)
theorem dJ6_put_2_118 : decode cJ6_put_2 118 = .ok (.checkcast 99, 3) := dk_192 0 99 (dk_at dksJ6_put_2_5 0 rfl rfl)
theorem dJ6_put_2_121 : decode cJ6_put_2 121 = .ok (.astore 8, 2) := dk_58 8 (dk_at dksJ6_put_2_5 3 rfl rfl)
theorem dJ6_put_2_123 : decode cJ6_put_2 123 = .ok (.aload 4, 2) := dk_25 4 (dk_at dksJ6_put_2_5 5 rfl rfl)
theorem dJ6_put_2_125 : decode cJ6_put_2 125 = .ok (.astore 6, 2) := dk_58 6 (dk_at dksJ6_put_2_5 7 rfl rfl)
theorem dJ6_put_2_127 : decode cJ6_put_2 127 = .ok (.aload 8, 2) := dk_25 8 (dk_at dksJ6_put_2_5 9 rfl rfl)
theorem dJ6_put_2_129 : decode cJ6_put_2 129 = .ok (.aload 4, 2) := dk_25 4 (dk_at dksJ6_put_2_5 11 rfl rfl)
theorem dJ6_put_2_131 : decode cJ6_put_2 131 = .ok (.getfield 105, 3) := dk_180 0 105 (dk_at dksJ6_put_2_5 13 rfl rfl)
theorem dJ6_put_2_134 : decode cJ6_put_2 134 = .ok (.invokeinterface 107 2, 5) := by decide +kernel
theorem dJ6_put_2_139 : decode cJ6_put_2 139 = .ok (.istore 5, 2) := dk_54 5 (dk_at dksJ6_put_2_5 21 rfl rfl)
theorem dJ6_put_2_141 : decode cJ6_put_2 141 = .ok (.iload 5, 2) := dk_21 5 (dk_at dksJ6_put_2_6 0 rfl rfl)
theorem dJ6_put_2_143 : decode cJ6_put_2 143 = .ok (.ifCond .ge 13, 3) := dk_156 0 13 (dk_at dksJ6_put_2_6 2 rfl rfl)
theorem dJ6_put_2_146 : decode cJ6_put_2 146 = .ok (.aload 4, 2) := dk_25 4 (dk_at dksJ6_put_2_6 5 rfl rfl)
theorem dJ6_put_2_148 : decode cJ6_put_2 148 = .ok (.getfield 111, 3) := dk_180 0 111 (dk_at dksJ6_put_2_6 7 rfl rfl)
theorem dJ6_put_2_151 : decode cJ6_put_2 151 = .ok (.astore 4, 2) := dk_58 4 (dk_at dksJ6_put_2_6 10 rfl rfl)
theorem dJ6_put_2_153 : decode cJ6_put_2 153 = .ok (.goto 43, 3) := dk_167 0 43 (dk_at dksJ6_put_2_6 12 rfl rfl)
theorem dJ6_put_2_156 : decode cJ6_put_2 156 = .ok (.iload 5, 2) := dk_21 5 (dk_at dksJ6_put_2_6 15 rfl rfl)
theorem dJ6_put_2_158 : decode cJ6_put_2 158 = .ok (.ifCond .le 13, 3) := dk_158 0 13 (dk_at dksJ6_put_2_6 17 rfl rfl)
theorem dJ6_put_2_161 : decode cJ6_put_2 161 = .ok (.aload 4, 2) := dk_25 4 (dk_at dksJ6_put_2_6 20 rfl rfl)
theorem dJ6_put_2_163 : decode cJ6_put_2 163 = .ok (.getfield 114, 3) := dk_180 0 114 (dk_at dksJ6_put_2_7 0 rfl rfl)
theorem dJ6_put_2_166 : decode cJ6_put_2 166 = .ok (.astore 4, 2) := dk_58 4 (dk_at dksJ6_put_2_7 3 rfl rfl)
theorem dJ6_put_2_168 : decode cJ6_put_2 168 = .ok (.goto 28, 3) := dk_167 0 28 (dk_at dksJ6_put_2_7 5 rfl rfl)
theorem dJ6_put_2_171 : decode cJ6_put_2 171 = .ok (.aload 4, 2) := dk_25 4 (dk_at dksJ6_put_2_7 8 rfl rfl)
theorem dJ6_put_2_173 : decode cJ6_put_2 173 = .ok (.getfield 58, 3) := dk_180 0 58 (dk_at dksJ6_put_2_7 10 rfl rfl)
theorem dJ6_put_2_176 : decode cJ6_put_2 176 = .ok (.astore 9, 2) := dk_58 9 (dk_at dksJ6_put_2_7 13 rfl rfl)
theorem dJ6_put_2_178 : decode cJ6_put_2 178 = .ok (.iload_n 3, 1) := dk_29 (dk_at dksJ6_put_2_7 15 rfl rfl)
theorem dJ6_put_2_179 : decode cJ6_put_2 179 = .ok (.ifCond .ne 8, 3) := dk_154 0 8 (dk_at dksJ6_put_2_7 16 rfl rfl)
theorem dJ6_put_2_182 : decode cJ6_put_2 182 = .ok (.aload 9, 2) := dk_25 9 (dk_at dksJ6_put_2_7 19 rfl rfl)
theorem dJ6_put_2_184 : decode cJ6_put_2 184 = .ok (.ifnonnull 9, 3) := dk_199 0 9 (dk_at dksJ6_put_2_7 21 rfl rfl)
theorem dJ6_put_2_187 : decode cJ6_put_2 187 = .ok (.aload 4, 2) := dk_25 4 (dk_at dksJ6_put_2_8 0 rfl rfl)
theorem dJ6_put_2_189 : decode cJ6_put_2 189 = .ok (.aload_n 2, 1) := dk_44 (dk_at dksJ6_put_2_8 2 rfl rfl)
theorem dJ6_put_2_190 : decode cJ6_put_2 190 = .ok (.putfield 58, 3) := dk_181 0 58 (dk_at dksJ6_put_2_8 3 rfl rfl)
theorem dJ6_put_2_193 : decode cJ6_put_2 193 = .ok (.aload 9, 2) := dk_25 9 (dk_at dksJ6_put_2_8 6 rfl rfl)
theorem dJ6_put_2_195 : decode cJ6_put_2 195 = .ok (.areturn, 1) := dk_176 (dk_at dksJ6_put_2_8 8 rfl rfl)
theorem dJ6_put_2_196 : decode cJ6_put_2 196 = .ok (.aload 4, 2) := dk_25 4 (dk_at dksJ6_put_2_8 9 rfl rfl)
theorem dJ6_put_2_198 : decode cJ6_put_2 198 = .ok (.ifnonnull (-75), 3) := dk_199 255 181 (dk_at dksJ6_put_2_8 11 rfl rfl)
theorem dJ6_put_2_201 : decode cJ6_put_2 201 = .ok (.aload_n 0, 1) := dk_42 (dk_at dksJ6_put_2_8 14 rfl rfl)
theorem dJ6_put_2_202 : decode cJ6_put_2 202 = .ok (.aload_n 1, 1) := dk_43 (dk_at dksJ6_put_2_8 15 rfl rfl)
theorem dJ6_put_2_203 : decode cJ6_put_2 203 = .ok (.aload_n 2, 1) := dk_44 (dk_at dksJ6_put_2_8 16 rfl rfl)
theorem dJ6_put_2_204 : decode cJ6_put_2 204 = .ok (.aload 6, 2) := dk_25 6 (dk_at dksJ6_put_2_8 17 rfl rfl)
theorem dJ6_put_2_206 : decode cJ6_put_2 206 = .ok (.iload 5, 2) := dk_21 5 (dk_at dksJ6_put_2_8 19 rfl rfl)
theorem dJ6_put_2_208 : decode cJ6_put_2 208 = .ok (.ifCond .ge 7, 3) := dk_156 0 7 (dk_at dksJ6_put_2_8 21 rfl rfl)
theorem dJ6_put_2_211 : decode cJ6_put_2 211 = .ok (.iconst 1, 1) := dk_4 (dk_at dksJ6_put_2_9 0 rfl rfl)
theorem dJ6_put_2_212 : decode cJ6_put_2 212 = .ok (.goto 4, 3) := dk_167 0 4 (dk_at dksJ6_put_2_9 1 rfl rfl)
theorem dJ6_put_2_215 : decode cJ6_put_2 215 = .ok (.iconst 0, 1) := dk_3 (dk_at dksJ6_put_2_9 4 rfl rfl)
theorem dJ6_put_2_216 : decode cJ6_put_2 216 = .ok (.invokevirtual 139, 3) := dk_182 0 139 (dk_at dksJ6_put_2_9 5 rfl rfl)
theorem dJ6_put_2_219 : decode cJ6_put_2 219 = .ok (.aconst_null, 1) := dk_1 (dk_at dksJ6_put_2_9 8 rfl rfl)
theorem dJ6_put_2_220 : decode cJ6_put_2 220 = .ok (.areturn, 1) := dk_176 (dk_at dksJ6_put_2_9 9 rfl rfl)
def dkwJ6_addEntryToEmptyMap_1 : List UInt8 := [181, 0, 7, 42, 89, 180, 0, 13, 4, 96, 181, 0, 13, 177]
abbrev dktJ6_addEntryToEmptyMap_1 : List UInt8 := dkwJ6_addEntryToEmptyMap_1 ++ []
def dkwJ6_addEntryToEmptyMap_0 : List UInt8 := [42, 43, 43, 182, 0, 123, 87, 42, 187, 0, 59, 89, 43, 44, 1, 183, 0, 167, 181, 0, 101, 42, 4]
abbrev dktJ6_addEntryToEmptyMap_0 : List UInt8 := dkwJ6_addEntryToEmptyMap_0 ++ dktJ6_addEntryToEmptyMap_1
theorem dksJ6_addEntryToEmptyMap_0 : cJ6_addEntryToEmptyMap.data.toList.drop 0 = dktJ6_addEntryToEmptyMap_0 := by decide +kernel
theorem dksJ6_addEntryToEmptyMap_1 : cJ6_addEntryToEmptyMap.data.toList.drop 23 = dktJ6_addEntryToEmptyMap_1 := dk_seg dksJ6_addEntryToEmptyMap_0 23 rfl rfl
theorem dJ6_addEntryToEmptyMap_0 : decode cJ6_addEntryToEmptyMap 0 = .ok (.aload_n 0, 1) := dk_42 (dk_at dksJ6_addEntryToEmptyMap_0 0 rfl rfl)
theorem dJ6_addEntryToEmptyMap_1 : decode cJ6_addEntryToEmptyMap 1 = .ok (.aload_n 1, 1) := dk_43 (dk_at dksJ6_addEntryToEmptyMap_0 1 rfl rfl)
theorem dJ6_addEntryToEmptyMap_2 : decode cJ6_addEntryToEmptyMap 2 = .ok (.aload_n 1, 1) := dk_43 (dk_at dksJ6_addEntryToEmptyMap_0 2 rfl rfl)
theorem dJ6_addEntryToEmptyMap_3 : decode cJ6_addEntryToEmptyMap 3 = .ok (.invokevirtual 123, 3) := dk_182 0 123 (dk_at dksJ6_addEntryToEmptyMap_0 3 rfl rfl)
theorem dJ6_addEntryToEmptyMap_6 : decode cJ6_addEntryToEmptyMap 6 = .ok (.pop, 1) := dk_87 (dk_at dksJ6_addEntryToEmptyMap_0 6 rfl rfl)
theorem dJ6_addEntryToEmptyMap_7 : decode cJ6_addEntryToEmptyMap 7 = .ok (.aload_n 0, 1) := dk_42 (dk_at dksJ6_addEntryToEmptyMap_0 7 rfl rfl)
theorem dJ6_addEntryToEmptyMap_8 : decode cJ6_addEntryToEmptyMap 8 = .ok (.new 59, 3) := dk_187 0 59 (dk_at dksJ6_addEntryToEmptyMap_0 8 rfl rfl)
theorem dJ6_addEntryToEmptyMap_11 : decode cJ6_addEntryToEmptyMap 11 = .ok (.dup, 1) := dk_89 (dk_at dksJ6_addEntryToEmptyMap_0 11 rfl rfl)
theorem dJ6_addEntryToEmptyMap_12 : decode cJ6_addEntryToEmptyMap 12 = .ok (.aload_n 1, 1) := dk_43 (dk_at dksJ6_addEntryToEmptyMap_0 12 rfl rfl)
theorem dJ6_addEntryToEmptyMap_13 : decode cJ6_addEntryToEmptyMap 13 = .ok (.aload_n 2, 1) := dk_44 (dk_at dksJ6_addEntryToEmptyMap_0 13 rfl rfl)
theorem dJ6_addEntryToEmptyMap_14 : decode cJ6_addEntryToEmptyMap 14 = .ok (.aconst_null, 1) := dk_1 (dk_at dksJ6_addEntryToEmptyMap_0 14 rfl rfl)
theorem dJ6_addEntryToEmptyMap_15 : decode cJ6_addEntryToEmptyMap 15 = .ok (.invokespecial 167, 3) := dk_183 0 167 (dk_at dksJ6_addEntryToEmptyMap_0 15 rfl rfl)
theorem dJ6_addEntryToEmptyMap_18 : decode cJ6_addEntryToEmptyMap 18 = .ok (.putfield 101, 3) := dk_181 0 101 (dk_at dksJ6_addEntryToEmptyMap_0 18 rfl rfl)
theorem dJ6_addEntryToEmptyMap_21 : decode cJ6_addEntryToEmptyMap 21 = .ok (.aload_n 0, 1) := dk_42 (dk_at dksJ6_addEntryToEmptyMap_0 21 rfl rfl)
theorem dJ6_addEntryToEmptyMap_22 : decode cJ6_addEntryToEmptyMap 22 = .ok (.iconst 1, 1) := dk_4 (dk_at dksJ6_addEntryToEmptyMap_0 22 rfl rfl)
theorem dJ6_addEntryToEmptyMap_23 : decode cJ6_addEntryToEmptyMap 23 = .ok (.putfield 7, 3) := dk_181 0 7 (dk_at dksJ6_addEntryToEmptyMap_1 0 rfl rfl)
theorem dJ6_addEntryToEmptyMap_26 : decode cJ6_addEntryToEmptyMap 26 = .ok (.aload_n 0, 1) := dk_42 (dk_at dksJ6_addEntryToEmptyMap_1 3 rfl rfl)
theorem dJ6_addEntryToEmptyMap_27 : decode cJ6_addEntryToEmptyMap 27 = .ok (.dup, 1) := dk_89 (dk_at dksJ6_addEntryToEmptyMap_1 4 rfl rfl)
theorem dJ6_addEntryToEmptyMap_28 : decode cJ6_addEntryToEmptyMap 28 = .ok (.getfield 13, 3) := dk_180 0 13 (dk_at dksJ6_addEntryToEmptyMap_1 5 rfl rfl)
theorem dJ6_addEntryToEmptyMap_31 : decode cJ6_addEntryToEmptyMap 31 = .ok (.iconst 1, 1) := dk_4 (dk_at dksJ6_addEntryToEmptyMap_1 8 rfl rfl)
theorem dJ6_addEntryToEmptyMap_32 : decode cJ6_addEntryToEmptyMap 32 = .ok (.iadd, 1) := dk_96 (dk_at dksJ6_addEntryToEmptyMap_1 9 rfl rfl)
theorem dJ6_addEntryToEmptyMap_33 : decode cJ6_addEntryToEmptyMap 33 = .ok (.putfield 13, 3) := dk_181 0 13 (dk_at dksJ6_addEntryToEmptyMap_1 10 rfl rfl)
theorem dJ6_addEntryToEmptyMap_36 : decode cJ6_addEntryToEmptyMap 36 = .ok (.return_, 1) := dk_177 (dk_at dksJ6_addEntryToEmptyMap_1 13 rfl rfl)
def dkwJ6_compare_1 : List UInt8 := [43, 44, 185, 0, 117, 3, 0, 172]
abbrev dktJ6_compare_1 : List UInt8 := dkwJ6_compare_1 ++ []
def dkwJ6_compare_0 : List UInt8 := [42, 180, 0, 16, 199, 0, 16, 43, 192, 0, 99, 44, 185, 0, 107, 2, 0, 167, 0, 14, 42, 180, 0, 16]
abbrev dktJ6_compare_0 : List UInt8 := dkwJ6_compare_0 ++ dktJ6_compare_1
theorem dksJ6_compare_0 : cJ6_compare.data.toList.drop 0 = dktJ6_compare_0 := by decide +kernel
theorem dksJ6_compare_1 : cJ6_compare.data.toList.drop 24 = dktJ6_compare_1 := dk_seg dksJ6_compare_0 24 rfl rfl
theorem dJ6_compare_0 : decode cJ6_compare 0 = .ok (.aload_n 0, 1) := dk_42 (dk_at dksJ6_compare_0 0 rfl rfl)
theorem dJ6_compare_1 : decode cJ6_compare 1 = .ok (.getfield 16, 3) := dk_180 0 16 (dk_at dksJ6_compare_0 1 rfl rfl)
theorem dJ6_compare_4 : decode cJ6_compare 4 = .ok (.ifnonnull 16, 3) := dk_199 0 16 (dk_at dksJ6_compare_0 4 rfl rfl)
theorem dJ6_compare_7 : decode cJ6_compare 7 = .ok (.aload_n 1, 1) := dk_43 (dk_at dksJ6_compare_0 7 rfl rfl)
theorem dJ6_compare_8 : decode cJ6_compare 8 = .ok (.checkcast 99, 3) := dk_192 0 99 (dk_at dksJ6_compare_0 8 rfl rfl)
theorem dJ6_compare_11 : decode cJ6_compare 11 = .ok (.aload_n 2, 1) := dk_44 (dk_at dksJ6_compare_0 11 rfl rfl)
theorem dJ6_compare_12 : decode cJ6_compare 12 = .ok (.invokeinterface 107 2, 5) := by decide +kernel
theorem dJ6_compare_17 : decode cJ6_compare 17 = .ok (.goto 14, 3) := dk_167 0 14 (dk_at dksJ6_compare_0 17 rfl rfl)
theorem dJ6_compare_20 : decode cJ6_compare 20 = .ok (.aload_n 0, 1) := dk_42 (dk_at dksJ6_compare_0 20 rfl rfl)
theorem dJ6_compare_21 : decode cJ6_compare 21 = .ok (.getfield 16, 3) := dk_180 0 16 (dk_at dksJ6_compare_0 21 rfl rfl)
theorem dJ6_compare_24 : decode cJ6_compare 24 = .ok (.aload_n 1, 1) := dk_43 (dk_at dksJ6_compare_1 0 rfl rfl)
theorem dJ6_compare_25 : decode cJ6_compare 25 = .ok (.aload_n 2, 1) := dk_44 (dk_at dksJ6_compare_1 1 rfl rfl)
theorem dJ6_compare_26 : decode cJ6_compare 26 = .ok (.invokeinterface 117 3, 5) := by decide +kernel
theorem dJ6_compare_31 : decode cJ6_compare 31 = .ok (.ireturn, 1) := dk_172 (dk_at dksJ6_compare_1 7 rfl rfl)
def dkwJ6_addEntry_2 : List UInt8 := [181, 0, 7, 42, 89, 180, 0, 13, 4, 96, 181, 0, 13, 177]
abbrev dktJ6_addEntry_2 : List UInt8 := dkwJ6_addEntry_2 ++ []
def dkwJ6_addEntry_1 : List UInt8 := [167, 0, 9, 45, 25, 5, 181, 0, 114, 42, 25, 5, 182, 0, 170, 42, 89, 180, 0, 7, 4, 96]
abbrev dktJ6_addEntry_1 : List UInt8 := dkwJ6_addEntry_1 ++ dktJ6_addEntry_2
def dkwJ6_addEntry_0 : List UInt8 := [187, 0, 59, 89, 43, 44, 45, 183, 0, 167, 58, 5, 21, 4, 153, 0, 12, 45, 25, 5, 181, 0, 111]
abbrev dktJ6_addEntry_0 : List UInt8 := dkwJ6_addEntry_0 ++ dktJ6_addEntry_1
theorem dksJ6_addEntry_0 : cJ6_addEntry.data.toList.drop 0 = dktJ6_addEntry_0 := by decide +kernel
theorem dksJ6_addEntry_1 : cJ6_addEntry.data.toList.drop 23 = dktJ6_addEntry_1 := dk_seg dksJ6_addEntry_0 23 rfl rfl
theorem dksJ6_addEntry_2 : cJ6_addEntry.data.toList.drop 45 = dktJ6_addEntry_2 := dk_seg dksJ6_addEntry_1 22 rfl rfl
theorem dJ6_addEntry_0 : decode cJ6_addEntry 0 = .ok (.new 59, 3) := dk_187 0 59 (dk_at dksJ6_addEntry_0 0 rfl rfl)
theorem dJ6_addEntry_3 : decode cJ6_addEntry 3 = .ok (.dup, 1) := dk_89 (dk_at dksJ6_addEntry_0 3 rfl rfl)
theorem dJ6_addEntry_4 : decode cJ6_addEntry 4 = .ok (.aload_n 1, 1) := dk_43 (dk_at dksJ6_addEntry_0 4 rfl rfl)
theorem dJ6_addEntry_5 : decode cJ6_addEntry 5 = .ok (.aload_n 2, 1) := dk_44 (dk_at dksJ6_addEntry_0 5 rfl rfl)
theorem dJ6_addEntry_6 : decode cJ6_addEntry 6 = .ok (.aload_n 3, 1) := dk_45 (dk_at dksJ6_addEntry_0 6 rfl rfl)
theorem dJ6_addEntry_7 : decode cJ6_addEntry 7 = .ok (.invokespecial 167, 3) := dk_183 0 167 (dk_at dksJ6_addEntry_0 7 rfl rfl)
theorem dJ6_addEntry_10 : decode cJ6_addEntry 10 = .ok (.astore 5, 2) := dk_58 5 (dk_at dksJ6_addEntry_0 10 rfl rfl)
theorem dJ6_addEntry_12 : decode cJ6_addEntry 12 = .ok (.iload 4, 2) := dk_21 4 (dk_at dksJ6_addEntry_0 12 rfl rfl)
theorem dJ6_addEntry_14 : decode cJ6_addEntry 14 = .ok (.ifCond .eq 12, 3) := dk_153 0 12 (dk_at dksJ6_addEntry_0 14 rfl rfl)
theorem dJ6_addEntry_17 : decode cJ6_addEntry 17 = .ok (.aload_n 3, 1) := dk_45 (dk_at dksJ6_addEntry_0 17 rfl rfl)
theorem dJ6_addEntry_18 : decode cJ6_addEntry 18 = .ok (.aload 5, 2) := dk_25 5 (dk_at dksJ6_addEntry_0 18 rfl rfl)
theorem dJ6_addEntry_20 : decode cJ6_addEntry 20 = .ok (.putfield 111, 3) := dk_181 0 111 (dk_at dksJ6_addEntry_0 20 rfl rfl)
theorem dJ6_addEntry_23 : decode cJ6_addEntry 23 = .ok (.goto 9, 3) := dk_167 0 9 (dk_at dksJ6_addEntry_1 0 rfl rfl)
theorem dJ6_addEntry_26 : decode cJ6_addEntry 26 = .ok (.aload_n 3, 1) := dk_45 (dk_at dksJ6_addEntry_1 3 rfl rfl)
theorem dJ6_addEntry_27 : decode cJ6_addEntry 27 = .ok (.aload 5, 2) := dk_25 5 (dk_at dksJ6_addEntry_1 4 rfl rfl)
theorem dJ6_addEntry_29 : decode cJ6_addEntry 29 = .ok (.putfield 114, 3) := dk_181 0 114 (dk_at dksJ6_addEntry_1 6 rfl rfl)
theorem dJ6_addEntry_32 : decode cJ6_addEntry 32 = .ok (.aload_n 0, 1) := dk_42 (dk_at dksJ6_addEntry_1 9 rfl rfl)
theorem dJ6_addEntry_33 : decode cJ6_addEntry 33 = .ok (.aload 5, 2) := dk_25 5 (dk_at dksJ6_addEntry_1 10 rfl rfl)
theorem dJ6_addEntry_35 : decode cJ6_addEntry 35 = .ok (.invokevirtual 170, 3) := dk_182 0 170 (dk_at dksJ6_addEntry_1 12 rfl rfl)
theorem dJ6_addEntry_38 : decode cJ6_addEntry 38 = .ok (.aload_n 0, 1) := dk_42 (dk_at dksJ6_addEntry_1 15 rfl rfl)
theorem dJ6_addEntry_39 : decode cJ6_addEntry 39 = .ok (.dup, 1) := dk_89 (dk_at dksJ6_addEntry_1 16 rfl rfl)
theorem dJ6_addEntry_40 : decode cJ6_addEntry 40 = .ok (.getfield 7, 3) := dk_180 0 7 (dk_at dksJ6_addEntry_1 17 rfl rfl)
theorem dJ6_addEntry_43 : decode cJ6_addEntry 43 = .ok (.iconst 1, 1) := dk_4 (dk_at dksJ6_addEntry_1 20 rfl rfl)
theorem dJ6_addEntry_44 : decode cJ6_addEntry 44 = .ok (.iadd, 1) := dk_96 (dk_at dksJ6_addEntry_1 21 rfl rfl)
theorem dJ6_addEntry_45 : decode cJ6_addEntry 45 = .ok (.putfield 7, 3) := dk_181 0 7 (dk_at dksJ6_addEntry_2 0 rfl rfl)
theorem dJ6_addEntry_48 : decode cJ6_addEntry 48 = .ok (.aload_n 0, 1) := dk_42 (dk_at dksJ6_addEntry_2 3 rfl rfl)
theorem dJ6_addEntry_49 : decode cJ6_addEntry 49 = .ok (.dup, 1) := dk_89 (dk_at dksJ6_addEntry_2 4 rfl rfl)
theorem dJ6_addEntry_50 : decode cJ6_addEntry 50 = .ok (.getfield 13, 3) := dk_180 0 13 (dk_at dksJ6_addEntry_2 5 rfl rfl)
theorem dJ6_addEntry_53 : decode cJ6_addEntry 53 = .ok (.iconst 1, 1) := dk_4 (dk_at dksJ6_addEntry_2 8 rfl rfl)
theorem dJ6_addEntry_54 : decode cJ6_addEntry 54 = .ok (.iadd, 1) := dk_96 (dk_at dksJ6_addEntry_2 9 rfl rfl)
theorem dJ6_addEntry_55 : decode cJ6_addEntry 55 = .ok (.putfield 13, 3) := dk_181 0 13 (dk_at dksJ6_addEntry_2 10 rfl rfl)
theorem dJ6_addEntry_58 : decode cJ6_addEntry 58 = .ok (.return_, 1) := dk_177 (dk_at dksJ6_addEntry_2 13 rfl rfl)
def dkwJ6_fixAfterInsertion_11 : List UInt8 := [42, 180, 0, 101, 4, 181, 1, 34, 177]
abbrev dktJ6_fixAfterInsertion_11 : List UInt8 := dkwJ6_fixAfterInsertion_11 ++ []
def dkwJ6_fixAfterInsertion_10 : List UInt8 := [184, 1, 38, 184, 1, 38, 3, 184, 1, 51, 42, 43, 184, 1, 38, 184, 1, 38, 182, 1, 55, 167, 255, 6]
abbrev dktJ6_fixAfterInsertion_10 : List UInt8 := dkwJ6_fixAfterInsertion_10 ++ dktJ6_fixAfterInsertion_11
def dkwJ6_fixAfterInsertion_9 : List UInt8 := [166, 0, 13, 43, 184, 1, 38, 76, 42, 43, 182, 1, 58, 43, 184, 1, 38, 4, 184, 1, 51, 43]
abbrev dktJ6_fixAfterInsertion_9 : List UInt8 := dkwJ6_fixAfterInsertion_9 ++ dktJ6_fixAfterInsertion_10
def dkwJ6_fixAfterInsertion_8 : List UInt8 := [184, 1, 51, 43, 184, 1, 38, 184, 1, 38, 76, 167, 0, 54, 43, 43, 184, 1, 38, 184, 1, 41]
abbrev dktJ6_fixAfterInsertion_8 : List UInt8 := dkwJ6_fixAfterInsertion_8 ++ dktJ6_fixAfterInsertion_9
def dkwJ6_fixAfterInsertion_7 : List UInt8 := [154, 0, 38, 43, 184, 1, 38, 4, 184, 1, 51, 44, 4, 184, 1, 51, 43, 184, 1, 38, 184, 1, 38, 3]
abbrev dktJ6_fixAfterInsertion_7 : List UInt8 := dkwJ6_fixAfterInsertion_7 ++ dktJ6_fixAfterInsertion_8
def dkwJ6_fixAfterInsertion_6 : List UInt8 := [184, 1, 38, 182, 1, 58, 167, 255, 113, 43, 184, 1, 38, 184, 1, 38, 184, 1, 41, 77, 44, 184, 1, 47]
abbrev dktJ6_fixAfterInsertion_6 : List UInt8 := dkwJ6_fixAfterInsertion_6 ++ dktJ6_fixAfterInsertion_7
def dkwJ6_fixAfterInsertion_5 : List UInt8 := [43, 184, 1, 38, 4, 184, 1, 51, 43, 184, 1, 38, 184, 1, 38, 3, 184, 1, 51, 42, 43, 184, 1, 38]
abbrev dktJ6_fixAfterInsertion_5 : List UInt8 := dkwJ6_fixAfterInsertion_5 ++ dktJ6_fixAfterInsertion_6
def dkwJ6_fixAfterInsertion_4 : List UInt8 := [167, 0, 54, 43, 43, 184, 1, 38, 184, 1, 44, 166, 0, 13, 43, 184, 1, 38, 76, 42, 43, 182, 1, 55]
abbrev dktJ6_fixAfterInsertion_4 : List UInt8 := dkwJ6_fixAfterInsertion_4 ++ dktJ6_fixAfterInsertion_5
def dkwJ6_fixAfterInsertion_3 : List UInt8 := [184, 1, 51, 43, 184, 1, 38, 184, 1, 38, 3, 184, 1, 51, 43, 184, 1, 38, 184, 1, 38, 76]
abbrev dktJ6_fixAfterInsertion_3 : List UInt8 := dkwJ6_fixAfterInsertion_3 ++ dktJ6_fixAfterInsertion_4
def dkwJ6_fixAfterInsertion_2 : List UInt8 := [184, 1, 38, 184, 1, 44, 77, 44, 184, 1, 47, 154, 0, 38, 43, 184, 1, 38, 4, 184, 1, 51, 44, 4]
abbrev dktJ6_fixAfterInsertion_2 : List UInt8 := dkwJ6_fixAfterInsertion_2 ++ dktJ6_fixAfterInsertion_3
def dkwJ6_fixAfterInsertion_1 : List UInt8 := [154, 0, 234, 43, 184, 1, 38, 43, 184, 1, 38, 184, 1, 38, 184, 1, 41, 166, 0, 110, 43, 184, 1, 38]
abbrev dktJ6_fixAfterInsertion_1 : List UInt8 := dkwJ6_fixAfterInsertion_1 ++ dktJ6_fixAfterInsertion_2
def dkwJ6_fixAfterInsertion_0 : List UInt8 := [43, 3, 181, 1, 34, 43, 198, 0, 252, 43, 42, 180, 0, 101, 165, 0, 244, 43, 180, 0, 124, 180, 1, 34]
abbrev dktJ6_fixAfterInsertion_0 : List UInt8 := dkwJ6_fixAfterInsertion_0 ++ dktJ6_fixAfterInsertion_1
theorem dksJ6_fixAfterInsertion_0 : cJ6_fixAfterInsertion.data.toList.drop 0 = dktJ6_fixAfterInsertion_0 := by decide +kernel
theorem dksJ6_fixAfterInsertion_1 : cJ6_fixAfterInsertion.data.toList.drop 24 = dktJ6_fixAfterInsertion_1 := dk_seg dksJ6_fixAfterInsertion_0 24 rfl rfl
theorem dksJ6_fixAfterInsertion_2 : cJ6_fixAfterInsertion.data.toList.drop 48 = dktJ6_fixAfterInsertion_2 := dk_seg dksJ6_fixAfterInsertion_1 24 rfl rfl
theorem dksJ6_fixAfterInsertion_3 : cJ6_fixAfterInsertion.data.toList.drop 72 = dktJ6_fixAfterInsertion_3 := dk_seg dksJ6_fixAfterInsertion_2 24 rfl rfl
theorem dksJ6_fixAfterInsertion_4 : cJ6_fixAfterInsertion.data.toList.drop 94 = dktJ6_fixAfterInsertion_4 := dk_seg dksJ6_fixAfterInsertion_3 22 rfl rfl
theorem dksJ6_fixAfterInsertion_5 : cJ6_fixAfterInsertion.data.toList.drop 118 = dktJ6_fixAfterInsertion_5 := dk_seg dksJ6_fixAfterInsertion_4 24 rfl rfl
theorem dksJ6_fixAfterInsertion_6 : cJ6_fixAfterInsertion.data.toList.drop 142 = dktJ6_fixAfterInsertion_6 := dk_seg dksJ6_fixAfterInsertion_5 24 rfl rfl
theorem dksJ6_fixAfterInsertion_7 : cJ6_fixAfterInsertion.data.toList.drop 166 = dktJ6_fixAfterInsertion_7 := dk_seg dksJ6_fixAfterInsertion_6 24 rfl rfl
theorem dksJ6_fixAfterInsertion_8 : cJ6_fixAfterInsertion.data.toList.drop 190 = dktJ6_fixAfterInsertion_8 := dk_seg dksJ6_fixAfterInsertion_7 24 rfl rfl
theorem dksJ6_fixAfterInsertion_9 : cJ6_fixAfterInsertion.data.toList.drop 212 = dktJ6_fixAfterInsertion_9 := dk_seg dksJ6_fixAfterInsertion_8 22 rfl rfl
theorem dksJ6_fixAfterInsertion_10 : cJ6_fixAfterInsertion.data.toList.drop 234 = dktJ6_fixAfterInsertion_10 := dk_seg dksJ6_fixAfterInsertion_9 22 rfl rfl
theorem dksJ6_fixAfterInsertion_11 : cJ6_fixAfterInsertion.data.toList.drop 258 = dktJ6_fixAfterInsertion_11 := dk_seg dksJ6_fixAfterInsertion_10 24 rfl rfl
theorem dJ6_fixAfterInsertion_0 : decode cJ6_fixAfterInsertion 0 = .ok (.aload_n 1, 1) := dk_43 (dk_at dksJ6_fixAfterInsertion_0 0 rfl rfl)
theorem dJ6_fixAfterInsertion_1 : decode cJ6_fixAfterInsertion 1 = .ok (.iconst 0, 1) := dk_3 (dk_at dksJ6_fixAfterInsertion_0 1 rfl rfl)
theorem dJ6_fixAfterInsertion_2 : decode cJ6_fixAfterInsertion 2 = .ok (.putfield 290, 3) := dk_181 1 34 (dk_at dksJ6_fixAfterInsertion_0 2 rfl rfl)
theorem dJ6_fixAfterInsertion_5 : decode cJ6_fixAfterInsertion 5 = .ok (.aload_n 1, 1) := dk_43 (dk_at dksJ6_fixAfterInsertion_0 5 rfl rfl)
theorem dJ6_fixAfterInsertion_6 : decode cJ6_fixAfterInsertion 6 = .ok (.ifnull 252, 3) := dk_198 0 252 (dk_at dksJ6_fixAfterInsertion_0 6 rfl rfl)
theorem dJ6_fixAfterInsertion_9 : decode cJ6_fixAfterInsertion 9 = .ok (.aload_n 1, 1) := dk_43 (dk_at dksJ6_fixAfterInsertion_0 9 rfl rfl)
theorem dJ6_fixAfterInsertion_10 : decode cJ6_fixAfterInsertion 10 = .ok (.aload_n 0, 1) := dk_42 (dk_at dksJ6_fixAfterInsertion_0 10 rfl rfl)
theorem dJ6_fixAfterInsertion_11 : decode cJ6_fixAfterInsertion 11 = .ok (.getfield 101, 3) := dk_180 0 101 (dk_at dksJ6_fixAfterInsertion_0 11 rfl rfl)
theorem dJ6_fixAfterInsertion_14 : decode cJ6_fixAfterInsertion 14 = .ok (.if_acmp .eq 244, 3) := dk_165 0 244 (dk_at dksJ6_fixAfterInsertion_0 14 rfl rfl)
theorem dJ6_fixAfterInsertion_17 : decode cJ6_fixAfterInsertion 17 = .ok (.aload_n 1, 1) := dk_43 (dk_at dksJ6_fixAfterInsertion_0 17 rfl rfl)
theorem dJ6_fixAfterInsertion_18 : decode cJ6_fixAfterInsertion 18 = .ok (.getfield 124, 3) := dk_180 0 124 (dk_at dksJ6_fixAfterInsertion_0 18 rfl rfl)
theorem dJ6_fixAfterInsertion_21 : decode cJ6_fixAfterInsertion 21 = .ok (.getfield 290, 3) := dk_180 1 34 (dk_at dksJ6_fixAfterInsertion_0 21 rfl rfl)
theorem dJ6_fixAfterInsertion_24 : decode cJ6_fixAfterInsertion 24 = .ok (.ifCond .ne 234, 3) := dk_154 0 234 (dk_at dksJ6_fixAfterInsertion_1 0 rfl rfl)
theorem dJ6_fixAfterInsertion_27 : decode cJ6_fixAfterInsertion 27 = .ok (.aload_n 1, 1) := dk_43 (dk_at dksJ6_fixAfterInsertion_1 3 rfl rfl)
theorem dJ6_fixAfterInsertion_28 : decode cJ6_fixAfterInsertion 28 = .ok (.invokestatic 294, 3) := dk_184 1 38 (dk_at dksJ6_fixAfterInsertion_1 4 rfl rfl)
theorem dJ6_fixAfterInsertion_31 : decode cJ6_fixAfterInsertion 31 = .ok (.aload_n 1, 1) := dk_43 (dk_at dksJ6_fixAfterInsertion_1 7 rfl rfl)
theorem dJ6_fixAfterInsertion_32 : decode cJ6_fixAfterInsertion 32 = .ok (.invokestatic 294, 3) := dk_184 1 38 (dk_at dksJ6_fixAfterInsertion_1 8 rfl rfl)
theorem dJ6_fixAfterInsertion_35 : decode cJ6_fixAfterInsertion 35 = .ok (.invokestatic 294, 3) := dk_184 1 38 (dk_at dksJ6_fixAfterInsertion_1 11 rfl rfl)
theorem dJ6_fixAfterInsertion_38 : decode cJ6_fixAfterInsertion 38 = .ok (.invokestatic 297, 3) := dk_184 1 41 (dk_at dksJ6_fixAfterInsertion_1 14 rfl rfl)
theorem dJ6_fixAfterInsertion_41 : decode cJ6_fixAfterInsertion 41 = .ok (.if_acmp .ne 110, 3) := dk_166 0 110 (dk_at dksJ6_fixAfterInsertion_1 17 rfl rfl)
theorem dJ6_fixAfterInsertion_44 : decode cJ6_fixAfterInsertion 44 = .ok (.aload_n 1, 1) := dk_43 (dk_at dksJ6_fixAfterInsertion_1 20 rfl rfl)
theorem dJ6_fixAfterInsertion_45 : decode cJ6_fixAfterInsertion 45 = .ok (.invokestatic 294, 3) := dk_184 1 38 (dk_at dksJ6_fixAfterInsertion_1 21 rfl rfl)
theorem dJ6_fixAfterInsertion_48 : decode cJ6_fixAfterInsertion 48 = .ok (.invokestatic 294, 3) := dk_184 1 38 (dk_at dksJ6_fixAfterInsertion_2 0 rfl rfl)
theorem dJ6_fixAfterInsertion_51 : decode cJ6_fixAfterInsertion 51 = .ok (.invokestatic 300, 3) := dk_184 1 44 (dk_at dksJ6_fixAfterInsertion_2 3 rfl rfl)
theorem dJ6_fixAfterInsertion_54 : decode cJ6_fixAfterInsertion 54 = .ok (.astore_n 2, 1) := dk_77 (dk_at dksJ6_fixAfterInsertion_2 6 rfl rfl)
theorem dJ6_fixAfterInsertion_55 : decode cJ6_fixAfterInsertion 55 = .ok (.aload_n 2, 1) := dk_44 (dk_at dksJ6_fixAfterInsertion_2 7 rfl rfl)
theorem dJ6_fixAfterInsertion_56 : decode cJ6_fixAfterInsertion 56 = .ok (.invokestatic 303, 3) := dk_184 1 47 (dk_at dksJ6_fixAfterInsertion_2 8 rfl rfl)
theorem dJ6_fixAfterInsertion_59 : decode cJ6_fixAfterInsertion 59 = .ok (.ifCond .ne 38, 3) := dk_154 0 38 (dk_at dksJ6_fixAfterInsertion_2 11 rfl rfl)
theorem dJ6_fixAfterInsertion_62 : decode cJ6_fixAfterInsertion 62 = .ok (.aload_n 1, 1) := dk_43 (dk_at dksJ6_fixAfterInsertion_2 14 rfl rfl)
theorem dJ6_fixAfterInsertion_63 : decode cJ6_fixAfterInsertion 63 = .ok (.invokestatic 294, 3) := dk_184 1 38 (dk_at dksJ6_fixAfterInsertion_2 15 rfl rfl)
theorem dJ6_fixAfterInsertion_66 : decode cJ6_fixAfterInsertion 66 = .ok (.iconst 1, 1) := dk_4 (dk_at dksJ6_fixAfterInsertion_2 18 rfl rfl)
theorem dJ6_fixAfterInsertion_67 : decode cJ6_fixAfterInsertion 67 = .ok (.invokestatic 307, 3) := dk_184 1 51 (dk_at dksJ6_fixAfterInsertion_2 19 rfl rfl)
theorem dJ6_fixAfterInsertion_70 : decode cJ6_fixAfterInsertion 70 = .ok (.aload_n 2, 1) := dk_44 (dk_at dksJ6_fixAfterInsertion_2 22 rfl rfl)
theorem dJ6_fixAfterInsertion_71 : decode cJ6_fixAfterInsertion 71 = .ok (.iconst 1, 1) := dk_4 (dk_at dksJ6_fixAfterInsertion_2 23 rfl rfl)
theorem dJ6_fixAfterInsertion_72 : decode cJ6_fixAfterInsertion 72 = .ok (.invokestatic 307, 3) := dk_184 1 51 (dk_at dksJ6_fixAfterInsertion_3 0 rfl rfl)
theorem dJ6_fixAfterInsertion_75 : decode cJ6_fixAfterInsertion 75 = .ok (.aload_n 1, 1) := dk_43 (dk_at dksJ6_fixAfterInsertion_3 3 rfl rfl)
theorem dJ6_fixAfterInsertion_76 : decode cJ6_fixAfterInsertion 76 = .ok (.invokestatic 294, 3) := dk_184 1 38 (dk_at dksJ6_fixAfterInsertion_3 4 rfl rfl)
theorem dJ6_fixAfterInsertion_79 : decode cJ6_fixAfterInsertion 79 = .ok (.invokestatic 294, 3) := dk_184 1 38 (dk_at dksJ6_fixAfterInsertion_3 7 rfl rfl)
theorem dJ6_fixAfterInsertion_82 : decode cJ6_fixAfterInsertion 82 = .ok (.iconst 0, 1) := dk_3 (dk_at dksJ6_fixAfterInsertion_3 10 rfl rfl)
theorem dJ6_fixAfterInsertion_83 : decode cJ6_fixAfterInsertion 83 = .ok (.invokestatic 307, 3) := dk_184 1 51 (dk_at dksJ6_fixAfterInsertion_3 11 rfl rfl)
theorem dJ6_fixAfterInsertion_86 : decode cJ6_fixAfterInsertion 86 = .ok (.aload_n 1, 1) := dk_43 (dk_at dksJ6_fixAfterInsertion_3 14 rfl rfl)
theorem dJ6_fixAfterInsertion_87 : decode cJ6_fixAfterInsertion 87 = .ok (.invokestatic 294, 3) := dk_184 1 38 (dk_at dksJ6_fixAfterInsertion_3 15 rfl rfl)
theorem dJ6_fixAfterInsertion_90 : decode cJ6_fixAfterInsertion 90 = .ok (.invokestatic 294, 3) := dk_184 1 38 (dk_at dksJ6_fixAfterInsertion_3 18 rfl rfl)
theorem dJ6_fixAfterInsertion_93 : decode cJ6_fixAfterInsertion 93 = .ok (.astore_n 1, 1) := dk_76 (dk_at dksJ6_fixAfterInsertion_3 21 rfl rfl)
theorem dJ6_fixAfterInsertion_94 : decode cJ6_fixAfterInsertion 94 = .ok (.goto 54, 3) := dk_167 0 54 (dk_at dksJ6_fixAfterInsertion_4 0 rfl rfl)
theorem dJ6_fixAfterInsertion_97 : decode cJ6_fixAfterInsertion 97 = .ok (.aload_n 1, 1) := dk_43 (dk_at dksJ6_fixAfterInsertion_4 3 rfl rfl)
theorem dJ6_fixAfterInsertion_98 : decode cJ6_fixAfterInsertion 98 = .ok (.aload_n 1, 1) := dk_43 (dk_at dksJ6_fixAfterInsertion_4 4 rfl rfl)
theorem dJ6_fixAfterInsertion_99 : decode cJ6_fixAfterInsertion 99 = .ok (.invokestatic 294, 3) := dk_184 1 38 (dk_at dksJ6_fixAfterInsertion_4 5 rfl rfl)
theorem dJ6_fixAfterInsertion_102 : decode cJ6_fixAfterInsertion 102 = .ok (.invokestatic 300, 3) := dk_184 1 44 (dk_at dksJ6_fixAfterInsertion_4 8 rfl rfl)
theorem dJ6_fixAfterInsertion_105 : decode cJ6_fixAfterInsertion 105 = .ok (.if_acmp .ne 13, 3) := dk_166 0 13 (dk_at dksJ6_fixAfterInsertion_4 11 rfl rfl)
theorem dJ6_fixAfterInsertion_108 : decode cJ6_fixAfterInsertion 108 = .ok (.aload_n 1, 1) := dk_43 (dk_at dksJ6_fixAfterInsertion_4 14 rfl rfl)
theorem dJ6_fixAfterInsertion_109 : decode cJ6_fixAfterInsertion 109 = .ok (.invokestatic 294, 3) := dk_184 1 38 (dk_at dksJ6_fixAfterInsertion_4 15 rfl rfl)
theorem dJ6_fixAfterInsertion_112 : decode cJ6_fixAfterInsertion 112 = .ok (.astore_n 1, 1) := dk_76 (dk_at dksJ6_fixAfterInsertion_4 18 rfl rfl)
theorem dJ6_fixAfterInsertion_113 : decode cJ6_fixAfterInsertion 113 = .ok (.aload_n 0, 1) := dk_42 (dk_at dksJ6_fixAfterInsertion_4 19 rfl rfl)
theorem dJ6_fixAfterInsertion_114 : decode cJ6_fixAfterInsertion 114 = .ok (.aload_n 1, 1) := dk_43 (dk_at dksJ6_fixAfterInsertion_4 20 rfl rfl)
theorem dJ6_fixAfterInsertion_115 : decode cJ6_fixAfterInsertion 115 = .ok (.invokevirtual 311, 3) := dk_182 1 55 (dk_at dksJ6_fixAfterInsertion_4 21 rfl rfl)
theorem dJ6_fixAfterInsertion_118 : decode cJ6_fixAfterInsertion 118 = .ok (.aload_n 1, 1) := dk_43 (dk_at dksJ6_fixAfterInsertion_5 0 rfl rfl)
theorem dJ6_fixAfterInsertion_119 : decode cJ6_fixAfterInsertion 119 = .ok (.invokestatic 294, 3) := dk_184 1 38 (dk_at dksJ6_fixAfterInsertion_5 1 rfl rfl)
theorem dJ6_fixAfterInsertion_122 : decode cJ6_fixAfterInsertion 122 = .ok (.iconst 1, 1) := dk_4 (dk_at dksJ6_fixAfterInsertion_5 4 rfl rfl)
theorem dJ6_fixAfterInsertion_123 : decode cJ6_fixAfterInsertion 123 = .ok (.invokestatic 307, 3) := dk_184 1 51 (dk_at dksJ6_fixAfterInsertion_5 5 rfl rfl)
theorem dJ6_fixAfterInsertion_126 : decode cJ6_fixAfterInsertion 126 = .ok (.aload_n 1, 1) := dk_43 (dk_at dksJ6_fixAfterInsertion_5 8 rfl rfl)
theorem dJ6_fixAfterInsertion_127 : decode cJ6_fixAfterInsertion 127 = .ok (.invokestatic 294, 3) := dk_184 1 38 (dk_at dksJ6_fixAfterInsertion_5 9 rfl rfl)
theorem dJ6_fixAfterInsertion_130 : decode cJ6_fixAfterInsertion 130 = .ok (.invokestatic 294, 3) := dk_184 1 38 (dk_at dksJ6_fixAfterInsertion_5 12 rfl rfl)
theorem dJ6_fixAfterInsertion_133 : decode cJ6_fixAfterInsertion 133 = .ok (.iconst 0, 1) := dk_3 (dk_at dksJ6_fixAfterInsertion_5 15 rfl rfl)
theorem dJ6_fixAfterInsertion_134 : decode cJ6_fixAfterInsertion 134 = .ok (.invokestatic 307, 3) := dk_184 1 51 (dk_at dksJ6_fixAfterInsertion_5 16 rfl rfl)
theorem dJ6_fixAfterInsertion_137 : decode cJ6_fixAfterInsertion 137 = .ok (.aload_n 0, 1) := dk_42 (dk_at dksJ6_fixAfterInsertion_5 19 rfl rfl)
theorem dJ6_fixAfterInsertion_138 : decode cJ6_fixAfterInsertion 138 = .ok (.aload_n 1, 1) := dk_43 (dk_at dksJ6_fixAfterInsertion_5 20 rfl rfl)
theorem dJ6_fixAfterInsertion_139 : decode cJ6_fixAfterInsertion 139 = .ok (.invokestatic 294, 3) := dk_184 1 38 (dk_at dksJ6_fixAfterInsertion_5 21 rfl rfl)
theorem dJ6_fixAfterInsertion_142 : decode cJ6_fixAfterInsertion 142 = .ok (.invokestatic 294, 3) := dk_184 1 38 (dk_at dksJ6_fixAfterInsertion_6 0 rfl rfl)
theorem dJ6_fixAfterInsertion_145 : decode cJ6_fixAfterInsertion 145 = .ok (.invokevirtual 314, 3) := dk_182 1 58 (dk_at dksJ6_fixAfterInsertion_6 3 rfl rfl)
theorem dJ6_fixAfterInsertion_148 : decode cJ6_fixAfterInsertion 148 = .ok (.goto (-143), 3) := dk_167 255 113 (dk_at dksJ6_fixAfterInsertion_6 6 rfl rfl)
theorem dJ6_fixAfterInsertion_151 : decode cJ6_fixAfterInsertion 151 = .ok (.aload_n 1, 1) := dk_43 (dk_at dksJ6_fixAfterInsertion_6 9 rfl rfl)
theorem dJ6_fixAfterInsertion_152 : decode cJ6_fixAfterInsertion 152 = .ok (.invokestatic 294, 3) := dk_184 1 38 (dk_at dksJ6_fixAfterInsertion_6 10 rfl rfl)
theorem dJ6_fixAfterInsertion_155 : decode cJ6_fixAfterInsertion 155 = .ok (.invokestatic 294, 3) := dk_184 1 38 (dk_at dksJ6_fixAfterInsertion_6 13 rfl rfl)
theorem dJ6_fixAfterInsertion_158 : decode cJ6_fixAfterInsertion 158 = .ok (.invokestatic 297, 3) := dk_184 1 41 (dk_at dksJ6_fixAfterInsertion_6 16 rfl rfl)
theorem dJ6_fixAfterInsertion_161 : decode cJ6_fixAfterInsertion 161 = .ok (.astore_n 2, 1) := dk_77 (dk_at dksJ6_fixAfterInsertion_6 19 rfl rfl)
theorem dJ6_fixAfterInsertion_162 : decode cJ6_fixAfterInsertion 162 = .ok (.aload_n 2, 1) := dk_44 (dk_at dksJ6_fixAfterInsertion_6 20 rfl rfl)
theorem dJ6_fixAfterInsertion_163 : decode cJ6_fixAfterInsertion 163 = .ok (.invokestatic 303, 3) := dk_184 1 47 (dk_at dksJ6_fixAfterInsertion_6 21 rfl rfl)
theorem dJ6_fixAfterInsertion_166 : decode cJ6_fixAfterInsertion 166 = .ok (.ifCond .ne 38, 3) := dk_154 0 38 (dk_at dksJ6_fixAfterInsertion_7 0 rfl rfl)
theorem dJ6_fixAfterInsertion_169 : decode cJ6_fixAfterInsertion 169 = .ok (.aload_n 1, 1) := dk_43 (dk_at dksJ6_fixAfterInsertion_7 3 rfl rfl)
theorem dJ6_fixAfterInsertion_170 : decode cJ6_fixAfterInsertion 170 = .ok (.invokestatic 294, 3) := dk_184 1 38 (dk_at dksJ6_fixAfterInsertion_7 4 rfl rfl)
theorem dJ6_fixAfterInsertion_173 : decode cJ6_fixAfterInsertion 173 = .ok (.iconst 1, 1) := dk_4 (dk_at dksJ6_fixAfterInsertion_7 7 rfl rfl)
theorem dJ6_fixAfterInsertion_174 : decode cJ6_fixAfterInsertion 174 = .ok (.invokestatic 307, 3) := dk_184 1 51 (dk_at dksJ6_fixAfterInsertion_7 8 rfl rfl)
theorem dJ6_fixAfterInsertion_177 : decode cJ6_fixAfterInsertion 177 = .ok (.aload_n 2, 1) := dk_44 (dk_at dksJ6_fixAfterInsertion_7 11 rfl rfl)
theorem dJ6_fixAfterInsertion_178 : decode cJ6_fixAfterInsertion 178 = .ok (.iconst 1, 1) := dk_4 (dk_at dksJ6_fixAfterInsertion_7 12 rfl rfl)
theorem dJ6_fixAfterInsertion_179 : decode cJ6_fixAfterInsertion 179 = .ok (.invokestatic 307, 3) := dk_184 1 51 (dk_at dksJ6_fixAfterInsertion_7 13 rfl rfl)
theorem dJ6_fixAfterInsertion_182 : decode cJ6_fixAfterInsertion 182 = .ok (.aload_n 1, 1) := dk_43 (dk_at dksJ6_fixAfterInsertion_7 16 rfl rfl)
theorem dJ6_fixAfterInsertion_183 : decode cJ6_fixAfterInsertion 183 = .ok (.invokestatic 294, 3) := dk_184 1 38 (dk_at dksJ6_fixAfterInsertion_7 17 rfl rfl)
theorem dJ6_fixAfterInsertion_186 : decode cJ6_fixAfterInsertion 186 = .ok (.invokestatic 294, 3) := dk_184 1 38 (dk_at dksJ6_fixAfterInsertion_7 20 rfl rfl)
theorem dJ6_fixAfterInsertion_189 : decode cJ6_fixAfterInsertion 189 = .ok (.iconst 0, 1) := dk_3 (dk_at dksJ6_fixAfterInsertion_7 23 rfl rfl)
theorem dJ6_fixAfterInsertion_190 : decode cJ6_fixAfterInsertion 190 = .ok (.invokestatic 307, 3) := dk_184 1 51 (dk_at dksJ6_fixAfterInsertion_8 0 rfl rfl)
theorem dJ6_fixAfterInsertion_193 : decode cJ6_fixAfterInsertion 193 = .ok (.aload_n 1, 1) := dk_43 (dk_at dksJ6_fixAfterInsertion_8 3 rfl rfl)
theorem dJ6_fixAfterInsertion_194 : decode cJ6_fixAfterInsertion 194 = .ok (.invokestatic 294, 3) := dk_184 1 38 (dk_at dksJ6_fixAfterInsertion_8 4 rfl rfl)
theorem dJ6_fixAfterInsertion_197 : decode cJ6_fixAfterInsertion 197 = .ok (.invokestatic 294, 3) := dk_184 1 38 (dk_at dksJ6_fixAfterInsertion_8 7 rfl rfl)
theorem dJ6_fixAfterInsertion_200 : decode cJ6_fixAfterInsertion 200 = .ok (.astore_n 1, 1) := dk_76 (dk_at dksJ6_fixAfterInsertion_8 10 rfl rfl)
theorem dJ6_fixAfterInsertion_201 : decode cJ6_fixAfterInsertion 201 = .ok (.goto 54, 3) := dk_167 0 54 (dk_at dksJ6_fixAfterInsertion_8 11 rfl rfl)
theorem dJ6_fixAfterInsertion_204 : decode cJ6_fixAfterInsertion 204 = .ok (.aload_n 1, 1) := dk_43 (dk_at dksJ6_fixAfterInsertion_8 14 rfl rfl)
theorem dJ6_fixAfterInsertion_205 : decode cJ6_fixAfterInsertion 205 = .ok (.aload_n 1, 1) := dk_43 (dk_at dksJ6_fixAfterInsertion_8 15 rfl rfl)
theorem dJ6_fixAfterInsertion_206 : decode cJ6_fixAfterInsertion 206 = .ok (.invokestatic 294, 3) := dk_184 1 38 (dk_at dksJ6_fixAfterInsertion_8 16 rfl rfl)
theorem dJ6_fixAfterInsertion_209 : decode cJ6_fixAfterInsertion 209 = .ok (.invokestatic 297, 3) := dk_184 1 41 (dk_at dksJ6_fixAfterInsertion_8 19 rfl rfl)
theorem dJ6_fixAfterInsertion_212 : decode cJ6_fixAfterInsertion 212 = .ok (.if_acmp .ne 13, 3) := dk_166 0 13 (dk_at dksJ6_fixAfterInsertion_9 0 rfl rfl)
theorem dJ6_fixAfterInsertion_215 : decode cJ6_fixAfterInsertion 215 = .ok (.aload_n 1, 1) := dk_43 (dk_at dksJ6_fixAfterInsertion_9 3 rfl rfl)
theorem dJ6_fixAfterInsertion_216 : decode cJ6_fixAfterInsertion 216 = .ok (.invokestatic 294, 3) := dk_184 1 38 (dk_at dksJ6_fixAfterInsertion_9 4 rfl rfl)
theorem dJ6_fixAfterInsertion_219 : decode cJ6_fixAfterInsertion 219 = .ok (.astore_n 1, 1) := dk_76 (dk_at dksJ6_fixAfterInsertion_9 7 rfl rfl)
theorem dJ6_fixAfterInsertion_220 : decode cJ6_fixAfterInsertion 220 = .ok (.aload_n 0, 1) := dk_42 (dk_at dksJ6_fixAfterInsertion_9 8 rfl rfl)
theorem dJ6_fixAfterInsertion_221 : decode cJ6_fixAfterInsertion 221 = .ok (.aload_n 1, 1) := dk_43 (dk_at dksJ6_fixAfterInsertion_9 9 rfl rfl)
theorem dJ6_fixAfterInsertion_222 : decode cJ6_fixAfterInsertion 222 = .ok (.invokevirtual 314, 3) := dk_182 1 58 (dk_at dksJ6_fixAfterInsertion_9 10 rfl rfl)
theorem dJ6_fixAfterInsertion_225 : decode cJ6_fixAfterInsertion 225 = .ok (.aload_n 1, 1) := dk_43 (dk_at dksJ6_fixAfterInsertion_9 13 rfl rfl)
theorem dJ6_fixAfterInsertion_226 : decode cJ6_fixAfterInsertion 226 = .ok (.invokestatic 294, 3) := dk_184 1 38 (dk_at dksJ6_fixAfterInsertion_9 14 rfl rfl)
theorem dJ6_fixAfterInsertion_229 : decode cJ6_fixAfterInsertion 229 = .ok (.iconst 1, 1) := dk_4 (dk_at dksJ6_fixAfterInsertion_9 17 rfl rfl)
theorem dJ6_fixAfterInsertion_230 : decode cJ6_fixAfterInsertion 230 = .ok (.invokestatic 307, 3) := dk_184 1 51 (dk_at dksJ6_fixAfterInsertion_9 18 rfl rfl)
theorem dJ6_fixAfterInsertion_233 : decode cJ6_fixAfterInsertion 233 = .ok (.aload_n 1, 1) := dk_43 (dk_at dksJ6_fixAfterInsertion_9 21 rfl rfl)
theorem dJ6_fixAfterInsertion_234 : decode cJ6_fixAfterInsertion 234 = .ok (.invokestatic 294, 3) := dk_184 1 38 (dk_at dksJ6_fixAfterInsertion_10 0 rfl rfl)
theorem dJ6_fixAfterInsertion_237 : decode cJ6_fixAfterInsertion 237 = .ok (.invokestatic 294, 3) := dk_184 1 38 (dk_at dksJ6_fixAfterInsertion_10 3 rfl rfl)
theorem dJ6_fixAfterInsertion_240 : decode cJ6_fixAfterInsertion 240 = .ok (.iconst 0, 1) := dk_3 (dk_at dksJ6_fixAfterInsertion_10 6 rfl rfl)
theorem dJ6_fixAfterInsertion_241 : decode cJ6_fixAfterInsertion 241 = .ok (.invokestatic 307, 3) := dk_184 1 51 (dk_at dksJ6_fixAfterInsertion_10 7 rfl rfl)
theorem dJ6_fixAfterInsertion_244 : decode cJ6_fixAfterInsertion 244 = .ok (.aload_n 0, 1) := dk_42 (dk_at dksJ6_fixAfterInsertion_10 10 rfl rfl)
theorem dJ6_fixAfterInsertion_245 : decode cJ6_fixAfterInsertion 245 = .ok (.aload_n 1, 1) := dk_43 (dk_at dksJ6_fixAfterInsertion_10 11 rfl rfl)
theorem dJ6_fixAfterInsertion_246 : decode cJ6_fixAfterInsertion 246 = .ok (.invokestatic 294, 3) := dk_184 1 38 (dk_at dksJ6_fixAfterInsertion_10 12 rfl rfl)
theorem dJ6_fixAfterInsertion_249 : decode cJ6_fixAfterInsertion 249 = .ok (.invokestatic 294, 3) := dk_184 1 38 (dk_at dksJ6_fixAfterInsertion_10 15 rfl rfl)
theorem dJ6_fixAfterInsertion_252 : decode cJ6_fixAfterInsertion 252 = .ok (.invokevirtual 311, 3) := dk_182 1 55 (dk_at dksJ6_fixAfterInsertion_10 18 rfl rfl)
theorem dJ6_fixAfterInsertion_255 : decode cJ6_fixAfterInsertion 255 = .ok (.goto (-250), 3) := dk_167 255 6 (dk_at dksJ6_fixAfterInsertion_10 21 rfl rfl)
theorem dJ6_fixAfterInsertion_258 : decode cJ6_fixAfterInsertion 258 = .ok (.aload_n 0, 1) := dk_42 (dk_at dksJ6_fixAfterInsertion_11 0 rfl rfl)
theorem dJ6_fixAfterInsertion_259 : decode cJ6_fixAfterInsertion 259 = .ok (.getfield 101, 3) := dk_180 0 101 (dk_at dksJ6_fixAfterInsertion_11 1 rfl rfl)
theorem dJ6_fixAfterInsertion_262 : decode cJ6_fixAfterInsertion 262 = .ok (.iconst 1, 1) := dk_4 (dk_at dksJ6_fixAfterInsertion_11 4 rfl rfl)
theorem dJ6_fixAfterInsertion_263 : decode cJ6_fixAfterInsertion 263 = .ok (.putfield 290, 3) := dk_181 1 34 (dk_at dksJ6_fixAfterInsertion_11 5 rfl rfl)
theorem dJ6_fixAfterInsertion_266 : decode cJ6_fixAfterInsertion 266 = .ok (.return_, 1) := dk_177 (dk_at dksJ6_fixAfterInsertion_11 8 rfl rfl)
def dkwJ6_parentOf_0 : List UInt8 := [42, 199, 0, 7, 1, 167, 0, 7, 42, 180, 0, 124, 176]
abbrev dktJ6_parentOf_0 : List UInt8 := dkwJ6_parentOf_0 ++ []
theorem dksJ6_parentOf_0 : cJ6_parentOf.data.toList.drop 0 = dktJ6_parentOf_0 := by decide +kernel
theorem dJ6_parentOf_0 : decode cJ6_parentOf 0 = .ok (.aload_n 0, 1) := dk_42 (dk_at dksJ6_parentOf_0 0 rfl rfl)
theorem dJ6_parentOf_1 : decode cJ6_parentOf 1 = .ok (.ifnonnull 7, 3) := dk_199 0 7 (dk_at dksJ6_parentOf_0 1 rfl rfl)
theorem dJ6_parentOf_4 : decode cJ6_parentOf 4 = .ok (.aconst_null, 1) := dk_1 (dk_at dksJ6_parentOf_0 4 rfl rfl)
theorem dJ6_parentOf_5 : decode cJ6_parentOf 5 = .ok (.goto 7, 3) := dk_167 0 7 (dk_at dksJ6_parentOf_0 5 rfl rfl)
theorem dJ6_parentOf_8 : decode cJ6_parentOf 8 = .ok (.aload_n 0, 1) := dk_42 (dk_at dksJ6_parentOf_0 8 rfl rfl)
theorem dJ6_parentOf_9 : decode cJ6_parentOf 9 = .ok (.getfield 124, 3) := dk_180 0 124 (dk_at dksJ6_parentOf_0 9 rfl rfl)
theorem dJ6_parentOf_12 : decode cJ6_parentOf 12 = .ok (.areturn, 1) := dk_176 (dk_at dksJ6_parentOf_0 12 rfl rfl)
def dkwJ6_leftOf_0 : List UInt8 := [42, 199, 0, 7, 1, 167, 0, 7, 42, 180, 0, 111, 176]
abbrev dktJ6_leftOf_0 : List UInt8 := dkwJ6_leftOf_0 ++ []
theorem dksJ6_leftOf_0 : cJ6_leftOf.data.toList.drop 0 = dktJ6_leftOf_0 := by decide +kernel
theorem dJ6_leftOf_0 : decode cJ6_leftOf 0 = .ok (.aload_n 0, 1) := dk_42 (dk_at dksJ6_leftOf_0 0 rfl rfl)
theorem dJ6_leftOf_1 : decode cJ6_leftOf 1 = .ok (.ifnonnull 7, 3) := dk_199 0 7 (dk_at dksJ6_leftOf_0 1 rfl rfl)
theorem dJ6_leftOf_4 : decode cJ6_leftOf 4 = .ok (.aconst_null, 1) := dk_1 (dk_at dksJ6_leftOf_0 4 rfl rfl)
theorem dJ6_leftOf_5 : decode cJ6_leftOf 5 = .ok (.goto 7, 3) := dk_167 0 7 (dk_at dksJ6_leftOf_0 5 rfl rfl)
theorem dJ6_leftOf_8 : decode cJ6_leftOf 8 = .ok (.aload_n 0, 1) := dk_42 (dk_at dksJ6_leftOf_0 8 rfl rfl)
theorem dJ6_leftOf_9 : decode cJ6_leftOf 9 = .ok (.getfield 111, 3) := dk_180 0 111 (dk_at dksJ6_leftOf_0 9 rfl rfl)
theorem dJ6_leftOf_12 : decode cJ6_leftOf 12 = .ok (.areturn, 1) := dk_176 (dk_at dksJ6_leftOf_0 12 rfl rfl)
def dkwJ6_rightOf_0 : List UInt8 := [42, 199, 0, 7, 1, 167, 0, 7, 42, 180, 0, 114, 176]
abbrev dktJ6_rightOf_0 : List UInt8 := dkwJ6_rightOf_0 ++ []
theorem dksJ6_rightOf_0 : cJ6_rightOf.data.toList.drop 0 = dktJ6_rightOf_0 := by decide +kernel
theorem dJ6_rightOf_0 : decode cJ6_rightOf 0 = .ok (.aload_n 0, 1) := dk_42 (dk_at dksJ6_rightOf_0 0 rfl rfl)
theorem dJ6_rightOf_1 : decode cJ6_rightOf 1 = .ok (.ifnonnull 7, 3) := dk_199 0 7 (dk_at dksJ6_rightOf_0 1 rfl rfl)
theorem dJ6_rightOf_4 : decode cJ6_rightOf 4 = .ok (.aconst_null, 1) := dk_1 (dk_at dksJ6_rightOf_0 4 rfl rfl)
theorem dJ6_rightOf_5 : decode cJ6_rightOf 5 = .ok (.goto 7, 3) := dk_167 0 7 (dk_at dksJ6_rightOf_0 5 rfl rfl)
theorem dJ6_rightOf_8 : decode cJ6_rightOf 8 = .ok (.aload_n 0, 1) := dk_42 (dk_at dksJ6_rightOf_0 8 rfl rfl)
theorem dJ6_rightOf_9 : decode cJ6_rightOf 9 = .ok (.getfield 114, 3) := dk_180 0 114 (dk_at dksJ6_rightOf_0 9 rfl rfl)
theorem dJ6_rightOf_12 : decode cJ6_rightOf 12 = .ok (.areturn, 1) := dk_176 (dk_at dksJ6_rightOf_0 12 rfl rfl)
def dkwJ6_colorOf_0 : List UInt8 := [42, 199, 0, 7, 4, 167, 0, 7, 42, 180, 1, 34, 172]
abbrev dktJ6_colorOf_0 : List UInt8 := dkwJ6_colorOf_0 ++ []
theorem dksJ6_colorOf_0 : cJ6_colorOf.data.toList.drop 0 = dktJ6_colorOf_0 := by decide +kernel
theorem dJ6_colorOf_0 : decode cJ6_colorOf 0 = .ok (.aload_n 0, 1) := dk_42 (dk_at dksJ6_colorOf_0 0 rfl rfl)
theorem dJ6_colorOf_1 : decode cJ6_colorOf 1 = .ok (.ifnonnull 7, 3) := dk_199 0 7 (dk_at dksJ6_colorOf_0 1 rfl rfl)
theorem dJ6_colorOf_4 : decode cJ6_colorOf 4 = .ok (.iconst 1, 1) := dk_4 (dk_at dksJ6_colorOf_0 4 rfl rfl)
theorem dJ6_colorOf_5 : decode cJ6_colorOf 5 = .ok (.goto 7, 3) := dk_167 0 7 (dk_at dksJ6_colorOf_0 5 rfl rfl)
theorem dJ6_colorOf_8 : decode cJ6_colorOf 8 = .ok (.aload_n 0, 1) := dk_42 (dk_at dksJ6_colorOf_0 8 rfl rfl)
theorem dJ6_colorOf_9 : decode cJ6_colorOf 9 = .ok (.getfield 290, 3) := dk_180 1 34 (dk_at dksJ6_colorOf_0 9 rfl rfl)
theorem dJ6_colorOf_12 : decode cJ6_colorOf 12 = .ok (.ireturn, 1) := dk_172 (dk_at dksJ6_colorOf_0 12 rfl rfl)
def dkwJ6_setColor_0 : List UInt8 := [42, 198, 0, 8, 42, 27, 181, 1, 34, 177]
abbrev dktJ6_setColor_0 : List UInt8 := dkwJ6_setColor_0 ++ []
theorem dksJ6_setColor_0 : cJ6_setColor.data.toList.drop 0 = dktJ6_setColor_0 := by decide +kernel
theorem dJ6_setColor_0 : decode cJ6_setColor 0 = .ok (.aload_n 0, 1) := dk_42 (dk_at dksJ6_setColor_0 0 rfl rfl)
theorem dJ6_setColor_1 : decode cJ6_setColor 1 = .ok (.ifnull 8, 3) := dk_198 0 8 (dk_at dksJ6_setColor_0 1 rfl rfl)
theorem dJ6_setColor_4 : decode cJ6_setColor 4 = .ok (.aload_n 0, 1) := dk_42 (dk_at dksJ6_setColor_0 4 rfl rfl)
theorem dJ6_setColor_5 : decode cJ6_setColor 5 = .ok (.iload_n 1, 1) := dk_27 (dk_at dksJ6_setColor_0 5 rfl rfl)
theorem dJ6_setColor_6 : decode cJ6_setColor 6 = .ok (.putfield 290, 3) := dk_181 1 34 (dk_at dksJ6_setColor_0 6 rfl rfl)
theorem dJ6_setColor_9 : decode cJ6_setColor 9 = .ok (.return_, 1) := dk_177 (dk_at dksJ6_setColor_0 9 rfl rfl)
def dkwJ6_rotateLeft_4 : List UInt8 := [177]
abbrev dktJ6_rotateLeft_4 : List UInt8 := dkwJ6_rotateLeft_4 ++ []
def dkwJ6_rotateLeft_3 : List UInt8 := [181, 0, 111, 167, 0, 11, 43, 180, 0, 124, 44, 181, 0, 114, 44, 43, 181, 0, 111, 43, 44, 181, 0, 124]
abbrev dktJ6_rotateLeft_3 : List UInt8 := dkwJ6_rotateLeft_3 ++ dktJ6_rotateLeft_4
def dkwJ6_rotateLeft_2 : List UInt8 := [44, 181, 0, 101, 167, 0, 33, 43, 180, 0, 124, 180, 0, 111, 43, 166, 0, 14, 43, 180, 0, 124, 44]
abbrev dktJ6_rotateLeft_2 : List UInt8 := dkwJ6_rotateLeft_2 ++ dktJ6_rotateLeft_3
def dkwJ6_rotateLeft_1 : List UInt8 := [44, 180, 0, 111, 43, 181, 0, 124, 44, 43, 180, 0, 124, 181, 0, 124, 43, 180, 0, 124, 199, 0, 11, 42]
abbrev dktJ6_rotateLeft_1 : List UInt8 := dkwJ6_rotateLeft_1 ++ dktJ6_rotateLeft_2
def dkwJ6_rotateLeft_0 : List UInt8 := [43, 198, 0, 94, 43, 180, 0, 114, 77, 43, 44, 180, 0, 111, 181, 0, 114, 44, 180, 0, 111, 198, 0, 11]
abbrev dktJ6_rotateLeft_0 : List UInt8 := dkwJ6_rotateLeft_0 ++ dktJ6_rotateLeft_1
theorem dksJ6_rotateLeft_0 : cJ6_rotateLeft.data.toList.drop 0 = dktJ6_rotateLeft_0 := by decide +kernel
theorem dksJ6_rotateLeft_1 : cJ6_rotateLeft.data.toList.drop 24 = dktJ6_rotateLeft_1 := dk_seg dksJ6_rotateLeft_0 24 rfl rfl
theorem dksJ6_rotateLeft_2 : cJ6_rotateLeft.data.toList.drop 48 = dktJ6_rotateLeft_2 := dk_seg dksJ6_rotateLeft_1 24 rfl rfl
theorem dksJ6_rotateLeft_3 : cJ6_rotateLeft.data.toList.drop 71 = dktJ6_rotateLeft_3 := dk_seg dksJ6_rotateLeft_2 23 rfl rfl
theorem dksJ6_rotateLeft_4 : cJ6_rotateLeft.data.toList.drop 95 = dktJ6_rotateLeft_4 := dk_seg dksJ6_rotateLeft_3 24 rfl rfl
theorem dJ6_rotateLeft_0 : decode cJ6_rotateLeft 0 = .ok (.aload_n 1, 1) := dk_43 (dk_at dksJ6_rotateLeft_0 0 rfl rfl)
theorem dJ6_rotateLeft_1 : decode cJ6_rotateLeft 1 = .ok (.ifnull 94, 3) := dk_198 0 94 (dk_at dksJ6_rotateLeft_0 1 rfl rfl)
theorem dJ6_rotateLeft_4 : decode cJ6_rotateLeft 4 = .ok (.aload_n 1, 1) := dk_43 (dk_at dksJ6_rotateLeft_0 4 rfl rfl)
theorem dJ6_rotateLeft_5 : decode cJ6_rotateLeft 5 = .ok (.getfield 114, 3) := dk_180 0 114 (dk_at dksJ6_rotateLeft_0 5 rfl rfl)
theorem dJ6_rotateLeft_8 : decode cJ6_rotateLeft 8 = .ok (.astore_n 2, 1) := dk_77 (dk_at dksJ6_rotateLeft_0 8 rfl rfl)
theorem dJ6_rotateLeft_9 : decode cJ6_rotateLeft 9 = .ok (.aload_n 1, 1) := dk_43 (dk_at dksJ6_rotateLeft_0 9 rfl rfl)
theorem dJ6_rotateLeft_10 : decode cJ6_rotateLeft 10 = .ok (.aload_n 2, 1) := dk_44 (dk_at dksJ6_rotateLeft_0 10 rfl rfl)
theorem dJ6_rotateLeft_11 : decode cJ6_rotateLeft 11 = .ok (.getfield 111, 3) := dk_180 0 111 (dk_at dksJ6_rotateLeft_0 11 rfl rfl)
theorem dJ6_rotateLeft_14 : decode cJ6_rotateLeft 14 = .ok (.putfield 114, 3) := dk_181 0 114 (dk_at dksJ6_rotateLeft_0 14 rfl rfl)
theorem dJ6_rotateLeft_17 : decode cJ6_rotateLeft 17 = .ok (.aload_n 2, 1) := dk_44 (dk_at dksJ6_rotateLeft_0 17 rfl rfl)
theorem dJ6_rotateLeft_18 : decode cJ6_rotateLeft 18 = .ok (.getfield 111, 3) := dk_180 0 111 (dk_at dksJ6_rotateLeft_0 18 rfl rfl)
theorem dJ6_rotateLeft_21 : decode cJ6_rotateLeft 21 = .ok (.ifnull 11, 3) := dk_198 0 11 (dk_at dksJ6_rotateLeft_0 21 rfl rfl)
theorem dJ6_rotateLeft_24 : decode cJ6_rotateLeft 24 = .ok (.aload_n 2, 1) := dk_44 (dk_at dksJ6_rotateLeft_1 0 rfl rfl)
theorem dJ6_rotateLeft_25 : decode cJ6_rotateLeft 25 = .ok (.getfield 111, 3) := dk_180 0 111 (dk_at dksJ6_rotateLeft_1 1 rfl rfl)
theorem dJ6_rotateLeft_28 : decode cJ6_rotateLeft 28 = .ok (.aload_n 1, 1) := dk_43 (dk_at dksJ6_rotateLeft_1 4 rfl rfl)
theorem dJ6_rotateLeft_29 : decode cJ6_rotateLeft 29 = .ok (.putfield 124, 3) := dk_181 0 124 (dk_at dksJ6_rotateLeft_1 5 rfl rfl)
theorem dJ6_rotateLeft_32 : decode cJ6_rotateLeft 32 = .ok (.aload_n 2, 1) := dk_44 (dk_at dksJ6_rotateLeft_1 8 rfl rfl)
theorem dJ6_rotateLeft_33 : decode cJ6_rotateLeft 33 = .ok (.aload_n 1, 1) := dk_43 (dk_at dksJ6_rotateLeft_1 9 rfl rfl)
theorem dJ6_rotateLeft_34 : decode cJ6_rotateLeft 34 = .ok (.getfield 124, 3) := dk_180 0 124 (dk_at dksJ6_rotateLeft_1 10 rfl rfl)
theorem dJ6_rotateLeft_37 : decode cJ6_rotateLeft 37 = .ok (.putfield 124, 3) := dk_181 0 124 (dk_at dksJ6_rotateLeft_1 13 rfl rfl)
theorem dJ6_rotateLeft_40 : decode cJ6_rotateLeft 40 = .ok (.aload_n 1, 1) := dk_43 (dk_at dksJ6_rotateLeft_1 16 rfl rfl)
theorem dJ6_rotateLeft_41 : decode cJ6_rotateLeft 41 = .ok (.getfield 124, 3) := dk_180 0 124 (dk_at dksJ6_rotateLeft_1 17 rfl rfl)
theorem dJ6_rotateLeft_44 : decode cJ6_rotateLeft 44 = .ok (.ifnonnull 11, 3) := dk_199 0 11 (dk_at dksJ6_rotateLeft_1 20 rfl rfl)
theorem dJ6_rotateLeft_47 : decode cJ6_rotateLeft 47 = .ok (.aload_n 0, 1) := dk_42 (dk_at dksJ6_rotateLeft_1 23 rfl rfl)
theorem dJ6_rotateLeft_48 : decode cJ6_rotateLeft 48 = .ok (.aload_n 2, 1) := dk_44 (dk_at dksJ6_rotateLeft_2 0 rfl rfl)
theorem dJ6_rotateLeft_49 : decode cJ6_rotateLeft 49 = .ok (.putfield 101, 3) := dk_181 0 101 (dk_at dksJ6_rotateLeft_2 1 rfl rfl)
theorem dJ6_rotateLeft_52 : decode cJ6_rotateLeft 52 = .ok (.goto 33, 3) := dk_167 0 33 (dk_at dksJ6_rotateLeft_2 4 rfl rfl)
theorem dJ6_rotateLeft_55 : decode cJ6_rotateLeft 55 = .ok (.aload_n 1, 1) := dk_43 (dk_at dksJ6_rotateLeft_2 7 rfl rfl)
theorem dJ6_rotateLeft_56 : decode cJ6_rotateLeft 56 = .ok (.getfield 124, 3) := dk_180 0 124 (dk_at dksJ6_rotateLeft_2 8 rfl rfl)
theorem dJ6_rotateLeft_59 : decode cJ6_rotateLeft 59 = .ok (.getfield 111, 3) := dk_180 0 111 (dk_at dksJ6_rotateLeft_2 11 rfl rfl)
theorem dJ6_rotateLeft_62 : decode cJ6_rotateLeft 62 = .ok (.aload_n 1, 1) := dk_43 (dk_at dksJ6_rotateLeft_2 14 rfl rfl)
theorem dJ6_rotateLeft_63 : decode cJ6_rotateLeft 63 = .ok (.if_acmp .ne 14, 3) := dk_166 0 14 (dk_at dksJ6_rotateLeft_2 15 rfl rfl)
theorem dJ6_rotateLeft_66 : decode cJ6_rotateLeft 66 = .ok (.aload_n 1, 1) := dk_43 (dk_at dksJ6_rotateLeft_2 18 rfl rfl)
theorem dJ6_rotateLeft_67 : decode cJ6_rotateLeft 67 = .ok (.getfield 124, 3) := dk_180 0 124 (dk_at dksJ6_rotateLeft_2 19 rfl rfl)
theorem dJ6_rotateLeft_70 : decode cJ6_rotateLeft 70 = .ok (.aload_n 2, 1) := dk_44 (dk_at dksJ6_rotateLeft_2 22 rfl rfl)
theorem dJ6_rotateLeft_71 : decode cJ6_rotateLeft 71 = .ok (.putfield 111, 3) := dk_181 0 111 (dk_at dksJ6_rotateLeft_3 0 rfl rfl)
theorem dJ6_rotateLeft_74 : decode cJ6_rotateLeft 74 = .ok (.goto 11, 3) := dk_167 0 11 (dk_at dksJ6_rotateLeft_3 3 rfl rfl)
theorem dJ6_rotateLeft_77 : decode cJ6_rotateLeft 77 = .ok (.aload_n 1, 1) := dk_43 (dk_at dksJ6_rotateLeft_3 6 rfl rfl)
theorem dJ6_rotateLeft_78 : decode cJ6_rotateLeft 78 = .ok (.getfield 124, 3) := dk_180 0 124 (dk_at dksJ6_rotateLeft_3 7 rfl rfl)
theorem dJ6_rotateLeft_81 : decode cJ6_rotateLeft 81 = .ok (.aload_n 2, 1) := dk_44 (dk_at dksJ6_rotateLeft_3 10 rfl rfl)
theorem dJ6_rotateLeft_82 : decode cJ6_rotateLeft 82 = .ok (.putfield 114, 3) := dk_181 0 114 (dk_at dksJ6_rotateLeft_3 11 rfl rfl)
theorem dJ6_rotateLeft_85 : decode cJ6_rotateLeft 85 = .ok (.aload_n 2, 1) := dk_44 (dk_at dksJ6_rotateLeft_3 14 rfl rfl)
theorem dJ6_rotateLeft_86 : decode cJ6_rotateLeft 86 = .ok (.aload_n 1, 1) := dk_43 (dk_at dksJ6_rotateLeft_3 15 rfl rfl)
theorem dJ6_rotateLeft_87 : decode cJ6_rotateLeft 87 = .ok (.putfield 111, 3) := dk_181 0 111 (dk_at dksJ6_rotateLeft_3 16 rfl rfl)
theorem dJ6_rotateLeft_90 : decode cJ6_rotateLeft 90 = .ok (.aload_n 1, 1) := dk_43 (dk_at dksJ6_rotateLeft_3 19 rfl rfl)
theorem dJ6_rotateLeft_91 : decode cJ6_rotateLeft 91 = .ok (.aload_n 2, 1) := dk_44 (dk_at dksJ6_rotateLeft_3 20 rfl rfl)
theorem dJ6_rotateLeft_92 : decode cJ6_rotateLeft 92 = .ok (.putfield 124, 3) := dk_181 0 124 (dk_at dksJ6_rotateLeft_3 21 rfl rfl)
theorem dJ6_rotateLeft_95 : decode cJ6_rotateLeft 95 = .ok (.return_, 1) := dk_177 (dk_at dksJ6_rotateLeft_4 0 rfl rfl)
def dkwJ6_rotateRight_4 : List UInt8 := [177]
abbrev dktJ6_rotateRight_4 : List UInt8 := dkwJ6_rotateRight_4 ++ []
def dkwJ6_rotateRight_3 : List UInt8 := [181, 0, 114, 167, 0, 11, 43, 180, 0, 124, 44, 181, 0, 111, 44, 43, 181, 0, 114, 43, 44, 181, 0, 124]
abbrev dktJ6_rotateRight_3 : List UInt8 := dkwJ6_rotateRight_3 ++ dktJ6_rotateRight_4
def dkwJ6_rotateRight_2 : List UInt8 := [44, 181, 0, 101, 167, 0, 33, 43, 180, 0, 124, 180, 0, 114, 43, 166, 0, 14, 43, 180, 0, 124, 44]
abbrev dktJ6_rotateRight_2 : List UInt8 := dkwJ6_rotateRight_2 ++ dktJ6_rotateRight_3
def dkwJ6_rotateRight_1 : List UInt8 := [44, 180, 0, 114, 43, 181, 0, 124, 44, 43, 180, 0, 124, 181, 0, 124, 43, 180, 0, 124, 199, 0, 11, 42]
abbrev dktJ6_rotateRight_1 : List UInt8 := dkwJ6_rotateRight_1 ++ dktJ6_rotateRight_2
def dkwJ6_rotateRight_0 : List UInt8 := [43, 198, 0, 94, 43, 180, 0, 111, 77, 43, 44, 180, 0, 114, 181, 0, 111, 44, 180, 0, 114, 198, 0, 11]
abbrev dktJ6_rotateRight_0 : List UInt8 := dkwJ6_rotateRight_0 ++ dktJ6_rotateRight_1
theorem dksJ6_rotateRight_0 : cJ6_rotateRight.data.toList.drop 0 = dktJ6_rotateRight_0 := by decide +kernel
theorem dksJ6_rotateRight_1 : cJ6_rotateRight.data.toList.drop 24 = dktJ6_rotateRight_1 := dk_seg dksJ6_rotateRight_0 24 rfl rfl
theorem dksJ6_rotateRight_2 : cJ6_rotateRight.data.toList.drop 48 = dktJ6_rotateRight_2 := dk_seg dksJ6_rotateRight_1 24 rfl rfl
theorem dksJ6_rotateRight_3 : cJ6_rotateRight.data.toList.drop 71 = dktJ6_rotateRight_3 := dk_seg dksJ6_rotateRight_2 23 rfl rfl
theorem dksJ6_rotateRight_4 : cJ6_rotateRight.data.toList.drop 95 = dktJ6_rotateRight_4 := dk_seg dksJ6_rotateRight_3 24 rfl rfl
theorem dJ6_rotateRight_0 : decode cJ6_rotateRight 0 = .ok (.aload_n 1, 1) := dk_43 (dk_at dksJ6_rotateRight_0 0 rfl rfl)
theorem dJ6_rotateRight_1 : decode cJ6_rotateRight 1 = .ok (.ifnull 94, 3) := dk_198 0 94 (dk_at dksJ6_rotateRight_0 1 rfl rfl)
theorem dJ6_rotateRight_4 : decode cJ6_rotateRight 4 = .ok (.aload_n 1, 1) := dk_43 (dk_at dksJ6_rotateRight_0 4 rfl rfl)
theorem dJ6_rotateRight_5 : decode cJ6_rotateRight 5 = .ok (.getfield 111, 3) := dk_180 0 111 (dk_at dksJ6_rotateRight_0 5 rfl rfl)
theorem dJ6_rotateRight_8 : decode cJ6_rotateRight 8 = .ok (.astore_n 2, 1) := dk_77 (dk_at dksJ6_rotateRight_0 8 rfl rfl)
theorem dJ6_rotateRight_9 : decode cJ6_rotateRight 9 = .ok (.aload_n 1, 1) := dk_43 (dk_at dksJ6_rotateRight_0 9 rfl rfl)
theorem dJ6_rotateRight_10 : decode cJ6_rotateRight 10 = .ok (.aload_n 2, 1) := dk_44 (dk_at dksJ6_rotateRight_0 10 rfl rfl)
theorem dJ6_rotateRight_11 : decode cJ6_rotateRight 11 = .ok (.getfield 114, 3) := dk_180 0 114 (dk_at dksJ6_rotateRight_0 11 rfl rfl)
theorem dJ6_rotateRight_14 : decode cJ6_rotateRight 14 = .ok (.putfield 111, 3) := dk_181 0 111 (dk_at dksJ6_rotateRight_0 14 rfl rfl)
theorem dJ6_rotateRight_17 : decode cJ6_rotateRight 17 = .ok (.aload_n 2, 1) := dk_44 (dk_at dksJ6_rotateRight_0 17 rfl rfl)
theorem dJ6_rotateRight_18 : decode cJ6_rotateRight 18 = .ok (.getfield 114, 3) := dk_180 0 114 (dk_at dksJ6_rotateRight_0 18 rfl rfl)
theorem dJ6_rotateRight_21 : decode cJ6_rotateRight 21 = .ok (.ifnull 11, 3) := dk_198 0 11 (dk_at dksJ6_rotateRight_0 21 rfl rfl)
theorem dJ6_rotateRight_24 : decode cJ6_rotateRight 24 = .ok (.aload_n 2, 1) := dk_44 (dk_at dksJ6_rotateRight_1 0 rfl rfl)
theorem dJ6_rotateRight_25 : decode cJ6_rotateRight 25 = .ok (.getfield 114, 3) := dk_180 0 114 (dk_at dksJ6_rotateRight_1 1 rfl rfl)
theorem dJ6_rotateRight_28 : decode cJ6_rotateRight 28 = .ok (.aload_n 1, 1) := dk_43 (dk_at dksJ6_rotateRight_1 4 rfl rfl)
theorem dJ6_rotateRight_29 : decode cJ6_rotateRight 29 = .ok (.putfield 124, 3) := dk_181 0 124 (dk_at dksJ6_rotateRight_1 5 rfl rfl)
theorem dJ6_rotateRight_32 : decode cJ6_rotateRight 32 = .ok (.aload_n 2, 1) := dk_44 (dk_at dksJ6_rotateRight_1 8 rfl rfl)
theorem dJ6_rotateRight_33 : decode cJ6_rotateRight 33 = .ok (.aload_n 1, 1) := dk_43 (dk_at dksJ6_rotateRight_1 9 rfl rfl)
theorem dJ6_rotateRight_34 : decode cJ6_rotateRight 34 = .ok (.getfield 124, 3) := dk_180 0 124 (dk_at dksJ6_rotateRight_1 10 rfl rfl)
theorem dJ6_rotateRight_37 : decode cJ6_rotateRight 37 = .ok (.putfield 124, 3) := dk_181 0 124 (dk_at dksJ6_rotateRight_1 13 rfl rfl)
theorem dJ6_rotateRight_40 : decode cJ6_rotateRight 40 = .ok (.aload_n 1, 1) := dk_43 (dk_at dksJ6_rotateRight_1 16 rfl rfl)
theorem dJ6_rotateRight_41 : decode cJ6_rotateRight 41 = .ok (.getfield 124, 3) := dk_180 0 124 (dk_at dksJ6_rotateRight_1 17 rfl rfl)
theorem dJ6_rotateRight_44 : decode cJ6_rotateRight 44 = .ok (.ifnonnull 11, 3) := dk_199 0 11 (dk_at dksJ6_rotateRight_1 20 rfl rfl)
theorem dJ6_rotateRight_47 : decode cJ6_rotateRight 47 = .ok (.aload_n 0, 1) := dk_42 (dk_at dksJ6_rotateRight_1 23 rfl rfl)
theorem dJ6_rotateRight_48 : decode cJ6_rotateRight 48 = .ok (.aload_n 2, 1) := dk_44 (dk_at dksJ6_rotateRight_2 0 rfl rfl)
theorem dJ6_rotateRight_49 : decode cJ6_rotateRight 49 = .ok (.putfield 101, 3) := dk_181 0 101 (dk_at dksJ6_rotateRight_2 1 rfl rfl)
theorem dJ6_rotateRight_52 : decode cJ6_rotateRight 52 = .ok (.goto 33, 3) := dk_167 0 33 (dk_at dksJ6_rotateRight_2 4 rfl rfl)
theorem dJ6_rotateRight_55 : decode cJ6_rotateRight 55 = .ok (.aload_n 1, 1) := dk_43 (dk_at dksJ6_rotateRight_2 7 rfl rfl)
theorem dJ6_rotateRight_56 : decode cJ6_rotateRight 56 = .ok (.getfield 124, 3) := dk_180 0 124 (dk_at dksJ6_rotateRight_2 8 rfl rfl)
theorem dJ6_rotateRight_59 : decode cJ6_rotateRight 59 = .ok (.getfield 114, 3) := dk_180 0 114 (dk_at dksJ6_rotateRight_2 11 rfl rfl)
theorem dJ6_rotateRight_62 : decode cJ6_rotateRight 62 = .ok (.aload_n 1, 1) := dk_43 (dk_at dksJ6_rotateRight_2 14 rfl rfl)
theorem dJ6_rotateRight_63 : decode cJ6_rotateRight 63 = .ok (.if_acmp .ne 14, 3) := dk_166 0 14 (dk_at dksJ6_rotateRight_2 15 rfl rfl)
theorem dJ6_rotateRight_66 : decode cJ6_rotateRight 66 = .ok (.aload_n 1, 1) := dk_43 (dk_at dksJ6_rotateRight_2 18 rfl rfl)
theorem dJ6_rotateRight_67 : decode cJ6_rotateRight 67 = .ok (.getfield 124, 3) := dk_180 0 124 (dk_at dksJ6_rotateRight_2 19 rfl rfl)
theorem dJ6_rotateRight_70 : decode cJ6_rotateRight 70 = .ok (.aload_n 2, 1) := dk_44 (dk_at dksJ6_rotateRight_2 22 rfl rfl)
theorem dJ6_rotateRight_71 : decode cJ6_rotateRight 71 = .ok (.putfield 114, 3) := dk_181 0 114 (dk_at dksJ6_rotateRight_3 0 rfl rfl)
theorem dJ6_rotateRight_74 : decode cJ6_rotateRight 74 = .ok (.goto 11, 3) := dk_167 0 11 (dk_at dksJ6_rotateRight_3 3 rfl rfl)
theorem dJ6_rotateRight_77 : decode cJ6_rotateRight 77 = .ok (.aload_n 1, 1) := dk_43 (dk_at dksJ6_rotateRight_3 6 rfl rfl)
theorem dJ6_rotateRight_78 : decode cJ6_rotateRight 78 = .ok (.getfield 124, 3) := dk_180 0 124 (dk_at dksJ6_rotateRight_3 7 rfl rfl)
theorem dJ6_rotateRight_81 : decode cJ6_rotateRight 81 = .ok (.aload_n 2, 1) := dk_44 (dk_at dksJ6_rotateRight_3 10 rfl rfl)
theorem dJ6_rotateRight_82 : decode cJ6_rotateRight 82 = .ok (.putfield 111, 3) := dk_181 0 111 (dk_at dksJ6_rotateRight_3 11 rfl rfl)
theorem dJ6_rotateRight_85 : decode cJ6_rotateRight 85 = .ok (.aload_n 2, 1) := dk_44 (dk_at dksJ6_rotateRight_3 14 rfl rfl)
theorem dJ6_rotateRight_86 : decode cJ6_rotateRight 86 = .ok (.aload_n 1, 1) := dk_43 (dk_at dksJ6_rotateRight_3 15 rfl rfl)
theorem dJ6_rotateRight_87 : decode cJ6_rotateRight 87 = .ok (.putfield 114, 3) := dk_181 0 114 (dk_at dksJ6_rotateRight_3 16 rfl rfl)
theorem dJ6_rotateRight_90 : decode cJ6_rotateRight 90 = .ok (.aload_n 1, 1) := dk_43 (dk_at dksJ6_rotateRight_3 19 rfl rfl)
theorem dJ6_rotateRight_91 : decode cJ6_rotateRight 91 = .ok (.aload_n 2, 1) := dk_44 (dk_at dksJ6_rotateRight_3 20 rfl rfl)
theorem dJ6_rotateRight_92 : decode cJ6_rotateRight 92 = .ok (.putfield 124, 3) := dk_181 0 124 (dk_at dksJ6_rotateRight_3 21 rfl rfl)
theorem dJ6_rotateRight_95 : decode cJ6_rotateRight 95 = .ok (.return_, 1) := dk_177 (dk_at dksJ6_rotateRight_4 0 rfl rfl)
def dkwJ6_values_1 : List UInt8 := [176]
abbrev dktJ6_values_1 : List UInt8 := dkwJ6_values_1 ++ []
def dkwJ6_values_0 : List UInt8 := [42, 180, 0, 233, 76, 43, 199, 0, 17, 187, 0, 237, 89, 42, 183, 0, 239, 76, 42, 43, 181, 0, 233, 43]
abbrev dktJ6_values_0 : List UInt8 := dkwJ6_values_0 ++ dktJ6_values_1
theorem dksJ6_values_0 : cJ6_values.data.toList.drop 0 = dktJ6_values_0 := by decide +kernel
theorem dksJ6_values_1 : cJ6_values.data.toList.drop 24 = dktJ6_values_1 := dk_seg dksJ6_values_0 24 rfl rfl
theorem dJ6_values_0 : decode cJ6_values 0 = .ok (.aload_n 0, 1) := dk_42 (dk_at dksJ6_values_0 0 rfl rfl)
theorem dJ6_values_1 : decode cJ6_values 1 = .ok (.getfield 233, 3) := dk_180 0 233 (dk_at dksJ6_values_0 1 rfl rfl)
theorem dJ6_values_4 : decode cJ6_values 4 = .ok (.astore_n 1, 1) := dk_76 (dk_at dksJ6_values_0 4 rfl rfl)
theorem dJ6_values_5 : decode cJ6_values 5 = .ok (.aload_n 1, 1) := dk_43 (dk_at dksJ6_values_0 5 rfl rfl)
theorem dJ6_values_6 : decode cJ6_values 6 = .ok (.ifnonnull 17, 3) := dk_199 0 17 (dk_at dksJ6_values_0 6 rfl rfl)
theorem dJ6_values_9 : decode cJ6_values 9 = .ok (.new 237, 3) := dk_187 0 237 (dk_at dksJ6_values_0 9 rfl rfl)
theorem dJ6_values_12 : decode cJ6_values 12 = .ok (.dup, 1) := dk_89 (dk_at dksJ6_values_0 12 rfl rfl)
theorem dJ6_values_13 : decode cJ6_values 13 = .ok (.aload_n 0, 1) := dk_42 (dk_at dksJ6_values_0 13 rfl rfl)
theorem dJ6_values_14 : decode cJ6_values 14 = .ok (.invokespecial 239, 3) := dk_183 0 239 (dk_at dksJ6_values_0 14 rfl rfl)
theorem dJ6_values_17 : decode cJ6_values 17 = .ok (.astore_n 1, 1) := dk_76 (dk_at dksJ6_values_0 17 rfl rfl)
theorem dJ6_values_18 : decode cJ6_values 18 = .ok (.aload_n 0, 1) := dk_42 (dk_at dksJ6_values_0 18 rfl rfl)
theorem dJ6_values_19 : decode cJ6_values 19 = .ok (.aload_n 1, 1) := dk_43 (dk_at dksJ6_values_0 19 rfl rfl)
theorem dJ6_values_20 : decode cJ6_values 20 = .ok (.putfield 233, 3) := dk_181 0 233 (dk_at dksJ6_values_0 20 rfl rfl)
theorem dJ6_values_23 : decode cJ6_values 23 = .ok (.aload_n 1, 1) := dk_43 (dk_at dksJ6_values_0 23 rfl rfl)
theorem dJ6_values_24 : decode cJ6_values 24 = .ok (.areturn, 1) := dk_176 (dk_at dksJ6_values_1 0 rfl rfl)
def dkwJ6_clear_0 : List UInt8 := [42, 89, 180, 0, 13, 4, 96, 181, 0, 13, 42, 3, 181, 0, 7, 42, 1, 181, 0, 101, 177]
abbrev dktJ6_clear_0 : List UInt8 := dkwJ6_clear_0 ++ []
theorem dksJ6_clear_0 : cJ6_clear.data.toList.drop 0 = dktJ6_clear_0 := by decide +kernel
theorem dJ6_clear_0 : decode cJ6_clear 0 = .ok (.aload_n 0, 1) := dk_42 (dk_at dksJ6_clear_0 0 rfl rfl)
theorem dJ6_clear_1 : decode cJ6_clear 1 = .ok (.dup, 1) := dk_89 (dk_at dksJ6_clear_0 1 rfl rfl)
theorem dJ6_clear_2 : decode cJ6_clear 2 = .ok (.getfield 13, 3) := dk_180 0 13 (dk_at dksJ6_clear_0 2 rfl rfl)
theorem dJ6_clear_5 : decode cJ6_clear 5 = .ok (.iconst 1, 1) := dk_4 (dk_at dksJ6_clear_0 5 rfl rfl)
theorem dJ6_clear_6 : decode cJ6_clear 6 = .ok (.iadd, 1) := dk_96 (dk_at dksJ6_clear_0 6 rfl rfl)
theorem dJ6_clear_7 : decode cJ6_clear 7 = .ok (.putfield 13, 3) := dk_181 0 13 (dk_at dksJ6_clear_0 7 rfl rfl)
theorem dJ6_clear_10 : decode cJ6_clear 10 = .ok (.aload_n 0, 1) := dk_42 (dk_at dksJ6_clear_0 10 rfl rfl)
theorem dJ6_clear_11 : decode cJ6_clear 11 = .ok (.iconst 0, 1) := dk_3 (dk_at dksJ6_clear_0 11 rfl rfl)
theorem dJ6_clear_12 : decode cJ6_clear 12 = .ok (.putfield 7, 3) := dk_181 0 7 (dk_at dksJ6_clear_0 12 rfl rfl)
theorem dJ6_clear_15 : decode cJ6_clear 15 = .ok (.aload_n 0, 1) := dk_42 (dk_at dksJ6_clear_0 15 rfl rfl)
theorem dJ6_clear_16 : decode cJ6_clear 16 = .ok (.aconst_null, 1) := dk_1 (dk_at dksJ6_clear_0 16 rfl rfl)
theorem dJ6_clear_17 : decode cJ6_clear 17 = .ok (.putfield 101, 3) := dk_181 0 101 (dk_at dksJ6_clear_0 17 rfl rfl)
theorem dJ6_clear_20 : decode cJ6_clear 20 = .ok (.return_, 1) := dk_177 (dk_at dksJ6_clear_0 20 rfl rfl)
def dkwJ7_init_0 : List UInt8 := [42, 183, 0, 42, 42, 16, 17, 189, 0, 47, 181, 0, 3, 177]
abbrev dktJ7_init_0 : List UInt8 := dkwJ7_init_0 ++ []
theorem dksJ7_init_0 : cJ7_init.data.toList.drop 0 = dktJ7_init_0 := by decide +kernel
theorem dJ7_init_0 : decode cJ7_init 0 = .ok (.aload_n 0, 1) := dk_42 (dk_at dksJ7_init_0 0 rfl rfl)
theorem dJ7_init_1 : decode cJ7_init 1 = .ok (.invokespecial 42, 3) := dk_183 0 42 (dk_at dksJ7_init_0 1 rfl rfl)
theorem dJ7_init_4 : decode cJ7_init 4 = .ok (.aload_n 0, 1) := dk_42 (dk_at dksJ7_init_0 4 rfl rfl)
theorem dJ7_init_5 : decode cJ7_init 5 = .ok (.bipush 17, 2) := dk_16 17 (dk_at dksJ7_init_0 5 rfl rfl)
theorem dJ7_init_7 : decode cJ7_init 7 = .ok (.anewarray 47, 3) := dk_189 0 47 (dk_at dksJ7_init_0 7 rfl rfl)
theorem dJ7_init_10 : decode cJ7_init 10 = .ok (.putfield 3, 3) := dk_181 0 3 (dk_at dksJ7_init_0 10 rfl rfl)
theorem dJ7_init_13 : decode cJ7_init 13 = .ok (.return_, 1) := dk_177 (dk_at dksJ7_init_0 13 rfl rfl)
def dkwJ7_isEmpty_0 : List UInt8 := [42, 180, 0, 24, 42, 180, 0, 20, 160, 0, 7, 4, 167, 0, 4, 3, 172]
abbrev dktJ7_isEmpty_0 : List UInt8 := dkwJ7_isEmpty_0 ++ []
theorem dksJ7_isEmpty_0 : cJ7_isEmpty.data.toList.drop 0 = dktJ7_isEmpty_0 := by decide +kernel
theorem dJ7_isEmpty_0 : decode cJ7_isEmpty 0 = .ok (.aload_n 0, 1) := dk_42 (dk_at dksJ7_isEmpty_0 0 rfl rfl)
theorem dJ7_isEmpty_1 : decode cJ7_isEmpty 1 = .ok (.getfield 24, 3) := dk_180 0 24 (dk_at dksJ7_isEmpty_0 1 rfl rfl)
theorem dJ7_isEmpty_4 : decode cJ7_isEmpty 4 = .ok (.aload_n 0, 1) := dk_42 (dk_at dksJ7_isEmpty_0 4 rfl rfl)
theorem dJ7_isEmpty_5 : decode cJ7_isEmpty 5 = .ok (.getfield 20, 3) := dk_180 0 20 (dk_at dksJ7_isEmpty_0 5 rfl rfl)
theorem dJ7_isEmpty_8 : decode cJ7_isEmpty 8 = .ok (.if_icmp .ne 7, 3) := dk_160 0 7 (dk_at dksJ7_isEmpty_0 8 rfl rfl)
theorem dJ7_isEmpty_11 : decode cJ7_isEmpty 11 = .ok (.iconst 1, 1) := dk_4 (dk_at dksJ7_isEmpty_0 11 rfl rfl)
theorem dJ7_isEmpty_12 : decode cJ7_isEmpty 12 = .ok (.goto 4, 3) := dk_167 0 4 (dk_at dksJ7_isEmpty_0 12 rfl rfl)
theorem dJ7_isEmpty_15 : decode cJ7_isEmpty 15 = .ok (.iconst 0, 1) := dk_3 (dk_at dksJ7_isEmpty_0 15 rfl rfl)
theorem dJ7_isEmpty_16 : decode cJ7_isEmpty 16 = .ok (.ireturn, 1) := dk_172 (dk_at dksJ7_isEmpty_0 16 rfl rfl)
def dkwJ7_nonNullElementAt_0 : List UInt8 := [42, 27, 50, 77, 44, 199, 0, 11, 187, 0, 62, 89, 183, 0, 64, 191, 44, 176]
abbrev dktJ7_nonNullElementAt_0 : List UInt8 := dkwJ7_nonNullElementAt_0 ++ []
theorem dksJ7_nonNullElementAt_0 : cJ7_nonNullElementAt.data.toList.drop 0 = dktJ7_nonNullElementAt_0 := by decide +kernel
theorem dJ7_nonNullElementAt_0 : decode cJ7_nonNullElementAt 0 = .ok (.aload_n 0, 1) := dk_42 (dk_at dksJ7_nonNullElementAt_0 0 rfl rfl)
theorem dJ7_nonNullElementAt_1 : decode cJ7_nonNullElementAt 1 = .ok (.iload_n 1, 1) := dk_27 (dk_at dksJ7_nonNullElementAt_0 1 rfl rfl)
theorem dJ7_nonNullElementAt_2 : decode cJ7_nonNullElementAt 2 = .ok (.aaload, 1) := dk_50 (dk_at dksJ7_nonNullElementAt_0 2 rfl rfl)
theorem dJ7_nonNullElementAt_3 : decode cJ7_nonNullElementAt 3 = .ok (.astore_n 2, 1) := dk_77 (dk_at dksJ7_nonNullElementAt_0 3 rfl rfl)
theorem dJ7_nonNullElementAt_4 : decode cJ7_nonNullElementAt 4 = .ok (.aload_n 2, 1) := dk_44 (dk_at dksJ7_nonNullElementAt_0 4 rfl rfl)
theorem dJ7_nonNullElementAt_5 : decode cJ7_nonNullElementAt 5 = .ok (.ifnonnull 11, 3) := dk_199 0 11 (dk_at dksJ7_nonNullElementAt_0 5 rfl rfl)
theorem dJ7_nonNullElementAt_16 : decode cJ7_nonNullElementAt 16 = .ok (.aload_n 2, 1) := dk_44 (dk_at dksJ7_nonNullElementAt_0 16 rfl rfl)
theorem dJ7_nonNullElementAt_17 : decode cJ7_nonNullElementAt 17 = .ok (.areturn, 1) := dk_176 (dk_at dksJ7_nonNullElementAt_0 17 rfl rfl)
def dkwJ7_inc_0 : List UInt8 := [132, 0, 1, 26, 27, 161, 0, 5, 3, 59, 26, 172]
abbrev dktJ7_inc_0 : List UInt8 := dkwJ7_inc_0 ++ []
theorem dksJ7_inc_0 : cJ7_inc.data.toList.drop 0 = dktJ7_inc_0 := by decide +kernel
theorem dJ7_inc_0 : decode cJ7_inc 0 = .ok (.iinc 0 1, 3) := dk_132 0 1 (dk_at dksJ7_inc_0 0 rfl rfl)
theorem dJ7_inc_3 : decode cJ7_inc 3 = .ok (.iload_n 0, 1) := dk_26 (dk_at dksJ7_inc_0 3 rfl rfl)
theorem dJ7_inc_4 : decode cJ7_inc 4 = .ok (.iload_n 1, 1) := dk_27 (dk_at dksJ7_inc_0 4 rfl rfl)
theorem dJ7_inc_5 : decode cJ7_inc 5 = .ok (.if_icmp .lt 5, 3) := dk_161 0 5 (dk_at dksJ7_inc_0 5 rfl rfl)
theorem dJ7_inc_8 : decode cJ7_inc 8 = .ok (.iconst 0, 1) := dk_3 (dk_at dksJ7_inc_0 8 rfl rfl)
theorem dJ7_inc_9 : decode cJ7_inc 9 = .ok (.istore_n 0, 1) := dk_59 (dk_at dksJ7_inc_0 9 rfl rfl)
theorem dJ7_inc_10 : decode cJ7_inc 10 = .ok (.iload_n 0, 1) := dk_26 (dk_at dksJ7_inc_0 10 rfl rfl)
theorem dJ7_inc_11 : decode cJ7_inc 11 = .ok (.ireturn, 1) := dk_172 (dk_at dksJ7_inc_0 11 rfl rfl)
theorem dJ7_poll_0 : decode cJ7_poll 0 = .ok (.aload_n 0, 1) := by decide +kernel
theorem dJ7_poll_1 : decode cJ7_poll 1 = .ok (.invokevirtual 93, 3) := by decide +kernel
theorem dJ7_poll_4 : decode cJ7_poll 4 = .ok (.areturn, 1) := by decide +kernel
def dkwJ7_pollFirst_1 : List UInt8 := [42, 28, 43, 190, 184, 0, 74, 181, 0, 24, 45, 176]
abbrev dktJ7_pollFirst_1 : List UInt8 := dkwJ7_pollFirst_1 ++ []
def dkwJ7_pollFirst_0 : List UInt8 := [42, 180, 0, 3, 89, 76, 42, 180, 0, 24, 89, 61, 184, 0, 103, 78, 45, 198, 0, 17, 43, 28, 1, 83]
abbrev dktJ7_pollFirst_0 : List UInt8 := dkwJ7_pollFirst_0 ++ dktJ7_pollFirst_1
theorem dksJ7_pollFirst_0 : cJ7_pollFirst.data.toList.drop 0 = dktJ7_pollFirst_0 := by decide +kernel
theorem dksJ7_pollFirst_1 : cJ7_pollFirst.data.toList.drop 24 = dktJ7_pollFirst_1 := dk_seg dksJ7_pollFirst_0 24 rfl rfl
theorem dJ7_pollFirst_0 : decode cJ7_pollFirst 0 = .ok (.aload_n 0, 1) := dk_42 (dk_at dksJ7_pollFirst_0 0 rfl rfl)
theorem dJ7_pollFirst_1 : decode cJ7_pollFirst 1 = .ok (.getfield 3, 3) := dk_180 0 3 (dk_at dksJ7_pollFirst_0 1 rfl rfl)
theorem dJ7_pollFirst_4 : decode cJ7_pollFirst 4 = .ok (.dup, 1) := dk_89 (dk_at dksJ7_pollFirst_0 4 rfl rfl)
theorem dJ7_pollFirst_5 : decode cJ7_pollFirst 5 = .ok (.astore_n 1, 1) := dk_76 (dk_at dksJ7_pollFirst_0 5 rfl rfl)
theorem dJ7_pollFirst_6 : decode cJ7_pollFirst 6 = .ok (.aload_n 0, 1) := dk_42 (dk_at dksJ7_pollFirst_0 6 rfl rfl)
theorem dJ7_pollFirst_7 : decode cJ7_pollFirst 7 = .ok (.getfield 24, 3) := dk_180 0 24 (dk_at dksJ7_pollFirst_0 7 rfl rfl)
theorem dJ7_pollFirst_10 : decode cJ7_pollFirst 10 = .ok (.dup, 1) := dk_89 (dk_at dksJ7_pollFirst_0 10 rfl rfl)
theorem dJ7_pollFirst_11 : decode cJ7_pollFirst 11 = .ok (.istore_n 2, 1) := dk_61 (dk_at dksJ7_pollFirst_0 11 rfl rfl)
theorem dJ7_pollFirst_12 : decode cJ7_pollFirst 12 = .ok (.invokestatic 103, 3) := dk_184 0 103 (dk_at dksJ7_pollFirst_0 12 rfl rfl)
theorem dJ7_pollFirst_15 : decode cJ7_pollFirst 15 = .ok (.astore_n 3, 1) := dk_78 (dk_at dksJ7_pollFirst_0 15 rfl rfl)
theorem dJ7_pollFirst_16 : decode cJ7_pollFirst 16 = .ok (.aload_n 3, 1) := dk_45 (dk_at dksJ7_pollFirst_0 16 rfl rfl)
theorem dJ7_pollFirst_17 : decode cJ7_pollFirst 17 = .ok (.ifnull 17, 3) := dk_198 0 17 (dk_at dksJ7_pollFirst_0 17 rfl rfl)
theorem dJ7_pollFirst_20 : decode cJ7_pollFirst 20 = .ok (.aload_n 1, 1) := dk_43 (dk_at dksJ7_pollFirst_0 20 rfl rfl)
theorem dJ7_pollFirst_21 : decode cJ7_pollFirst 21 = .ok (.iload_n 2, 1) := dk_28 (dk_at dksJ7_pollFirst_0 21 rfl rfl)
theorem dJ7_pollFirst_22 : decode cJ7_pollFirst 22 = .ok (.aconst_null, 1) := dk_1 (dk_at dksJ7_pollFirst_0 22 rfl rfl)
theorem dJ7_pollFirst_23 : decode cJ7_pollFirst 23 = .ok (.aastore, 1) := dk_83 (dk_at dksJ7_pollFirst_0 23 rfl rfl)
theorem dJ7_pollFirst_24 : decode cJ7_pollFirst 24 = .ok (.aload_n 0, 1) := dk_42 (dk_at dksJ7_pollFirst_1 0 rfl rfl)
theorem dJ7_pollFirst_25 : decode cJ7_pollFirst 25 = .ok (.iload_n 2, 1) := dk_28 (dk_at dksJ7_pollFirst_1 1 rfl rfl)
theorem dJ7_pollFirst_26 : decode cJ7_pollFirst 26 = .ok (.aload_n 1, 1) := dk_43 (dk_at dksJ7_pollFirst_1 2 rfl rfl)
theorem dJ7_pollFirst_27 : decode cJ7_pollFirst 27 = .ok (.arraylength, 1) := dk_190 (dk_at dksJ7_pollFirst_1 3 rfl rfl)
theorem dJ7_pollFirst_28 : decode cJ7_pollFirst 28 = .ok (.invokestatic 74, 3) := dk_184 0 74 (dk_at dksJ7_pollFirst_1 4 rfl rfl)
theorem dJ7_pollFirst_31 : decode cJ7_pollFirst 31 = .ok (.putfield 24, 3) := dk_181 0 24 (dk_at dksJ7_pollFirst_1 7 rfl rfl)
theorem dJ7_pollFirst_34 : decode cJ7_pollFirst 34 = .ok (.aload_n 3, 1) := dk_45 (dk_at dksJ7_pollFirst_1 10 rfl rfl)
theorem dJ7_pollFirst_35 : decode cJ7_pollFirst 35 = .ok (.areturn, 1) := dk_176 (dk_at dksJ7_pollFirst_1 11 rfl rfl)
def dkwJ7_elementAt_0 : List UInt8 := [42, 27, 50, 176]
abbrev dktJ7_elementAt_0 : List UInt8 := dkwJ7_elementAt_0 ++ []
theorem dksJ7_elementAt_0 : cJ7_elementAt.data.toList.drop 0 = dktJ7_elementAt_0 := by decide +kernel
theorem dJ7_elementAt_0 : decode cJ7_elementAt 0 = .ok (.aload_n 0, 1) := dk_42 (dk_at dksJ7_elementAt_0 0 rfl rfl)
theorem dJ7_elementAt_1 : decode cJ7_elementAt 1 = .ok (.iload_n 1, 1) := dk_27 (dk_at dksJ7_elementAt_0 1 rfl rfl)
theorem dJ7_elementAt_2 : decode cJ7_elementAt 2 = .ok (.aaload, 1) := dk_50 (dk_at dksJ7_elementAt_0 2 rfl rfl)
theorem dJ7_elementAt_3 : decode cJ7_elementAt 3 = .ok (.areturn, 1) := dk_176 (dk_at dksJ7_elementAt_0 3 rfl rfl)
def dkwJ7_iterator_0 : List UInt8 := [187, 0, 131, 89, 42, 183, 0, 133, 176]
abbrev dktJ7_iterator_0 : List UInt8 := dkwJ7_iterator_0 ++ []
theorem dksJ7_iterator_0 : cJ7_iterator.data.toList.drop 0 = dktJ7_iterator_0 := by decide +kernel
theorem dJ7_iterator_0 : decode cJ7_iterator 0 = .ok (.new 131, 3) := dk_187 0 131 (dk_at dksJ7_iterator_0 0 rfl rfl)
theorem dJ7_iterator_3 : decode cJ7_iterator 3 = .ok (.dup, 1) := dk_89 (dk_at dksJ7_iterator_0 3 rfl rfl)
theorem dJ7_iterator_4 : decode cJ7_iterator 4 = .ok (.aload_n 0, 1) := dk_42 (dk_at dksJ7_iterator_0 4 rfl rfl)
theorem dJ7_iterator_5 : decode cJ7_iterator 5 = .ok (.invokespecial 133, 3) := dk_183 0 133 (dk_at dksJ7_iterator_0 5 rfl rfl)
theorem dJ7_iterator_8 : decode cJ7_iterator 8 = .ok (.areturn, 1) := dk_176 (dk_at dksJ7_iterator_0 8 rfl rfl)
def dkwJ7_size_0 : List UInt8 := [42, 180, 0, 20, 42, 180, 0, 24, 42, 180, 0, 3, 190, 184, 0, 127, 172]
abbrev dktJ7_size_0 : List UInt8 := dkwJ7_size_0 ++ []
theorem dksJ7_size_0 : cJ7_size.data.toList.drop 0 = dktJ7_size_0 := by decide +kernel
theorem dJ7_size_0 : decode cJ7_size 0 = .ok (.aload_n 0, 1) := dk_42 (dk_at dksJ7_size_0 0 rfl rfl)
theorem dJ7_size_1 : decode cJ7_size 1 = .ok (.getfield 20, 3) := dk_180 0 20 (dk_at dksJ7_size_0 1 rfl rfl)
theorem dJ7_size_4 : decode cJ7_size 4 = .ok (.aload_n 0, 1) := dk_42 (dk_at dksJ7_size_0 4 rfl rfl)
theorem dJ7_size_5 : decode cJ7_size 5 = .ok (.getfield 24, 3) := dk_180 0 24 (dk_at dksJ7_size_0 5 rfl rfl)
theorem dJ7_size_8 : decode cJ7_size 8 = .ok (.aload_n 0, 1) := dk_42 (dk_at dksJ7_size_0 8 rfl rfl)
theorem dJ7_size_9 : decode cJ7_size 9 = .ok (.getfield 3, 3) := dk_180 0 3 (dk_at dksJ7_size_0 9 rfl rfl)
theorem dJ7_size_12 : decode cJ7_size 12 = .ok (.arraylength, 1) := dk_190 (dk_at dksJ7_size_0 12 rfl rfl)
theorem dJ7_size_13 : decode cJ7_size 13 = .ok (.invokestatic 127, 3) := dk_184 0 127 (dk_at dksJ7_size_0 13 rfl rfl)
theorem dJ7_size_16 : decode cJ7_size 16 = .ok (.ireturn, 1) := dk_172 (dk_at dksJ7_size_0 16 rfl rfl)
def dkwJ7_sub_0 : List UInt8 := [26, 27, 100, 89, 59, 156, 0, 7, 26, 28, 96, 59, 26, 172]
abbrev dktJ7_sub_0 : List UInt8 := dkwJ7_sub_0 ++ []
theorem dksJ7_sub_0 : cJ7_sub.data.toList.drop 0 = dktJ7_sub_0 := by decide +kernel
theorem dJ7_sub_0 : decode cJ7_sub 0 = .ok (.iload_n 0, 1) := dk_26 (dk_at dksJ7_sub_0 0 rfl rfl)
theorem dJ7_sub_1 : decode cJ7_sub 1 = .ok (.iload_n 1, 1) := dk_27 (dk_at dksJ7_sub_0 1 rfl rfl)
theorem dJ7_sub_2 : decode cJ7_sub 2 = .ok (.isub, 1) := dk_100 (dk_at dksJ7_sub_0 2 rfl rfl)
theorem dJ7_sub_3 : decode cJ7_sub 3 = .ok (.dup, 1) := dk_89 (dk_at dksJ7_sub_0 3 rfl rfl)
theorem dJ7_sub_4 : decode cJ7_sub 4 = .ok (.istore_n 0, 1) := dk_59 (dk_at dksJ7_sub_0 4 rfl rfl)
theorem dJ7_sub_5 : decode cJ7_sub 5 = .ok (.ifCond .ge 7, 3) := dk_156 0 7 (dk_at dksJ7_sub_0 5 rfl rfl)
theorem dJ7_sub_8 : decode cJ7_sub 8 = .ok (.iload_n 0, 1) := dk_26 (dk_at dksJ7_sub_0 8 rfl rfl)
theorem dJ7_sub_9 : decode cJ7_sub 9 = .ok (.iload_n 2, 1) := dk_28 (dk_at dksJ7_sub_0 9 rfl rfl)
theorem dJ7_sub_10 : decode cJ7_sub 10 = .ok (.iadd, 1) := dk_96 (dk_at dksJ7_sub_0 10 rfl rfl)
theorem dJ7_sub_11 : decode cJ7_sub 11 = .ok (.istore_n 0, 1) := dk_59 (dk_at dksJ7_sub_0 11 rfl rfl)
theorem dJ7_sub_12 : decode cJ7_sub 12 = .ok (.iload_n 0, 1) := dk_26 (dk_at dksJ7_sub_0 12 rfl rfl)
theorem dJ7_sub_13 : decode cJ7_sub 13 = .ok (.ireturn, 1) := dk_172 (dk_at dksJ7_sub_0 13 rfl rfl)
def dkwJ7_addLast_2 : List UInt8 := [182, 0, 71, 177]
abbrev dktJ7_addLast_2 : List UInt8 := dkwJ7_addLast_2 ++ []
def dkwJ7_addLast_1 : List UInt8 := [42, 180, 0, 24, 42, 42, 180, 0, 20, 44, 190, 184, 0, 74, 90, 181, 0, 20, 160, 0, 8, 42, 4]
abbrev dktJ7_addLast_1 : List UInt8 := dkwJ7_addLast_1 ++ dktJ7_addLast_2
def dkwJ7_addLast_0 : List UInt8 := [43, 199, 0, 11, 187, 0, 65, 89, 183, 0, 67, 191, 42, 180, 0, 3, 77, 44, 42, 180, 0, 20, 43, 83]
abbrev dktJ7_addLast_0 : List UInt8 := dkwJ7_addLast_0 ++ dktJ7_addLast_1
theorem dksJ7_addLast_0 : cJ7_addLast.data.toList.drop 0 = dktJ7_addLast_0 := by decide +kernel
theorem dksJ7_addLast_1 : cJ7_addLast.data.toList.drop 24 = dktJ7_addLast_1 := dk_seg dksJ7_addLast_0 24 rfl rfl
theorem dksJ7_addLast_2 : cJ7_addLast.data.toList.drop 47 = dktJ7_addLast_2 := dk_seg dksJ7_addLast_1 23 rfl rfl
theorem dJ7_addLast_0 : decode cJ7_addLast 0 = .ok (.aload_n 1, 1) := dk_43 (dk_at dksJ7_addLast_0 0 rfl rfl)
theorem dJ7_addLast_1 : decode cJ7_addLast 1 = .ok (.ifnonnull 11, 3) := dk_199 0 11 (dk_at dksJ7_addLast_0 1 rfl rfl)
theorem dJ7_addLast_12 : decode cJ7_addLast 12 = .ok (.aload_n 0, 1) := dk_42 (dk_at dksJ7_addLast_0 12 rfl rfl)
theorem dJ7_addLast_13 : decode cJ7_addLast 13 = .ok (.getfield 3, 3) := dk_180 0 3 (dk_at dksJ7_addLast_0 13 rfl rfl)
theorem dJ7_addLast_16 : decode cJ7_addLast 16 = .ok (.astore_n 2, 1) := dk_77 (dk_at dksJ7_addLast_0 16 rfl rfl)
theorem dJ7_addLast_17 : decode cJ7_addLast 17 = .ok (.aload_n 2, 1) := dk_44 (dk_at dksJ7_addLast_0 17 rfl rfl)
theorem dJ7_addLast_18 : decode cJ7_addLast 18 = .ok (.aload_n 0, 1) := dk_42 (dk_at dksJ7_addLast_0 18 rfl rfl)
theorem dJ7_addLast_19 : decode cJ7_addLast 19 = .ok (.getfield 20, 3) := dk_180 0 20 (dk_at dksJ7_addLast_0 19 rfl rfl)
theorem dJ7_addLast_22 : decode cJ7_addLast 22 = .ok (.aload_n 1, 1) := dk_43 (dk_at dksJ7_addLast_0 22 rfl rfl)
theorem dJ7_addLast_23 : decode cJ7_addLast 23 = .ok (.aastore, 1) := dk_83 (dk_at dksJ7_addLast_0 23 rfl rfl)
theorem dJ7_addLast_24 : decode cJ7_addLast 24 = .ok (.aload_n 0, 1) := dk_42 (dk_at dksJ7_addLast_1 0 rfl rfl)
theorem dJ7_addLast_25 : decode cJ7_addLast 25 = .ok (.getfield 24, 3) := dk_180 0 24 (dk_at dksJ7_addLast_1 1 rfl rfl)
theorem dJ7_addLast_28 : decode cJ7_addLast 28 = .ok (.aload_n 0, 1) := dk_42 (dk_at dksJ7_addLast_1 4 rfl rfl)
theorem dJ7_addLast_29 : decode cJ7_addLast 29 = .ok (.aload_n 0, 1) := dk_42 (dk_at dksJ7_addLast_1 5 rfl rfl)
theorem dJ7_addLast_30 : decode cJ7_addLast 30 = .ok (.getfield 20, 3) := dk_180 0 20 (dk_at dksJ7_addLast_1 6 rfl rfl)
theorem dJ7_addLast_33 : decode cJ7_addLast 33 = .ok (.aload_n 2, 1) := dk_44 (dk_at dksJ7_addLast_1 9 rfl rfl)
theorem dJ7_addLast_34 : decode cJ7_addLast 34 = .ok (.arraylength, 1) := dk_190 (dk_at dksJ7_addLast_1 10 rfl rfl)
theorem dJ7_addLast_35 : decode cJ7_addLast 35 = .ok (.invokestatic 74, 3) := dk_184 0 74 (dk_at dksJ7_addLast_1 11 rfl rfl)
theorem dJ7_addLast_38 : decode cJ7_addLast 38 = .ok (.dup_x1, 1) := dk_90 (dk_at dksJ7_addLast_1 14 rfl rfl)
theorem dJ7_addLast_39 : decode cJ7_addLast 39 = .ok (.putfield 20, 3) := dk_181 0 20 (dk_at dksJ7_addLast_1 15 rfl rfl)
theorem dJ7_addLast_42 : decode cJ7_addLast 42 = .ok (.if_icmp .ne 8, 3) := dk_160 0 8 (dk_at dksJ7_addLast_1 18 rfl rfl)
theorem dJ7_addLast_45 : decode cJ7_addLast 45 = .ok (.aload_n 0, 1) := dk_42 (dk_at dksJ7_addLast_1 21 rfl rfl)
theorem dJ7_addLast_46 : decode cJ7_addLast 46 = .ok (.iconst 1, 1) := dk_4 (dk_at dksJ7_addLast_1 22 rfl rfl)
theorem dJ7_addLast_47 : decode cJ7_addLast 47 = .ok (.invokevirtual 71, 3) := dk_182 0 71 (dk_at dksJ7_addLast_2 0 rfl rfl)
theorem dJ7_addLast_50 : decode cJ7_addLast 50 = .ok (.return_, 1) := dk_177 (dk_at dksJ7_addLast_2 3 rfl rfl)
def dkwJ7_grow_7 : List UInt8 := [177]
abbrev dktJ7_grow_7 : List UInt8 := dkwJ7_grow_7 ++ []
def dkwJ7_grow_6 : List UInt8 := [181, 0, 24, 54, 8, 21, 7, 21, 8, 162, 0, 15, 25, 5, 21, 7, 1, 83, 132, 7, 1, 167, 255, 240]
abbrev dktJ7_grow_6 : List UInt8 := dkwJ7_grow_6 ++ dktJ7_grow_7
def dkwJ7_grow_5 : List UInt8 := [42, 180, 0, 24, 100, 184, 0, 27, 42, 180, 0, 24, 54, 7, 42, 89, 180, 0, 24, 21, 6, 96, 90]
abbrev dktJ7_grow_5 : List UInt8 := dkwJ7_grow_5 ++ dktJ7_grow_6
def dkwJ7_grow_4 : List UInt8 := [198, 0, 71, 29, 28, 100, 54, 6, 25, 5, 42, 180, 0, 24, 25, 5, 42, 180, 0, 24, 21, 6, 96, 28]
abbrev dktJ7_grow_4 : List UInt8 := dkwJ7_grow_4 ++ dktJ7_grow_5
def dkwJ7_grow_3 : List UInt8 := [180, 0, 24, 161, 0, 24, 42, 180, 0, 20, 42, 180, 0, 24, 160, 0, 81, 25, 5, 42, 180, 0, 24, 50]
abbrev dktJ7_grow_3 : List UInt8 := dkwJ7_grow_3 ++ dktJ7_grow_4
def dkwJ7_grow_2 : List UInt8 := [182, 0, 10, 62, 42, 42, 180, 0, 3, 29, 184, 0, 14, 90, 181, 0, 3, 58, 5, 42, 180, 0, 20, 42]
abbrev dktJ7_grow_2 : List UInt8 := dkwJ7_grow_2 ++ dktJ7_grow_3
def dkwJ7_grow_1 : List UInt8 := [21, 4, 27, 161, 0, 15, 28, 21, 4, 96, 89, 62, 18, 9, 100, 158, 0, 11, 42, 27, 21, 4]
abbrev dktJ7_grow_1 : List UInt8 := dkwJ7_grow_1 ++ dktJ7_grow_2
def dkwJ7_grow_0 : List UInt8 := [42, 180, 0, 3, 190, 61, 28, 16, 64, 162, 0, 9, 28, 5, 96, 167, 0, 6, 28, 4, 122, 54, 4]
abbrev dktJ7_grow_0 : List UInt8 := dkwJ7_grow_0 ++ dktJ7_grow_1
theorem dksJ7_grow_0 : cJ7_grow.data.toList.drop 0 = dktJ7_grow_0 := by decide +kernel
theorem dksJ7_grow_1 : cJ7_grow.data.toList.drop 23 = dktJ7_grow_1 := dk_seg dksJ7_grow_0 23 rfl rfl
theorem dksJ7_grow_2 : cJ7_grow.data.toList.drop 45 = dktJ7_grow_2 := dk_seg dksJ7_grow_1 22 rfl rfl
theorem dksJ7_grow_3 : cJ7_grow.data.toList.drop 69 = dktJ7_grow_3 := dk_seg dksJ7_grow_2 24 rfl rfl
theorem dksJ7_grow_4 : cJ7_grow.data.toList.drop 93 = dktJ7_grow_4 := dk_seg dksJ7_grow_3 24 rfl rfl
theorem dksJ7_grow_5 : cJ7_grow.data.toList.drop 117 = dktJ7_grow_5 := dk_seg dksJ7_grow_4 24 rfl rfl
theorem dksJ7_grow_6 : cJ7_grow.data.toList.drop 140 = dktJ7_grow_6 := dk_seg dksJ7_grow_5 23 rfl rfl
theorem dksJ7_grow_7 : cJ7_grow.data.toList.drop 164 = dktJ7_grow_7 := dk_seg dksJ7_grow_6 24 rfl rfl
theorem dJ7_grow_0 : decode cJ7_grow 0 = .ok (.aload_n 0, 1) := dk_42 (dk_at dksJ7_grow_0 0 rfl rfl)
theorem dJ7_grow_1 : decode cJ7_grow 1 = .ok (.getfield 3, 3) := dk_180 0 3 (dk_at dksJ7_grow_0 1 rfl rfl)
theorem dJ7_grow_4 : decode cJ7_grow 4 = .ok (.arraylength, 1) := dk_190 (dk_at dksJ7_grow_0 4 rfl rfl)
theorem dJ7_grow_5 : decode cJ7_grow 5 = .ok (.istore_n 2, 1) := dk_61 (dk_at dksJ7_grow_0 5 rfl rfl)
theorem dJ7_grow_6 : decode cJ7_grow 6 = .ok (.iload_n 2, 1) := dk_28 (dk_at dksJ7_grow_0 6 rfl rfl)
theorem dJ7_grow_7 : decode cJ7_grow 7 = .ok (.bipush 64, 2) := dk_16 64 (dk_at dksJ7_grow_0 7 rfl rfl)
theorem dJ7_grow_9 : decode cJ7_grow 9 = .ok (.if_icmp .ge 9, 3) := dk_162 0 9 (dk_at dksJ7_grow_0 9 rfl rfl)
theorem dJ7_grow_12 : decode cJ7_grow 12 = .ok (.iload_n 2, 1) := dk_28 (dk_at dksJ7_grow_0 12 rfl rfl)
theorem dJ7_grow_13 : decode cJ7_grow 13 = .ok (.iconst 2, 1) := dk_5 (dk_at dksJ7_grow_0 13 rfl rfl)
theorem dJ7_grow_14 : decode cJ7_grow 14 = .ok (.iadd, 1) := dk_96 (dk_at dksJ7_grow_0 14 rfl rfl)
theorem dJ7_grow_15 : decode cJ7_grow 15 = .ok (.goto 6, 3) := dk_167 0 6 (dk_at dksJ7_grow_0 15 rfl rfl)
theorem dJ7_grow_18 : decode cJ7_grow 18 = .ok (.iload_n 2, 1) := dk_28 (dk_at dksJ7_grow_0 18 rfl rfl)
theorem dJ7_grow_19 : decode cJ7_grow 19 = .ok (.iconst 1, 1) := dk_4 (dk_at dksJ7_grow_0 19 rfl rfl)
theorem dJ7_grow_20 : decode cJ7_grow 20 = .ok (.ishr, 1) := dk_122 (dk_at dksJ7_grow_0 20 rfl rfl)
theorem dJ7_grow_21 : decode cJ7_grow 21 = .ok (.istore 4, 2) := dk_54 4 (dk_at dksJ7_grow_0 21 rfl rfl)
theorem dJ7_grow_23 : decode cJ7_grow 23 = .ok (.iload 4, 2) := dk_21 4 (dk_at dksJ7_grow_1 0 rfl rfl)
theorem dJ7_grow_25 : decode cJ7_grow 25 = .ok (.iload_n 1, 1) := dk_27 (dk_at dksJ7_grow_1 2 rfl rfl)
theorem dJ7_grow_26 : decode cJ7_grow 26 = .ok (.if_icmp .lt 15, 3) := dk_161 0 15 (dk_at dksJ7_grow_1 3 rfl rfl)
theorem dJ7_grow_29 : decode cJ7_grow 29 = .ok (.iload_n 2, 1) := dk_28 (dk_at dksJ7_grow_1 6 rfl rfl)
theorem dJ7_grow_30 : decode cJ7_grow 30 = .ok (.iload 4, 2) := dk_21 4 (dk_at dksJ7_grow_1 7 rfl rfl)
theorem dJ7_grow_32 : decode cJ7_grow 32 = .ok (.iadd, 1) := dk_96 (dk_at dksJ7_grow_1 9 rfl rfl)
theorem dJ7_grow_33 : decode cJ7_grow 33 = .ok (.dup, 1) := dk_89 (dk_at dksJ7_grow_1 10 rfl rfl)
theorem dJ7_grow_34 : decode cJ7_grow 34 = .ok (.istore_n 3, 1) := dk_62 (dk_at dksJ7_grow_1 11 rfl rfl)
theorem dJ7_grow_35 : decode cJ7_grow 35 = .ok (.ldc 9, 2) := dk_18 9 (dk_at dksJ7_grow_1 12 rfl rfl)
theorem dJ7_grow_37 : decode cJ7_grow 37 = .ok (.isub, 1) := dk_100 (dk_at dksJ7_grow_1 14 rfl rfl)
theorem dJ7_grow_38 : decode cJ7_grow 38 = .ok (.ifCond .le 11, 3) := dk_158 0 11 (dk_at dksJ7_grow_1 15 rfl rfl)
theorem dJ7_grow_41 : decode cJ7_grow 41 = .ok (.aload_n 0, 1) := dk_42 (dk_at dksJ7_grow_1 18 rfl rfl)
theorem dJ7_grow_42 : decode cJ7_grow 42 = .ok (.iload_n 1, 1) := dk_27 (dk_at dksJ7_grow_1 19 rfl rfl)
theorem dJ7_grow_43 : decode cJ7_grow 43 = .ok (.iload 4, 2) := dk_21 4 (dk_at dksJ7_grow_1 20 rfl rfl)
theorem dJ7_grow_45 : decode cJ7_grow 45 = .ok (.invokevirtual 10, 3) := dk_182 0 10 (dk_at dksJ7_grow_2 0 rfl rfl)
theorem dJ7_grow_48 : decode cJ7_grow 48 = .ok (.istore_n 3, 1) := dk_62 (dk_at dksJ7_grow_2 3 rfl rfl)
theorem dJ7_grow_49 : decode cJ7_grow 49 = .ok (.aload_n 0, 1) := dk_42 (dk_at dksJ7_grow_2 4 rfl rfl)
theorem dJ7_grow_50 : decode cJ7_grow 50 = .ok (.aload_n 0, 1) := dk_42 (dk_at dksJ7_grow_2 5 rfl rfl)
theorem dJ7_grow_51 : decode cJ7_grow 51 = .ok (.getfield 3, 3) := dk_180 0 3 (dk_at dksJ7_grow_2 6 rfl rfl)
theorem dJ7_grow_54 : decode cJ7_grow 54 = .ok (.iload_n 3, 1) := dk_29 (dk_at dksJ7_grow_2 9 rfl rfl)
theorem dJ7_grow_55 : decode cJ7_grow 55 = .ok (.invokestatic 14, 3) := dk_184 0 14 (dk_at dksJ7_grow_2 10 rfl rfl)
theorem dJ7_grow_58 : decode cJ7_grow 58 = .ok (.dup_x1, 1) := dk_90 (dk_at dksJ7_grow_2 13 rfl rfl)
theorem dJ7_grow_59 : decode cJ7_grow 59 = .ok (.putfield 3, 3) := dk_181 0 3 (dk_at dksJ7_grow_2 14 rfl rfl)
theorem dJ7_grow_62 : decode cJ7_grow 62 = .ok (.astore 5, 2) := dk_58 5 (dk_at dksJ7_grow_2 17 rfl rfl)
theorem dJ7_grow_64 : decode cJ7_grow 64 = .ok (.aload_n 0, 1) := dk_42 (dk_at dksJ7_grow_2 19 rfl rfl)
theorem dJ7_grow_65 : decode cJ7_grow 65 = .ok (.getfield 20, 3) := dk_180 0 20 (dk_at dksJ7_grow_2 20 rfl rfl)
theorem dJ7_grow_68 : decode cJ7_grow 68 = .ok (.aload_n 0, 1) := dk_42 (dk_at dksJ7_grow_2 23 rfl rfl)
theorem dJ7_grow_69 : decode cJ7_grow 69 = .ok (.getfield 24, 3) := dk_180 0 24 (dk_at dksJ7_grow_3 0 rfl rfl)
theorem dJ7_grow_72 : decode cJ7_grow 72 = .ok (.if_icmp .lt 24, 3) := dk_161 0 24 (dk_at dksJ7_grow_3 3 rfl rfl)
theorem dJ7_grow_75 : decode cJ7_grow 75 = .ok (.aload_n 0, 1) := dk_42 (dk_at dksJ7_grow_3 6 rfl rfl)
theorem dJ7_grow_76 : decode cJ7_grow 76 = .ok (.getfield 20, 3) := dk_180 0 20 (dk_at dksJ7_grow_3 7 rfl rfl)
theorem dJ7_grow_79 : decode cJ7_grow 79 = .ok (.aload_n 0, 1) := dk_42 (dk_at dksJ7_grow_3 10 rfl rfl)
theorem dJ7_grow_80 : decode cJ7_grow 80 = .ok (.getfield 24, 3) := dk_180 0 24 (dk_at dksJ7_grow_3 11 rfl rfl)
theorem dJ7_grow_83 : decode cJ7_grow 83 = .ok (.if_icmp .ne 81, 3) := dk_160 0 81 (dk_at dksJ7_grow_3 14 rfl rfl)
theorem dJ7_grow_86 : decode cJ7_grow 86 = .ok (.aload 5, 2) := dk_25 5 (dk_at dksJ7_grow_3 17 rfl rfl)
theorem dJ7_grow_88 : decode cJ7_grow 88 = .ok (.aload_n 0, 1) := dk_42 (dk_at dksJ7_grow_3 19 rfl rfl)
theorem dJ7_grow_89 : decode cJ7_grow 89 = .ok (.getfield 24, 3) := dk_180 0 24 (dk_at dksJ7_grow_3 20 rfl rfl)
theorem dJ7_grow_92 : decode cJ7_grow 92 = .ok (.aaload, 1) := dk_50 (dk_at dksJ7_grow_3 23 rfl rfl)
theorem dJ7_grow_93 : decode cJ7_grow 93 = .ok (.ifnull 71, 3) := dk_198 0 71 (dk_at dksJ7_grow_4 0 rfl rfl)
theorem dJ7_grow_96 : decode cJ7_grow 96 = .ok (.iload_n 3, 1) := dk_29 (dk_at dksJ7_grow_4 3 rfl rfl)
theorem dJ7_grow_97 : decode cJ7_grow 97 = .ok (.iload_n 2, 1) := dk_28 (dk_at dksJ7_grow_4 4 rfl rfl)
theorem dJ7_grow_98 : decode cJ7_grow 98 = .ok (.isub, 1) := dk_100 (dk_at dksJ7_grow_4 5 rfl rfl)
theorem dJ7_grow_99 : decode cJ7_grow 99 = .ok (.istore 6, 2) := dk_54 6 (dk_at dksJ7_grow_4 6 rfl rfl)
theorem dJ7_grow_101 : decode cJ7_grow 101 = .ok (.aload 5, 2) := dk_25 5 (dk_at dksJ7_grow_4 8 rfl rfl)
theorem dJ7_grow_103 : decode cJ7_grow 103 = .ok (.aload_n 0, 1) := dk_42 (dk_at dksJ7_grow_4 10 rfl rfl)
theorem dJ7_grow_104 : decode cJ7_grow 104 = .ok (.getfield 24, 3) := dk_180 0 24 (dk_at dksJ7_grow_4 11 rfl rfl)
theorem dJ7_grow_107 : decode cJ7_grow 107 = .ok (.aload 5, 2) := dk_25 5 (dk_at dksJ7_grow_4 14 rfl rfl)
theorem dJ7_grow_109 : decode cJ7_grow 109 = .ok (.aload_n 0, 1) := dk_42 (dk_at dksJ7_grow_4 16 rfl rfl)
theorem dJ7_grow_110 : decode cJ7_grow 110 = .ok (.getfield 24, 3) := dk_180 0 24 (dk_at dksJ7_grow_4 17 rfl rfl)
theorem dJ7_grow_113 : decode cJ7_grow 113 = .ok (.iload 6, 2) := dk_21 6 (dk_at dksJ7_grow_4 20 rfl rfl)
theorem dJ7_grow_115 : decode cJ7_grow 115 = .ok (.iadd, 1) := dk_96 (dk_at dksJ7_grow_4 22 rfl rfl)
theorem dJ7_grow_116 : decode cJ7_grow 116 = .ok (.iload_n 2, 1) := dk_28 (dk_at dksJ7_grow_4 23 rfl rfl)
theorem dJ7_grow_117 : decode cJ7_grow 117 = .ok (.aload_n 0, 1) := dk_42 (dk_at dksJ7_grow_5 0 rfl rfl)
theorem dJ7_grow_118 : decode cJ7_grow 118 = .ok (.getfield 24, 3) := dk_180 0 24 (dk_at dksJ7_grow_5 1 rfl rfl)
theorem dJ7_grow_121 : decode cJ7_grow 121 = .ok (.isub, 1) := dk_100 (dk_at dksJ7_grow_5 4 rfl rfl)
theorem dJ7_grow_122 : decode cJ7_grow 122 = .ok (.invokestatic 27, 3) := dk_184 0 27 (dk_at dksJ7_grow_5 5 rfl rfl)
theorem dJ7_grow_125 : decode cJ7_grow 125 = .ok (.aload_n 0, 1) := dk_42 (dk_at dksJ7_grow_5 8 rfl rfl)
theorem dJ7_grow_126 : decode cJ7_grow 126 = .ok (.getfield 24, 3) := dk_180 0 24 (dk_at dksJ7_grow_5 9 rfl rfl)
theorem dJ7_grow_129 : decode cJ7_grow 129 = .ok (.istore 7, 2) := dk_54 7 (dk_at dksJ7_grow_5 12 rfl rfl)
theorem dJ7_grow_131 : decode cJ7_grow 131 = .ok (.aload_n 0, 1) := dk_42 (dk_at dksJ7_grow_5 14 rfl rfl)
theorem dJ7_grow_132 : decode cJ7_grow 132 = .ok (.dup, 1) := dk_89 (dk_at dksJ7_grow_5 15 rfl rfl)
theorem dJ7_grow_133 : decode cJ7_grow 133 = .ok (.getfield 24, 3) := dk_180 0 24 (dk_at dksJ7_grow_5 16 rfl rfl)
theorem dJ7_grow_136 : decode cJ7_grow 136 = .ok (.iload 6, 2) := dk_21 6 (dk_at dksJ7_grow_5 19 rfl rfl)
theorem dJ7_grow_138 : decode cJ7_grow 138 = .ok (.iadd, 1) := dk_96 (dk_at dksJ7_grow_5 21 rfl rfl)
theorem dJ7_grow_139 : decode cJ7_grow 139 = .ok (.dup_x1, 1) := dk_90 (dk_at dksJ7_grow_5 22 rfl rfl)
theorem dJ7_grow_140 : decode cJ7_grow 140 = .ok (.putfield 24, 3) := dk_181 0 24 (dk_at dksJ7_grow_6 0 rfl rfl)
theorem dJ7_grow_143 : decode cJ7_grow 143 = .ok (.istore 8, 2) := dk_54 8 (dk_at dksJ7_grow_6 3 rfl rfl)
theorem dJ7_grow_145 : decode cJ7_grow 145 = .ok (.iload 7, 2) := dk_21 7 (dk_at dksJ7_grow_6 5 rfl rfl)
theorem dJ7_grow_147 : decode cJ7_grow 147 = .ok (.iload 8, 2) := dk_21 8 (dk_at dksJ7_grow_6 7 rfl rfl)
theorem dJ7_grow_149 : decode cJ7_grow 149 = .ok (.if_icmp .ge 15, 3) := dk_162 0 15 (dk_at dksJ7_grow_6 9 rfl rfl)
theorem dJ7_grow_152 : decode cJ7_grow 152 = .ok (.aload 5, 2) := dk_25 5 (dk_at dksJ7_grow_6 12 rfl rfl)
theorem dJ7_grow_154 : decode cJ7_grow 154 = .ok (.iload 7, 2) := dk_21 7 (dk_at dksJ7_grow_6 14 rfl rfl)
theorem dJ7_grow_156 : decode cJ7_grow 156 = .ok (.aconst_null, 1) := dk_1 (dk_at dksJ7_grow_6 16 rfl rfl)
theorem dJ7_grow_157 : decode cJ7_grow 157 = .ok (.aastore, 1) := dk_83 (dk_at dksJ7_grow_6 17 rfl rfl)
theorem dJ7_grow_158 : decode cJ7_grow 158 = .ok (.iinc 7 1, 3) := dk_132 7 1 (dk_at dksJ7_grow_6 18 rfl rfl)
theorem dJ7_grow_161 : decode cJ7_grow 161 = .ok (.goto (-16), 3) := dk_167 255 240 (dk_at dksJ7_grow_6 21 rfl rfl)
theorem dJ7_grow_164 : decode cJ7_grow 164 = .ok (.return_, 1) := dk_177 (dk_at dksJ7_grow_7 0 rfl rfl)
def dkwJ7_newCapacity_2 : List UInt8 := [18, 9, 100, 156, 0, 9, 29, 28, 96, 167, 0, 5, 18, 9, 172]
abbrev dktJ7_newCapacity_2 : List UInt8 := dkwJ7_newCapacity_2 ++ []
def dkwJ7_newCapacity_1 : List UInt8 := [187, 0, 33, 89, 18, 35, 183, 0, 37, 191, 18, 41, 172, 27, 28, 164, 0, 6, 21, 4, 172, 29, 28, 96]
abbrev dktJ7_newCapacity_1 : List UInt8 := dkwJ7_newCapacity_1 ++ dktJ7_newCapacity_2
def dkwJ7_newCapacity_0 : List UInt8 := [42, 180, 0, 3, 190, 62, 29, 27, 96, 89, 54, 4, 18, 9, 100, 158, 0, 21, 21, 4, 156, 0, 13]
abbrev dktJ7_newCapacity_0 : List UInt8 := dkwJ7_newCapacity_0 ++ dktJ7_newCapacity_1
theorem dksJ7_newCapacity_0 : cJ7_newCapacity.data.toList.drop 0 = dktJ7_newCapacity_0 := by decide +kernel
theorem dksJ7_newCapacity_1 : cJ7_newCapacity.data.toList.drop 23 = dktJ7_newCapacity_1 := dk_seg dksJ7_newCapacity_0 23 rfl rfl
theorem dksJ7_newCapacity_2 : cJ7_newCapacity.data.toList.drop 47 = dktJ7_newCapacity_2 := dk_seg dksJ7_newCapacity_1 24 rfl rfl
theorem dJ7_newCapacity_0 : decode cJ7_newCapacity 0 = .ok (.aload_n 0, 1) := dk_42 (dk_at dksJ7_newCapacity_0 0 rfl rfl)
theorem dJ7_newCapacity_1 : decode cJ7_newCapacity 1 = .ok (.getfield 3, 3) := dk_180 0 3 (dk_at dksJ7_newCapacity_0 1 rfl rfl)
theorem dJ7_newCapacity_4 : decode cJ7_newCapacity 4 = .ok (.arraylength, 1) := dk_190 (dk_at dksJ7_newCapacity_0 4 rfl rfl)
theorem dJ7_newCapacity_5 : decode cJ7_newCapacity 5 = .ok (.istore_n 3, 1) := dk_62 (dk_at dksJ7_newCapacity_0 5 rfl rfl)
theorem dJ7_newCapacity_6 : decode cJ7_newCapacity 6 = .ok (.iload_n 3, 1) := dk_29 (dk_at dksJ7_newCapacity_0 6 rfl rfl)
theorem dJ7_newCapacity_7 : decode cJ7_newCapacity 7 = .ok (.iload_n 1, 1) := dk_27 (dk_at dksJ7_newCapacity_0 7 rfl rfl)
theorem dJ7_newCapacity_8 : decode cJ7_newCapacity 8 = .ok (.iadd, 1) := dk_96 (dk_at dksJ7_newCapacity_0 8 rfl rfl)
theorem dJ7_newCapacity_9 : decode cJ7_newCapacity 9 = .ok (.dup, 1) := dk_89 (dk_at dksJ7_newCapacity_0 9 rfl rfl)
theorem dJ7_newCapacity_10 : decode cJ7_newCapacity 10 = .ok (.istore 4, 2) := dk_54 4 (dk_at dksJ7_newCapacity_0 10 rfl rfl)
theorem dJ7_newCapacity_12 : decode cJ7_newCapacity 12 = .ok (.ldc 9, 2) := dk_18 9 (dk_at dksJ7_newCapacity_0 12 rfl rfl)
theorem dJ7_newCapacity_14 : decode cJ7_newCapacity 14 = .ok (.isub, 1) := dk_100 (dk_at dksJ7_newCapacity_0 14 rfl rfl)
theorem dJ7_newCapacity_15 : decode cJ7_newCapacity 15 = .ok (.ifCond .le 21, 3) := dk_158 0 21 (dk_at dksJ7_newCapacity_0 15 rfl rfl)
theorem dJ7_newCapacity_18 : decode cJ7_newCapacity 18 = .ok (.iload 4, 2) := dk_21 4 (dk_at dksJ7_newCapacity_0 18 rfl rfl)
theorem dJ7_newCapacity_20 : decode cJ7_newCapacity 20 = .ok (.ifCond .ge 13, 3) := dk_156 0 13 (dk_at dksJ7_newCapacity_0 20 rfl rfl)
theorem dJ7_newCapacity_33 : decode cJ7_newCapacity 33 = .ok (.ldc 41, 2) := dk_18 41 (dk_at dksJ7_newCapacity_1 10 rfl rfl)
theorem dJ7_newCapacity_35 : decode cJ7_newCapacity 35 = .ok (.ireturn, 1) := dk_172 (dk_at dksJ7_newCapacity_1 12 rfl rfl)
theorem dJ7_newCapacity_36 : decode cJ7_newCapacity 36 = .ok (.iload_n 1, 1) := dk_27 (dk_at dksJ7_newCapacity_1 13 rfl rfl)
theorem dJ7_newCapacity_37 : decode cJ7_newCapacity 37 = .ok (.iload_n 2, 1) := dk_28 (dk_at dksJ7_newCapacity_1 14 rfl rfl)
theorem dJ7_newCapacity_38 : decode cJ7_newCapacity 38 = .ok (.if_icmp .le 6, 3) := dk_164 0 6 (dk_at dksJ7_newCapacity_1 15 rfl rfl)
theorem dJ7_newCapacity_41 : decode cJ7_newCapacity 41 = .ok (.iload 4, 2) := dk_21 4 (dk_at dksJ7_newCapacity_1 18 rfl rfl)
theorem dJ7_newCapacity_43 : decode cJ7_newCapacity 43 = .ok (.ireturn, 1) := dk_172 (dk_at dksJ7_newCapacity_1 20 rfl rfl)
theorem dJ7_newCapacity_44 : decode cJ7_newCapacity 44 = .ok (.iload_n 3, 1) := dk_29 (dk_at dksJ7_newCapacity_1 21 rfl rfl)
theorem dJ7_newCapacity_45 : decode cJ7_newCapacity 45 = .ok (.iload_n 2, 1) := dk_28 (dk_at dksJ7_newCapacity_1 22 rfl rfl)
theorem dJ7_newCapacity_46 : decode cJ7_newCapacity 46 = .ok (.iadd, 1) := dk_96 (dk_at dksJ7_newCapacity_1 23 rfl rfl)
theorem dJ7_newCapacity_47 : decode cJ7_newCapacity 47 = .ok (.ldc 9, 2) := dk_18 9 (dk_at dksJ7_newCapacity_2 0 rfl rfl)
theorem dJ7_newCapacity_49 : decode cJ7_newCapacity 49 = .ok (.isub, 1) := dk_100 (dk_at dksJ7_newCapacity_2 2 rfl rfl)
theorem dJ7_newCapacity_50 : decode cJ7_newCapacity 50 = .ok (.ifCond .ge 9, 3) := dk_156 0 9 (dk_at dksJ7_newCapacity_2 3 rfl rfl)
theorem dJ7_newCapacity_53 : decode cJ7_newCapacity 53 = .ok (.iload_n 3, 1) := dk_29 (dk_at dksJ7_newCapacity_2 6 rfl rfl)
theorem dJ7_newCapacity_54 : decode cJ7_newCapacity 54 = .ok (.iload_n 2, 1) := dk_28 (dk_at dksJ7_newCapacity_2 7 rfl rfl)
theorem dJ7_newCapacity_55 : decode cJ7_newCapacity 55 = .ok (.iadd, 1) := dk_96 (dk_at dksJ7_newCapacity_2 8 rfl rfl)
theorem dJ7_newCapacity_56 : decode cJ7_newCapacity 56 = .ok (.goto 5, 3) := dk_167 0 5 (dk_at dksJ7_newCapacity_2 9 rfl rfl)
theorem dJ7_newCapacity_59 : decode cJ7_newCapacity 59 = .ok (.ldc 9, 2) := dk_18 9 (dk_at dksJ7_newCapacity_2 12 rfl rfl)
theorem dJ7_newCapacity_61 : decode cJ7_newCapacity 61 = .ok (.ireturn, 1) := dk_172 (dk_at dksJ7_newCapacity_2 14 rfl rfl)
def dkwJ7_removeFirst_0 : List UInt8 := [42, 182, 0, 93, 76, 43, 199, 0, 11, 187, 0, 97, 89, 183, 0, 99, 191, 43, 176]
abbrev dktJ7_removeFirst_0 : List UInt8 := dkwJ7_removeFirst_0 ++ []
theorem dksJ7_removeFirst_0 : cJ7_removeFirst.data.toList.drop 0 = dktJ7_removeFirst_0 := by decide +kernel
theorem dJ7_removeFirst_0 : decode cJ7_removeFirst 0 = .ok (.aload_n 0, 1) := dk_42 (dk_at dksJ7_removeFirst_0 0 rfl rfl)
theorem dJ7_removeFirst_1 : decode cJ7_removeFirst 1 = .ok (.invokevirtual 93, 3) := dk_182 0 93 (dk_at dksJ7_removeFirst_0 1 rfl rfl)
theorem dJ7_removeFirst_4 : decode cJ7_removeFirst 4 = .ok (.astore_n 1, 1) := dk_76 (dk_at dksJ7_removeFirst_0 4 rfl rfl)
theorem dJ7_removeFirst_5 : decode cJ7_removeFirst 5 = .ok (.aload_n 1, 1) := dk_43 (dk_at dksJ7_removeFirst_0 5 rfl rfl)
theorem dJ7_removeFirst_6 : decode cJ7_removeFirst 6 = .ok (.ifnonnull 11, 3) := dk_199 0 11 (dk_at dksJ7_removeFirst_0 6 rfl rfl)
theorem dJ7_removeFirst_17 : decode cJ7_removeFirst 17 = .ok (.aload_n 1, 1) := dk_43 (dk_at dksJ7_removeFirst_0 17 rfl rfl)
theorem dJ7_removeFirst_18 : decode cJ7_removeFirst 18 = .ok (.areturn, 1) := dk_176 (dk_at dksJ7_removeFirst_0 18 rfl rfl)
def dkwJ7_addFirst_2 : List UInt8 := [182, 0, 71, 177]
abbrev dktJ7_addFirst_2 : List UInt8 := dkwJ7_addFirst_2 ++ []
def dkwJ7_addFirst_1 : List UInt8 := [190, 184, 0, 68, 90, 181, 0, 24, 43, 83, 42, 180, 0, 24, 42, 180, 0, 20, 160, 0, 8, 42, 4]
abbrev dktJ7_addFirst_1 : List UInt8 := dkwJ7_addFirst_1 ++ dktJ7_addFirst_2
def dkwJ7_addFirst_0 : List UInt8 := [43, 199, 0, 11, 187, 0, 65, 89, 183, 0, 67, 191, 42, 180, 0, 3, 77, 44, 42, 42, 180, 0, 24, 44]
abbrev dktJ7_addFirst_0 : List UInt8 := dkwJ7_addFirst_0 ++ dktJ7_addFirst_1
theorem dksJ7_addFirst_0 : cJ7_addFirst.data.toList.drop 0 = dktJ7_addFirst_0 := by decide +kernel
theorem dksJ7_addFirst_1 : cJ7_addFirst.data.toList.drop 24 = dktJ7_addFirst_1 := dk_seg dksJ7_addFirst_0 24 rfl rfl
theorem dksJ7_addFirst_2 : cJ7_addFirst.data.toList.drop 47 = dktJ7_addFirst_2 := dk_seg dksJ7_addFirst_1 23 rfl rfl
theorem dJ7_addFirst_0 : decode cJ7_addFirst 0 = .ok (.aload_n 1, 1) := dk_43 (dk_at dksJ7_addFirst_0 0 rfl rfl)
theorem dJ7_addFirst_1 : decode cJ7_addFirst 1 = .ok (.ifnonnull 11, 3) := dk_199 0 11 (dk_at dksJ7_addFirst_0 1 rfl rfl)
theorem dJ7_addFirst_12 : decode cJ7_addFirst 12 = .ok (.aload_n 0, 1) := dk_42 (dk_at dksJ7_addFirst_0 12 rfl rfl)
theorem dJ7_addFirst_13 : decode cJ7_addFirst 13 = .ok (.getfield 3, 3) := dk_180 0 3 (dk_at dksJ7_addFirst_0 13 rfl rfl)
theorem dJ7_addFirst_16 : decode cJ7_addFirst 16 = .ok (.astore_n 2, 1) := dk_77 (dk_at dksJ7_addFirst_0 16 rfl rfl)
theorem dJ7_addFirst_17 : decode cJ7_addFirst 17 = .ok (.aload_n 2, 1) := dk_44 (dk_at dksJ7_addFirst_0 17 rfl rfl)
theorem dJ7_addFirst_18 : decode cJ7_addFirst 18 = .ok (.aload_n 0, 1) := dk_42 (dk_at dksJ7_addFirst_0 18 rfl rfl)
theorem dJ7_addFirst_19 : decode cJ7_addFirst 19 = .ok (.aload_n 0, 1) := dk_42 (dk_at dksJ7_addFirst_0 19 rfl rfl)
theorem dJ7_addFirst_20 : decode cJ7_addFirst 20 = .ok (.getfield 24, 3) := dk_180 0 24 (dk_at dksJ7_addFirst_0 20 rfl rfl)
theorem dJ7_addFirst_23 : decode cJ7_addFirst 23 = .ok (.aload_n 2, 1) := dk_44 (dk_at dksJ7_addFirst_0 23 rfl rfl)
theorem dJ7_addFirst_24 : decode cJ7_addFirst 24 = .ok (.arraylength, 1) := dk_190 (dk_at dksJ7_addFirst_1 0 rfl rfl)
theorem dJ7_addFirst_25 : decode cJ7_addFirst 25 = .ok (.invokestatic 68, 3) := dk_184 0 68 (dk_at dksJ7_addFirst_1 1 rfl rfl)
theorem dJ7_addFirst_28 : decode cJ7_addFirst 28 = .ok (.dup_x1, 1) := dk_90 (dk_at dksJ7_addFirst_1 4 rfl rfl)
theorem dJ7_addFirst_29 : decode cJ7_addFirst 29 = .ok (.putfield 24, 3) := dk_181 0 24 (dk_at dksJ7_addFirst_1 5 rfl rfl)
theorem dJ7_addFirst_32 : decode cJ7_addFirst 32 = .ok (.aload_n 1, 1) := dk_43 (dk_at dksJ7_addFirst_1 8 rfl rfl)
theorem dJ7_addFirst_33 : decode cJ7_addFirst 33 = .ok (.aastore, 1) := dk_83 (dk_at dksJ7_addFirst_1 9 rfl rfl)
theorem dJ7_addFirst_34 : decode cJ7_addFirst 34 = .ok (.aload_n 0, 1) := dk_42 (dk_at dksJ7_addFirst_1 10 rfl rfl)
theorem dJ7_addFirst_35 : decode cJ7_addFirst 35 = .ok (.getfield 24, 3) := dk_180 0 24 (dk_at dksJ7_addFirst_1 11 rfl rfl)
theorem dJ7_addFirst_38 : decode cJ7_addFirst 38 = .ok (.aload_n 0, 1) := dk_42 (dk_at dksJ7_addFirst_1 14 rfl rfl)
theorem dJ7_addFirst_39 : decode cJ7_addFirst 39 = .ok (.getfield 20, 3) := dk_180 0 20 (dk_at dksJ7_addFirst_1 15 rfl rfl)
theorem dJ7_addFirst_42 : decode cJ7_addFirst 42 = .ok (.if_icmp .ne 8, 3) := dk_160 0 8 (dk_at dksJ7_addFirst_1 18 rfl rfl)
theorem dJ7_addFirst_45 : decode cJ7_addFirst 45 = .ok (.aload_n 0, 1) := dk_42 (dk_at dksJ7_addFirst_1 21 rfl rfl)
theorem dJ7_addFirst_46 : decode cJ7_addFirst 46 = .ok (.iconst 1, 1) := dk_4 (dk_at dksJ7_addFirst_1 22 rfl rfl)
theorem dJ7_addFirst_47 : decode cJ7_addFirst 47 = .ok (.invokevirtual 71, 3) := dk_182 0 71 (dk_at dksJ7_addFirst_2 0 rfl rfl)
theorem dJ7_addFirst_50 : decode cJ7_addFirst 50 = .ok (.return_, 1) := dk_177 (dk_at dksJ7_addFirst_2 3 rfl rfl)
def dkwJ7_dec_0 : List UInt8 := [132, 0, 255, 26, 156, 0, 7, 27, 4, 100, 59, 26, 172]
abbrev dktJ7_dec_0 : List UInt8 := dkwJ7_dec_0 ++ []
theorem dksJ7_dec_0 : cJ7_dec.data.toList.drop 0 = dktJ7_dec_0 := by decide +kernel
theorem dJ7_dec_0 : decode cJ7_dec 0 = .ok (.iinc 0 (-1), 3) := dk_132 0 255 (dk_at dksJ7_dec_0 0 rfl rfl)
theorem dJ7_dec_3 : decode cJ7_dec 3 = .ok (.iload_n 0, 1) := dk_26 (dk_at dksJ7_dec_0 3 rfl rfl)
theorem dJ7_dec_4 : decode cJ7_dec 4 = .ok (.ifCond .ge 7, 3) := dk_156 0 7 (dk_at dksJ7_dec_0 4 rfl rfl)
theorem dJ7_dec_7 : decode cJ7_dec 7 = .ok (.iload_n 1, 1) := dk_27 (dk_at dksJ7_dec_0 7 rfl rfl)
theorem dJ7_dec_8 : decode cJ7_dec 8 = .ok (.iconst 1, 1) := dk_4 (dk_at dksJ7_dec_0 8 rfl rfl)
theorem dJ7_dec_9 : decode cJ7_dec 9 = .ok (.isub, 1) := dk_100 (dk_at dksJ7_dec_0 9 rfl rfl)
theorem dJ7_dec_10 : decode cJ7_dec 10 = .ok (.istore_n 0, 1) := dk_59 (dk_at dksJ7_dec_0 10 rfl rfl)
theorem dJ7_dec_11 : decode cJ7_dec 11 = .ok (.iload_n 0, 1) := dk_26 (dk_at dksJ7_dec_0 11 rfl rfl)
theorem dJ7_dec_12 : decode cJ7_dec 12 = .ok (.ireturn, 1) := dk_172 (dk_at dksJ7_dec_0 12 rfl rfl)
def dkwJ7_removeLast_0 : List UInt8 := [42, 182, 0, 100, 76, 43, 199, 0, 11, 187, 0, 97, 89, 183, 0, 99, 191, 43, 176]
abbrev dktJ7_removeLast_0 : List UInt8 := dkwJ7_removeLast_0 ++ []
theorem dksJ7_removeLast_0 : cJ7_removeLast.data.toList.drop 0 = dktJ7_removeLast_0 := by decide +kernel
theorem dJ7_removeLast_0 : decode cJ7_removeLast 0 = .ok (.aload_n 0, 1) := dk_42 (dk_at dksJ7_removeLast_0 0 rfl rfl)
theorem dJ7_removeLast_1 : decode cJ7_removeLast 1 = .ok (.invokevirtual 100, 3) := dk_182 0 100 (dk_at dksJ7_removeLast_0 1 rfl rfl)
theorem dJ7_removeLast_4 : decode cJ7_removeLast 4 = .ok (.astore_n 1, 1) := dk_76 (dk_at dksJ7_removeLast_0 4 rfl rfl)
theorem dJ7_removeLast_5 : decode cJ7_removeLast 5 = .ok (.aload_n 1, 1) := dk_43 (dk_at dksJ7_removeLast_0 5 rfl rfl)
theorem dJ7_removeLast_6 : decode cJ7_removeLast 6 = .ok (.ifnonnull 11, 3) := dk_199 0 11 (dk_at dksJ7_removeLast_0 6 rfl rfl)
theorem dJ7_removeLast_17 : decode cJ7_removeLast 17 = .ok (.aload_n 1, 1) := dk_43 (dk_at dksJ7_removeLast_0 17 rfl rfl)
theorem dJ7_removeLast_18 : decode cJ7_removeLast 18 = .ok (.areturn, 1) := dk_176 (dk_at dksJ7_removeLast_0 18 rfl rfl)
def dkwJ7_pollLast_1 : List UInt8 := [198, 0, 12, 43, 42, 28, 90, 181, 0, 20, 1, 83, 45, 176]
abbrev dktJ7_pollLast_1 : List UInt8 := dkwJ7_pollLast_1 ++ []
def dkwJ7_pollLast_0 : List UInt8 := [42, 180, 0, 3, 89, 76, 42, 180, 0, 20, 43, 190, 184, 0, 68, 89, 61, 184, 0, 103, 78, 45]
abbrev dktJ7_pollLast_0 : List UInt8 := dkwJ7_pollLast_0 ++ dktJ7_pollLast_1
theorem dksJ7_pollLast_0 : cJ7_pollLast.data.toList.drop 0 = dktJ7_pollLast_0 := by decide +kernel
theorem dksJ7_pollLast_1 : cJ7_pollLast.data.toList.drop 22 = dktJ7_pollLast_1 := dk_seg dksJ7_pollLast_0 22 rfl rfl
theorem dJ7_pollLast_0 : decode cJ7_pollLast 0 = .ok (.aload_n 0, 1) := dk_42 (dk_at dksJ7_pollLast_0 0 rfl rfl)
theorem dJ7_pollLast_1 : decode cJ7_pollLast 1 = .ok (.getfield 3, 3) := dk_180 0 3 (dk_at dksJ7_pollLast_0 1 rfl rfl)
theorem dJ7_pollLast_4 : decode cJ7_pollLast 4 = .ok (.dup, 1) := dk_89 (dk_at dksJ7_pollLast_0 4 rfl rfl)
theorem dJ7_pollLast_5 : decode cJ7_pollLast 5 = .ok (.astore_n 1, 1) := dk_76 (dk_at dksJ7_pollLast_0 5 rfl rfl)
theorem dJ7_pollLast_6 : decode cJ7_pollLast 6 = .ok (.aload_n 0, 1) := dk_42 (dk_at dksJ7_pollLast_0 6 rfl rfl)
theorem dJ7_pollLast_7 : decode cJ7_pollLast 7 = .ok (.getfield 20, 3) := dk_180 0 20 (dk_at dksJ7_pollLast_0 7 rfl rfl)
theorem dJ7_pollLast_10 : decode cJ7_pollLast 10 = .ok (.aload_n 1, 1) := dk_43 (dk_at dksJ7_pollLast_0 10 rfl rfl)
theorem dJ7_pollLast_11 : decode cJ7_pollLast 11 = .ok (.arraylength, 1) := dk_190 (dk_at dksJ7_pollLast_0 11 rfl rfl)
theorem dJ7_pollLast_12 : decode cJ7_pollLast 12 = .ok (.invokestatic 68, 3) := dk_184 0 68 (dk_at dksJ7_pollLast_0 12 rfl rfl)
theorem dJ7_pollLast_15 : decode cJ7_pollLast 15 = .ok (.dup, 1) := dk_89 (dk_at dksJ7_pollLast_0 15 rfl rfl)
theorem dJ7_pollLast_16 : decode cJ7_pollLast 16 = .ok (.istore_n 2, 1) := dk_61 (dk_at dksJ7_pollLast_0 16 rfl rfl)
theorem dJ7_pollLast_17 : decode cJ7_pollLast 17 = .ok (.invokestatic 103, 3) := dk_184 0 103 (dk_at dksJ7_pollLast_0 17 rfl rfl)
theorem dJ7_pollLast_20 : decode cJ7_pollLast 20 = .ok (.astore_n 3, 1) := dk_78 (dk_at dksJ7_pollLast_0 20 rfl rfl)
theorem dJ7_pollLast_21 : decode cJ7_pollLast 21 = .ok (.aload_n 3, 1) := dk_45 (dk_at dksJ7_pollLast_0 21 rfl rfl)
theorem dJ7_pollLast_22 : decode cJ7_pollLast 22 = .ok (.ifnull 12, 3) := dk_198 0 12 (dk_at dksJ7_pollLast_1 0 rfl rfl)
theorem dJ7_pollLast_25 : decode cJ7_pollLast 25 = .ok (.aload_n 1, 1) := dk_43 (dk_at dksJ7_pollLast_1 3 rfl rfl)
theorem dJ7_pollLast_26 : decode cJ7_pollLast 26 = .ok (.aload_n 0, 1) := dk_42 (dk_at dksJ7_pollLast_1 4 rfl rfl)
theorem dJ7_pollLast_27 : decode cJ7_pollLast 27 = .ok (.iload_n 2, 1) := dk_28 (dk_at dksJ7_pollLast_1 5 rfl rfl)
theorem dJ7_pollLast_28 : decode cJ7_pollLast 28 = .ok (.dup_x1, 1) := dk_90 (dk_at dksJ7_pollLast_1 6 rfl rfl)
theorem dJ7_pollLast_29 : decode cJ7_pollLast 29 = .ok (.putfield 20, 3) := dk_181 0 20 (dk_at dksJ7_pollLast_1 7 rfl rfl)
theorem dJ7_pollLast_32 : decode cJ7_pollLast 32 = .ok (.aconst_null, 1) := dk_1 (dk_at dksJ7_pollLast_1 10 rfl rfl)
theorem dJ7_pollLast_33 : decode cJ7_pollLast 33 = .ok (.aastore, 1) := dk_83 (dk_at dksJ7_pollLast_1 11 rfl rfl)
theorem dJ7_pollLast_34 : decode cJ7_pollLast 34 = .ok (.aload_n 3, 1) := dk_45 (dk_at dksJ7_pollLast_1 12 rfl rfl)
theorem dJ7_pollLast_35 : decode cJ7_pollLast 35 = .ok (.areturn, 1) := dk_176 (dk_at dksJ7_pollLast_1 13 rfl rfl)
def dkwJ7_clear_1 : List UInt8 := [181, 0, 24, 177]
abbrev dktJ7_clear_1 : List UInt8 := dkwJ7_clear_1 ++ []
def dkwJ7_clear_0 : List UInt8 := [42, 180, 0, 3, 42, 180, 0, 24, 42, 180, 0, 20, 184, 0, 181, 42, 42, 3, 90, 181, 0, 20]
abbrev dktJ7_clear_0 : List UInt8 := dkwJ7_clear_0 ++ dktJ7_clear_1
theorem dksJ7_clear_0 : cJ7_clear.data.toList.drop 0 = dktJ7_clear_0 := by decide +kernel
theorem dksJ7_clear_1 : cJ7_clear.data.toList.drop 22 = dktJ7_clear_1 := dk_seg dksJ7_clear_0 22 rfl rfl
theorem dJ7_clear_0 : decode cJ7_clear 0 = .ok (.aload_n 0, 1) := dk_42 (dk_at dksJ7_clear_0 0 rfl rfl)
theorem dJ7_clear_1 : decode cJ7_clear 1 = .ok (.getfield 3, 3) := dk_180 0 3 (dk_at dksJ7_clear_0 1 rfl rfl)
theorem dJ7_clear_4 : decode cJ7_clear 4 = .ok (.aload_n 0, 1) := dk_42 (dk_at dksJ7_clear_0 4 rfl rfl)
theorem dJ7_clear_5 : decode cJ7_clear 5 = .ok (.getfield 24, 3) := dk_180 0 24 (dk_at dksJ7_clear_0 5 rfl rfl)
theorem dJ7_clear_8 : decode cJ7_clear 8 = .ok (.aload_n 0, 1) := dk_42 (dk_at dksJ7_clear_0 8 rfl rfl)
theorem dJ7_clear_9 : decode cJ7_clear 9 = .ok (.getfield 20, 3) := dk_180 0 20 (dk_at dksJ7_clear_0 9 rfl rfl)
theorem dJ7_clear_12 : decode cJ7_clear 12 = .ok (.invokestatic 181, 3) := dk_184 0 181 (dk_at dksJ7_clear_0 12 rfl rfl)
theorem dJ7_clear_15 : decode cJ7_clear 15 = .ok (.aload_n 0, 1) := dk_42 (dk_at dksJ7_clear_0 15 rfl rfl)
theorem dJ7_clear_16 : decode cJ7_clear 16 = .ok (.aload_n 0, 1) := dk_42 (dk_at dksJ7_clear_0 16 rfl rfl)
theorem dJ7_clear_17 : decode cJ7_clear 17 = .ok (.iconst 0, 1) := dk_3 (dk_at dksJ7_clear_0 17 rfl rfl)
theorem dJ7_clear_18 : decode cJ7_clear 18 = .ok (.dup_x1, 1) := dk_90 (dk_at dksJ7_clear_0 18 rfl rfl)
theorem dJ7_clear_19 : decode cJ7_clear 19 = .ok (.putfield 20, 3) := dk_181 0 20 (dk_at dksJ7_clear_0 19 rfl rfl)
theorem dJ7_clear_22 : decode cJ7_clear 22 = .ok (.putfield 24, 3) := dk_181 0 24 (dk_at dksJ7_clear_1 0 rfl rfl)
theorem dJ7_clear_25 : decode cJ7_clear 25 = .ok (.return_, 1) := dk_177 (dk_at dksJ7_clear_1 3 rfl rfl)
def dkwJ7_circularClear_1 : List UInt8 := [167, 255, 244, 29, 28, 160, 0, 6, 167, 0, 10, 3, 60, 28, 62, 167, 255, 229, 177]
abbrev dktJ7_circularClear_1 : List UInt8 := dkwJ7_circularClear_1 ++ []
def dkwJ7_circularClear_0 : List UInt8 := [27, 28, 163, 0, 7, 28, 167, 0, 5, 42, 190, 62, 27, 29, 162, 0, 13, 42, 27, 1, 83, 132, 1, 1]
abbrev dktJ7_circularClear_0 : List UInt8 := dkwJ7_circularClear_0 ++ dktJ7_circularClear_1
theorem dksJ7_circularClear_0 : cJ7_circularClear.data.toList.drop 0 = dktJ7_circularClear_0 := by decide +kernel
theorem dksJ7_circularClear_1 : cJ7_circularClear.data.toList.drop 24 = dktJ7_circularClear_1 := dk_seg dksJ7_circularClear_0 24 rfl rfl
theorem dJ7_circularClear_0 : decode cJ7_circularClear 0 = .ok (.iload_n 1, 1) := dk_27 (dk_at dksJ7_circularClear_0 0 rfl rfl)
theorem dJ7_circularClear_1 : decode cJ7_circularClear 1 = .ok (.iload_n 2, 1) := dk_28 (dk_at dksJ7_circularClear_0 1 rfl rfl)
theorem dJ7_circularClear_2 : decode cJ7_circularClear 2 = .ok (.if_icmp .gt 7, 3) := dk_163 0 7 (dk_at dksJ7_circularClear_0 2 rfl rfl)
theorem dJ7_circularClear_5 : decode cJ7_circularClear 5 = .ok (.iload_n 2, 1) := dk_28 (dk_at dksJ7_circularClear_0 5 rfl rfl)
theorem dJ7_circularClear_6 : decode cJ7_circularClear 6 = .ok (.goto 5, 3) := dk_167 0 5 (dk_at dksJ7_circularClear_0 6 rfl rfl)
theorem dJ7_circularClear_9 : decode cJ7_circularClear 9 = .ok (.aload_n 0, 1) := dk_42 (dk_at dksJ7_circularClear_0 9 rfl rfl)
theorem dJ7_circularClear_10 : decode cJ7_circularClear 10 = .ok (.arraylength, 1) := dk_190 (dk_at dksJ7_circularClear_0 10 rfl rfl)
theorem dJ7_circularClear_11 : decode cJ7_circularClear 11 = .ok (.istore_n 3, 1) := dk_62 (dk_at dksJ7_circularClear_0 11 rfl rfl)
theorem dJ7_circularClear_12 : decode cJ7_circularClear 12 = .ok (.iload_n 1, 1) := dk_27 (dk_at dksJ7_circularClear_0 12 rfl rfl)
theorem dJ7_circularClear_13 : decode cJ7_circularClear 13 = .ok (.iload_n 3, 1) := dk_29 (dk_at dksJ7_circularClear_0 13 rfl rfl)
theorem dJ7_circularClear_14 : decode cJ7_circularClear 14 = .ok (.if_icmp .ge 13, 3) := dk_162 0 13 (dk_at dksJ7_circularClear_0 14 rfl rfl)
theorem dJ7_circularClear_17 : decode cJ7_circularClear 17 = .ok (.aload_n 0, 1) := dk_42 (dk_at dksJ7_circularClear_0 17 rfl rfl)
theorem dJ7_circularClear_18 : decode cJ7_circularClear 18 = .ok (.iload_n 1, 1) := dk_27 (dk_at dksJ7_circularClear_0 18 rfl rfl)
theorem dJ7_circularClear_19 : decode cJ7_circularClear 19 = .ok (.aconst_null, 1) := dk_1 (dk_at dksJ7_circularClear_0 19 rfl rfl)
theorem dJ7_circularClear_20 : decode cJ7_circularClear 20 = .ok (.aastore, 1) := dk_83 (dk_at dksJ7_circularClear_0 20 rfl rfl)
theorem dJ7_circularClear_21 : decode cJ7_circularClear 21 = .ok (.iinc 1 1, 3) := dk_132 1 1 (dk_at dksJ7_circularClear_0 21 rfl rfl)
theorem dJ7_circularClear_24 : decode cJ7_circularClear 24 = .ok (.goto (-12), 3) := dk_167 255 244 (dk_at dksJ7_circularClear_1 0 rfl rfl)
theorem dJ7_circularClear_27 : decode cJ7_circularClear 27 = .ok (.iload_n 3, 1) := dk_29 (dk_at dksJ7_circularClear_1 3 rfl rfl)
theorem dJ7_circularClear_28 : decode cJ7_circularClear 28 = .ok (.iload_n 2, 1) := dk_28 (dk_at dksJ7_circularClear_1 4 rfl rfl)
theorem dJ7_circularClear_29 : decode cJ7_circularClear 29 = .ok (.if_icmp .ne 6, 3) := dk_160 0 6 (dk_at dksJ7_circularClear_1 5 rfl rfl)
theorem dJ7_circularClear_32 : decode cJ7_circularClear 32 = .ok (.goto 10, 3) := dk_167 0 10 (dk_at dksJ7_circularClear_1 8 rfl rfl)
theorem dJ7_circularClear_35 : decode cJ7_circularClear 35 = .ok (.iconst 0, 1) := dk_3 (dk_at dksJ7_circularClear_1 11 rfl rfl)
theorem dJ7_circularClear_36 : decode cJ7_circularClear 36 = .ok (.istore_n 1, 1) := dk_60 (dk_at dksJ7_circularClear_1 12 rfl rfl)
theorem dJ7_circularClear_37 : decode cJ7_circularClear 37 = .ok (.iload_n 2, 1) := dk_28 (dk_at dksJ7_circularClear_1 13 rfl rfl)
theorem dJ7_circularClear_38 : decode cJ7_circularClear 38 = .ok (.istore_n 3, 1) := dk_62 (dk_at dksJ7_circularClear_1 14 rfl rfl)
theorem dJ7_circularClear_39 : decode cJ7_circularClear 39 = .ok (.goto (-27), 3) := dk_167 255 229 (dk_at dksJ7_circularClear_1 15 rfl rfl)
theorem dJ7_circularClear_42 : decode cJ7_circularClear 42 = .ok (.return_, 1) := dk_177 (dk_at dksJ7_circularClear_1 18 rfl rfl)
def dkwJ8_init_1 : List UInt8 := [167, 0, 16, 42, 27, 184, 0, 26, 181, 0, 15, 42, 4, 181, 0, 22, 177]
abbrev dktJ8_init_1 : List UInt8 := dkwJ8_init_1 ++ []
def dkwJ8_init_0 : List UInt8 := [42, 183, 0, 3, 178, 0, 18, 153, 0, 18, 42, 27, 188, 8, 181, 0, 15, 42, 3, 181, 0, 22]
abbrev dktJ8_init_0 : List UInt8 := dkwJ8_init_0 ++ dktJ8_init_1
theorem dksJ8_init_0 : cJ8_init.data.toList.drop 0 = dktJ8_init_0 := by decide +kernel
theorem dksJ8_init_1 : cJ8_init.data.toList.drop 22 = dktJ8_init_1 := dk_seg dksJ8_init_0 22 rfl rfl
theorem dJ8_init_0 : decode cJ8_init 0 = .ok (.aload_n 0, 1) := dk_42 (dk_at dksJ8_init_0 0 rfl rfl)
theorem dJ8_init_1 : decode cJ8_init 1 = .ok (.invokespecial 3, 3) := dk_183 0 3 (dk_at dksJ8_init_0 1 rfl rfl)
theorem dJ8_init_4 : decode cJ8_init 4 = .ok (.getstatic 18, 3) := dk_178 0 18 (dk_at dksJ8_init_0 4 rfl rfl)
theorem dJ8_init_7 : decode cJ8_init 7 = .ok (.ifCond .eq 18, 3) := dk_153 0 18 (dk_at dksJ8_init_0 7 rfl rfl)
theorem dJ8_init_10 : decode cJ8_init 10 = .ok (.aload_n 0, 1) := dk_42 (dk_at dksJ8_init_0 10 rfl rfl)
theorem dJ8_init_11 : decode cJ8_init 11 = .ok (.iload_n 1, 1) := dk_27 (dk_at dksJ8_init_0 11 rfl rfl)
theorem dJ8_init_12 : decode cJ8_init 12 = .ok (.newarray .byte, 2) := dk_188_8 (dk_at dksJ8_init_0 12 rfl rfl)
theorem dJ8_init_14 : decode cJ8_init 14 = .ok (.putfield 15, 3) := dk_181 0 15 (dk_at dksJ8_init_0 14 rfl rfl)
theorem dJ8_init_17 : decode cJ8_init 17 = .ok (.aload_n 0, 1) := dk_42 (dk_at dksJ8_init_0 17 rfl rfl)
theorem dJ8_init_18 : decode cJ8_init 18 = .ok (.iconst 0, 1) := dk_3 (dk_at dksJ8_init_0 18 rfl rfl)
theorem dJ8_init_19 : decode cJ8_init 19 = .ok (.putfield 22, 3) := dk_181 0 22 (dk_at dksJ8_init_0 19 rfl rfl)
theorem dJ8_init_22 : decode cJ8_init 22 = .ok (.goto 16, 3) := dk_167 0 16 (dk_at dksJ8_init_1 0 rfl rfl)
theorem dJ8_init_38 : decode cJ8_init 38 = .ok (.return_, 1) := dk_177 (dk_at dksJ8_init_1 16 rfl rfl)
def dkwJ8_append_1 : List UInt8 := [42, 42, 180, 0, 79, 43, 182, 0, 208, 42, 89, 180, 0, 79, 28, 96, 181, 0, 79, 42, 176]
abbrev dktJ8_append_1 : List UInt8 := dkwJ8_append_1 ++ []
def dkwJ8_append_0 : List UInt8 := [43, 199, 0, 8, 42, 182, 0, 204, 176, 43, 182, 0, 32, 61, 42, 42, 180, 0, 79, 28, 96, 182, 0, 100]
abbrev dktJ8_append_0 : List UInt8 := dkwJ8_append_0 ++ dktJ8_append_1
theorem dksJ8_append_0 : cJ8_append.data.toList.drop 0 = dktJ8_append_0 := by decide +kernel
theorem dksJ8_append_1 : cJ8_append.data.toList.drop 24 = dktJ8_append_1 := dk_seg dksJ8_append_0 24 rfl rfl
theorem dJ8_append_0 : decode cJ8_append 0 = .ok (.aload_n 1, 1) := dk_43 (dk_at dksJ8_append_0 0 rfl rfl)
theorem dJ8_append_1 : decode cJ8_append 1 = .ok (.ifnonnull 8, 3) := dk_199 0 8 (dk_at dksJ8_append_0 1 rfl rfl)
theorem dJ8_append_9 : decode cJ8_append 9 = .ok (.aload_n 1, 1) := dk_43 (dk_at dksJ8_append_0 9 rfl rfl)
theorem dJ8_append_10 : decode cJ8_append 10 = .ok (.invokevirtual 32, 3) := dk_182 0 32 (dk_at dksJ8_append_0 10 rfl rfl)
theorem dJ8_append_13 : decode cJ8_append 13 = .ok (.istore_n 2, 1) := dk_61 (dk_at dksJ8_append_0 13 rfl rfl)
theorem dJ8_append_14 : decode cJ8_append 14 = .ok (.aload_n 0, 1) := dk_42 (dk_at dksJ8_append_0 14 rfl rfl)
theorem dJ8_append_15 : decode cJ8_append 15 = .ok (.aload_n 0, 1) := dk_42 (dk_at dksJ8_append_0 15 rfl rfl)
theorem dJ8_append_16 : decode cJ8_append 16 = .ok (.getfield 79, 3) := dk_180 0 79 (dk_at dksJ8_append_0 16 rfl rfl)
theorem dJ8_append_19 : decode cJ8_append 19 = .ok (.iload_n 2, 1) := dk_28 (dk_at dksJ8_append_0 19 rfl rfl)
theorem dJ8_append_20 : decode cJ8_append 20 = .ok (.iadd, 1) := dk_96 (dk_at dksJ8_append_0 20 rfl rfl)
theorem dJ8_append_21 : decode cJ8_append 21 = .ok (.invokevirtual 100, 3) := dk_182 0 100 (dk_at dksJ8_append_0 21 rfl rfl)
theorem dJ8_append_24 : decode cJ8_append 24 = .ok (.aload_n 0, 1) := dk_42 (dk_at dksJ8_append_1 0 rfl rfl)
theorem dJ8_append_25 : decode cJ8_append 25 = .ok (.aload_n 0, 1) := dk_42 (dk_at dksJ8_append_1 1 rfl rfl)
theorem dJ8_append_26 : decode cJ8_append 26 = .ok (.getfield 79, 3) := dk_180 0 79 (dk_at dksJ8_append_1 2 rfl rfl)
theorem dJ8_append_29 : decode cJ8_append 29 = .ok (.aload_n 1, 1) := dk_43 (dk_at dksJ8_append_1 5 rfl rfl)
theorem dJ8_append_30 : decode cJ8_append 30 = .ok (.invokevirtual 208, 3) := dk_182 0 208 (dk_at dksJ8_append_1 6 rfl rfl)
theorem dJ8_append_33 : decode cJ8_append 33 = .ok (.aload_n 0, 1) := dk_42 (dk_at dksJ8_append_1 9 rfl rfl)
theorem dJ8_append_34 : decode cJ8_append 34 = .ok (.dup, 1) := dk_89 (dk_at dksJ8_append_1 10 rfl rfl)
theorem dJ8_append_35 : decode cJ8_append 35 = .ok (.getfield 79, 3) := dk_180 0 79 (dk_at dksJ8_append_1 11 rfl rfl)
theorem dJ8_append_38 : decode cJ8_append 38 = .ok (.iload_n 2, 1) := dk_28 (dk_at dksJ8_append_1 14 rfl rfl)
theorem dJ8_append_39 : decode cJ8_append 39 = .ok (.iadd, 1) := dk_96 (dk_at dksJ8_append_1 15 rfl rfl)
theorem dJ8_append_40 : decode cJ8_append 40 = .ok (.putfield 79, 3) := dk_181 0 79 (dk_at dksJ8_append_1 16 rfl rfl)
theorem dJ8_append_43 : decode cJ8_append 43 = .ok (.aload_n 0, 1) := dk_42 (dk_at dksJ8_append_1 19 rfl rfl)
theorem dJ8_append_44 : decode cJ8_append 44 = .ok (.areturn, 1) := dk_176 (dk_at dksJ8_append_1 20 rfl rfl)
def dkwJ8_ensureCapacityInternal_1 : List UInt8 := [182, 0, 104, 42, 180, 0, 22, 120, 184, 0, 108, 181, 0, 15, 177]
abbrev dktJ8_ensureCapacityInternal_1 : List UInt8 := dkwJ8_ensureCapacityInternal_1 ++ []
def dkwJ8_ensureCapacityInternal_0 : List UInt8 := [42, 180, 0, 15, 190, 42, 180, 0, 22, 122, 61, 27, 28, 100, 158, 0, 24, 42, 42, 180, 0, 15, 42, 27]
abbrev dktJ8_ensureCapacityInternal_0 : List UInt8 := dkwJ8_ensureCapacityInternal_0 ++ dktJ8_ensureCapacityInternal_1
theorem dksJ8_ensureCapacityInternal_0 : cJ8_ensureCapacityInternal.data.toList.drop 0 = dktJ8_ensureCapacityInternal_0 := by decide +kernel
theorem dksJ8_ensureCapacityInternal_1 : cJ8_ensureCapacityInternal.data.toList.drop 24 = dktJ8_ensureCapacityInternal_1 := dk_seg dksJ8_ensureCapacityInternal_0 24 rfl rfl
theorem dJ8_ensureCapacityInternal_0 : decode cJ8_ensureCapacityInternal 0 = .ok (.aload_n 0, 1) := dk_42 (dk_at dksJ8_ensureCapacityInternal_0 0 rfl rfl)
theorem dJ8_ensureCapacityInternal_1 : decode cJ8_ensureCapacityInternal 1 = .ok (.getfield 15, 3) := dk_180 0 15 (dk_at dksJ8_ensureCapacityInternal_0 1 rfl rfl)
theorem dJ8_ensureCapacityInternal_4 : decode cJ8_ensureCapacityInternal 4 = .ok (.arraylength, 1) := dk_190 (dk_at dksJ8_ensureCapacityInternal_0 4 rfl rfl)
theorem dJ8_ensureCapacityInternal_5 : decode cJ8_ensureCapacityInternal 5 = .ok (.aload_n 0, 1) := dk_42 (dk_at dksJ8_ensureCapacityInternal_0 5 rfl rfl)
theorem dJ8_ensureCapacityInternal_6 : decode cJ8_ensureCapacityInternal 6 = .ok (.getfield 22, 3) := dk_180 0 22 (dk_at dksJ8_ensureCapacityInternal_0 6 rfl rfl)
theorem dJ8_ensureCapacityInternal_9 : decode cJ8_ensureCapacityInternal 9 = .ok (.ishr, 1) := dk_122 (dk_at dksJ8_ensureCapacityInternal_0 9 rfl rfl)
theorem dJ8_ensureCapacityInternal_10 : decode cJ8_ensureCapacityInternal 10 = .ok (.istore_n 2, 1) := dk_61 (dk_at dksJ8_ensureCapacityInternal_0 10 rfl rfl)
theorem dJ8_ensureCapacityInternal_11 : decode cJ8_ensureCapacityInternal 11 = .ok (.iload_n 1, 1) := dk_27 (dk_at dksJ8_ensureCapacityInternal_0 11 rfl rfl)
theorem dJ8_ensureCapacityInternal_12 : decode cJ8_ensureCapacityInternal 12 = .ok (.iload_n 2, 1) := dk_28 (dk_at dksJ8_ensureCapacityInternal_0 12 rfl rfl)
theorem dJ8_ensureCapacityInternal_13 : decode cJ8_ensureCapacityInternal 13 = .ok (.isub, 1) := dk_100 (dk_at dksJ8_ensureCapacityInternal_0 13 rfl rfl)
theorem dJ8_ensureCapacityInternal_14 : decode cJ8_ensureCapacityInternal 14 = .ok (.ifCond .le 24, 3) := dk_158 0 24 (dk_at dksJ8_ensureCapacityInternal_0 14 rfl rfl)
theorem dJ8_ensureCapacityInternal_17 : decode cJ8_ensureCapacityInternal 17 = .ok (.aload_n 0, 1) := dk_42 (dk_at dksJ8_ensureCapacityInternal_0 17 rfl rfl)
theorem dJ8_ensureCapacityInternal_18 : decode cJ8_ensureCapacityInternal 18 = .ok (.aload_n 0, 1) := dk_42 (dk_at dksJ8_ensureCapacityInternal_0 18 rfl rfl)
theorem dJ8_ensureCapacityInternal_19 : decode cJ8_ensureCapacityInternal 19 = .ok (.getfield 15, 3) := dk_180 0 15 (dk_at dksJ8_ensureCapacityInternal_0 19 rfl rfl)
theorem dJ8_ensureCapacityInternal_22 : decode cJ8_ensureCapacityInternal 22 = .ok (.aload_n 0, 1) := dk_42 (dk_at dksJ8_ensureCapacityInternal_0 22 rfl rfl)
theorem dJ8_ensureCapacityInternal_23 : decode cJ8_ensureCapacityInternal 23 = .ok (.iload_n 1, 1) := dk_27 (dk_at dksJ8_ensureCapacityInternal_0 23 rfl rfl)
theorem dJ8_ensureCapacityInternal_24 : decode cJ8_ensureCapacityInternal 24 = .ok (.invokevirtual 104, 3) := dk_182 0 104 (dk_at dksJ8_ensureCapacityInternal_1 0 rfl rfl)
theorem dJ8_ensureCapacityInternal_27 : decode cJ8_ensureCapacityInternal 27 = .ok (.aload_n 0, 1) := dk_42 (dk_at dksJ8_ensureCapacityInternal_1 3 rfl rfl)
theorem dJ8_ensureCapacityInternal_28 : decode cJ8_ensureCapacityInternal 28 = .ok (.getfield 22, 3) := dk_180 0 22 (dk_at dksJ8_ensureCapacityInternal_1 4 rfl rfl)
theorem dJ8_ensureCapacityInternal_31 : decode cJ8_ensureCapacityInternal 31 = .ok (.ishl, 1) := dk_120 (dk_at dksJ8_ensureCapacityInternal_1 7 rfl rfl)
theorem dJ8_ensureCapacityInternal_32 : decode cJ8_ensureCapacityInternal 32 = .ok (.invokestatic 108, 3) := dk_184 0 108 (dk_at dksJ8_ensureCapacityInternal_1 8 rfl rfl)
theorem dJ8_ensureCapacityInternal_35 : decode cJ8_ensureCapacityInternal 35 = .ok (.putfield 15, 3) := dk_181 0 15 (dk_at dksJ8_ensureCapacityInternal_1 11 rfl rfl)
theorem dJ8_ensureCapacityInternal_38 : decode cJ8_ensureCapacityInternal 38 = .ok (.return_, 1) := dk_177 (dk_at dksJ8_ensureCapacityInternal_1 14 rfl rfl)
def dkwJ8_newCapacity_2 : List UInt8 := [183, 0, 124, 191, 21, 5, 42, 180, 0, 22, 122, 172]
abbrev dktJ8_newCapacity_2 : List UInt8 := dkwJ8_newCapacity_2 ++ []
def dkwJ8_newCapacity_1 : List UInt8 := [180, 0, 22, 120, 96, 184, 0, 114, 54, 5, 21, 5, 18, 39, 160, 0, 13, 187, 0, 120, 89, 18, 122]
abbrev dktJ8_newCapacity_1 : List UInt8 := dkwJ8_newCapacity_1 ++ dktJ8_newCapacity_2
def dkwJ8_newCapacity_0 : List UInt8 := [42, 180, 0, 15, 190, 61, 27, 42, 180, 0, 22, 120, 62, 29, 28, 100, 54, 4, 28, 21, 4, 28, 5, 42]
abbrev dktJ8_newCapacity_0 : List UInt8 := dkwJ8_newCapacity_0 ++ dktJ8_newCapacity_1
theorem dksJ8_newCapacity_0 : cJ8_newCapacity.data.toList.drop 0 = dktJ8_newCapacity_0 := by decide +kernel
theorem dksJ8_newCapacity_1 : cJ8_newCapacity.data.toList.drop 24 = dktJ8_newCapacity_1 := dk_seg dksJ8_newCapacity_0 24 rfl rfl
theorem dksJ8_newCapacity_2 : cJ8_newCapacity.data.toList.drop 47 = dktJ8_newCapacity_2 := dk_seg dksJ8_newCapacity_1 23 rfl rfl
theorem dJ8_newCapacity_0 : decode cJ8_newCapacity 0 = .ok (.aload_n 0, 1) := dk_42 (dk_at dksJ8_newCapacity_0 0 rfl rfl)
theorem dJ8_newCapacity_1 : decode cJ8_newCapacity 1 = .ok (.getfield 15, 3) := dk_180 0 15 (dk_at dksJ8_newCapacity_0 1 rfl rfl)
theorem dJ8_newCapacity_4 : decode cJ8_newCapacity 4 = .ok (.arraylength, 1) := dk_190 (dk_at dksJ8_newCapacity_0 4 rfl rfl)
theorem dJ8_newCapacity_5 : decode cJ8_newCapacity 5 = .ok (.istore_n 2, 1) := dk_61 (dk_at dksJ8_newCapacity_0 5 rfl rfl)
theorem dJ8_newCapacity_6 : decode cJ8_newCapacity 6 = .ok (.iload_n 1, 1) := dk_27 (dk_at dksJ8_newCapacity_0 6 rfl rfl)
theorem dJ8_newCapacity_7 : decode cJ8_newCapacity 7 = .ok (.aload_n 0, 1) := dk_42 (dk_at dksJ8_newCapacity_0 7 rfl rfl)
theorem dJ8_newCapacity_8 : decode cJ8_newCapacity 8 = .ok (.getfield 22, 3) := dk_180 0 22 (dk_at dksJ8_newCapacity_0 8 rfl rfl)
theorem dJ8_newCapacity_11 : decode cJ8_newCapacity 11 = .ok (.ishl, 1) := dk_120 (dk_at dksJ8_newCapacity_0 11 rfl rfl)
theorem dJ8_newCapacity_12 : decode cJ8_newCapacity 12 = .ok (.istore_n 3, 1) := dk_62 (dk_at dksJ8_newCapacity_0 12 rfl rfl)
theorem dJ8_newCapacity_13 : decode cJ8_newCapacity 13 = .ok (.iload_n 3, 1) := dk_29 (dk_at dksJ8_newCapacity_0 13 rfl rfl)
theorem dJ8_newCapacity_14 : decode cJ8_newCapacity 14 = .ok (.iload_n 2, 1) := dk_28 (dk_at dksJ8_newCapacity_0 14 rfl rfl)
theorem dJ8_newCapacity_15 : decode cJ8_newCapacity 15 = .ok (.isub, 1) := dk_100 (dk_at dksJ8_newCapacity_0 15 rfl rfl)
theorem dJ8_newCapacity_16 : decode cJ8_newCapacity 16 = .ok (.istore 4, 2) := dk_54 4 (dk_at dksJ8_newCapacity_0 16 rfl rfl)
theorem dJ8_newCapacity_18 : decode cJ8_newCapacity 18 = .ok (.iload_n 2, 1) := dk_28 (dk_at dksJ8_newCapacity_0 18 rfl rfl)
theorem dJ8_newCapacity_19 : decode cJ8_newCapacity 19 = .ok (.iload 4, 2) := dk_21 4 (dk_at dksJ8_newCapacity_0 19 rfl rfl)
theorem dJ8_newCapacity_21 : decode cJ8_newCapacity 21 = .ok (.iload_n 2, 1) := dk_28 (dk_at dksJ8_newCapacity_0 21 rfl rfl)
theorem dJ8_newCapacity_22 : decode cJ8_newCapacity 22 = .ok (.iconst 2, 1) := dk_5 (dk_at dksJ8_newCapacity_0 22 rfl rfl)
theorem dJ8_newCapacity_23 : decode cJ8_newCapacity 23 = .ok (.aload_n 0, 1) := dk_42 (dk_at dksJ8_newCapacity_0 23 rfl rfl)
theorem dJ8_newCapacity_24 : decode cJ8_newCapacity 24 = .ok (.getfield 22, 3) := dk_180 0 22 (dk_at dksJ8_newCapacity_1 0 rfl rfl)
theorem dJ8_newCapacity_27 : decode cJ8_newCapacity 27 = .ok (.ishl, 1) := dk_120 (dk_at dksJ8_newCapacity_1 3 rfl rfl)
theorem dJ8_newCapacity_28 : decode cJ8_newCapacity 28 = .ok (.iadd, 1) := dk_96 (dk_at dksJ8_newCapacity_1 4 rfl rfl)
theorem dJ8_newCapacity_29 : decode cJ8_newCapacity 29 = .ok (.invokestatic 114, 3) := dk_184 0 114 (dk_at dksJ8_newCapacity_1 5 rfl rfl)
theorem dJ8_newCapacity_32 : decode cJ8_newCapacity 32 = .ok (.istore 5, 2) := dk_54 5 (dk_at dksJ8_newCapacity_1 8 rfl rfl)
theorem dJ8_newCapacity_34 : decode cJ8_newCapacity 34 = .ok (.iload 5, 2) := dk_21 5 (dk_at dksJ8_newCapacity_1 10 rfl rfl)
theorem dJ8_newCapacity_36 : decode cJ8_newCapacity 36 = .ok (.ldc 39, 2) := dk_18 39 (dk_at dksJ8_newCapacity_1 12 rfl rfl)
theorem dJ8_newCapacity_38 : decode cJ8_newCapacity 38 = .ok (.if_icmp .ne 13, 3) := dk_160 0 13 (dk_at dksJ8_newCapacity_1 14 rfl rfl)
theorem dJ8_newCapacity_51 : decode cJ8_newCapacity 51 = .ok (.iload 5, 2) := dk_21 5 (dk_at dksJ8_newCapacity_2 4 rfl rfl)
theorem dJ8_newCapacity_53 : decode cJ8_newCapacity 53 = .ok (.aload_n 0, 1) := dk_42 (dk_at dksJ8_newCapacity_2 6 rfl rfl)
theorem dJ8_newCapacity_54 : decode cJ8_newCapacity 54 = .ok (.getfield 22, 3) := dk_180 0 22 (dk_at dksJ8_newCapacity_2 7 rfl rfl)
theorem dJ8_newCapacity_57 : decode cJ8_newCapacity 57 = .ok (.ishr, 1) := dk_122 (dk_at dksJ8_newCapacity_2 10 rfl rfl)
theorem dJ8_newCapacity_58 : decode cJ8_newCapacity 58 = .ok (.ireturn, 1) := dk_172 (dk_at dksJ8_newCapacity_2 11 rfl rfl)
def dkwJ8_isLatin1_0 : List UInt8 := [178, 0, 18, 153, 0, 14, 42, 180, 0, 22, 154, 0, 7, 4, 167, 0, 4, 3, 172]
abbrev dktJ8_isLatin1_0 : List UInt8 := dkwJ8_isLatin1_0 ++ []
theorem dksJ8_isLatin1_0 : cJ8_isLatin1.data.toList.drop 0 = dktJ8_isLatin1_0 := by decide +kernel
theorem dJ8_isLatin1_0 : decode cJ8_isLatin1 0 = .ok (.getstatic 18, 3) := dk_178 0 18 (dk_at dksJ8_isLatin1_0 0 rfl rfl)
theorem dJ8_isLatin1_3 : decode cJ8_isLatin1 3 = .ok (.ifCond .eq 14, 3) := dk_153 0 14 (dk_at dksJ8_isLatin1_0 3 rfl rfl)
theorem dJ8_isLatin1_6 : decode cJ8_isLatin1 6 = .ok (.aload_n 0, 1) := dk_42 (dk_at dksJ8_isLatin1_0 6 rfl rfl)
theorem dJ8_isLatin1_7 : decode cJ8_isLatin1 7 = .ok (.getfield 22, 3) := dk_180 0 22 (dk_at dksJ8_isLatin1_0 7 rfl rfl)
theorem dJ8_isLatin1_10 : decode cJ8_isLatin1 10 = .ok (.ifCond .ne 7, 3) := dk_154 0 7 (dk_at dksJ8_isLatin1_0 10 rfl rfl)
theorem dJ8_isLatin1_13 : decode cJ8_isLatin1 13 = .ok (.iconst 1, 1) := dk_4 (dk_at dksJ8_isLatin1_0 13 rfl rfl)
theorem dJ8_isLatin1_14 : decode cJ8_isLatin1 14 = .ok (.goto 4, 3) := dk_167 0 4 (dk_at dksJ8_isLatin1_0 14 rfl rfl)
theorem dJ8_isLatin1_17 : decode cJ8_isLatin1 17 = .ok (.iconst 0, 1) := dk_3 (dk_at dksJ8_isLatin1_0 17 rfl rfl)
theorem dJ8_isLatin1_18 : decode cJ8_isLatin1 18 = .ok (.ireturn, 1) := dk_172 (dk_at dksJ8_isLatin1_0 18 rfl rfl)
def dkwJ8_putStringAt_0 : List UInt8 := [42, 44, 182, 1, 141, 44, 42, 180, 0, 15, 27, 42, 180, 0, 22, 182, 1, 143, 177]
abbrev dktJ8_putStringAt_0 : List UInt8 := dkwJ8_putStringAt_0 ++ []
theorem dksJ8_putStringAt_0 : cJ8_putStringAt.data.toList.drop 0 = dktJ8_putStringAt_0 := by decide +kernel
theorem dJ8_putStringAt_0 : decode cJ8_putStringAt 0 = .ok (.aload_n 0, 1) := dk_42 (dk_at dksJ8_putStringAt_0 0 rfl rfl)
theorem dJ8_putStringAt_1 : decode cJ8_putStringAt 1 = .ok (.aload_n 2, 1) := dk_44 (dk_at dksJ8_putStringAt_0 1 rfl rfl)
theorem dJ8_putStringAt_2 : decode cJ8_putStringAt 2 = .ok (.invokevirtual 397, 3) := dk_182 1 141 (dk_at dksJ8_putStringAt_0 2 rfl rfl)
theorem dJ8_putStringAt_5 : decode cJ8_putStringAt 5 = .ok (.aload_n 2, 1) := dk_44 (dk_at dksJ8_putStringAt_0 5 rfl rfl)
theorem dJ8_putStringAt_6 : decode cJ8_putStringAt 6 = .ok (.aload_n 0, 1) := dk_42 (dk_at dksJ8_putStringAt_0 6 rfl rfl)
theorem dJ8_putStringAt_7 : decode cJ8_putStringAt 7 = .ok (.getfield 15, 3) := dk_180 0 15 (dk_at dksJ8_putStringAt_0 7 rfl rfl)
theorem dJ8_putStringAt_10 : decode cJ8_putStringAt 10 = .ok (.iload_n 1, 1) := dk_27 (dk_at dksJ8_putStringAt_0 10 rfl rfl)
theorem dJ8_putStringAt_11 : decode cJ8_putStringAt 11 = .ok (.aload_n 0, 1) := dk_42 (dk_at dksJ8_putStringAt_0 11 rfl rfl)
theorem dJ8_putStringAt_12 : decode cJ8_putStringAt 12 = .ok (.getfield 22, 3) := dk_180 0 22 (dk_at dksJ8_putStringAt_0 12 rfl rfl)
theorem dJ8_putStringAt_15 : decode cJ8_putStringAt 15 = .ok (.invokevirtual 399, 3) := dk_182 1 143 (dk_at dksJ8_putStringAt_0 15 rfl rfl)
theorem dJ8_putStringAt_18 : decode cJ8_putStringAt 18 = .ok (.return_, 1) := dk_177 (dk_at dksJ8_putStringAt_0 18 rfl rfl)
def dkwJ8_inflateIfNeededFor_0 : List UInt8 := [178, 0, 18, 153, 0, 18, 42, 180, 0, 22, 43, 182, 0, 40, 159, 0, 7, 42, 182, 0, 195, 177]
abbrev dktJ8_inflateIfNeededFor_0 : List UInt8 := dkwJ8_inflateIfNeededFor_0 ++ []
theorem dksJ8_inflateIfNeededFor_0 : cJ8_inflateIfNeededFor.data.toList.drop 0 = dktJ8_inflateIfNeededFor_0 := by decide +kernel
theorem dJ8_inflateIfNeededFor_0 : decode cJ8_inflateIfNeededFor 0 = .ok (.getstatic 18, 3) := dk_178 0 18 (dk_at dksJ8_inflateIfNeededFor_0 0 rfl rfl)
theorem dJ8_inflateIfNeededFor_3 : decode cJ8_inflateIfNeededFor 3 = .ok (.ifCond .eq 18, 3) := dk_153 0 18 (dk_at dksJ8_inflateIfNeededFor_0 3 rfl rfl)
theorem dJ8_inflateIfNeededFor_6 : decode cJ8_inflateIfNeededFor 6 = .ok (.aload_n 0, 1) := dk_42 (dk_at dksJ8_inflateIfNeededFor_0 6 rfl rfl)
theorem dJ8_inflateIfNeededFor_7 : decode cJ8_inflateIfNeededFor 7 = .ok (.getfield 22, 3) := dk_180 0 22 (dk_at dksJ8_inflateIfNeededFor_0 7 rfl rfl)
theorem dJ8_inflateIfNeededFor_10 : decode cJ8_inflateIfNeededFor 10 = .ok (.aload_n 1, 1) := dk_43 (dk_at dksJ8_inflateIfNeededFor_0 10 rfl rfl)
theorem dJ8_inflateIfNeededFor_11 : decode cJ8_inflateIfNeededFor 11 = .ok (.invokevirtual 40, 3) := dk_182 0 40 (dk_at dksJ8_inflateIfNeededFor_0 11 rfl rfl)
theorem dJ8_inflateIfNeededFor_14 : decode cJ8_inflateIfNeededFor 14 = .ok (.if_icmp .eq 7, 3) := dk_159 0 7 (dk_at dksJ8_inflateIfNeededFor_0 14 rfl rfl)
theorem dJ8_inflateIfNeededFor_21 : decode cJ8_inflateIfNeededFor 21 = .ok (.return_, 1) := dk_177 (dk_at dksJ8_inflateIfNeededFor_0 21 rfl rfl)
theorem dJ8_getValue_0 : decode cJ8_getValue 0 = .ok (.aload_n 0, 1) := by decide +kernel
theorem dJ8_getValue_1 : decode cJ8_getValue 1 = .ok (.getfield 15, 3) := by decide +kernel
theorem dJ8_getValue_4 : decode cJ8_getValue 4 = .ok (.areturn, 1) := by decide +kernel
theorem dJ8_length_0 : decode cJ8_length 0 = .ok (.aload_n 0, 1) := by decide +kernel
theorem dJ8_length_1 : decode cJ8_length 1 = .ok (.getfield 79, 3) := by decide +kernel
theorem dJ8_length_4 : decode cJ8_length 4 = .ok (.ireturn, 1) := by decide +kernel
def dkwJ8_append_2_3 : List UInt8 := [181, 0, 79, 27, 184, 0, 197, 42, 176]
abbrev dktJ8_append_2_3 : List UInt8 := dkwJ8_append_2_3 ++ []
def dkwJ8_append_2_2 : List UInt8 := [182, 0, 83, 153, 0, 7, 42, 182, 0, 195, 42, 180, 0, 15, 42, 89, 180, 0, 79, 90, 4, 96]
abbrev dktJ8_append_2_2 : List UInt8 := dkwJ8_append_2_2 ++ dktJ8_append_2_3
def dkwJ8_append_2_1 : List UInt8 := [42, 180, 0, 15, 42, 89, 180, 0, 79, 90, 4, 96, 181, 0, 79, 27, 145, 84, 167, 0, 33, 42]
abbrev dktJ8_append_2_1 : List UInt8 := dkwJ8_append_2_1 ++ dktJ8_append_2_2
def dkwJ8_append_2_0 : List UInt8 := [42, 42, 180, 0, 79, 4, 96, 182, 0, 100, 42, 182, 0, 83, 153, 0, 31, 27, 184, 0, 191, 153, 0, 24]
abbrev dktJ8_append_2_0 : List UInt8 := dkwJ8_append_2_0 ++ dktJ8_append_2_1
theorem dksJ8_append_2_0 : cJ8_append_2.data.toList.drop 0 = dktJ8_append_2_0 := by decide +kernel
theorem dksJ8_append_2_1 : cJ8_append_2.data.toList.drop 24 = dktJ8_append_2_1 := dk_seg dksJ8_append_2_0 24 rfl rfl
theorem dksJ8_append_2_2 : cJ8_append_2.data.toList.drop 46 = dktJ8_append_2_2 := dk_seg dksJ8_append_2_1 22 rfl rfl
theorem dksJ8_append_2_3 : cJ8_append_2.data.toList.drop 68 = dktJ8_append_2_3 := dk_seg dksJ8_append_2_2 22 rfl rfl
theorem dJ8_append_2_0 : decode cJ8_append_2 0 = .ok (.aload_n 0, 1) := dk_42 (dk_at dksJ8_append_2_0 0 rfl rfl)
theorem dJ8_append_2_1 : decode cJ8_append_2 1 = .ok (.aload_n 0, 1) := dk_42 (dk_at dksJ8_append_2_0 1 rfl rfl)
theorem dJ8_append_2_2 : decode cJ8_append_2 2 = .ok (.getfield 79, 3) := dk_180 0 79 (dk_at dksJ8_append_2_0 2 rfl rfl)
theorem dJ8_append_2_5 : decode cJ8_append_2 5 = .ok (.iconst 1, 1) := dk_4 (dk_at dksJ8_append_2_0 5 rfl rfl)
theorem dJ8_append_2_6 : decode cJ8_append_2 6 = .ok (.iadd, 1) := dk_96 (dk_at dksJ8_append_2_0 6 rfl rfl)
theorem dJ8_append_2_7 : decode cJ8_append_2 7 = .ok (.invokevirtual 100, 3) := dk_182 0 100 (dk_at dksJ8_append_2_0 7 rfl rfl)
theorem dJ8_append_2_10 : decode cJ8_append_2 10 = .ok (.aload_n 0, 1) := dk_42 (dk_at dksJ8_append_2_0 10 rfl rfl)
theorem dJ8_append_2_11 : decode cJ8_append_2 11 = .ok (.invokevirtual 83, 3) := dk_182 0 83 (dk_at dksJ8_append_2_0 11 rfl rfl)
theorem dJ8_append_2_14 : decode cJ8_append_2 14 = .ok (.ifCond .eq 31, 3) := dk_153 0 31 (dk_at dksJ8_append_2_0 14 rfl rfl)
theorem dJ8_append_2_17 : decode cJ8_append_2 17 = .ok (.iload_n 1, 1) := dk_27 (dk_at dksJ8_append_2_0 17 rfl rfl)
theorem dJ8_append_2_18 : decode cJ8_append_2 18 = .ok (.invokestatic 191, 3) := dk_184 0 191 (dk_at dksJ8_append_2_0 18 rfl rfl)
theorem dJ8_append_2_21 : decode cJ8_append_2 21 = .ok (.ifCond .eq 24, 3) := dk_153 0 24 (dk_at dksJ8_append_2_0 21 rfl rfl)
theorem dJ8_append_2_24 : decode cJ8_append_2 24 = .ok (.aload_n 0, 1) := dk_42 (dk_at dksJ8_append_2_1 0 rfl rfl)
theorem dJ8_append_2_25 : decode cJ8_append_2 25 = .ok (.getfield 15, 3) := dk_180 0 15 (dk_at dksJ8_append_2_1 1 rfl rfl)
theorem dJ8_append_2_28 : decode cJ8_append_2 28 = .ok (.aload_n 0, 1) := dk_42 (dk_at dksJ8_append_2_1 4 rfl rfl)
theorem dJ8_append_2_29 : decode cJ8_append_2 29 = .ok (.dup, 1) := dk_89 (dk_at dksJ8_append_2_1 5 rfl rfl)
theorem dJ8_append_2_30 : decode cJ8_append_2 30 = .ok (.getfield 79, 3) := dk_180 0 79 (dk_at dksJ8_append_2_1 6 rfl rfl)
theorem dJ8_append_2_33 : decode cJ8_append_2 33 = .ok (.dup_x1, 1) := dk_90 (dk_at dksJ8_append_2_1 9 rfl rfl)
theorem dJ8_append_2_34 : decode cJ8_append_2 34 = .ok (.iconst 1, 1) := dk_4 (dk_at dksJ8_append_2_1 10 rfl rfl)
theorem dJ8_append_2_35 : decode cJ8_append_2 35 = .ok (.iadd, 1) := dk_96 (dk_at dksJ8_append_2_1 11 rfl rfl)
theorem dJ8_append_2_36 : decode cJ8_append_2 36 = .ok (.putfield 79, 3) := dk_181 0 79 (dk_at dksJ8_append_2_1 12 rfl rfl)
theorem dJ8_append_2_39 : decode cJ8_append_2 39 = .ok (.iload_n 1, 1) := dk_27 (dk_at dksJ8_append_2_1 15 rfl rfl)
theorem dJ8_append_2_40 : decode cJ8_append_2 40 = .ok (.i2b, 1) := dk_145 (dk_at dksJ8_append_2_1 16 rfl rfl)
theorem dJ8_append_2_41 : decode cJ8_append_2 41 = .ok (.bastore, 1) := dk_84 (dk_at dksJ8_append_2_1 17 rfl rfl)
theorem dJ8_append_2_42 : decode cJ8_append_2 42 = .ok (.goto 33, 3) := dk_167 0 33 (dk_at dksJ8_append_2_1 18 rfl rfl)
theorem dJ8_append_2_75 : decode cJ8_append_2 75 = .ok (.aload_n 0, 1) := dk_42 (dk_at dksJ8_append_2_3 7 rfl rfl)
theorem dJ8_append_2_76 : decode cJ8_append_2 76 = .ok (.areturn, 1) := dk_176 (dk_at dksJ8_append_2_3 8 rfl rfl)
def dkwJ8_charAt_1 : List UInt8 := [21, 4, 184, 0, 144, 28, 154, 0, 12, 45, 27, 51, 17, 0, 255, 126, 146, 172, 45, 27, 184, 0, 148, 172]
abbrev dktJ8_charAt_1 : List UInt8 := dkwJ8_charAt_1 ++ []
def dkwJ8_charAt_0 : List UInt8 := [42, 180, 0, 22, 61, 42, 180, 0, 15, 78, 42, 180, 0, 79, 45, 190, 28, 122, 184, 0, 138, 54, 4, 27]
abbrev dktJ8_charAt_0 : List UInt8 := dkwJ8_charAt_0 ++ dktJ8_charAt_1
theorem dksJ8_charAt_0 : cJ8_charAt.data.toList.drop 0 = dktJ8_charAt_0 := by decide +kernel
theorem dksJ8_charAt_1 : cJ8_charAt.data.toList.drop 24 = dktJ8_charAt_1 := dk_seg dksJ8_charAt_0 24 rfl rfl
theorem dJ8_charAt_0 : decode cJ8_charAt 0 = .ok (.aload_n 0, 1) := dk_42 (dk_at dksJ8_charAt_0 0 rfl rfl)
theorem dJ8_charAt_1 : decode cJ8_charAt 1 = .ok (.getfield 22, 3) := dk_180 0 22 (dk_at dksJ8_charAt_0 1 rfl rfl)
theorem dJ8_charAt_4 : decode cJ8_charAt 4 = .ok (.istore_n 2, 1) := dk_61 (dk_at dksJ8_charAt_0 4 rfl rfl)
theorem dJ8_charAt_5 : decode cJ8_charAt 5 = .ok (.aload_n 0, 1) := dk_42 (dk_at dksJ8_charAt_0 5 rfl rfl)
theorem dJ8_charAt_6 : decode cJ8_charAt 6 = .ok (.getfield 15, 3) := dk_180 0 15 (dk_at dksJ8_charAt_0 6 rfl rfl)
theorem dJ8_charAt_9 : decode cJ8_charAt 9 = .ok (.astore_n 3, 1) := dk_78 (dk_at dksJ8_charAt_0 9 rfl rfl)
theorem dJ8_charAt_10 : decode cJ8_charAt 10 = .ok (.aload_n 0, 1) := dk_42 (dk_at dksJ8_charAt_0 10 rfl rfl)
theorem dJ8_charAt_11 : decode cJ8_charAt 11 = .ok (.getfield 79, 3) := dk_180 0 79 (dk_at dksJ8_charAt_0 11 rfl rfl)
theorem dJ8_charAt_14 : decode cJ8_charAt 14 = .ok (.aload_n 3, 1) := dk_45 (dk_at dksJ8_charAt_0 14 rfl rfl)
theorem dJ8_charAt_15 : decode cJ8_charAt 15 = .ok (.arraylength, 1) := dk_190 (dk_at dksJ8_charAt_0 15 rfl rfl)
theorem dJ8_charAt_16 : decode cJ8_charAt 16 = .ok (.iload_n 2, 1) := dk_28 (dk_at dksJ8_charAt_0 16 rfl rfl)
theorem dJ8_charAt_17 : decode cJ8_charAt 17 = .ok (.ishr, 1) := dk_122 (dk_at dksJ8_charAt_0 17 rfl rfl)
theorem dJ8_charAt_18 : decode cJ8_charAt 18 = .ok (.invokestatic 138, 3) := dk_184 0 138 (dk_at dksJ8_charAt_0 18 rfl rfl)
theorem dJ8_charAt_21 : decode cJ8_charAt 21 = .ok (.istore 4, 2) := dk_54 4 (dk_at dksJ8_charAt_0 21 rfl rfl)
theorem dJ8_charAt_23 : decode cJ8_charAt 23 = .ok (.iload_n 1, 1) := dk_27 (dk_at dksJ8_charAt_0 23 rfl rfl)
theorem dJ8_charAt_24 : decode cJ8_charAt 24 = .ok (.iload 4, 2) := dk_21 4 (dk_at dksJ8_charAt_1 0 rfl rfl)
theorem dJ8_charAt_26 : decode cJ8_charAt 26 = .ok (.invokestatic 144, 3) := dk_184 0 144 (dk_at dksJ8_charAt_1 2 rfl rfl)
theorem dJ8_charAt_29 : decode cJ8_charAt 29 = .ok (.iload_n 2, 1) := dk_28 (dk_at dksJ8_charAt_1 5 rfl rfl)
theorem dJ8_charAt_30 : decode cJ8_charAt 30 = .ok (.ifCond .ne 12, 3) := dk_154 0 12 (dk_at dksJ8_charAt_1 6 rfl rfl)
theorem dJ8_charAt_33 : decode cJ8_charAt 33 = .ok (.aload_n 3, 1) := dk_45 (dk_at dksJ8_charAt_1 9 rfl rfl)
theorem dJ8_charAt_34 : decode cJ8_charAt 34 = .ok (.iload_n 1, 1) := dk_27 (dk_at dksJ8_charAt_1 10 rfl rfl)
theorem dJ8_charAt_35 : decode cJ8_charAt 35 = .ok (.baload, 1) := dk_51 (dk_at dksJ8_charAt_1 11 rfl rfl)
theorem dJ8_charAt_36 : decode cJ8_charAt 36 = .ok (.sipush 255, 3) := dk_17 0 255 (dk_at dksJ8_charAt_1 12 rfl rfl)
theorem dJ8_charAt_39 : decode cJ8_charAt 39 = .ok (.iand, 1) := dk_126 (dk_at dksJ8_charAt_1 15 rfl rfl)
theorem dJ8_charAt_40 : decode cJ8_charAt 40 = .ok (.i2c, 1) := dk_146 (dk_at dksJ8_charAt_1 16 rfl rfl)
theorem dJ8_charAt_41 : decode cJ8_charAt 41 = .ok (.ireturn, 1) := dk_172 (dk_at dksJ8_charAt_1 17 rfl rfl)
def dkwJ8_setLength_3 : List UInt8 := [164, 0, 8, 42, 4, 181, 0, 73, 42, 27, 181, 0, 79, 177]
abbrev dktJ8_setLength_3 : List UInt8 := dkwJ8_setLength_3 ++ []
def dkwJ8_setLength_2 : List UInt8 := [167, 0, 31, 42, 180, 0, 15, 42, 180, 0, 79, 27, 184, 0, 137, 167, 0, 16, 42, 180, 0, 79, 27]
abbrev dktJ8_setLength_2 : List UInt8 := dkwJ8_setLength_2 ++ dktJ8_setLength_3
def dkwJ8_setLength_1 : List UInt8 := [162, 0, 40, 42, 182, 0, 83, 153, 0, 18, 42, 180, 0, 15, 42, 180, 0, 79, 27, 184, 0, 133]
abbrev dktJ8_setLength_1 : List UInt8 := dkwJ8_setLength_1 ++ dktJ8_setLength_2
def dkwJ8_setLength_0 : List UInt8 := [27, 156, 0, 12, 187, 0, 129, 89, 27, 183, 0, 131, 191, 42, 27, 182, 0, 100, 42, 180, 0, 79, 27]
abbrev dktJ8_setLength_0 : List UInt8 := dkwJ8_setLength_0 ++ dktJ8_setLength_1
theorem dksJ8_setLength_0 : cJ8_setLength.data.toList.drop 0 = dktJ8_setLength_0 := by decide +kernel
theorem dksJ8_setLength_1 : cJ8_setLength.data.toList.drop 23 = dktJ8_setLength_1 := dk_seg dksJ8_setLength_0 23 rfl rfl
theorem dksJ8_setLength_2 : cJ8_setLength.data.toList.drop 45 = dktJ8_setLength_2 := dk_seg dksJ8_setLength_1 22 rfl rfl
theorem dksJ8_setLength_3 : cJ8_setLength.data.toList.drop 68 = dktJ8_setLength_3 := dk_seg dksJ8_setLength_2 23 rfl rfl
theorem dJ8_setLength_0 : decode cJ8_setLength 0 = .ok (.iload_n 1, 1) := dk_27 (dk_at dksJ8_setLength_0 0 rfl rfl)
theorem dJ8_setLength_1 : decode cJ8_setLength 1 = .ok (.ifCond .ge 12, 3) := dk_156 0 12 (dk_at dksJ8_setLength_0 1 rfl rfl)
theorem dJ8_setLength_13 : decode cJ8_setLength 13 = .ok (.aload_n 0, 1) := dk_42 (dk_at dksJ8_setLength_0 13 rfl rfl)
theorem dJ8_setLength_14 : decode cJ8_setLength 14 = .ok (.iload_n 1, 1) := dk_27 (dk_at dksJ8_setLength_0 14 rfl rfl)
theorem dJ8_setLength_15 : decode cJ8_setLength 15 = .ok (.invokevirtual 100, 3) := dk_182 0 100 (dk_at dksJ8_setLength_0 15 rfl rfl)
theorem dJ8_setLength_18 : decode cJ8_setLength 18 = .ok (.aload_n 0, 1) := dk_42 (dk_at dksJ8_setLength_0 18 rfl rfl)
theorem dJ8_setLength_19 : decode cJ8_setLength 19 = .ok (.getfield 79, 3) := dk_180 0 79 (dk_at dksJ8_setLength_0 19 rfl rfl)
theorem dJ8_setLength_22 : decode cJ8_setLength 22 = .ok (.iload_n 1, 1) := dk_27 (dk_at dksJ8_setLength_0 22 rfl rfl)
theorem dJ8_setLength_23 : decode cJ8_setLength 23 = .ok (.if_icmp .ge 40, 3) := dk_162 0 40 (dk_at dksJ8_setLength_1 0 rfl rfl)
theorem dJ8_setLength_26 : decode cJ8_setLength 26 = .ok (.aload_n 0, 1) := dk_42 (dk_at dksJ8_setLength_1 3 rfl rfl)
theorem dJ8_setLength_27 : decode cJ8_setLength 27 = .ok (.invokevirtual 83, 3) := dk_182 0 83 (dk_at dksJ8_setLength_1 4 rfl rfl)
theorem dJ8_setLength_30 : decode cJ8_setLength 30 = .ok (.ifCond .eq 18, 3) := dk_153 0 18 (dk_at dksJ8_setLength_1 7 rfl rfl)
theorem dJ8_setLength_33 : decode cJ8_setLength 33 = .ok (.aload_n 0, 1) := dk_42 (dk_at dksJ8_setLength_1 10 rfl rfl)
theorem dJ8_setLength_34 : decode cJ8_setLength 34 = .ok (.getfield 15, 3) := dk_180 0 15 (dk_at dksJ8_setLength_1 11 rfl rfl)
theorem dJ8_setLength_37 : decode cJ8_setLength 37 = .ok (.aload_n 0, 1) := dk_42 (dk_at dksJ8_setLength_1 14 rfl rfl)
theorem dJ8_setLength_38 : decode cJ8_setLength 38 = .ok (.getfield 79, 3) := dk_180 0 79 (dk_at dksJ8_setLength_1 15 rfl rfl)
theorem dJ8_setLength_41 : decode cJ8_setLength 41 = .ok (.iload_n 1, 1) := dk_27 (dk_at dksJ8_setLength_1 18 rfl rfl)
theorem dJ8_setLength_42 : decode cJ8_setLength 42 = .ok (.invokestatic 133, 3) := dk_184 0 133 (dk_at dksJ8_setLength_1 19 rfl rfl)
theorem dJ8_setLength_45 : decode cJ8_setLength 45 = .ok (.goto 31, 3) := dk_167 0 31 (dk_at dksJ8_setLength_2 0 rfl rfl)
theorem dJ8_setLength_63 : decode cJ8_setLength 63 = .ok (.aload_n 0, 1) := dk_42 (dk_at dksJ8_setLength_2 18 rfl rfl)
theorem dJ8_setLength_64 : decode cJ8_setLength 64 = .ok (.getfield 79, 3) := dk_180 0 79 (dk_at dksJ8_setLength_2 19 rfl rfl)
theorem dJ8_setLength_67 : decode cJ8_setLength 67 = .ok (.iload_n 1, 1) := dk_27 (dk_at dksJ8_setLength_2 22 rfl rfl)
theorem dJ8_setLength_68 : decode cJ8_setLength 68 = .ok (.if_icmp .le 8, 3) := dk_164 0 8 (dk_at dksJ8_setLength_3 0 rfl rfl)
theorem dJ8_setLength_71 : decode cJ8_setLength 71 = .ok (.aload_n 0, 1) := dk_42 (dk_at dksJ8_setLength_3 3 rfl rfl)
theorem dJ8_setLength_72 : decode cJ8_setLength 72 = .ok (.iconst 1, 1) := dk_4 (dk_at dksJ8_setLength_3 4 rfl rfl)
theorem dJ8_setLength_73 : decode cJ8_setLength 73 = .ok (.putfield 73, 3) := dk_181 0 73 (dk_at dksJ8_setLength_3 5 rfl rfl)
theorem dJ8_setLength_76 : decode cJ8_setLength 76 = .ok (.aload_n 0, 1) := dk_42 (dk_at dksJ8_setLength_3 8 rfl rfl)
theorem dJ8_setLength_77 : decode cJ8_setLength 77 = .ok (.iload_n 1, 1) := dk_27 (dk_at dksJ8_setLength_3 9 rfl rfl)
theorem dJ8_setLength_78 : decode cJ8_setLength 78 = .ok (.putfield 79, 3) := dk_181 0 79 (dk_at dksJ8_setLength_3 10 rfl rfl)
theorem dJ8_setLength_81 : decode cJ8_setLength 81 = .ok (.return_, 1) := dk_177 (dk_at dksJ8_setLength_3 13 rfl rfl)
def dkwJ8_append_3_2 : List UInt8 := [42, 29, 181, 0, 79, 42, 176]
abbrev dktJ8_append_3_2 : List UInt8 := dkwJ8_append_3_2 ++ []
def dkwJ8_append_3_1 : List UInt8 := [27, 29, 42, 180, 0, 15, 184, 0, 248, 87, 167, 0, 14, 27, 28, 29, 42, 180, 0, 15, 184, 0, 251, 87]
abbrev dktJ8_append_3_1 : List UInt8 := dkwJ8_append_3_1 ++ dktJ8_append_3_2
def dkwJ8_append_3_0 : List UInt8 := [42, 180, 0, 79, 61, 28, 27, 184, 0, 245, 96, 62, 42, 29, 182, 0, 100, 42, 182, 0, 83, 153, 0, 16]
abbrev dktJ8_append_3_0 : List UInt8 := dkwJ8_append_3_0 ++ dktJ8_append_3_1
theorem dksJ8_append_3_0 : cJ8_append_3.data.toList.drop 0 = dktJ8_append_3_0 := by decide +kernel
theorem dksJ8_append_3_1 : cJ8_append_3.data.toList.drop 24 = dktJ8_append_3_1 := dk_seg dksJ8_append_3_0 24 rfl rfl
theorem dksJ8_append_3_2 : cJ8_append_3.data.toList.drop 48 = dktJ8_append_3_2 := dk_seg dksJ8_append_3_1 24 rfl rfl
theorem dJ8_append_3_0 : decode cJ8_append_3 0 = .ok (.aload_n 0, 1) := dk_42 (dk_at dksJ8_append_3_0 0 rfl rfl)
theorem dJ8_append_3_1 : decode cJ8_append_3 1 = .ok (.getfield 79, 3) := dk_180 0 79 (dk_at dksJ8_append_3_0 1 rfl rfl)
theorem dJ8_append_3_4 : decode cJ8_append_3 4 = .ok (.istore_n 2, 1) := dk_61 (dk_at dksJ8_append_3_0 4 rfl rfl)
theorem dJ8_append_3_5 : decode cJ8_append_3 5 = .ok (.iload_n 2, 1) := dk_28 (dk_at dksJ8_append_3_0 5 rfl rfl)
theorem dJ8_append_3_6 : decode cJ8_append_3 6 = .ok (.iload_n 1, 1) := dk_27 (dk_at dksJ8_append_3_0 6 rfl rfl)
theorem dJ8_append_3_7 : decode cJ8_append_3 7 = .ok (.invokestatic 245, 3) := dk_184 0 245 (dk_at dksJ8_append_3_0 7 rfl rfl)
theorem dJ8_append_3_10 : decode cJ8_append_3 10 = .ok (.iadd, 1) := dk_96 (dk_at dksJ8_append_3_0 10 rfl rfl)
theorem dJ8_append_3_11 : decode cJ8_append_3 11 = .ok (.istore_n 3, 1) := dk_62 (dk_at dksJ8_append_3_0 11 rfl rfl)
theorem dJ8_append_3_12 : decode cJ8_append_3 12 = .ok (.aload_n 0, 1) := dk_42 (dk_at dksJ8_append_3_0 12 rfl rfl)
theorem dJ8_append_3_13 : decode cJ8_append_3 13 = .ok (.iload_n 3, 1) := dk_29 (dk_at dksJ8_append_3_0 13 rfl rfl)
theorem dJ8_append_3_14 : decode cJ8_append_3 14 = .ok (.invokevirtual 100, 3) := dk_182 0 100 (dk_at dksJ8_append_3_0 14 rfl rfl)
theorem dJ8_append_3_17 : decode cJ8_append_3 17 = .ok (.aload_n 0, 1) := dk_42 (dk_at dksJ8_append_3_0 17 rfl rfl)
theorem dJ8_append_3_18 : decode cJ8_append_3 18 = .ok (.invokevirtual 83, 3) := dk_182 0 83 (dk_at dksJ8_append_3_0 18 rfl rfl)
theorem dJ8_append_3_21 : decode cJ8_append_3 21 = .ok (.ifCond .eq 16, 3) := dk_153 0 16 (dk_at dksJ8_append_3_0 21 rfl rfl)
theorem dJ8_append_3_24 : decode cJ8_append_3 24 = .ok (.iload_n 1, 1) := dk_27 (dk_at dksJ8_append_3_1 0 rfl rfl)
theorem dJ8_append_3_25 : decode cJ8_append_3 25 = .ok (.iload_n 3, 1) := dk_29 (dk_at dksJ8_append_3_1 1 rfl rfl)
theorem dJ8_append_3_26 : decode cJ8_append_3 26 = .ok (.aload_n 0, 1) := dk_42 (dk_at dksJ8_append_3_1 2 rfl rfl)
theorem dJ8_append_3_27 : decode cJ8_append_3 27 = .ok (.getfield 15, 3) := dk_180 0 15 (dk_at dksJ8_append_3_1 3 rfl rfl)
theorem dJ8_append_3_30 : decode cJ8_append_3 30 = .ok (.invokestatic 248, 3) := dk_184 0 248 (dk_at dksJ8_append_3_1 6 rfl rfl)
theorem dJ8_append_3_33 : decode cJ8_append_3 33 = .ok (.pop, 1) := dk_87 (dk_at dksJ8_append_3_1 9 rfl rfl)
theorem dJ8_append_3_34 : decode cJ8_append_3 34 = .ok (.goto 14, 3) := dk_167 0 14 (dk_at dksJ8_append_3_1 10 rfl rfl)
theorem dJ8_append_3_48 : decode cJ8_append_3 48 = .ok (.aload_n 0, 1) := dk_42 (dk_at dksJ8_append_3_2 0 rfl rfl)
theorem dJ8_append_3_49 : decode cJ8_append_3 49 = .ok (.iload_n 3, 1) := dk_29 (dk_at dksJ8_append_3_2 1 rfl rfl)
theorem dJ8_append_3_50 : decode cJ8_append_3 50 = .ok (.putfield 79, 3) := dk_181 0 79 (dk_at dksJ8_append_3_2 2 rfl rfl)
theorem dJ8_append_3_53 : decode cJ8_append_3 53 = .ok (.aload_n 0, 1) := dk_42 (dk_at dksJ8_append_3_2 5 rfl rfl)
theorem dJ8_append_3_54 : decode cJ8_append_3 54 = .ok (.areturn, 1) := dk_176 (dk_at dksJ8_append_3_2 6 rfl rfl)
def dkwJ9_init_0 : List UInt8 := [42, 16, 16, 183, 0, 1, 177]
abbrev dktJ9_init_0 : List UInt8 := dkwJ9_init_0 ++ []
theorem dksJ9_init_0 : cJ9_init.data.toList.drop 0 = dktJ9_init_0 := by decide +kernel
theorem dJ9_init_0 : decode cJ9_init 0 = .ok (.aload_n 0, 1) := dk_42 (dk_at dksJ9_init_0 0 rfl rfl)
theorem dJ9_init_1 : decode cJ9_init 1 = .ok (.bipush 16, 2) := dk_16 16 (dk_at dksJ9_init_0 1 rfl rfl)
theorem dJ9_init_3 : decode cJ9_init 3 = .ok (.invokespecial 1, 3) := dk_183 0 1 (dk_at dksJ9_init_0 3 rfl rfl)
theorem dJ9_init_6 : decode cJ9_init 6 = .ok (.return_, 1) := dk_177 (dk_at dksJ9_init_0 6 rfl rfl)
def dkwJ9_append_0 : List UInt8 := [42, 43, 183, 0, 29, 87, 42, 176]
abbrev dktJ9_append_0 : List UInt8 := dkwJ9_append_0 ++ []
theorem dksJ9_append_0 : cJ9_append.data.toList.drop 0 = dktJ9_append_0 := by decide +kernel
theorem dJ9_append_0 : decode cJ9_append 0 = .ok (.aload_n 0, 1) := dk_42 (dk_at dksJ9_append_0 0 rfl rfl)
theorem dJ9_append_1 : decode cJ9_append 1 = .ok (.aload_n 1, 1) := dk_43 (dk_at dksJ9_append_0 1 rfl rfl)
theorem dJ9_append_2 : decode cJ9_append 2 = .ok (.invokespecial 29, 3) := dk_183 0 29 (dk_at dksJ9_append_0 2 rfl rfl)
theorem dJ9_append_5 : decode cJ9_append 5 = .ok (.pop, 1) := dk_87 (dk_at dksJ9_append_0 5 rfl rfl)
theorem dJ9_append_6 : decode cJ9_append 6 = .ok (.aload_n 0, 1) := dk_42 (dk_at dksJ9_append_0 6 rfl rfl)
theorem dJ9_append_7 : decode cJ9_append 7 = .ok (.areturn, 1) := dk_176 (dk_at dksJ9_append_0 7 rfl rfl)
def dkwJ9_toString_0 : List UInt8 := [187, 0, 18, 89, 42, 183, 0, 137, 176]
abbrev dktJ9_toString_0 : List UInt8 := dkwJ9_toString_0 ++ []
theorem dksJ9_toString_0 : cJ9_toString.data.toList.drop 0 = dktJ9_toString_0 := by decide +kernel
theorem dJ9_toString_0 : decode cJ9_toString 0 = .ok (.new 18, 3) := dk_187 0 18 (dk_at dksJ9_toString_0 0 rfl rfl)
theorem dJ9_toString_3 : decode cJ9_toString 3 = .ok (.dup, 1) := dk_89 (dk_at dksJ9_toString_0 3 rfl rfl)
theorem dJ9_toString_4 : decode cJ9_toString 4 = .ok (.aload_n 0, 1) := dk_42 (dk_at dksJ9_toString_0 4 rfl rfl)
theorem dJ9_toString_5 : decode cJ9_toString 5 = .ok (.invokespecial 137, 3) := dk_183 0 137 (dk_at dksJ9_toString_0 5 rfl rfl)
theorem dJ9_toString_8 : decode cJ9_toString 8 = .ok (.areturn, 1) := dk_176 (dk_at dksJ9_toString_0 8 rfl rfl)
theorem dJ9_length_0 : decode cJ9_length 0 = .ok (.aload_n 0, 1) := by decide +kernel
theorem dJ9_length_1 : decode cJ9_length 1 = .ok (.invokespecial 343, 3) := by decide +kernel
theorem dJ9_length_4 : decode cJ9_length 4 = .ok (.ireturn, 1) := by decide +kernel
def dkwJ9_append_2_0 : List UInt8 := [42, 27, 183, 0, 50, 87, 42, 176]
abbrev dktJ9_append_2_0 : List UInt8 := dkwJ9_append_2_0 ++ []
theorem dksJ9_append_2_0 : cJ9_append_2.data.toList.drop 0 = dktJ9_append_2_0 := by decide +kernel
theorem dJ9_append_2_0 : decode cJ9_append_2 0 = .ok (.aload_n 0, 1) := dk_42 (dk_at dksJ9_append_2_0 0 rfl rfl)
theorem dJ9_append_2_1 : decode cJ9_append_2 1 = .ok (.iload_n 1, 1) := dk_27 (dk_at dksJ9_append_2_0 1 rfl rfl)
theorem dJ9_append_2_2 : decode cJ9_append_2 2 = .ok (.invokespecial 50, 3) := dk_183 0 50 (dk_at dksJ9_append_2_0 2 rfl rfl)
theorem dJ9_append_2_5 : decode cJ9_append_2 5 = .ok (.pop, 1) := dk_87 (dk_at dksJ9_append_2_0 5 rfl rfl)
theorem dJ9_append_2_6 : decode cJ9_append_2 6 = .ok (.aload_n 0, 1) := dk_42 (dk_at dksJ9_append_2_0 6 rfl rfl)
theorem dJ9_append_2_7 : decode cJ9_append_2 7 = .ok (.areturn, 1) := dk_176 (dk_at dksJ9_append_2_0 7 rfl rfl)
def dkwJ9_charAt_0 : List UInt8 := [42, 27, 183, 1, 73, 172]
abbrev dktJ9_charAt_0 : List UInt8 := dkwJ9_charAt_0 ++ []
theorem dksJ9_charAt_0 : cJ9_charAt.data.toList.drop 0 = dktJ9_charAt_0 := by decide +kernel
theorem dJ9_charAt_0 : decode cJ9_charAt 0 = .ok (.aload_n 0, 1) := dk_42 (dk_at dksJ9_charAt_0 0 rfl rfl)
theorem dJ9_charAt_1 : decode cJ9_charAt 1 = .ok (.iload_n 1, 1) := dk_27 (dk_at dksJ9_charAt_0 1 rfl rfl)
theorem dJ9_charAt_2 : decode cJ9_charAt 2 = .ok (.invokespecial 329, 3) := dk_183 1 73 (dk_at dksJ9_charAt_0 2 rfl rfl)
theorem dJ9_charAt_5 : decode cJ9_charAt 5 = .ok (.ireturn, 1) := dk_172 (dk_at dksJ9_charAt_0 5 rfl rfl)
def dkwJ9_setLength_0 : List UInt8 := [42, 27, 183, 1, 77, 177]
abbrev dktJ9_setLength_0 : List UInt8 := dkwJ9_setLength_0 ++ []
theorem dksJ9_setLength_0 : cJ9_setLength.data.toList.drop 0 = dktJ9_setLength_0 := by decide +kernel
theorem dJ9_setLength_0 : decode cJ9_setLength 0 = .ok (.aload_n 0, 1) := dk_42 (dk_at dksJ9_setLength_0 0 rfl rfl)
theorem dJ9_setLength_1 : decode cJ9_setLength 1 = .ok (.iload_n 1, 1) := dk_27 (dk_at dksJ9_setLength_0 1 rfl rfl)
theorem dJ9_setLength_2 : decode cJ9_setLength 2 = .ok (.invokespecial 333, 3) := dk_183 1 77 (dk_at dksJ9_setLength_0 2 rfl rfl)
theorem dJ9_setLength_5 : decode cJ9_setLength 5 = .ok (.return_, 1) := dk_177 (dk_at dksJ9_setLength_0 5 rfl rfl)
def dkwJ9_append_3_0 : List UInt8 := [42, 27, 183, 0, 53, 87, 42, 176]
abbrev dktJ9_append_3_0 : List UInt8 := dkwJ9_append_3_0 ++ []
theorem dksJ9_append_3_0 : cJ9_append_3.data.toList.drop 0 = dktJ9_append_3_0 := by decide +kernel
theorem dJ9_append_3_0 : decode cJ9_append_3 0 = .ok (.aload_n 0, 1) := dk_42 (dk_at dksJ9_append_3_0 0 rfl rfl)
theorem dJ9_append_3_1 : decode cJ9_append_3 1 = .ok (.iload_n 1, 1) := dk_27 (dk_at dksJ9_append_3_0 1 rfl rfl)
theorem dJ9_append_3_2 : decode cJ9_append_3 2 = .ok (.invokespecial 53, 3) := dk_183 0 53 (dk_at dksJ9_append_3_0 2 rfl rfl)
theorem dJ9_append_3_5 : decode cJ9_append_3 5 = .ok (.pop, 1) := dk_87 (dk_at dksJ9_append_3_0 5 rfl rfl)
theorem dJ9_append_3_6 : decode cJ9_append_3 6 = .ok (.aload_n 0, 1) := dk_42 (dk_at dksJ9_append_3_0 6 rfl rfl)
theorem dJ9_append_3_7 : decode cJ9_append_3 7 = .ok (.areturn, 1) := dk_176 (dk_at dksJ9_append_3_0 7 rfl rfl)
def dkwJ10_length_0 : List UInt8 := [42, 180, 0, 9, 190, 42, 182, 1, 79, 122, 172]
abbrev dktJ10_length_0 : List UInt8 := dkwJ10_length_0 ++ []
theorem dksJ10_length_0 : cJ10_length.data.toList.drop 0 = dktJ10_length_0 := by decide +kernel
theorem dJ10_length_0 : decode cJ10_length 0 = .ok (.aload_n 0, 1) := dk_42 (dk_at dksJ10_length_0 0 rfl rfl)
theorem dJ10_length_1 : decode cJ10_length 1 = .ok (.getfield 9, 3) := dk_180 0 9 (dk_at dksJ10_length_0 1 rfl rfl)
theorem dJ10_length_4 : decode cJ10_length 4 = .ok (.arraylength, 1) := dk_190 (dk_at dksJ10_length_0 4 rfl rfl)
theorem dJ10_length_5 : decode cJ10_length 5 = .ok (.aload_n 0, 1) := dk_42 (dk_at dksJ10_length_0 5 rfl rfl)
theorem dJ10_length_6 : decode cJ10_length 6 = .ok (.invokevirtual 335, 3) := dk_182 1 79 (dk_at dksJ10_length_0 6 rfl rfl)
theorem dJ10_length_9 : decode cJ10_length 9 = .ok (.ishr, 1) := dk_122 (dk_at dksJ10_length_0 9 rfl rfl)
theorem dJ10_length_10 : decode cJ10_length 10 = .ok (.ireturn, 1) := dk_172 (dk_at dksJ10_length_0 10 rfl rfl)
def dkwJ10_coder_0 : List UInt8 := [178, 0, 38, 153, 0, 10, 42, 180, 0, 15, 167, 0, 4, 4, 172]
abbrev dktJ10_coder_0 : List UInt8 := dkwJ10_coder_0 ++ []
theorem dksJ10_coder_0 : cJ10_coder.data.toList.drop 0 = dktJ10_coder_0 := by decide +kernel
theorem dJ10_coder_0 : decode cJ10_coder 0 = .ok (.getstatic 38, 3) := dk_178 0 38 (dk_at dksJ10_coder_0 0 rfl rfl)
theorem dJ10_coder_3 : decode cJ10_coder 3 = .ok (.ifCond .eq 10, 3) := dk_153 0 10 (dk_at dksJ10_coder_0 3 rfl rfl)
theorem dJ10_coder_6 : decode cJ10_coder 6 = .ok (.aload_n 0, 1) := dk_42 (dk_at dksJ10_coder_0 6 rfl rfl)
theorem dJ10_coder_7 : decode cJ10_coder 7 = .ok (.getfield 15, 3) := dk_180 0 15 (dk_at dksJ10_coder_0 7 rfl rfl)
theorem dJ10_coder_10 : decode cJ10_coder 10 = .ok (.goto 4, 3) := dk_167 0 4 (dk_at dksJ10_coder_0 10 rfl rfl)
theorem dJ10_coder_13 : decode cJ10_coder 13 = .ok (.iconst 1, 1) := dk_4 (dk_at dksJ10_coder_0 13 rfl rfl)
theorem dJ10_coder_14 : decode cJ10_coder 14 = .ok (.ireturn, 1) := dk_172 (dk_at dksJ10_coder_0 14 rfl rfl)
def dkwJ10_getBytes_1 : List UInt8 := [184, 0, 212, 167, 0, 18, 42, 180, 0, 9, 3, 43, 28, 42, 180, 0, 9, 190, 184, 0, 106, 177]
abbrev dktJ10_getBytes_1 : List UInt8 := dkwJ10_getBytes_1 ++ []
def dkwJ10_getBytes_0 : List UInt8 := [42, 182, 1, 79, 29, 160, 0, 23, 42, 180, 0, 9, 3, 43, 28, 29, 120, 42, 180, 0, 9, 190]
abbrev dktJ10_getBytes_0 : List UInt8 := dkwJ10_getBytes_0 ++ dktJ10_getBytes_1
theorem dksJ10_getBytes_0 : cJ10_getBytes.data.toList.drop 0 = dktJ10_getBytes_0 := by decide +kernel
theorem dksJ10_getBytes_1 : cJ10_getBytes.data.toList.drop 22 = dktJ10_getBytes_1 := dk_seg dksJ10_getBytes_0 22 rfl rfl
theorem dJ10_getBytes_0 : decode cJ10_getBytes 0 = .ok (.aload_n 0, 1) := dk_42 (dk_at dksJ10_getBytes_0 0 rfl rfl)
theorem dJ10_getBytes_1 : decode cJ10_getBytes 1 = .ok (.invokevirtual 335, 3) := dk_182 1 79 (dk_at dksJ10_getBytes_0 1 rfl rfl)
theorem dJ10_getBytes_4 : decode cJ10_getBytes 4 = .ok (.iload_n 3, 1) := dk_29 (dk_at dksJ10_getBytes_0 4 rfl rfl)
theorem dJ10_getBytes_5 : decode cJ10_getBytes 5 = .ok (.if_icmp .ne 23, 3) := dk_160 0 23 (dk_at dksJ10_getBytes_0 5 rfl rfl)
theorem dJ10_getBytes_8 : decode cJ10_getBytes 8 = .ok (.aload_n 0, 1) := dk_42 (dk_at dksJ10_getBytes_0 8 rfl rfl)
theorem dJ10_getBytes_9 : decode cJ10_getBytes 9 = .ok (.getfield 9, 3) := dk_180 0 9 (dk_at dksJ10_getBytes_0 9 rfl rfl)
theorem dJ10_getBytes_12 : decode cJ10_getBytes 12 = .ok (.iconst 0, 1) := dk_3 (dk_at dksJ10_getBytes_0 12 rfl rfl)
theorem dJ10_getBytes_13 : decode cJ10_getBytes 13 = .ok (.aload_n 1, 1) := dk_43 (dk_at dksJ10_getBytes_0 13 rfl rfl)
theorem dJ10_getBytes_14 : decode cJ10_getBytes 14 = .ok (.iload_n 2, 1) := dk_28 (dk_at dksJ10_getBytes_0 14 rfl rfl)
theorem dJ10_getBytes_15 : decode cJ10_getBytes 15 = .ok (.iload_n 3, 1) := dk_29 (dk_at dksJ10_getBytes_0 15 rfl rfl)
theorem dJ10_getBytes_16 : decode cJ10_getBytes 16 = .ok (.ishl, 1) := dk_120 (dk_at dksJ10_getBytes_0 16 rfl rfl)
theorem dJ10_getBytes_17 : decode cJ10_getBytes 17 = .ok (.aload_n 0, 1) := dk_42 (dk_at dksJ10_getBytes_0 17 rfl rfl)
theorem dJ10_getBytes_18 : decode cJ10_getBytes 18 = .ok (.getfield 9, 3) := dk_180 0 9 (dk_at dksJ10_getBytes_0 18 rfl rfl)
theorem dJ10_getBytes_21 : decode cJ10_getBytes 21 = .ok (.arraylength, 1) := dk_190 (dk_at dksJ10_getBytes_0 21 rfl rfl)
theorem dJ10_getBytes_22 : decode cJ10_getBytes 22 = .ok (.invokestatic 212, 3) := dk_184 0 212 (dk_at dksJ10_getBytes_1 0 rfl rfl)
theorem dJ10_getBytes_25 : decode cJ10_getBytes 25 = .ok (.goto 18, 3) := dk_167 0 18 (dk_at dksJ10_getBytes_1 3 rfl rfl)
theorem dJ10_getBytes_43 : decode cJ10_getBytes 43 = .ok (.return_, 1) := dk_177 (dk_at dksJ10_getBytes_1 21 rfl rfl)
def dkwJ10_init_0 : List UInt8 := [42, 43, 1, 183, 1, 233, 177]
abbrev dktJ10_init_0 : List UInt8 := dkwJ10_init_0 ++ []
theorem dksJ10_init_0 : cJ10_init.data.toList.drop 0 = dktJ10_init_0 := by decide +kernel
theorem dJ10_init_0 : decode cJ10_init 0 = .ok (.aload_n 0, 1) := dk_42 (dk_at dksJ10_init_0 0 rfl rfl)
theorem dJ10_init_1 : decode cJ10_init 1 = .ok (.aload_n 1, 1) := dk_43 (dk_at dksJ10_init_0 1 rfl rfl)
theorem dJ10_init_2 : decode cJ10_init 2 = .ok (.aconst_null, 1) := dk_1 (dk_at dksJ10_init_0 2 rfl rfl)
theorem dJ10_init_3 : decode cJ10_init 3 = .ok (.invokespecial 489, 3) := dk_183 1 233 (dk_at dksJ10_init_0 3 rfl rfl)
theorem dJ10_init_6 : decode cJ10_init 6 = .ok (.return_, 1) := dk_177 (dk_at dksJ10_init_0 6 rfl rfl)
def dkwJ10_init_2_4 : List UInt8 := [181, 0, 9, 177]
abbrev dktJ10_init_2_4 : List UInt8 := dkwJ10_init_2_4 ++ []
def dkwJ10_init_2_3 : List UInt8 := [184, 0, 47, 181, 0, 15, 177, 42, 4, 181, 0, 15, 42, 45, 3, 21, 4, 4, 120, 184, 0, 54]
abbrev dktJ10_init_2_3 : List UInt8 := dkwJ10_init_2_3 ++ dktJ10_init_2_4
def dkwJ10_init_2_2 : List UInt8 := [180, 4, 24, 153, 0, 28, 42, 45, 3, 21, 4, 184, 4, 27, 181, 0, 9, 42, 42, 180, 0, 9, 21, 4]
abbrev dktJ10_init_2_2 : List UInt8 := dkwJ10_init_2_2 ++ dktJ10_init_2_3
def dkwJ10_init_2_1 : List UInt8 := [181, 0, 15, 42, 45, 3, 21, 4, 184, 0, 54, 181, 0, 9, 167, 0, 59, 178, 0, 38, 153, 0, 35, 43]
abbrev dktJ10_init_2_1 : List UInt8 := dkwJ10_init_2_1 ++ dktJ10_init_2_2
def dkwJ10_init_2_0 : List UInt8 := [42, 183, 0, 1, 43, 182, 2, 40, 78, 43, 182, 2, 37, 54, 4, 43, 182, 4, 23, 153, 0, 22, 42, 3]
abbrev dktJ10_init_2_0 : List UInt8 := dkwJ10_init_2_0 ++ dktJ10_init_2_1
theorem dksJ10_init_2_0 : cJ10_init_2.data.toList.drop 0 = dktJ10_init_2_0 := by decide +kernel
theorem dksJ10_init_2_1 : cJ10_init_2.data.toList.drop 24 = dktJ10_init_2_1 := dk_seg dksJ10_init_2_0 24 rfl rfl
theorem dksJ10_init_2_2 : cJ10_init_2.data.toList.drop 48 = dktJ10_init_2_2 := dk_seg dksJ10_init_2_1 24 rfl rfl
theorem dksJ10_init_2_3 : cJ10_init_2.data.toList.drop 72 = dktJ10_init_2_3 := dk_seg dksJ10_init_2_2 24 rfl rfl
theorem dksJ10_init_2_4 : cJ10_init_2.data.toList.drop 94 = dktJ10_init_2_4 := dk_seg dksJ10_init_2_3 22 rfl rfl
theorem dJ10_init_2_0 : decode cJ10_init_2 0 = .ok (.aload_n 0, 1) := dk_42 (dk_at dksJ10_init_2_0 0 rfl rfl)
theorem dJ10_init_2_1 : decode cJ10_init_2 1 = .ok (.invokespecial 1, 3) := dk_183 0 1 (dk_at dksJ10_init_2_0 1 rfl rfl)
theorem dJ10_init_2_4 : decode cJ10_init_2 4 = .ok (.aload_n 1, 1) := dk_43 (dk_at dksJ10_init_2_0 4 rfl rfl)
theorem dJ10_init_2_5 : decode cJ10_init_2 5 = .ok (.invokevirtual 552, 3) := dk_182 2 40 (dk_at dksJ10_init_2_0 5 rfl rfl)
theorem dJ10_init_2_8 : decode cJ10_init_2 8 = .ok (.astore_n 3, 1) := dk_78 (dk_at dksJ10_init_2_0 8 rfl rfl)
theorem dJ10_init_2_9 : decode cJ10_init_2 9 = .ok (.aload_n 1, 1) := dk_43 (dk_at dksJ10_init_2_0 9 rfl rfl)
theorem dJ10_init_2_10 : decode cJ10_init_2 10 = .ok (.invokevirtual 549, 3) := dk_182 2 37 (dk_at dksJ10_init_2_0 10 rfl rfl)
theorem dJ10_init_2_13 : decode cJ10_init_2 13 = .ok (.istore 4, 2) := dk_54 4 (dk_at dksJ10_init_2_0 13 rfl rfl)
theorem dJ10_init_2_15 : decode cJ10_init_2 15 = .ok (.aload_n 1, 1) := dk_43 (dk_at dksJ10_init_2_0 15 rfl rfl)
theorem dJ10_init_2_16 : decode cJ10_init_2 16 = .ok (.invokevirtual 1047, 3) := dk_182 4 23 (dk_at dksJ10_init_2_0 16 rfl rfl)
theorem dJ10_init_2_19 : decode cJ10_init_2 19 = .ok (.ifCond .eq 22, 3) := dk_153 0 22 (dk_at dksJ10_init_2_0 19 rfl rfl)
theorem dJ10_init_2_22 : decode cJ10_init_2 22 = .ok (.aload_n 0, 1) := dk_42 (dk_at dksJ10_init_2_0 22 rfl rfl)
theorem dJ10_init_2_23 : decode cJ10_init_2 23 = .ok (.iconst 0, 1) := dk_3 (dk_at dksJ10_init_2_0 23 rfl rfl)
theorem dJ10_init_2_24 : decode cJ10_init_2 24 = .ok (.putfield 15, 3) := dk_181 0 15 (dk_at dksJ10_init_2_1 0 rfl rfl)
theorem dJ10_init_2_27 : decode cJ10_init_2 27 = .ok (.aload_n 0, 1) := dk_42 (dk_at dksJ10_init_2_1 3 rfl rfl)
theorem dJ10_init_2_28 : decode cJ10_init_2 28 = .ok (.aload_n 3, 1) := dk_45 (dk_at dksJ10_init_2_1 4 rfl rfl)
theorem dJ10_init_2_29 : decode cJ10_init_2 29 = .ok (.iconst 0, 1) := dk_3 (dk_at dksJ10_init_2_1 5 rfl rfl)
theorem dJ10_init_2_30 : decode cJ10_init_2 30 = .ok (.iload 4, 2) := dk_21 4 (dk_at dksJ10_init_2_1 6 rfl rfl)
theorem dJ10_init_2_32 : decode cJ10_init_2 32 = .ok (.invokestatic 54, 3) := dk_184 0 54 (dk_at dksJ10_init_2_1 8 rfl rfl)
theorem dJ10_init_2_35 : decode cJ10_init_2 35 = .ok (.putfield 9, 3) := dk_181 0 9 (dk_at dksJ10_init_2_1 11 rfl rfl)
theorem dJ10_init_2_38 : decode cJ10_init_2 38 = .ok (.goto 59, 3) := dk_167 0 59 (dk_at dksJ10_init_2_1 14 rfl rfl)
theorem dJ10_init_2_41 : decode cJ10_init_2 41 = .ok (.getstatic 38, 3) := dk_178 0 38 (dk_at dksJ10_init_2_1 17 rfl rfl)
theorem dJ10_init_2_44 : decode cJ10_init_2 44 = .ok (.ifCond .eq 35, 3) := dk_153 0 35 (dk_at dksJ10_init_2_1 20 rfl rfl)
theorem dJ10_init_2_47 : decode cJ10_init_2 47 = .ok (.aload_n 1, 1) := dk_43 (dk_at dksJ10_init_2_1 23 rfl rfl)
theorem dJ10_init_2_48 : decode cJ10_init_2 48 = .ok (.getfield 1048, 3) := dk_180 4 24 (dk_at dksJ10_init_2_2 0 rfl rfl)
theorem dJ10_init_2_51 : decode cJ10_init_2 51 = .ok (.ifCond .eq 28, 3) := dk_153 0 28 (dk_at dksJ10_init_2_2 3 rfl rfl)
theorem dJ10_init_2_79 : decode cJ10_init_2 79 = .ok (.aload_n 0, 1) := dk_42 (dk_at dksJ10_init_2_3 7 rfl rfl)
theorem dJ10_init_2_80 : decode cJ10_init_2 80 = .ok (.iconst 1, 1) := dk_4 (dk_at dksJ10_init_2_3 8 rfl rfl)
theorem dJ10_init_2_81 : decode cJ10_init_2 81 = .ok (.putfield 15, 3) := dk_181 0 15 (dk_at dksJ10_init_2_3 9 rfl rfl)
theorem dJ10_init_2_84 : decode cJ10_init_2 84 = .ok (.aload_n 0, 1) := dk_42 (dk_at dksJ10_init_2_3 12 rfl rfl)
theorem dJ10_init_2_85 : decode cJ10_init_2 85 = .ok (.aload_n 3, 1) := dk_45 (dk_at dksJ10_init_2_3 13 rfl rfl)
theorem dJ10_init_2_86 : decode cJ10_init_2 86 = .ok (.iconst 0, 1) := dk_3 (dk_at dksJ10_init_2_3 14 rfl rfl)
theorem dJ10_init_2_87 : decode cJ10_init_2 87 = .ok (.iload 4, 2) := dk_21 4 (dk_at dksJ10_init_2_3 15 rfl rfl)
theorem dJ10_init_2_89 : decode cJ10_init_2 89 = .ok (.iconst 1, 1) := dk_4 (dk_at dksJ10_init_2_3 17 rfl rfl)
theorem dJ10_init_2_90 : decode cJ10_init_2 90 = .ok (.ishl, 1) := dk_120 (dk_at dksJ10_init_2_3 18 rfl rfl)
theorem dJ10_init_2_91 : decode cJ10_init_2 91 = .ok (.invokestatic 54, 3) := dk_184 0 54 (dk_at dksJ10_init_2_3 19 rfl rfl)
theorem dJ10_init_2_94 : decode cJ10_init_2 94 = .ok (.putfield 9, 3) := dk_181 0 9 (dk_at dksJ10_init_2_4 0 rfl rfl)
theorem dJ10_init_2_97 : decode cJ10_init_2 97 = .ok (.return_, 1) := dk_177 (dk_at dksJ10_init_2_4 3 rfl rfl)
def dkwJ10_checkIndex_0 : List UInt8 := [26, 27, 178, 4, 29, 184, 4, 35, 87, 177]
abbrev dktJ10_checkIndex_0 : List UInt8 := dkwJ10_checkIndex_0 ++ []
theorem dksJ10_checkIndex_0 : cJ10_checkIndex.data.toList.drop 0 = dktJ10_checkIndex_0 := by decide +kernel
theorem dJ10_checkIndex_0 : decode cJ10_checkIndex 0 = .ok (.iload_n 0, 1) := dk_26 (dk_at dksJ10_checkIndex_0 0 rfl rfl)
theorem dJ10_checkIndex_1 : decode cJ10_checkIndex 1 = .ok (.iload_n 1, 1) := dk_27 (dk_at dksJ10_checkIndex_0 1 rfl rfl)
theorem dJ10_checkIndex_2 : decode cJ10_checkIndex 2 = .ok (.getstatic 1053, 3) := dk_178 4 29 (dk_at dksJ10_checkIndex_0 2 rfl rfl)
theorem dJ10_checkIndex_5 : decode cJ10_checkIndex 5 = .ok (.invokestatic 1059, 3) := dk_184 4 35 (dk_at dksJ10_checkIndex_0 5 rfl rfl)
theorem dJ10_checkIndex_8 : decode cJ10_checkIndex 8 = .ok (.pop, 1) := dk_87 (dk_at dksJ10_checkIndex_0 8 rfl rfl)
theorem dJ10_checkIndex_9 : decode cJ10_checkIndex 9 = .ok (.return_, 1) := dk_177 (dk_at dksJ10_checkIndex_0 9 rfl rfl)
def dkwJ10_charAt_1 : List UInt8 := [172]
abbrev dktJ10_charAt_1 : List UInt8 := dkwJ10_charAt_1 ++ []
def dkwJ10_charAt_0 : List UInt8 := [42, 182, 1, 236, 153, 0, 12, 42, 180, 0, 9, 27, 184, 1, 239, 172, 42, 180, 0, 9, 27, 184, 1, 242]
abbrev dktJ10_charAt_0 : List UInt8 := dkwJ10_charAt_0 ++ dktJ10_charAt_1
theorem dksJ10_charAt_0 : cJ10_charAt.data.toList.drop 0 = dktJ10_charAt_0 := by decide +kernel
theorem dksJ10_charAt_1 : cJ10_charAt.data.toList.drop 24 = dktJ10_charAt_1 := dk_seg dksJ10_charAt_0 24 rfl rfl
theorem dJ10_charAt_0 : decode cJ10_charAt 0 = .ok (.aload_n 0, 1) := dk_42 (dk_at dksJ10_charAt_0 0 rfl rfl)
theorem dJ10_charAt_1 : decode cJ10_charAt 1 = .ok (.invokevirtual 492, 3) := dk_182 1 236 (dk_at dksJ10_charAt_0 1 rfl rfl)
theorem dJ10_charAt_4 : decode cJ10_charAt 4 = .ok (.ifCond .eq 12, 3) := dk_153 0 12 (dk_at dksJ10_charAt_0 4 rfl rfl)
theorem dJ10_charAt_7 : decode cJ10_charAt 7 = .ok (.aload_n 0, 1) := dk_42 (dk_at dksJ10_charAt_0 7 rfl rfl)
theorem dJ10_charAt_8 : decode cJ10_charAt 8 = .ok (.getfield 9, 3) := dk_180 0 9 (dk_at dksJ10_charAt_0 8 rfl rfl)
theorem dJ10_charAt_11 : decode cJ10_charAt 11 = .ok (.iload_n 1, 1) := dk_27 (dk_at dksJ10_charAt_0 11 rfl rfl)
theorem dJ10_charAt_12 : decode cJ10_charAt 12 = .ok (.invokestatic 495, 3) := dk_184 1 239 (dk_at dksJ10_charAt_0 12 rfl rfl)
theorem dJ10_charAt_15 : decode cJ10_charAt 15 = .ok (.ireturn, 1) := dk_172 (dk_at dksJ10_charAt_0 15 rfl rfl)
def dkwJ10_isLatin1_0 : List UInt8 := [178, 0, 38, 153, 0, 14, 42, 180, 0, 15, 154, 0, 7, 4, 167, 0, 4, 3, 172]
abbrev dktJ10_isLatin1_0 : List UInt8 := dkwJ10_isLatin1_0 ++ []
theorem dksJ10_isLatin1_0 : cJ10_isLatin1.data.toList.drop 0 = dktJ10_isLatin1_0 := by decide +kernel
theorem dJ10_isLatin1_0 : decode cJ10_isLatin1 0 = .ok (.getstatic 38, 3) := dk_178 0 38 (dk_at dksJ10_isLatin1_0 0 rfl rfl)
theorem dJ10_isLatin1_3 : decode cJ10_isLatin1 3 = .ok (.ifCond .eq 14, 3) := dk_153 0 14 (dk_at dksJ10_isLatin1_0 3 rfl rfl)
theorem dJ10_isLatin1_6 : decode cJ10_isLatin1 6 = .ok (.aload_n 0, 1) := dk_42 (dk_at dksJ10_isLatin1_0 6 rfl rfl)
theorem dJ10_isLatin1_7 : decode cJ10_isLatin1 7 = .ok (.getfield 15, 3) := dk_180 0 15 (dk_at dksJ10_isLatin1_0 7 rfl rfl)
theorem dJ10_isLatin1_10 : decode cJ10_isLatin1 10 = .ok (.ifCond .ne 7, 3) := dk_154 0 7 (dk_at dksJ10_isLatin1_0 10 rfl rfl)
theorem dJ10_isLatin1_13 : decode cJ10_isLatin1 13 = .ok (.iconst 1, 1) := dk_4 (dk_at dksJ10_isLatin1_0 13 rfl rfl)
theorem dJ10_isLatin1_14 : decode cJ10_isLatin1 14 = .ok (.goto 4, 3) := dk_167 0 4 (dk_at dksJ10_isLatin1_0 14 rfl rfl)
theorem dJ10_isLatin1_17 : decode cJ10_isLatin1 17 = .ok (.iconst 0, 1) := dk_3 (dk_at dksJ10_isLatin1_0 17 rfl rfl)
theorem dJ10_isLatin1_18 : decode cJ10_isLatin1 18 = .ok (.ireturn, 1) := dk_172 (dk_at dksJ10_isLatin1_0 18 rfl rfl)
def dkwJ12_init_1 : List UInt8 := [181, 0, 22, 177]
abbrev dktJ12_init_1 : List UInt8 := dkwJ12_init_1 ++ []
def dkwJ12_init_0 : List UInt8 := [42, 43, 181, 0, 1, 42, 183, 0, 7, 42, 2, 181, 0, 13, 42, 42, 180, 0, 1, 180, 0, 17]
abbrev dktJ12_init_0 : List UInt8 := dkwJ12_init_0 ++ dktJ12_init_1
theorem dksJ12_init_0 : cJ12_init.data.toList.drop 0 = dktJ12_init_0 := by decide +kernel
theorem dksJ12_init_1 : cJ12_init.data.toList.drop 22 = dktJ12_init_1 := dk_seg dksJ12_init_0 22 rfl rfl
theorem dJ12_init_0 : decode cJ12_init 0 = .ok (.aload_n 0, 1) := dk_42 (dk_at dksJ12_init_0 0 rfl rfl)
theorem dJ12_init_1 : decode cJ12_init 1 = .ok (.aload_n 1, 1) := dk_43 (dk_at dksJ12_init_0 1 rfl rfl)
theorem dJ12_init_2 : decode cJ12_init 2 = .ok (.putfield 1, 3) := dk_181 0 1 (dk_at dksJ12_init_0 2 rfl rfl)
theorem dJ12_init_5 : decode cJ12_init 5 = .ok (.aload_n 0, 1) := dk_42 (dk_at dksJ12_init_0 5 rfl rfl)
theorem dJ12_init_6 : decode cJ12_init 6 = .ok (.invokespecial 7, 3) := dk_183 0 7 (dk_at dksJ12_init_0 6 rfl rfl)
theorem dJ12_init_9 : decode cJ12_init 9 = .ok (.aload_n 0, 1) := dk_42 (dk_at dksJ12_init_0 9 rfl rfl)
theorem dJ12_init_10 : decode cJ12_init 10 = .ok (.iconst (-1), 1) := dk_2 (dk_at dksJ12_init_0 10 rfl rfl)
theorem dJ12_init_11 : decode cJ12_init 11 = .ok (.putfield 13, 3) := dk_181 0 13 (dk_at dksJ12_init_0 11 rfl rfl)
theorem dJ12_init_14 : decode cJ12_init 14 = .ok (.aload_n 0, 1) := dk_42 (dk_at dksJ12_init_0 14 rfl rfl)
theorem dJ12_init_15 : decode cJ12_init 15 = .ok (.aload_n 0, 1) := dk_42 (dk_at dksJ12_init_0 15 rfl rfl)
theorem dJ12_init_16 : decode cJ12_init 16 = .ok (.getfield 1, 3) := dk_180 0 1 (dk_at dksJ12_init_0 16 rfl rfl)
theorem dJ12_init_19 : decode cJ12_init 19 = .ok (.getfield 17, 3) := dk_180 0 17 (dk_at dksJ12_init_0 19 rfl rfl)
theorem dJ12_init_22 : decode cJ12_init 22 = .ok (.putfield 22, 3) := dk_181 0 22 (dk_at dksJ12_init_1 0 rfl rfl)
theorem dJ12_init_25 : decode cJ12_init 25 = .ok (.return_, 1) := dk_177 (dk_at dksJ12_init_1 3 rfl rfl)
def dkwJ12_hasNext_0 : List UInt8 := [42, 180, 0, 25, 42, 180, 0, 1, 180, 0, 28, 159, 0, 7, 4, 167, 0, 4, 3, 172]
abbrev dktJ12_hasNext_0 : List UInt8 := dkwJ12_hasNext_0 ++ []
theorem dksJ12_hasNext_0 : cJ12_hasNext.data.toList.drop 0 = dktJ12_hasNext_0 := by decide +kernel
theorem dJ12_hasNext_0 : decode cJ12_hasNext 0 = .ok (.aload_n 0, 1) := dk_42 (dk_at dksJ12_hasNext_0 0 rfl rfl)
theorem dJ12_hasNext_1 : decode cJ12_hasNext 1 = .ok (.getfield 25, 3) := dk_180 0 25 (dk_at dksJ12_hasNext_0 1 rfl rfl)
theorem dJ12_hasNext_4 : decode cJ12_hasNext 4 = .ok (.aload_n 0, 1) := dk_42 (dk_at dksJ12_hasNext_0 4 rfl rfl)
theorem dJ12_hasNext_5 : decode cJ12_hasNext 5 = .ok (.getfield 1, 3) := dk_180 0 1 (dk_at dksJ12_hasNext_0 5 rfl rfl)
theorem dJ12_hasNext_8 : decode cJ12_hasNext 8 = .ok (.getfield 28, 3) := dk_180 0 28 (dk_at dksJ12_hasNext_0 8 rfl rfl)
theorem dJ12_hasNext_11 : decode cJ12_hasNext 11 = .ok (.if_icmp .eq 7, 3) := dk_159 0 7 (dk_at dksJ12_hasNext_0 11 rfl rfl)
theorem dJ12_hasNext_14 : decode cJ12_hasNext 14 = .ok (.iconst 1, 1) := dk_4 (dk_at dksJ12_hasNext_0 14 rfl rfl)
theorem dJ12_hasNext_15 : decode cJ12_hasNext 15 = .ok (.goto 4, 3) := dk_167 0 4 (dk_at dksJ12_hasNext_0 15 rfl rfl)
theorem dJ12_hasNext_18 : decode cJ12_hasNext 18 = .ok (.iconst 0, 1) := dk_3 (dk_at dksJ12_hasNext_0 18 rfl rfl)
theorem dJ12_hasNext_19 : decode cJ12_hasNext 19 = .ok (.ireturn, 1) := dk_172 (dk_at dksJ12_hasNext_0 19 rfl rfl)
def dkwJ12_next_2 : List UInt8 := [183, 0, 43, 191, 42, 27, 4, 96, 181, 0, 25, 44, 42, 27, 90, 181, 0, 13, 50, 176]
abbrev dktJ12_next_2 : List UInt8 := dkwJ12_next_2 ++ []
def dkwJ12_next_1 : List UInt8 := [183, 0, 36, 191, 42, 180, 0, 1, 180, 0, 37, 77, 27, 44, 190, 161, 0, 11, 187, 0, 41, 89]
abbrev dktJ12_next_1 : List UInt8 := dkwJ12_next_1 ++ dktJ12_next_2
def dkwJ12_next_0 : List UInt8 := [42, 182, 0, 31, 42, 180, 0, 25, 60, 27, 42, 180, 0, 1, 180, 0, 28, 161, 0, 11, 187, 0, 34, 89]
abbrev dktJ12_next_0 : List UInt8 := dkwJ12_next_0 ++ dktJ12_next_1
theorem dksJ12_next_0 : cJ12_next.data.toList.drop 0 = dktJ12_next_0 := by decide +kernel
theorem dksJ12_next_1 : cJ12_next.data.toList.drop 24 = dktJ12_next_1 := dk_seg dksJ12_next_0 24 rfl rfl
theorem dksJ12_next_2 : cJ12_next.data.toList.drop 46 = dktJ12_next_2 := dk_seg dksJ12_next_1 22 rfl rfl
theorem dJ12_next_0 : decode cJ12_next 0 = .ok (.aload_n 0, 1) := dk_42 (dk_at dksJ12_next_0 0 rfl rfl)
theorem dJ12_next_1 : decode cJ12_next 1 = .ok (.invokevirtual 31, 3) := dk_182 0 31 (dk_at dksJ12_next_0 1 rfl rfl)
theorem dJ12_next_4 : decode cJ12_next 4 = .ok (.aload_n 0, 1) := dk_42 (dk_at dksJ12_next_0 4 rfl rfl)
theorem dJ12_next_5 : decode cJ12_next 5 = .ok (.getfield 25, 3) := dk_180 0 25 (dk_at dksJ12_next_0 5 rfl rfl)
theorem dJ12_next_8 : decode cJ12_next 8 = .ok (.istore_n 1, 1) := dk_60 (dk_at dksJ12_next_0 8 rfl rfl)
theorem dJ12_next_9 : decode cJ12_next 9 = .ok (.iload_n 1, 1) := dk_27 (dk_at dksJ12_next_0 9 rfl rfl)
theorem dJ12_next_10 : decode cJ12_next 10 = .ok (.aload_n 0, 1) := dk_42 (dk_at dksJ12_next_0 10 rfl rfl)
theorem dJ12_next_11 : decode cJ12_next 11 = .ok (.getfield 1, 3) := dk_180 0 1 (dk_at dksJ12_next_0 11 rfl rfl)
theorem dJ12_next_14 : decode cJ12_next 14 = .ok (.getfield 28, 3) := dk_180 0 28 (dk_at dksJ12_next_0 14 rfl rfl)
theorem dJ12_next_17 : decode cJ12_next 17 = .ok (.if_icmp .lt 11, 3) := dk_161 0 11 (dk_at dksJ12_next_0 17 rfl rfl)
theorem dJ12_next_28 : decode cJ12_next 28 = .ok (.aload_n 0, 1) := dk_42 (dk_at dksJ12_next_1 4 rfl rfl)
theorem dJ12_next_29 : decode cJ12_next 29 = .ok (.getfield 1, 3) := dk_180 0 1 (dk_at dksJ12_next_1 5 rfl rfl)
theorem dJ12_next_32 : decode cJ12_next 32 = .ok (.getfield 37, 3) := dk_180 0 37 (dk_at dksJ12_next_1 8 rfl rfl)
theorem dJ12_next_35 : decode cJ12_next 35 = .ok (.astore_n 2, 1) := dk_77 (dk_at dksJ12_next_1 11 rfl rfl)
theorem dJ12_next_36 : decode cJ12_next 36 = .ok (.iload_n 1, 1) := dk_27 (dk_at dksJ12_next_1 12 rfl rfl)
theorem dJ12_next_37 : decode cJ12_next 37 = .ok (.aload_n 2, 1) := dk_44 (dk_at dksJ12_next_1 13 rfl rfl)
theorem dJ12_next_38 : decode cJ12_next 38 = .ok (.arraylength, 1) := dk_190 (dk_at dksJ12_next_1 14 rfl rfl)
theorem dJ12_next_39 : decode cJ12_next 39 = .ok (.if_icmp .lt 11, 3) := dk_161 0 11 (dk_at dksJ12_next_1 15 rfl rfl)
theorem dJ12_next_50 : decode cJ12_next 50 = .ok (.aload_n 0, 1) := dk_42 (dk_at dksJ12_next_2 4 rfl rfl)
theorem dJ12_next_51 : decode cJ12_next 51 = .ok (.iload_n 1, 1) := dk_27 (dk_at dksJ12_next_2 5 rfl rfl)
theorem dJ12_next_52 : decode cJ12_next 52 = .ok (.iconst 1, 1) := dk_4 (dk_at dksJ12_next_2 6 rfl rfl)
theorem dJ12_next_53 : decode cJ12_next 53 = .ok (.iadd, 1) := dk_96 (dk_at dksJ12_next_2 7 rfl rfl)
theorem dJ12_next_54 : decode cJ12_next 54 = .ok (.putfield 25, 3) := dk_181 0 25 (dk_at dksJ12_next_2 8 rfl rfl)
theorem dJ12_next_57 : decode cJ12_next 57 = .ok (.aload_n 2, 1) := dk_44 (dk_at dksJ12_next_2 11 rfl rfl)
theorem dJ12_next_58 : decode cJ12_next 58 = .ok (.aload_n 0, 1) := dk_42 (dk_at dksJ12_next_2 12 rfl rfl)
theorem dJ12_next_59 : decode cJ12_next 59 = .ok (.iload_n 1, 1) := dk_27 (dk_at dksJ12_next_2 13 rfl rfl)
theorem dJ12_next_60 : decode cJ12_next 60 = .ok (.dup_x1, 1) := dk_90 (dk_at dksJ12_next_2 14 rfl rfl)
theorem dJ12_next_61 : decode cJ12_next 61 = .ok (.putfield 13, 3) := dk_181 0 13 (dk_at dksJ12_next_2 15 rfl rfl)
theorem dJ12_next_64 : decode cJ12_next 64 = .ok (.aaload, 1) := dk_50 (dk_at dksJ12_next_2 18 rfl rfl)
theorem dJ12_next_65 : decode cJ12_next 65 = .ok (.areturn, 1) := dk_176 (dk_at dksJ12_next_2 19 rfl rfl)
def dkwJ12_checkForComodification_0 : List UInt8 := [42, 180, 0, 1, 180, 0, 17, 42, 180, 0, 22, 159, 0, 11, 187, 0, 41, 89, 183, 0, 43, 191, 177]
abbrev dktJ12_checkForComodification_0 : List UInt8 := dkwJ12_checkForComodification_0 ++ []
theorem dksJ12_checkForComodification_0 : cJ12_checkForComodification.data.toList.drop 0 = dktJ12_checkForComodification_0 := by decide +kernel
theorem dJ12_checkForComodification_0 : decode cJ12_checkForComodification 0 = .ok (.aload_n 0, 1) := dk_42 (dk_at dksJ12_checkForComodification_0 0 rfl rfl)
theorem dJ12_checkForComodification_1 : decode cJ12_checkForComodification 1 = .ok (.getfield 1, 3) := dk_180 0 1 (dk_at dksJ12_checkForComodification_0 1 rfl rfl)
theorem dJ12_checkForComodification_4 : decode cJ12_checkForComodification 4 = .ok (.getfield 17, 3) := dk_180 0 17 (dk_at dksJ12_checkForComodification_0 4 rfl rfl)
theorem dJ12_checkForComodification_7 : decode cJ12_checkForComodification 7 = .ok (.aload_n 0, 1) := dk_42 (dk_at dksJ12_checkForComodification_0 7 rfl rfl)
theorem dJ12_checkForComodification_8 : decode cJ12_checkForComodification 8 = .ok (.getfield 22, 3) := dk_180 0 22 (dk_at dksJ12_checkForComodification_0 8 rfl rfl)
theorem dJ12_checkForComodification_11 : decode cJ12_checkForComodification 11 = .ok (.if_icmp .eq 11, 3) := dk_159 0 11 (dk_at dksJ12_checkForComodification_0 11 rfl rfl)
theorem dJ12_checkForComodification_22 : decode cJ12_checkForComodification 22 = .ok (.return_, 1) := dk_177 (dk_at dksJ12_checkForComodification_0 22 rfl rfl)
def dkwJ13_checkIndex_0 : List UInt8 := [26, 27, 1, 184, 0, 105, 172]
abbrev dktJ13_checkIndex_0 : List UInt8 := dkwJ13_checkIndex_0 ++ []
theorem dksJ13_checkIndex_0 : cJ13_checkIndex.data.toList.drop 0 = dktJ13_checkIndex_0 := by decide +kernel
theorem dJ13_checkIndex_0 : decode cJ13_checkIndex 0 = .ok (.iload_n 0, 1) := dk_26 (dk_at dksJ13_checkIndex_0 0 rfl rfl)
theorem dJ13_checkIndex_1 : decode cJ13_checkIndex 1 = .ok (.iload_n 1, 1) := dk_27 (dk_at dksJ13_checkIndex_0 1 rfl rfl)
theorem dJ13_checkIndex_2 : decode cJ13_checkIndex 2 = .ok (.aconst_null, 1) := dk_1 (dk_at dksJ13_checkIndex_0 2 rfl rfl)
theorem dJ13_checkIndex_3 : decode cJ13_checkIndex 3 = .ok (.invokestatic 105, 3) := dk_184 0 105 (dk_at dksJ13_checkIndex_0 3 rfl rfl)
theorem dJ13_checkIndex_6 : decode cJ13_checkIndex 6 = .ok (.ireturn, 1) := dk_172 (dk_at dksJ13_checkIndex_0 6 rfl rfl)
def dkwJ13_requireNonNull_0 : List UInt8 := [42, 199, 0, 11, 187, 0, 84, 89, 183, 0, 86, 191, 42, 176]
abbrev dktJ13_requireNonNull_0 : List UInt8 := dkwJ13_requireNonNull_0 ++ []
theorem dksJ13_requireNonNull_0 : cJ13_requireNonNull.data.toList.drop 0 = dktJ13_requireNonNull_0 := by decide +kernel
theorem dJ13_requireNonNull_0 : decode cJ13_requireNonNull 0 = .ok (.aload_n 0, 1) := dk_42 (dk_at dksJ13_requireNonNull_0 0 rfl rfl)
theorem dJ13_requireNonNull_1 : decode cJ13_requireNonNull 1 = .ok (.ifnonnull 11, 3) := dk_199 0 11 (dk_at dksJ13_requireNonNull_0 1 rfl rfl)
theorem dJ13_requireNonNull_12 : decode cJ13_requireNonNull 12 = .ok (.aload_n 0, 1) := dk_42 (dk_at dksJ13_requireNonNull_0 12 rfl rfl)
theorem dJ13_requireNonNull_13 : decode cJ13_requireNonNull 13 = .ok (.areturn, 1) := dk_176 (dk_at dksJ13_requireNonNull_0 13 rfl rfl)
def dkwJ14_checkIndex_0 : List UInt8 := [26, 155, 0, 8, 26, 27, 161, 0, 10, 44, 26, 27, 184, 0, 95, 191, 26, 172]
abbrev dktJ14_checkIndex_0 : List UInt8 := dkwJ14_checkIndex_0 ++ []
theorem dksJ14_checkIndex_0 : cJ14_checkIndex.data.toList.drop 0 = dktJ14_checkIndex_0 := by decide +kernel
theorem dJ14_checkIndex_0 : decode cJ14_checkIndex 0 = .ok (.iload_n 0, 1) := dk_26 (dk_at dksJ14_checkIndex_0 0 rfl rfl)
theorem dJ14_checkIndex_1 : decode cJ14_checkIndex 1 = .ok (.ifCond .lt 8, 3) := dk_155 0 8 (dk_at dksJ14_checkIndex_0 1 rfl rfl)
theorem dJ14_checkIndex_4 : decode cJ14_checkIndex 4 = .ok (.iload_n 0, 1) := dk_26 (dk_at dksJ14_checkIndex_0 4 rfl rfl)
theorem dJ14_checkIndex_5 : decode cJ14_checkIndex 5 = .ok (.iload_n 1, 1) := dk_27 (dk_at dksJ14_checkIndex_0 5 rfl rfl)
theorem dJ14_checkIndex_6 : decode cJ14_checkIndex 6 = .ok (.if_icmp .lt 10, 3) := dk_161 0 10 (dk_at dksJ14_checkIndex_0 6 rfl rfl)
theorem dJ14_checkIndex_16 : decode cJ14_checkIndex 16 = .ok (.iload_n 0, 1) := dk_26 (dk_at dksJ14_checkIndex_0 16 rfl rfl)
theorem dJ14_checkIndex_17 : decode cJ14_checkIndex 17 = .ok (.ireturn, 1) := dk_172 (dk_at dksJ14_checkIndex_0 17 rfl rfl)
def dkwJ15_init_3_2 : List UInt8 := [44, 181, 0, 7, 29, 154, 0, 8, 42, 1, 181, 0, 24, 177]
abbrev dktJ15_init_3_2 : List UInt8 := dkwJ15_init_3_2 ++ []
def dkwJ15_init_3_1 : List UInt8 := [21, 4, 153, 0, 11, 42, 182, 0, 27, 87, 167, 0, 8, 42, 1, 181, 0, 17, 42, 43, 181, 0, 31, 42]
abbrev dktJ15_init_3_1 : List UInt8 := dkwJ15_init_3_1 ++ dktJ15_init_3_2
def dkwJ15_init_3_0 : List UInt8 := [42, 183, 0, 1, 42, 42, 181, 0, 7, 42, 178, 0, 13, 181, 0, 17, 42, 178, 0, 20, 181, 0, 24]
abbrev dktJ15_init_3_0 : List UInt8 := dkwJ15_init_3_0 ++ dktJ15_init_3_1
theorem dksJ15_init_3_0 : cJ15_init_3.data.toList.drop 0 = dktJ15_init_3_0 := by decide +kernel
theorem dksJ15_init_3_1 : cJ15_init_3.data.toList.drop 23 = dktJ15_init_3_1 := dk_seg dksJ15_init_3_0 23 rfl rfl
theorem dksJ15_init_3_2 : cJ15_init_3.data.toList.drop 47 = dktJ15_init_3_2 := dk_seg dksJ15_init_3_1 24 rfl rfl
theorem dJ15_init_3_0 : decode cJ15_init_3 0 = .ok (.aload_n 0, 1) := dk_42 (dk_at dksJ15_init_3_0 0 rfl rfl)
theorem dJ15_init_3_1 : decode cJ15_init_3 1 = .ok (.invokespecial 1, 3) := dk_183 0 1 (dk_at dksJ15_init_3_0 1 rfl rfl)
theorem dJ15_init_3_4 : decode cJ15_init_3 4 = .ok (.aload_n 0, 1) := dk_42 (dk_at dksJ15_init_3_0 4 rfl rfl)
theorem dJ15_init_3_5 : decode cJ15_init_3 5 = .ok (.aload_n 0, 1) := dk_42 (dk_at dksJ15_init_3_0 5 rfl rfl)
theorem dJ15_init_3_6 : decode cJ15_init_3 6 = .ok (.putfield 7, 3) := dk_181 0 7 (dk_at dksJ15_init_3_0 6 rfl rfl)
theorem dJ15_init_3_9 : decode cJ15_init_3 9 = .ok (.aload_n 0, 1) := dk_42 (dk_at dksJ15_init_3_0 9 rfl rfl)
theorem dJ15_init_3_10 : decode cJ15_init_3 10 = .ok (.getstatic 13, 3) := dk_178 0 13 (dk_at dksJ15_init_3_0 10 rfl rfl)
theorem dJ15_init_3_13 : decode cJ15_init_3 13 = .ok (.putfield 17, 3) := dk_181 0 17 (dk_at dksJ15_init_3_0 13 rfl rfl)
theorem dJ15_init_3_16 : decode cJ15_init_3 16 = .ok (.aload_n 0, 1) := dk_42 (dk_at dksJ15_init_3_0 16 rfl rfl)
theorem dJ15_init_3_17 : decode cJ15_init_3 17 = .ok (.getstatic 20, 3) := dk_178 0 20 (dk_at dksJ15_init_3_0 17 rfl rfl)
theorem dJ15_init_3_20 : decode cJ15_init_3 20 = .ok (.putfield 24, 3) := dk_181 0 24 (dk_at dksJ15_init_3_0 20 rfl rfl)
theorem dJ15_init_3_23 : decode cJ15_init_3 23 = .ok (.iload 4, 2) := dk_21 4 (dk_at dksJ15_init_3_1 0 rfl rfl)
theorem dJ15_init_3_25 : decode cJ15_init_3 25 = .ok (.ifCond .eq 11, 3) := dk_153 0 11 (dk_at dksJ15_init_3_1 2 rfl rfl)
theorem dJ15_init_3_36 : decode cJ15_init_3 36 = .ok (.aload_n 0, 1) := dk_42 (dk_at dksJ15_init_3_1 13 rfl rfl)
theorem dJ15_init_3_37 : decode cJ15_init_3 37 = .ok (.aconst_null, 1) := dk_1 (dk_at dksJ15_init_3_1 14 rfl rfl)
theorem dJ15_init_3_38 : decode cJ15_init_3 38 = .ok (.putfield 17, 3) := dk_181 0 17 (dk_at dksJ15_init_3_1 15 rfl rfl)
theorem dJ15_init_3_41 : decode cJ15_init_3 41 = .ok (.aload_n 0, 1) := dk_42 (dk_at dksJ15_init_3_1 18 rfl rfl)
theorem dJ15_init_3_42 : decode cJ15_init_3 42 = .ok (.aload_n 1, 1) := dk_43 (dk_at dksJ15_init_3_1 19 rfl rfl)
theorem dJ15_init_3_43 : decode cJ15_init_3 43 = .ok (.putfield 31, 3) := dk_181 0 31 (dk_at dksJ15_init_3_1 20 rfl rfl)
theorem dJ15_init_3_46 : decode cJ15_init_3 46 = .ok (.aload_n 0, 1) := dk_42 (dk_at dksJ15_init_3_1 23 rfl rfl)
theorem dJ15_init_3_47 : decode cJ15_init_3 47 = .ok (.aload_n 2, 1) := dk_44 (dk_at dksJ15_init_3_2 0 rfl rfl)
theorem dJ15_init_3_48 : decode cJ15_init_3 48 = .ok (.putfield 7, 3) := dk_181 0 7 (dk_at dksJ15_init_3_2 1 rfl rfl)
theorem dJ15_init_3_51 : decode cJ15_init_3 51 = .ok (.iload_n 3, 1) := dk_29 (dk_at dksJ15_init_3_2 4 rfl rfl)
theorem dJ15_init_3_52 : decode cJ15_init_3 52 = .ok (.ifCond .ne 8, 3) := dk_154 0 8 (dk_at dksJ15_init_3_2 5 rfl rfl)
theorem dJ15_init_3_55 : decode cJ15_init_3 55 = .ok (.aload_n 0, 1) := dk_42 (dk_at dksJ15_init_3_2 8 rfl rfl)
theorem dJ15_init_3_56 : decode cJ15_init_3 56 = .ok (.aconst_null, 1) := dk_1 (dk_at dksJ15_init_3_2 9 rfl rfl)
theorem dJ15_init_3_57 : decode cJ15_init_3 57 = .ok (.putfield 24, 3) := dk_181 0 24 (dk_at dksJ15_init_3_2 10 rfl rfl)
theorem dJ15_init_3_60 : decode cJ15_init_3 60 = .ok (.return_, 1) := dk_177 (dk_at dksJ15_init_3_2 13 rfl rfl)
def dkwJ16_init_2_0 : List UInt8 := [42, 43, 44, 29, 21, 4, 183, 0, 16, 177]
abbrev dktJ16_init_2_0 : List UInt8 := dkwJ16_init_2_0 ++ []
theorem dksJ16_init_2_0 : cJ16_init_2.data.toList.drop 0 = dktJ16_init_2_0 := by decide +kernel
theorem dJ16_init_2_0 : decode cJ16_init_2 0 = .ok (.aload_n 0, 1) := dk_42 (dk_at dksJ16_init_2_0 0 rfl rfl)
theorem dJ16_init_2_1 : decode cJ16_init_2 1 = .ok (.aload_n 1, 1) := dk_43 (dk_at dksJ16_init_2_0 1 rfl rfl)
theorem dJ16_init_2_2 : decode cJ16_init_2 2 = .ok (.aload_n 2, 1) := dk_44 (dk_at dksJ16_init_2_0 2 rfl rfl)
theorem dJ16_init_2_3 : decode cJ16_init_2 3 = .ok (.iload_n 3, 1) := dk_29 (dk_at dksJ16_init_2_0 3 rfl rfl)
theorem dJ16_init_2_4 : decode cJ16_init_2 4 = .ok (.iload 4, 2) := dk_21 4 (dk_at dksJ16_init_2_0 4 rfl rfl)
theorem dJ16_init_2_6 : decode cJ16_init_2 6 = .ok (.invokespecial 16, 3) := dk_183 0 16 (dk_at dksJ16_init_2_0 6 rfl rfl)
theorem dJ16_init_2_9 : decode cJ16_init_2 9 = .ok (.return_, 1) := dk_177 (dk_at dksJ16_init_2_0 9 rfl rfl)
def dkwJ19_newLength_1 : List UInt8 := [184, 0, 201, 172]
abbrev dktJ19_newLength_1 : List UInt8 := dkwJ19_newLength_1 ++ []
def dkwJ19_newLength_0 : List UInt8 := [26, 27, 28, 184, 0, 194, 96, 62, 3, 29, 162, 0, 11, 29, 18, 200, 163, 0, 5, 29, 172, 26, 27]
abbrev dktJ19_newLength_0 : List UInt8 := dkwJ19_newLength_0 ++ dktJ19_newLength_1
theorem dksJ19_newLength_0 : cJ19_newLength.data.toList.drop 0 = dktJ19_newLength_0 := by decide +kernel
theorem dksJ19_newLength_1 : cJ19_newLength.data.toList.drop 23 = dktJ19_newLength_1 := dk_seg dksJ19_newLength_0 23 rfl rfl
theorem dJ19_newLength_0 : decode cJ19_newLength 0 = .ok (.iload_n 0, 1) := dk_26 (dk_at dksJ19_newLength_0 0 rfl rfl)
theorem dJ19_newLength_1 : decode cJ19_newLength 1 = .ok (.iload_n 1, 1) := dk_27 (dk_at dksJ19_newLength_0 1 rfl rfl)
theorem dJ19_newLength_2 : decode cJ19_newLength 2 = .ok (.iload_n 2, 1) := dk_28 (dk_at dksJ19_newLength_0 2 rfl rfl)
theorem dJ19_newLength_3 : decode cJ19_newLength 3 = .ok (.invokestatic 194, 3) := dk_184 0 194 (dk_at dksJ19_newLength_0 3 rfl rfl)
theorem dJ19_newLength_6 : decode cJ19_newLength 6 = .ok (.iadd, 1) := dk_96 (dk_at dksJ19_newLength_0 6 rfl rfl)
theorem dJ19_newLength_7 : decode cJ19_newLength 7 = .ok (.istore_n 3, 1) := dk_62 (dk_at dksJ19_newLength_0 7 rfl rfl)
theorem dJ19_newLength_8 : decode cJ19_newLength 8 = .ok (.iconst 0, 1) := dk_3 (dk_at dksJ19_newLength_0 8 rfl rfl)
theorem dJ19_newLength_9 : decode cJ19_newLength 9 = .ok (.iload_n 3, 1) := dk_29 (dk_at dksJ19_newLength_0 9 rfl rfl)
theorem dJ19_newLength_10 : decode cJ19_newLength 10 = .ok (.if_icmp .ge 11, 3) := dk_162 0 11 (dk_at dksJ19_newLength_0 10 rfl rfl)
theorem dJ19_newLength_13 : decode cJ19_newLength 13 = .ok (.iload_n 3, 1) := dk_29 (dk_at dksJ19_newLength_0 13 rfl rfl)
theorem dJ19_newLength_14 : decode cJ19_newLength 14 = .ok (.ldc 200, 2) := dk_18 200 (dk_at dksJ19_newLength_0 14 rfl rfl)
theorem dJ19_newLength_16 : decode cJ19_newLength 16 = .ok (.if_icmp .gt 5, 3) := dk_163 0 5 (dk_at dksJ19_newLength_0 16 rfl rfl)
theorem dJ19_newLength_19 : decode cJ19_newLength 19 = .ok (.iload_n 3, 1) := dk_29 (dk_at dksJ19_newLength_0 19 rfl rfl)
theorem dJ19_newLength_20 : decode cJ19_newLength 20 = .ok (.ireturn, 1) := dk_172 (dk_at dksJ19_newLength_0 20 rfl rfl)
def dkwJ20_max_0 : List UInt8 := [26, 27, 161, 0, 7, 26, 167, 0, 4, 27, 172]
abbrev dktJ20_max_0 : List UInt8 := dkwJ20_max_0 ++ []
theorem dksJ20_max_0 : cJ20_max.data.toList.drop 0 = dktJ20_max_0 := by decide +kernel
theorem dJ20_max_0 : decode cJ20_max 0 = .ok (.iload_n 0, 1) := dk_26 (dk_at dksJ20_max_0 0 rfl rfl)
theorem dJ20_max_1 : decode cJ20_max 1 = .ok (.iload_n 1, 1) := dk_27 (dk_at dksJ20_max_0 1 rfl rfl)
theorem dJ20_max_2 : decode cJ20_max 2 = .ok (.if_icmp .lt 7, 3) := dk_161 0 7 (dk_at dksJ20_max_0 2 rfl rfl)
theorem dJ20_max_5 : decode cJ20_max 5 = .ok (.iload_n 0, 1) := dk_26 (dk_at dksJ20_max_0 5 rfl rfl)
theorem dJ20_max_6 : decode cJ20_max 6 = .ok (.goto 4, 3) := dk_167 0 4 (dk_at dksJ20_max_0 6 rfl rfl)
theorem dJ20_max_9 : decode cJ20_max 9 = .ok (.iload_n 1, 1) := dk_27 (dk_at dksJ20_max_0 9 rfl rfl)
theorem dJ20_max_10 : decode cJ20_max 10 = .ok (.ireturn, 1) := dk_172 (dk_at dksJ20_max_0 10 rfl rfl)
def dkwJ20_min_0 : List UInt8 := [26, 27, 163, 0, 7, 26, 167, 0, 4, 27, 172]
abbrev dktJ20_min_0 : List UInt8 := dkwJ20_min_0 ++ []
theorem dksJ20_min_0 : cJ20_min.data.toList.drop 0 = dktJ20_min_0 := by decide +kernel
theorem dJ20_min_0 : decode cJ20_min 0 = .ok (.iload_n 0, 1) := dk_26 (dk_at dksJ20_min_0 0 rfl rfl)
theorem dJ20_min_1 : decode cJ20_min 1 = .ok (.iload_n 1, 1) := dk_27 (dk_at dksJ20_min_0 1 rfl rfl)
theorem dJ20_min_2 : decode cJ20_min 2 = .ok (.if_icmp .gt 7, 3) := dk_163 0 7 (dk_at dksJ20_min_0 2 rfl rfl)
theorem dJ20_min_5 : decode cJ20_min 5 = .ok (.iload_n 0, 1) := dk_26 (dk_at dksJ20_min_0 5 rfl rfl)
theorem dJ20_min_6 : decode cJ20_min 6 = .ok (.goto 4, 3) := dk_167 0 4 (dk_at dksJ20_min_0 6 rfl rfl)
theorem dJ20_min_9 : decode cJ20_min 9 = .ok (.iload_n 1, 1) := dk_27 (dk_at dksJ20_min_0 9 rfl rfl)
theorem dJ20_min_10 : decode cJ20_min 10 = .ok (.ireturn, 1) := dk_172 (dk_at dksJ20_min_0 10 rfl rfl)
def dkwJ21_copyOf_1 : List UInt8 := [27, 184, 1, 48, 184, 0, 150, 44, 176]
abbrev dktJ21_copyOf_1 : List UInt8 := dkwJ21_copyOf_1 ++ []
def dkwJ21_copyOf_0 : List UInt8 := [27, 42, 190, 160, 0, 11, 42, 182, 1, 54, 192, 1, 55, 176, 27, 188, 8, 77, 42, 3, 44, 3, 42, 190]
abbrev dktJ21_copyOf_0 : List UInt8 := dkwJ21_copyOf_0 ++ dktJ21_copyOf_1
theorem dksJ21_copyOf_0 : cJ21_copyOf.data.toList.drop 0 = dktJ21_copyOf_0 := by decide +kernel
theorem dksJ21_copyOf_1 : cJ21_copyOf.data.toList.drop 24 = dktJ21_copyOf_1 := dk_seg dksJ21_copyOf_0 24 rfl rfl
theorem dJ21_copyOf_0 : decode cJ21_copyOf 0 = .ok (.iload_n 1, 1) := dk_27 (dk_at dksJ21_copyOf_0 0 rfl rfl)
theorem dJ21_copyOf_1 : decode cJ21_copyOf 1 = .ok (.aload_n 0, 1) := dk_42 (dk_at dksJ21_copyOf_0 1 rfl rfl)
theorem dJ21_copyOf_2 : decode cJ21_copyOf 2 = .ok (.arraylength, 1) := dk_190 (dk_at dksJ21_copyOf_0 2 rfl rfl)
theorem dJ21_copyOf_3 : decode cJ21_copyOf 3 = .ok (.if_icmp .ne 11, 3) := dk_160 0 11 (dk_at dksJ21_copyOf_0 3 rfl rfl)
theorem dJ21_copyOf_14 : decode cJ21_copyOf 14 = .ok (.iload_n 1, 1) := dk_27 (dk_at dksJ21_copyOf_0 14 rfl rfl)
theorem dJ21_copyOf_15 : decode cJ21_copyOf 15 = .ok (.newarray .byte, 2) := dk_188_8 (dk_at dksJ21_copyOf_0 15 rfl rfl)
theorem dJ21_copyOf_17 : decode cJ21_copyOf 17 = .ok (.astore_n 2, 1) := dk_77 (dk_at dksJ21_copyOf_0 17 rfl rfl)
theorem dJ21_copyOf_18 : decode cJ21_copyOf 18 = .ok (.aload_n 0, 1) := dk_42 (dk_at dksJ21_copyOf_0 18 rfl rfl)
theorem dJ21_copyOf_19 : decode cJ21_copyOf 19 = .ok (.iconst 0, 1) := dk_3 (dk_at dksJ21_copyOf_0 19 rfl rfl)
theorem dJ21_copyOf_20 : decode cJ21_copyOf 20 = .ok (.aload_n 2, 1) := dk_44 (dk_at dksJ21_copyOf_0 20 rfl rfl)
theorem dJ21_copyOf_21 : decode cJ21_copyOf 21 = .ok (.iconst 0, 1) := dk_3 (dk_at dksJ21_copyOf_0 21 rfl rfl)
theorem dJ21_copyOf_22 : decode cJ21_copyOf 22 = .ok (.aload_n 0, 1) := dk_42 (dk_at dksJ21_copyOf_0 22 rfl rfl)
theorem dJ21_copyOf_23 : decode cJ21_copyOf 23 = .ok (.arraylength, 1) := dk_190 (dk_at dksJ21_copyOf_0 23 rfl rfl)
theorem dJ21_copyOf_24 : decode cJ21_copyOf 24 = .ok (.iload_n 1, 1) := dk_27 (dk_at dksJ21_copyOf_1 0 rfl rfl)
theorem dJ21_copyOf_25 : decode cJ21_copyOf 25 = .ok (.invokestatic 304, 3) := dk_184 1 48 (dk_at dksJ21_copyOf_1 1 rfl rfl)
theorem dJ21_copyOf_28 : decode cJ21_copyOf 28 = .ok (.invokestatic 150, 3) := dk_184 0 150 (dk_at dksJ21_copyOf_1 4 rfl rfl)
theorem dJ21_copyOf_31 : decode cJ21_copyOf 31 = .ok (.aload_n 2, 1) := dk_44 (dk_at dksJ21_copyOf_1 7 rfl rfl)
theorem dJ21_copyOf_32 : decode cJ21_copyOf 32 = .ok (.areturn, 1) := dk_176 (dk_at dksJ21_copyOf_1 8 rfl rfl)
def dkwJ21_copyOfRange_1 : List UInt8 := [176]
abbrev dktJ21_copyOfRange_1 : List UInt8 := dkwJ21_copyOfRange_1 ++ []
def dkwJ21_copyOfRange_0 : List UInt8 := [27, 154, 0, 9, 28, 42, 190, 159, 0, 10, 42, 27, 28, 184, 1, 83, 176, 42, 182, 1, 54, 192, 1, 55]
abbrev dktJ21_copyOfRange_0 : List UInt8 := dkwJ21_copyOfRange_0 ++ dktJ21_copyOfRange_1
theorem dksJ21_copyOfRange_0 : cJ21_copyOfRange.data.toList.drop 0 = dktJ21_copyOfRange_0 := by decide +kernel
theorem dksJ21_copyOfRange_1 : cJ21_copyOfRange.data.toList.drop 24 = dktJ21_copyOfRange_1 := dk_seg dksJ21_copyOfRange_0 24 rfl rfl
theorem dJ21_copyOfRange_0 : decode cJ21_copyOfRange 0 = .ok (.iload_n 1, 1) := dk_27 (dk_at dksJ21_copyOfRange_0 0 rfl rfl)
theorem dJ21_copyOfRange_1 : decode cJ21_copyOfRange 1 = .ok (.ifCond .ne 9, 3) := dk_154 0 9 (dk_at dksJ21_copyOfRange_0 1 rfl rfl)
theorem dJ21_copyOfRange_4 : decode cJ21_copyOfRange 4 = .ok (.iload_n 2, 1) := dk_28 (dk_at dksJ21_copyOfRange_0 4 rfl rfl)
theorem dJ21_copyOfRange_5 : decode cJ21_copyOfRange 5 = .ok (.aload_n 0, 1) := dk_42 (dk_at dksJ21_copyOfRange_0 5 rfl rfl)
theorem dJ21_copyOfRange_6 : decode cJ21_copyOfRange 6 = .ok (.arraylength, 1) := dk_190 (dk_at dksJ21_copyOfRange_0 6 rfl rfl)
theorem dJ21_copyOfRange_7 : decode cJ21_copyOfRange 7 = .ok (.if_icmp .eq 10, 3) := dk_159 0 10 (dk_at dksJ21_copyOfRange_0 7 rfl rfl)
theorem dJ21_copyOfRange_10 : decode cJ21_copyOfRange 10 = .ok (.aload_n 0, 1) := dk_42 (dk_at dksJ21_copyOfRange_0 10 rfl rfl)
theorem dJ21_copyOfRange_11 : decode cJ21_copyOfRange 11 = .ok (.iload_n 1, 1) := dk_27 (dk_at dksJ21_copyOfRange_0 11 rfl rfl)
theorem dJ21_copyOfRange_12 : decode cJ21_copyOfRange 12 = .ok (.iload_n 2, 1) := dk_28 (dk_at dksJ21_copyOfRange_0 12 rfl rfl)
theorem dJ21_copyOfRange_13 : decode cJ21_copyOfRange 13 = .ok (.invokestatic 339, 3) := dk_184 1 83 (dk_at dksJ21_copyOfRange_0 13 rfl rfl)
theorem dJ21_copyOfRange_16 : decode cJ21_copyOfRange 16 = .ok (.areturn, 1) := dk_176 (dk_at dksJ21_copyOfRange_0 16 rfl rfl)
def dkwJ21_copyOfRangeByte_1 : List UInt8 := [184, 1, 48, 184, 0, 150, 25, 4, 176]
abbrev dktJ21_copyOfRangeByte_1 : List UInt8 := dkwJ21_copyOfRangeByte_1 ++ []
def dkwJ21_copyOfRangeByte_0 : List UInt8 := [27, 28, 184, 1, 87, 28, 27, 100, 62, 29, 188, 8, 58, 4, 42, 27, 25, 4, 3, 42, 190, 27, 100, 29]
abbrev dktJ21_copyOfRangeByte_0 : List UInt8 := dkwJ21_copyOfRangeByte_0 ++ dktJ21_copyOfRangeByte_1
theorem dksJ21_copyOfRangeByte_0 : cJ21_copyOfRangeByte.data.toList.drop 0 = dktJ21_copyOfRangeByte_0 := by decide +kernel
theorem dksJ21_copyOfRangeByte_1 : cJ21_copyOfRangeByte.data.toList.drop 24 = dktJ21_copyOfRangeByte_1 := dk_seg dksJ21_copyOfRangeByte_0 24 rfl rfl
def dkwJ21_copyOf_2_0 : List UInt8 := [42, 27, 42, 182, 0, 86, 184, 1, 44, 176]
abbrev dktJ21_copyOf_2_0 : List UInt8 := dkwJ21_copyOf_2_0 ++ []
theorem dksJ21_copyOf_2_0 : cJ21_copyOf_2.data.toList.drop 0 = dktJ21_copyOf_2_0 := by decide +kernel
theorem dJ21_copyOf_2_0 : decode cJ21_copyOf_2 0 = .ok (.aload_n 0, 1) := dk_42 (dk_at dksJ21_copyOf_2_0 0 rfl rfl)
theorem dJ21_copyOf_2_1 : decode cJ21_copyOf_2 1 = .ok (.iload_n 1, 1) := dk_27 (dk_at dksJ21_copyOf_2_0 1 rfl rfl)
theorem dJ21_copyOf_2_2 : decode cJ21_copyOf_2 2 = .ok (.aload_n 0, 1) := dk_42 (dk_at dksJ21_copyOf_2_0 2 rfl rfl)
theorem dJ21_copyOf_2_3 : decode cJ21_copyOf_2 3 = .ok (.invokevirtual 86, 3) := dk_182 0 86 (dk_at dksJ21_copyOf_2_0 3 rfl rfl)
theorem dJ21_copyOf_2_6 : decode cJ21_copyOf_2 6 = .ok (.invokestatic 300, 3) := dk_184 1 44 (dk_at dksJ21_copyOf_2_0 6 rfl rfl)
theorem dJ21_copyOf_2_9 : decode cJ21_copyOf_2 9 = .ok (.areturn, 1) := dk_176 (dk_at dksJ21_copyOf_2_0 9 rfl rfl)
def dkwJ21_copyOf_3_1 : List UInt8 := [78, 42, 3, 45, 3, 42, 190, 27, 184, 1, 48, 184, 0, 150, 45, 176]
abbrev dktJ21_copyOf_3_1 : List UInt8 := dkwJ21_copyOf_3_1 ++ []
def dkwJ21_copyOf_3_0 : List UInt8 := [44, 18, 110, 166, 0, 10, 27, 189, 0, 2, 167, 0, 14, 44, 182, 0, 90, 27, 184, 0, 95, 192, 0, 110]
abbrev dktJ21_copyOf_3_0 : List UInt8 := dkwJ21_copyOf_3_0 ++ dktJ21_copyOf_3_1
theorem dksJ21_copyOf_3_0 : cJ21_copyOf_3.data.toList.drop 0 = dktJ21_copyOf_3_0 := by decide +kernel
theorem dksJ21_copyOf_3_1 : cJ21_copyOf_3.data.toList.drop 24 = dktJ21_copyOf_3_1 := dk_seg dksJ21_copyOf_3_0 24 rfl rfl
theorem dJ21_copyOf_3_0 : decode cJ21_copyOf_3 0 = .ok (.aload_n 2, 1) := dk_44 (dk_at dksJ21_copyOf_3_0 0 rfl rfl)
theorem dJ21_copyOf_3_1 : decode cJ21_copyOf_3 1 = .ok (.ldc 110, 2) := dk_18 110 (dk_at dksJ21_copyOf_3_0 1 rfl rfl)
theorem dJ21_copyOf_3_3 : decode cJ21_copyOf_3 3 = .ok (.if_acmp .ne 10, 3) := dk_166 0 10 (dk_at dksJ21_copyOf_3_0 3 rfl rfl)
theorem dJ21_copyOf_3_6 : decode cJ21_copyOf_3 6 = .ok (.iload_n 1, 1) := dk_27 (dk_at dksJ21_copyOf_3_0 6 rfl rfl)
theorem dJ21_copyOf_3_7 : decode cJ21_copyOf_3 7 = .ok (.anewarray 2, 3) := dk_189 0 2 (dk_at dksJ21_copyOf_3_0 7 rfl rfl)
theorem dJ21_copyOf_3_10 : decode cJ21_copyOf_3 10 = .ok (.goto 14, 3) := dk_167 0 14 (dk_at dksJ21_copyOf_3_0 10 rfl rfl)
theorem dJ21_copyOf_3_24 : decode cJ21_copyOf_3 24 = .ok (.astore_n 3, 1) := dk_78 (dk_at dksJ21_copyOf_3_1 0 rfl rfl)
theorem dJ21_copyOf_3_25 : decode cJ21_copyOf_3 25 = .ok (.aload_n 0, 1) := dk_42 (dk_at dksJ21_copyOf_3_1 1 rfl rfl)
theorem dJ21_copyOf_3_26 : decode cJ21_copyOf_3 26 = .ok (.iconst 0, 1) := dk_3 (dk_at dksJ21_copyOf_3_1 2 rfl rfl)
theorem dJ21_copyOf_3_27 : decode cJ21_copyOf_3 27 = .ok (.aload_n 3, 1) := dk_45 (dk_at dksJ21_copyOf_3_1 3 rfl rfl)
theorem dJ21_copyOf_3_28 : decode cJ21_copyOf_3 28 = .ok (.iconst 0, 1) := dk_3 (dk_at dksJ21_copyOf_3_1 4 rfl rfl)
theorem dJ21_copyOf_3_29 : decode cJ21_copyOf_3 29 = .ok (.aload_n 0, 1) := dk_42 (dk_at dksJ21_copyOf_3_1 5 rfl rfl)
theorem dJ21_copyOf_3_30 : decode cJ21_copyOf_3 30 = .ok (.arraylength, 1) := dk_190 (dk_at dksJ21_copyOf_3_1 6 rfl rfl)
theorem dJ21_copyOf_3_31 : decode cJ21_copyOf_3 31 = .ok (.iload_n 1, 1) := dk_27 (dk_at dksJ21_copyOf_3_1 7 rfl rfl)
theorem dJ21_copyOf_3_32 : decode cJ21_copyOf_3 32 = .ok (.invokestatic 304, 3) := dk_184 1 48 (dk_at dksJ21_copyOf_3_1 8 rfl rfl)
theorem dJ21_copyOf_3_35 : decode cJ21_copyOf_3 35 = .ok (.invokestatic 150, 3) := dk_184 0 150 (dk_at dksJ21_copyOf_3_1 11 rfl rfl)
theorem dJ21_copyOf_3_38 : decode cJ21_copyOf_3 38 = .ok (.aload_n 3, 1) := dk_45 (dk_at dksJ21_copyOf_3_1 14 rfl rfl)
theorem dJ21_copyOf_3_39 : decode cJ21_copyOf_3 39 = .ok (.areturn, 1) := dk_176 (dk_at dksJ21_copyOf_3_1 15 rfl rfl)
def dkwJ21_copyOf_4_1 : List UInt8 := [27, 184, 1, 48, 184, 0, 150, 44, 176]
abbrev dktJ21_copyOf_4_1 : List UInt8 := dkwJ21_copyOf_4_1 ++ []
def dkwJ21_copyOf_4_0 : List UInt8 := [27, 42, 190, 160, 0, 11, 42, 182, 1, 63, 192, 1, 64, 176, 27, 188, 11, 77, 42, 3, 44, 3, 42, 190]
abbrev dktJ21_copyOf_4_0 : List UInt8 := dkwJ21_copyOf_4_0 ++ dktJ21_copyOf_4_1
theorem dksJ21_copyOf_4_0 : cJ21_copyOf_4.data.toList.drop 0 = dktJ21_copyOf_4_0 := by decide +kernel
theorem dksJ21_copyOf_4_1 : cJ21_copyOf_4.data.toList.drop 24 = dktJ21_copyOf_4_1 := dk_seg dksJ21_copyOf_4_0 24 rfl rfl
theorem dJ21_copyOf_4_0 : decode cJ21_copyOf_4 0 = .ok (.iload_n 1, 1) := dk_27 (dk_at dksJ21_copyOf_4_0 0 rfl rfl)
theorem dJ21_copyOf_4_1 : decode cJ21_copyOf_4 1 = .ok (.aload_n 0, 1) := dk_42 (dk_at dksJ21_copyOf_4_0 1 rfl rfl)
theorem dJ21_copyOf_4_2 : decode cJ21_copyOf_4 2 = .ok (.arraylength, 1) := dk_190 (dk_at dksJ21_copyOf_4_0 2 rfl rfl)
theorem dJ21_copyOf_4_3 : decode cJ21_copyOf_4 3 = .ok (.if_icmp .ne 11, 3) := dk_160 0 11 (dk_at dksJ21_copyOf_4_0 3 rfl rfl)
theorem dJ21_copyOf_4_14 : decode cJ21_copyOf_4 14 = .ok (.iload_n 1, 1) := dk_27 (dk_at dksJ21_copyOf_4_0 14 rfl rfl)
theorem dJ21_copyOf_4_15 : decode cJ21_copyOf_4 15 = .ok (.newarray .long, 2) := dk_188_11 (dk_at dksJ21_copyOf_4_0 15 rfl rfl)
theorem dJ21_copyOf_4_17 : decode cJ21_copyOf_4 17 = .ok (.astore_n 2, 1) := dk_77 (dk_at dksJ21_copyOf_4_0 17 rfl rfl)
theorem dJ21_copyOf_4_18 : decode cJ21_copyOf_4 18 = .ok (.aload_n 0, 1) := dk_42 (dk_at dksJ21_copyOf_4_0 18 rfl rfl)
theorem dJ21_copyOf_4_19 : decode cJ21_copyOf_4 19 = .ok (.iconst 0, 1) := dk_3 (dk_at dksJ21_copyOf_4_0 19 rfl rfl)
theorem dJ21_copyOf_4_20 : decode cJ21_copyOf_4 20 = .ok (.aload_n 2, 1) := dk_44 (dk_at dksJ21_copyOf_4_0 20 rfl rfl)
theorem dJ21_copyOf_4_21 : decode cJ21_copyOf_4 21 = .ok (.iconst 0, 1) := dk_3 (dk_at dksJ21_copyOf_4_0 21 rfl rfl)
theorem dJ21_copyOf_4_22 : decode cJ21_copyOf_4 22 = .ok (.aload_n 0, 1) := dk_42 (dk_at dksJ21_copyOf_4_0 22 rfl rfl)
theorem dJ21_copyOf_4_23 : decode cJ21_copyOf_4 23 = .ok (.arraylength, 1) := dk_190 (dk_at dksJ21_copyOf_4_0 23 rfl rfl)
theorem dJ21_copyOf_4_24 : decode cJ21_copyOf_4 24 = .ok (.iload_n 1, 1) := dk_27 (dk_at dksJ21_copyOf_4_1 0 rfl rfl)
theorem dJ21_copyOf_4_25 : decode cJ21_copyOf_4 25 = .ok (.invokestatic 304, 3) := dk_184 1 48 (dk_at dksJ21_copyOf_4_1 1 rfl rfl)
theorem dJ21_copyOf_4_28 : decode cJ21_copyOf_4 28 = .ok (.invokestatic 150, 3) := dk_184 0 150 (dk_at dksJ21_copyOf_4_1 4 rfl rfl)
theorem dJ21_copyOf_4_31 : decode cJ21_copyOf_4 31 = .ok (.aload_n 2, 1) := dk_44 (dk_at dksJ21_copyOf_4_1 7 rfl rfl)
theorem dJ21_copyOf_4_32 : decode cJ21_copyOf_4 32 = .ok (.areturn, 1) := dk_176 (dk_at dksJ21_copyOf_4_1 8 rfl rfl)
def dkwJ21_fill_1 : List UInt8 := [167, 255, 242, 177]
abbrev dktJ21_fill_1 : List UInt8 := dkwJ21_fill_1 ++ []
def dkwJ21_fill_0 : List UInt8 := [42, 190, 27, 28, 184, 0, 13, 27, 54, 4, 21, 4, 28, 162, 0, 14, 42, 21, 4, 29, 84, 132, 4, 1]
abbrev dktJ21_fill_0 : List UInt8 := dkwJ21_fill_0 ++ dktJ21_fill_1
theorem dksJ21_fill_0 : cJ21_fill.data.toList.drop 0 = dktJ21_fill_0 := by decide +kernel
theorem dksJ21_fill_1 : cJ21_fill.data.toList.drop 24 = dktJ21_fill_1 := dk_seg dksJ21_fill_0 24 rfl rfl
theorem dJ21_fill_0 : decode cJ21_fill 0 = .ok (.aload_n 0, 1) := dk_42 (dk_at dksJ21_fill_0 0 rfl rfl)
theorem dJ21_fill_1 : decode cJ21_fill 1 = .ok (.arraylength, 1) := dk_190 (dk_at dksJ21_fill_0 1 rfl rfl)
theorem dJ21_fill_2 : decode cJ21_fill 2 = .ok (.iload_n 1, 1) := dk_27 (dk_at dksJ21_fill_0 2 rfl rfl)
theorem dJ21_fill_3 : decode cJ21_fill 3 = .ok (.iload_n 2, 1) := dk_28 (dk_at dksJ21_fill_0 3 rfl rfl)
theorem dJ21_fill_4 : decode cJ21_fill 4 = .ok (.invokestatic 13, 3) := dk_184 0 13 (dk_at dksJ21_fill_0 4 rfl rfl)
theorem dJ21_fill_7 : decode cJ21_fill 7 = .ok (.iload_n 1, 1) := dk_27 (dk_at dksJ21_fill_0 7 rfl rfl)
theorem dJ21_fill_8 : decode cJ21_fill 8 = .ok (.istore 4, 2) := dk_54 4 (dk_at dksJ21_fill_0 8 rfl rfl)
theorem dJ21_fill_10 : decode cJ21_fill 10 = .ok (.iload 4, 2) := dk_21 4 (dk_at dksJ21_fill_0 10 rfl rfl)
theorem dJ21_fill_12 : decode cJ21_fill 12 = .ok (.iload_n 2, 1) := dk_28 (dk_at dksJ21_fill_0 12 rfl rfl)
theorem dJ21_fill_13 : decode cJ21_fill 13 = .ok (.if_icmp .ge 14, 3) := dk_162 0 14 (dk_at dksJ21_fill_0 13 rfl rfl)
theorem dJ21_fill_16 : decode cJ21_fill 16 = .ok (.aload_n 0, 1) := dk_42 (dk_at dksJ21_fill_0 16 rfl rfl)
theorem dJ21_fill_17 : decode cJ21_fill 17 = .ok (.iload 4, 2) := dk_21 4 (dk_at dksJ21_fill_0 17 rfl rfl)
theorem dJ21_fill_19 : decode cJ21_fill 19 = .ok (.iload_n 3, 1) := dk_29 (dk_at dksJ21_fill_0 19 rfl rfl)
theorem dJ21_fill_20 : decode cJ21_fill 20 = .ok (.bastore, 1) := dk_84 (dk_at dksJ21_fill_0 20 rfl rfl)
theorem dJ21_fill_21 : decode cJ21_fill 21 = .ok (.iinc 4 1, 3) := dk_132 4 1 (dk_at dksJ21_fill_0 21 rfl rfl)
theorem dJ21_fill_24 : decode cJ21_fill 24 = .ok (.goto (-14), 3) := dk_167 255 242 (dk_at dksJ21_fill_1 0 rfl rfl)
theorem dJ21_fill_27 : decode cJ21_fill 27 = .ok (.return_, 1) := dk_177 (dk_at dksJ21_fill_1 3 rfl rfl)
def dkwJ21_rangeCheck_3 : List UInt8 := [183, 0, 70, 191, 177]
abbrev dktJ21_rangeCheck_3 : List UInt8 := dkwJ21_rangeCheck_3 ++ []
def dkwJ21_rangeCheck_2 : List UInt8 := [27, 156, 0, 12, 187, 0, 68, 89, 27, 183, 0, 70, 191, 28, 26, 164, 0, 12, 187, 0, 68, 89, 28]
abbrev dktJ21_rangeCheck_2 : List UInt8 := dkwJ21_rangeCheck_2 ++ dktJ21_rangeCheck_3
def dkwJ21_rangeCheck_1 : List UInt8 := [182, 0, 54, 18, 57, 182, 0, 50, 28, 182, 0, 54, 18, 59, 182, 0, 50, 182, 0, 61, 183, 0, 65, 191]
abbrev dktJ21_rangeCheck_1 : List UInt8 := dkwJ21_rangeCheck_1 ++ dktJ21_rangeCheck_2
def dkwJ21_rangeCheck_0 : List UInt8 := [27, 28, 164, 0, 44, 187, 0, 43, 89, 187, 0, 45, 89, 183, 0, 47, 18, 48, 182, 0, 50, 27]
abbrev dktJ21_rangeCheck_0 : List UInt8 := dkwJ21_rangeCheck_0 ++ dktJ21_rangeCheck_1
theorem dksJ21_rangeCheck_0 : cJ21_rangeCheck.data.toList.drop 0 = dktJ21_rangeCheck_0 := by decide +kernel
theorem dksJ21_rangeCheck_1 : cJ21_rangeCheck.data.toList.drop 22 = dktJ21_rangeCheck_1 := dk_seg dksJ21_rangeCheck_0 22 rfl rfl
theorem dksJ21_rangeCheck_2 : cJ21_rangeCheck.data.toList.drop 46 = dktJ21_rangeCheck_2 := dk_seg dksJ21_rangeCheck_1 24 rfl rfl
theorem dksJ21_rangeCheck_3 : cJ21_rangeCheck.data.toList.drop 69 = dktJ21_rangeCheck_3 := dk_seg dksJ21_rangeCheck_2 23 rfl rfl
theorem dJ21_rangeCheck_0 : decode cJ21_rangeCheck 0 = .ok (.iload_n 1, 1) := dk_27 (dk_at dksJ21_rangeCheck_0 0 rfl rfl)
theorem dJ21_rangeCheck_1 : decode cJ21_rangeCheck 1 = .ok (.iload_n 2, 1) := dk_28 (dk_at dksJ21_rangeCheck_0 1 rfl rfl)
theorem dJ21_rangeCheck_2 : decode cJ21_rangeCheck 2 = .ok (.if_icmp .le 44, 3) := dk_164 0 44 (dk_at dksJ21_rangeCheck_0 2 rfl rfl)
theorem dJ21_rangeCheck_46 : decode cJ21_rangeCheck 46 = .ok (.iload_n 1, 1) := dk_27 (dk_at dksJ21_rangeCheck_2 0 rfl rfl)
theorem dJ21_rangeCheck_47 : decode cJ21_rangeCheck 47 = .ok (.ifCond .ge 12, 3) := dk_156 0 12 (dk_at dksJ21_rangeCheck_2 1 rfl rfl)
theorem dJ21_rangeCheck_59 : decode cJ21_rangeCheck 59 = .ok (.iload_n 2, 1) := dk_28 (dk_at dksJ21_rangeCheck_2 13 rfl rfl)
theorem dJ21_rangeCheck_60 : decode cJ21_rangeCheck 60 = .ok (.iload_n 0, 1) := dk_26 (dk_at dksJ21_rangeCheck_2 14 rfl rfl)
theorem dJ21_rangeCheck_61 : decode cJ21_rangeCheck 61 = .ok (.if_icmp .le 12, 3) := dk_164 0 12 (dk_at dksJ21_rangeCheck_2 15 rfl rfl)
theorem dJ21_rangeCheck_73 : decode cJ21_rangeCheck 73 = .ok (.return_, 1) := dk_177 (dk_at dksJ21_rangeCheck_3 4 rfl rfl)
def dkwJ22_canEncode_0 : List UInt8 := [26, 17, 0, 255, 163, 0, 7, 4, 167, 0, 4, 3, 172]
abbrev dktJ22_canEncode_0 : List UInt8 := dkwJ22_canEncode_0 ++ []
theorem dksJ22_canEncode_0 : cJ22_canEncode.data.toList.drop 0 = dktJ22_canEncode_0 := by decide +kernel
theorem dJ22_canEncode_0 : decode cJ22_canEncode 0 = .ok (.iload_n 0, 1) := dk_26 (dk_at dksJ22_canEncode_0 0 rfl rfl)
theorem dJ22_canEncode_1 : decode cJ22_canEncode 1 = .ok (.sipush 255, 3) := dk_17 0 255 (dk_at dksJ22_canEncode_0 1 rfl rfl)
theorem dJ22_canEncode_4 : decode cJ22_canEncode 4 = .ok (.if_icmp .gt 7, 3) := dk_163 0 7 (dk_at dksJ22_canEncode_0 4 rfl rfl)
theorem dJ22_canEncode_7 : decode cJ22_canEncode 7 = .ok (.iconst 1, 1) := dk_4 (dk_at dksJ22_canEncode_0 7 rfl rfl)
theorem dJ22_canEncode_8 : decode cJ22_canEncode 8 = .ok (.goto 4, 3) := dk_167 0 4 (dk_at dksJ22_canEncode_0 8 rfl rfl)
theorem dJ22_canEncode_11 : decode cJ22_canEncode 11 = .ok (.iconst 0, 1) := dk_3 (dk_at dksJ22_canEncode_0 11 rfl rfl)
theorem dJ22_canEncode_12 : decode cJ22_canEncode 12 = .ok (.ireturn, 1) := dk_172 (dk_at dksJ22_canEncode_0 12 rfl rfl)
def dkwJ22_fillNull_0 : List UInt8 := [42, 27, 28, 3, 184, 0, 236, 177]
abbrev dktJ22_fillNull_0 : List UInt8 := dkwJ22_fillNull_0 ++ []
theorem dksJ22_fillNull_0 : cJ22_fillNull.data.toList.drop 0 = dktJ22_fillNull_0 := by decide +kernel
theorem dJ22_fillNull_0 : decode cJ22_fillNull 0 = .ok (.aload_n 0, 1) := dk_42 (dk_at dksJ22_fillNull_0 0 rfl rfl)
theorem dJ22_fillNull_1 : decode cJ22_fillNull 1 = .ok (.iload_n 1, 1) := dk_27 (dk_at dksJ22_fillNull_0 1 rfl rfl)
theorem dJ22_fillNull_2 : decode cJ22_fillNull 2 = .ok (.iload_n 2, 1) := dk_28 (dk_at dksJ22_fillNull_0 2 rfl rfl)
theorem dJ22_fillNull_3 : decode cJ22_fillNull 3 = .ok (.iconst 0, 1) := dk_3 (dk_at dksJ22_fillNull_0 3 rfl rfl)
theorem dJ22_fillNull_4 : decode cJ22_fillNull 4 = .ok (.invokestatic 236, 3) := dk_184 0 236 (dk_at dksJ22_fillNull_0 4 rfl rfl)
theorem dJ22_fillNull_7 : decode cJ22_fillNull 7 = .ok (.return_, 1) := dk_177 (dk_at dksJ22_fillNull_0 7 rfl rfl)
def dkwJ22_charAt_0 : List UInt8 := [27, 42, 190, 184, 0, 9, 42, 27, 51, 17, 0, 255, 126, 146, 172]
abbrev dktJ22_charAt_0 : List UInt8 := dkwJ22_charAt_0 ++ []
theorem dksJ22_charAt_0 : cJ22_charAt.data.toList.drop 0 = dktJ22_charAt_0 := by decide +kernel
theorem dJ22_charAt_0 : decode cJ22_charAt 0 = .ok (.iload_n 1, 1) := dk_27 (dk_at dksJ22_charAt_0 0 rfl rfl)
theorem dJ22_charAt_1 : decode cJ22_charAt 1 = .ok (.aload_n 0, 1) := dk_42 (dk_at dksJ22_charAt_0 1 rfl rfl)
theorem dJ22_charAt_2 : decode cJ22_charAt 2 = .ok (.arraylength, 1) := dk_190 (dk_at dksJ22_charAt_0 2 rfl rfl)
theorem dJ22_charAt_3 : decode cJ22_charAt 3 = .ok (.invokestatic 9, 3) := dk_184 0 9 (dk_at dksJ22_charAt_0 3 rfl rfl)
theorem dJ22_charAt_6 : decode cJ22_charAt 6 = .ok (.aload_n 0, 1) := dk_42 (dk_at dksJ22_charAt_0 6 rfl rfl)
theorem dJ22_charAt_7 : decode cJ22_charAt 7 = .ok (.iload_n 1, 1) := dk_27 (dk_at dksJ22_charAt_0 7 rfl rfl)
theorem dJ22_charAt_8 : decode cJ22_charAt 8 = .ok (.baload, 1) := dk_51 (dk_at dksJ22_charAt_0 8 rfl rfl)
theorem dJ22_charAt_9 : decode cJ22_charAt 9 = .ok (.sipush 255, 3) := dk_17 0 255 (dk_at dksJ22_charAt_0 9 rfl rfl)
theorem dJ22_charAt_12 : decode cJ22_charAt 12 = .ok (.iand, 1) := dk_126 (dk_at dksJ22_charAt_0 12 rfl rfl)
theorem dJ22_charAt_13 : decode cJ22_charAt 13 = .ok (.i2c, 1) := dk_146 (dk_at dksJ22_charAt_0 13 rfl rfl)
theorem dJ22_charAt_14 : decode cJ22_charAt 14 = .ok (.ireturn, 1) := dk_172 (dk_at dksJ22_charAt_0 14 rfl rfl)
def dkwJ23_hasNext_1 : List UInt8 := [180, 0, 31, 182, 0, 35, 154, 0, 7, 4, 167, 0, 4, 3, 172]
abbrev dktJ23_hasNext_1 : List UInt8 := dkwJ23_hasNext_1 ++ []
def dkwJ23_hasNext_0 : List UInt8 := [42, 180, 0, 25, 42, 180, 0, 1, 180, 0, 28, 161, 0, 20, 42, 180, 0, 31, 198, 0, 17, 42]
abbrev dktJ23_hasNext_0 : List UInt8 := dkwJ23_hasNext_0 ++ dktJ23_hasNext_1
theorem dksJ23_hasNext_0 : cJ23_hasNext.data.toList.drop 0 = dktJ23_hasNext_0 := by decide +kernel
theorem dksJ23_hasNext_1 : cJ23_hasNext.data.toList.drop 22 = dktJ23_hasNext_1 := dk_seg dksJ23_hasNext_0 22 rfl rfl
theorem dJ23_hasNext_0 : decode cJ23_hasNext 0 = .ok (.aload_n 0, 1) := dk_42 (dk_at dksJ23_hasNext_0 0 rfl rfl)
theorem dJ23_hasNext_1 : decode cJ23_hasNext 1 = .ok (.getfield 25, 3) := dk_180 0 25 (dk_at dksJ23_hasNext_0 1 rfl rfl)
theorem dJ23_hasNext_4 : decode cJ23_hasNext 4 = .ok (.aload_n 0, 1) := dk_42 (dk_at dksJ23_hasNext_0 4 rfl rfl)
theorem dJ23_hasNext_5 : decode cJ23_hasNext 5 = .ok (.getfield 1, 3) := dk_180 0 1 (dk_at dksJ23_hasNext_0 5 rfl rfl)
theorem dJ23_hasNext_8 : decode cJ23_hasNext 8 = .ok (.getfield 28, 3) := dk_180 0 28 (dk_at dksJ23_hasNext_0 8 rfl rfl)
theorem dJ23_hasNext_11 : decode cJ23_hasNext 11 = .ok (.if_icmp .lt 20, 3) := dk_161 0 20 (dk_at dksJ23_hasNext_0 11 rfl rfl)
theorem dJ23_hasNext_14 : decode cJ23_hasNext 14 = .ok (.aload_n 0, 1) := dk_42 (dk_at dksJ23_hasNext_0 14 rfl rfl)
theorem dJ23_hasNext_15 : decode cJ23_hasNext 15 = .ok (.getfield 31, 3) := dk_180 0 31 (dk_at dksJ23_hasNext_0 15 rfl rfl)
theorem dJ23_hasNext_18 : decode cJ23_hasNext 18 = .ok (.ifnull 17, 3) := dk_198 0 17 (dk_at dksJ23_hasNext_0 18 rfl rfl)
theorem dJ23_hasNext_21 : decode cJ23_hasNext 21 = .ok (.aload_n 0, 1) := dk_42 (dk_at dksJ23_hasNext_0 21 rfl rfl)
theorem dJ23_hasNext_22 : decode cJ23_hasNext 22 = .ok (.getfield 31, 3) := dk_180 0 31 (dk_at dksJ23_hasNext_1 0 rfl rfl)
theorem dJ23_hasNext_25 : decode cJ23_hasNext 25 = .ok (.invokevirtual 35, 3) := dk_182 0 35 (dk_at dksJ23_hasNext_1 3 rfl rfl)
theorem dJ23_hasNext_28 : decode cJ23_hasNext 28 = .ok (.ifCond .ne 7, 3) := dk_154 0 7 (dk_at dksJ23_hasNext_1 6 rfl rfl)
theorem dJ23_hasNext_31 : decode cJ23_hasNext 31 = .ok (.iconst 1, 1) := dk_4 (dk_at dksJ23_hasNext_1 9 rfl rfl)
theorem dJ23_hasNext_32 : decode cJ23_hasNext 32 = .ok (.goto 4, 3) := dk_167 0 4 (dk_at dksJ23_hasNext_1 10 rfl rfl)
theorem dJ23_hasNext_35 : decode cJ23_hasNext 35 = .ok (.iconst 0, 1) := dk_3 (dk_at dksJ23_hasNext_1 13 rfl rfl)
theorem dJ23_hasNext_36 : decode cJ23_hasNext 36 = .ok (.ireturn, 1) := dk_172 (dk_at dksJ23_hasNext_1 14 rfl rfl)
def dkwJ23_next_4 : List UInt8 := [180, 0, 52, 176, 187, 0, 56, 89, 183, 0, 58, 191]
abbrev dktJ23_next_4 : List UInt8 := dkwJ23_next_4 ++ []
def dkwJ23_next_3 : List UInt8 := [181, 0, 13, 42, 42, 180, 0, 31, 182, 0, 48, 181, 0, 52, 42, 180, 0, 52, 198, 0, 8, 42]
abbrev dktJ23_next_3 : List UInt8 := dkwJ23_next_3 ++ dktJ23_next_4
def dkwJ23_next_2 : List UInt8 := [180, 0, 25, 90, 4, 96, 181, 0, 25, 90, 181, 0, 13, 50, 176, 42, 180, 0, 31, 198, 0, 31, 42, 2]
abbrev dktJ23_next_2 : List UInt8 := dkwJ23_next_2 ++ dktJ23_next_3
def dkwJ23_next_1 : List UInt8 := [180, 0, 25, 42, 180, 0, 1, 180, 0, 28, 162, 0, 28, 42, 180, 0, 1, 180, 0, 44, 42, 42, 89]
abbrev dktJ23_next_1 : List UInt8 := dkwJ23_next_1 ++ dktJ23_next_2
def dkwJ23_next_0 : List UInt8 := [42, 180, 0, 22, 42, 180, 0, 1, 180, 0, 17, 159, 0, 11, 187, 0, 41, 89, 183, 0, 43, 191, 42]
abbrev dktJ23_next_0 : List UInt8 := dkwJ23_next_0 ++ dktJ23_next_1
theorem dksJ23_next_0 : cJ23_next.data.toList.drop 0 = dktJ23_next_0 := by decide +kernel
theorem dksJ23_next_1 : cJ23_next.data.toList.drop 23 = dktJ23_next_1 := dk_seg dksJ23_next_0 23 rfl rfl
theorem dksJ23_next_2 : cJ23_next.data.toList.drop 46 = dktJ23_next_2 := dk_seg dksJ23_next_1 23 rfl rfl
theorem dksJ23_next_3 : cJ23_next.data.toList.drop 70 = dktJ23_next_3 := dk_seg dksJ23_next_2 24 rfl rfl
theorem dksJ23_next_4 : cJ23_next.data.toList.drop 92 = dktJ23_next_4 := dk_seg dksJ23_next_3 22 rfl rfl
theorem dJ23_next_0 : decode cJ23_next 0 = .ok (.aload_n 0, 1) := dk_42 (dk_at dksJ23_next_0 0 rfl rfl)
theorem dJ23_next_1 : decode cJ23_next 1 = .ok (.getfield 22, 3) := dk_180 0 22 (dk_at dksJ23_next_0 1 rfl rfl)
theorem dJ23_next_4 : decode cJ23_next 4 = .ok (.aload_n 0, 1) := dk_42 (dk_at dksJ23_next_0 4 rfl rfl)
theorem dJ23_next_5 : decode cJ23_next 5 = .ok (.getfield 1, 3) := dk_180 0 1 (dk_at dksJ23_next_0 5 rfl rfl)
theorem dJ23_next_8 : decode cJ23_next 8 = .ok (.getfield 17, 3) := dk_180 0 17 (dk_at dksJ23_next_0 8 rfl rfl)
theorem dJ23_next_11 : decode cJ23_next 11 = .ok (.if_icmp .eq 11, 3) := dk_159 0 11 (dk_at dksJ23_next_0 11 rfl rfl)
theorem dJ23_next_22 : decode cJ23_next 22 = .ok (.aload_n 0, 1) := dk_42 (dk_at dksJ23_next_0 22 rfl rfl)
theorem dJ23_next_23 : decode cJ23_next 23 = .ok (.getfield 25, 3) := dk_180 0 25 (dk_at dksJ23_next_1 0 rfl rfl)
theorem dJ23_next_26 : decode cJ23_next 26 = .ok (.aload_n 0, 1) := dk_42 (dk_at dksJ23_next_1 3 rfl rfl)
theorem dJ23_next_27 : decode cJ23_next 27 = .ok (.getfield 1, 3) := dk_180 0 1 (dk_at dksJ23_next_1 4 rfl rfl)
theorem dJ23_next_30 : decode cJ23_next 30 = .ok (.getfield 28, 3) := dk_180 0 28 (dk_at dksJ23_next_1 7 rfl rfl)
theorem dJ23_next_33 : decode cJ23_next 33 = .ok (.if_icmp .ge 28, 3) := dk_162 0 28 (dk_at dksJ23_next_1 10 rfl rfl)
theorem dJ23_next_36 : decode cJ23_next 36 = .ok (.aload_n 0, 1) := dk_42 (dk_at dksJ23_next_1 13 rfl rfl)
theorem dJ23_next_37 : decode cJ23_next 37 = .ok (.getfield 1, 3) := dk_180 0 1 (dk_at dksJ23_next_1 14 rfl rfl)
theorem dJ23_next_40 : decode cJ23_next 40 = .ok (.getfield 44, 3) := dk_180 0 44 (dk_at dksJ23_next_1 17 rfl rfl)
theorem dJ23_next_43 : decode cJ23_next 43 = .ok (.aload_n 0, 1) := dk_42 (dk_at dksJ23_next_1 20 rfl rfl)
theorem dJ23_next_44 : decode cJ23_next 44 = .ok (.aload_n 0, 1) := dk_42 (dk_at dksJ23_next_1 21 rfl rfl)
theorem dJ23_next_45 : decode cJ23_next 45 = .ok (.dup, 1) := dk_89 (dk_at dksJ23_next_1 22 rfl rfl)
theorem dJ23_next_46 : decode cJ23_next 46 = .ok (.getfield 25, 3) := dk_180 0 25 (dk_at dksJ23_next_2 0 rfl rfl)
theorem dJ23_next_49 : decode cJ23_next 49 = .ok (.dup_x1, 1) := dk_90 (dk_at dksJ23_next_2 3 rfl rfl)
theorem dJ23_next_50 : decode cJ23_next 50 = .ok (.iconst 1, 1) := dk_4 (dk_at dksJ23_next_2 4 rfl rfl)
theorem dJ23_next_51 : decode cJ23_next 51 = .ok (.iadd, 1) := dk_96 (dk_at dksJ23_next_2 5 rfl rfl)
theorem dJ23_next_52 : decode cJ23_next 52 = .ok (.putfield 25, 3) := dk_181 0 25 (dk_at dksJ23_next_2 6 rfl rfl)
theorem dJ23_next_55 : decode cJ23_next 55 = .ok (.dup_x1, 1) := dk_90 (dk_at dksJ23_next_2 9 rfl rfl)
theorem dJ23_next_56 : decode cJ23_next 56 = .ok (.putfield 13, 3) := dk_181 0 13 (dk_at dksJ23_next_2 10 rfl rfl)
theorem dJ23_next_59 : decode cJ23_next 59 = .ok (.aaload, 1) := dk_50 (dk_at dksJ23_next_2 13 rfl rfl)
theorem dJ23_next_60 : decode cJ23_next 60 = .ok (.areturn, 1) := dk_176 (dk_at dksJ23_next_2 14 rfl rfl)
theorem dJ23_next_61 : decode cJ23_next 61 = .ok (.aload_n 0, 1) := dk_42 (dk_at dksJ23_next_2 15 rfl rfl)
theorem dJ23_next_62 : decode cJ23_next 62 = .ok (.getfield 31, 3) := dk_180 0 31 (dk_at dksJ23_next_2 16 rfl rfl)
theorem dJ23_next_65 : decode cJ23_next 65 = .ok (.ifnull 31, 3) := dk_198 0 31 (dk_at dksJ23_next_2 19 rfl rfl)
theorem dJ23_next_68 : decode cJ23_next 68 = .ok (.aload_n 0, 1) := dk_42 (dk_at dksJ23_next_2 22 rfl rfl)
theorem dJ23_next_69 : decode cJ23_next 69 = .ok (.iconst (-1), 1) := dk_2 (dk_at dksJ23_next_2 23 rfl rfl)
theorem dJ23_next_70 : decode cJ23_next 70 = .ok (.putfield 13, 3) := dk_181 0 13 (dk_at dksJ23_next_3 0 rfl rfl)
theorem dJ23_next_73 : decode cJ23_next 73 = .ok (.aload_n 0, 1) := dk_42 (dk_at dksJ23_next_3 3 rfl rfl)
theorem dJ23_next_74 : decode cJ23_next 74 = .ok (.aload_n 0, 1) := dk_42 (dk_at dksJ23_next_3 4 rfl rfl)
theorem dJ23_next_75 : decode cJ23_next 75 = .ok (.getfield 31, 3) := dk_180 0 31 (dk_at dksJ23_next_3 5 rfl rfl)
theorem dJ23_next_78 : decode cJ23_next 78 = .ok (.invokevirtual 48, 3) := dk_182 0 48 (dk_at dksJ23_next_3 8 rfl rfl)
theorem dJ23_next_81 : decode cJ23_next 81 = .ok (.putfield 52, 3) := dk_181 0 52 (dk_at dksJ23_next_3 11 rfl rfl)
theorem dJ23_next_84 : decode cJ23_next 84 = .ok (.aload_n 0, 1) := dk_42 (dk_at dksJ23_next_3 14 rfl rfl)
theorem dJ23_next_85 : decode cJ23_next 85 = .ok (.getfield 52, 3) := dk_180 0 52 (dk_at dksJ23_next_3 15 rfl rfl)
theorem dJ23_next_88 : decode cJ23_next 88 = .ok (.ifnull 8, 3) := dk_198 0 8 (dk_at dksJ23_next_3 18 rfl rfl)
theorem dJ23_next_91 : decode cJ23_next 91 = .ok (.aload_n 0, 1) := dk_42 (dk_at dksJ23_next_3 21 rfl rfl)
theorem dJ23_next_92 : decode cJ23_next 92 = .ok (.getfield 52, 3) := dk_180 0 52 (dk_at dksJ23_next_4 0 rfl rfl)
theorem dJ23_next_95 : decode cJ23_next 95 = .ok (.areturn, 1) := dk_176 (dk_at dksJ23_next_4 3 rfl rfl)
def dkwJ23_init_1 : List UInt8 := [181, 0, 22, 177]
abbrev dktJ23_init_1 : List UInt8 := dkwJ23_init_1 ++ []
def dkwJ23_init_0 : List UInt8 := [42, 43, 181, 0, 1, 42, 183, 0, 7, 42, 2, 181, 0, 13, 42, 42, 180, 0, 1, 180, 0, 17]
abbrev dktJ23_init_0 : List UInt8 := dkwJ23_init_0 ++ dktJ23_init_1
theorem dksJ23_init_0 : cJ23_init.data.toList.drop 0 = dktJ23_init_0 := by decide +kernel
theorem dksJ23_init_1 : cJ23_init.data.toList.drop 22 = dktJ23_init_1 := dk_seg dksJ23_init_0 22 rfl rfl
theorem dJ23_init_0 : decode cJ23_init 0 = .ok (.aload_n 0, 1) := dk_42 (dk_at dksJ23_init_0 0 rfl rfl)
theorem dJ23_init_1 : decode cJ23_init 1 = .ok (.aload_n 1, 1) := dk_43 (dk_at dksJ23_init_0 1 rfl rfl)
theorem dJ23_init_2 : decode cJ23_init 2 = .ok (.putfield 1, 3) := dk_181 0 1 (dk_at dksJ23_init_0 2 rfl rfl)
theorem dJ23_init_5 : decode cJ23_init 5 = .ok (.aload_n 0, 1) := dk_42 (dk_at dksJ23_init_0 5 rfl rfl)
theorem dJ23_init_6 : decode cJ23_init 6 = .ok (.invokespecial 7, 3) := dk_183 0 7 (dk_at dksJ23_init_0 6 rfl rfl)
theorem dJ23_init_9 : decode cJ23_init 9 = .ok (.aload_n 0, 1) := dk_42 (dk_at dksJ23_init_0 9 rfl rfl)
theorem dJ23_init_10 : decode cJ23_init 10 = .ok (.iconst (-1), 1) := dk_2 (dk_at dksJ23_init_0 10 rfl rfl)
theorem dJ23_init_11 : decode cJ23_init 11 = .ok (.putfield 13, 3) := dk_181 0 13 (dk_at dksJ23_init_0 11 rfl rfl)
theorem dJ23_init_14 : decode cJ23_init 14 = .ok (.aload_n 0, 1) := dk_42 (dk_at dksJ23_init_0 14 rfl rfl)
theorem dJ23_init_15 : decode cJ23_init 15 = .ok (.aload_n 0, 1) := dk_42 (dk_at dksJ23_init_0 15 rfl rfl)
theorem dJ23_init_16 : decode cJ23_init 16 = .ok (.getfield 1, 3) := dk_180 0 1 (dk_at dksJ23_init_0 16 rfl rfl)
theorem dJ23_init_19 : decode cJ23_init 19 = .ok (.getfield 17, 3) := dk_180 0 17 (dk_at dksJ23_init_0 19 rfl rfl)
theorem dJ23_init_22 : decode cJ23_init 22 = .ok (.putfield 22, 3) := dk_181 0 22 (dk_at dksJ23_init_1 0 rfl rfl)
theorem dJ23_init_25 : decode cJ23_init 25 = .ok (.return_, 1) := dk_177 (dk_at dksJ23_init_1 3 rfl rfl)
theorem dJ24_init_0 : decode cJ24_init 0 = .ok (.aload_n 0, 1) := by decide +kernel
theorem dJ24_init_1 : decode cJ24_init 1 = .ok (.invokespecial 1, 3) := by decide +kernel
theorem dJ24_init_4 : decode cJ24_init 4 = .ok (.return_, 1) := by decide +kernel
def dkwJ25_compareTo_0 : List UInt8 := [42, 43, 192, 0, 1, 182, 1, 28, 172]
abbrev dktJ25_compareTo_0 : List UInt8 := dkwJ25_compareTo_0 ++ []
theorem dksJ25_compareTo_0 : cJ25_compareTo.data.toList.drop 0 = dktJ25_compareTo_0 := by decide +kernel
theorem dJ25_compareTo_0 : decode cJ25_compareTo 0 = .ok (.aload_n 0, 1) := dk_42 (dk_at dksJ25_compareTo_0 0 rfl rfl)
theorem dJ25_compareTo_1 : decode cJ25_compareTo 1 = .ok (.aload_n 1, 1) := dk_43 (dk_at dksJ25_compareTo_0 1 rfl rfl)
theorem dJ25_compareTo_2 : decode cJ25_compareTo 2 = .ok (.checkcast 1, 3) := dk_192 0 1 (dk_at dksJ25_compareTo_0 2 rfl rfl)
theorem dJ25_compareTo_5 : decode cJ25_compareTo 5 = .ok (.invokevirtual 284, 3) := dk_182 1 28 (dk_at dksJ25_compareTo_0 5 rfl rfl)
theorem dJ25_compareTo_8 : decode cJ25_compareTo 8 = .ok (.ireturn, 1) := dk_172 (dk_at dksJ25_compareTo_0 8 rfl rfl)
def dkwJ25_compareTo_2_0 : List UInt8 := [42, 180, 0, 205, 43, 180, 0, 205, 184, 1, 3, 172]
abbrev dktJ25_compareTo_2_0 : List UInt8 := dkwJ25_compareTo_2_0 ++ []
theorem dksJ25_compareTo_2_0 : cJ25_compareTo_2.data.toList.drop 0 = dktJ25_compareTo_2_0 := by decide +kernel
theorem dJ25_compareTo_2_0 : decode cJ25_compareTo_2 0 = .ok (.aload_n 0, 1) := dk_42 (dk_at dksJ25_compareTo_2_0 0 rfl rfl)
theorem dJ25_compareTo_2_1 : decode cJ25_compareTo_2 1 = .ok (.getfield 205, 3) := dk_180 0 205 (dk_at dksJ25_compareTo_2_0 1 rfl rfl)
theorem dJ25_compareTo_2_4 : decode cJ25_compareTo_2 4 = .ok (.aload_n 1, 1) := dk_43 (dk_at dksJ25_compareTo_2_0 4 rfl rfl)
theorem dJ25_compareTo_2_5 : decode cJ25_compareTo_2 5 = .ok (.getfield 205, 3) := dk_180 0 205 (dk_at dksJ25_compareTo_2_0 5 rfl rfl)
theorem dJ25_compareTo_2_8 : decode cJ25_compareTo_2 8 = .ok (.invokestatic 259, 3) := dk_184 1 3 (dk_at dksJ25_compareTo_2_0 8 rfl rfl)
theorem dJ25_compareTo_2_11 : decode cJ25_compareTo_2 11 = .ok (.ireturn, 1) := dk_172 (dk_at dksJ25_compareTo_2_0 11 rfl rfl)
def dkwJ25_compare_0 : List UInt8 := [26, 27, 162, 0, 7, 2, 167, 0, 13, 26, 27, 160, 0, 7, 3, 167, 0, 4, 4, 172]
abbrev dktJ25_compare_0 : List UInt8 := dkwJ25_compare_0 ++ []
theorem dksJ25_compare_0 : cJ25_compare.data.toList.drop 0 = dktJ25_compare_0 := by decide +kernel
theorem dJ25_compare_0 : decode cJ25_compare 0 = .ok (.iload_n 0, 1) := dk_26 (dk_at dksJ25_compare_0 0 rfl rfl)
theorem dJ25_compare_1 : decode cJ25_compare 1 = .ok (.iload_n 1, 1) := dk_27 (dk_at dksJ25_compare_0 1 rfl rfl)
theorem dJ25_compare_2 : decode cJ25_compare 2 = .ok (.if_icmp .ge 7, 3) := dk_162 0 7 (dk_at dksJ25_compare_0 2 rfl rfl)
theorem dJ25_compare_5 : decode cJ25_compare 5 = .ok (.iconst (-1), 1) := dk_2 (dk_at dksJ25_compare_0 5 rfl rfl)
theorem dJ25_compare_6 : decode cJ25_compare 6 = .ok (.goto 13, 3) := dk_167 0 13 (dk_at dksJ25_compare_0 6 rfl rfl)
theorem dJ25_compare_9 : decode cJ25_compare 9 = .ok (.iload_n 0, 1) := dk_26 (dk_at dksJ25_compare_0 9 rfl rfl)
theorem dJ25_compare_10 : decode cJ25_compare 10 = .ok (.iload_n 1, 1) := dk_27 (dk_at dksJ25_compare_0 10 rfl rfl)
theorem dJ25_compare_11 : decode cJ25_compare 11 = .ok (.if_icmp .ne 7, 3) := dk_160 0 7 (dk_at dksJ25_compare_0 11 rfl rfl)
theorem dJ25_compare_14 : decode cJ25_compare 14 = .ok (.iconst 0, 1) := dk_3 (dk_at dksJ25_compare_0 14 rfl rfl)
theorem dJ25_compare_15 : decode cJ25_compare 15 = .ok (.goto 4, 3) := dk_167 0 4 (dk_at dksJ25_compare_0 15 rfl rfl)
theorem dJ25_compare_18 : decode cJ25_compare 18 = .ok (.iconst 1, 1) := dk_4 (dk_at dksJ25_compare_0 18 rfl rfl)
theorem dJ25_compare_19 : decode cJ25_compare 19 = .ok (.ireturn, 1) := dk_172 (dk_at dksJ25_compare_0 19 rfl rfl)
def dkwJ25_numberOfTrailingZeros_3 : List UInt8 := [5, 124, 59, 27, 26, 4, 124, 96, 172]
abbrev dktJ25_numberOfTrailingZeros_3 : List UInt8 := dkwJ25_numberOfTrailingZeros_3 ++ []
def dkwJ25_numberOfTrailingZeros_2 : List UInt8 := [124, 59, 26, 16, 16, 164, 0, 10, 132, 1, 4, 26, 7, 124, 59, 26, 7, 164, 0, 10, 132, 1, 2, 26]
abbrev dktJ25_numberOfTrailingZeros_2 : List UInt8 := dkwJ25_numberOfTrailingZeros_2 ++ dktJ25_numberOfTrailingZeros_3
def dkwJ25_numberOfTrailingZeros_1 : List UInt8 := [164, 0, 11, 132, 1, 16, 26, 16, 16, 124, 59, 26, 17, 1, 0, 164, 0, 11, 132, 1, 8, 26, 16, 8]
abbrev dktJ25_numberOfTrailingZeros_1 : List UInt8 := dkwJ25_numberOfTrailingZeros_1 ++ dktJ25_numberOfTrailingZeros_2
def dkwJ25_numberOfTrailingZeros_0 : List UInt8 := [26, 2, 130, 26, 4, 100, 126, 59, 26, 157, 0, 8, 26, 16, 32, 126, 172, 4, 60, 26, 19, 1, 8]
abbrev dktJ25_numberOfTrailingZeros_0 : List UInt8 := dkwJ25_numberOfTrailingZeros_0 ++ dktJ25_numberOfTrailingZeros_1
theorem dksJ25_numberOfTrailingZeros_0 : cJ25_numberOfTrailingZeros.data.toList.drop 0 = dktJ25_numberOfTrailingZeros_0 := by decide +kernel
theorem dksJ25_numberOfTrailingZeros_1 : cJ25_numberOfTrailingZeros.data.toList.drop 23 = dktJ25_numberOfTrailingZeros_1 := dk_seg dksJ25_numberOfTrailingZeros_0 23 rfl rfl
theorem dksJ25_numberOfTrailingZeros_2 : cJ25_numberOfTrailingZeros.data.toList.drop 47 = dktJ25_numberOfTrailingZeros_2 := dk_seg dksJ25_numberOfTrailingZeros_1 24 rfl rfl
theorem dksJ25_numberOfTrailingZeros_3 : cJ25_numberOfTrailingZeros.data.toList.drop 71 = dktJ25_numberOfTrailingZeros_3 := dk_seg dksJ25_numberOfTrailingZeros_2 24 rfl rfl
theorem dJ25_numberOfTrailingZeros_0 : decode cJ25_numberOfTrailingZeros 0 = .ok (.iload_n 0, 1) := dk_26 (dk_at dksJ25_numberOfTrailingZeros_0 0 rfl rfl)
theorem dJ25_numberOfTrailingZeros_1 : decode cJ25_numberOfTrailingZeros 1 = .ok (.iconst (-1), 1) := dk_2 (dk_at dksJ25_numberOfTrailingZeros_0 1 rfl rfl)
theorem dJ25_numberOfTrailingZeros_2 : decode cJ25_numberOfTrailingZeros 2 = .ok (.ixor, 1) := dk_130 (dk_at dksJ25_numberOfTrailingZeros_0 2 rfl rfl)
theorem dJ25_numberOfTrailingZeros_3 : decode cJ25_numberOfTrailingZeros 3 = .ok (.iload_n 0, 1) := dk_26 (dk_at dksJ25_numberOfTrailingZeros_0 3 rfl rfl)
theorem dJ25_numberOfTrailingZeros_4 : decode cJ25_numberOfTrailingZeros 4 = .ok (.iconst 1, 1) := dk_4 (dk_at dksJ25_numberOfTrailingZeros_0 4 rfl rfl)
theorem dJ25_numberOfTrailingZeros_5 : decode cJ25_numberOfTrailingZeros 5 = .ok (.isub, 1) := dk_100 (dk_at dksJ25_numberOfTrailingZeros_0 5 rfl rfl)
theorem dJ25_numberOfTrailingZeros_6 : decode cJ25_numberOfTrailingZeros 6 = .ok (.iand, 1) := dk_126 (dk_at dksJ25_numberOfTrailingZeros_0 6 rfl rfl)
theorem dJ25_numberOfTrailingZeros_7 : decode cJ25_numberOfTrailingZeros 7 = .ok (.istore_n 0, 1) := dk_59 (dk_at dksJ25_numberOfTrailingZeros_0 7 rfl rfl)
theorem dJ25_numberOfTrailingZeros_8 : decode cJ25_numberOfTrailingZeros 8 = .ok (.iload_n 0, 1) := dk_26 (dk_at dksJ25_numberOfTrailingZeros_0 8 rfl rfl)
theorem dJ25_numberOfTrailingZeros_9 : decode cJ25_numberOfTrailingZeros 9 = .ok (.ifCond .gt 8, 3) := dk_157 0 8 (dk_at dksJ25_numberOfTrailingZeros_0 9 rfl rfl)
theorem dJ25_numberOfTrailingZeros_12 : decode cJ25_numberOfTrailingZeros 12 = .ok (.iload_n 0, 1) := dk_26 (dk_at dksJ25_numberOfTrailingZeros_0 12 rfl rfl)
theorem dJ25_numberOfTrailingZeros_13 : decode cJ25_numberOfTrailingZeros 13 = .ok (.bipush 32, 2) := dk_16 32 (dk_at dksJ25_numberOfTrailingZeros_0 13 rfl rfl)
theorem dJ25_numberOfTrailingZeros_15 : decode cJ25_numberOfTrailingZeros 15 = .ok (.iand, 1) := dk_126 (dk_at dksJ25_numberOfTrailingZeros_0 15 rfl rfl)
theorem dJ25_numberOfTrailingZeros_16 : decode cJ25_numberOfTrailingZeros 16 = .ok (.ireturn, 1) := dk_172 (dk_at dksJ25_numberOfTrailingZeros_0 16 rfl rfl)
theorem dJ25_numberOfTrailingZeros_17 : decode cJ25_numberOfTrailingZeros 17 = .ok (.iconst 1, 1) := dk_4 (dk_at dksJ25_numberOfTrailingZeros_0 17 rfl rfl)
theorem dJ25_numberOfTrailingZeros_18 : decode cJ25_numberOfTrailingZeros 18 = .ok (.istore_n 1, 1) := dk_60 (dk_at dksJ25_numberOfTrailingZeros_0 18 rfl rfl)
theorem dJ25_numberOfTrailingZeros_19 : decode cJ25_numberOfTrailingZeros 19 = .ok (.iload_n 0, 1) := dk_26 (dk_at dksJ25_numberOfTrailingZeros_0 19 rfl rfl)
theorem dJ25_numberOfTrailingZeros_20 : decode cJ25_numberOfTrailingZeros 20 = .ok (.ldc_w 264, 3) := dk_19 1 8 (dk_at dksJ25_numberOfTrailingZeros_0 20 rfl rfl)
theorem dJ25_numberOfTrailingZeros_23 : decode cJ25_numberOfTrailingZeros 23 = .ok (.if_icmp .le 11, 3) := dk_164 0 11 (dk_at dksJ25_numberOfTrailingZeros_1 0 rfl rfl)
theorem dJ25_numberOfTrailingZeros_26 : decode cJ25_numberOfTrailingZeros 26 = .ok (.iinc 1 16, 3) := dk_132 1 16 (dk_at dksJ25_numberOfTrailingZeros_1 3 rfl rfl)
theorem dJ25_numberOfTrailingZeros_29 : decode cJ25_numberOfTrailingZeros 29 = .ok (.iload_n 0, 1) := dk_26 (dk_at dksJ25_numberOfTrailingZeros_1 6 rfl rfl)
theorem dJ25_numberOfTrailingZeros_30 : decode cJ25_numberOfTrailingZeros 30 = .ok (.bipush 16, 2) := dk_16 16 (dk_at dksJ25_numberOfTrailingZeros_1 7 rfl rfl)
theorem dJ25_numberOfTrailingZeros_32 : decode cJ25_numberOfTrailingZeros 32 = .ok (.iushr, 1) := dk_124 (dk_at dksJ25_numberOfTrailingZeros_1 9 rfl rfl)
theorem dJ25_numberOfTrailingZeros_33 : decode cJ25_numberOfTrailingZeros 33 = .ok (.istore_n 0, 1) := dk_59 (dk_at dksJ25_numberOfTrailingZeros_1 10 rfl rfl)
theorem dJ25_numberOfTrailingZeros_34 : decode cJ25_numberOfTrailingZeros 34 = .ok (.iload_n 0, 1) := dk_26 (dk_at dksJ25_numberOfTrailingZeros_1 11 rfl rfl)
theorem dJ25_numberOfTrailingZeros_35 : decode cJ25_numberOfTrailingZeros 35 = .ok (.sipush 256, 3) := dk_17 1 0 (dk_at dksJ25_numberOfTrailingZeros_1 12 rfl rfl)
theorem dJ25_numberOfTrailingZeros_38 : decode cJ25_numberOfTrailingZeros 38 = .ok (.if_icmp .le 11, 3) := dk_164 0 11 (dk_at dksJ25_numberOfTrailingZeros_1 15 rfl rfl)
theorem dJ25_numberOfTrailingZeros_41 : decode cJ25_numberOfTrailingZeros 41 = .ok (.iinc 1 8, 3) := dk_132 1 8 (dk_at dksJ25_numberOfTrailingZeros_1 18 rfl rfl)
theorem dJ25_numberOfTrailingZeros_44 : decode cJ25_numberOfTrailingZeros 44 = .ok (.iload_n 0, 1) := dk_26 (dk_at dksJ25_numberOfTrailingZeros_1 21 rfl rfl)
theorem dJ25_numberOfTrailingZeros_45 : decode cJ25_numberOfTrailingZeros 45 = .ok (.bipush 8, 2) := dk_16 8 (dk_at dksJ25_numberOfTrailingZeros_1 22 rfl rfl)
theorem dJ25_numberOfTrailingZeros_47 : decode cJ25_numberOfTrailingZeros 47 = .ok (.iushr, 1) := dk_124 (dk_at dksJ25_numberOfTrailingZeros_2 0 rfl rfl)
theorem dJ25_numberOfTrailingZeros_48 : decode cJ25_numberOfTrailingZeros 48 = .ok (.istore_n 0, 1) := dk_59 (dk_at dksJ25_numberOfTrailingZeros_2 1 rfl rfl)
theorem dJ25_numberOfTrailingZeros_49 : decode cJ25_numberOfTrailingZeros 49 = .ok (.iload_n 0, 1) := dk_26 (dk_at dksJ25_numberOfTrailingZeros_2 2 rfl rfl)
theorem dJ25_numberOfTrailingZeros_50 : decode cJ25_numberOfTrailingZeros 50 = .ok (.bipush 16, 2) := dk_16 16 (dk_at dksJ25_numberOfTrailingZeros_2 3 rfl rfl)
theorem dJ25_numberOfTrailingZeros_52 : decode cJ25_numberOfTrailingZeros 52 = .ok (.if_icmp .le 10, 3) := dk_164 0 10 (dk_at dksJ25_numberOfTrailingZeros_2 5 rfl rfl)
theorem dJ25_numberOfTrailingZeros_55 : decode cJ25_numberOfTrailingZeros 55 = .ok (.iinc 1 4, 3) := dk_132 1 4 (dk_at dksJ25_numberOfTrailingZeros_2 8 rfl rfl)
theorem dJ25_numberOfTrailingZeros_58 : decode cJ25_numberOfTrailingZeros 58 = .ok (.iload_n 0, 1) := dk_26 (dk_at dksJ25_numberOfTrailingZeros_2 11 rfl rfl)
theorem dJ25_numberOfTrailingZeros_59 : decode cJ25_numberOfTrailingZeros 59 = .ok (.iconst 4, 1) := dk_7 (dk_at dksJ25_numberOfTrailingZeros_2 12 rfl rfl)
theorem dJ25_numberOfTrailingZeros_60 : decode cJ25_numberOfTrailingZeros 60 = .ok (.iushr, 1) := dk_124 (dk_at dksJ25_numberOfTrailingZeros_2 13 rfl rfl)
theorem dJ25_numberOfTrailingZeros_61 : decode cJ25_numberOfTrailingZeros 61 = .ok (.istore_n 0, 1) := dk_59 (dk_at dksJ25_numberOfTrailingZeros_2 14 rfl rfl)
theorem dJ25_numberOfTrailingZeros_62 : decode cJ25_numberOfTrailingZeros 62 = .ok (.iload_n 0, 1) := dk_26 (dk_at dksJ25_numberOfTrailingZeros_2 15 rfl rfl)
theorem dJ25_numberOfTrailingZeros_63 : decode cJ25_numberOfTrailingZeros 63 = .ok (.iconst 4, 1) := dk_7 (dk_at dksJ25_numberOfTrailingZeros_2 16 rfl rfl)
theorem dJ25_numberOfTrailingZeros_64 : decode cJ25_numberOfTrailingZeros 64 = .ok (.if_icmp .le 10, 3) := dk_164 0 10 (dk_at dksJ25_numberOfTrailingZeros_2 17 rfl rfl)
theorem dJ25_numberOfTrailingZeros_67 : decode cJ25_numberOfTrailingZeros 67 = .ok (.iinc 1 2, 3) := dk_132 1 2 (dk_at dksJ25_numberOfTrailingZeros_2 20 rfl rfl)
theorem dJ25_numberOfTrailingZeros_70 : decode cJ25_numberOfTrailingZeros 70 = .ok (.iload_n 0, 1) := dk_26 (dk_at dksJ25_numberOfTrailingZeros_2 23 rfl rfl)
theorem dJ25_numberOfTrailingZeros_71 : decode cJ25_numberOfTrailingZeros 71 = .ok (.iconst 2, 1) := dk_5 (dk_at dksJ25_numberOfTrailingZeros_3 0 rfl rfl)
theorem dJ25_numberOfTrailingZeros_72 : decode cJ25_numberOfTrailingZeros 72 = .ok (.iushr, 1) := dk_124 (dk_at dksJ25_numberOfTrailingZeros_3 1 rfl rfl)
theorem dJ25_numberOfTrailingZeros_73 : decode cJ25_numberOfTrailingZeros 73 = .ok (.istore_n 0, 1) := dk_59 (dk_at dksJ25_numberOfTrailingZeros_3 2 rfl rfl)
theorem dJ25_numberOfTrailingZeros_74 : decode cJ25_numberOfTrailingZeros 74 = .ok (.iload_n 1, 1) := dk_27 (dk_at dksJ25_numberOfTrailingZeros_3 3 rfl rfl)
theorem dJ25_numberOfTrailingZeros_75 : decode cJ25_numberOfTrailingZeros 75 = .ok (.iload_n 0, 1) := dk_26 (dk_at dksJ25_numberOfTrailingZeros_3 4 rfl rfl)
theorem dJ25_numberOfTrailingZeros_76 : decode cJ25_numberOfTrailingZeros 76 = .ok (.iconst 1, 1) := dk_4 (dk_at dksJ25_numberOfTrailingZeros_3 5 rfl rfl)
theorem dJ25_numberOfTrailingZeros_77 : decode cJ25_numberOfTrailingZeros 77 = .ok (.iushr, 1) := dk_124 (dk_at dksJ25_numberOfTrailingZeros_3 6 rfl rfl)
theorem dJ25_numberOfTrailingZeros_78 : decode cJ25_numberOfTrailingZeros 78 = .ok (.iadd, 1) := dk_96 (dk_at dksJ25_numberOfTrailingZeros_3 7 rfl rfl)
theorem dJ25_numberOfTrailingZeros_79 : decode cJ25_numberOfTrailingZeros 79 = .ok (.ireturn, 1) := dk_172 (dk_at dksJ25_numberOfTrailingZeros_3 8 rfl rfl)
theorem dJ25_intValue_0 : decode cJ25_intValue 0 = .ok (.aload_n 0, 1) := by decide +kernel
theorem dJ25_intValue_1 : decode cJ25_intValue 1 = .ok (.getfield 205, 3) := by decide +kernel
theorem dJ25_intValue_4 : decode cJ25_intValue 4 = .ok (.ireturn, 1) := by decide +kernel
def dkwJ25_valueOf_1 : List UInt8 := [187, 0, 1, 89, 26, 183, 0, 199, 176]
abbrev dktJ25_valueOf_1 : List UInt8 := dkwJ25_valueOf_1 ++ []
def dkwJ25_valueOf_0 : List UInt8 := [26, 16, 128, 161, 0, 20, 26, 178, 0, 191, 163, 0, 13, 178, 0, 195, 26, 17, 0, 128, 96, 50, 176]
abbrev dktJ25_valueOf_0 : List UInt8 := dkwJ25_valueOf_0 ++ dktJ25_valueOf_1
theorem dksJ25_valueOf_0 : cJ25_valueOf.data.toList.drop 0 = dktJ25_valueOf_0 := by decide +kernel
theorem dksJ25_valueOf_1 : cJ25_valueOf.data.toList.drop 23 = dktJ25_valueOf_1 := dk_seg dksJ25_valueOf_0 23 rfl rfl
theorem dJ25_valueOf_0 : decode cJ25_valueOf 0 = .ok (.iload_n 0, 1) := dk_26 (dk_at dksJ25_valueOf_0 0 rfl rfl)
theorem dJ25_valueOf_1 : decode cJ25_valueOf 1 = .ok (.bipush (-128), 2) := dk_16 128 (dk_at dksJ25_valueOf_0 1 rfl rfl)
theorem dJ25_valueOf_3 : decode cJ25_valueOf 3 = .ok (.if_icmp .lt 20, 3) := dk_161 0 20 (dk_at dksJ25_valueOf_0 3 rfl rfl)
theorem dJ25_valueOf_6 : decode cJ25_valueOf 6 = .ok (.iload_n 0, 1) := dk_26 (dk_at dksJ25_valueOf_0 6 rfl rfl)
theorem dJ25_valueOf_7 : decode cJ25_valueOf 7 = .ok (.getstatic 191, 3) := dk_178 0 191 (dk_at dksJ25_valueOf_0 7 rfl rfl)
theorem dJ25_valueOf_10 : decode cJ25_valueOf 10 = .ok (.if_icmp .gt 13, 3) := dk_163 0 13 (dk_at dksJ25_valueOf_0 10 rfl rfl)
theorem dJ25_valueOf_13 : decode cJ25_valueOf 13 = .ok (.getstatic 195, 3) := dk_178 0 195 (dk_at dksJ25_valueOf_0 13 rfl rfl)
theorem dJ25_valueOf_16 : decode cJ25_valueOf 16 = .ok (.iload_n 0, 1) := dk_26 (dk_at dksJ25_valueOf_0 16 rfl rfl)
theorem dJ25_valueOf_17 : decode cJ25_valueOf 17 = .ok (.sipush 128, 3) := dk_17 0 128 (dk_at dksJ25_valueOf_0 17 rfl rfl)
theorem dJ25_valueOf_20 : decode cJ25_valueOf 20 = .ok (.iadd, 1) := dk_96 (dk_at dksJ25_valueOf_0 20 rfl rfl)
theorem dJ25_valueOf_21 : decode cJ25_valueOf 21 = .ok (.aaload, 1) := dk_50 (dk_at dksJ25_valueOf_0 21 rfl rfl)
theorem dJ25_valueOf_22 : decode cJ25_valueOf 22 = .ok (.areturn, 1) := dk_176 (dk_at dksJ25_valueOf_0 22 rfl rfl)
theorem dJ25_valueOf_23 : decode cJ25_valueOf 23 = .ok (.new 1, 3) := dk_187 0 1 (dk_at dksJ25_valueOf_1 0 rfl rfl)
theorem dJ25_valueOf_26 : decode cJ25_valueOf 26 = .ok (.dup, 1) := dk_89 (dk_at dksJ25_valueOf_1 3 rfl rfl)
theorem dJ25_valueOf_27 : decode cJ25_valueOf 27 = .ok (.iload_n 0, 1) := dk_26 (dk_at dksJ25_valueOf_1 4 rfl rfl)
theorem dJ25_valueOf_28 : decode cJ25_valueOf 28 = .ok (.invokespecial 199, 3) := dk_183 0 199 (dk_at dksJ25_valueOf_1 5 rfl rfl)
theorem dJ25_valueOf_31 : decode cJ25_valueOf 31 = .ok (.areturn, 1) := dk_176 (dk_at dksJ25_valueOf_1 8 rfl rfl)
def dkwJ25_init_0 : List UInt8 := [42, 183, 0, 202, 42, 27, 181, 0, 205, 177]
abbrev dktJ25_init_0 : List UInt8 := dkwJ25_init_0 ++ []
theorem dksJ25_init_0 : cJ25_init.data.toList.drop 0 = dktJ25_init_0 := by decide +kernel
theorem dJ25_init_0 : decode cJ25_init 0 = .ok (.aload_n 0, 1) := dk_42 (dk_at dksJ25_init_0 0 rfl rfl)
theorem dJ25_init_1 : decode cJ25_init 1 = .ok (.invokespecial 202, 3) := dk_183 0 202 (dk_at dksJ25_init_0 1 rfl rfl)
theorem dJ25_init_4 : decode cJ25_init 4 = .ok (.aload_n 0, 1) := dk_42 (dk_at dksJ25_init_0 4 rfl rfl)
theorem dJ25_init_5 : decode cJ25_init 5 = .ok (.iload_n 1, 1) := dk_27 (dk_at dksJ25_init_0 5 rfl rfl)
theorem dJ25_init_6 : decode cJ25_init 6 = .ok (.putfield 205, 3) := dk_181 0 205 (dk_at dksJ25_init_0 6 rfl rfl)
theorem dJ25_init_9 : decode cJ25_init 9 = .ok (.return_, 1) := dk_177 (dk_at dksJ25_init_0 9 rfl rfl)
def dkwJ25_stringSize_1 : List UInt8 := [164, 0, 7, 29, 27, 96, 172, 16, 10, 28, 104, 61, 132, 3, 1, 167, 255, 233, 16, 10, 27, 96, 172]
abbrev dktJ25_stringSize_1 : List UInt8 := dkwJ25_stringSize_1 ++ []
def dkwJ25_stringSize_0 : List UInt8 := [4, 60, 26, 155, 0, 8, 3, 60, 26, 116, 59, 16, 246, 61, 4, 62, 29, 16, 10, 162, 0, 23, 26, 28]
abbrev dktJ25_stringSize_0 : List UInt8 := dkwJ25_stringSize_0 ++ dktJ25_stringSize_1
theorem dksJ25_stringSize_0 : cJ25_stringSize.data.toList.drop 0 = dktJ25_stringSize_0 := by decide +kernel
theorem dksJ25_stringSize_1 : cJ25_stringSize.data.toList.drop 24 = dktJ25_stringSize_1 := dk_seg dksJ25_stringSize_0 24 rfl rfl
theorem dJ25_stringSize_0 : decode cJ25_stringSize 0 = .ok (.iconst 1, 1) := dk_4 (dk_at dksJ25_stringSize_0 0 rfl rfl)
theorem dJ25_stringSize_1 : decode cJ25_stringSize 1 = .ok (.istore_n 1, 1) := dk_60 (dk_at dksJ25_stringSize_0 1 rfl rfl)
theorem dJ25_stringSize_2 : decode cJ25_stringSize 2 = .ok (.iload_n 0, 1) := dk_26 (dk_at dksJ25_stringSize_0 2 rfl rfl)
theorem dJ25_stringSize_3 : decode cJ25_stringSize 3 = .ok (.ifCond .lt 8, 3) := dk_155 0 8 (dk_at dksJ25_stringSize_0 3 rfl rfl)
theorem dJ25_stringSize_6 : decode cJ25_stringSize 6 = .ok (.iconst 0, 1) := dk_3 (dk_at dksJ25_stringSize_0 6 rfl rfl)
theorem dJ25_stringSize_7 : decode cJ25_stringSize 7 = .ok (.istore_n 1, 1) := dk_60 (dk_at dksJ25_stringSize_0 7 rfl rfl)
theorem dJ25_stringSize_8 : decode cJ25_stringSize 8 = .ok (.iload_n 0, 1) := dk_26 (dk_at dksJ25_stringSize_0 8 rfl rfl)
theorem dJ25_stringSize_9 : decode cJ25_stringSize 9 = .ok (.ineg, 1) := dk_116 (dk_at dksJ25_stringSize_0 9 rfl rfl)
theorem dJ25_stringSize_10 : decode cJ25_stringSize 10 = .ok (.istore_n 0, 1) := dk_59 (dk_at dksJ25_stringSize_0 10 rfl rfl)
theorem dJ25_stringSize_11 : decode cJ25_stringSize 11 = .ok (.bipush (-10), 2) := dk_16 246 (dk_at dksJ25_stringSize_0 11 rfl rfl)
theorem dJ25_stringSize_13 : decode cJ25_stringSize 13 = .ok (.istore_n 2, 1) := dk_61 (dk_at dksJ25_stringSize_0 13 rfl rfl)
theorem dJ25_stringSize_14 : decode cJ25_stringSize 14 = .ok (.iconst 1, 1) := dk_4 (dk_at dksJ25_stringSize_0 14 rfl rfl)
theorem dJ25_stringSize_15 : decode cJ25_stringSize 15 = .ok (.istore_n 3, 1) := dk_62 (dk_at dksJ25_stringSize_0 15 rfl rfl)
theorem dJ25_stringSize_16 : decode cJ25_stringSize 16 = .ok (.iload_n 3, 1) := dk_29 (dk_at dksJ25_stringSize_0 16 rfl rfl)
theorem dJ25_stringSize_17 : decode cJ25_stringSize 17 = .ok (.bipush 10, 2) := dk_16 10 (dk_at dksJ25_stringSize_0 17 rfl rfl)
theorem dJ25_stringSize_19 : decode cJ25_stringSize 19 = .ok (.if_icmp .ge 23, 3) := dk_162 0 23 (dk_at dksJ25_stringSize_0 19 rfl rfl)
theorem dJ25_stringSize_22 : decode cJ25_stringSize 22 = .ok (.iload_n 0, 1) := dk_26 (dk_at dksJ25_stringSize_0 22 rfl rfl)
theorem dJ25_stringSize_23 : decode cJ25_stringSize 23 = .ok (.iload_n 2, 1) := dk_28 (dk_at dksJ25_stringSize_0 23 rfl rfl)
theorem dJ25_stringSize_24 : decode cJ25_stringSize 24 = .ok (.if_icmp .le 7, 3) := dk_164 0 7 (dk_at dksJ25_stringSize_1 0 rfl rfl)
theorem dJ25_stringSize_27 : decode cJ25_stringSize 27 = .ok (.iload_n 3, 1) := dk_29 (dk_at dksJ25_stringSize_1 3 rfl rfl)
theorem dJ25_stringSize_28 : decode cJ25_stringSize 28 = .ok (.iload_n 1, 1) := dk_27 (dk_at dksJ25_stringSize_1 4 rfl rfl)
theorem dJ25_stringSize_29 : decode cJ25_stringSize 29 = .ok (.iadd, 1) := dk_96 (dk_at dksJ25_stringSize_1 5 rfl rfl)
theorem dJ25_stringSize_30 : decode cJ25_stringSize 30 = .ok (.ireturn, 1) := dk_172 (dk_at dksJ25_stringSize_1 6 rfl rfl)
theorem dJ25_stringSize_31 : decode cJ25_stringSize 31 = .ok (.bipush 10, 2) := dk_16 10 (dk_at dksJ25_stringSize_1 7 rfl rfl)
theorem dJ25_stringSize_33 : decode cJ25_stringSize 33 = .ok (.iload_n 2, 1) := dk_28 (dk_at dksJ25_stringSize_1 9 rfl rfl)
theorem dJ25_stringSize_34 : decode cJ25_stringSize 34 = .ok (.imul, 1) := dk_104 (dk_at dksJ25_stringSize_1 10 rfl rfl)
theorem dJ25_stringSize_35 : decode cJ25_stringSize 35 = .ok (.istore_n 2, 1) := dk_61 (dk_at dksJ25_stringSize_1 11 rfl rfl)
theorem dJ25_stringSize_36 : decode cJ25_stringSize 36 = .ok (.iinc 3 1, 3) := dk_132 3 1 (dk_at dksJ25_stringSize_1 12 rfl rfl)
theorem dJ25_stringSize_39 : decode cJ25_stringSize 39 = .ok (.goto (-23), 3) := dk_167 255 233 (dk_at dksJ25_stringSize_1 15 rfl rfl)
theorem dJ25_stringSize_42 : decode cJ25_stringSize 42 = .ok (.bipush 10, 2) := dk_16 10 (dk_at dksJ25_stringSize_1 18 rfl rfl)
theorem dJ25_stringSize_44 : decode cJ25_stringSize 44 = .ok (.iload_n 1, 1) := dk_27 (dk_at dksJ25_stringSize_1 20 rfl rfl)
theorem dJ25_stringSize_45 : decode cJ25_stringSize 45 = .ok (.iadd, 1) := dk_96 (dk_at dksJ25_stringSize_1 21 rfl rfl)
theorem dJ25_stringSize_46 : decode cJ25_stringSize 46 = .ok (.ireturn, 1) := dk_172 (dk_at dksJ25_stringSize_1 22 rfl rfl)
def dkwJ25_getChars_5 : List UInt8 := [16, 45, 84, 21, 5, 172]
abbrev dktJ25_getChars_5 : List UInt8 := dkwJ25_getChars_5 ++ []
def dkwJ25_getChars_4 : List UInt8 := [132, 5, 255, 21, 5, 178, 0, 87, 26, 116, 51, 84, 21, 6, 153, 0, 12, 44, 132, 5, 255, 21, 5]
abbrev dktJ25_getChars_4 : List UInt8 := dkwJ25_getChars_4 ++ dktJ25_getChars_5
def dkwJ25_getChars_3 : List UInt8 := [167, 255, 209, 44, 132, 5, 255, 21, 5, 178, 0, 83, 26, 116, 51, 84, 26, 16, 247, 162, 0, 16, 44]
abbrev dktJ25_getChars_3 : List UInt8 := dkwJ25_getChars_3 ++ dktJ25_getChars_4
def dkwJ25_getChars_2 : List UInt8 := [21, 5, 178, 0, 83, 21, 4, 51, 84, 44, 132, 5, 255, 21, 5, 178, 0, 87, 21, 4, 51, 84]
abbrev dktJ25_getChars_2 : List UInt8 := dkwJ25_getChars_2 ++ dktJ25_getChars_3
def dkwJ25_getChars_1 : List UInt8 := [16, 156, 163, 0, 47, 26, 16, 100, 108, 62, 29, 16, 100, 104, 26, 100, 54, 4, 29, 59, 44, 132, 5, 255]
abbrev dktJ25_getChars_1 : List UInt8 := dkwJ25_getChars_1 ++ dktJ25_getChars_2
def dkwJ25_getChars_0 : List UInt8 := [27, 54, 5, 26, 156, 0, 7, 4, 167, 0, 4, 3, 54, 6, 21, 6, 154, 0, 6, 26, 116, 59, 26]
abbrev dktJ25_getChars_0 : List UInt8 := dkwJ25_getChars_0 ++ dktJ25_getChars_1
theorem dksJ25_getChars_0 : cJ25_getChars.data.toList.drop 0 = dktJ25_getChars_0 := by decide +kernel
theorem dksJ25_getChars_1 : cJ25_getChars.data.toList.drop 23 = dktJ25_getChars_1 := dk_seg dksJ25_getChars_0 23 rfl rfl
theorem dksJ25_getChars_2 : cJ25_getChars.data.toList.drop 47 = dktJ25_getChars_2 := dk_seg dksJ25_getChars_1 24 rfl rfl
theorem dksJ25_getChars_3 : cJ25_getChars.data.toList.drop 69 = dktJ25_getChars_3 := dk_seg dksJ25_getChars_2 22 rfl rfl
theorem dksJ25_getChars_4 : cJ25_getChars.data.toList.drop 92 = dktJ25_getChars_4 := dk_seg dksJ25_getChars_3 23 rfl rfl
theorem dksJ25_getChars_5 : cJ25_getChars.data.toList.drop 115 = dktJ25_getChars_5 := dk_seg dksJ25_getChars_4 23 rfl rfl
theorem dJ25_getChars_0 : decode cJ25_getChars 0 = .ok (.iload_n 1, 1) := dk_27 (dk_at dksJ25_getChars_0 0 rfl rfl)
theorem dJ25_getChars_1 : decode cJ25_getChars 1 = .ok (.istore 5, 2) := dk_54 5 (dk_at dksJ25_getChars_0 1 rfl rfl)
theorem dJ25_getChars_3 : decode cJ25_getChars 3 = .ok (.iload_n 0, 1) := dk_26 (dk_at dksJ25_getChars_0 3 rfl rfl)
theorem dJ25_getChars_4 : decode cJ25_getChars 4 = .ok (.ifCond .ge 7, 3) := dk_156 0 7 (dk_at dksJ25_getChars_0 4 rfl rfl)
theorem dJ25_getChars_7 : decode cJ25_getChars 7 = .ok (.iconst 1, 1) := dk_4 (dk_at dksJ25_getChars_0 7 rfl rfl)
theorem dJ25_getChars_8 : decode cJ25_getChars 8 = .ok (.goto 4, 3) := dk_167 0 4 (dk_at dksJ25_getChars_0 8 rfl rfl)
theorem dJ25_getChars_11 : decode cJ25_getChars 11 = .ok (.iconst 0, 1) := dk_3 (dk_at dksJ25_getChars_0 11 rfl rfl)
theorem dJ25_getChars_12 : decode cJ25_getChars 12 = .ok (.istore 6, 2) := dk_54 6 (dk_at dksJ25_getChars_0 12 rfl rfl)
theorem dJ25_getChars_14 : decode cJ25_getChars 14 = .ok (.iload 6, 2) := dk_21 6 (dk_at dksJ25_getChars_0 14 rfl rfl)
theorem dJ25_getChars_16 : decode cJ25_getChars 16 = .ok (.ifCond .ne 6, 3) := dk_154 0 6 (dk_at dksJ25_getChars_0 16 rfl rfl)
theorem dJ25_getChars_19 : decode cJ25_getChars 19 = .ok (.iload_n 0, 1) := dk_26 (dk_at dksJ25_getChars_0 19 rfl rfl)
theorem dJ25_getChars_20 : decode cJ25_getChars 20 = .ok (.ineg, 1) := dk_116 (dk_at dksJ25_getChars_0 20 rfl rfl)
theorem dJ25_getChars_21 : decode cJ25_getChars 21 = .ok (.istore_n 0, 1) := dk_59 (dk_at dksJ25_getChars_0 21 rfl rfl)
theorem dJ25_getChars_22 : decode cJ25_getChars 22 = .ok (.iload_n 0, 1) := dk_26 (dk_at dksJ25_getChars_0 22 rfl rfl)
theorem dJ25_getChars_23 : decode cJ25_getChars 23 = .ok (.bipush (-100), 2) := dk_16 156 (dk_at dksJ25_getChars_1 0 rfl rfl)
theorem dJ25_getChars_25 : decode cJ25_getChars 25 = .ok (.if_icmp .gt 47, 3) := dk_163 0 47 (dk_at dksJ25_getChars_1 2 rfl rfl)
theorem dJ25_getChars_28 : decode cJ25_getChars 28 = .ok (.iload_n 0, 1) := dk_26 (dk_at dksJ25_getChars_1 5 rfl rfl)
theorem dJ25_getChars_29 : decode cJ25_getChars 29 = .ok (.bipush 100, 2) := dk_16 100 (dk_at dksJ25_getChars_1 6 rfl rfl)
theorem dJ25_getChars_31 : decode cJ25_getChars 31 = .ok (.idiv, 1) := dk_108 (dk_at dksJ25_getChars_1 8 rfl rfl)
theorem dJ25_getChars_32 : decode cJ25_getChars 32 = .ok (.istore_n 3, 1) := dk_62 (dk_at dksJ25_getChars_1 9 rfl rfl)
theorem dJ25_getChars_33 : decode cJ25_getChars 33 = .ok (.iload_n 3, 1) := dk_29 (dk_at dksJ25_getChars_1 10 rfl rfl)
theorem dJ25_getChars_34 : decode cJ25_getChars 34 = .ok (.bipush 100, 2) := dk_16 100 (dk_at dksJ25_getChars_1 11 rfl rfl)
theorem dJ25_getChars_36 : decode cJ25_getChars 36 = .ok (.imul, 1) := dk_104 (dk_at dksJ25_getChars_1 13 rfl rfl)
theorem dJ25_getChars_37 : decode cJ25_getChars 37 = .ok (.iload_n 0, 1) := dk_26 (dk_at dksJ25_getChars_1 14 rfl rfl)
theorem dJ25_getChars_38 : decode cJ25_getChars 38 = .ok (.isub, 1) := dk_100 (dk_at dksJ25_getChars_1 15 rfl rfl)
theorem dJ25_getChars_39 : decode cJ25_getChars 39 = .ok (.istore 4, 2) := dk_54 4 (dk_at dksJ25_getChars_1 16 rfl rfl)
theorem dJ25_getChars_41 : decode cJ25_getChars 41 = .ok (.iload_n 3, 1) := dk_29 (dk_at dksJ25_getChars_1 18 rfl rfl)
theorem dJ25_getChars_42 : decode cJ25_getChars 42 = .ok (.istore_n 0, 1) := dk_59 (dk_at dksJ25_getChars_1 19 rfl rfl)
theorem dJ25_getChars_43 : decode cJ25_getChars 43 = .ok (.aload_n 2, 1) := dk_44 (dk_at dksJ25_getChars_1 20 rfl rfl)
theorem dJ25_getChars_44 : decode cJ25_getChars 44 = .ok (.iinc 5 (-1), 3) := dk_132 5 255 (dk_at dksJ25_getChars_1 21 rfl rfl)
theorem dJ25_getChars_47 : decode cJ25_getChars 47 = .ok (.iload 5, 2) := dk_21 5 (dk_at dksJ25_getChars_2 0 rfl rfl)
theorem dJ25_getChars_49 : decode cJ25_getChars 49 = .ok (.getstatic 83, 3) := dk_178 0 83 (dk_at dksJ25_getChars_2 2 rfl rfl)
theorem dJ25_getChars_52 : decode cJ25_getChars 52 = .ok (.iload 4, 2) := dk_21 4 (dk_at dksJ25_getChars_2 5 rfl rfl)
theorem dJ25_getChars_54 : decode cJ25_getChars 54 = .ok (.baload, 1) := dk_51 (dk_at dksJ25_getChars_2 7 rfl rfl)
theorem dJ25_getChars_55 : decode cJ25_getChars 55 = .ok (.bastore, 1) := dk_84 (dk_at dksJ25_getChars_2 8 rfl rfl)
theorem dJ25_getChars_56 : decode cJ25_getChars 56 = .ok (.aload_n 2, 1) := dk_44 (dk_at dksJ25_getChars_2 9 rfl rfl)
theorem dJ25_getChars_57 : decode cJ25_getChars 57 = .ok (.iinc 5 (-1), 3) := dk_132 5 255 (dk_at dksJ25_getChars_2 10 rfl rfl)
theorem dJ25_getChars_60 : decode cJ25_getChars 60 = .ok (.iload 5, 2) := dk_21 5 (dk_at dksJ25_getChars_2 13 rfl rfl)
theorem dJ25_getChars_62 : decode cJ25_getChars 62 = .ok (.getstatic 87, 3) := dk_178 0 87 (dk_at dksJ25_getChars_2 15 rfl rfl)
theorem dJ25_getChars_65 : decode cJ25_getChars 65 = .ok (.iload 4, 2) := dk_21 4 (dk_at dksJ25_getChars_2 18 rfl rfl)
theorem dJ25_getChars_67 : decode cJ25_getChars 67 = .ok (.baload, 1) := dk_51 (dk_at dksJ25_getChars_2 20 rfl rfl)
theorem dJ25_getChars_68 : decode cJ25_getChars 68 = .ok (.bastore, 1) := dk_84 (dk_at dksJ25_getChars_2 21 rfl rfl)
theorem dJ25_getChars_69 : decode cJ25_getChars 69 = .ok (.goto (-47), 3) := dk_167 255 209 (dk_at dksJ25_getChars_3 0 rfl rfl)
theorem dJ25_getChars_72 : decode cJ25_getChars 72 = .ok (.aload_n 2, 1) := dk_44 (dk_at dksJ25_getChars_3 3 rfl rfl)
theorem dJ25_getChars_73 : decode cJ25_getChars 73 = .ok (.iinc 5 (-1), 3) := dk_132 5 255 (dk_at dksJ25_getChars_3 4 rfl rfl)
theorem dJ25_getChars_76 : decode cJ25_getChars 76 = .ok (.iload 5, 2) := dk_21 5 (dk_at dksJ25_getChars_3 7 rfl rfl)
theorem dJ25_getChars_78 : decode cJ25_getChars 78 = .ok (.getstatic 83, 3) := dk_178 0 83 (dk_at dksJ25_getChars_3 9 rfl rfl)
theorem dJ25_getChars_81 : decode cJ25_getChars 81 = .ok (.iload_n 0, 1) := dk_26 (dk_at dksJ25_getChars_3 12 rfl rfl)
theorem dJ25_getChars_82 : decode cJ25_getChars 82 = .ok (.ineg, 1) := dk_116 (dk_at dksJ25_getChars_3 13 rfl rfl)
theorem dJ25_getChars_83 : decode cJ25_getChars 83 = .ok (.baload, 1) := dk_51 (dk_at dksJ25_getChars_3 14 rfl rfl)
theorem dJ25_getChars_84 : decode cJ25_getChars 84 = .ok (.bastore, 1) := dk_84 (dk_at dksJ25_getChars_3 15 rfl rfl)
theorem dJ25_getChars_85 : decode cJ25_getChars 85 = .ok (.iload_n 0, 1) := dk_26 (dk_at dksJ25_getChars_3 16 rfl rfl)
theorem dJ25_getChars_86 : decode cJ25_getChars 86 = .ok (.bipush (-9), 2) := dk_16 247 (dk_at dksJ25_getChars_3 17 rfl rfl)
theorem dJ25_getChars_88 : decode cJ25_getChars 88 = .ok (.if_icmp .ge 16, 3) := dk_162 0 16 (dk_at dksJ25_getChars_3 19 rfl rfl)
theorem dJ25_getChars_91 : decode cJ25_getChars 91 = .ok (.aload_n 2, 1) := dk_44 (dk_at dksJ25_getChars_3 22 rfl rfl)
theorem dJ25_getChars_92 : decode cJ25_getChars 92 = .ok (.iinc 5 (-1), 3) := dk_132 5 255 (dk_at dksJ25_getChars_4 0 rfl rfl)
theorem dJ25_getChars_95 : decode cJ25_getChars 95 = .ok (.iload 5, 2) := dk_21 5 (dk_at dksJ25_getChars_4 3 rfl rfl)
theorem dJ25_getChars_97 : decode cJ25_getChars 97 = .ok (.getstatic 87, 3) := dk_178 0 87 (dk_at dksJ25_getChars_4 5 rfl rfl)
theorem dJ25_getChars_100 : decode cJ25_getChars 100 = .ok (.iload_n 0, 1) := dk_26 (dk_at dksJ25_getChars_4 8 rfl rfl)
theorem dJ25_getChars_101 : decode cJ25_getChars 101 = .ok (.ineg, 1) := dk_116 (dk_at dksJ25_getChars_4 9 rfl rfl)
theorem dJ25_getChars_102 : decode cJ25_getChars 102 = .ok (.baload, 1) := dk_51 (dk_at dksJ25_getChars_4 10 rfl rfl)
theorem dJ25_getChars_103 : decode cJ25_getChars 103 = .ok (.bastore, 1) := dk_84 (dk_at dksJ25_getChars_4 11 rfl rfl)
theorem dJ25_getChars_104 : decode cJ25_getChars 104 = .ok (.iload 6, 2) := dk_21 6 (dk_at dksJ25_getChars_4 12 rfl rfl)
theorem dJ25_getChars_106 : decode cJ25_getChars 106 = .ok (.ifCond .eq 12, 3) := dk_153 0 12 (dk_at dksJ25_getChars_4 14 rfl rfl)
theorem dJ25_getChars_109 : decode cJ25_getChars 109 = .ok (.aload_n 2, 1) := dk_44 (dk_at dksJ25_getChars_4 17 rfl rfl)
theorem dJ25_getChars_110 : decode cJ25_getChars 110 = .ok (.iinc 5 (-1), 3) := dk_132 5 255 (dk_at dksJ25_getChars_4 18 rfl rfl)
theorem dJ25_getChars_113 : decode cJ25_getChars 113 = .ok (.iload 5, 2) := dk_21 5 (dk_at dksJ25_getChars_4 21 rfl rfl)
theorem dJ25_getChars_115 : decode cJ25_getChars 115 = .ok (.bipush 45, 2) := dk_16 45 (dk_at dksJ25_getChars_5 0 rfl rfl)
theorem dJ25_getChars_117 : decode cJ25_getChars 117 = .ok (.bastore, 1) := dk_84 (dk_at dksJ25_getChars_5 2 rfl rfl)
theorem dJ25_getChars_118 : decode cJ25_getChars 118 = .ok (.iload 5, 2) := dk_21 5 (dk_at dksJ25_getChars_5 3 rfl rfl)
theorem dJ25_getChars_120 : decode cJ25_getChars 120 = .ok (.ireturn, 1) := dk_172 (dk_at dksJ25_getChars_5 5 rfl rfl)
def dkwJ27_numberOfTrailingZeros_1 : List UInt8 := [184, 1, 55, 172]
abbrev dktJ27_numberOfTrailingZeros_1 : List UInt8 := dkwJ27_numberOfTrailingZeros_1 ++ []
def dkwJ27_numberOfTrailingZeros_0 : List UInt8 := [30, 136, 61, 28, 154, 0, 17, 16, 32, 30, 16, 32, 125, 136, 184, 1, 55, 96, 167, 0, 7, 28]
abbrev dktJ27_numberOfTrailingZeros_0 : List UInt8 := dkwJ27_numberOfTrailingZeros_0 ++ dktJ27_numberOfTrailingZeros_1
theorem dksJ27_numberOfTrailingZeros_0 : cJ27_numberOfTrailingZeros.data.toList.drop 0 = dktJ27_numberOfTrailingZeros_0 := by decide +kernel
theorem dksJ27_numberOfTrailingZeros_1 : cJ27_numberOfTrailingZeros.data.toList.drop 22 = dktJ27_numberOfTrailingZeros_1 := dk_seg dksJ27_numberOfTrailingZeros_0 22 rfl rfl
theorem dJ27_numberOfTrailingZeros_0 : decode cJ27_numberOfTrailingZeros 0 = .ok (.lload_n 0, 1) := dk_30 (dk_at dksJ27_numberOfTrailingZeros_0 0 rfl rfl)
theorem dJ27_numberOfTrailingZeros_1 : decode cJ27_numberOfTrailingZeros 1 = .ok (.l2i, 1) := dk_136 (dk_at dksJ27_numberOfTrailingZeros_0 1 rfl rfl)
theorem dJ27_numberOfTrailingZeros_2 : decode cJ27_numberOfTrailingZeros 2 = .ok (.istore_n 2, 1) := dk_61 (dk_at dksJ27_numberOfTrailingZeros_0 2 rfl rfl)
theorem dJ27_numberOfTrailingZeros_3 : decode cJ27_numberOfTrailingZeros 3 = .ok (.iload_n 2, 1) := dk_28 (dk_at dksJ27_numberOfTrailingZeros_0 3 rfl rfl)
theorem dJ27_numberOfTrailingZeros_4 : decode cJ27_numberOfTrailingZeros 4 = .ok (.ifCond .ne 17, 3) := dk_154 0 17 (dk_at dksJ27_numberOfTrailingZeros_0 4 rfl rfl)
theorem dJ27_numberOfTrailingZeros_7 : decode cJ27_numberOfTrailingZeros 7 = .ok (.bipush 32, 2) := dk_16 32 (dk_at dksJ27_numberOfTrailingZeros_0 7 rfl rfl)
theorem dJ27_numberOfTrailingZeros_9 : decode cJ27_numberOfTrailingZeros 9 = .ok (.lload_n 0, 1) := dk_30 (dk_at dksJ27_numberOfTrailingZeros_0 9 rfl rfl)
theorem dJ27_numberOfTrailingZeros_10 : decode cJ27_numberOfTrailingZeros 10 = .ok (.bipush 32, 2) := dk_16 32 (dk_at dksJ27_numberOfTrailingZeros_0 10 rfl rfl)
theorem dJ27_numberOfTrailingZeros_12 : decode cJ27_numberOfTrailingZeros 12 = .ok (.lushr, 1) := dk_125 (dk_at dksJ27_numberOfTrailingZeros_0 12 rfl rfl)
theorem dJ27_numberOfTrailingZeros_13 : decode cJ27_numberOfTrailingZeros 13 = .ok (.l2i, 1) := dk_136 (dk_at dksJ27_numberOfTrailingZeros_0 13 rfl rfl)
theorem dJ27_numberOfTrailingZeros_14 : decode cJ27_numberOfTrailingZeros 14 = .ok (.invokestatic 311, 3) := dk_184 1 55 (dk_at dksJ27_numberOfTrailingZeros_0 14 rfl rfl)
theorem dJ27_numberOfTrailingZeros_17 : decode cJ27_numberOfTrailingZeros 17 = .ok (.iadd, 1) := dk_96 (dk_at dksJ27_numberOfTrailingZeros_0 17 rfl rfl)
theorem dJ27_numberOfTrailingZeros_18 : decode cJ27_numberOfTrailingZeros 18 = .ok (.goto 7, 3) := dk_167 0 7 (dk_at dksJ27_numberOfTrailingZeros_0 18 rfl rfl)
theorem dJ27_numberOfTrailingZeros_21 : decode cJ27_numberOfTrailingZeros 21 = .ok (.iload_n 2, 1) := dk_28 (dk_at dksJ27_numberOfTrailingZeros_0 21 rfl rfl)
theorem dJ27_numberOfTrailingZeros_22 : decode cJ27_numberOfTrailingZeros 22 = .ok (.invokestatic 311, 3) := dk_184 1 55 (dk_at dksJ27_numberOfTrailingZeros_1 0 rfl rfl)
theorem dJ27_numberOfTrailingZeros_25 : decode cJ27_numberOfTrailingZeros 25 = .ok (.ireturn, 1) := dk_172 (dk_at dksJ27_numberOfTrailingZeros_1 3 rfl rfl)
def dkwJ27_bitCount_2 : List UInt8 := [30, 30, 16, 32, 125, 97, 63, 30, 136, 16, 127, 126, 172]
abbrev dktJ27_bitCount_2 : List UInt8 := dkwJ27_bitCount_2 ++ []
def dkwJ27_bitCount_1 : List UInt8 := [30, 30, 7, 125, 97, 20, 1, 62, 127, 63, 30, 30, 16, 8, 125, 97, 63, 30, 30, 16, 16, 125, 97, 63]
abbrev dktJ27_bitCount_1 : List UInt8 := dkwJ27_bitCount_1 ++ dktJ27_bitCount_2
def dkwJ27_bitCount_0 : List UInt8 := [30, 30, 4, 125, 20, 1, 58, 127, 101, 63, 30, 20, 1, 60, 127, 30, 5, 125, 20, 1, 60, 127, 97, 63]
abbrev dktJ27_bitCount_0 : List UInt8 := dkwJ27_bitCount_0 ++ dktJ27_bitCount_1
theorem dksJ27_bitCount_0 : cJ27_bitCount.data.toList.drop 0 = dktJ27_bitCount_0 := by decide +kernel
theorem dksJ27_bitCount_1 : cJ27_bitCount.data.toList.drop 24 = dktJ27_bitCount_1 := dk_seg dksJ27_bitCount_0 24 rfl rfl
theorem dksJ27_bitCount_2 : cJ27_bitCount.data.toList.drop 48 = dktJ27_bitCount_2 := dk_seg dksJ27_bitCount_1 24 rfl rfl
theorem dJ27_bitCount_0 : decode cJ27_bitCount 0 = .ok (.lload_n 0, 1) := dk_30 (dk_at dksJ27_bitCount_0 0 rfl rfl)
theorem dJ27_bitCount_1 : decode cJ27_bitCount 1 = .ok (.lload_n 0, 1) := dk_30 (dk_at dksJ27_bitCount_0 1 rfl rfl)
theorem dJ27_bitCount_2 : decode cJ27_bitCount 2 = .ok (.iconst 1, 1) := dk_4 (dk_at dksJ27_bitCount_0 2 rfl rfl)
theorem dJ27_bitCount_3 : decode cJ27_bitCount 3 = .ok (.lushr, 1) := dk_125 (dk_at dksJ27_bitCount_0 3 rfl rfl)
theorem dJ27_bitCount_4 : decode cJ27_bitCount 4 = .ok (.ldc2_w 314, 3) := dk_20 1 58 (dk_at dksJ27_bitCount_0 4 rfl rfl)
theorem dJ27_bitCount_7 : decode cJ27_bitCount 7 = .ok (.land, 1) := dk_127 (dk_at dksJ27_bitCount_0 7 rfl rfl)
theorem dJ27_bitCount_8 : decode cJ27_bitCount 8 = .ok (.lsub, 1) := dk_101 (dk_at dksJ27_bitCount_0 8 rfl rfl)
theorem dJ27_bitCount_9 : decode cJ27_bitCount 9 = .ok (.lstore_n 0, 1) := dk_63 (dk_at dksJ27_bitCount_0 9 rfl rfl)
theorem dJ27_bitCount_10 : decode cJ27_bitCount 10 = .ok (.lload_n 0, 1) := dk_30 (dk_at dksJ27_bitCount_0 10 rfl rfl)
theorem dJ27_bitCount_11 : decode cJ27_bitCount 11 = .ok (.ldc2_w 316, 3) := dk_20 1 60 (dk_at dksJ27_bitCount_0 11 rfl rfl)
theorem dJ27_bitCount_14 : decode cJ27_bitCount 14 = .ok (.land, 1) := dk_127 (dk_at dksJ27_bitCount_0 14 rfl rfl)
theorem dJ27_bitCount_15 : decode cJ27_bitCount 15 = .ok (.lload_n 0, 1) := dk_30 (dk_at dksJ27_bitCount_0 15 rfl rfl)
theorem dJ27_bitCount_16 : decode cJ27_bitCount 16 = .ok (.iconst 2, 1) := dk_5 (dk_at dksJ27_bitCount_0 16 rfl rfl)
theorem dJ27_bitCount_17 : decode cJ27_bitCount 17 = .ok (.lushr, 1) := dk_125 (dk_at dksJ27_bitCount_0 17 rfl rfl)
theorem dJ27_bitCount_18 : decode cJ27_bitCount 18 = .ok (.ldc2_w 316, 3) := dk_20 1 60 (dk_at dksJ27_bitCount_0 18 rfl rfl)
theorem dJ27_bitCount_21 : decode cJ27_bitCount 21 = .ok (.land, 1) := dk_127 (dk_at dksJ27_bitCount_0 21 rfl rfl)
theorem dJ27_bitCount_22 : decode cJ27_bitCount 22 = .ok (.ladd, 1) := dk_97 (dk_at dksJ27_bitCount_0 22 rfl rfl)
theorem dJ27_bitCount_23 : decode cJ27_bitCount 23 = .ok (.lstore_n 0, 1) := dk_63 (dk_at dksJ27_bitCount_0 23 rfl rfl)
theorem dJ27_bitCount_24 : decode cJ27_bitCount 24 = .ok (.lload_n 0, 1) := dk_30 (dk_at dksJ27_bitCount_1 0 rfl rfl)
theorem dJ27_bitCount_25 : decode cJ27_bitCount 25 = .ok (.lload_n 0, 1) := dk_30 (dk_at dksJ27_bitCount_1 1 rfl rfl)
theorem dJ27_bitCount_26 : decode cJ27_bitCount 26 = .ok (.iconst 4, 1) := dk_7 (dk_at dksJ27_bitCount_1 2 rfl rfl)
theorem dJ27_bitCount_27 : decode cJ27_bitCount 27 = .ok (.lushr, 1) := dk_125 (dk_at dksJ27_bitCount_1 3 rfl rfl)
theorem dJ27_bitCount_28 : decode cJ27_bitCount 28 = .ok (.ladd, 1) := dk_97 (dk_at dksJ27_bitCount_1 4 rfl rfl)
theorem dJ27_bitCount_29 : decode cJ27_bitCount 29 = .ok (.ldc2_w 318, 3) := dk_20 1 62 (dk_at dksJ27_bitCount_1 5 rfl rfl)
theorem dJ27_bitCount_32 : decode cJ27_bitCount 32 = .ok (.land, 1) := dk_127 (dk_at dksJ27_bitCount_1 8 rfl rfl)
theorem dJ27_bitCount_33 : decode cJ27_bitCount 33 = .ok (.lstore_n 0, 1) := dk_63 (dk_at dksJ27_bitCount_1 9 rfl rfl)
theorem dJ27_bitCount_34 : decode cJ27_bitCount 34 = .ok (.lload_n 0, 1) := dk_30 (dk_at dksJ27_bitCount_1 10 rfl rfl)
theorem dJ27_bitCount_35 : decode cJ27_bitCount 35 = .ok (.lload_n 0, 1) := dk_30 (dk_at dksJ27_bitCount_1 11 rfl rfl)
theorem dJ27_bitCount_36 : decode cJ27_bitCount 36 = .ok (.bipush 8, 2) := dk_16 8 (dk_at dksJ27_bitCount_1 12 rfl rfl)
theorem dJ27_bitCount_38 : decode cJ27_bitCount 38 = .ok (.lushr, 1) := dk_125 (dk_at dksJ27_bitCount_1 14 rfl rfl)
theorem dJ27_bitCount_39 : decode cJ27_bitCount 39 = .ok (.ladd, 1) := dk_97 (dk_at dksJ27_bitCount_1 15 rfl rfl)
theorem dJ27_bitCount_40 : decode cJ27_bitCount 40 = .ok (.lstore_n 0, 1) := dk_63 (dk_at dksJ27_bitCount_1 16 rfl rfl)
theorem dJ27_bitCount_41 : decode cJ27_bitCount 41 = .ok (.lload_n 0, 1) := dk_30 (dk_at dksJ27_bitCount_1 17 rfl rfl)
theorem dJ27_bitCount_42 : decode cJ27_bitCount 42 = .ok (.lload_n 0, 1) := dk_30 (dk_at dksJ27_bitCount_1 18 rfl rfl)
theorem dJ27_bitCount_43 : decode cJ27_bitCount 43 = .ok (.bipush 16, 2) := dk_16 16 (dk_at dksJ27_bitCount_1 19 rfl rfl)
theorem dJ27_bitCount_45 : decode cJ27_bitCount 45 = .ok (.lushr, 1) := dk_125 (dk_at dksJ27_bitCount_1 21 rfl rfl)
theorem dJ27_bitCount_46 : decode cJ27_bitCount 46 = .ok (.ladd, 1) := dk_97 (dk_at dksJ27_bitCount_1 22 rfl rfl)
theorem dJ27_bitCount_47 : decode cJ27_bitCount 47 = .ok (.lstore_n 0, 1) := dk_63 (dk_at dksJ27_bitCount_1 23 rfl rfl)
theorem dJ27_bitCount_48 : decode cJ27_bitCount 48 = .ok (.lload_n 0, 1) := dk_30 (dk_at dksJ27_bitCount_2 0 rfl rfl)
theorem dJ27_bitCount_49 : decode cJ27_bitCount 49 = .ok (.lload_n 0, 1) := dk_30 (dk_at dksJ27_bitCount_2 1 rfl rfl)
theorem dJ27_bitCount_50 : decode cJ27_bitCount 50 = .ok (.bipush 32, 2) := dk_16 32 (dk_at dksJ27_bitCount_2 2 rfl rfl)
theorem dJ27_bitCount_52 : decode cJ27_bitCount 52 = .ok (.lushr, 1) := dk_125 (dk_at dksJ27_bitCount_2 4 rfl rfl)
theorem dJ27_bitCount_53 : decode cJ27_bitCount 53 = .ok (.ladd, 1) := dk_97 (dk_at dksJ27_bitCount_2 5 rfl rfl)
theorem dJ27_bitCount_54 : decode cJ27_bitCount 54 = .ok (.lstore_n 0, 1) := dk_63 (dk_at dksJ27_bitCount_2 6 rfl rfl)
theorem dJ27_bitCount_55 : decode cJ27_bitCount 55 = .ok (.lload_n 0, 1) := dk_30 (dk_at dksJ27_bitCount_2 7 rfl rfl)
theorem dJ27_bitCount_56 : decode cJ27_bitCount 56 = .ok (.l2i, 1) := dk_136 (dk_at dksJ27_bitCount_2 8 rfl rfl)
theorem dJ27_bitCount_57 : decode cJ27_bitCount 57 = .ok (.bipush 127, 2) := dk_16 127 (dk_at dksJ27_bitCount_2 9 rfl rfl)
theorem dJ27_bitCount_59 : decode cJ27_bitCount 59 = .ok (.iand, 1) := dk_126 (dk_at dksJ27_bitCount_2 11 rfl rfl)
theorem dJ27_bitCount_60 : decode cJ27_bitCount 60 = .ok (.ireturn, 1) := dk_172 (dk_at dksJ27_bitCount_2 12 rfl rfl)
theorem dJ28_init_0 : decode cJ28_init 0 = .ok (.aload_n 0, 1) := by decide +kernel
theorem dJ28_init_1 : decode cJ28_init 1 = .ok (.invokespecial 1, 3) := by decide +kernel
theorem dJ28_init_4 : decode cJ28_init 4 = .ok (.return_, 1) := by decide +kernel
def dkwJ29_init_0 : List UInt8 := [42, 183, 0, 1, 42, 43, 181, 0, 7, 177]
abbrev dktJ29_init_0 : List UInt8 := dkwJ29_init_0 ++ []
theorem dksJ29_init_0 : cJ29_init.data.toList.drop 0 = dktJ29_init_0 := by decide +kernel
theorem dJ29_init_0 : decode cJ29_init 0 = .ok (.aload_n 0, 1) := dk_42 (dk_at dksJ29_init_0 0 rfl rfl)
theorem dJ29_init_1 : decode cJ29_init 1 = .ok (.invokespecial 1, 3) := dk_183 0 1 (dk_at dksJ29_init_0 1 rfl rfl)
theorem dJ29_init_4 : decode cJ29_init 4 = .ok (.aload_n 0, 1) := dk_42 (dk_at dksJ29_init_0 4 rfl rfl)
theorem dJ29_init_5 : decode cJ29_init 5 = .ok (.aload_n 1, 1) := dk_43 (dk_at dksJ29_init_0 5 rfl rfl)
theorem dJ29_init_6 : decode cJ29_init 6 = .ok (.putfield 7, 3) := dk_181 0 7 (dk_at dksJ29_init_0 6 rfl rfl)
theorem dJ29_init_9 : decode cJ29_init 9 = .ok (.return_, 1) := dk_177 (dk_at dksJ29_init_0 9 rfl rfl)
def dkwJ29_iterator_1 : List UInt8 := [180, 0, 7, 192, 0, 19, 182, 0, 21, 176]
abbrev dktJ29_iterator_1 : List UInt8 := dkwJ29_iterator_1 ++ []
def dkwJ29_iterator_0 : List UInt8 := [42, 180, 0, 7, 193, 0, 13, 153, 0, 14, 42, 180, 0, 7, 192, 0, 13, 182, 0, 15, 176, 42]
abbrev dktJ29_iterator_0 : List UInt8 := dkwJ29_iterator_0 ++ dktJ29_iterator_1
theorem dksJ29_iterator_0 : cJ29_iterator.data.toList.drop 0 = dktJ29_iterator_0 := by decide +kernel
theorem dksJ29_iterator_1 : cJ29_iterator.data.toList.drop 22 = dktJ29_iterator_1 := dk_seg dksJ29_iterator_0 22 rfl rfl
theorem dJ29_iterator_0 : decode cJ29_iterator 0 = .ok (.aload_n 0, 1) := dk_42 (dk_at dksJ29_iterator_0 0 rfl rfl)
theorem dJ29_iterator_1 : decode cJ29_iterator 1 = .ok (.getfield 7, 3) := dk_180 0 7 (dk_at dksJ29_iterator_0 1 rfl rfl)
theorem dJ29_iterator_4 : decode cJ29_iterator 4 = .ok (.instanceof 13, 3) := dk_193 0 13 (dk_at dksJ29_iterator_0 4 rfl rfl)
theorem dJ29_iterator_7 : decode cJ29_iterator 7 = .ok (.ifCond .eq 14, 3) := dk_153 0 14 (dk_at dksJ29_iterator_0 7 rfl rfl)
theorem dJ29_iterator_10 : decode cJ29_iterator 10 = .ok (.aload_n 0, 1) := dk_42 (dk_at dksJ29_iterator_0 10 rfl rfl)
theorem dJ29_iterator_11 : decode cJ29_iterator 11 = .ok (.getfield 7, 3) := dk_180 0 7 (dk_at dksJ29_iterator_0 11 rfl rfl)
theorem dJ29_iterator_14 : decode cJ29_iterator 14 = .ok (.checkcast 13, 3) := dk_192 0 13 (dk_at dksJ29_iterator_0 14 rfl rfl)
theorem dJ29_iterator_17 : decode cJ29_iterator 17 = .ok (.invokevirtual 15, 3) := dk_182 0 15 (dk_at dksJ29_iterator_0 17 rfl rfl)
theorem dJ29_iterator_20 : decode cJ29_iterator 20 = .ok (.areturn, 1) := dk_176 (dk_at dksJ29_iterator_0 20 rfl rfl)
def dkwJ30_hasNext_0 : List UInt8 := [42, 180, 0, 26, 198, 0, 7, 4, 167, 0, 4, 3, 172]
abbrev dktJ30_hasNext_0 : List UInt8 := dkwJ30_hasNext_0 ++ []
theorem dksJ30_hasNext_0 : cJ30_hasNext.data.toList.drop 0 = dktJ30_hasNext_0 := by decide +kernel
theorem dJ30_hasNext_0 : decode cJ30_hasNext 0 = .ok (.aload_n 0, 1) := dk_42 (dk_at dksJ30_hasNext_0 0 rfl rfl)
theorem dJ30_hasNext_1 : decode cJ30_hasNext 1 = .ok (.getfield 26, 3) := dk_180 0 26 (dk_at dksJ30_hasNext_0 1 rfl rfl)
theorem dJ30_hasNext_4 : decode cJ30_hasNext 4 = .ok (.ifnull 7, 3) := dk_198 0 7 (dk_at dksJ30_hasNext_0 4 rfl rfl)
theorem dJ30_hasNext_7 : decode cJ30_hasNext 7 = .ok (.iconst 1, 1) := dk_4 (dk_at dksJ30_hasNext_0 7 rfl rfl)
theorem dJ30_hasNext_8 : decode cJ30_hasNext 8 = .ok (.goto 4, 3) := dk_167 0 4 (dk_at dksJ30_hasNext_0 8 rfl rfl)
theorem dJ30_hasNext_11 : decode cJ30_hasNext 11 = .ok (.iconst 0, 1) := dk_3 (dk_at dksJ30_hasNext_0 11 rfl rfl)
theorem dJ30_hasNext_12 : decode cJ30_hasNext 12 = .ok (.ireturn, 1) := dk_172 (dk_at dksJ30_hasNext_0 12 rfl rfl)
def dkwJ30_nextEntry_2 : List UInt8 := [43, 181, 0, 22, 43, 176]
abbrev dktJ30_nextEntry_2 : List UInt8 := dkwJ30_nextEntry_2 ++ []
def dkwJ30_nextEntry_1 : List UInt8 := [42, 180, 0, 19, 159, 0, 11, 187, 0, 32, 89, 183, 0, 34, 191, 42, 43, 184, 0, 35, 181, 0, 26, 42]
abbrev dktJ30_nextEntry_1 : List UInt8 := dkwJ30_nextEntry_1 ++ dktJ30_nextEntry_2
def dkwJ30_nextEntry_0 : List UInt8 := [42, 180, 0, 26, 76, 43, 199, 0, 11, 187, 0, 29, 89, 183, 0, 31, 191, 42, 180, 0, 1, 180, 0, 13]
abbrev dktJ30_nextEntry_0 : List UInt8 := dkwJ30_nextEntry_0 ++ dktJ30_nextEntry_1
theorem dksJ30_nextEntry_0 : cJ30_nextEntry.data.toList.drop 0 = dktJ30_nextEntry_0 := by decide +kernel
theorem dksJ30_nextEntry_1 : cJ30_nextEntry.data.toList.drop 24 = dktJ30_nextEntry_1 := dk_seg dksJ30_nextEntry_0 24 rfl rfl
theorem dksJ30_nextEntry_2 : cJ30_nextEntry.data.toList.drop 48 = dktJ30_nextEntry_2 := dk_seg dksJ30_nextEntry_1 24 rfl rfl
theorem dJ30_nextEntry_0 : decode cJ30_nextEntry 0 = .ok (.aload_n 0, 1) := dk_42 (dk_at dksJ30_nextEntry_0 0 rfl rfl)
theorem dJ30_nextEntry_1 : decode cJ30_nextEntry 1 = .ok (.getfield 26, 3) := dk_180 0 26 (dk_at dksJ30_nextEntry_0 1 rfl rfl)
theorem dJ30_nextEntry_4 : decode cJ30_nextEntry 4 = .ok (.astore_n 1, 1) := dk_76 (dk_at dksJ30_nextEntry_0 4 rfl rfl)
theorem dJ30_nextEntry_5 : decode cJ30_nextEntry 5 = .ok (.aload_n 1, 1) := dk_43 (dk_at dksJ30_nextEntry_0 5 rfl rfl)
theorem dJ30_nextEntry_6 : decode cJ30_nextEntry 6 = .ok (.ifnonnull 11, 3) := dk_199 0 11 (dk_at dksJ30_nextEntry_0 6 rfl rfl)
theorem dJ30_nextEntry_17 : decode cJ30_nextEntry 17 = .ok (.aload_n 0, 1) := dk_42 (dk_at dksJ30_nextEntry_0 17 rfl rfl)
theorem dJ30_nextEntry_18 : decode cJ30_nextEntry 18 = .ok (.getfield 1, 3) := dk_180 0 1 (dk_at dksJ30_nextEntry_0 18 rfl rfl)
theorem dJ30_nextEntry_21 : decode cJ30_nextEntry 21 = .ok (.getfield 13, 3) := dk_180 0 13 (dk_at dksJ30_nextEntry_0 21 rfl rfl)
theorem dJ30_nextEntry_24 : decode cJ30_nextEntry 24 = .ok (.aload_n 0, 1) := dk_42 (dk_at dksJ30_nextEntry_1 0 rfl rfl)
theorem dJ30_nextEntry_25 : decode cJ30_nextEntry 25 = .ok (.getfield 19, 3) := dk_180 0 19 (dk_at dksJ30_nextEntry_1 1 rfl rfl)
theorem dJ30_nextEntry_28 : decode cJ30_nextEntry 28 = .ok (.if_icmp .eq 11, 3) := dk_159 0 11 (dk_at dksJ30_nextEntry_1 4 rfl rfl)
theorem dJ30_nextEntry_39 : decode cJ30_nextEntry 39 = .ok (.aload_n 0, 1) := dk_42 (dk_at dksJ30_nextEntry_1 15 rfl rfl)
theorem dJ30_nextEntry_40 : decode cJ30_nextEntry 40 = .ok (.aload_n 1, 1) := dk_43 (dk_at dksJ30_nextEntry_1 16 rfl rfl)
theorem dJ30_nextEntry_41 : decode cJ30_nextEntry 41 = .ok (.invokestatic 35, 3) := dk_184 0 35 (dk_at dksJ30_nextEntry_1 17 rfl rfl)
theorem dJ30_nextEntry_44 : decode cJ30_nextEntry 44 = .ok (.putfield 26, 3) := dk_181 0 26 (dk_at dksJ30_nextEntry_1 20 rfl rfl)
theorem dJ30_nextEntry_47 : decode cJ30_nextEntry 47 = .ok (.aload_n 0, 1) := dk_42 (dk_at dksJ30_nextEntry_1 23 rfl rfl)
theorem dJ30_nextEntry_48 : decode cJ30_nextEntry 48 = .ok (.aload_n 1, 1) := dk_43 (dk_at dksJ30_nextEntry_2 0 rfl rfl)
theorem dJ30_nextEntry_49 : decode cJ30_nextEntry 49 = .ok (.putfield 22, 3) := dk_181 0 22 (dk_at dksJ30_nextEntry_2 1 rfl rfl)
theorem dJ30_nextEntry_52 : decode cJ30_nextEntry 52 = .ok (.aload_n 1, 1) := dk_43 (dk_at dksJ30_nextEntry_2 4 rfl rfl)
theorem dJ30_nextEntry_53 : decode cJ30_nextEntry 53 = .ok (.areturn, 1) := dk_176 (dk_at dksJ30_nextEntry_2 5 rfl rfl)
def dkwJ30_init_1 : List UInt8 := [181, 0, 26, 177]
abbrev dktJ30_init_1 : List UInt8 := dkwJ30_init_1 ++ []
def dkwJ30_init_0 : List UInt8 := [42, 43, 181, 0, 1, 42, 183, 0, 7, 42, 43, 180, 0, 13, 181, 0, 19, 42, 1, 181, 0, 22, 42, 44]
abbrev dktJ30_init_0 : List UInt8 := dkwJ30_init_0 ++ dktJ30_init_1
theorem dksJ30_init_0 : cJ30_init.data.toList.drop 0 = dktJ30_init_0 := by decide +kernel
theorem dksJ30_init_1 : cJ30_init.data.toList.drop 24 = dktJ30_init_1 := dk_seg dksJ30_init_0 24 rfl rfl
theorem dJ30_init_0 : decode cJ30_init 0 = .ok (.aload_n 0, 1) := dk_42 (dk_at dksJ30_init_0 0 rfl rfl)
theorem dJ30_init_1 : decode cJ30_init 1 = .ok (.aload_n 1, 1) := dk_43 (dk_at dksJ30_init_0 1 rfl rfl)
theorem dJ30_init_2 : decode cJ30_init 2 = .ok (.putfield 1, 3) := dk_181 0 1 (dk_at dksJ30_init_0 2 rfl rfl)
theorem dJ30_init_5 : decode cJ30_init 5 = .ok (.aload_n 0, 1) := dk_42 (dk_at dksJ30_init_0 5 rfl rfl)
theorem dJ30_init_6 : decode cJ30_init 6 = .ok (.invokespecial 7, 3) := dk_183 0 7 (dk_at dksJ30_init_0 6 rfl rfl)
theorem dJ30_init_9 : decode cJ30_init 9 = .ok (.aload_n 0, 1) := dk_42 (dk_at dksJ30_init_0 9 rfl rfl)
theorem dJ30_init_10 : decode cJ30_init 10 = .ok (.aload_n 1, 1) := dk_43 (dk_at dksJ30_init_0 10 rfl rfl)
theorem dJ30_init_11 : decode cJ30_init 11 = .ok (.getfield 13, 3) := dk_180 0 13 (dk_at dksJ30_init_0 11 rfl rfl)
theorem dJ30_init_14 : decode cJ30_init 14 = .ok (.putfield 19, 3) := dk_181 0 19 (dk_at dksJ30_init_0 14 rfl rfl)
theorem dJ30_init_17 : decode cJ30_init 17 = .ok (.aload_n 0, 1) := dk_42 (dk_at dksJ30_init_0 17 rfl rfl)
theorem dJ30_init_18 : decode cJ30_init 18 = .ok (.aconst_null, 1) := dk_1 (dk_at dksJ30_init_0 18 rfl rfl)
theorem dJ30_init_19 : decode cJ30_init 19 = .ok (.putfield 22, 3) := dk_181 0 22 (dk_at dksJ30_init_0 19 rfl rfl)
theorem dJ30_init_22 : decode cJ30_init 22 = .ok (.aload_n 0, 1) := dk_42 (dk_at dksJ30_init_0 22 rfl rfl)
theorem dJ30_init_23 : decode cJ30_init 23 = .ok (.aload_n 2, 1) := dk_44 (dk_at dksJ30_init_0 23 rfl rfl)
theorem dJ30_init_24 : decode cJ30_init 24 = .ok (.putfield 26, 3) := dk_181 0 26 (dk_at dksJ30_init_1 0 rfl rfl)
theorem dJ30_init_27 : decode cJ30_init 27 = .ok (.return_, 1) := dk_177 (dk_at dksJ30_init_1 3 rfl rfl)
def dkwJ31_next_0 : List UInt8 := [42, 182, 0, 7, 180, 0, 13, 176]
abbrev dktJ31_next_0 : List UInt8 := dkwJ31_next_0 ++ []
theorem dksJ31_next_0 : cJ31_next.data.toList.drop 0 = dktJ31_next_0 := by decide +kernel
theorem dJ31_next_0 : decode cJ31_next 0 = .ok (.aload_n 0, 1) := dk_42 (dk_at dksJ31_next_0 0 rfl rfl)
theorem dJ31_next_1 : decode cJ31_next 1 = .ok (.invokevirtual 7, 3) := dk_182 0 7 (dk_at dksJ31_next_0 1 rfl rfl)
theorem dJ31_next_4 : decode cJ31_next 4 = .ok (.getfield 13, 3) := dk_180 0 13 (dk_at dksJ31_next_0 4 rfl rfl)
theorem dJ31_next_7 : decode cJ31_next 7 = .ok (.areturn, 1) := dk_176 (dk_at dksJ31_next_0 7 rfl rfl)
def dkwJ31_init_0 : List UInt8 := [42, 43, 44, 183, 0, 1, 177]
abbrev dktJ31_init_0 : List UInt8 := dkwJ31_init_0 ++ []
theorem dksJ31_init_0 : cJ31_init.data.toList.drop 0 = dktJ31_init_0 := by decide +kernel
theorem dJ31_init_0 : decode cJ31_init 0 = .ok (.aload_n 0, 1) := dk_42 (dk_at dksJ31_init_0 0 rfl rfl)
theorem dJ31_init_1 : decode cJ31_init 1 = .ok (.aload_n 1, 1) := dk_43 (dk_at dksJ31_init_0 1 rfl rfl)
theorem dJ31_init_2 : decode cJ31_init 2 = .ok (.aload_n 2, 1) := dk_44 (dk_at dksJ31_init_0 2 rfl rfl)
theorem dJ31_init_3 : decode cJ31_init 3 = .ok (.invokespecial 1, 3) := dk_183 0 1 (dk_at dksJ31_init_0 3 rfl rfl)
theorem dJ31_init_6 : decode cJ31_init 6 = .ok (.return_, 1) := dk_177 (dk_at dksJ31_init_0 6 rfl rfl)
def dkwJ32_init_1 : List UInt8 := [181, 0, 24, 177]
abbrev dktJ32_init_1 : List UInt8 := dkwJ32_init_1 ++ []
def dkwJ32_init_0 : List UInt8 := [42, 183, 0, 21, 42, 3, 181, 0, 7, 42, 3, 181, 0, 24, 42, 16, 64, 182, 0, 27, 42, 3]
abbrev dktJ32_init_0 : List UInt8 := dkwJ32_init_0 ++ dktJ32_init_1
theorem dksJ32_init_0 : cJ32_init.data.toList.drop 0 = dktJ32_init_0 := by decide +kernel
theorem dksJ32_init_1 : cJ32_init.data.toList.drop 22 = dktJ32_init_1 := dk_seg dksJ32_init_0 22 rfl rfl
theorem dJ32_init_0 : decode cJ32_init 0 = .ok (.aload_n 0, 1) := dk_42 (dk_at dksJ32_init_0 0 rfl rfl)
theorem dJ32_init_1 : decode cJ32_init 1 = .ok (.invokespecial 21, 3) := dk_183 0 21 (dk_at dksJ32_init_0 1 rfl rfl)
theorem dJ32_init_4 : decode cJ32_init 4 = .ok (.aload_n 0, 1) := dk_42 (dk_at dksJ32_init_0 4 rfl rfl)
theorem dJ32_init_5 : decode cJ32_init 5 = .ok (.iconst 0, 1) := dk_3 (dk_at dksJ32_init_0 5 rfl rfl)
theorem dJ32_init_6 : decode cJ32_init 6 = .ok (.putfield 7, 3) := dk_181 0 7 (dk_at dksJ32_init_0 6 rfl rfl)
theorem dJ32_init_9 : decode cJ32_init 9 = .ok (.aload_n 0, 1) := dk_42 (dk_at dksJ32_init_0 9 rfl rfl)
theorem dJ32_init_10 : decode cJ32_init 10 = .ok (.iconst 0, 1) := dk_3 (dk_at dksJ32_init_0 10 rfl rfl)
theorem dJ32_init_11 : decode cJ32_init 11 = .ok (.putfield 24, 3) := dk_181 0 24 (dk_at dksJ32_init_0 11 rfl rfl)
theorem dJ32_init_14 : decode cJ32_init 14 = .ok (.aload_n 0, 1) := dk_42 (dk_at dksJ32_init_0 14 rfl rfl)
theorem dJ32_init_15 : decode cJ32_init 15 = .ok (.bipush 64, 2) := dk_16 64 (dk_at dksJ32_init_0 15 rfl rfl)
theorem dJ32_init_17 : decode cJ32_init 17 = .ok (.invokevirtual 27, 3) := dk_182 0 27 (dk_at dksJ32_init_0 17 rfl rfl)
theorem dJ32_init_20 : decode cJ32_init 20 = .ok (.aload_n 0, 1) := dk_42 (dk_at dksJ32_init_0 20 rfl rfl)
theorem dJ32_init_21 : decode cJ32_init 21 = .ok (.iconst 0, 1) := dk_3 (dk_at dksJ32_init_0 21 rfl rfl)
theorem dJ32_init_22 : decode cJ32_init 22 = .ok (.putfield 24, 3) := dk_181 0 24 (dk_at dksJ32_init_1 0 rfl rfl)
theorem dJ32_init_25 : decode cJ32_init 25 = .ok (.return_, 1) := dk_177 (dk_at dksJ32_init_1 3 rfl rfl)
def dkwJ32_initWords_0 : List UInt8 := [42, 27, 4, 100, 184, 0, 52, 4, 96, 188, 11, 181, 0, 11, 177]
abbrev dktJ32_initWords_0 : List UInt8 := dkwJ32_initWords_0 ++ []
theorem dksJ32_initWords_0 : cJ32_initWords.data.toList.drop 0 = dktJ32_initWords_0 := by decide +kernel
theorem dJ32_initWords_0 : decode cJ32_initWords 0 = .ok (.aload_n 0, 1) := dk_42 (dk_at dksJ32_initWords_0 0 rfl rfl)
theorem dJ32_initWords_1 : decode cJ32_initWords 1 = .ok (.iload_n 1, 1) := dk_27 (dk_at dksJ32_initWords_0 1 rfl rfl)
theorem dJ32_initWords_2 : decode cJ32_initWords 2 = .ok (.iconst 1, 1) := dk_4 (dk_at dksJ32_initWords_0 2 rfl rfl)
theorem dJ32_initWords_3 : decode cJ32_initWords 3 = .ok (.isub, 1) := dk_100 (dk_at dksJ32_initWords_0 3 rfl rfl)
theorem dJ32_initWords_4 : decode cJ32_initWords 4 = .ok (.invokestatic 52, 3) := dk_184 0 52 (dk_at dksJ32_initWords_0 4 rfl rfl)
theorem dJ32_initWords_7 : decode cJ32_initWords 7 = .ok (.iconst 1, 1) := dk_4 (dk_at dksJ32_initWords_0 7 rfl rfl)
theorem dJ32_initWords_8 : decode cJ32_initWords 8 = .ok (.iadd, 1) := dk_96 (dk_at dksJ32_initWords_0 8 rfl rfl)
theorem dJ32_initWords_9 : decode cJ32_initWords 9 = .ok (.newarray .long, 2) := dk_188_11 (dk_at dksJ32_initWords_0 9 rfl rfl)
theorem dJ32_initWords_11 : decode cJ32_initWords 11 = .ok (.putfield 11, 3) := dk_181 0 11 (dk_at dksJ32_initWords_0 11 rfl rfl)
theorem dJ32_initWords_14 : decode cJ32_initWords 14 = .ok (.return_, 1) := dk_177 (dk_at dksJ32_initWords_0 14 rfl rfl)
def dkwJ32_wordIndex_0 : List UInt8 := [26, 16, 6, 122, 172]
abbrev dktJ32_wordIndex_0 : List UInt8 := dkwJ32_wordIndex_0 ++ []
theorem dksJ32_wordIndex_0 : cJ32_wordIndex.data.toList.drop 0 = dktJ32_wordIndex_0 := by decide +kernel
theorem dJ32_wordIndex_0 : decode cJ32_wordIndex 0 = .ok (.iload_n 0, 1) := dk_26 (dk_at dksJ32_wordIndex_0 0 rfl rfl)
theorem dJ32_wordIndex_1 : decode cJ32_wordIndex 1 = .ok (.bipush 6, 2) := dk_16 6 (dk_at dksJ32_wordIndex_0 1 rfl rfl)
theorem dJ32_wordIndex_3 : decode cJ32_wordIndex 3 = .ok (.ishr, 1) := dk_122 (dk_at dksJ32_wordIndex_0 3 rfl rfl)
theorem dJ32_wordIndex_4 : decode cJ32_wordIndex 4 = .ok (.ireturn, 1) := dk_172 (dk_at dksJ32_wordIndex_0 4 rfl rfl)
def dkwJ32_or_4 : List UInt8 := [180, 0, 7, 28, 100, 184, 0, 199, 42, 182, 0, 56, 177]
abbrev dktJ32_or_4 : List UInt8 := dkwJ32_or_4 ++ []
def dkwJ32_or_3 : List UInt8 := [167, 255, 233, 28, 43, 180, 0, 7, 162, 0, 22, 43, 180, 0, 11, 28, 42, 180, 0, 11, 28, 42]
abbrev dktJ32_or_3 : List UInt8 := dkwJ32_or_3 ++ dktJ32_or_4
def dkwJ32_or_2 : List UInt8 := [29, 28, 162, 0, 24, 42, 180, 0, 11, 29, 92, 47, 43, 180, 0, 11, 29, 47, 129, 80, 132, 3, 1]
abbrev dktJ32_or_2 : List UInt8 := dkwJ32_or_2 ++ dktJ32_or_3
def dkwJ32_or_1 : List UInt8 := [180, 0, 7, 162, 0, 19, 42, 43, 180, 0, 7, 182, 0, 139, 42, 43, 180, 0, 7, 181, 0, 7, 3, 62]
abbrev dktJ32_or_1 : List UInt8 := dkwJ32_or_1 ++ dktJ32_or_2
def dkwJ32_or_0 : List UInt8 := [42, 43, 166, 0, 4, 177, 42, 180, 0, 7, 43, 180, 0, 7, 184, 0, 193, 61, 42, 180, 0, 7, 43]
abbrev dktJ32_or_0 : List UInt8 := dkwJ32_or_0 ++ dktJ32_or_1
theorem dksJ32_or_0 : cJ32_or.data.toList.drop 0 = dktJ32_or_0 := by decide +kernel
theorem dksJ32_or_1 : cJ32_or.data.toList.drop 23 = dktJ32_or_1 := dk_seg dksJ32_or_0 23 rfl rfl
theorem dksJ32_or_2 : cJ32_or.data.toList.drop 47 = dktJ32_or_2 := dk_seg dksJ32_or_1 24 rfl rfl
theorem dksJ32_or_3 : cJ32_or.data.toList.drop 70 = dktJ32_or_3 := dk_seg dksJ32_or_2 23 rfl rfl
theorem dksJ32_or_4 : cJ32_or.data.toList.drop 92 = dktJ32_or_4 := dk_seg dksJ32_or_3 22 rfl rfl
theorem dJ32_or_0 : decode cJ32_or 0 = .ok (.aload_n 0, 1) := dk_42 (dk_at dksJ32_or_0 0 rfl rfl)
theorem dJ32_or_1 : decode cJ32_or 1 = .ok (.aload_n 1, 1) := dk_43 (dk_at dksJ32_or_0 1 rfl rfl)
theorem dJ32_or_2 : decode cJ32_or 2 = .ok (.if_acmp .ne 4, 3) := dk_166 0 4 (dk_at dksJ32_or_0 2 rfl rfl)
theorem dJ32_or_5 : decode cJ32_or 5 = .ok (.return_, 1) := dk_177 (dk_at dksJ32_or_0 5 rfl rfl)
theorem dJ32_or_6 : decode cJ32_or 6 = .ok (.aload_n 0, 1) := dk_42 (dk_at dksJ32_or_0 6 rfl rfl)
theorem dJ32_or_7 : decode cJ32_or 7 = .ok (.getfield 7, 3) := dk_180 0 7 (dk_at dksJ32_or_0 7 rfl rfl)
theorem dJ32_or_10 : decode cJ32_or 10 = .ok (.aload_n 1, 1) := dk_43 (dk_at dksJ32_or_0 10 rfl rfl)
theorem dJ32_or_11 : decode cJ32_or 11 = .ok (.getfield 7, 3) := dk_180 0 7 (dk_at dksJ32_or_0 11 rfl rfl)
theorem dJ32_or_14 : decode cJ32_or 14 = .ok (.invokestatic 193, 3) := dk_184 0 193 (dk_at dksJ32_or_0 14 rfl rfl)
theorem dJ32_or_17 : decode cJ32_or 17 = .ok (.istore_n 2, 1) := dk_61 (dk_at dksJ32_or_0 17 rfl rfl)
theorem dJ32_or_18 : decode cJ32_or 18 = .ok (.aload_n 0, 1) := dk_42 (dk_at dksJ32_or_0 18 rfl rfl)
theorem dJ32_or_19 : decode cJ32_or 19 = .ok (.getfield 7, 3) := dk_180 0 7 (dk_at dksJ32_or_0 19 rfl rfl)
theorem dJ32_or_22 : decode cJ32_or 22 = .ok (.aload_n 1, 1) := dk_43 (dk_at dksJ32_or_0 22 rfl rfl)
theorem dJ32_or_23 : decode cJ32_or 23 = .ok (.getfield 7, 3) := dk_180 0 7 (dk_at dksJ32_or_1 0 rfl rfl)
theorem dJ32_or_26 : decode cJ32_or 26 = .ok (.if_icmp .ge 19, 3) := dk_162 0 19 (dk_at dksJ32_or_1 3 rfl rfl)
theorem dJ32_or_29 : decode cJ32_or 29 = .ok (.aload_n 0, 1) := dk_42 (dk_at dksJ32_or_1 6 rfl rfl)
theorem dJ32_or_30 : decode cJ32_or 30 = .ok (.aload_n 1, 1) := dk_43 (dk_at dksJ32_or_1 7 rfl rfl)
theorem dJ32_or_31 : decode cJ32_or 31 = .ok (.getfield 7, 3) := dk_180 0 7 (dk_at dksJ32_or_1 8 rfl rfl)
theorem dJ32_or_34 : decode cJ32_or 34 = .ok (.invokevirtual 139, 3) := dk_182 0 139 (dk_at dksJ32_or_1 11 rfl rfl)
theorem dJ32_or_37 : decode cJ32_or 37 = .ok (.aload_n 0, 1) := dk_42 (dk_at dksJ32_or_1 14 rfl rfl)
theorem dJ32_or_38 : decode cJ32_or 38 = .ok (.aload_n 1, 1) := dk_43 (dk_at dksJ32_or_1 15 rfl rfl)
theorem dJ32_or_39 : decode cJ32_or 39 = .ok (.getfield 7, 3) := dk_180 0 7 (dk_at dksJ32_or_1 16 rfl rfl)
theorem dJ32_or_42 : decode cJ32_or 42 = .ok (.putfield 7, 3) := dk_181 0 7 (dk_at dksJ32_or_1 19 rfl rfl)
theorem dJ32_or_45 : decode cJ32_or 45 = .ok (.iconst 0, 1) := dk_3 (dk_at dksJ32_or_1 22 rfl rfl)
theorem dJ32_or_46 : decode cJ32_or 46 = .ok (.istore_n 3, 1) := dk_62 (dk_at dksJ32_or_1 23 rfl rfl)
theorem dJ32_or_47 : decode cJ32_or 47 = .ok (.iload_n 3, 1) := dk_29 (dk_at dksJ32_or_2 0 rfl rfl)
theorem dJ32_or_48 : decode cJ32_or 48 = .ok (.iload_n 2, 1) := dk_28 (dk_at dksJ32_or_2 1 rfl rfl)
theorem dJ32_or_49 : decode cJ32_or 49 = .ok (.if_icmp .ge 24, 3) := dk_162 0 24 (dk_at dksJ32_or_2 2 rfl rfl)
theorem dJ32_or_52 : decode cJ32_or 52 = .ok (.aload_n 0, 1) := dk_42 (dk_at dksJ32_or_2 5 rfl rfl)
theorem dJ32_or_53 : decode cJ32_or 53 = .ok (.getfield 11, 3) := dk_180 0 11 (dk_at dksJ32_or_2 6 rfl rfl)
theorem dJ32_or_56 : decode cJ32_or 56 = .ok (.iload_n 3, 1) := dk_29 (dk_at dksJ32_or_2 9 rfl rfl)
theorem dJ32_or_57 : decode cJ32_or 57 = .ok (.dup2, 1) := dk_92 (dk_at dksJ32_or_2 10 rfl rfl)
theorem dJ32_or_58 : decode cJ32_or 58 = .ok (.laload, 1) := dk_47 (dk_at dksJ32_or_2 11 rfl rfl)
theorem dJ32_or_59 : decode cJ32_or 59 = .ok (.aload_n 1, 1) := dk_43 (dk_at dksJ32_or_2 12 rfl rfl)
theorem dJ32_or_60 : decode cJ32_or 60 = .ok (.getfield 11, 3) := dk_180 0 11 (dk_at dksJ32_or_2 13 rfl rfl)
theorem dJ32_or_63 : decode cJ32_or 63 = .ok (.iload_n 3, 1) := dk_29 (dk_at dksJ32_or_2 16 rfl rfl)
theorem dJ32_or_64 : decode cJ32_or 64 = .ok (.laload, 1) := dk_47 (dk_at dksJ32_or_2 17 rfl rfl)
theorem dJ32_or_65 : decode cJ32_or 65 = .ok (.lor, 1) := dk_129 (dk_at dksJ32_or_2 18 rfl rfl)
theorem dJ32_or_66 : decode cJ32_or 66 = .ok (.lastore, 1) := dk_80 (dk_at dksJ32_or_2 19 rfl rfl)
theorem dJ32_or_67 : decode cJ32_or 67 = .ok (.iinc 3 1, 3) := dk_132 3 1 (dk_at dksJ32_or_2 20 rfl rfl)
theorem dJ32_or_70 : decode cJ32_or 70 = .ok (.goto (-23), 3) := dk_167 255 233 (dk_at dksJ32_or_3 0 rfl rfl)
theorem dJ32_or_73 : decode cJ32_or 73 = .ok (.iload_n 2, 1) := dk_28 (dk_at dksJ32_or_3 3 rfl rfl)
theorem dJ32_or_74 : decode cJ32_or 74 = .ok (.aload_n 1, 1) := dk_43 (dk_at dksJ32_or_3 4 rfl rfl)
theorem dJ32_or_75 : decode cJ32_or 75 = .ok (.getfield 7, 3) := dk_180 0 7 (dk_at dksJ32_or_3 5 rfl rfl)
theorem dJ32_or_78 : decode cJ32_or 78 = .ok (.if_icmp .ge 22, 3) := dk_162 0 22 (dk_at dksJ32_or_3 8 rfl rfl)
theorem dJ32_or_81 : decode cJ32_or 81 = .ok (.aload_n 1, 1) := dk_43 (dk_at dksJ32_or_3 11 rfl rfl)
theorem dJ32_or_82 : decode cJ32_or 82 = .ok (.getfield 11, 3) := dk_180 0 11 (dk_at dksJ32_or_3 12 rfl rfl)
theorem dJ32_or_85 : decode cJ32_or 85 = .ok (.iload_n 2, 1) := dk_28 (dk_at dksJ32_or_3 15 rfl rfl)
theorem dJ32_or_86 : decode cJ32_or 86 = .ok (.aload_n 0, 1) := dk_42 (dk_at dksJ32_or_3 16 rfl rfl)
theorem dJ32_or_87 : decode cJ32_or 87 = .ok (.getfield 11, 3) := dk_180 0 11 (dk_at dksJ32_or_3 17 rfl rfl)
theorem dJ32_or_90 : decode cJ32_or 90 = .ok (.iload_n 2, 1) := dk_28 (dk_at dksJ32_or_3 20 rfl rfl)
theorem dJ32_or_91 : decode cJ32_or 91 = .ok (.aload_n 0, 1) := dk_42 (dk_at dksJ32_or_3 21 rfl rfl)
theorem dJ32_or_92 : decode cJ32_or 92 = .ok (.getfield 7, 3) := dk_180 0 7 (dk_at dksJ32_or_4 0 rfl rfl)
theorem dJ32_or_95 : decode cJ32_or 95 = .ok (.iload_n 2, 1) := dk_28 (dk_at dksJ32_or_4 3 rfl rfl)
theorem dJ32_or_96 : decode cJ32_or 96 = .ok (.isub, 1) := dk_100 (dk_at dksJ32_or_4 4 rfl rfl)
theorem dJ32_or_97 : decode cJ32_or 97 = .ok (.invokestatic 199, 3) := dk_184 0 199 (dk_at dksJ32_or_4 5 rfl rfl)
theorem dJ32_or_100 : decode cJ32_or 100 = .ok (.aload_n 0, 1) := dk_42 (dk_at dksJ32_or_4 8 rfl rfl)
theorem dJ32_or_101 : decode cJ32_or 101 = .ok (.invokevirtual 56, 3) := dk_182 0 56 (dk_at dksJ32_or_4 9 rfl rfl)
theorem dJ32_or_104 : decode cJ32_or 104 = .ok (.return_, 1) := dk_177 (dk_at dksJ32_or_4 12 rfl rfl)
def dkwJ32_ensureCapacity_1 : List UInt8 := [180, 0, 11, 28, 184, 0, 59, 181, 0, 11, 42, 3, 181, 0, 24, 177]
abbrev dktJ32_ensureCapacity_1 : List UInt8 := dkwJ32_ensureCapacity_1 ++ []
def dkwJ32_ensureCapacity_0 : List UInt8 := [42, 180, 0, 11, 190, 27, 162, 0, 32, 5, 42, 180, 0, 11, 190, 104, 27, 184, 0, 133, 61, 42, 42]
abbrev dktJ32_ensureCapacity_0 : List UInt8 := dkwJ32_ensureCapacity_0 ++ dktJ32_ensureCapacity_1
theorem dksJ32_ensureCapacity_0 : cJ32_ensureCapacity.data.toList.drop 0 = dktJ32_ensureCapacity_0 := by decide +kernel
theorem dksJ32_ensureCapacity_1 : cJ32_ensureCapacity.data.toList.drop 23 = dktJ32_ensureCapacity_1 := dk_seg dksJ32_ensureCapacity_0 23 rfl rfl
theorem dJ32_ensureCapacity_0 : decode cJ32_ensureCapacity 0 = .ok (.aload_n 0, 1) := dk_42 (dk_at dksJ32_ensureCapacity_0 0 rfl rfl)
theorem dJ32_ensureCapacity_1 : decode cJ32_ensureCapacity 1 = .ok (.getfield 11, 3) := dk_180 0 11 (dk_at dksJ32_ensureCapacity_0 1 rfl rfl)
theorem dJ32_ensureCapacity_4 : decode cJ32_ensureCapacity 4 = .ok (.arraylength, 1) := dk_190 (dk_at dksJ32_ensureCapacity_0 4 rfl rfl)
theorem dJ32_ensureCapacity_5 : decode cJ32_ensureCapacity 5 = .ok (.iload_n 1, 1) := dk_27 (dk_at dksJ32_ensureCapacity_0 5 rfl rfl)
theorem dJ32_ensureCapacity_6 : decode cJ32_ensureCapacity 6 = .ok (.if_icmp .ge 32, 3) := dk_162 0 32 (dk_at dksJ32_ensureCapacity_0 6 rfl rfl)
theorem dJ32_ensureCapacity_9 : decode cJ32_ensureCapacity 9 = .ok (.iconst 2, 1) := dk_5 (dk_at dksJ32_ensureCapacity_0 9 rfl rfl)
theorem dJ32_ensureCapacity_10 : decode cJ32_ensureCapacity 10 = .ok (.aload_n 0, 1) := dk_42 (dk_at dksJ32_ensureCapacity_0 10 rfl rfl)
theorem dJ32_ensureCapacity_11 : decode cJ32_ensureCapacity 11 = .ok (.getfield 11, 3) := dk_180 0 11 (dk_at dksJ32_ensureCapacity_0 11 rfl rfl)
theorem dJ32_ensureCapacity_14 : decode cJ32_ensureCapacity 14 = .ok (.arraylength, 1) := dk_190 (dk_at dksJ32_ensureCapacity_0 14 rfl rfl)
theorem dJ32_ensureCapacity_15 : decode cJ32_ensureCapacity 15 = .ok (.imul, 1) := dk_104 (dk_at dksJ32_ensureCapacity_0 15 rfl rfl)
theorem dJ32_ensureCapacity_16 : decode cJ32_ensureCapacity 16 = .ok (.iload_n 1, 1) := dk_27 (dk_at dksJ32_ensureCapacity_0 16 rfl rfl)
theorem dJ32_ensureCapacity_17 : decode cJ32_ensureCapacity 17 = .ok (.invokestatic 133, 3) := dk_184 0 133 (dk_at dksJ32_ensureCapacity_0 17 rfl rfl)
theorem dJ32_ensureCapacity_20 : decode cJ32_ensureCapacity 20 = .ok (.istore_n 2, 1) := dk_61 (dk_at dksJ32_ensureCapacity_0 20 rfl rfl)
theorem dJ32_ensureCapacity_21 : decode cJ32_ensureCapacity 21 = .ok (.aload_n 0, 1) := dk_42 (dk_at dksJ32_ensureCapacity_0 21 rfl rfl)
theorem dJ32_ensureCapacity_22 : decode cJ32_ensureCapacity 22 = .ok (.aload_n 0, 1) := dk_42 (dk_at dksJ32_ensureCapacity_0 22 rfl rfl)
theorem dJ32_ensureCapacity_23 : decode cJ32_ensureCapacity 23 = .ok (.getfield 11, 3) := dk_180 0 11 (dk_at dksJ32_ensureCapacity_1 0 rfl rfl)
theorem dJ32_ensureCapacity_26 : decode cJ32_ensureCapacity 26 = .ok (.iload_n 2, 1) := dk_28 (dk_at dksJ32_ensureCapacity_1 3 rfl rfl)
theorem dJ32_ensureCapacity_27 : decode cJ32_ensureCapacity 27 = .ok (.invokestatic 59, 3) := dk_184 0 59 (dk_at dksJ32_ensureCapacity_1 4 rfl rfl)
theorem dJ32_ensureCapacity_30 : decode cJ32_ensureCapacity 30 = .ok (.putfield 11, 3) := dk_181 0 11 (dk_at dksJ32_ensureCapacity_1 7 rfl rfl)
theorem dJ32_ensureCapacity_33 : decode cJ32_ensureCapacity 33 = .ok (.aload_n 0, 1) := dk_42 (dk_at dksJ32_ensureCapacity_1 10 rfl rfl)
theorem dJ32_ensureCapacity_34 : decode cJ32_ensureCapacity 34 = .ok (.iconst 0, 1) := dk_3 (dk_at dksJ32_ensureCapacity_1 11 rfl rfl)
theorem dJ32_ensureCapacity_35 : decode cJ32_ensureCapacity 35 = .ok (.putfield 24, 3) := dk_181 0 24 (dk_at dksJ32_ensureCapacity_1 12 rfl rfl)
theorem dJ32_ensureCapacity_38 : decode cJ32_ensureCapacity 38 = .ok (.return_, 1) := dk_177 (dk_at dksJ32_ensureCapacity_1 15 rfl rfl)
def dkwJ32_checkInvariants_4 : List UInt8 := [180, 0, 7, 47, 9, 148, 153, 0, 11, 187, 0, 15, 89, 183, 0, 17, 191, 177]
abbrev dktJ32_checkInvariants_4 : List UInt8 := dkwJ32_checkInvariants_4 ++ []
def dkwJ32_checkInvariants_3 : List UInt8 := [178, 0, 3, 154, 0, 37, 42, 180, 0, 7, 42, 180, 0, 11, 190, 159, 0, 25, 42, 180, 0, 11, 42]
abbrev dktJ32_checkInvariants_3 : List UInt8 := dkwJ32_checkInvariants_3 ++ dktJ32_checkInvariants_4
def dkwJ32_checkInvariants_2 : List UInt8 := [155, 0, 15, 42, 180, 0, 7, 42, 180, 0, 11, 190, 164, 0, 11, 187, 0, 15, 89, 183, 0, 17, 191]
abbrev dktJ32_checkInvariants_2 : List UInt8 := dkwJ32_checkInvariants_2 ++ dktJ32_checkInvariants_3
def dkwJ32_checkInvariants_1 : List UInt8 := [9, 148, 154, 0, 11, 187, 0, 15, 89, 183, 0, 17, 191, 178, 0, 3, 154, 0, 30, 42, 180, 0, 7]
abbrev dktJ32_checkInvariants_1 : List UInt8 := dkwJ32_checkInvariants_1 ++ dktJ32_checkInvariants_2
def dkwJ32_checkInvariants_0 : List UInt8 := [178, 0, 3, 154, 0, 34, 42, 180, 0, 7, 153, 0, 27, 42, 180, 0, 11, 42, 180, 0, 7, 4, 100, 47]
abbrev dktJ32_checkInvariants_0 : List UInt8 := dkwJ32_checkInvariants_0 ++ dktJ32_checkInvariants_1
theorem dksJ32_checkInvariants_0 : cJ32_checkInvariants.data.toList.drop 0 = dktJ32_checkInvariants_0 := by decide +kernel
theorem dksJ32_checkInvariants_1 : cJ32_checkInvariants.data.toList.drop 24 = dktJ32_checkInvariants_1 := dk_seg dksJ32_checkInvariants_0 24 rfl rfl
theorem dksJ32_checkInvariants_2 : cJ32_checkInvariants.data.toList.drop 47 = dktJ32_checkInvariants_2 := dk_seg dksJ32_checkInvariants_1 23 rfl rfl
theorem dksJ32_checkInvariants_3 : cJ32_checkInvariants.data.toList.drop 70 = dktJ32_checkInvariants_3 := dk_seg dksJ32_checkInvariants_2 23 rfl rfl
theorem dksJ32_checkInvariants_4 : cJ32_checkInvariants.data.toList.drop 93 = dktJ32_checkInvariants_4 := dk_seg dksJ32_checkInvariants_3 23 rfl rfl
theorem dJ32_checkInvariants_0 : decode cJ32_checkInvariants 0 = .ok (.getstatic 3, 3) := dk_178 0 3 (dk_at dksJ32_checkInvariants_0 0 rfl rfl)
theorem dJ32_checkInvariants_3 : decode cJ32_checkInvariants 3 = .ok (.ifCond .ne 34, 3) := dk_154 0 34 (dk_at dksJ32_checkInvariants_0 3 rfl rfl)
theorem dJ32_checkInvariants_6 : decode cJ32_checkInvariants 6 = .ok (.aload_n 0, 1) := dk_42 (dk_at dksJ32_checkInvariants_0 6 rfl rfl)
theorem dJ32_checkInvariants_7 : decode cJ32_checkInvariants 7 = .ok (.getfield 7, 3) := dk_180 0 7 (dk_at dksJ32_checkInvariants_0 7 rfl rfl)
theorem dJ32_checkInvariants_10 : decode cJ32_checkInvariants 10 = .ok (.ifCond .eq 27, 3) := dk_153 0 27 (dk_at dksJ32_checkInvariants_0 10 rfl rfl)
theorem dJ32_checkInvariants_13 : decode cJ32_checkInvariants 13 = .ok (.aload_n 0, 1) := dk_42 (dk_at dksJ32_checkInvariants_0 13 rfl rfl)
theorem dJ32_checkInvariants_14 : decode cJ32_checkInvariants 14 = .ok (.getfield 11, 3) := dk_180 0 11 (dk_at dksJ32_checkInvariants_0 14 rfl rfl)
theorem dJ32_checkInvariants_17 : decode cJ32_checkInvariants 17 = .ok (.aload_n 0, 1) := dk_42 (dk_at dksJ32_checkInvariants_0 17 rfl rfl)
theorem dJ32_checkInvariants_18 : decode cJ32_checkInvariants 18 = .ok (.getfield 7, 3) := dk_180 0 7 (dk_at dksJ32_checkInvariants_0 18 rfl rfl)
theorem dJ32_checkInvariants_21 : decode cJ32_checkInvariants 21 = .ok (.iconst 1, 1) := dk_4 (dk_at dksJ32_checkInvariants_0 21 rfl rfl)
theorem dJ32_checkInvariants_22 : decode cJ32_checkInvariants 22 = .ok (.isub, 1) := dk_100 (dk_at dksJ32_checkInvariants_0 22 rfl rfl)
theorem dJ32_checkInvariants_23 : decode cJ32_checkInvariants 23 = .ok (.laload, 1) := dk_47 (dk_at dksJ32_checkInvariants_0 23 rfl rfl)
theorem dJ32_checkInvariants_24 : decode cJ32_checkInvariants 24 = .ok (.lconst 0, 1) := dk_9 (dk_at dksJ32_checkInvariants_1 0 rfl rfl)
theorem dJ32_checkInvariants_25 : decode cJ32_checkInvariants 25 = .ok (.lcmp, 1) := dk_148 (dk_at dksJ32_checkInvariants_1 1 rfl rfl)
theorem dJ32_checkInvariants_26 : decode cJ32_checkInvariants 26 = .ok (.ifCond .ne 11, 3) := dk_154 0 11 (dk_at dksJ32_checkInvariants_1 2 rfl rfl)
theorem dJ32_checkInvariants_37 : decode cJ32_checkInvariants 37 = .ok (.getstatic 3, 3) := dk_178 0 3 (dk_at dksJ32_checkInvariants_1 13 rfl rfl)
theorem dJ32_checkInvariants_40 : decode cJ32_checkInvariants 40 = .ok (.ifCond .ne 30, 3) := dk_154 0 30 (dk_at dksJ32_checkInvariants_1 16 rfl rfl)
theorem dJ32_checkInvariants_43 : decode cJ32_checkInvariants 43 = .ok (.aload_n 0, 1) := dk_42 (dk_at dksJ32_checkInvariants_1 19 rfl rfl)
theorem dJ32_checkInvariants_44 : decode cJ32_checkInvariants 44 = .ok (.getfield 7, 3) := dk_180 0 7 (dk_at dksJ32_checkInvariants_1 20 rfl rfl)
theorem dJ32_checkInvariants_47 : decode cJ32_checkInvariants 47 = .ok (.ifCond .lt 15, 3) := dk_155 0 15 (dk_at dksJ32_checkInvariants_2 0 rfl rfl)
theorem dJ32_checkInvariants_50 : decode cJ32_checkInvariants 50 = .ok (.aload_n 0, 1) := dk_42 (dk_at dksJ32_checkInvariants_2 3 rfl rfl)
theorem dJ32_checkInvariants_51 : decode cJ32_checkInvariants 51 = .ok (.getfield 7, 3) := dk_180 0 7 (dk_at dksJ32_checkInvariants_2 4 rfl rfl)
theorem dJ32_checkInvariants_54 : decode cJ32_checkInvariants 54 = .ok (.aload_n 0, 1) := dk_42 (dk_at dksJ32_checkInvariants_2 7 rfl rfl)
theorem dJ32_checkInvariants_55 : decode cJ32_checkInvariants 55 = .ok (.getfield 11, 3) := dk_180 0 11 (dk_at dksJ32_checkInvariants_2 8 rfl rfl)
theorem dJ32_checkInvariants_58 : decode cJ32_checkInvariants 58 = .ok (.arraylength, 1) := dk_190 (dk_at dksJ32_checkInvariants_2 11 rfl rfl)
theorem dJ32_checkInvariants_59 : decode cJ32_checkInvariants 59 = .ok (.if_icmp .le 11, 3) := dk_164 0 11 (dk_at dksJ32_checkInvariants_2 12 rfl rfl)
theorem dJ32_checkInvariants_70 : decode cJ32_checkInvariants 70 = .ok (.getstatic 3, 3) := dk_178 0 3 (dk_at dksJ32_checkInvariants_3 0 rfl rfl)
theorem dJ32_checkInvariants_73 : decode cJ32_checkInvariants 73 = .ok (.ifCond .ne 37, 3) := dk_154 0 37 (dk_at dksJ32_checkInvariants_3 3 rfl rfl)
theorem dJ32_checkInvariants_76 : decode cJ32_checkInvariants 76 = .ok (.aload_n 0, 1) := dk_42 (dk_at dksJ32_checkInvariants_3 6 rfl rfl)
theorem dJ32_checkInvariants_77 : decode cJ32_checkInvariants 77 = .ok (.getfield 7, 3) := dk_180 0 7 (dk_at dksJ32_checkInvariants_3 7 rfl rfl)
theorem dJ32_checkInvariants_80 : decode cJ32_checkInvariants 80 = .ok (.aload_n 0, 1) := dk_42 (dk_at dksJ32_checkInvariants_3 10 rfl rfl)
theorem dJ32_checkInvariants_81 : decode cJ32_checkInvariants 81 = .ok (.getfield 11, 3) := dk_180 0 11 (dk_at dksJ32_checkInvariants_3 11 rfl rfl)
theorem dJ32_checkInvariants_84 : decode cJ32_checkInvariants 84 = .ok (.arraylength, 1) := dk_190 (dk_at dksJ32_checkInvariants_3 14 rfl rfl)
theorem dJ32_checkInvariants_85 : decode cJ32_checkInvariants 85 = .ok (.if_icmp .eq 25, 3) := dk_159 0 25 (dk_at dksJ32_checkInvariants_3 15 rfl rfl)
theorem dJ32_checkInvariants_88 : decode cJ32_checkInvariants 88 = .ok (.aload_n 0, 1) := dk_42 (dk_at dksJ32_checkInvariants_3 18 rfl rfl)
theorem dJ32_checkInvariants_89 : decode cJ32_checkInvariants 89 = .ok (.getfield 11, 3) := dk_180 0 11 (dk_at dksJ32_checkInvariants_3 19 rfl rfl)
theorem dJ32_checkInvariants_92 : decode cJ32_checkInvariants 92 = .ok (.aload_n 0, 1) := dk_42 (dk_at dksJ32_checkInvariants_3 22 rfl rfl)
theorem dJ32_checkInvariants_93 : decode cJ32_checkInvariants 93 = .ok (.getfield 7, 3) := dk_180 0 7 (dk_at dksJ32_checkInvariants_4 0 rfl rfl)
theorem dJ32_checkInvariants_96 : decode cJ32_checkInvariants 96 = .ok (.laload, 1) := dk_47 (dk_at dksJ32_checkInvariants_4 3 rfl rfl)
theorem dJ32_checkInvariants_97 : decode cJ32_checkInvariants 97 = .ok (.lconst 0, 1) := dk_9 (dk_at dksJ32_checkInvariants_4 4 rfl rfl)
theorem dJ32_checkInvariants_98 : decode cJ32_checkInvariants 98 = .ok (.lcmp, 1) := dk_148 (dk_at dksJ32_checkInvariants_4 5 rfl rfl)
theorem dJ32_checkInvariants_99 : decode cJ32_checkInvariants 99 = .ok (.ifCond .eq 11, 3) := dk_153 0 11 (dk_at dksJ32_checkInvariants_4 6 rfl rfl)
theorem dJ32_checkInvariants_110 : decode cJ32_checkInvariants 110 = .ok (.return_, 1) := dk_177 (dk_at dksJ32_checkInvariants_4 17 rfl rfl)
def dkwJ32_get_2 : List UInt8 := [42, 180, 0, 11, 28, 47, 10, 27, 121, 127, 9, 148, 153, 0, 7, 4, 167, 0, 4, 3, 172]
abbrev dktJ32_get_2 : List UInt8 := dkwJ32_get_2 ++ []
def dkwJ32_get_1 : List UInt8 := [182, 0, 45, 183, 0, 146, 191, 42, 182, 0, 56, 27, 184, 0, 52, 61, 28, 42, 180, 0, 7, 162, 0, 22]
abbrev dktJ32_get_1 : List UInt8 := dkwJ32_get_1 ++ dktJ32_get_2
def dkwJ32_get_0 : List UInt8 := [27, 156, 0, 30, 187, 0, 142, 89, 187, 0, 33, 89, 183, 0, 35, 18, 153, 182, 0, 38, 27, 182, 0, 42]
abbrev dktJ32_get_0 : List UInt8 := dkwJ32_get_0 ++ dktJ32_get_1
theorem dksJ32_get_0 : cJ32_get.data.toList.drop 0 = dktJ32_get_0 := by decide +kernel
theorem dksJ32_get_1 : cJ32_get.data.toList.drop 24 = dktJ32_get_1 := dk_seg dksJ32_get_0 24 rfl rfl
theorem dksJ32_get_2 : cJ32_get.data.toList.drop 48 = dktJ32_get_2 := dk_seg dksJ32_get_1 24 rfl rfl
theorem dJ32_get_0 : decode cJ32_get 0 = .ok (.iload_n 1, 1) := dk_27 (dk_at dksJ32_get_0 0 rfl rfl)
theorem dJ32_get_1 : decode cJ32_get 1 = .ok (.ifCond .ge 30, 3) := dk_156 0 30 (dk_at dksJ32_get_0 1 rfl rfl)
theorem dJ32_get_31 : decode cJ32_get 31 = .ok (.aload_n 0, 1) := dk_42 (dk_at dksJ32_get_1 7 rfl rfl)
theorem dJ32_get_32 : decode cJ32_get 32 = .ok (.invokevirtual 56, 3) := dk_182 0 56 (dk_at dksJ32_get_1 8 rfl rfl)
theorem dJ32_get_35 : decode cJ32_get 35 = .ok (.iload_n 1, 1) := dk_27 (dk_at dksJ32_get_1 11 rfl rfl)
theorem dJ32_get_36 : decode cJ32_get 36 = .ok (.invokestatic 52, 3) := dk_184 0 52 (dk_at dksJ32_get_1 12 rfl rfl)
theorem dJ32_get_39 : decode cJ32_get 39 = .ok (.istore_n 2, 1) := dk_61 (dk_at dksJ32_get_1 15 rfl rfl)
theorem dJ32_get_40 : decode cJ32_get 40 = .ok (.iload_n 2, 1) := dk_28 (dk_at dksJ32_get_1 16 rfl rfl)
theorem dJ32_get_41 : decode cJ32_get 41 = .ok (.aload_n 0, 1) := dk_42 (dk_at dksJ32_get_1 17 rfl rfl)
theorem dJ32_get_42 : decode cJ32_get 42 = .ok (.getfield 7, 3) := dk_180 0 7 (dk_at dksJ32_get_1 18 rfl rfl)
theorem dJ32_get_45 : decode cJ32_get 45 = .ok (.if_icmp .ge 22, 3) := dk_162 0 22 (dk_at dksJ32_get_1 21 rfl rfl)
theorem dJ32_get_48 : decode cJ32_get 48 = .ok (.aload_n 0, 1) := dk_42 (dk_at dksJ32_get_2 0 rfl rfl)
theorem dJ32_get_49 : decode cJ32_get 49 = .ok (.getfield 11, 3) := dk_180 0 11 (dk_at dksJ32_get_2 1 rfl rfl)
theorem dJ32_get_52 : decode cJ32_get 52 = .ok (.iload_n 2, 1) := dk_28 (dk_at dksJ32_get_2 4 rfl rfl)
theorem dJ32_get_53 : decode cJ32_get 53 = .ok (.laload, 1) := dk_47 (dk_at dksJ32_get_2 5 rfl rfl)
theorem dJ32_get_54 : decode cJ32_get 54 = .ok (.lconst 1, 1) := dk_10 (dk_at dksJ32_get_2 6 rfl rfl)
theorem dJ32_get_55 : decode cJ32_get 55 = .ok (.iload_n 1, 1) := dk_27 (dk_at dksJ32_get_2 7 rfl rfl)
theorem dJ32_get_56 : decode cJ32_get 56 = .ok (.lshl, 1) := dk_121 (dk_at dksJ32_get_2 8 rfl rfl)
theorem dJ32_get_57 : decode cJ32_get 57 = .ok (.land, 1) := dk_127 (dk_at dksJ32_get_2 9 rfl rfl)
theorem dJ32_get_58 : decode cJ32_get 58 = .ok (.lconst 0, 1) := dk_9 (dk_at dksJ32_get_2 10 rfl rfl)
theorem dJ32_get_59 : decode cJ32_get 59 = .ok (.lcmp, 1) := dk_148 (dk_at dksJ32_get_2 11 rfl rfl)
theorem dJ32_get_60 : decode cJ32_get 60 = .ok (.ifCond .eq 7, 3) := dk_153 0 7 (dk_at dksJ32_get_2 12 rfl rfl)
theorem dJ32_get_63 : decode cJ32_get 63 = .ok (.iconst 1, 1) := dk_4 (dk_at dksJ32_get_2 15 rfl rfl)
theorem dJ32_get_64 : decode cJ32_get 64 = .ok (.goto 4, 3) := dk_167 0 4 (dk_at dksJ32_get_2 16 rfl rfl)
theorem dJ32_get_67 : decode cJ32_get 67 = .ok (.iconst 0, 1) := dk_3 (dk_at dksJ32_get_2 19 rfl rfl)
theorem dJ32_get_68 : decode cJ32_get 68 = .ok (.ireturn, 1) := dk_172 (dk_at dksJ32_get_2 20 rfl rfl)
def dkwJ32_set_2 : List UInt8 := [10, 27, 121, 129, 80, 42, 182, 0, 56, 177]
abbrev dktJ32_set_2 : List UInt8 := dkwJ32_set_2 ++ []
def dkwJ32_set_1 : List UInt8 := [182, 0, 45, 183, 0, 146, 191, 27, 184, 0, 52, 61, 42, 28, 182, 0, 155, 42, 180, 0, 11, 28, 92, 47]
abbrev dktJ32_set_1 : List UInt8 := dkwJ32_set_1 ++ dktJ32_set_2
def dkwJ32_set_0 : List UInt8 := [27, 156, 0, 30, 187, 0, 142, 89, 187, 0, 33, 89, 183, 0, 35, 18, 153, 182, 0, 38, 27, 182, 0, 42]
abbrev dktJ32_set_0 : List UInt8 := dkwJ32_set_0 ++ dktJ32_set_1
theorem dksJ32_set_0 : cJ32_set.data.toList.drop 0 = dktJ32_set_0 := by decide +kernel
theorem dksJ32_set_1 : cJ32_set.data.toList.drop 24 = dktJ32_set_1 := dk_seg dksJ32_set_0 24 rfl rfl
theorem dksJ32_set_2 : cJ32_set.data.toList.drop 48 = dktJ32_set_2 := dk_seg dksJ32_set_1 24 rfl rfl
theorem dJ32_set_0 : decode cJ32_set 0 = .ok (.iload_n 1, 1) := dk_27 (dk_at dksJ32_set_0 0 rfl rfl)
theorem dJ32_set_1 : decode cJ32_set 1 = .ok (.ifCond .ge 30, 3) := dk_156 0 30 (dk_at dksJ32_set_0 1 rfl rfl)
theorem dJ32_set_31 : decode cJ32_set 31 = .ok (.iload_n 1, 1) := dk_27 (dk_at dksJ32_set_1 7 rfl rfl)
theorem dJ32_set_32 : decode cJ32_set 32 = .ok (.invokestatic 52, 3) := dk_184 0 52 (dk_at dksJ32_set_1 8 rfl rfl)
theorem dJ32_set_35 : decode cJ32_set 35 = .ok (.istore_n 2, 1) := dk_61 (dk_at dksJ32_set_1 11 rfl rfl)
theorem dJ32_set_36 : decode cJ32_set 36 = .ok (.aload_n 0, 1) := dk_42 (dk_at dksJ32_set_1 12 rfl rfl)
theorem dJ32_set_37 : decode cJ32_set 37 = .ok (.iload_n 2, 1) := dk_28 (dk_at dksJ32_set_1 13 rfl rfl)
theorem dJ32_set_38 : decode cJ32_set 38 = .ok (.invokevirtual 155, 3) := dk_182 0 155 (dk_at dksJ32_set_1 14 rfl rfl)
theorem dJ32_set_41 : decode cJ32_set 41 = .ok (.aload_n 0, 1) := dk_42 (dk_at dksJ32_set_1 17 rfl rfl)
theorem dJ32_set_42 : decode cJ32_set 42 = .ok (.getfield 11, 3) := dk_180 0 11 (dk_at dksJ32_set_1 18 rfl rfl)
theorem dJ32_set_45 : decode cJ32_set 45 = .ok (.iload_n 2, 1) := dk_28 (dk_at dksJ32_set_1 21 rfl rfl)
theorem dJ32_set_46 : decode cJ32_set 46 = .ok (.dup2, 1) := dk_92 (dk_at dksJ32_set_1 22 rfl rfl)
theorem dJ32_set_47 : decode cJ32_set 47 = .ok (.laload, 1) := dk_47 (dk_at dksJ32_set_1 23 rfl rfl)
theorem dJ32_set_48 : decode cJ32_set 48 = .ok (.lconst 1, 1) := dk_10 (dk_at dksJ32_set_2 0 rfl rfl)
theorem dJ32_set_49 : decode cJ32_set 49 = .ok (.iload_n 1, 1) := dk_27 (dk_at dksJ32_set_2 1 rfl rfl)
theorem dJ32_set_50 : decode cJ32_set 50 = .ok (.lshl, 1) := dk_121 (dk_at dksJ32_set_2 2 rfl rfl)
theorem dJ32_set_51 : decode cJ32_set 51 = .ok (.lor, 1) := dk_129 (dk_at dksJ32_set_2 3 rfl rfl)
theorem dJ32_set_52 : decode cJ32_set 52 = .ok (.lastore, 1) := dk_80 (dk_at dksJ32_set_2 4 rfl rfl)
theorem dJ32_set_53 : decode cJ32_set 53 = .ok (.aload_n 0, 1) := dk_42 (dk_at dksJ32_set_2 5 rfl rfl)
theorem dJ32_set_54 : decode cJ32_set 54 = .ok (.invokevirtual 56, 3) := dk_182 0 56 (dk_at dksJ32_set_2 6 rfl rfl)
theorem dJ32_set_57 : decode cJ32_set 57 = .ok (.return_, 1) := dk_177 (dk_at dksJ32_set_2 9 rfl rfl)
def dkwJ32_expandTo_0 : List UInt8 := [27, 4, 96, 61, 42, 180, 0, 7, 28, 162, 0, 13, 42, 28, 182, 0, 139, 42, 28, 181, 0, 7, 177]
abbrev dktJ32_expandTo_0 : List UInt8 := dkwJ32_expandTo_0 ++ []
theorem dksJ32_expandTo_0 : cJ32_expandTo.data.toList.drop 0 = dktJ32_expandTo_0 := by decide +kernel
theorem dJ32_expandTo_0 : decode cJ32_expandTo 0 = .ok (.iload_n 1, 1) := dk_27 (dk_at dksJ32_expandTo_0 0 rfl rfl)
theorem dJ32_expandTo_1 : decode cJ32_expandTo 1 = .ok (.iconst 1, 1) := dk_4 (dk_at dksJ32_expandTo_0 1 rfl rfl)
theorem dJ32_expandTo_2 : decode cJ32_expandTo 2 = .ok (.iadd, 1) := dk_96 (dk_at dksJ32_expandTo_0 2 rfl rfl)
theorem dJ32_expandTo_3 : decode cJ32_expandTo 3 = .ok (.istore_n 2, 1) := dk_61 (dk_at dksJ32_expandTo_0 3 rfl rfl)
theorem dJ32_expandTo_4 : decode cJ32_expandTo 4 = .ok (.aload_n 0, 1) := dk_42 (dk_at dksJ32_expandTo_0 4 rfl rfl)
theorem dJ32_expandTo_5 : decode cJ32_expandTo 5 = .ok (.getfield 7, 3) := dk_180 0 7 (dk_at dksJ32_expandTo_0 5 rfl rfl)
theorem dJ32_expandTo_8 : decode cJ32_expandTo 8 = .ok (.iload_n 2, 1) := dk_28 (dk_at dksJ32_expandTo_0 8 rfl rfl)
theorem dJ32_expandTo_9 : decode cJ32_expandTo 9 = .ok (.if_icmp .ge 13, 3) := dk_162 0 13 (dk_at dksJ32_expandTo_0 9 rfl rfl)
theorem dJ32_expandTo_12 : decode cJ32_expandTo 12 = .ok (.aload_n 0, 1) := dk_42 (dk_at dksJ32_expandTo_0 12 rfl rfl)
theorem dJ32_expandTo_13 : decode cJ32_expandTo 13 = .ok (.iload_n 2, 1) := dk_28 (dk_at dksJ32_expandTo_0 13 rfl rfl)
theorem dJ32_expandTo_14 : decode cJ32_expandTo 14 = .ok (.invokevirtual 139, 3) := dk_182 0 139 (dk_at dksJ32_expandTo_0 14 rfl rfl)
theorem dJ32_expandTo_17 : decode cJ32_expandTo 17 = .ok (.aload_n 0, 1) := dk_42 (dk_at dksJ32_expandTo_0 17 rfl rfl)
theorem dJ32_expandTo_18 : decode cJ32_expandTo 18 = .ok (.iload_n 2, 1) := dk_28 (dk_at dksJ32_expandTo_0 18 rfl rfl)
theorem dJ32_expandTo_19 : decode cJ32_expandTo 19 = .ok (.putfield 7, 3) := dk_181 0 7 (dk_at dksJ32_expandTo_0 19 rfl rfl)
theorem dJ32_expandTo_22 : decode cJ32_expandTo 22 = .ok (.return_, 1) := dk_177 (dk_at dksJ32_expandTo_0 22 rfl rfl)
def dkwJ32_nextSetBit_4 : List UInt8 := [28, 47, 66, 167, 255, 220]
abbrev dktJ32_nextSetBit_4 : List UInt8 := dkwJ32_nextSetBit_4 ++ []
def dkwJ32_nextSetBit_3 : List UInt8 := [104, 33, 184, 0, 182, 96, 172, 132, 2, 1, 28, 42, 180, 0, 7, 160, 0, 5, 2, 172, 42, 180, 0, 11]
abbrev dktJ32_nextSetBit_3 : List UInt8 := dkwJ32_nextSetBit_3 ++ dktJ32_nextSetBit_4
def dkwJ32_nextSetBit_2 : List UInt8 := [2, 172, 42, 180, 0, 11, 28, 47, 20, 0, 165, 27, 121, 127, 66, 33, 9, 148, 153, 0, 13, 28, 16, 64]
abbrev dktJ32_nextSetBit_2 : List UInt8 := dkwJ32_nextSetBit_2 ++ dktJ32_nextSetBit_3
def dkwJ32_nextSetBit_1 : List UInt8 := [182, 0, 45, 183, 0, 146, 191, 42, 182, 0, 56, 27, 184, 0, 52, 61, 28, 42, 180, 0, 7, 161, 0, 5]
abbrev dktJ32_nextSetBit_1 : List UInt8 := dkwJ32_nextSetBit_1 ++ dktJ32_nextSetBit_2
def dkwJ32_nextSetBit_0 : List UInt8 := [27, 156, 0, 30, 187, 0, 142, 89, 187, 0, 33, 89, 183, 0, 35, 18, 144, 182, 0, 38, 27, 182, 0, 42]
abbrev dktJ32_nextSetBit_0 : List UInt8 := dkwJ32_nextSetBit_0 ++ dktJ32_nextSetBit_1
theorem dksJ32_nextSetBit_0 : cJ32_nextSetBit.data.toList.drop 0 = dktJ32_nextSetBit_0 := by decide +kernel
theorem dksJ32_nextSetBit_1 : cJ32_nextSetBit.data.toList.drop 24 = dktJ32_nextSetBit_1 := dk_seg dksJ32_nextSetBit_0 24 rfl rfl
theorem dksJ32_nextSetBit_2 : cJ32_nextSetBit.data.toList.drop 48 = dktJ32_nextSetBit_2 := dk_seg dksJ32_nextSetBit_1 24 rfl rfl
theorem dksJ32_nextSetBit_3 : cJ32_nextSetBit.data.toList.drop 72 = dktJ32_nextSetBit_3 := dk_seg dksJ32_nextSetBit_2 24 rfl rfl
theorem dksJ32_nextSetBit_4 : cJ32_nextSetBit.data.toList.drop 96 = dktJ32_nextSetBit_4 := dk_seg dksJ32_nextSetBit_3 24 rfl rfl
theorem dJ32_nextSetBit_0 : decode cJ32_nextSetBit 0 = .ok (.iload_n 1, 1) := dk_27 (dk_at dksJ32_nextSetBit_0 0 rfl rfl)
theorem dJ32_nextSetBit_1 : decode cJ32_nextSetBit 1 = .ok (.ifCond .ge 30, 3) := dk_156 0 30 (dk_at dksJ32_nextSetBit_0 1 rfl rfl)
theorem dJ32_nextSetBit_31 : decode cJ32_nextSetBit 31 = .ok (.aload_n 0, 1) := dk_42 (dk_at dksJ32_nextSetBit_1 7 rfl rfl)
theorem dJ32_nextSetBit_32 : decode cJ32_nextSetBit 32 = .ok (.invokevirtual 56, 3) := dk_182 0 56 (dk_at dksJ32_nextSetBit_1 8 rfl rfl)
theorem dJ32_nextSetBit_35 : decode cJ32_nextSetBit 35 = .ok (.iload_n 1, 1) := dk_27 (dk_at dksJ32_nextSetBit_1 11 rfl rfl)
theorem dJ32_nextSetBit_36 : decode cJ32_nextSetBit 36 = .ok (.invokestatic 52, 3) := dk_184 0 52 (dk_at dksJ32_nextSetBit_1 12 rfl rfl)
theorem dJ32_nextSetBit_39 : decode cJ32_nextSetBit 39 = .ok (.istore_n 2, 1) := dk_61 (dk_at dksJ32_nextSetBit_1 15 rfl rfl)
theorem dJ32_nextSetBit_40 : decode cJ32_nextSetBit 40 = .ok (.iload_n 2, 1) := dk_28 (dk_at dksJ32_nextSetBit_1 16 rfl rfl)
theorem dJ32_nextSetBit_41 : decode cJ32_nextSetBit 41 = .ok (.aload_n 0, 1) := dk_42 (dk_at dksJ32_nextSetBit_1 17 rfl rfl)
theorem dJ32_nextSetBit_42 : decode cJ32_nextSetBit 42 = .ok (.getfield 7, 3) := dk_180 0 7 (dk_at dksJ32_nextSetBit_1 18 rfl rfl)
theorem dJ32_nextSetBit_45 : decode cJ32_nextSetBit 45 = .ok (.if_icmp .lt 5, 3) := dk_161 0 5 (dk_at dksJ32_nextSetBit_1 21 rfl rfl)
theorem dJ32_nextSetBit_48 : decode cJ32_nextSetBit 48 = .ok (.iconst (-1), 1) := dk_2 (dk_at dksJ32_nextSetBit_2 0 rfl rfl)
theorem dJ32_nextSetBit_49 : decode cJ32_nextSetBit 49 = .ok (.ireturn, 1) := dk_172 (dk_at dksJ32_nextSetBit_2 1 rfl rfl)
theorem dJ32_nextSetBit_50 : decode cJ32_nextSetBit 50 = .ok (.aload_n 0, 1) := dk_42 (dk_at dksJ32_nextSetBit_2 2 rfl rfl)
theorem dJ32_nextSetBit_51 : decode cJ32_nextSetBit 51 = .ok (.getfield 11, 3) := dk_180 0 11 (dk_at dksJ32_nextSetBit_2 3 rfl rfl)
theorem dJ32_nextSetBit_54 : decode cJ32_nextSetBit 54 = .ok (.iload_n 2, 1) := dk_28 (dk_at dksJ32_nextSetBit_2 6 rfl rfl)
theorem dJ32_nextSetBit_55 : decode cJ32_nextSetBit 55 = .ok (.laload, 1) := dk_47 (dk_at dksJ32_nextSetBit_2 7 rfl rfl)
theorem dJ32_nextSetBit_56 : decode cJ32_nextSetBit 56 = .ok (.ldc2_w 165, 3) := dk_20 0 165 (dk_at dksJ32_nextSetBit_2 8 rfl rfl)
theorem dJ32_nextSetBit_59 : decode cJ32_nextSetBit 59 = .ok (.iload_n 1, 1) := dk_27 (dk_at dksJ32_nextSetBit_2 11 rfl rfl)
theorem dJ32_nextSetBit_60 : decode cJ32_nextSetBit 60 = .ok (.lshl, 1) := dk_121 (dk_at dksJ32_nextSetBit_2 12 rfl rfl)
theorem dJ32_nextSetBit_61 : decode cJ32_nextSetBit 61 = .ok (.land, 1) := dk_127 (dk_at dksJ32_nextSetBit_2 13 rfl rfl)
theorem dJ32_nextSetBit_62 : decode cJ32_nextSetBit 62 = .ok (.lstore_n 3, 1) := dk_66 (dk_at dksJ32_nextSetBit_2 14 rfl rfl)
theorem dJ32_nextSetBit_63 : decode cJ32_nextSetBit 63 = .ok (.lload_n 3, 1) := dk_33 (dk_at dksJ32_nextSetBit_2 15 rfl rfl)
theorem dJ32_nextSetBit_64 : decode cJ32_nextSetBit 64 = .ok (.lconst 0, 1) := dk_9 (dk_at dksJ32_nextSetBit_2 16 rfl rfl)
theorem dJ32_nextSetBit_65 : decode cJ32_nextSetBit 65 = .ok (.lcmp, 1) := dk_148 (dk_at dksJ32_nextSetBit_2 17 rfl rfl)
theorem dJ32_nextSetBit_66 : decode cJ32_nextSetBit 66 = .ok (.ifCond .eq 13, 3) := dk_153 0 13 (dk_at dksJ32_nextSetBit_2 18 rfl rfl)
theorem dJ32_nextSetBit_69 : decode cJ32_nextSetBit 69 = .ok (.iload_n 2, 1) := dk_28 (dk_at dksJ32_nextSetBit_2 21 rfl rfl)
theorem dJ32_nextSetBit_70 : decode cJ32_nextSetBit 70 = .ok (.bipush 64, 2) := dk_16 64 (dk_at dksJ32_nextSetBit_2 22 rfl rfl)
theorem dJ32_nextSetBit_72 : decode cJ32_nextSetBit 72 = .ok (.imul, 1) := dk_104 (dk_at dksJ32_nextSetBit_3 0 rfl rfl)
theorem dJ32_nextSetBit_73 : decode cJ32_nextSetBit 73 = .ok (.lload_n 3, 1) := dk_33 (dk_at dksJ32_nextSetBit_3 1 rfl rfl)
theorem dJ32_nextSetBit_74 : decode cJ32_nextSetBit 74 = .ok (.invokestatic 182, 3) := dk_184 0 182 (dk_at dksJ32_nextSetBit_3 2 rfl rfl)
theorem dJ32_nextSetBit_77 : decode cJ32_nextSetBit 77 = .ok (.iadd, 1) := dk_96 (dk_at dksJ32_nextSetBit_3 5 rfl rfl)
theorem dJ32_nextSetBit_78 : decode cJ32_nextSetBit 78 = .ok (.ireturn, 1) := dk_172 (dk_at dksJ32_nextSetBit_3 6 rfl rfl)
theorem dJ32_nextSetBit_79 : decode cJ32_nextSetBit 79 = .ok (.iinc 2 1, 3) := dk_132 2 1 (dk_at dksJ32_nextSetBit_3 7 rfl rfl)
theorem dJ32_nextSetBit_82 : decode cJ32_nextSetBit 82 = .ok (.iload_n 2, 1) := dk_28 (dk_at dksJ32_nextSetBit_3 10 rfl rfl)
theorem dJ32_nextSetBit_83 : decode cJ32_nextSetBit 83 = .ok (.aload_n 0, 1) := dk_42 (dk_at dksJ32_nextSetBit_3 11 rfl rfl)
theorem dJ32_nextSetBit_84 : decode cJ32_nextSetBit 84 = .ok (.getfield 7, 3) := dk_180 0 7 (dk_at dksJ32_nextSetBit_3 12 rfl rfl)
theorem dJ32_nextSetBit_87 : decode cJ32_nextSetBit 87 = .ok (.if_icmp .ne 5, 3) := dk_160 0 5 (dk_at dksJ32_nextSetBit_3 15 rfl rfl)
theorem dJ32_nextSetBit_90 : decode cJ32_nextSetBit 90 = .ok (.iconst (-1), 1) := dk_2 (dk_at dksJ32_nextSetBit_3 18 rfl rfl)
theorem dJ32_nextSetBit_91 : decode cJ32_nextSetBit 91 = .ok (.ireturn, 1) := dk_172 (dk_at dksJ32_nextSetBit_3 19 rfl rfl)
theorem dJ32_nextSetBit_92 : decode cJ32_nextSetBit 92 = .ok (.aload_n 0, 1) := dk_42 (dk_at dksJ32_nextSetBit_3 20 rfl rfl)
theorem dJ32_nextSetBit_93 : decode cJ32_nextSetBit 93 = .ok (.getfield 11, 3) := dk_180 0 11 (dk_at dksJ32_nextSetBit_3 21 rfl rfl)
theorem dJ32_nextSetBit_96 : decode cJ32_nextSetBit 96 = .ok (.iload_n 2, 1) := dk_28 (dk_at dksJ32_nextSetBit_4 0 rfl rfl)
theorem dJ32_nextSetBit_97 : decode cJ32_nextSetBit 97 = .ok (.laload, 1) := dk_47 (dk_at dksJ32_nextSetBit_4 1 rfl rfl)
theorem dJ32_nextSetBit_98 : decode cJ32_nextSetBit 98 = .ok (.lstore_n 3, 1) := dk_66 (dk_at dksJ32_nextSetBit_4 2 rfl rfl)
theorem dJ32_nextSetBit_99 : decode cJ32_nextSetBit 99 = .ok (.goto (-36), 3) := dk_167 255 220 (dk_at dksJ32_nextSetBit_4 3 rfl rfl)
def dkwJ32_cardinality_1 : List UInt8 := [132, 2, 1, 167, 255, 233, 27, 172]
abbrev dktJ32_cardinality_1 : List UInt8 := dkwJ32_cardinality_1 ++ []
def dkwJ32_cardinality_0 : List UInt8 := [3, 60, 3, 61, 28, 42, 180, 0, 7, 162, 0, 21, 27, 42, 180, 0, 11, 28, 47, 184, 0, 196, 96, 60]
abbrev dktJ32_cardinality_0 : List UInt8 := dkwJ32_cardinality_0 ++ dktJ32_cardinality_1
theorem dksJ32_cardinality_0 : cJ32_cardinality.data.toList.drop 0 = dktJ32_cardinality_0 := by decide +kernel
theorem dksJ32_cardinality_1 : cJ32_cardinality.data.toList.drop 24 = dktJ32_cardinality_1 := dk_seg dksJ32_cardinality_0 24 rfl rfl
theorem dJ32_cardinality_0 : decode cJ32_cardinality 0 = .ok (.iconst 0, 1) := dk_3 (dk_at dksJ32_cardinality_0 0 rfl rfl)
theorem dJ32_cardinality_1 : decode cJ32_cardinality 1 = .ok (.istore_n 1, 1) := dk_60 (dk_at dksJ32_cardinality_0 1 rfl rfl)
theorem dJ32_cardinality_2 : decode cJ32_cardinality 2 = .ok (.iconst 0, 1) := dk_3 (dk_at dksJ32_cardinality_0 2 rfl rfl)
theorem dJ32_cardinality_3 : decode cJ32_cardinality 3 = .ok (.istore_n 2, 1) := dk_61 (dk_at dksJ32_cardinality_0 3 rfl rfl)
theorem dJ32_cardinality_4 : decode cJ32_cardinality 4 = .ok (.iload_n 2, 1) := dk_28 (dk_at dksJ32_cardinality_0 4 rfl rfl)
theorem dJ32_cardinality_5 : decode cJ32_cardinality 5 = .ok (.aload_n 0, 1) := dk_42 (dk_at dksJ32_cardinality_0 5 rfl rfl)
theorem dJ32_cardinality_6 : decode cJ32_cardinality 6 = .ok (.getfield 7, 3) := dk_180 0 7 (dk_at dksJ32_cardinality_0 6 rfl rfl)
theorem dJ32_cardinality_9 : decode cJ32_cardinality 9 = .ok (.if_icmp .ge 21, 3) := dk_162 0 21 (dk_at dksJ32_cardinality_0 9 rfl rfl)
theorem dJ32_cardinality_12 : decode cJ32_cardinality 12 = .ok (.iload_n 1, 1) := dk_27 (dk_at dksJ32_cardinality_0 12 rfl rfl)
theorem dJ32_cardinality_13 : decode cJ32_cardinality 13 = .ok (.aload_n 0, 1) := dk_42 (dk_at dksJ32_cardinality_0 13 rfl rfl)
theorem dJ32_cardinality_14 : decode cJ32_cardinality 14 = .ok (.getfield 11, 3) := dk_180 0 11 (dk_at dksJ32_cardinality_0 14 rfl rfl)
theorem dJ32_cardinality_17 : decode cJ32_cardinality 17 = .ok (.iload_n 2, 1) := dk_28 (dk_at dksJ32_cardinality_0 17 rfl rfl)
theorem dJ32_cardinality_18 : decode cJ32_cardinality 18 = .ok (.laload, 1) := dk_47 (dk_at dksJ32_cardinality_0 18 rfl rfl)
theorem dJ32_cardinality_19 : decode cJ32_cardinality 19 = .ok (.invokestatic 196, 3) := dk_184 0 196 (dk_at dksJ32_cardinality_0 19 rfl rfl)
theorem dJ32_cardinality_22 : decode cJ32_cardinality 22 = .ok (.iadd, 1) := dk_96 (dk_at dksJ32_cardinality_0 22 rfl rfl)
theorem dJ32_cardinality_23 : decode cJ32_cardinality 23 = .ok (.istore_n 1, 1) := dk_60 (dk_at dksJ32_cardinality_0 23 rfl rfl)
theorem dJ32_cardinality_24 : decode cJ32_cardinality 24 = .ok (.iinc 2 1, 3) := dk_132 2 1 (dk_at dksJ32_cardinality_1 0 rfl rfl)
theorem dJ32_cardinality_27 : decode cJ32_cardinality 27 = .ok (.goto (-23), 3) := dk_167 255 233 (dk_at dksJ32_cardinality_1 3 rfl rfl)
theorem dJ32_cardinality_30 : decode cJ32_cardinality 30 = .ok (.iload_n 1, 1) := dk_27 (dk_at dksJ32_cardinality_1 6 rfl rfl)
theorem dJ32_cardinality_31 : decode cJ32_cardinality 31 = .ok (.ireturn, 1) := dk_172 (dk_at dksJ32_cardinality_1 7 rfl rfl)
def dkwJ33_init_1 : List UInt8 := [177]
abbrev dktJ33_init_1 : List UInt8 := dkwJ33_init_1 ++ []
def dkwJ33_init_0 : List UInt8 := [42, 183, 0, 3, 42, 4, 181, 0, 9, 42, 43, 181, 0, 15, 42, 44, 181, 0, 19, 42, 45, 181, 0, 22]
abbrev dktJ33_init_0 : List UInt8 := dkwJ33_init_0 ++ dktJ33_init_1
theorem dksJ33_init_0 : cJ33_init.data.toList.drop 0 = dktJ33_init_0 := by decide +kernel
theorem dksJ33_init_1 : cJ33_init.data.toList.drop 24 = dktJ33_init_1 := dk_seg dksJ33_init_0 24 rfl rfl
theorem dJ33_init_0 : decode cJ33_init 0 = .ok (.aload_n 0, 1) := dk_42 (dk_at dksJ33_init_0 0 rfl rfl)
theorem dJ33_init_1 : decode cJ33_init 1 = .ok (.invokespecial 3, 3) := dk_183 0 3 (dk_at dksJ33_init_0 1 rfl rfl)
theorem dJ33_init_4 : decode cJ33_init 4 = .ok (.aload_n 0, 1) := dk_42 (dk_at dksJ33_init_0 4 rfl rfl)
theorem dJ33_init_5 : decode cJ33_init 5 = .ok (.iconst 1, 1) := dk_4 (dk_at dksJ33_init_0 5 rfl rfl)
theorem dJ33_init_6 : decode cJ33_init 6 = .ok (.putfield 9, 3) := dk_181 0 9 (dk_at dksJ33_init_0 6 rfl rfl)
theorem dJ33_init_9 : decode cJ33_init 9 = .ok (.aload_n 0, 1) := dk_42 (dk_at dksJ33_init_0 9 rfl rfl)
theorem dJ33_init_10 : decode cJ33_init 10 = .ok (.aload_n 1, 1) := dk_43 (dk_at dksJ33_init_0 10 rfl rfl)
theorem dJ33_init_11 : decode cJ33_init 11 = .ok (.putfield 15, 3) := dk_181 0 15 (dk_at dksJ33_init_0 11 rfl rfl)
theorem dJ33_init_14 : decode cJ33_init 14 = .ok (.aload_n 0, 1) := dk_42 (dk_at dksJ33_init_0 14 rfl rfl)
theorem dJ33_init_15 : decode cJ33_init 15 = .ok (.aload_n 2, 1) := dk_44 (dk_at dksJ33_init_0 15 rfl rfl)
theorem dJ33_init_16 : decode cJ33_init 16 = .ok (.putfield 19, 3) := dk_181 0 19 (dk_at dksJ33_init_0 16 rfl rfl)
theorem dJ33_init_19 : decode cJ33_init 19 = .ok (.aload_n 0, 1) := dk_42 (dk_at dksJ33_init_0 19 rfl rfl)
theorem dJ33_init_20 : decode cJ33_init 20 = .ok (.aload_n 3, 1) := dk_45 (dk_at dksJ33_init_0 20 rfl rfl)
theorem dJ33_init_21 : decode cJ33_init 21 = .ok (.putfield 22, 3) := dk_181 0 22 (dk_at dksJ33_init_0 21 rfl rfl)
theorem dJ33_init_24 : decode cJ33_init 24 = .ok (.return_, 1) := dk_177 (dk_at dksJ33_init_1 0 rfl rfl)
def dkwJ34_hasNext_0 : List UInt8 := [42, 180, 0, 19, 158, 0, 7, 4, 167, 0, 4, 3, 172]
abbrev dktJ34_hasNext_0 : List UInt8 := dkwJ34_hasNext_0 ++ []
theorem dksJ34_hasNext_0 : cJ34_hasNext.data.toList.drop 0 = dktJ34_hasNext_0 := by decide +kernel
theorem dJ34_hasNext_0 : decode cJ34_hasNext 0 = .ok (.aload_n 0, 1) := dk_42 (dk_at dksJ34_hasNext_0 0 rfl rfl)
theorem dJ34_hasNext_1 : decode cJ34_hasNext 1 = .ok (.getfield 19, 3) := dk_180 0 19 (dk_at dksJ34_hasNext_0 1 rfl rfl)
theorem dJ34_hasNext_4 : decode cJ34_hasNext 4 = .ok (.ifCond .le 7, 3) := dk_158 0 7 (dk_at dksJ34_hasNext_0 4 rfl rfl)
theorem dJ34_hasNext_7 : decode cJ34_hasNext 7 = .ok (.iconst 1, 1) := dk_4 (dk_at dksJ34_hasNext_0 7 rfl rfl)
theorem dJ34_hasNext_8 : decode cJ34_hasNext 8 = .ok (.goto 4, 3) := dk_167 0 4 (dk_at dksJ34_hasNext_0 8 rfl rfl)
theorem dJ34_hasNext_11 : decode cJ34_hasNext 11 = .ok (.iconst 0, 1) := dk_3 (dk_at dksJ34_hasNext_0 11 rfl rfl)
theorem dJ34_hasNext_12 : decode cJ34_hasNext 12 = .ok (.ireturn, 1) := dk_172 (dk_at dksJ34_hasNext_0 12 rfl rfl)
def dkwJ34_next_2 : List UInt8 := [181, 0, 29, 42, 89, 180, 0, 19, 4, 100, 181, 0, 19, 44, 176]
abbrev dktJ34_next_2 : List UInt8 := dkwJ34_next_2 ++ []
def dkwJ34_next_1 : List UInt8 := [42, 180, 0, 29, 184, 0, 39, 77, 42, 42, 42, 180, 0, 29, 90, 181, 0, 23, 43, 190, 184, 0, 43]
abbrev dktJ34_next_1 : List UInt8 := dkwJ34_next_1 ++ dktJ34_next_2
def dkwJ34_next_0 : List UInt8 := [42, 180, 0, 19, 157, 0, 11, 187, 0, 32, 89, 183, 0, 34, 191, 42, 180, 0, 1, 180, 0, 35, 76, 43]
abbrev dktJ34_next_0 : List UInt8 := dkwJ34_next_0 ++ dktJ34_next_1
theorem dksJ34_next_0 : cJ34_next.data.toList.drop 0 = dktJ34_next_0 := by decide +kernel
theorem dksJ34_next_1 : cJ34_next.data.toList.drop 24 = dktJ34_next_1 := dk_seg dksJ34_next_0 24 rfl rfl
theorem dksJ34_next_2 : cJ34_next.data.toList.drop 47 = dktJ34_next_2 := dk_seg dksJ34_next_1 23 rfl rfl
theorem dJ34_next_0 : decode cJ34_next 0 = .ok (.aload_n 0, 1) := dk_42 (dk_at dksJ34_next_0 0 rfl rfl)
theorem dJ34_next_1 : decode cJ34_next 1 = .ok (.getfield 19, 3) := dk_180 0 19 (dk_at dksJ34_next_0 1 rfl rfl)
theorem dJ34_next_4 : decode cJ34_next 4 = .ok (.ifCond .gt 11, 3) := dk_157 0 11 (dk_at dksJ34_next_0 4 rfl rfl)
theorem dJ34_next_15 : decode cJ34_next 15 = .ok (.aload_n 0, 1) := dk_42 (dk_at dksJ34_next_0 15 rfl rfl)
theorem dJ34_next_16 : decode cJ34_next 16 = .ok (.getfield 1, 3) := dk_180 0 1 (dk_at dksJ34_next_0 16 rfl rfl)
theorem dJ34_next_19 : decode cJ34_next 19 = .ok (.getfield 35, 3) := dk_180 0 35 (dk_at dksJ34_next_0 19 rfl rfl)
theorem dJ34_next_22 : decode cJ34_next 22 = .ok (.astore_n 1, 1) := dk_76 (dk_at dksJ34_next_0 22 rfl rfl)
theorem dJ34_next_23 : decode cJ34_next 23 = .ok (.aload_n 1, 1) := dk_43 (dk_at dksJ34_next_0 23 rfl rfl)
theorem dJ34_next_24 : decode cJ34_next 24 = .ok (.aload_n 0, 1) := dk_42 (dk_at dksJ34_next_1 0 rfl rfl)
theorem dJ34_next_25 : decode cJ34_next 25 = .ok (.getfield 29, 3) := dk_180 0 29 (dk_at dksJ34_next_1 1 rfl rfl)
theorem dJ34_next_28 : decode cJ34_next 28 = .ok (.invokestatic 39, 3) := dk_184 0 39 (dk_at dksJ34_next_1 4 rfl rfl)
theorem dJ34_next_31 : decode cJ34_next 31 = .ok (.astore_n 2, 1) := dk_77 (dk_at dksJ34_next_1 7 rfl rfl)
theorem dJ34_next_32 : decode cJ34_next 32 = .ok (.aload_n 0, 1) := dk_42 (dk_at dksJ34_next_1 8 rfl rfl)
theorem dJ34_next_33 : decode cJ34_next 33 = .ok (.aload_n 0, 1) := dk_42 (dk_at dksJ34_next_1 9 rfl rfl)
theorem dJ34_next_34 : decode cJ34_next 34 = .ok (.aload_n 0, 1) := dk_42 (dk_at dksJ34_next_1 10 rfl rfl)
theorem dJ34_next_35 : decode cJ34_next 35 = .ok (.getfield 29, 3) := dk_180 0 29 (dk_at dksJ34_next_1 11 rfl rfl)
theorem dJ34_next_38 : decode cJ34_next 38 = .ok (.dup_x1, 1) := dk_90 (dk_at dksJ34_next_1 14 rfl rfl)
theorem dJ34_next_39 : decode cJ34_next 39 = .ok (.putfield 23, 3) := dk_181 0 23 (dk_at dksJ34_next_1 15 rfl rfl)
theorem dJ34_next_42 : decode cJ34_next 42 = .ok (.aload_n 1, 1) := dk_43 (dk_at dksJ34_next_1 18 rfl rfl)
theorem dJ34_next_43 : decode cJ34_next 43 = .ok (.arraylength, 1) := dk_190 (dk_at dksJ34_next_1 19 rfl rfl)
theorem dJ34_next_44 : decode cJ34_next 44 = .ok (.invokestatic 43, 3) := dk_184 0 43 (dk_at dksJ34_next_1 20 rfl rfl)
theorem dJ34_next_47 : decode cJ34_next 47 = .ok (.putfield 29, 3) := dk_181 0 29 (dk_at dksJ34_next_2 0 rfl rfl)
theorem dJ34_next_50 : decode cJ34_next 50 = .ok (.aload_n 0, 1) := dk_42 (dk_at dksJ34_next_2 3 rfl rfl)
theorem dJ34_next_51 : decode cJ34_next 51 = .ok (.dup, 1) := dk_89 (dk_at dksJ34_next_2 4 rfl rfl)
theorem dJ34_next_52 : decode cJ34_next 52 = .ok (.getfield 19, 3) := dk_180 0 19 (dk_at dksJ34_next_2 5 rfl rfl)
theorem dJ34_next_55 : decode cJ34_next 55 = .ok (.iconst 1, 1) := dk_4 (dk_at dksJ34_next_2 8 rfl rfl)
theorem dJ34_next_56 : decode cJ34_next 56 = .ok (.isub, 1) := dk_100 (dk_at dksJ34_next_2 9 rfl rfl)
theorem dJ34_next_57 : decode cJ34_next 57 = .ok (.putfield 19, 3) := dk_181 0 19 (dk_at dksJ34_next_2 10 rfl rfl)
theorem dJ34_next_60 : decode cJ34_next 60 = .ok (.aload_n 2, 1) := dk_44 (dk_at dksJ34_next_2 13 rfl rfl)
theorem dJ34_next_61 : decode cJ34_next 61 = .ok (.areturn, 1) := dk_176 (dk_at dksJ34_next_2 14 rfl rfl)
def dkwJ34_init_1 : List UInt8 := [181, 0, 23, 42, 43, 180, 0, 26, 181, 0, 29, 177]
abbrev dktJ34_init_1 : List UInt8 := dkwJ34_init_1 ++ []
def dkwJ34_init_0 : List UInt8 := [42, 43, 181, 0, 1, 42, 183, 0, 7, 42, 42, 180, 0, 1, 182, 0, 13, 181, 0, 19, 42, 2]
abbrev dktJ34_init_0 : List UInt8 := dkwJ34_init_0 ++ dktJ34_init_1
theorem dksJ34_init_0 : cJ34_init.data.toList.drop 0 = dktJ34_init_0 := by decide +kernel
theorem dksJ34_init_1 : cJ34_init.data.toList.drop 22 = dktJ34_init_1 := dk_seg dksJ34_init_0 22 rfl rfl
theorem dJ34_init_0 : decode cJ34_init 0 = .ok (.aload_n 0, 1) := dk_42 (dk_at dksJ34_init_0 0 rfl rfl)
theorem dJ34_init_1 : decode cJ34_init 1 = .ok (.aload_n 1, 1) := dk_43 (dk_at dksJ34_init_0 1 rfl rfl)
theorem dJ34_init_2 : decode cJ34_init 2 = .ok (.putfield 1, 3) := dk_181 0 1 (dk_at dksJ34_init_0 2 rfl rfl)
theorem dJ34_init_5 : decode cJ34_init 5 = .ok (.aload_n 0, 1) := dk_42 (dk_at dksJ34_init_0 5 rfl rfl)
theorem dJ34_init_6 : decode cJ34_init 6 = .ok (.invokespecial 7, 3) := dk_183 0 7 (dk_at dksJ34_init_0 6 rfl rfl)
theorem dJ34_init_9 : decode cJ34_init 9 = .ok (.aload_n 0, 1) := dk_42 (dk_at dksJ34_init_0 9 rfl rfl)
theorem dJ34_init_10 : decode cJ34_init 10 = .ok (.aload_n 0, 1) := dk_42 (dk_at dksJ34_init_0 10 rfl rfl)
theorem dJ34_init_11 : decode cJ34_init 11 = .ok (.getfield 1, 3) := dk_180 0 1 (dk_at dksJ34_init_0 11 rfl rfl)
theorem dJ34_init_14 : decode cJ34_init 14 = .ok (.invokevirtual 13, 3) := dk_182 0 13 (dk_at dksJ34_init_0 14 rfl rfl)
theorem dJ34_init_17 : decode cJ34_init 17 = .ok (.putfield 19, 3) := dk_181 0 19 (dk_at dksJ34_init_0 17 rfl rfl)
theorem dJ34_init_20 : decode cJ34_init 20 = .ok (.aload_n 0, 1) := dk_42 (dk_at dksJ34_init_0 20 rfl rfl)
theorem dJ34_init_21 : decode cJ34_init 21 = .ok (.iconst (-1), 1) := dk_2 (dk_at dksJ34_init_0 21 rfl rfl)
theorem dJ34_init_22 : decode cJ34_init 22 = .ok (.putfield 23, 3) := dk_181 0 23 (dk_at dksJ34_init_1 0 rfl rfl)
theorem dJ34_init_25 : decode cJ34_init 25 = .ok (.aload_n 0, 1) := dk_42 (dk_at dksJ34_init_1 3 rfl rfl)
theorem dJ34_init_26 : decode cJ34_init 26 = .ok (.aload_n 1, 1) := dk_43 (dk_at dksJ34_init_1 4 rfl rfl)
theorem dJ34_init_27 : decode cJ34_init 27 = .ok (.getfield 26, 3) := dk_180 0 26 (dk_at dksJ34_init_1 5 rfl rfl)
theorem dJ34_init_30 : decode cJ34_init 30 = .ok (.putfield 29, 3) := dk_181 0 29 (dk_at dksJ34_init_1 8 rfl rfl)
theorem dJ34_init_33 : decode cJ34_init 33 = .ok (.return_, 1) := dk_177 (dk_at dksJ34_init_1 11 rfl rfl)
theorem dJ35_init_0 : decode cJ35_init 0 = .ok (.aload_n 0, 1) := by decide +kernel
theorem dJ35_init_1 : decode cJ35_init 1 = .ok (.invokespecial 1, 3) := by decide +kernel
theorem dJ35_init_4 : decode cJ35_init 4 = .ok (.return_, 1) := by decide +kernel
theorem dJ35_iterator_0 : decode cJ35_iterator 0 = .ok (.aload_n 0, 1) := by decide +kernel
theorem dJ35_iterator_1 : decode cJ35_iterator 1 = .ok (.invokevirtual 65, 3) := by decide +kernel
theorem dJ35_iterator_4 : decode cJ35_iterator 4 = .ok (.areturn, 1) := by decide +kernel
theorem dJ36_size_0 : decode cJ36_size 0 = .ok (.aload_n 0, 1) := by decide +kernel
theorem dJ36_size_1 : decode cJ36_size 1 = .ok (.getfield 7, 3) := by decide +kernel
theorem dJ36_size_4 : decode cJ36_size 4 = .ok (.ireturn, 1) := by decide +kernel
def dkwJ36_get_0 : List UInt8 := [42, 27, 182, 0, 90, 42, 27, 182, 0, 86, 180, 0, 39, 176]
abbrev dktJ36_get_0 : List UInt8 := dkwJ36_get_0 ++ []
theorem dksJ36_get_0 : cJ36_get.data.toList.drop 0 = dktJ36_get_0 := by decide +kernel
theorem dJ36_get_0 : decode cJ36_get 0 = .ok (.aload_n 0, 1) := dk_42 (dk_at dksJ36_get_0 0 rfl rfl)
theorem dJ36_get_1 : decode cJ36_get 1 = .ok (.iload_n 1, 1) := dk_27 (dk_at dksJ36_get_0 1 rfl rfl)
theorem dJ36_get_2 : decode cJ36_get 2 = .ok (.invokevirtual 90, 3) := dk_182 0 90 (dk_at dksJ36_get_0 2 rfl rfl)
theorem dJ36_get_5 : decode cJ36_get 5 = .ok (.aload_n 0, 1) := dk_42 (dk_at dksJ36_get_0 5 rfl rfl)
theorem dJ36_get_6 : decode cJ36_get 6 = .ok (.iload_n 1, 1) := dk_27 (dk_at dksJ36_get_0 6 rfl rfl)
theorem dJ36_get_7 : decode cJ36_get 7 = .ok (.invokevirtual 86, 3) := dk_182 0 86 (dk_at dksJ36_get_0 7 rfl rfl)
theorem dJ36_get_10 : decode cJ36_get 10 = .ok (.getfield 39, 3) := dk_180 0 39 (dk_at dksJ36_get_0 10 rfl rfl)
theorem dJ36_get_13 : decode cJ36_get 13 = .ok (.areturn, 1) := dk_176 (dk_at dksJ36_get_0 13 rfl rfl)
def dkwJ36_checkElementIndex_0 : List UInt8 := [42, 27, 182, 0, 115, 154, 0, 16, 187, 0, 119, 89, 42, 27, 182, 0, 121, 183, 0, 125, 191, 177]
abbrev dktJ36_checkElementIndex_0 : List UInt8 := dkwJ36_checkElementIndex_0 ++ []
theorem dksJ36_checkElementIndex_0 : cJ36_checkElementIndex.data.toList.drop 0 = dktJ36_checkElementIndex_0 := by decide +kernel
theorem dJ36_checkElementIndex_0 : decode cJ36_checkElementIndex 0 = .ok (.aload_n 0, 1) := dk_42 (dk_at dksJ36_checkElementIndex_0 0 rfl rfl)
theorem dJ36_checkElementIndex_1 : decode cJ36_checkElementIndex 1 = .ok (.iload_n 1, 1) := dk_27 (dk_at dksJ36_checkElementIndex_0 1 rfl rfl)
theorem dJ36_checkElementIndex_2 : decode cJ36_checkElementIndex 2 = .ok (.invokevirtual 115, 3) := dk_182 0 115 (dk_at dksJ36_checkElementIndex_0 2 rfl rfl)
theorem dJ36_checkElementIndex_5 : decode cJ36_checkElementIndex 5 = .ok (.ifCond .ne 16, 3) := dk_154 0 16 (dk_at dksJ36_checkElementIndex_0 5 rfl rfl)
theorem dJ36_checkElementIndex_21 : decode cJ36_checkElementIndex 21 = .ok (.return_, 1) := dk_177 (dk_at dksJ36_checkElementIndex_0 21 rfl rfl)
def dkwJ36_isElementIndex_0 : List UInt8 := [27, 155, 0, 15, 27, 42, 180, 0, 7, 162, 0, 7, 4, 167, 0, 4, 3, 172]
abbrev dktJ36_isElementIndex_0 : List UInt8 := dkwJ36_isElementIndex_0 ++ []
theorem dksJ36_isElementIndex_0 : cJ36_isElementIndex.data.toList.drop 0 = dktJ36_isElementIndex_0 := by decide +kernel
theorem dJ36_isElementIndex_0 : decode cJ36_isElementIndex 0 = .ok (.iload_n 1, 1) := dk_27 (dk_at dksJ36_isElementIndex_0 0 rfl rfl)
theorem dJ36_isElementIndex_1 : decode cJ36_isElementIndex 1 = .ok (.ifCond .lt 15, 3) := dk_155 0 15 (dk_at dksJ36_isElementIndex_0 1 rfl rfl)
theorem dJ36_isElementIndex_4 : decode cJ36_isElementIndex 4 = .ok (.iload_n 1, 1) := dk_27 (dk_at dksJ36_isElementIndex_0 4 rfl rfl)
theorem dJ36_isElementIndex_5 : decode cJ36_isElementIndex 5 = .ok (.aload_n 0, 1) := dk_42 (dk_at dksJ36_isElementIndex_0 5 rfl rfl)
theorem dJ36_isElementIndex_6 : decode cJ36_isElementIndex 6 = .ok (.getfield 7, 3) := dk_180 0 7 (dk_at dksJ36_isElementIndex_0 6 rfl rfl)
theorem dJ36_isElementIndex_9 : decode cJ36_isElementIndex 9 = .ok (.if_icmp .ge 7, 3) := dk_162 0 7 (dk_at dksJ36_isElementIndex_0 9 rfl rfl)
theorem dJ36_isElementIndex_12 : decode cJ36_isElementIndex 12 = .ok (.iconst 1, 1) := dk_4 (dk_at dksJ36_isElementIndex_0 12 rfl rfl)
theorem dJ36_isElementIndex_13 : decode cJ36_isElementIndex 13 = .ok (.goto 4, 3) := dk_167 0 4 (dk_at dksJ36_isElementIndex_0 13 rfl rfl)
theorem dJ36_isElementIndex_16 : decode cJ36_isElementIndex 16 = .ok (.iconst 0, 1) := dk_3 (dk_at dksJ36_isElementIndex_0 16 rfl rfl)
theorem dJ36_isElementIndex_17 : decode cJ36_isElementIndex 17 = .ok (.ireturn, 1) := dk_172 (dk_at dksJ36_isElementIndex_0 17 rfl rfl)
def dkwJ36_node_2 : List UInt8 := [29, 27, 164, 0, 14, 44, 180, 0, 30, 77, 132, 3, 255, 167, 255, 243, 44, 176]
abbrev dktJ36_node_2 : List UInt8 := dkwJ36_node_2 ++ []
def dkwJ36_node_1 : List UInt8 := [180, 0, 36, 77, 132, 3, 1, 167, 255, 243, 44, 176, 42, 180, 0, 27, 77, 42, 180, 0, 7, 4, 100, 62]
abbrev dktJ36_node_1 : List UInt8 := dkwJ36_node_1 ++ dktJ36_node_2
def dkwJ36_node_0 : List UInt8 := [27, 42, 180, 0, 7, 4, 122, 162, 0, 28, 42, 180, 0, 18, 77, 3, 62, 29, 27, 162, 0, 14, 44]
abbrev dktJ36_node_0 : List UInt8 := dkwJ36_node_0 ++ dktJ36_node_1
theorem dksJ36_node_0 : cJ36_node.data.toList.drop 0 = dktJ36_node_0 := by decide +kernel
theorem dksJ36_node_1 : cJ36_node.data.toList.drop 23 = dktJ36_node_1 := dk_seg dksJ36_node_0 23 rfl rfl
theorem dksJ36_node_2 : cJ36_node.data.toList.drop 47 = dktJ36_node_2 := dk_seg dksJ36_node_1 24 rfl rfl
theorem dJ36_node_0 : decode cJ36_node 0 = .ok (.iload_n 1, 1) := dk_27 (dk_at dksJ36_node_0 0 rfl rfl)
theorem dJ36_node_1 : decode cJ36_node 1 = .ok (.aload_n 0, 1) := dk_42 (dk_at dksJ36_node_0 1 rfl rfl)
theorem dJ36_node_2 : decode cJ36_node 2 = .ok (.getfield 7, 3) := dk_180 0 7 (dk_at dksJ36_node_0 2 rfl rfl)
theorem dJ36_node_5 : decode cJ36_node 5 = .ok (.iconst 1, 1) := dk_4 (dk_at dksJ36_node_0 5 rfl rfl)
theorem dJ36_node_6 : decode cJ36_node 6 = .ok (.ishr, 1) := dk_122 (dk_at dksJ36_node_0 6 rfl rfl)
theorem dJ36_node_7 : decode cJ36_node 7 = .ok (.if_icmp .ge 28, 3) := dk_162 0 28 (dk_at dksJ36_node_0 7 rfl rfl)
theorem dJ36_node_10 : decode cJ36_node 10 = .ok (.aload_n 0, 1) := dk_42 (dk_at dksJ36_node_0 10 rfl rfl)
theorem dJ36_node_11 : decode cJ36_node 11 = .ok (.getfield 18, 3) := dk_180 0 18 (dk_at dksJ36_node_0 11 rfl rfl)
theorem dJ36_node_14 : decode cJ36_node 14 = .ok (.astore_n 2, 1) := dk_77 (dk_at dksJ36_node_0 14 rfl rfl)
theorem dJ36_node_15 : decode cJ36_node 15 = .ok (.iconst 0, 1) := dk_3 (dk_at dksJ36_node_0 15 rfl rfl)
theorem dJ36_node_16 : decode cJ36_node 16 = .ok (.istore_n 3, 1) := dk_62 (dk_at dksJ36_node_0 16 rfl rfl)
theorem dJ36_node_17 : decode cJ36_node 17 = .ok (.iload_n 3, 1) := dk_29 (dk_at dksJ36_node_0 17 rfl rfl)
theorem dJ36_node_18 : decode cJ36_node 18 = .ok (.iload_n 1, 1) := dk_27 (dk_at dksJ36_node_0 18 rfl rfl)
theorem dJ36_node_19 : decode cJ36_node 19 = .ok (.if_icmp .ge 14, 3) := dk_162 0 14 (dk_at dksJ36_node_0 19 rfl rfl)
theorem dJ36_node_22 : decode cJ36_node 22 = .ok (.aload_n 2, 1) := dk_44 (dk_at dksJ36_node_0 22 rfl rfl)
theorem dJ36_node_23 : decode cJ36_node 23 = .ok (.getfield 36, 3) := dk_180 0 36 (dk_at dksJ36_node_1 0 rfl rfl)
theorem dJ36_node_26 : decode cJ36_node 26 = .ok (.astore_n 2, 1) := dk_77 (dk_at dksJ36_node_1 3 rfl rfl)
theorem dJ36_node_27 : decode cJ36_node 27 = .ok (.iinc 3 1, 3) := dk_132 3 1 (dk_at dksJ36_node_1 4 rfl rfl)
theorem dJ36_node_30 : decode cJ36_node 30 = .ok (.goto (-13), 3) := dk_167 255 243 (dk_at dksJ36_node_1 7 rfl rfl)
theorem dJ36_node_33 : decode cJ36_node 33 = .ok (.aload_n 2, 1) := dk_44 (dk_at dksJ36_node_1 10 rfl rfl)
theorem dJ36_node_34 : decode cJ36_node 34 = .ok (.areturn, 1) := dk_176 (dk_at dksJ36_node_1 11 rfl rfl)
theorem dJ36_node_35 : decode cJ36_node 35 = .ok (.aload_n 0, 1) := dk_42 (dk_at dksJ36_node_1 12 rfl rfl)
theorem dJ36_node_36 : decode cJ36_node 36 = .ok (.getfield 27, 3) := dk_180 0 27 (dk_at dksJ36_node_1 13 rfl rfl)
theorem dJ36_node_39 : decode cJ36_node 39 = .ok (.astore_n 2, 1) := dk_77 (dk_at dksJ36_node_1 16 rfl rfl)
theorem dJ36_node_40 : decode cJ36_node 40 = .ok (.aload_n 0, 1) := dk_42 (dk_at dksJ36_node_1 17 rfl rfl)
theorem dJ36_node_41 : decode cJ36_node 41 = .ok (.getfield 7, 3) := dk_180 0 7 (dk_at dksJ36_node_1 18 rfl rfl)
theorem dJ36_node_44 : decode cJ36_node 44 = .ok (.iconst 1, 1) := dk_4 (dk_at dksJ36_node_1 21 rfl rfl)
theorem dJ36_node_45 : decode cJ36_node 45 = .ok (.isub, 1) := dk_100 (dk_at dksJ36_node_1 22 rfl rfl)
theorem dJ36_node_46 : decode cJ36_node 46 = .ok (.istore_n 3, 1) := dk_62 (dk_at dksJ36_node_1 23 rfl rfl)
theorem dJ36_node_47 : decode cJ36_node 47 = .ok (.iload_n 3, 1) := dk_29 (dk_at dksJ36_node_2 0 rfl rfl)
theorem dJ36_node_48 : decode cJ36_node 48 = .ok (.iload_n 1, 1) := dk_27 (dk_at dksJ36_node_2 1 rfl rfl)
theorem dJ36_node_49 : decode cJ36_node 49 = .ok (.if_icmp .le 14, 3) := dk_164 0 14 (dk_at dksJ36_node_2 2 rfl rfl)
theorem dJ36_node_52 : decode cJ36_node 52 = .ok (.aload_n 2, 1) := dk_44 (dk_at dksJ36_node_2 5 rfl rfl)
theorem dJ36_node_53 : decode cJ36_node 53 = .ok (.getfield 30, 3) := dk_180 0 30 (dk_at dksJ36_node_2 6 rfl rfl)
theorem dJ36_node_56 : decode cJ36_node 56 = .ok (.astore_n 2, 1) := dk_77 (dk_at dksJ36_node_2 9 rfl rfl)
theorem dJ36_node_57 : decode cJ36_node 57 = .ok (.iinc 3 (-1), 3) := dk_132 3 255 (dk_at dksJ36_node_2 10 rfl rfl)
theorem dJ36_node_60 : decode cJ36_node 60 = .ok (.goto (-13), 3) := dk_167 255 243 (dk_at dksJ36_node_2 13 rfl rfl)
theorem dJ36_node_63 : decode cJ36_node 63 = .ok (.aload_n 2, 1) := dk_44 (dk_at dksJ36_node_2 16 rfl rfl)
theorem dJ36_node_64 : decode cJ36_node 64 = .ok (.areturn, 1) := dk_176 (dk_at dksJ36_node_2 17 rfl rfl)
def dkwJ36_init_0 : List UInt8 := [42, 183, 0, 1, 42, 3, 181, 0, 7, 177]
abbrev dktJ36_init_0 : List UInt8 := dkwJ36_init_0 ++ []
theorem dksJ36_init_0 : cJ36_init.data.toList.drop 0 = dktJ36_init_0 := by decide +kernel
theorem dJ36_init_0 : decode cJ36_init 0 = .ok (.aload_n 0, 1) := dk_42 (dk_at dksJ36_init_0 0 rfl rfl)
theorem dJ36_init_1 : decode cJ36_init 1 = .ok (.invokespecial 1, 3) := dk_183 0 1 (dk_at dksJ36_init_0 1 rfl rfl)
theorem dJ36_init_4 : decode cJ36_init 4 = .ok (.aload_n 0, 1) := dk_42 (dk_at dksJ36_init_0 4 rfl rfl)
theorem dJ36_init_5 : decode cJ36_init 5 = .ok (.iconst 0, 1) := dk_3 (dk_at dksJ36_init_0 5 rfl rfl)
theorem dJ36_init_6 : decode cJ36_init 6 = .ok (.putfield 7, 3) := dk_181 0 7 (dk_at dksJ36_init_0 6 rfl rfl)
theorem dJ36_init_9 : decode cJ36_init 9 = .ok (.return_, 1) := dk_177 (dk_at dksJ36_init_0 9 rfl rfl)
def dkwJ36_addLast_0 : List UInt8 := [42, 43, 182, 0, 57, 177]
abbrev dktJ36_addLast_0 : List UInt8 := dkwJ36_addLast_0 ++ []
theorem dksJ36_addLast_0 : cJ36_addLast.data.toList.drop 0 = dktJ36_addLast_0 := by decide +kernel
theorem dJ36_addLast_0 : decode cJ36_addLast 0 = .ok (.aload_n 0, 1) := dk_42 (dk_at dksJ36_addLast_0 0 rfl rfl)
theorem dJ36_addLast_1 : decode cJ36_addLast 1 = .ok (.aload_n 1, 1) := dk_43 (dk_at dksJ36_addLast_0 1 rfl rfl)
theorem dJ36_addLast_2 : decode cJ36_addLast 2 = .ok (.invokevirtual 57, 3) := dk_182 0 57 (dk_at dksJ36_addLast_0 2 rfl rfl)
theorem dJ36_addLast_5 : decode cJ36_addLast 5 = .ok (.return_, 1) := dk_177 (dk_at dksJ36_addLast_0 5 rfl rfl)
def dkwJ36_linkLast_2 : List UInt8 := [181, 0, 7, 42, 89, 180, 0, 33, 4, 96, 181, 0, 33, 177]
abbrev dktJ36_linkLast_2 : List UInt8 := dkwJ36_linkLast_2 ++ []
def dkwJ36_linkLast_1 : List UInt8 := [199, 0, 11, 42, 45, 181, 0, 18, 167, 0, 8, 44, 45, 181, 0, 36, 42, 89, 180, 0, 7, 4, 96]
abbrev dktJ36_linkLast_1 : List UInt8 := dkwJ36_linkLast_1 ++ dktJ36_linkLast_2
def dkwJ36_linkLast_0 : List UInt8 := [42, 180, 0, 27, 77, 187, 0, 22, 89, 44, 43, 1, 183, 0, 24, 78, 42, 45, 181, 0, 27, 44]
abbrev dktJ36_linkLast_0 : List UInt8 := dkwJ36_linkLast_0 ++ dktJ36_linkLast_1
theorem dksJ36_linkLast_0 : cJ36_linkLast.data.toList.drop 0 = dktJ36_linkLast_0 := by decide +kernel
theorem dksJ36_linkLast_1 : cJ36_linkLast.data.toList.drop 22 = dktJ36_linkLast_1 := dk_seg dksJ36_linkLast_0 22 rfl rfl
theorem dksJ36_linkLast_2 : cJ36_linkLast.data.toList.drop 45 = dktJ36_linkLast_2 := dk_seg dksJ36_linkLast_1 23 rfl rfl
theorem dJ36_linkLast_0 : decode cJ36_linkLast 0 = .ok (.aload_n 0, 1) := dk_42 (dk_at dksJ36_linkLast_0 0 rfl rfl)
theorem dJ36_linkLast_1 : decode cJ36_linkLast 1 = .ok (.getfield 27, 3) := dk_180 0 27 (dk_at dksJ36_linkLast_0 1 rfl rfl)
theorem dJ36_linkLast_4 : decode cJ36_linkLast 4 = .ok (.astore_n 2, 1) := dk_77 (dk_at dksJ36_linkLast_0 4 rfl rfl)
theorem dJ36_linkLast_5 : decode cJ36_linkLast 5 = .ok (.new 22, 3) := dk_187 0 22 (dk_at dksJ36_linkLast_0 5 rfl rfl)
theorem dJ36_linkLast_8 : decode cJ36_linkLast 8 = .ok (.dup, 1) := dk_89 (dk_at dksJ36_linkLast_0 8 rfl rfl)
theorem dJ36_linkLast_9 : decode cJ36_linkLast 9 = .ok (.aload_n 2, 1) := dk_44 (dk_at dksJ36_linkLast_0 9 rfl rfl)
theorem dJ36_linkLast_10 : decode cJ36_linkLast 10 = .ok (.aload_n 1, 1) := dk_43 (dk_at dksJ36_linkLast_0 10 rfl rfl)
theorem dJ36_linkLast_11 : decode cJ36_linkLast 11 = .ok (.aconst_null, 1) := dk_1 (dk_at dksJ36_linkLast_0 11 rfl rfl)
theorem dJ36_linkLast_12 : decode cJ36_linkLast 12 = .ok (.invokespecial 24, 3) := dk_183 0 24 (dk_at dksJ36_linkLast_0 12 rfl rfl)
theorem dJ36_linkLast_15 : decode cJ36_linkLast 15 = .ok (.astore_n 3, 1) := dk_78 (dk_at dksJ36_linkLast_0 15 rfl rfl)
theorem dJ36_linkLast_16 : decode cJ36_linkLast 16 = .ok (.aload_n 0, 1) := dk_42 (dk_at dksJ36_linkLast_0 16 rfl rfl)
theorem dJ36_linkLast_17 : decode cJ36_linkLast 17 = .ok (.aload_n 3, 1) := dk_45 (dk_at dksJ36_linkLast_0 17 rfl rfl)
theorem dJ36_linkLast_18 : decode cJ36_linkLast 18 = .ok (.putfield 27, 3) := dk_181 0 27 (dk_at dksJ36_linkLast_0 18 rfl rfl)
theorem dJ36_linkLast_21 : decode cJ36_linkLast 21 = .ok (.aload_n 2, 1) := dk_44 (dk_at dksJ36_linkLast_0 21 rfl rfl)
theorem dJ36_linkLast_22 : decode cJ36_linkLast 22 = .ok (.ifnonnull 11, 3) := dk_199 0 11 (dk_at dksJ36_linkLast_1 0 rfl rfl)
theorem dJ36_linkLast_25 : decode cJ36_linkLast 25 = .ok (.aload_n 0, 1) := dk_42 (dk_at dksJ36_linkLast_1 3 rfl rfl)
theorem dJ36_linkLast_26 : decode cJ36_linkLast 26 = .ok (.aload_n 3, 1) := dk_45 (dk_at dksJ36_linkLast_1 4 rfl rfl)
theorem dJ36_linkLast_27 : decode cJ36_linkLast 27 = .ok (.putfield 18, 3) := dk_181 0 18 (dk_at dksJ36_linkLast_1 5 rfl rfl)
theorem dJ36_linkLast_30 : decode cJ36_linkLast 30 = .ok (.goto 8, 3) := dk_167 0 8 (dk_at dksJ36_linkLast_1 8 rfl rfl)
theorem dJ36_linkLast_33 : decode cJ36_linkLast 33 = .ok (.aload_n 2, 1) := dk_44 (dk_at dksJ36_linkLast_1 11 rfl rfl)
theorem dJ36_linkLast_34 : decode cJ36_linkLast 34 = .ok (.aload_n 3, 1) := dk_45 (dk_at dksJ36_linkLast_1 12 rfl rfl)
theorem dJ36_linkLast_35 : decode cJ36_linkLast 35 = .ok (.putfield 36, 3) := dk_181 0 36 (dk_at dksJ36_linkLast_1 13 rfl rfl)
theorem dJ36_linkLast_38 : decode cJ36_linkLast 38 = .ok (.aload_n 0, 1) := dk_42 (dk_at dksJ36_linkLast_1 16 rfl rfl)
theorem dJ36_linkLast_39 : decode cJ36_linkLast 39 = .ok (.dup, 1) := dk_89 (dk_at dksJ36_linkLast_1 17 rfl rfl)
theorem dJ36_linkLast_40 : decode cJ36_linkLast 40 = .ok (.getfield 7, 3) := dk_180 0 7 (dk_at dksJ36_linkLast_1 18 rfl rfl)
theorem dJ36_linkLast_43 : decode cJ36_linkLast 43 = .ok (.iconst 1, 1) := dk_4 (dk_at dksJ36_linkLast_1 21 rfl rfl)
theorem dJ36_linkLast_44 : decode cJ36_linkLast 44 = .ok (.iadd, 1) := dk_96 (dk_at dksJ36_linkLast_1 22 rfl rfl)
theorem dJ36_linkLast_45 : decode cJ36_linkLast 45 = .ok (.putfield 7, 3) := dk_181 0 7 (dk_at dksJ36_linkLast_2 0 rfl rfl)
theorem dJ36_linkLast_48 : decode cJ36_linkLast 48 = .ok (.aload_n 0, 1) := dk_42 (dk_at dksJ36_linkLast_2 3 rfl rfl)
theorem dJ36_linkLast_49 : decode cJ36_linkLast 49 = .ok (.dup, 1) := dk_89 (dk_at dksJ36_linkLast_2 4 rfl rfl)
theorem dJ36_linkLast_50 : decode cJ36_linkLast 50 = .ok (.getfield 33, 3) := dk_180 0 33 (dk_at dksJ36_linkLast_2 5 rfl rfl)
theorem dJ36_linkLast_53 : decode cJ36_linkLast 53 = .ok (.iconst 1, 1) := dk_4 (dk_at dksJ36_linkLast_2 8 rfl rfl)
theorem dJ36_linkLast_54 : decode cJ36_linkLast 54 = .ok (.iadd, 1) := dk_96 (dk_at dksJ36_linkLast_2 9 rfl rfl)
theorem dJ36_linkLast_55 : decode cJ36_linkLast 55 = .ok (.putfield 33, 3) := dk_181 0 33 (dk_at dksJ36_linkLast_2 10 rfl rfl)
theorem dJ36_linkLast_58 : decode cJ36_linkLast 58 = .ok (.return_, 1) := dk_177 (dk_at dksJ36_linkLast_2 13 rfl rfl)
def dkwJ36_removeFirst_0 : List UInt8 := [42, 180, 0, 18, 76, 43, 199, 0, 11, 187, 0, 43, 89, 183, 0, 45, 191, 42, 43, 182, 0, 46, 176]
abbrev dktJ36_removeFirst_0 : List UInt8 := dkwJ36_removeFirst_0 ++ []
theorem dksJ36_removeFirst_0 : cJ36_removeFirst.data.toList.drop 0 = dktJ36_removeFirst_0 := by decide +kernel
theorem dJ36_removeFirst_0 : decode cJ36_removeFirst 0 = .ok (.aload_n 0, 1) := dk_42 (dk_at dksJ36_removeFirst_0 0 rfl rfl)
theorem dJ36_removeFirst_1 : decode cJ36_removeFirst 1 = .ok (.getfield 18, 3) := dk_180 0 18 (dk_at dksJ36_removeFirst_0 1 rfl rfl)
theorem dJ36_removeFirst_4 : decode cJ36_removeFirst 4 = .ok (.astore_n 1, 1) := dk_76 (dk_at dksJ36_removeFirst_0 4 rfl rfl)
theorem dJ36_removeFirst_5 : decode cJ36_removeFirst 5 = .ok (.aload_n 1, 1) := dk_43 (dk_at dksJ36_removeFirst_0 5 rfl rfl)
theorem dJ36_removeFirst_6 : decode cJ36_removeFirst 6 = .ok (.ifnonnull 11, 3) := dk_199 0 11 (dk_at dksJ36_removeFirst_0 6 rfl rfl)
theorem dJ36_removeFirst_17 : decode cJ36_removeFirst 17 = .ok (.aload_n 0, 1) := dk_42 (dk_at dksJ36_removeFirst_0 17 rfl rfl)
theorem dJ36_removeFirst_18 : decode cJ36_removeFirst 18 = .ok (.aload_n 1, 1) := dk_43 (dk_at dksJ36_removeFirst_0 18 rfl rfl)
theorem dJ36_removeFirst_19 : decode cJ36_removeFirst 19 = .ok (.invokevirtual 46, 3) := dk_182 0 46 (dk_at dksJ36_removeFirst_0 19 rfl rfl)
theorem dJ36_removeFirst_22 : decode cJ36_removeFirst 22 = .ok (.areturn, 1) := dk_176 (dk_at dksJ36_removeFirst_0 22 rfl rfl)
def dkwJ36_unlinkFirst_2 : List UInt8 := [180, 0, 7, 4, 100, 181, 0, 7, 42, 89, 180, 0, 33, 4, 96, 181, 0, 33, 44, 176]
abbrev dktJ36_unlinkFirst_2 : List UInt8 := dkwJ36_unlinkFirst_2 ++ []
def dkwJ36_unlinkFirst_1 : List UInt8 := [181, 0, 18, 45, 199, 0, 11, 42, 1, 181, 0, 27, 167, 0, 8, 45, 1, 181, 0, 30, 42, 89]
abbrev dktJ36_unlinkFirst_1 : List UInt8 := dkwJ36_unlinkFirst_1 ++ dktJ36_unlinkFirst_2
def dkwJ36_unlinkFirst_0 : List UInt8 := [43, 180, 0, 39, 77, 43, 180, 0, 36, 78, 43, 1, 181, 0, 39, 43, 1, 181, 0, 36, 42, 45]
abbrev dktJ36_unlinkFirst_0 : List UInt8 := dkwJ36_unlinkFirst_0 ++ dktJ36_unlinkFirst_1
theorem dksJ36_unlinkFirst_0 : cJ36_unlinkFirst.data.toList.drop 0 = dktJ36_unlinkFirst_0 := by decide +kernel
theorem dksJ36_unlinkFirst_1 : cJ36_unlinkFirst.data.toList.drop 22 = dktJ36_unlinkFirst_1 := dk_seg dksJ36_unlinkFirst_0 22 rfl rfl
theorem dksJ36_unlinkFirst_2 : cJ36_unlinkFirst.data.toList.drop 44 = dktJ36_unlinkFirst_2 := dk_seg dksJ36_unlinkFirst_1 22 rfl rfl
theorem dJ36_unlinkFirst_0 : decode cJ36_unlinkFirst 0 = .ok (.aload_n 1, 1) := dk_43 (dk_at dksJ36_unlinkFirst_0 0 rfl rfl)
theorem dJ36_unlinkFirst_1 : decode cJ36_unlinkFirst 1 = .ok (.getfield 39, 3) := dk_180 0 39 (dk_at dksJ36_unlinkFirst_0 1 rfl rfl)
theorem dJ36_unlinkFirst_4 : decode cJ36_unlinkFirst 4 = .ok (.astore_n 2, 1) := dk_77 (dk_at dksJ36_unlinkFirst_0 4 rfl rfl)
theorem dJ36_unlinkFirst_5 : decode cJ36_unlinkFirst 5 = .ok (.aload_n 1, 1) := dk_43 (dk_at dksJ36_unlinkFirst_0 5 rfl rfl)
theorem dJ36_unlinkFirst_6 : decode cJ36_unlinkFirst 6 = .ok (.getfield 36, 3) := dk_180 0 36 (dk_at dksJ36_unlinkFirst_0 6 rfl rfl)
theorem dJ36_unlinkFirst_9 : decode cJ36_unlinkFirst 9 = .ok (.astore_n 3, 1) := dk_78 (dk_at dksJ36_unlinkFirst_0 9 rfl rfl)
theorem dJ36_unlinkFirst_10 : decode cJ36_unlinkFirst 10 = .ok (.aload_n 1, 1) := dk_43 (dk_at dksJ36_unlinkFirst_0 10 rfl rfl)
theorem dJ36_unlinkFirst_11 : decode cJ36_unlinkFirst 11 = .ok (.aconst_null, 1) := dk_1 (dk_at dksJ36_unlinkFirst_0 11 rfl rfl)
theorem dJ36_unlinkFirst_12 : decode cJ36_unlinkFirst 12 = .ok (.putfield 39, 3) := dk_181 0 39 (dk_at dksJ36_unlinkFirst_0 12 rfl rfl)
theorem dJ36_unlinkFirst_15 : decode cJ36_unlinkFirst 15 = .ok (.aload_n 1, 1) := dk_43 (dk_at dksJ36_unlinkFirst_0 15 rfl rfl)
theorem dJ36_unlinkFirst_16 : decode cJ36_unlinkFirst 16 = .ok (.aconst_null, 1) := dk_1 (dk_at dksJ36_unlinkFirst_0 16 rfl rfl)
theorem dJ36_unlinkFirst_17 : decode cJ36_unlinkFirst 17 = .ok (.putfield 36, 3) := dk_181 0 36 (dk_at dksJ36_unlinkFirst_0 17 rfl rfl)
theorem dJ36_unlinkFirst_20 : decode cJ36_unlinkFirst 20 = .ok (.aload_n 0, 1) := dk_42 (dk_at dksJ36_unlinkFirst_0 20 rfl rfl)
theorem dJ36_unlinkFirst_21 : decode cJ36_unlinkFirst 21 = .ok (.aload_n 3, 1) := dk_45 (dk_at dksJ36_unlinkFirst_0 21 rfl rfl)
theorem dJ36_unlinkFirst_22 : decode cJ36_unlinkFirst 22 = .ok (.putfield 18, 3) := dk_181 0 18 (dk_at dksJ36_unlinkFirst_1 0 rfl rfl)
theorem dJ36_unlinkFirst_25 : decode cJ36_unlinkFirst 25 = .ok (.aload_n 3, 1) := dk_45 (dk_at dksJ36_unlinkFirst_1 3 rfl rfl)
theorem dJ36_unlinkFirst_26 : decode cJ36_unlinkFirst 26 = .ok (.ifnonnull 11, 3) := dk_199 0 11 (dk_at dksJ36_unlinkFirst_1 4 rfl rfl)
theorem dJ36_unlinkFirst_29 : decode cJ36_unlinkFirst 29 = .ok (.aload_n 0, 1) := dk_42 (dk_at dksJ36_unlinkFirst_1 7 rfl rfl)
theorem dJ36_unlinkFirst_30 : decode cJ36_unlinkFirst 30 = .ok (.aconst_null, 1) := dk_1 (dk_at dksJ36_unlinkFirst_1 8 rfl rfl)
theorem dJ36_unlinkFirst_31 : decode cJ36_unlinkFirst 31 = .ok (.putfield 27, 3) := dk_181 0 27 (dk_at dksJ36_unlinkFirst_1 9 rfl rfl)
theorem dJ36_unlinkFirst_34 : decode cJ36_unlinkFirst 34 = .ok (.goto 8, 3) := dk_167 0 8 (dk_at dksJ36_unlinkFirst_1 12 rfl rfl)
theorem dJ36_unlinkFirst_37 : decode cJ36_unlinkFirst 37 = .ok (.aload_n 3, 1) := dk_45 (dk_at dksJ36_unlinkFirst_1 15 rfl rfl)
theorem dJ36_unlinkFirst_38 : decode cJ36_unlinkFirst 38 = .ok (.aconst_null, 1) := dk_1 (dk_at dksJ36_unlinkFirst_1 16 rfl rfl)
theorem dJ36_unlinkFirst_39 : decode cJ36_unlinkFirst 39 = .ok (.putfield 30, 3) := dk_181 0 30 (dk_at dksJ36_unlinkFirst_1 17 rfl rfl)
theorem dJ36_unlinkFirst_42 : decode cJ36_unlinkFirst 42 = .ok (.aload_n 0, 1) := dk_42 (dk_at dksJ36_unlinkFirst_1 20 rfl rfl)
theorem dJ36_unlinkFirst_43 : decode cJ36_unlinkFirst 43 = .ok (.dup, 1) := dk_89 (dk_at dksJ36_unlinkFirst_1 21 rfl rfl)
theorem dJ36_unlinkFirst_44 : decode cJ36_unlinkFirst 44 = .ok (.getfield 7, 3) := dk_180 0 7 (dk_at dksJ36_unlinkFirst_2 0 rfl rfl)
theorem dJ36_unlinkFirst_47 : decode cJ36_unlinkFirst 47 = .ok (.iconst 1, 1) := dk_4 (dk_at dksJ36_unlinkFirst_2 3 rfl rfl)
theorem dJ36_unlinkFirst_48 : decode cJ36_unlinkFirst 48 = .ok (.isub, 1) := dk_100 (dk_at dksJ36_unlinkFirst_2 4 rfl rfl)
theorem dJ36_unlinkFirst_49 : decode cJ36_unlinkFirst 49 = .ok (.putfield 7, 3) := dk_181 0 7 (dk_at dksJ36_unlinkFirst_2 5 rfl rfl)
theorem dJ36_unlinkFirst_52 : decode cJ36_unlinkFirst 52 = .ok (.aload_n 0, 1) := dk_42 (dk_at dksJ36_unlinkFirst_2 8 rfl rfl)
theorem dJ36_unlinkFirst_53 : decode cJ36_unlinkFirst 53 = .ok (.dup, 1) := dk_89 (dk_at dksJ36_unlinkFirst_2 9 rfl rfl)
theorem dJ36_unlinkFirst_54 : decode cJ36_unlinkFirst 54 = .ok (.getfield 33, 3) := dk_180 0 33 (dk_at dksJ36_unlinkFirst_2 10 rfl rfl)
theorem dJ36_unlinkFirst_57 : decode cJ36_unlinkFirst 57 = .ok (.iconst 1, 1) := dk_4 (dk_at dksJ36_unlinkFirst_2 13 rfl rfl)
theorem dJ36_unlinkFirst_58 : decode cJ36_unlinkFirst 58 = .ok (.iadd, 1) := dk_96 (dk_at dksJ36_unlinkFirst_2 14 rfl rfl)
theorem dJ36_unlinkFirst_59 : decode cJ36_unlinkFirst 59 = .ok (.putfield 33, 3) := dk_181 0 33 (dk_at dksJ36_unlinkFirst_2 15 rfl rfl)
theorem dJ36_unlinkFirst_62 : decode cJ36_unlinkFirst 62 = .ok (.aload_n 2, 1) := dk_44 (dk_at dksJ36_unlinkFirst_2 18 rfl rfl)
theorem dJ36_unlinkFirst_63 : decode cJ36_unlinkFirst 63 = .ok (.areturn, 1) := dk_176 (dk_at dksJ36_unlinkFirst_2 19 rfl rfl)
def dkwJ36_listIterator_0 : List UInt8 := [42, 27, 182, 0, 76, 187, 0, 150, 89, 42, 27, 183, 0, 152, 176]
abbrev dktJ36_listIterator_0 : List UInt8 := dkwJ36_listIterator_0 ++ []
theorem dksJ36_listIterator_0 : cJ36_listIterator.data.toList.drop 0 = dktJ36_listIterator_0 := by decide +kernel
theorem dJ36_listIterator_0 : decode cJ36_listIterator 0 = .ok (.aload_n 0, 1) := dk_42 (dk_at dksJ36_listIterator_0 0 rfl rfl)
theorem dJ36_listIterator_1 : decode cJ36_listIterator 1 = .ok (.iload_n 1, 1) := dk_27 (dk_at dksJ36_listIterator_0 1 rfl rfl)
theorem dJ36_listIterator_2 : decode cJ36_listIterator 2 = .ok (.invokevirtual 76, 3) := dk_182 0 76 (dk_at dksJ36_listIterator_0 2 rfl rfl)
theorem dJ36_listIterator_5 : decode cJ36_listIterator 5 = .ok (.new 150, 3) := dk_187 0 150 (dk_at dksJ36_listIterator_0 5 rfl rfl)
theorem dJ36_listIterator_8 : decode cJ36_listIterator 8 = .ok (.dup, 1) := dk_89 (dk_at dksJ36_listIterator_0 8 rfl rfl)
theorem dJ36_listIterator_9 : decode cJ36_listIterator 9 = .ok (.aload_n 0, 1) := dk_42 (dk_at dksJ36_listIterator_0 9 rfl rfl)
theorem dJ36_listIterator_10 : decode cJ36_listIterator 10 = .ok (.iload_n 1, 1) := dk_27 (dk_at dksJ36_listIterator_0 10 rfl rfl)
theorem dJ36_listIterator_11 : decode cJ36_listIterator 11 = .ok (.invokespecial 152, 3) := dk_183 0 152 (dk_at dksJ36_listIterator_0 11 rfl rfl)
theorem dJ36_listIterator_14 : decode cJ36_listIterator 14 = .ok (.areturn, 1) := dk_176 (dk_at dksJ36_listIterator_0 14 rfl rfl)
def dkwJ36_checkPositionIndex_0 : List UInt8 := [42, 27, 182, 0, 128, 154, 0, 16, 187, 0, 119, 89, 42, 27, 182, 0, 121, 183, 0, 125, 191, 177]
abbrev dktJ36_checkPositionIndex_0 : List UInt8 := dkwJ36_checkPositionIndex_0 ++ []
theorem dksJ36_checkPositionIndex_0 : cJ36_checkPositionIndex.data.toList.drop 0 = dktJ36_checkPositionIndex_0 := by decide +kernel
theorem dJ36_checkPositionIndex_0 : decode cJ36_checkPositionIndex 0 = .ok (.aload_n 0, 1) := dk_42 (dk_at dksJ36_checkPositionIndex_0 0 rfl rfl)
theorem dJ36_checkPositionIndex_1 : decode cJ36_checkPositionIndex 1 = .ok (.iload_n 1, 1) := dk_27 (dk_at dksJ36_checkPositionIndex_0 1 rfl rfl)
theorem dJ36_checkPositionIndex_2 : decode cJ36_checkPositionIndex 2 = .ok (.invokevirtual 128, 3) := dk_182 0 128 (dk_at dksJ36_checkPositionIndex_0 2 rfl rfl)
theorem dJ36_checkPositionIndex_5 : decode cJ36_checkPositionIndex 5 = .ok (.ifCond .ne 16, 3) := dk_154 0 16 (dk_at dksJ36_checkPositionIndex_0 5 rfl rfl)
theorem dJ36_checkPositionIndex_21 : decode cJ36_checkPositionIndex 21 = .ok (.return_, 1) := dk_177 (dk_at dksJ36_checkPositionIndex_0 21 rfl rfl)
def dkwJ36_isPositionIndex_0 : List UInt8 := [27, 155, 0, 15, 27, 42, 180, 0, 7, 163, 0, 7, 4, 167, 0, 4, 3, 172]
abbrev dktJ36_isPositionIndex_0 : List UInt8 := dkwJ36_isPositionIndex_0 ++ []
theorem dksJ36_isPositionIndex_0 : cJ36_isPositionIndex.data.toList.drop 0 = dktJ36_isPositionIndex_0 := by decide +kernel
theorem dJ36_isPositionIndex_0 : decode cJ36_isPositionIndex 0 = .ok (.iload_n 1, 1) := dk_27 (dk_at dksJ36_isPositionIndex_0 0 rfl rfl)
theorem dJ36_isPositionIndex_1 : decode cJ36_isPositionIndex 1 = .ok (.ifCond .lt 15, 3) := dk_155 0 15 (dk_at dksJ36_isPositionIndex_0 1 rfl rfl)
theorem dJ36_isPositionIndex_4 : decode cJ36_isPositionIndex 4 = .ok (.iload_n 1, 1) := dk_27 (dk_at dksJ36_isPositionIndex_0 4 rfl rfl)
theorem dJ36_isPositionIndex_5 : decode cJ36_isPositionIndex 5 = .ok (.aload_n 0, 1) := dk_42 (dk_at dksJ36_isPositionIndex_0 5 rfl rfl)
theorem dJ36_isPositionIndex_6 : decode cJ36_isPositionIndex 6 = .ok (.getfield 7, 3) := dk_180 0 7 (dk_at dksJ36_isPositionIndex_0 6 rfl rfl)
theorem dJ36_isPositionIndex_9 : decode cJ36_isPositionIndex 9 = .ok (.if_icmp .gt 7, 3) := dk_163 0 7 (dk_at dksJ36_isPositionIndex_0 9 rfl rfl)
theorem dJ36_isPositionIndex_12 : decode cJ36_isPositionIndex 12 = .ok (.iconst 1, 1) := dk_4 (dk_at dksJ36_isPositionIndex_0 12 rfl rfl)
theorem dJ36_isPositionIndex_13 : decode cJ36_isPositionIndex 13 = .ok (.goto 4, 3) := dk_167 0 4 (dk_at dksJ36_isPositionIndex_0 13 rfl rfl)
theorem dJ36_isPositionIndex_16 : decode cJ36_isPositionIndex 16 = .ok (.iconst 0, 1) := dk_3 (dk_at dksJ36_isPositionIndex_0 16 rfl rfl)
theorem dJ36_isPositionIndex_17 : decode cJ36_isPositionIndex 17 = .ok (.ireturn, 1) := dk_172 (dk_at dksJ36_isPositionIndex_0 17 rfl rfl)
def dkwJ37_init_0 : List UInt8 := [42, 183, 0, 1, 42, 44, 181, 0, 7, 42, 45, 181, 0, 13, 42, 43, 181, 0, 17, 177]
abbrev dktJ37_init_0 : List UInt8 := dkwJ37_init_0 ++ []
theorem dksJ37_init_0 : cJ37_init.data.toList.drop 0 = dktJ37_init_0 := by decide +kernel
theorem dJ37_init_0 : decode cJ37_init 0 = .ok (.aload_n 0, 1) := dk_42 (dk_at dksJ37_init_0 0 rfl rfl)
theorem dJ37_init_1 : decode cJ37_init 1 = .ok (.invokespecial 1, 3) := dk_183 0 1 (dk_at dksJ37_init_0 1 rfl rfl)
theorem dJ37_init_4 : decode cJ37_init 4 = .ok (.aload_n 0, 1) := dk_42 (dk_at dksJ37_init_0 4 rfl rfl)
theorem dJ37_init_5 : decode cJ37_init 5 = .ok (.aload_n 2, 1) := dk_44 (dk_at dksJ37_init_0 5 rfl rfl)
theorem dJ37_init_6 : decode cJ37_init 6 = .ok (.putfield 7, 3) := dk_181 0 7 (dk_at dksJ37_init_0 6 rfl rfl)
theorem dJ37_init_9 : decode cJ37_init 9 = .ok (.aload_n 0, 1) := dk_42 (dk_at dksJ37_init_0 9 rfl rfl)
theorem dJ37_init_10 : decode cJ37_init 10 = .ok (.aload_n 3, 1) := dk_45 (dk_at dksJ37_init_0 10 rfl rfl)
theorem dJ37_init_11 : decode cJ37_init 11 = .ok (.putfield 13, 3) := dk_181 0 13 (dk_at dksJ37_init_0 11 rfl rfl)
theorem dJ37_init_14 : decode cJ37_init 14 = .ok (.aload_n 0, 1) := dk_42 (dk_at dksJ37_init_0 14 rfl rfl)
theorem dJ37_init_15 : decode cJ37_init 15 = .ok (.aload_n 1, 1) := dk_43 (dk_at dksJ37_init_0 15 rfl rfl)
theorem dJ37_init_16 : decode cJ37_init 16 = .ok (.putfield 17, 3) := dk_181 0 17 (dk_at dksJ37_init_0 16 rfl rfl)
theorem dJ37_init_19 : decode cJ37_init 19 = .ok (.return_, 1) := dk_177 (dk_at dksJ37_init_0 19 rfl rfl)
def dkwJ38_init_0 : List UInt8 := [42, 43, 181, 0, 1, 42, 183, 0, 7, 177]
abbrev dktJ38_init_0 : List UInt8 := dkwJ38_init_0 ++ []
theorem dksJ38_init_0 : cJ38_init.data.toList.drop 0 = dktJ38_init_0 := by decide +kernel
theorem dJ38_init_0 : decode cJ38_init 0 = .ok (.aload_n 0, 1) := dk_42 (dk_at dksJ38_init_0 0 rfl rfl)
theorem dJ38_init_1 : decode cJ38_init 1 = .ok (.aload_n 1, 1) := dk_43 (dk_at dksJ38_init_0 1 rfl rfl)
theorem dJ38_init_2 : decode cJ38_init 2 = .ok (.putfield 1, 3) := dk_181 0 1 (dk_at dksJ38_init_0 2 rfl rfl)
theorem dJ38_init_5 : decode cJ38_init 5 = .ok (.aload_n 0, 1) := dk_42 (dk_at dksJ38_init_0 5 rfl rfl)
theorem dJ38_init_6 : decode cJ38_init 6 = .ok (.invokespecial 7, 3) := dk_183 0 7 (dk_at dksJ38_init_0 6 rfl rfl)
theorem dJ38_init_9 : decode cJ38_init 9 = .ok (.return_, 1) := dk_177 (dk_at dksJ38_init_0 9 rfl rfl)
def dkwJ38_iterator_0 : List UInt8 := [187, 0, 13, 89, 42, 180, 0, 1, 42, 180, 0, 1, 182, 0, 15, 183, 0, 21, 176]
abbrev dktJ38_iterator_0 : List UInt8 := dkwJ38_iterator_0 ++ []
theorem dksJ38_iterator_0 : cJ38_iterator.data.toList.drop 0 = dktJ38_iterator_0 := by decide +kernel
theorem dJ38_iterator_0 : decode cJ38_iterator 0 = .ok (.new 13, 3) := dk_187 0 13 (dk_at dksJ38_iterator_0 0 rfl rfl)
theorem dJ38_iterator_3 : decode cJ38_iterator 3 = .ok (.dup, 1) := dk_89 (dk_at dksJ38_iterator_0 3 rfl rfl)
theorem dJ38_iterator_4 : decode cJ38_iterator 4 = .ok (.aload_n 0, 1) := dk_42 (dk_at dksJ38_iterator_0 4 rfl rfl)
theorem dJ38_iterator_5 : decode cJ38_iterator 5 = .ok (.getfield 1, 3) := dk_180 0 1 (dk_at dksJ38_iterator_0 5 rfl rfl)
theorem dJ38_iterator_8 : decode cJ38_iterator 8 = .ok (.aload_n 0, 1) := dk_42 (dk_at dksJ38_iterator_0 8 rfl rfl)
theorem dJ38_iterator_9 : decode cJ38_iterator 9 = .ok (.getfield 1, 3) := dk_180 0 1 (dk_at dksJ38_iterator_0 9 rfl rfl)
theorem dJ38_iterator_12 : decode cJ38_iterator 12 = .ok (.invokevirtual 15, 3) := dk_182 0 15 (dk_at dksJ38_iterator_0 12 rfl rfl)
theorem dJ38_iterator_15 : decode cJ38_iterator 15 = .ok (.invokespecial 21, 3) := dk_183 0 21 (dk_at dksJ38_iterator_0 15 rfl rfl)
theorem dJ38_iterator_18 : decode cJ38_iterator 18 = .ok (.areturn, 1) := dk_176 (dk_at dksJ38_iterator_0 18 rfl rfl)
def dkwJ41_hasNext_0 : List UInt8 := [42, 180, 0, 33, 42, 180, 0, 1, 180, 0, 22, 162, 0, 7, 4, 167, 0, 4, 3, 172]
abbrev dktJ41_hasNext_0 : List UInt8 := dkwJ41_hasNext_0 ++ []
theorem dksJ41_hasNext_0 : cJ41_hasNext.data.toList.drop 0 = dktJ41_hasNext_0 := by decide +kernel
theorem dJ41_hasNext_0 : decode cJ41_hasNext 0 = .ok (.aload_n 0, 1) := dk_42 (dk_at dksJ41_hasNext_0 0 rfl rfl)
theorem dJ41_hasNext_1 : decode cJ41_hasNext 1 = .ok (.getfield 33, 3) := dk_180 0 33 (dk_at dksJ41_hasNext_0 1 rfl rfl)
theorem dJ41_hasNext_4 : decode cJ41_hasNext 4 = .ok (.aload_n 0, 1) := dk_42 (dk_at dksJ41_hasNext_0 4 rfl rfl)
theorem dJ41_hasNext_5 : decode cJ41_hasNext 5 = .ok (.getfield 1, 3) := dk_180 0 1 (dk_at dksJ41_hasNext_0 5 rfl rfl)
theorem dJ41_hasNext_8 : decode cJ41_hasNext 8 = .ok (.getfield 22, 3) := dk_180 0 22 (dk_at dksJ41_hasNext_0 8 rfl rfl)
theorem dJ41_hasNext_11 : decode cJ41_hasNext 11 = .ok (.if_icmp .ge 7, 3) := dk_162 0 7 (dk_at dksJ41_hasNext_0 11 rfl rfl)
theorem dJ41_hasNext_14 : decode cJ41_hasNext 14 = .ok (.iconst 1, 1) := dk_4 (dk_at dksJ41_hasNext_0 14 rfl rfl)
theorem dJ41_hasNext_15 : decode cJ41_hasNext 15 = .ok (.goto 4, 3) := dk_167 0 4 (dk_at dksJ41_hasNext_0 15 rfl rfl)
theorem dJ41_hasNext_18 : decode cJ41_hasNext 18 = .ok (.iconst 0, 1) := dk_3 (dk_at dksJ41_hasNext_0 18 rfl rfl)
theorem dJ41_hasNext_19 : decode cJ41_hasNext 19 = .ok (.ireturn, 1) := dk_172 (dk_at dksJ41_hasNext_0 19 rfl rfl)
def dkwJ41_next_2 : List UInt8 := [42, 180, 0, 46, 180, 0, 52, 176]
abbrev dktJ41_next_2 : List UInt8 := dkwJ41_next_2 ++ []
def dkwJ41_next_1 : List UInt8 := [181, 0, 46, 42, 42, 180, 0, 29, 180, 0, 49, 181, 0, 29, 42, 89, 180, 0, 33, 4, 96, 181, 0, 33]
abbrev dktJ41_next_1 : List UInt8 := dkwJ41_next_1 ++ dktJ41_next_2
def dkwJ41_next_0 : List UInt8 := [42, 182, 0, 36, 42, 182, 0, 39, 154, 0, 11, 187, 0, 43, 89, 183, 0, 45, 191, 42, 42, 180, 0, 29]
abbrev dktJ41_next_0 : List UInt8 := dkwJ41_next_0 ++ dktJ41_next_1
theorem dksJ41_next_0 : cJ41_next.data.toList.drop 0 = dktJ41_next_0 := by decide +kernel
theorem dksJ41_next_1 : cJ41_next.data.toList.drop 24 = dktJ41_next_1 := dk_seg dksJ41_next_0 24 rfl rfl
theorem dksJ41_next_2 : cJ41_next.data.toList.drop 48 = dktJ41_next_2 := dk_seg dksJ41_next_1 24 rfl rfl
theorem dJ41_next_0 : decode cJ41_next 0 = .ok (.aload_n 0, 1) := dk_42 (dk_at dksJ41_next_0 0 rfl rfl)
theorem dJ41_next_1 : decode cJ41_next 1 = .ok (.invokevirtual 36, 3) := dk_182 0 36 (dk_at dksJ41_next_0 1 rfl rfl)
theorem dJ41_next_4 : decode cJ41_next 4 = .ok (.aload_n 0, 1) := dk_42 (dk_at dksJ41_next_0 4 rfl rfl)
theorem dJ41_next_5 : decode cJ41_next 5 = .ok (.invokevirtual 39, 3) := dk_182 0 39 (dk_at dksJ41_next_0 5 rfl rfl)
theorem dJ41_next_8 : decode cJ41_next 8 = .ok (.ifCond .ne 11, 3) := dk_154 0 11 (dk_at dksJ41_next_0 8 rfl rfl)
theorem dJ41_next_19 : decode cJ41_next 19 = .ok (.aload_n 0, 1) := dk_42 (dk_at dksJ41_next_0 19 rfl rfl)
theorem dJ41_next_20 : decode cJ41_next 20 = .ok (.aload_n 0, 1) := dk_42 (dk_at dksJ41_next_0 20 rfl rfl)
theorem dJ41_next_21 : decode cJ41_next 21 = .ok (.getfield 29, 3) := dk_180 0 29 (dk_at dksJ41_next_0 21 rfl rfl)
theorem dJ41_next_24 : decode cJ41_next 24 = .ok (.putfield 46, 3) := dk_181 0 46 (dk_at dksJ41_next_1 0 rfl rfl)
theorem dJ41_next_27 : decode cJ41_next 27 = .ok (.aload_n 0, 1) := dk_42 (dk_at dksJ41_next_1 3 rfl rfl)
theorem dJ41_next_28 : decode cJ41_next 28 = .ok (.aload_n 0, 1) := dk_42 (dk_at dksJ41_next_1 4 rfl rfl)
theorem dJ41_next_29 : decode cJ41_next 29 = .ok (.getfield 29, 3) := dk_180 0 29 (dk_at dksJ41_next_1 5 rfl rfl)
theorem dJ41_next_32 : decode cJ41_next 32 = .ok (.getfield 49, 3) := dk_180 0 49 (dk_at dksJ41_next_1 8 rfl rfl)
theorem dJ41_next_35 : decode cJ41_next 35 = .ok (.putfield 29, 3) := dk_181 0 29 (dk_at dksJ41_next_1 11 rfl rfl)
theorem dJ41_next_38 : decode cJ41_next 38 = .ok (.aload_n 0, 1) := dk_42 (dk_at dksJ41_next_1 14 rfl rfl)
theorem dJ41_next_39 : decode cJ41_next 39 = .ok (.dup, 1) := dk_89 (dk_at dksJ41_next_1 15 rfl rfl)
theorem dJ41_next_40 : decode cJ41_next 40 = .ok (.getfield 33, 3) := dk_180 0 33 (dk_at dksJ41_next_1 16 rfl rfl)
theorem dJ41_next_43 : decode cJ41_next 43 = .ok (.iconst 1, 1) := dk_4 (dk_at dksJ41_next_1 19 rfl rfl)
theorem dJ41_next_44 : decode cJ41_next 44 = .ok (.iadd, 1) := dk_96 (dk_at dksJ41_next_1 20 rfl rfl)
theorem dJ41_next_45 : decode cJ41_next 45 = .ok (.putfield 33, 3) := dk_181 0 33 (dk_at dksJ41_next_1 21 rfl rfl)
theorem dJ41_next_48 : decode cJ41_next 48 = .ok (.aload_n 0, 1) := dk_42 (dk_at dksJ41_next_2 0 rfl rfl)
theorem dJ41_next_49 : decode cJ41_next 49 = .ok (.getfield 46, 3) := dk_180 0 46 (dk_at dksJ41_next_2 1 rfl rfl)
theorem dJ41_next_52 : decode cJ41_next 52 = .ok (.getfield 52, 3) := dk_180 0 52 (dk_at dksJ41_next_2 4 rfl rfl)
theorem dJ41_next_55 : decode cJ41_next 55 = .ok (.areturn, 1) := dk_176 (dk_at dksJ41_next_2 7 rfl rfl)
def dkwJ41_checkForComodification_0 : List UInt8 := [42, 180, 0, 1, 180, 0, 13, 42, 180, 0, 19, 159, 0, 11, 187, 0, 91, 89, 183, 0, 93, 191, 177]
abbrev dktJ41_checkForComodification_0 : List UInt8 := dkwJ41_checkForComodification_0 ++ []
theorem dksJ41_checkForComodification_0 : cJ41_checkForComodification.data.toList.drop 0 = dktJ41_checkForComodification_0 := by decide +kernel
theorem dJ41_checkForComodification_0 : decode cJ41_checkForComodification 0 = .ok (.aload_n 0, 1) := dk_42 (dk_at dksJ41_checkForComodification_0 0 rfl rfl)
theorem dJ41_checkForComodification_1 : decode cJ41_checkForComodification 1 = .ok (.getfield 1, 3) := dk_180 0 1 (dk_at dksJ41_checkForComodification_0 1 rfl rfl)
theorem dJ41_checkForComodification_4 : decode cJ41_checkForComodification 4 = .ok (.getfield 13, 3) := dk_180 0 13 (dk_at dksJ41_checkForComodification_0 4 rfl rfl)
theorem dJ41_checkForComodification_7 : decode cJ41_checkForComodification 7 = .ok (.aload_n 0, 1) := dk_42 (dk_at dksJ41_checkForComodification_0 7 rfl rfl)
theorem dJ41_checkForComodification_8 : decode cJ41_checkForComodification 8 = .ok (.getfield 19, 3) := dk_180 0 19 (dk_at dksJ41_checkForComodification_0 8 rfl rfl)
theorem dJ41_checkForComodification_11 : decode cJ41_checkForComodification 11 = .ok (.if_icmp .eq 11, 3) := dk_159 0 11 (dk_at dksJ41_checkForComodification_0 11 rfl rfl)
theorem dJ41_checkForComodification_22 : decode cJ41_checkForComodification 22 = .ok (.return_, 1) := dk_177 (dk_at dksJ41_checkForComodification_0 22 rfl rfl)
def dkwJ41_init_1 : List UInt8 := [180, 0, 22, 160, 0, 7, 1, 167, 0, 8, 43, 28, 182, 0, 25, 181, 0, 29, 42, 28, 181, 0, 33, 177]
abbrev dktJ41_init_1 : List UInt8 := dkwJ41_init_1 ++ []
def dkwJ41_init_0 : List UInt8 := [42, 43, 181, 0, 1, 42, 183, 0, 7, 42, 42, 180, 0, 1, 180, 0, 13, 181, 0, 19, 42, 28, 43]
abbrev dktJ41_init_0 : List UInt8 := dkwJ41_init_0 ++ dktJ41_init_1
theorem dksJ41_init_0 : cJ41_init.data.toList.drop 0 = dktJ41_init_0 := by decide +kernel
theorem dksJ41_init_1 : cJ41_init.data.toList.drop 23 = dktJ41_init_1 := dk_seg dksJ41_init_0 23 rfl rfl
theorem dJ41_init_0 : decode cJ41_init 0 = .ok (.aload_n 0, 1) := dk_42 (dk_at dksJ41_init_0 0 rfl rfl)
theorem dJ41_init_1 : decode cJ41_init 1 = .ok (.aload_n 1, 1) := dk_43 (dk_at dksJ41_init_0 1 rfl rfl)
theorem dJ41_init_2 : decode cJ41_init 2 = .ok (.putfield 1, 3) := dk_181 0 1 (dk_at dksJ41_init_0 2 rfl rfl)
theorem dJ41_init_5 : decode cJ41_init 5 = .ok (.aload_n 0, 1) := dk_42 (dk_at dksJ41_init_0 5 rfl rfl)
theorem dJ41_init_6 : decode cJ41_init 6 = .ok (.invokespecial 7, 3) := dk_183 0 7 (dk_at dksJ41_init_0 6 rfl rfl)
theorem dJ41_init_9 : decode cJ41_init 9 = .ok (.aload_n 0, 1) := dk_42 (dk_at dksJ41_init_0 9 rfl rfl)
theorem dJ41_init_10 : decode cJ41_init 10 = .ok (.aload_n 0, 1) := dk_42 (dk_at dksJ41_init_0 10 rfl rfl)
theorem dJ41_init_11 : decode cJ41_init 11 = .ok (.getfield 1, 3) := dk_180 0 1 (dk_at dksJ41_init_0 11 rfl rfl)
theorem dJ41_init_14 : decode cJ41_init 14 = .ok (.getfield 13, 3) := dk_180 0 13 (dk_at dksJ41_init_0 14 rfl rfl)
theorem dJ41_init_17 : decode cJ41_init 17 = .ok (.putfield 19, 3) := dk_181 0 19 (dk_at dksJ41_init_0 17 rfl rfl)
theorem dJ41_init_20 : decode cJ41_init 20 = .ok (.aload_n 0, 1) := dk_42 (dk_at dksJ41_init_0 20 rfl rfl)
theorem dJ41_init_21 : decode cJ41_init 21 = .ok (.iload_n 2, 1) := dk_28 (dk_at dksJ41_init_0 21 rfl rfl)
theorem dJ41_init_22 : decode cJ41_init 22 = .ok (.aload_n 1, 1) := dk_43 (dk_at dksJ41_init_0 22 rfl rfl)
theorem dJ41_init_23 : decode cJ41_init 23 = .ok (.getfield 22, 3) := dk_180 0 22 (dk_at dksJ41_init_1 0 rfl rfl)
theorem dJ41_init_26 : decode cJ41_init 26 = .ok (.if_icmp .ne 7, 3) := dk_160 0 7 (dk_at dksJ41_init_1 3 rfl rfl)
theorem dJ41_init_29 : decode cJ41_init 29 = .ok (.aconst_null, 1) := dk_1 (dk_at dksJ41_init_1 6 rfl rfl)
theorem dJ41_init_30 : decode cJ41_init 30 = .ok (.goto 8, 3) := dk_167 0 8 (dk_at dksJ41_init_1 7 rfl rfl)
theorem dJ41_init_33 : decode cJ41_init 33 = .ok (.aload_n 1, 1) := dk_43 (dk_at dksJ41_init_1 10 rfl rfl)
theorem dJ41_init_34 : decode cJ41_init 34 = .ok (.iload_n 2, 1) := dk_28 (dk_at dksJ41_init_1 11 rfl rfl)
theorem dJ41_init_35 : decode cJ41_init 35 = .ok (.invokevirtual 25, 3) := dk_182 0 25 (dk_at dksJ41_init_1 12 rfl rfl)
theorem dJ41_init_38 : decode cJ41_init 38 = .ok (.putfield 29, 3) := dk_181 0 29 (dk_at dksJ41_init_1 15 rfl rfl)
theorem dJ41_init_41 : decode cJ41_init 41 = .ok (.aload_n 0, 1) := dk_42 (dk_at dksJ41_init_1 18 rfl rfl)
theorem dJ41_init_42 : decode cJ41_init 42 = .ok (.iload_n 2, 1) := dk_28 (dk_at dksJ41_init_1 19 rfl rfl)
theorem dJ41_init_43 : decode cJ41_init 43 = .ok (.putfield 33, 3) := dk_181 0 33 (dk_at dksJ41_init_1 20 rfl rfl)
theorem dJ41_init_46 : decode cJ41_init 46 = .ok (.return_, 1) := dk_177 (dk_at dksJ41_init_1 23 rfl rfl)
def dkwJ42_next_0 : List UInt8 := [42, 182, 0, 7, 180, 0, 13, 176]
abbrev dktJ42_next_0 : List UInt8 := dkwJ42_next_0 ++ []
theorem dksJ42_next_0 : cJ42_next.data.toList.drop 0 = dktJ42_next_0 := by decide +kernel
theorem dJ42_next_0 : decode cJ42_next 0 = .ok (.aload_n 0, 1) := dk_42 (dk_at dksJ42_next_0 0 rfl rfl)
theorem dJ42_next_1 : decode cJ42_next 1 = .ok (.invokevirtual 7, 3) := dk_182 0 7 (dk_at dksJ42_next_0 1 rfl rfl)
theorem dJ42_next_4 : decode cJ42_next 4 = .ok (.getfield 13, 3) := dk_180 0 13 (dk_at dksJ42_next_0 4 rfl rfl)
theorem dJ42_next_7 : decode cJ42_next 7 = .ok (.areturn, 1) := dk_176 (dk_at dksJ42_next_0 7 rfl rfl)
def dkwJ42_init_0 : List UInt8 := [42, 43, 44, 183, 0, 1, 177]
abbrev dktJ42_init_0 : List UInt8 := dkwJ42_init_0 ++ []
theorem dksJ42_init_0 : cJ42_init.data.toList.drop 0 = dktJ42_init_0 := by decide +kernel
theorem dJ42_init_0 : decode cJ42_init 0 = .ok (.aload_n 0, 1) := dk_42 (dk_at dksJ42_init_0 0 rfl rfl)
theorem dJ42_init_1 : decode cJ42_init 1 = .ok (.aload_n 1, 1) := dk_43 (dk_at dksJ42_init_0 1 rfl rfl)
theorem dJ42_init_2 : decode cJ42_init 2 = .ok (.aload_n 2, 1) := dk_44 (dk_at dksJ42_init_0 2 rfl rfl)
theorem dJ42_init_3 : decode cJ42_init 3 = .ok (.invokespecial 1, 3) := dk_183 0 1 (dk_at dksJ42_init_0 3 rfl rfl)
theorem dJ42_init_6 : decode cJ42_init 6 = .ok (.return_, 1) := dk_177 (dk_at dksJ42_init_0 6 rfl rfl)
