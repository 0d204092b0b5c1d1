set_option maxRecDepth 100000
theorem dJ0_init_0 : decode cJ0_init 0 = .ok (.aload_n 0, 1) := by decide +kernel
theorem dJ0_init_1 : decode cJ0_init 1 = .ok (.invokespecial 1, 3) := by decide +kernel
theorem dJ0_init_4 : decode cJ0_init 4 = .ok (.return_, 1) := by decide +kernel
def dkwJ1_init_0 : List UInt8 := [42, 183, 0, 1, 42, 3, 181, 0, 7, 177]
abbrev dktJ1_init_0 : List UInt8 := dkwJ1_init_0 ++ []
theorem dksJ1_init_0 : cJ1_init.data.toList.drop 0 = dktJ1_init_0 := by decide +kernel
theorem dJ1_init_0 : decode cJ1_init 0 = .ok (.aload_n 0, 1) := dk_42 (dk_at dksJ1_init_0 0 rfl rfl)
theorem dJ1_init_1 : decode cJ1_init 1 = .ok (.invokespecial 1, 3) := dk_183 0 1 (dk_at dksJ1_init_0 1 rfl rfl)
theorem dJ1_init_4 : decode cJ1_init 4 = .ok (.aload_n 0, 1) := dk_42 (dk_at dksJ1_init_0 4 rfl rfl)
theorem dJ1_init_5 : decode cJ1_init 5 = .ok (.iconst 0, 1) := dk_3 (dk_at dksJ1_init_0 5 rfl rfl)
theorem dJ1_init_6 : decode cJ1_init 6 = .ok (.putfield 7, 3) := dk_181 0 7 (dk_at dksJ1_init_0 6 rfl rfl)
theorem dJ1_init_9 : decode cJ1_init 9 = .ok (.return_, 1) := dk_177 (dk_at dksJ1_init_0 9 rfl rfl)
def dkwJ2_init_2 : List UInt8 := [182, 0, 25, 27, 182, 0, 29, 182, 0, 32, 183, 0, 36, 191, 177]
abbrev dktJ2_init_2 : List UInt8 := dkwJ2_init_2 ++ []
def dkwJ2_init_1 : List UInt8 := [178, 0, 15, 181, 0, 9, 167, 0, 30, 187, 0, 18, 89, 187, 0, 20, 89, 183, 0, 22, 18, 23]
abbrev dktJ2_init_1 : List UInt8 := dkwJ2_init_1 ++ dktJ2_init_2
def dkwJ2_init_0 : List UInt8 := [42, 183, 0, 1, 27, 158, 0, 14, 42, 27, 189, 0, 7, 181, 0, 9, 167, 0, 44, 27, 154, 0, 13, 42]
abbrev dktJ2_init_0 : List UInt8 := dkwJ2_init_0 ++ dktJ2_init_1
theorem dksJ2_init_0 : cJ2_init.data.toList.drop 0 = dktJ2_init_0 := by decide +kernel
theorem dksJ2_init_1 : cJ2_init.data.toList.drop 24 = dktJ2_init_1 := dk_seg dksJ2_init_0 24 rfl rfl
theorem dksJ2_init_2 : cJ2_init.data.toList.drop 46 = dktJ2_init_2 := dk_seg dksJ2_init_1 22 rfl rfl
theorem dJ2_init_0 : decode cJ2_init 0 = .ok (.aload_n 0, 1) := dk_42 (dk_at dksJ2_init_0 0 rfl rfl)
theorem dJ2_init_1 : decode cJ2_init 1 = .ok (.invokespecial 1, 3) := dk_183 0 1 (dk_at dksJ2_init_0 1 rfl rfl)
theorem dJ2_init_4 : decode cJ2_init 4 = .ok (.iload_n 1, 1) := dk_27 (dk_at dksJ2_init_0 4 rfl rfl)
theorem dJ2_init_5 : decode cJ2_init 5 = .ok (.ifCond .le 14, 3) := dk_158 0 14 (dk_at dksJ2_init_0 5 rfl rfl)
theorem dJ2_init_8 : decode cJ2_init 8 = .ok (.aload_n 0, 1) := dk_42 (dk_at dksJ2_init_0 8 rfl rfl)
theorem dJ2_init_9 : decode cJ2_init 9 = .ok (.iload_n 1, 1) := dk_27 (dk_at dksJ2_init_0 9 rfl rfl)
theorem dJ2_init_10 : decode cJ2_init 10 = .ok (.anewarray 7, 3) := dk_189 0 7 (dk_at dksJ2_init_0 10 rfl rfl)
theorem dJ2_init_13 : decode cJ2_init 13 = .ok (.putfield 9, 3) := dk_181 0 9 (dk_at dksJ2_init_0 13 rfl rfl)
theorem dJ2_init_16 : decode cJ2_init 16 = .ok (.goto 44, 3) := dk_167 0 44 (dk_at dksJ2_init_0 16 rfl rfl)
theorem dJ2_init_19 : decode cJ2_init 19 = .ok (.iload_n 1, 1) := dk_27 (dk_at dksJ2_init_0 19 rfl rfl)
theorem dJ2_init_20 : decode cJ2_init 20 = .ok (.ifCond .ne 13, 3) := dk_154 0 13 (dk_at dksJ2_init_0 20 rfl rfl)
theorem dJ2_init_23 : decode cJ2_init 23 = .ok (.aload_n 0, 1) := dk_42 (dk_at dksJ2_init_0 23 rfl rfl)
theorem dJ2_init_24 : decode cJ2_init 24 = .ok (.getstatic 15, 3) := dk_178 0 15 (dk_at dksJ2_init_1 0 rfl rfl)
theorem dJ2_init_27 : decode cJ2_init 27 = .ok (.putfield 9, 3) := dk_181 0 9 (dk_at dksJ2_init_1 3 rfl rfl)
theorem dJ2_init_30 : decode cJ2_init 30 = .ok (.goto 30, 3) := dk_167 0 30 (dk_at dksJ2_init_1 6 rfl rfl)
theorem dJ2_init_33 : decode cJ2_init 33 = .ok (.new 18, 3) := dk_187 0 18 (dk_at dksJ2_init_1 9 rfl rfl)
theorem dJ2_init_36 : decode cJ2_init 36 = .ok (.dup, 1) := dk_89 (dk_at dksJ2_init_1 12 rfl rfl)
theorem dJ2_init_37 : decode cJ2_init 37 = .ok (.new 20, 3) := dk_187 0 20 (dk_at dksJ2_init_1 13 rfl rfl)
theorem dJ2_init_40 : decode cJ2_init 40 = .ok (.dup, 1) := dk_89 (dk_at dksJ2_init_1 16 rfl rfl)
theorem dJ2_init_41 : decode cJ2_init 41 = .ok (.invokespecial 22, 3) := dk_183 0 22 (dk_at dksJ2_init_1 17 rfl rfl)
theorem dJ2_init_44 : decode cJ2_init 44 = .ok (.ldc 23, 2) := dk_18 23 (dk_at dksJ2_init_1 20 rfl rfl)
theorem dJ2_init_46 : decode cJ2_init 46 = .ok (.invokevirtual 25, 3) := dk_182 0 25 (dk_at dksJ2_init_2 0 rfl rfl)
theorem dJ2_init_49 : decode cJ2_init 49 = .ok (.iload_n 1, 1) := dk_27 (dk_at dksJ2_init_2 3 rfl rfl)
theorem dJ2_init_50 : decode cJ2_init 50 = .ok (.invokevirtual 29, 3) := dk_182 0 29 (dk_at dksJ2_init_2 4 rfl rfl)
theorem dJ2_init_53 : decode cJ2_init 53 = .ok (.invokevirtual 32, 3) := dk_182 0 32 (dk_at dksJ2_init_2 7 rfl rfl)
theorem dJ2_init_56 : decode cJ2_init 56 = .ok (.invokespecial 36, 3) := dk_183 0 36 (dk_at dksJ2_init_2 10 rfl rfl)
theorem dJ2_init_59 : decode cJ2_init 59 = .ok (.athrow, 1) := dk_191 (dk_at dksJ2_init_2 13 rfl rfl)
theorem dJ2_init_60 : decode cJ2_init 60 = .ok (.return_, 1) := dk_177 (dk_at dksJ2_init_2 14 rfl rfl)
theorem dJ2_size_0 : decode cJ2_size 0 = .ok (.aload_n 0, 1) := by decide +kernel
theorem dJ2_size_1 : decode cJ2_size 1 = .ok (.getfield 48, 3) := by decide +kernel
theorem dJ2_size_4 : decode cJ2_size 4 = .ok (.ireturn, 1) := by decide +kernel
def dkwJ2_get_0 : List UInt8 := [27, 42, 180, 0, 48, 184, 0, 118, 87, 42, 27, 182, 0, 123, 176]
abbrev dktJ2_get_0 : List UInt8 := dkwJ2_get_0 ++ []
theorem dksJ2_get_0 : cJ2_get.data.toList.drop 0 = dktJ2_get_0 := by decide +kernel
theorem dJ2_get_0 : decode cJ2_get 0 = .ok (.iload_n 1, 1) := dk_27 (dk_at dksJ2_get_0 0 rfl rfl)
theorem dJ2_get_1 : decode cJ2_get 1 = .ok (.aload_n 0, 1) := dk_42 (dk_at dksJ2_get_0 1 rfl rfl)
theorem dJ2_get_2 : decode cJ2_get 2 = .ok (.getfield 48, 3) := dk_180 0 48 (dk_at dksJ2_get_0 2 rfl rfl)
theorem dJ2_get_5 : decode cJ2_get 5 = .ok (.invokestatic 118, 3) := dk_184 0 118 (dk_at dksJ2_get_0 5 rfl rfl)
theorem dJ2_get_8 : decode cJ2_get 8 = .ok (.pop, 1) := dk_87 (dk_at dksJ2_get_0 8 rfl rfl)
theorem dJ2_get_9 : decode cJ2_get 9 = .ok (.aload_n 0, 1) := dk_42 (dk_at dksJ2_get_0 9 rfl rfl)
theorem dJ2_get_10 : decode cJ2_get 10 = .ok (.iload_n 1, 1) := dk_27 (dk_at dksJ2_get_0 10 rfl rfl)
theorem dJ2_get_11 : decode cJ2_get 11 = .ok (.invokevirtual 123, 3) := dk_182 0 123 (dk_at dksJ2_get_0 11 rfl rfl)
theorem dJ2_get_14 : decode cJ2_get 14 = .ok (.areturn, 1) := dk_176 (dk_at dksJ2_get_0 14 rfl rfl)
def dkwJ2_elementData_0 : List UInt8 := [42, 180, 0, 9, 27, 50, 176]
abbrev dktJ2_elementData_0 : List UInt8 := dkwJ2_elementData_0 ++ []
theorem dksJ2_elementData_0 : cJ2_elementData.data.toList.drop 0 = dktJ2_elementData_0 := by decide +kernel
theorem dJ2_elementData_0 : decode cJ2_elementData 0 = .ok (.aload_n 0, 1) := dk_42 (dk_at dksJ2_elementData_0 0 rfl rfl)
theorem dJ2_elementData_1 : decode cJ2_elementData 1 = .ok (.getfield 9, 3) := dk_180 0 9 (dk_at dksJ2_elementData_0 1 rfl rfl)
theorem dJ2_elementData_4 : decode cJ2_elementData 4 = .ok (.iload_n 1, 1) := dk_27 (dk_at dksJ2_elementData_0 4 rfl rfl)
theorem dJ2_elementData_5 : decode cJ2_elementData 5 = .ok (.aaload, 1) := dk_50 (dk_at dksJ2_elementData_0 5 rfl rfl)
theorem dJ2_elementData_6 : decode cJ2_elementData 6 = .ok (.areturn, 1) := dk_176 (dk_at dksJ2_elementData_0 6 rfl rfl)
def dkwJ2_init_2_0 : List UInt8 := [42, 183, 0, 1, 42, 178, 0, 39, 181, 0, 9, 177]
abbrev dktJ2_init_2_0 : List UInt8 := dkwJ2_init_2_0 ++ []
theorem dksJ2_init_2_0 : cJ2_init_2.data.toList.drop 0 = dktJ2_init_2_0 := by decide +kernel
theorem dJ2_init_2_0 : decode cJ2_init_2 0 = .ok (.aload_n 0, 1) := dk_42 (dk_at dksJ2_init_2_0 0 rfl rfl)
theorem dJ2_init_2_1 : decode cJ2_init_2 1 = .ok (.invokespecial 1, 3) := dk_183 0 1 (dk_at dksJ2_init_2_0 1 rfl rfl)
theorem dJ2_init_2_4 : decode cJ2_init_2 4 = .ok (.aload_n 0, 1) := dk_42 (dk_at dksJ2_init_2_0 4 rfl rfl)
theorem dJ2_init_2_5 : decode cJ2_init_2 5 = .ok (.getstatic 39, 3) := dk_178 0 39 (dk_at dksJ2_init_2_0 5 rfl rfl)
theorem dJ2_init_2_8 : decode cJ2_init_2 8 = .ok (.putfield 9, 3) := dk_181 0 9 (dk_at dksJ2_init_2_0 8 rfl rfl)
theorem dJ2_init_2_11 : decode cJ2_init_2 11 = .ok (.return_, 1) := dk_177 (dk_at dksJ2_init_2_0 11 rfl rfl)
def dkwJ2_add_1 : List UInt8 := [172]
abbrev dktJ2_add_1 : List UInt8 := dkwJ2_add_1 ++ []
def dkwJ2_add_0 : List UInt8 := [42, 89, 180, 0, 63, 4, 96, 181, 0, 63, 42, 43, 42, 180, 0, 9, 42, 180, 0, 48, 182, 0, 131, 4]
abbrev dktJ2_add_0 : List UInt8 := dkwJ2_add_0 ++ dktJ2_add_1
theorem dksJ2_add_0 : cJ2_add.data.toList.drop 0 = dktJ2_add_0 := by decide +kernel
theorem dksJ2_add_1 : cJ2_add.data.toList.drop 24 = dktJ2_add_1 := dk_seg dksJ2_add_0 24 rfl rfl
theorem dJ2_add_0 : decode cJ2_add 0 = .ok (.aload_n 0, 1) := dk_42 (dk_at dksJ2_add_0 0 rfl rfl)
theorem dJ2_add_1 : decode cJ2_add 1 = .ok (.dup, 1) := dk_89 (dk_at dksJ2_add_0 1 rfl rfl)
theorem dJ2_add_2 : decode cJ2_add 2 = .ok (.getfield 63, 3) := dk_180 0 63 (dk_at dksJ2_add_0 2 rfl rfl)
theorem dJ2_add_5 : decode cJ2_add 5 = .ok (.iconst 1, 1) := dk_4 (dk_at dksJ2_add_0 5 rfl rfl)
theorem dJ2_add_6 : decode cJ2_add 6 = .ok (.iadd, 1) := dk_96 (dk_at dksJ2_add_0 6 rfl rfl)
theorem dJ2_add_7 : decode cJ2_add 7 = .ok (.putfield 63, 3) := dk_181 0 63 (dk_at dksJ2_add_0 7 rfl rfl)
theorem dJ2_add_10 : decode cJ2_add 10 = .ok (.aload_n 0, 1) := dk_42 (dk_at dksJ2_add_0 10 rfl rfl)
theorem dJ2_add_11 : decode cJ2_add 11 = .ok (.aload_n 1, 1) := dk_43 (dk_at dksJ2_add_0 11 rfl rfl)
theorem dJ2_add_12 : decode cJ2_add 12 = .ok (.aload_n 0, 1) := dk_42 (dk_at dksJ2_add_0 12 rfl rfl)
theorem dJ2_add_13 : decode cJ2_add 13 = .ok (.getfield 9, 3) := dk_180 0 9 (dk_at dksJ2_add_0 13 rfl rfl)
theorem dJ2_add_16 : decode cJ2_add 16 = .ok (.aload_n 0, 1) := dk_42 (dk_at dksJ2_add_0 16 rfl rfl)
theorem dJ2_add_17 : decode cJ2_add 17 = .ok (.getfield 48, 3) := dk_180 0 48 (dk_at dksJ2_add_0 17 rfl rfl)
theorem dJ2_add_20 : decode cJ2_add 20 = .ok (.invokevirtual 131, 3) := dk_182 0 131 (dk_at dksJ2_add_0 20 rfl rfl)
theorem dJ2_add_23 : decode cJ2_add 23 = .ok (.iconst 1, 1) := dk_4 (dk_at dksJ2_add_0 23 rfl rfl)
theorem dJ2_add_24 : decode cJ2_add 24 = .ok (.ireturn, 1) := dk_172 (dk_at dksJ2_add_1 0 rfl rfl)
def dkwJ2_add_2_0 : List UInt8 := [29, 44, 190, 160, 0, 8, 42, 182, 0, 129, 77, 44, 29, 43, 83, 42, 29, 4, 96, 181, 0, 48, 177]
abbrev dktJ2_add_2_0 : List UInt8 := dkwJ2_add_2_0 ++ []
theorem dksJ2_add_2_0 : cJ2_add_2.data.toList.drop 0 = dktJ2_add_2_0 := by decide +kernel
theorem dJ2_add_2_0 : decode cJ2_add_2 0 = .ok (.iload_n 3, 1) := dk_29 (dk_at dksJ2_add_2_0 0 rfl rfl)
theorem dJ2_add_2_1 : decode cJ2_add_2 1 = .ok (.aload_n 2, 1) := dk_44 (dk_at dksJ2_add_2_0 1 rfl rfl)
theorem dJ2_add_2_2 : decode cJ2_add_2 2 = .ok (.arraylength, 1) := dk_190 (dk_at dksJ2_add_2_0 2 rfl rfl)
theorem dJ2_add_2_3 : decode cJ2_add_2 3 = .ok (.if_icmp .ne 8, 3) := dk_160 0 8 (dk_at dksJ2_add_2_0 3 rfl rfl)
theorem dJ2_add_2_6 : decode cJ2_add_2 6 = .ok (.aload_n 0, 1) := dk_42 (dk_at dksJ2_add_2_0 6 rfl rfl)
theorem dJ2_add_2_7 : decode cJ2_add_2 7 = .ok (.invokevirtual 129, 3) := dk_182 0 129 (dk_at dksJ2_add_2_0 7 rfl rfl)
theorem dJ2_add_2_10 : decode cJ2_add_2 10 = .ok (.astore_n 2, 1) := dk_77 (dk_at dksJ2_add_2_0 10 rfl rfl)
theorem dJ2_add_2_11 : decode cJ2_add_2 11 = .ok (.aload_n 2, 1) := dk_44 (dk_at dksJ2_add_2_0 11 rfl rfl)
theorem dJ2_add_2_12 : decode cJ2_add_2 12 = .ok (.iload_n 3, 1) := dk_29 (dk_at dksJ2_add_2_0 12 rfl rfl)
theorem dJ2_add_2_13 : decode cJ2_add_2 13 = .ok (.aload_n 1, 1) := dk_43 (dk_at dksJ2_add_2_0 13 rfl rfl)
theorem dJ2_add_2_14 : decode cJ2_add_2 14 = .ok (.aastore, 1) := dk_83 (dk_at dksJ2_add_2_0 14 rfl rfl)
theorem dJ2_add_2_15 : decode cJ2_add_2 15 = .ok (.aload_n 0, 1) := dk_42 (dk_at dksJ2_add_2_0 15 rfl rfl)
theorem dJ2_add_2_16 : decode cJ2_add_2 16 = .ok (.iload_n 3, 1) := dk_29 (dk_at dksJ2_add_2_0 16 rfl rfl)
theorem dJ2_add_2_17 : decode cJ2_add_2 17 = .ok (.iconst 1, 1) := dk_4 (dk_at dksJ2_add_2_0 17 rfl rfl)
theorem dJ2_add_2_18 : decode cJ2_add_2 18 = .ok (.iadd, 1) := dk_96 (dk_at dksJ2_add_2_0 18 rfl rfl)
theorem dJ2_add_2_19 : decode cJ2_add_2 19 = .ok (.putfield 48, 3) := dk_181 0 48 (dk_at dksJ2_add_2_0 19 rfl rfl)
theorem dJ2_add_2_22 : decode cJ2_add_2 22 = .ok (.return_, 1) := dk_177 (dk_at dksJ2_add_2_0 22 rfl rfl)
def dkwJ2_grow_0 : List UInt8 := [42, 42, 180, 0, 48, 4, 96, 182, 0, 69, 176]
abbrev dktJ2_grow_0 : List UInt8 := dkwJ2_grow_0 ++ []
theorem dksJ2_grow_0 : cJ2_grow.data.toList.drop 0 = dktJ2_grow_0 := by decide +kernel
theorem dJ2_grow_0 : decode cJ2_grow 0 = .ok (.aload_n 0, 1) := dk_42 (dk_at dksJ2_grow_0 0 rfl rfl)
theorem dJ2_grow_1 : decode cJ2_grow 1 = .ok (.aload_n 0, 1) := dk_42 (dk_at dksJ2_grow_0 1 rfl rfl)
theorem dJ2_grow_2 : decode cJ2_grow 2 = .ok (.getfield 48, 3) := dk_180 0 48 (dk_at dksJ2_grow_0 2 rfl rfl)
theorem dJ2_grow_5 : decode cJ2_grow 5 = .ok (.iconst 1, 1) := dk_4 (dk_at dksJ2_grow_0 5 rfl rfl)
theorem dJ2_grow_6 : decode cJ2_grow 6 = .ok (.iadd, 1) := dk_96 (dk_at dksJ2_grow_0 6 rfl rfl)
theorem dJ2_grow_7 : decode cJ2_grow 7 = .ok (.invokevirtual 69, 3) := dk_182 0 69 (dk_at dksJ2_grow_0 7 rfl rfl)
theorem dJ2_grow_10 : decode cJ2_grow 10 = .ok (.areturn, 1) := dk_176 (dk_at dksJ2_grow_0 10 rfl rfl)
def dkwJ2_grow_2_2 : List UInt8 := [27, 184, 0, 79, 189, 0, 7, 90, 181, 0, 9, 176]
abbrev dktJ2_grow_2_2 : List UInt8 := dkwJ2_grow_2_2 ++ []
def dkwJ2_grow_2_1 : List UInt8 := [28, 4, 122, 184, 0, 73, 62, 42, 42, 180, 0, 9, 29, 184, 0, 66, 90, 181, 0, 9, 176, 42, 16, 10]
abbrev dktJ2_grow_2_1 : List UInt8 := dkwJ2_grow_2_1 ++ dktJ2_grow_2_2
def dkwJ2_grow_2_0 : List UInt8 := [42, 180, 0, 9, 190, 61, 28, 157, 0, 13, 42, 180, 0, 9, 178, 0, 39, 165, 0, 28, 28, 27, 28, 100]
abbrev dktJ2_grow_2_0 : List UInt8 := dkwJ2_grow_2_0 ++ dktJ2_grow_2_1
theorem dksJ2_grow_2_0 : cJ2_grow_2.data.toList.drop 0 = dktJ2_grow_2_0 := by decide +kernel
theorem dksJ2_grow_2_1 : cJ2_grow_2.data.toList.drop 24 = dktJ2_grow_2_1 := dk_seg dksJ2_grow_2_0 24 rfl rfl
theorem dksJ2_grow_2_2 : cJ2_grow_2.data.toList.drop 48 = dktJ2_grow_2_2 := dk_seg dksJ2_grow_2_1 24 rfl rfl
theorem dJ2_grow_2_0 : decode cJ2_grow_2 0 = .ok (.aload_n 0, 1) := dk_42 (dk_at dksJ2_grow_2_0 0 rfl rfl)
theorem dJ2_grow_2_1 : decode cJ2_grow_2 1 = .ok (.getfield 9, 3) := dk_180 0 9 (dk_at dksJ2_grow_2_0 1 rfl rfl)
theorem dJ2_grow_2_4 : decode cJ2_grow_2 4 = .ok (.arraylength, 1) := dk_190 (dk_at dksJ2_grow_2_0 4 rfl rfl)
theorem dJ2_grow_2_5 : decode cJ2_grow_2 5 = .ok (.istore_n 2, 1) := dk_61 (dk_at dksJ2_grow_2_0 5 rfl rfl)
theorem dJ2_grow_2_6 : decode cJ2_grow_2 6 = .ok (.iload_n 2, 1) := dk_28 (dk_at dksJ2_grow_2_0 6 rfl rfl)
theorem dJ2_grow_2_7 : decode cJ2_grow_2 7 = .ok (.ifCond .gt 13, 3) := dk_157 0 13 (dk_at dksJ2_grow_2_0 7 rfl rfl)
theorem dJ2_grow_2_10 : decode cJ2_grow_2 10 = .ok (.aload_n 0, 1) := dk_42 (dk_at dksJ2_grow_2_0 10 rfl rfl)
theorem dJ2_grow_2_11 : decode cJ2_grow_2 11 = .ok (.getfield 9, 3) := dk_180 0 9 (dk_at dksJ2_grow_2_0 11 rfl rfl)
theorem dJ2_grow_2_14 : decode cJ2_grow_2 14 = .ok (.getstatic 39, 3) := dk_178 0 39 (dk_at dksJ2_grow_2_0 14 rfl rfl)
theorem dJ2_grow_2_17 : decode cJ2_grow_2 17 = .ok (.if_acmp .eq 28, 3) := dk_165 0 28 (dk_at dksJ2_grow_2_0 17 rfl rfl)
theorem dJ2_grow_2_20 : decode cJ2_grow_2 20 = .ok (.iload_n 2, 1) := dk_28 (dk_at dksJ2_grow_2_0 20 rfl rfl)
theorem dJ2_grow_2_21 : decode cJ2_grow_2 21 = .ok (.iload_n 1, 1) := dk_27 (dk_at dksJ2_grow_2_0 21 rfl rfl)
theorem dJ2_grow_2_22 : decode cJ2_grow_2 22 = .ok (.iload_n 2, 1) := dk_28 (dk_at dksJ2_grow_2_0 22 rfl rfl)
theorem dJ2_grow_2_23 : decode cJ2_grow_2 23 = .ok (.isub, 1) := dk_100 (dk_at dksJ2_grow_2_0 23 rfl rfl)
theorem dJ2_grow_2_24 : decode cJ2_grow_2 24 = .ok (.iload_n 2, 1) := dk_28 (dk_at dksJ2_grow_2_1 0 rfl rfl)
theorem dJ2_grow_2_25 : decode cJ2_grow_2 25 = .ok (.iconst 1, 1) := dk_4 (dk_at dksJ2_grow_2_1 1 rfl rfl)
theorem dJ2_grow_2_26 : decode cJ2_grow_2 26 = .ok (.ishr, 1) := dk_122 (dk_at dksJ2_grow_2_1 2 rfl rfl)
theorem dJ2_grow_2_27 : decode cJ2_grow_2 27 = .ok (.invokestatic 73, 3) := dk_184 0 73 (dk_at dksJ2_grow_2_1 3 rfl rfl)
theorem dJ2_grow_2_30 : decode cJ2_grow_2 30 = .ok (.istore_n 3, 1) := dk_62 (dk_at dksJ2_grow_2_1 6 rfl rfl)
theorem dJ2_grow_2_31 : decode cJ2_grow_2 31 = .ok (.aload_n 0, 1) := dk_42 (dk_at dksJ2_grow_2_1 7 rfl rfl)
theorem dJ2_grow_2_32 : decode cJ2_grow_2 32 = .ok (.aload_n 0, 1) := dk_42 (dk_at dksJ2_grow_2_1 8 rfl rfl)
theorem dJ2_grow_2_33 : decode cJ2_grow_2 33 = .ok (.getfield 9, 3) := dk_180 0 9 (dk_at dksJ2_grow_2_1 9 rfl rfl)
theorem dJ2_grow_2_36 : decode cJ2_grow_2 36 = .ok (.iload_n 3, 1) := dk_29 (dk_at dksJ2_grow_2_1 12 rfl rfl)
theorem dJ2_grow_2_37 : decode cJ2_grow_2 37 = .ok (.invokestatic 66, 3) := dk_184 0 66 (dk_at dksJ2_grow_2_1 13 rfl rfl)
theorem dJ2_grow_2_40 : decode cJ2_grow_2 40 = .ok (.dup_x1, 1) := dk_90 (dk_at dksJ2_grow_2_1 16 rfl rfl)
theorem dJ2_grow_2_41 : decode cJ2_grow_2 41 = .ok (.putfield 9, 3) := dk_181 0 9 (dk_at dksJ2_grow_2_1 17 rfl rfl)
theorem dJ2_grow_2_44 : decode cJ2_grow_2 44 = .ok (.areturn, 1) := dk_176 (dk_at dksJ2_grow_2_1 20 rfl rfl)
theorem dJ2_grow_2_45 : decode cJ2_grow_2 45 = .ok (.aload_n 0, 1) := dk_42 (dk_at dksJ2_grow_2_1 21 rfl rfl)
theorem dJ2_grow_2_46 : decode cJ2_grow_2 46 = .ok (.bipush 10, 2) := dk_16 10 (dk_at dksJ2_grow_2_1 22 rfl rfl)
theorem dJ2_grow_2_48 : decode cJ2_grow_2 48 = .ok (.iload_n 1, 1) := dk_27 (dk_at dksJ2_grow_2_2 0 rfl rfl)
theorem dJ2_grow_2_49 : decode cJ2_grow_2 49 = .ok (.invokestatic 79, 3) := dk_184 0 79 (dk_at dksJ2_grow_2_2 1 rfl rfl)
theorem dJ2_grow_2_52 : decode cJ2_grow_2 52 = .ok (.anewarray 7, 3) := dk_189 0 7 (dk_at dksJ2_grow_2_2 4 rfl rfl)
theorem dJ2_grow_2_55 : decode cJ2_grow_2 55 = .ok (.dup_x1, 1) := dk_90 (dk_at dksJ2_grow_2_2 7 rfl rfl)
theorem dJ2_grow_2_56 : decode cJ2_grow_2 56 = .ok (.putfield 9, 3) := dk_181 0 9 (dk_at dksJ2_grow_2_2 8 rfl rfl)
theorem dJ2_grow_2_59 : decode cJ2_grow_2 59 = .ok (.areturn, 1) := dk_176 (dk_at dksJ2_grow_2_2 11 rfl rfl)
def dkwJ2_clear_1 : List UInt8 := [181, 0, 48, 62, 29, 28, 162, 0, 13, 43, 29, 1, 83, 132, 3, 1, 167, 255, 244, 177]
abbrev dktJ2_clear_1 : List UInt8 := dkwJ2_clear_1 ++ []
def dkwJ2_clear_0 : List UInt8 := [42, 89, 180, 0, 63, 4, 96, 181, 0, 63, 42, 180, 0, 9, 76, 42, 180, 0, 48, 61, 42, 3, 90]
abbrev dktJ2_clear_0 : List UInt8 := dkwJ2_clear_0 ++ dktJ2_clear_1
theorem dksJ2_clear_0 : cJ2_clear.data.toList.drop 0 = dktJ2_clear_0 := by decide +kernel
theorem dksJ2_clear_1 : cJ2_clear.data.toList.drop 23 = dktJ2_clear_1 := dk_seg dksJ2_clear_0 23 rfl rfl
theorem dJ2_clear_0 : decode cJ2_clear 0 = .ok (.aload_n 0, 1) := dk_42 (dk_at dksJ2_clear_0 0 rfl rfl)
theorem dJ2_clear_1 : decode cJ2_clear 1 = .ok (.dup, 1) := dk_89 (dk_at dksJ2_clear_0 1 rfl rfl)
theorem dJ2_clear_2 : decode cJ2_clear 2 = .ok (.getfield 63, 3) := dk_180 0 63 (dk_at dksJ2_clear_0 2 rfl rfl)
theorem dJ2_clear_5 : decode cJ2_clear 5 = .ok (.iconst 1, 1) := dk_4 (dk_at dksJ2_clear_0 5 rfl rfl)
theorem dJ2_clear_6 : decode cJ2_clear 6 = .ok (.iadd, 1) := dk_96 (dk_at dksJ2_clear_0 6 rfl rfl)
theorem dJ2_clear_7 : decode cJ2_clear 7 = .ok (.putfield 63, 3) := dk_181 0 63 (dk_at dksJ2_clear_0 7 rfl rfl)
theorem dJ2_clear_10 : decode cJ2_clear 10 = .ok (.aload_n 0, 1) := dk_42 (dk_at dksJ2_clear_0 10 rfl rfl)
theorem dJ2_clear_11 : decode cJ2_clear 11 = .ok (.getfield 9, 3) := dk_180 0 9 (dk_at dksJ2_clear_0 11 rfl rfl)
theorem dJ2_clear_14 : decode cJ2_clear 14 = .ok (.astore_n 1, 1) := dk_76 (dk_at dksJ2_clear_0 14 rfl rfl)
theorem dJ2_clear_15 : decode cJ2_clear 15 = .ok (.aload_n 0, 1) := dk_42 (dk_at dksJ2_clear_0 15 rfl rfl)
theorem dJ2_clear_16 : decode cJ2_clear 16 = .ok (.getfield 48, 3) := dk_180 0 48 (dk_at dksJ2_clear_0 16 rfl rfl)
theorem dJ2_clear_19 : decode cJ2_clear 19 = .ok (.istore_n 2, 1) := dk_61 (dk_at dksJ2_clear_0 19 rfl rfl)
theorem dJ2_clear_20 : decode cJ2_clear 20 = .ok (.aload_n 0, 1) := dk_42 (dk_at dksJ2_clear_0 20 rfl rfl)
theorem dJ2_clear_21 : decode cJ2_clear 21 = .ok (.iconst 0, 1) := dk_3 (dk_at dksJ2_clear_0 21 rfl rfl)
theorem dJ2_clear_22 : decode cJ2_clear 22 = .ok (.dup_x1, 1) := dk_90 (dk_at dksJ2_clear_0 22 rfl rfl)
theorem dJ2_clear_23 : decode cJ2_clear 23 = .ok (.putfield 48, 3) := dk_181 0 48 (dk_at dksJ2_clear_1 0 rfl rfl)
theorem dJ2_clear_26 : decode cJ2_clear 26 = .ok (.istore_n 3, 1) := dk_62 (dk_at dksJ2_clear_1 3 rfl rfl)
theorem dJ2_clear_27 : decode cJ2_clear 27 = .ok (.iload_n 3, 1) := dk_29 (dk_at dksJ2_clear_1 4 rfl rfl)
theorem dJ2_clear_28 : decode cJ2_clear 28 = .ok (.iload_n 2, 1) := dk_28 (dk_at dksJ2_clear_1 5 rfl rfl)
theorem dJ2_clear_29 : decode cJ2_clear 29 = .ok (.if_icmp .ge 13, 3) := dk_162 0 13 (dk_at dksJ2_clear_1 6 rfl rfl)
theorem dJ2_clear_32 : decode cJ2_clear 32 = .ok (.aload_n 1, 1) := dk_43 (dk_at dksJ2_clear_1 9 rfl rfl)
theorem dJ2_clear_33 : decode cJ2_clear 33 = .ok (.iload_n 3, 1) := dk_29 (dk_at dksJ2_clear_1 10 rfl rfl)
theorem dJ2_clear_34 : decode cJ2_clear 34 = .ok (.aconst_null, 1) := dk_1 (dk_at dksJ2_clear_1 11 rfl rfl)
theorem dJ2_clear_35 : decode cJ2_clear 35 = .ok (.aastore, 1) := dk_83 (dk_at dksJ2_clear_1 12 rfl rfl)
theorem dJ2_clear_36 : decode cJ2_clear 36 = .ok (.iinc 3 1, 3) := dk_132 3 1 (dk_at dksJ2_clear_1 13 rfl rfl)
theorem dJ2_clear_39 : decode cJ2_clear 39 = .ok (.goto (-12), 3) := dk_167 255 244 (dk_at dksJ2_clear_1 16 rfl rfl)
theorem dJ2_clear_42 : decode cJ2_clear 42 = .ok (.return_, 1) := dk_177 (dk_at dksJ2_clear_1 19 rfl rfl)
def dkwJ2_remove_1 : List UInt8 := [45, 176]
abbrev dktJ2_remove_1 : List UInt8 := dkwJ2_remove_1 ++ []
def dkwJ2_remove_0 : List UInt8 := [27, 42, 180, 0, 48, 184, 0, 118, 87, 42, 180, 0, 9, 77, 44, 27, 50, 78, 42, 44, 27, 182, 0, 144]
abbrev dktJ2_remove_0 : List UInt8 := dkwJ2_remove_0 ++ dktJ2_remove_1
theorem dksJ2_remove_0 : cJ2_remove.data.toList.drop 0 = dktJ2_remove_0 := by decide +kernel
theorem dksJ2_remove_1 : cJ2_remove.data.toList.drop 24 = dktJ2_remove_1 := dk_seg dksJ2_remove_0 24 rfl rfl
theorem dJ2_remove_0 : decode cJ2_remove 0 = .ok (.iload_n 1, 1) := dk_27 (dk_at dksJ2_remove_0 0 rfl rfl)
theorem dJ2_remove_1 : decode cJ2_remove 1 = .ok (.aload_n 0, 1) := dk_42 (dk_at dksJ2_remove_0 1 rfl rfl)
theorem dJ2_remove_2 : decode cJ2_remove 2 = .ok (.getfield 48, 3) := dk_180 0 48 (dk_at dksJ2_remove_0 2 rfl rfl)
theorem dJ2_remove_5 : decode cJ2_remove 5 = .ok (.invokestatic 118, 3) := dk_184 0 118 (dk_at dksJ2_remove_0 5 rfl rfl)
theorem dJ2_remove_8 : decode cJ2_remove 8 = .ok (.pop, 1) := dk_87 (dk_at dksJ2_remove_0 8 rfl rfl)
theorem dJ2_remove_9 : decode cJ2_remove 9 = .ok (.aload_n 0, 1) := dk_42 (dk_at dksJ2_remove_0 9 rfl rfl)
theorem dJ2_remove_10 : decode cJ2_remove 10 = .ok (.getfield 9, 3) := dk_180 0 9 (dk_at dksJ2_remove_0 10 rfl rfl)
theorem dJ2_remove_13 : decode cJ2_remove 13 = .ok (.astore_n 2, 1) := dk_77 (dk_at dksJ2_remove_0 13 rfl rfl)
theorem dJ2_remove_14 : decode cJ2_remove 14 = .ok (.aload_n 2, 1) := dk_44 (dk_at dksJ2_remove_0 14 rfl rfl)
theorem dJ2_remove_15 : decode cJ2_remove 15 = .ok (.iload_n 1, 1) := dk_27 (dk_at dksJ2_remove_0 15 rfl rfl)
theorem dJ2_remove_16 : decode cJ2_remove 16 = .ok (.aaload, 1) := dk_50 (dk_at dksJ2_remove_0 16 rfl rfl)
theorem dJ2_remove_17 : decode cJ2_remove 17 = .ok (.astore_n 3, 1) := dk_78 (dk_at dksJ2_remove_0 17 rfl rfl)
theorem dJ2_remove_18 : decode cJ2_remove 18 = .ok (.aload_n 0, 1) := dk_42 (dk_at dksJ2_remove_0 18 rfl rfl)
theorem dJ2_remove_19 : decode cJ2_remove 19 = .ok (.aload_n 2, 1) := dk_44 (dk_at dksJ2_remove_0 19 rfl rfl)
theorem dJ2_remove_20 : decode cJ2_remove 20 = .ok (.iload_n 1, 1) := dk_27 (dk_at dksJ2_remove_0 20 rfl rfl)
theorem dJ2_remove_21 : decode cJ2_remove 21 = .ok (.invokevirtual 144, 3) := dk_182 0 144 (dk_at dksJ2_remove_0 21 rfl rfl)
theorem dJ2_remove_24 : decode cJ2_remove 24 = .ok (.aload_n 3, 1) := dk_45 (dk_at dksJ2_remove_1 0 rfl rfl)
theorem dJ2_remove_25 : decode cJ2_remove 25 = .ok (.areturn, 1) := dk_176 (dk_at dksJ2_remove_1 1 rfl rfl)
def dkwJ2_fastRemove_1 : List UInt8 := [4, 96, 43, 28, 29, 28, 100, 184, 0, 112, 43, 42, 29, 90, 181, 0, 48, 1, 83, 177]
abbrev dktJ2_fastRemove_1 : List UInt8 := dkwJ2_fastRemove_1 ++ []
def dkwJ2_fastRemove_0 : List UInt8 := [42, 89, 180, 0, 63, 4, 96, 181, 0, 63, 42, 180, 0, 48, 4, 100, 89, 62, 28, 164, 0, 15, 43, 28]
abbrev dktJ2_fastRemove_0 : List UInt8 := dkwJ2_fastRemove_0 ++ dktJ2_fastRemove_1
theorem dksJ2_fastRemove_0 : cJ2_fastRemove.data.toList.drop 0 = dktJ2_fastRemove_0 := by decide +kernel
theorem dksJ2_fastRemove_1 : cJ2_fastRemove.data.toList.drop 24 = dktJ2_fastRemove_1 := dk_seg dksJ2_fastRemove_0 24 rfl rfl
theorem dJ2_fastRemove_0 : decode cJ2_fastRemove 0 = .ok (.aload_n 0, 1) := dk_42 (dk_at dksJ2_fastRemove_0 0 rfl rfl)
theorem dJ2_fastRemove_1 : decode cJ2_fastRemove 1 = .ok (.dup, 1) := dk_89 (dk_at dksJ2_fastRemove_0 1 rfl rfl)
theorem dJ2_fastRemove_2 : decode cJ2_fastRemove 2 = .ok (.getfield 63, 3) := dk_180 0 63 (dk_at dksJ2_fastRemove_0 2 rfl rfl)
theorem dJ2_fastRemove_5 : decode cJ2_fastRemove 5 = .ok (.iconst 1, 1) := dk_4 (dk_at dksJ2_fastRemove_0 5 rfl rfl)
theorem dJ2_fastRemove_6 : decode cJ2_fastRemove 6 = .ok (.iadd, 1) := dk_96 (dk_at dksJ2_fastRemove_0 6 rfl rfl)
theorem dJ2_fastRemove_7 : decode cJ2_fastRemove 7 = .ok (.putfield 63, 3) := dk_181 0 63 (dk_at dksJ2_fastRemove_0 7 rfl rfl)
theorem dJ2_fastRemove_10 : decode cJ2_fastRemove 10 = .ok (.aload_n 0, 1) := dk_42 (dk_at dksJ2_fastRemove_0 10 rfl rfl)
theorem dJ2_fastRemove_11 : decode cJ2_fastRemove 11 = .ok (.getfield 48, 3) := dk_180 0 48 (dk_at dksJ2_fastRemove_0 11 rfl rfl)
theorem dJ2_fastRemove_14 : decode cJ2_fastRemove 14 = .ok (.iconst 1, 1) := dk_4 (dk_at dksJ2_fastRemove_0 14 rfl rfl)
theorem dJ2_fastRemove_15 : decode cJ2_fastRemove 15 = .ok (.isub, 1) := dk_100 (dk_at dksJ2_fastRemove_0 15 rfl rfl)
theorem dJ2_fastRemove_16 : decode cJ2_fastRemove 16 = .ok (.dup, 1) := dk_89 (dk_at dksJ2_fastRemove_0 16 rfl rfl)
theorem dJ2_fastRemove_17 : decode cJ2_fastRemove 17 = .ok (.istore_n 3, 1) := dk_62 (dk_at dksJ2_fastRemove_0 17 rfl rfl)
theorem dJ2_fastRemove_18 : decode cJ2_fastRemove 18 = .ok (.iload_n 2, 1) := dk_28 (dk_at dksJ2_fastRemove_0 18 rfl rfl)
theorem dJ2_fastRemove_19 : decode cJ2_fastRemove 19 = .ok (.if_icmp .le 15, 3) := dk_164 0 15 (dk_at dksJ2_fastRemove_0 19 rfl rfl)
theorem dJ2_fastRemove_22 : decode cJ2_fastRemove 22 = .ok (.aload_n 1, 1) := dk_43 (dk_at dksJ2_fastRemove_0 22 rfl rfl)
theorem dJ2_fastRemove_23 : decode cJ2_fastRemove 23 = .ok (.iload_n 2, 1) := dk_28 (dk_at dksJ2_fastRemove_0 23 rfl rfl)
theorem dJ2_fastRemove_24 : decode cJ2_fastRemove 24 = .ok (.iconst 1, 1) := dk_4 (dk_at dksJ2_fastRemove_1 0 rfl rfl)
theorem dJ2_fastRemove_25 : decode cJ2_fastRemove 25 = .ok (.iadd, 1) := dk_96 (dk_at dksJ2_fastRemove_1 1 rfl rfl)
theorem dJ2_fastRemove_26 : decode cJ2_fastRemove 26 = .ok (.aload_n 1, 1) := dk_43 (dk_at dksJ2_fastRemove_1 2 rfl rfl)
theorem dJ2_fastRemove_27 : decode cJ2_fastRemove 27 = .ok (.iload_n 2, 1) := dk_28 (dk_at dksJ2_fastRemove_1 3 rfl rfl)
theorem dJ2_fastRemove_28 : decode cJ2_fastRemove 28 = .ok (.iload_n 3, 1) := dk_29 (dk_at dksJ2_fastRemove_1 4 rfl rfl)
theorem dJ2_fastRemove_29 : decode cJ2_fastRemove 29 = .ok (.iload_n 2, 1) := dk_28 (dk_at dksJ2_fastRemove_1 5 rfl rfl)
theorem dJ2_fastRemove_30 : decode cJ2_fastRemove 30 = .ok (.isub, 1) := dk_100 (dk_at dksJ2_fastRemove_1 6 rfl rfl)
theorem dJ2_fastRemove_31 : decode cJ2_fastRemove 31 = .ok (.invokestatic 112, 3) := dk_184 0 112 (dk_at dksJ2_fastRemove_1 7 rfl rfl)
theorem dJ2_fastRemove_34 : decode cJ2_fastRemove 34 = .ok (.aload_n 1, 1) := dk_43 (dk_at dksJ2_fastRemove_1 10 rfl rfl)
theorem dJ2_fastRemove_35 : decode cJ2_fastRemove 35 = .ok (.aload_n 0, 1) := dk_42 (dk_at dksJ2_fastRemove_1 11 rfl rfl)
theorem dJ2_fastRemove_36 : decode cJ2_fastRemove 36 = .ok (.iload_n 3, 1) := dk_29 (dk_at dksJ2_fastRemove_1 12 rfl rfl)
theorem dJ2_fastRemove_37 : decode cJ2_fastRemove 37 = .ok (.dup_x1, 1) := dk_90 (dk_at dksJ2_fastRemove_1 13 rfl rfl)
theorem dJ2_fastRemove_38 : decode cJ2_fastRemove 38 = .ok (.putfield 48, 3) := dk_181 0 48 (dk_at dksJ2_fastRemove_1 14 rfl rfl)
theorem dJ2_fastRemove_41 : decode cJ2_fastRemove 41 = .ok (.aconst_null, 1) := dk_1 (dk_at dksJ2_fastRemove_1 17 rfl rfl)
theorem dJ2_fastRemove_42 : decode cJ2_fastRemove 42 = .ok (.aastore, 1) := dk_83 (dk_at dksJ2_fastRemove_1 18 rfl rfl)
theorem dJ2_fastRemove_43 : decode cJ2_fastRemove 43 = .ok (.return_, 1) := dk_177 (dk_at dksJ2_fastRemove_1 19 rfl rfl)
def dkwJ2_isEmpty_0 : List UInt8 := [42, 180, 0, 48, 154, 0, 7, 4, 167, 0, 4, 3, 172]
abbrev dktJ2_isEmpty_0 : List UInt8 := dkwJ2_isEmpty_0 ++ []
theorem dksJ2_isEmpty_0 : cJ2_isEmpty.data.toList.drop 0 = dktJ2_isEmpty_0 := by decide +kernel
theorem dJ2_isEmpty_0 : decode cJ2_isEmpty 0 = .ok (.aload_n 0, 1) := dk_42 (dk_at dksJ2_isEmpty_0 0 rfl rfl)
theorem dJ2_isEmpty_1 : decode cJ2_isEmpty 1 = .ok (.getfield 48, 3) := dk_180 0 48 (dk_at dksJ2_isEmpty_0 1 rfl rfl)
theorem dJ2_isEmpty_4 : decode cJ2_isEmpty 4 = .ok (.ifCond .ne 7, 3) := dk_154 0 7 (dk_at dksJ2_isEmpty_0 4 rfl rfl)
theorem dJ2_isEmpty_7 : decode cJ2_isEmpty 7 = .ok (.iconst 1, 1) := dk_4 (dk_at dksJ2_isEmpty_0 7 rfl rfl)
theorem dJ2_isEmpty_8 : decode cJ2_isEmpty 8 = .ok (.goto 4, 3) := dk_167 0 4 (dk_at dksJ2_isEmpty_0 8 rfl rfl)
theorem dJ2_isEmpty_11 : decode cJ2_isEmpty 11 = .ok (.iconst 0, 1) := dk_3 (dk_at dksJ2_isEmpty_0 11 rfl rfl)
theorem dJ2_isEmpty_12 : decode cJ2_isEmpty 12 = .ok (.ireturn, 1) := dk_172 (dk_at dksJ2_isEmpty_0 12 rfl rfl)
def dkwJ3_checkIndex_0 : List UInt8 := [26, 27, 1, 184, 0, 105, 172]
abbrev dktJ3_checkIndex_0 : List UInt8 := dkwJ3_checkIndex_0 ++ []
theorem dksJ3_checkIndex_0 : cJ3_checkIndex.data.toList.drop 0 = dktJ3_checkIndex_0 := by decide +kernel
theorem dJ3_checkIndex_0 : decode cJ3_checkIndex 0 = .ok (.iload_n 0, 1) := dk_26 (dk_at dksJ3_checkIndex_0 0 rfl rfl)
theorem dJ3_checkIndex_1 : decode cJ3_checkIndex 1 = .ok (.iload_n 1, 1) := dk_27 (dk_at dksJ3_checkIndex_0 1 rfl rfl)
theorem dJ3_checkIndex_2 : decode cJ3_checkIndex 2 = .ok (.aconst_null, 1) := dk_1 (dk_at dksJ3_checkIndex_0 2 rfl rfl)
theorem dJ3_checkIndex_3 : decode cJ3_checkIndex 3 = .ok (.invokestatic 105, 3) := dk_184 0 105 (dk_at dksJ3_checkIndex_0 3 rfl rfl)
theorem dJ3_checkIndex_6 : decode cJ3_checkIndex 6 = .ok (.ireturn, 1) := dk_172 (dk_at dksJ3_checkIndex_0 6 rfl rfl)
def dkwJ4_checkIndex_0 : List UInt8 := [26, 155, 0, 8, 26, 27, 161, 0, 10, 44, 26, 27, 184, 0, 95, 191, 26, 172]
abbrev dktJ4_checkIndex_0 : List UInt8 := dkwJ4_checkIndex_0 ++ []
theorem dksJ4_checkIndex_0 : cJ4_checkIndex.data.toList.drop 0 = dktJ4_checkIndex_0 := by decide +kernel
theorem dJ4_checkIndex_0 : decode cJ4_checkIndex 0 = .ok (.iload_n 0, 1) := dk_26 (dk_at dksJ4_checkIndex_0 0 rfl rfl)
theorem dJ4_checkIndex_1 : decode cJ4_checkIndex 1 = .ok (.ifCond .lt 8, 3) := dk_155 0 8 (dk_at dksJ4_checkIndex_0 1 rfl rfl)
theorem dJ4_checkIndex_4 : decode cJ4_checkIndex 4 = .ok (.iload_n 0, 1) := dk_26 (dk_at dksJ4_checkIndex_0 4 rfl rfl)
theorem dJ4_checkIndex_5 : decode cJ4_checkIndex 5 = .ok (.iload_n 1, 1) := dk_27 (dk_at dksJ4_checkIndex_0 5 rfl rfl)
theorem dJ4_checkIndex_6 : decode cJ4_checkIndex 6 = .ok (.if_icmp .lt 10, 3) := dk_161 0 10 (dk_at dksJ4_checkIndex_0 6 rfl rfl)
theorem dJ4_checkIndex_9 : decode cJ4_checkIndex 9 = .ok (.aload_n 2, 1) := dk_44 (dk_at dksJ4_checkIndex_0 9 rfl rfl)
theorem dJ4_checkIndex_10 : decode cJ4_checkIndex 10 = .ok (.iload_n 0, 1) := dk_26 (dk_at dksJ4_checkIndex_0 10 rfl rfl)
theorem dJ4_checkIndex_11 : decode cJ4_checkIndex 11 = .ok (.iload_n 1, 1) := dk_27 (dk_at dksJ4_checkIndex_0 11 rfl rfl)
theorem dJ4_checkIndex_12 : decode cJ4_checkIndex 12 = .ok (.invokestatic 95, 3) := dk_184 0 95 (dk_at dksJ4_checkIndex_0 12 rfl rfl)
theorem dJ4_checkIndex_15 : decode cJ4_checkIndex 15 = .ok (.athrow, 1) := dk_191 (dk_at dksJ4_checkIndex_0 15 rfl rfl)
theorem dJ4_checkIndex_16 : decode cJ4_checkIndex 16 = .ok (.iload_n 0, 1) := dk_26 (dk_at dksJ4_checkIndex_0 16 rfl rfl)
theorem dJ4_checkIndex_17 : decode cJ4_checkIndex 17 = .ok (.ireturn, 1) := dk_172 (dk_at dksJ4_checkIndex_0 17 rfl rfl)
def dkwJ4_checkFromToIndex_0 : List UInt8 := [26, 155, 0, 13, 26, 27, 163, 0, 8, 27, 28, 164, 0, 11, 45, 26, 27, 28, 184, 0, 99, 191, 26, 172]
abbrev dktJ4_checkFromToIndex_0 : List UInt8 := dkwJ4_checkFromToIndex_0 ++ []
theorem dksJ4_checkFromToIndex_0 : cJ4_checkFromToIndex.data.toList.drop 0 = dktJ4_checkFromToIndex_0 := by decide +kernel
theorem dJ4_checkFromToIndex_0 : decode cJ4_checkFromToIndex 0 = .ok (.iload_n 0, 1) := dk_26 (dk_at dksJ4_checkFromToIndex_0 0 rfl rfl)
theorem dJ4_checkFromToIndex_1 : decode cJ4_checkFromToIndex 1 = .ok (.ifCond .lt 13, 3) := dk_155 0 13 (dk_at dksJ4_checkFromToIndex_0 1 rfl rfl)
theorem dJ4_checkFromToIndex_4 : decode cJ4_checkFromToIndex 4 = .ok (.iload_n 0, 1) := dk_26 (dk_at dksJ4_checkFromToIndex_0 4 rfl rfl)
theorem dJ4_checkFromToIndex_5 : decode cJ4_checkFromToIndex 5 = .ok (.iload_n 1, 1) := dk_27 (dk_at dksJ4_checkFromToIndex_0 5 rfl rfl)
theorem dJ4_checkFromToIndex_6 : decode cJ4_checkFromToIndex 6 = .ok (.if_icmp .gt 8, 3) := dk_163 0 8 (dk_at dksJ4_checkFromToIndex_0 6 rfl rfl)
theorem dJ4_checkFromToIndex_9 : decode cJ4_checkFromToIndex 9 = .ok (.iload_n 1, 1) := dk_27 (dk_at dksJ4_checkFromToIndex_0 9 rfl rfl)
theorem dJ4_checkFromToIndex_10 : decode cJ4_checkFromToIndex 10 = .ok (.iload_n 2, 1) := dk_28 (dk_at dksJ4_checkFromToIndex_0 10 rfl rfl)
theorem dJ4_checkFromToIndex_11 : decode cJ4_checkFromToIndex 11 = .ok (.if_icmp .le 11, 3) := dk_164 0 11 (dk_at dksJ4_checkFromToIndex_0 11 rfl rfl)
theorem dJ4_checkFromToIndex_14 : decode cJ4_checkFromToIndex 14 = .ok (.aload_n 3, 1) := dk_45 (dk_at dksJ4_checkFromToIndex_0 14 rfl rfl)
theorem dJ4_checkFromToIndex_15 : decode cJ4_checkFromToIndex 15 = .ok (.iload_n 0, 1) := dk_26 (dk_at dksJ4_checkFromToIndex_0 15 rfl rfl)
theorem dJ4_checkFromToIndex_16 : decode cJ4_checkFromToIndex 16 = .ok (.iload_n 1, 1) := dk_27 (dk_at dksJ4_checkFromToIndex_0 16 rfl rfl)
theorem dJ4_checkFromToIndex_17 : decode cJ4_checkFromToIndex 17 = .ok (.iload_n 2, 1) := dk_28 (dk_at dksJ4_checkFromToIndex_0 17 rfl rfl)
theorem dJ4_checkFromToIndex_18 : decode cJ4_checkFromToIndex 18 = .ok (.invokestatic 99, 3) := dk_184 0 99 (dk_at dksJ4_checkFromToIndex_0 18 rfl rfl)
theorem dJ4_checkFromToIndex_21 : decode cJ4_checkFromToIndex 21 = .ok (.athrow, 1) := dk_191 (dk_at dksJ4_checkFromToIndex_0 21 rfl rfl)
theorem dJ4_checkFromToIndex_22 : decode cJ4_checkFromToIndex 22 = .ok (.iload_n 0, 1) := dk_26 (dk_at dksJ4_checkFromToIndex_0 22 rfl rfl)
theorem dJ4_checkFromToIndex_23 : decode cJ4_checkFromToIndex 23 = .ok (.ireturn, 1) := dk_172 (dk_at dksJ4_checkFromToIndex_0 23 rfl rfl)
def dkwJ6_indexOf_0 : List UInt8 := [42, 27, 3, 182, 2, 121, 172]
abbrev dktJ6_indexOf_0 : List UInt8 := dkwJ6_indexOf_0 ++ []
theorem dksJ6_indexOf_0 : cJ6_indexOf.data.toList.drop 0 = dktJ6_indexOf_0 := by decide +kernel
theorem dJ6_indexOf_0 : decode cJ6_indexOf 0 = .ok (.aload_n 0, 1) := dk_42 (dk_at dksJ6_indexOf_0 0 rfl rfl)
theorem dJ6_indexOf_1 : decode cJ6_indexOf 1 = .ok (.iload_n 1, 1) := dk_27 (dk_at dksJ6_indexOf_0 1 rfl rfl)
theorem dJ6_indexOf_2 : decode cJ6_indexOf 2 = .ok (.iconst 0, 1) := dk_3 (dk_at dksJ6_indexOf_0 2 rfl rfl)
theorem dJ6_indexOf_3 : decode cJ6_indexOf 3 = .ok (.invokevirtual 633, 3) := dk_182 2 121 (dk_at dksJ6_indexOf_0 3 rfl rfl)
theorem dJ6_indexOf_6 : decode cJ6_indexOf 6 = .ok (.ireturn, 1) := dk_172 (dk_at dksJ6_indexOf_0 6 rfl rfl)
def dkwJ6_indexOf_2_1 : List UInt8 := [180, 0, 9, 27, 28, 42, 182, 1, 249, 184, 2, 128, 172]
abbrev dktJ6_indexOf_2_1 : List UInt8 := dkwJ6_indexOf_2_1 ++ []
def dkwJ6_indexOf_2_0 : List UInt8 := [42, 182, 1, 236, 153, 0, 19, 42, 180, 0, 9, 27, 28, 42, 182, 1, 249, 184, 2, 125, 167, 0, 16, 42]
abbrev dktJ6_indexOf_2_0 : List UInt8 := dkwJ6_indexOf_2_0 ++ dktJ6_indexOf_2_1
theorem dksJ6_indexOf_2_0 : cJ6_indexOf_2.data.toList.drop 0 = dktJ6_indexOf_2_0 := by decide +kernel
theorem dksJ6_indexOf_2_1 : cJ6_indexOf_2.data.toList.drop 24 = dktJ6_indexOf_2_1 := dk_seg dksJ6_indexOf_2_0 24 rfl rfl
theorem dJ6_indexOf_2_0 : decode cJ6_indexOf_2 0 = .ok (.aload_n 0, 1) := dk_42 (dk_at dksJ6_indexOf_2_0 0 rfl rfl)
theorem dJ6_indexOf_2_1 : decode cJ6_indexOf_2 1 = .ok (.invokevirtual 492, 3) := dk_182 1 236 (dk_at dksJ6_indexOf_2_0 1 rfl rfl)
theorem dJ6_indexOf_2_4 : decode cJ6_indexOf_2 4 = .ok (.ifCond .eq 19, 3) := dk_153 0 19 (dk_at dksJ6_indexOf_2_0 4 rfl rfl)
theorem dJ6_indexOf_2_7 : decode cJ6_indexOf_2 7 = .ok (.aload_n 0, 1) := dk_42 (dk_at dksJ6_indexOf_2_0 7 rfl rfl)
theorem dJ6_indexOf_2_8 : decode cJ6_indexOf_2 8 = .ok (.getfield 9, 3) := dk_180 0 9 (dk_at dksJ6_indexOf_2_0 8 rfl rfl)
theorem dJ6_indexOf_2_11 : decode cJ6_indexOf_2 11 = .ok (.iload_n 1, 1) := dk_27 (dk_at dksJ6_indexOf_2_0 11 rfl rfl)
theorem dJ6_indexOf_2_12 : decode cJ6_indexOf_2 12 = .ok (.iload_n 2, 1) := dk_28 (dk_at dksJ6_indexOf_2_0 12 rfl rfl)
theorem dJ6_indexOf_2_13 : decode cJ6_indexOf_2 13 = .ok (.aload_n 0, 1) := dk_42 (dk_at dksJ6_indexOf_2_0 13 rfl rfl)
theorem dJ6_indexOf_2_14 : decode cJ6_indexOf_2 14 = .ok (.invokevirtual 505, 3) := dk_182 1 249 (dk_at dksJ6_indexOf_2_0 14 rfl rfl)
theorem dJ6_indexOf_2_17 : decode cJ6_indexOf_2 17 = .ok (.invokestatic 637, 3) := dk_184 2 125 (dk_at dksJ6_indexOf_2_0 17 rfl rfl)
theorem dJ6_indexOf_2_20 : decode cJ6_indexOf_2 20 = .ok (.goto 16, 3) := dk_167 0 16 (dk_at dksJ6_indexOf_2_0 20 rfl rfl)
theorem dJ6_indexOf_2_23 : decode cJ6_indexOf_2 23 = .ok (.aload_n 0, 1) := dk_42 (dk_at dksJ6_indexOf_2_0 23 rfl rfl)
theorem dJ6_indexOf_2_24 : decode cJ6_indexOf_2 24 = .ok (.getfield 9, 3) := dk_180 0 9 (dk_at dksJ6_indexOf_2_1 0 rfl rfl)
theorem dJ6_indexOf_2_27 : decode cJ6_indexOf_2 27 = .ok (.iload_n 1, 1) := dk_27 (dk_at dksJ6_indexOf_2_1 3 rfl rfl)
theorem dJ6_indexOf_2_28 : decode cJ6_indexOf_2 28 = .ok (.iload_n 2, 1) := dk_28 (dk_at dksJ6_indexOf_2_1 4 rfl rfl)
theorem dJ6_indexOf_2_29 : decode cJ6_indexOf_2 29 = .ok (.aload_n 0, 1) := dk_42 (dk_at dksJ6_indexOf_2_1 5 rfl rfl)
theorem dJ6_indexOf_2_30 : decode cJ6_indexOf_2 30 = .ok (.invokevirtual 505, 3) := dk_182 1 249 (dk_at dksJ6_indexOf_2_1 6 rfl rfl)
theorem dJ6_indexOf_2_33 : decode cJ6_indexOf_2 33 = .ok (.invokestatic 640, 3) := dk_184 2 128 (dk_at dksJ6_indexOf_2_1 9 rfl rfl)
theorem dJ6_indexOf_2_36 : decode cJ6_indexOf_2 36 = .ok (.ireturn, 1) := dk_172 (dk_at dksJ6_indexOf_2_1 12 rfl rfl)
def dkwJ6_isLatin1_0 : List UInt8 := [178, 0, 38, 153, 0, 14, 42, 180, 0, 15, 154, 0, 7, 4, 167, 0, 4, 3, 172]
abbrev dktJ6_isLatin1_0 : List UInt8 := dkwJ6_isLatin1_0 ++ []
theorem dksJ6_isLatin1_0 : cJ6_isLatin1.data.toList.drop 0 = dktJ6_isLatin1_0 := by decide +kernel
theorem dJ6_isLatin1_0 : decode cJ6_isLatin1 0 = .ok (.getstatic 38, 3) := dk_178 0 38 (dk_at dksJ6_isLatin1_0 0 rfl rfl)
theorem dJ6_isLatin1_3 : decode cJ6_isLatin1 3 = .ok (.ifCond .eq 14, 3) := dk_153 0 14 (dk_at dksJ6_isLatin1_0 3 rfl rfl)
theorem dJ6_isLatin1_6 : decode cJ6_isLatin1 6 = .ok (.aload_n 0, 1) := dk_42 (dk_at dksJ6_isLatin1_0 6 rfl rfl)
theorem dJ6_isLatin1_7 : decode cJ6_isLatin1 7 = .ok (.getfield 15, 3) := dk_180 0 15 (dk_at dksJ6_isLatin1_0 7 rfl rfl)
theorem dJ6_isLatin1_10 : decode cJ6_isLatin1 10 = .ok (.ifCond .ne 7, 3) := dk_154 0 7 (dk_at dksJ6_isLatin1_0 10 rfl rfl)
theorem dJ6_isLatin1_13 : decode cJ6_isLatin1 13 = .ok (.iconst 1, 1) := dk_4 (dk_at dksJ6_isLatin1_0 13 rfl rfl)
theorem dJ6_isLatin1_14 : decode cJ6_isLatin1 14 = .ok (.goto 4, 3) := dk_167 0 4 (dk_at dksJ6_isLatin1_0 14 rfl rfl)
theorem dJ6_isLatin1_17 : decode cJ6_isLatin1 17 = .ok (.iconst 0, 1) := dk_3 (dk_at dksJ6_isLatin1_0 17 rfl rfl)
theorem dJ6_isLatin1_18 : decode cJ6_isLatin1 18 = .ok (.ireturn, 1) := dk_172 (dk_at dksJ6_isLatin1_0 18 rfl rfl)
def dkwJ6_length_0 : List UInt8 := [42, 180, 0, 9, 190, 42, 182, 1, 79, 122, 172]
abbrev dktJ6_length_0 : List UInt8 := dkwJ6_length_0 ++ []
theorem dksJ6_length_0 : cJ6_length.data.toList.drop 0 = dktJ6_length_0 := by decide +kernel
theorem dJ6_length_0 : decode cJ6_length 0 = .ok (.aload_n 0, 1) := dk_42 (dk_at dksJ6_length_0 0 rfl rfl)
theorem dJ6_length_1 : decode cJ6_length 1 = .ok (.getfield 9, 3) := dk_180 0 9 (dk_at dksJ6_length_0 1 rfl rfl)
theorem dJ6_length_4 : decode cJ6_length 4 = .ok (.arraylength, 1) := dk_190 (dk_at dksJ6_length_0 4 rfl rfl)
theorem dJ6_length_5 : decode cJ6_length 5 = .ok (.aload_n 0, 1) := dk_42 (dk_at dksJ6_length_0 5 rfl rfl)
theorem dJ6_length_6 : decode cJ6_length 6 = .ok (.invokevirtual 335, 3) := dk_182 1 79 (dk_at dksJ6_length_0 6 rfl rfl)
theorem dJ6_length_9 : decode cJ6_length 9 = .ok (.ishr, 1) := dk_122 (dk_at dksJ6_length_0 9 rfl rfl)
theorem dJ6_length_10 : decode cJ6_length 10 = .ok (.ireturn, 1) := dk_172 (dk_at dksJ6_length_0 10 rfl rfl)
def dkwJ6_coder_0 : List UInt8 := [178, 0, 38, 153, 0, 10, 42, 180, 0, 15, 167, 0, 4, 4, 172]
abbrev dktJ6_coder_0 : List UInt8 := dkwJ6_coder_0 ++ []
theorem dksJ6_coder_0 : cJ6_coder.data.toList.drop 0 = dktJ6_coder_0 := by decide +kernel
theorem dJ6_coder_0 : decode cJ6_coder 0 = .ok (.getstatic 38, 3) := dk_178 0 38 (dk_at dksJ6_coder_0 0 rfl rfl)
theorem dJ6_coder_3 : decode cJ6_coder 3 = .ok (.ifCond .eq 10, 3) := dk_153 0 10 (dk_at dksJ6_coder_0 3 rfl rfl)
theorem dJ6_coder_6 : decode cJ6_coder 6 = .ok (.aload_n 0, 1) := dk_42 (dk_at dksJ6_coder_0 6 rfl rfl)
theorem dJ6_coder_7 : decode cJ6_coder 7 = .ok (.getfield 15, 3) := dk_180 0 15 (dk_at dksJ6_coder_0 7 rfl rfl)
theorem dJ6_coder_10 : decode cJ6_coder 10 = .ok (.goto 4, 3) := dk_167 0 4 (dk_at dksJ6_coder_0 10 rfl rfl)
theorem dJ6_coder_13 : decode cJ6_coder 13 = .ok (.iconst 1, 1) := dk_4 (dk_at dksJ6_coder_0 13 rfl rfl)
theorem dJ6_coder_14 : decode cJ6_coder 14 = .ok (.ireturn, 1) := dk_172 (dk_at dksJ6_coder_0 14 rfl rfl)
def dkwJ6_checkBoundsBeginEnd_0 : List UInt8 := [26, 27, 28, 178, 4, 29, 184, 4, 38, 87, 177]
abbrev dktJ6_checkBoundsBeginEnd_0 : List UInt8 := dkwJ6_checkBoundsBeginEnd_0 ++ []
theorem dksJ6_checkBoundsBeginEnd_0 : cJ6_checkBoundsBeginEnd.data.toList.drop 0 = dktJ6_checkBoundsBeginEnd_0 := by decide +kernel
theorem dJ6_checkBoundsBeginEnd_0 : decode cJ6_checkBoundsBeginEnd 0 = .ok (.iload_n 0, 1) := dk_26 (dk_at dksJ6_checkBoundsBeginEnd_0 0 rfl rfl)
theorem dJ6_checkBoundsBeginEnd_1 : decode cJ6_checkBoundsBeginEnd 1 = .ok (.iload_n 1, 1) := dk_27 (dk_at dksJ6_checkBoundsBeginEnd_0 1 rfl rfl)
theorem dJ6_checkBoundsBeginEnd_2 : decode cJ6_checkBoundsBeginEnd 2 = .ok (.iload_n 2, 1) := dk_28 (dk_at dksJ6_checkBoundsBeginEnd_0 2 rfl rfl)
theorem dJ6_checkBoundsBeginEnd_3 : decode cJ6_checkBoundsBeginEnd 3 = .ok (.getstatic 1053, 3) := dk_178 4 29 (dk_at dksJ6_checkBoundsBeginEnd_0 3 rfl rfl)
theorem dJ6_checkBoundsBeginEnd_6 : decode cJ6_checkBoundsBeginEnd 6 = .ok (.invokestatic 1062, 3) := dk_184 4 38 (dk_at dksJ6_checkBoundsBeginEnd_0 6 rfl rfl)
theorem dJ6_checkBoundsBeginEnd_9 : decode cJ6_checkBoundsBeginEnd 9 = .ok (.pop, 1) := dk_87 (dk_at dksJ6_checkBoundsBeginEnd_0 9 rfl rfl)
theorem dJ6_checkBoundsBeginEnd_10 : decode cJ6_checkBoundsBeginEnd 10 = .ok (.return_, 1) := dk_177 (dk_at dksJ6_checkBoundsBeginEnd_0 10 rfl rfl)
def dkwJ6_charAt_1 : List UInt8 := [172]
abbrev dktJ6_charAt_1 : List UInt8 := dkwJ6_charAt_1 ++ []
def dkwJ6_charAt_0 : List UInt8 := [42, 182, 1, 236, 153, 0, 12, 42, 180, 0, 9, 27, 184, 1, 239, 172, 42, 180, 0, 9, 27, 184, 1, 242]
abbrev dktJ6_charAt_0 : List UInt8 := dkwJ6_charAt_0 ++ dktJ6_charAt_1
theorem dksJ6_charAt_0 : cJ6_charAt.data.toList.drop 0 = dktJ6_charAt_0 := by decide +kernel
theorem dksJ6_charAt_1 : cJ6_charAt.data.toList.drop 24 = dktJ6_charAt_1 := dk_seg dksJ6_charAt_0 24 rfl rfl
theorem dJ6_charAt_0 : decode cJ6_charAt 0 = .ok (.aload_n 0, 1) := dk_42 (dk_at dksJ6_charAt_0 0 rfl rfl)
theorem dJ6_charAt_1 : decode cJ6_charAt 1 = .ok (.invokevirtual 492, 3) := dk_182 1 236 (dk_at dksJ6_charAt_0 1 rfl rfl)
theorem dJ6_charAt_4 : decode cJ6_charAt 4 = .ok (.ifCond .eq 12, 3) := dk_153 0 12 (dk_at dksJ6_charAt_0 4 rfl rfl)
theorem dJ6_charAt_7 : decode cJ6_charAt 7 = .ok (.aload_n 0, 1) := dk_42 (dk_at dksJ6_charAt_0 7 rfl rfl)
theorem dJ6_charAt_8 : decode cJ6_charAt 8 = .ok (.getfield 9, 3) := dk_180 0 9 (dk_at dksJ6_charAt_0 8 rfl rfl)
theorem dJ6_charAt_11 : decode cJ6_charAt 11 = .ok (.iload_n 1, 1) := dk_27 (dk_at dksJ6_charAt_0 11 rfl rfl)
theorem dJ6_charAt_12 : decode cJ6_charAt 12 = .ok (.invokestatic 495, 3) := dk_184 1 239 (dk_at dksJ6_charAt_0 12 rfl rfl)
theorem dJ6_charAt_15 : decode cJ6_charAt 15 = .ok (.ireturn, 1) := dk_172 (dk_at dksJ6_charAt_0 15 rfl rfl)
theorem dJ6_charAt_16 : decode cJ6_charAt 16 = .ok (.aload_n 0, 1) := dk_42 (dk_at dksJ6_charAt_0 16 rfl rfl)
theorem dJ6_charAt_17 : decode cJ6_charAt 17 = .ok (.getfield 9, 3) := dk_180 0 9 (dk_at dksJ6_charAt_0 17 rfl rfl)
theorem dJ6_charAt_20 : decode cJ6_charAt 20 = .ok (.iload_n 1, 1) := dk_27 (dk_at dksJ6_charAt_0 20 rfl rfl)
theorem dJ6_charAt_21 : decode cJ6_charAt 21 = .ok (.invokestatic 498, 3) := dk_184 1 242 (dk_at dksJ6_charAt_0 21 rfl rfl)
theorem dJ6_charAt_24 : decode cJ6_charAt 24 = .ok (.ireturn, 1) := dk_172 (dk_at dksJ6_charAt_1 0 rfl rfl)
def dkwJ6_checkIndex_0 : List UInt8 := [26, 27, 178, 4, 29, 184, 4, 35, 87, 177]
abbrev dktJ6_checkIndex_0 : List UInt8 := dkwJ6_checkIndex_0 ++ []
theorem dksJ6_checkIndex_0 : cJ6_checkIndex.data.toList.drop 0 = dktJ6_checkIndex_0 := by decide +kernel
theorem dJ6_checkIndex_0 : decode cJ6_checkIndex 0 = .ok (.iload_n 0, 1) := dk_26 (dk_at dksJ6_checkIndex_0 0 rfl rfl)
theorem dJ6_checkIndex_1 : decode cJ6_checkIndex 1 = .ok (.iload_n 1, 1) := dk_27 (dk_at dksJ6_checkIndex_0 1 rfl rfl)
theorem dJ6_checkIndex_2 : decode cJ6_checkIndex 2 = .ok (.getstatic 1053, 3) := dk_178 4 29 (dk_at dksJ6_checkIndex_0 2 rfl rfl)
theorem dJ6_checkIndex_5 : decode cJ6_checkIndex 5 = .ok (.invokestatic 1059, 3) := dk_184 4 35 (dk_at dksJ6_checkIndex_0 5 rfl rfl)
theorem dJ6_checkIndex_8 : decode cJ6_checkIndex 8 = .ok (.pop, 1) := dk_87 (dk_at dksJ6_checkIndex_0 8 rfl rfl)
theorem dJ6_checkIndex_9 : decode cJ6_checkIndex 9 = .ok (.return_, 1) := dk_177 (dk_at dksJ6_checkIndex_0 9 rfl rfl)
def dkwJ7_indexOf_1 : List UInt8 := [161, 0, 5, 2, 172, 42, 27, 28, 29, 184, 0, 95, 172]
abbrev dktJ7_indexOf_1 : List UInt8 := dkwJ7_indexOf_1 ++ []
def dkwJ7_indexOf_0 : List UInt8 := [27, 184, 0, 88, 154, 0, 5, 2, 172, 28, 3, 184, 0, 92, 61, 29, 42, 190, 184, 0, 38, 62, 28, 29]
abbrev dktJ7_indexOf_0 : List UInt8 := dkwJ7_indexOf_0 ++ dktJ7_indexOf_1
theorem dksJ7_indexOf_0 : cJ7_indexOf.data.toList.drop 0 = dktJ7_indexOf_0 := by decide +kernel
theorem dksJ7_indexOf_1 : cJ7_indexOf.data.toList.drop 24 = dktJ7_indexOf_1 := dk_seg dksJ7_indexOf_0 24 rfl rfl
theorem dJ7_indexOf_0 : decode cJ7_indexOf 0 = .ok (.iload_n 1, 1) := dk_27 (dk_at dksJ7_indexOf_0 0 rfl rfl)
theorem dJ7_indexOf_1 : decode cJ7_indexOf 1 = .ok (.invokestatic 88, 3) := dk_184 0 88 (dk_at dksJ7_indexOf_0 1 rfl rfl)
theorem dJ7_indexOf_4 : decode cJ7_indexOf 4 = .ok (.ifCond .ne 5, 3) := dk_154 0 5 (dk_at dksJ7_indexOf_0 4 rfl rfl)
theorem dJ7_indexOf_7 : decode cJ7_indexOf 7 = .ok (.iconst (-1), 1) := dk_2 (dk_at dksJ7_indexOf_0 7 rfl rfl)
theorem dJ7_indexOf_8 : decode cJ7_indexOf 8 = .ok (.ireturn, 1) := dk_172 (dk_at dksJ7_indexOf_0 8 rfl rfl)
theorem dJ7_indexOf_9 : decode cJ7_indexOf 9 = .ok (.iload_n 2, 1) := dk_28 (dk_at dksJ7_indexOf_0 9 rfl rfl)
theorem dJ7_indexOf_10 : decode cJ7_indexOf 10 = .ok (.iconst 0, 1) := dk_3 (dk_at dksJ7_indexOf_0 10 rfl rfl)
theorem dJ7_indexOf_11 : decode cJ7_indexOf 11 = .ok (.invokestatic 92, 3) := dk_184 0 92 (dk_at dksJ7_indexOf_0 11 rfl rfl)
theorem dJ7_indexOf_14 : decode cJ7_indexOf 14 = .ok (.istore_n 2, 1) := dk_61 (dk_at dksJ7_indexOf_0 14 rfl rfl)
theorem dJ7_indexOf_15 : decode cJ7_indexOf 15 = .ok (.iload_n 3, 1) := dk_29 (dk_at dksJ7_indexOf_0 15 rfl rfl)
theorem dJ7_indexOf_16 : decode cJ7_indexOf 16 = .ok (.aload_n 0, 1) := dk_42 (dk_at dksJ7_indexOf_0 16 rfl rfl)
theorem dJ7_indexOf_17 : decode cJ7_indexOf 17 = .ok (.arraylength, 1) := dk_190 (dk_at dksJ7_indexOf_0 17 rfl rfl)
theorem dJ7_indexOf_18 : decode cJ7_indexOf 18 = .ok (.invokestatic 38, 3) := dk_184 0 38 (dk_at dksJ7_indexOf_0 18 rfl rfl)
theorem dJ7_indexOf_21 : decode cJ7_indexOf 21 = .ok (.istore_n 3, 1) := dk_62 (dk_at dksJ7_indexOf_0 21 rfl rfl)
theorem dJ7_indexOf_22 : decode cJ7_indexOf 22 = .ok (.iload_n 2, 1) := dk_28 (dk_at dksJ7_indexOf_0 22 rfl rfl)
theorem dJ7_indexOf_23 : decode cJ7_indexOf 23 = .ok (.iload_n 3, 1) := dk_29 (dk_at dksJ7_indexOf_0 23 rfl rfl)
theorem dJ7_indexOf_24 : decode cJ7_indexOf 24 = .ok (.if_icmp .lt 5, 3) := dk_161 0 5 (dk_at dksJ7_indexOf_1 0 rfl rfl)
theorem dJ7_indexOf_27 : decode cJ7_indexOf 27 = .ok (.iconst (-1), 1) := dk_2 (dk_at dksJ7_indexOf_1 3 rfl rfl)
theorem dJ7_indexOf_28 : decode cJ7_indexOf 28 = .ok (.ireturn, 1) := dk_172 (dk_at dksJ7_indexOf_1 4 rfl rfl)
theorem dJ7_indexOf_29 : decode cJ7_indexOf 29 = .ok (.aload_n 0, 1) := dk_42 (dk_at dksJ7_indexOf_1 5 rfl rfl)
theorem dJ7_indexOf_30 : decode cJ7_indexOf 30 = .ok (.iload_n 1, 1) := dk_27 (dk_at dksJ7_indexOf_1 6 rfl rfl)
theorem dJ7_indexOf_31 : decode cJ7_indexOf 31 = .ok (.iload_n 2, 1) := dk_28 (dk_at dksJ7_indexOf_1 7 rfl rfl)
theorem dJ7_indexOf_32 : decode cJ7_indexOf 32 = .ok (.iload_n 3, 1) := dk_29 (dk_at dksJ7_indexOf_1 8 rfl rfl)
theorem dJ7_indexOf_33 : decode cJ7_indexOf 33 = .ok (.invokestatic 95, 3) := dk_184 0 95 (dk_at dksJ7_indexOf_1 9 rfl rfl)
theorem dJ7_indexOf_36 : decode cJ7_indexOf 36 = .ok (.ireturn, 1) := dk_172 (dk_at dksJ7_indexOf_1 12 rfl rfl)
def dkwJ7_canEncode_0 : List UInt8 := [26, 155, 0, 14, 26, 17, 0, 255, 163, 0, 7, 4, 167, 0, 4, 3, 172]
abbrev dktJ7_canEncode_0 : List UInt8 := dkwJ7_canEncode_0 ++ []
theorem dksJ7_canEncode_0 : cJ7_canEncode.data.toList.drop 0 = dktJ7_canEncode_0 := by decide +kernel
theorem dJ7_canEncode_0 : decode cJ7_canEncode 0 = .ok (.iload_n 0, 1) := dk_26 (dk_at dksJ7_canEncode_0 0 rfl rfl)
theorem dJ7_canEncode_1 : decode cJ7_canEncode 1 = .ok (.ifCond .lt 14, 3) := dk_155 0 14 (dk_at dksJ7_canEncode_0 1 rfl rfl)
theorem dJ7_canEncode_4 : decode cJ7_canEncode 4 = .ok (.iload_n 0, 1) := dk_26 (dk_at dksJ7_canEncode_0 4 rfl rfl)
theorem dJ7_canEncode_5 : decode cJ7_canEncode 5 = .ok (.sipush 255, 3) := dk_17 0 255 (dk_at dksJ7_canEncode_0 5 rfl rfl)
theorem dJ7_canEncode_8 : decode cJ7_canEncode 8 = .ok (.if_icmp .gt 7, 3) := dk_163 0 7 (dk_at dksJ7_canEncode_0 8 rfl rfl)
theorem dJ7_canEncode_11 : decode cJ7_canEncode 11 = .ok (.iconst 1, 1) := dk_4 (dk_at dksJ7_canEncode_0 11 rfl rfl)
theorem dJ7_canEncode_12 : decode cJ7_canEncode 12 = .ok (.goto 4, 3) := dk_167 0 4 (dk_at dksJ7_canEncode_0 12 rfl rfl)
theorem dJ7_canEncode_15 : decode cJ7_canEncode 15 = .ok (.iconst 0, 1) := dk_3 (dk_at dksJ7_canEncode_0 15 rfl rfl)
theorem dJ7_canEncode_16 : decode cJ7_canEncode 16 = .ok (.ireturn, 1) := dk_172 (dk_at dksJ7_canEncode_0 16 rfl rfl)
def dkwJ7_indexOfChar_1 : List UInt8 := [172, 132, 5, 1, 167, 255, 235, 2, 172]
abbrev dktJ7_indexOfChar_1 : List UInt8 := dkwJ7_indexOfChar_1 ++ []
def dkwJ7_indexOfChar_0 : List UInt8 := [27, 145, 54, 4, 28, 54, 5, 21, 5, 29, 162, 0, 21, 42, 21, 5, 51, 21, 4, 160, 0, 6, 21, 5]
abbrev dktJ7_indexOfChar_0 : List UInt8 := dkwJ7_indexOfChar_0 ++ dktJ7_indexOfChar_1
theorem dksJ7_indexOfChar_0 : cJ7_indexOfChar.data.toList.drop 0 = dktJ7_indexOfChar_0 := by decide +kernel
theorem dksJ7_indexOfChar_1 : cJ7_indexOfChar.data.toList.drop 24 = dktJ7_indexOfChar_1 := dk_seg dksJ7_indexOfChar_0 24 rfl rfl
theorem dJ7_indexOfChar_0 : decode cJ7_indexOfChar 0 = .ok (.iload_n 1, 1) := dk_27 (dk_at dksJ7_indexOfChar_0 0 rfl rfl)
theorem dJ7_indexOfChar_1 : decode cJ7_indexOfChar 1 = .ok (.i2b, 1) := dk_145 (dk_at dksJ7_indexOfChar_0 1 rfl rfl)
theorem dJ7_indexOfChar_2 : decode cJ7_indexOfChar 2 = .ok (.istore 4, 2) := dk_54 4 (dk_at dksJ7_indexOfChar_0 2 rfl rfl)
theorem dJ7_indexOfChar_4 : decode cJ7_indexOfChar 4 = .ok (.iload_n 2, 1) := dk_28 (dk_at dksJ7_indexOfChar_0 4 rfl rfl)
theorem dJ7_indexOfChar_5 : decode cJ7_indexOfChar 5 = .ok (.istore 5, 2) := dk_54 5 (dk_at dksJ7_indexOfChar_0 5 rfl rfl)
theorem dJ7_indexOfChar_7 : decode cJ7_indexOfChar 7 = .ok (.iload 5, 2) := dk_21 5 (dk_at dksJ7_indexOfChar_0 7 rfl rfl)
theorem dJ7_indexOfChar_9 : decode cJ7_indexOfChar 9 = .ok (.iload_n 3, 1) := dk_29 (dk_at dksJ7_indexOfChar_0 9 rfl rfl)
theorem dJ7_indexOfChar_10 : decode cJ7_indexOfChar 10 = .ok (.if_icmp .ge 21, 3) := dk_162 0 21 (dk_at dksJ7_indexOfChar_0 10 rfl rfl)
theorem dJ7_indexOfChar_13 : decode cJ7_indexOfChar 13 = .ok (.aload_n 0, 1) := dk_42 (dk_at dksJ7_indexOfChar_0 13 rfl rfl)
theorem dJ7_indexOfChar_14 : decode cJ7_indexOfChar 14 = .ok (.iload 5, 2) := dk_21 5 (dk_at dksJ7_indexOfChar_0 14 rfl rfl)
theorem dJ7_indexOfChar_16 : decode cJ7_indexOfChar 16 = .ok (.baload, 1) := dk_51 (dk_at dksJ7_indexOfChar_0 16 rfl rfl)
theorem dJ7_indexOfChar_17 : decode cJ7_indexOfChar 17 = .ok (.iload 4, 2) := dk_21 4 (dk_at dksJ7_indexOfChar_0 17 rfl rfl)
theorem dJ7_indexOfChar_19 : decode cJ7_indexOfChar 19 = .ok (.if_icmp .ne 6, 3) := dk_160 0 6 (dk_at dksJ7_indexOfChar_0 19 rfl rfl)
theorem dJ7_indexOfChar_22 : decode cJ7_indexOfChar 22 = .ok (.iload 5, 2) := dk_21 5 (dk_at dksJ7_indexOfChar_0 22 rfl rfl)
theorem dJ7_indexOfChar_24 : decode cJ7_indexOfChar 24 = .ok (.ireturn, 1) := dk_172 (dk_at dksJ7_indexOfChar_1 0 rfl rfl)
theorem dJ7_indexOfChar_25 : decode cJ7_indexOfChar 25 = .ok (.iinc 5 1, 3) := dk_132 5 1 (dk_at dksJ7_indexOfChar_1 1 rfl rfl)
theorem dJ7_indexOfChar_28 : decode cJ7_indexOfChar 28 = .ok (.goto (-21), 3) := dk_167 255 235 (dk_at dksJ7_indexOfChar_1 4 rfl rfl)
theorem dJ7_indexOfChar_31 : decode cJ7_indexOfChar 31 = .ok (.iconst (-1), 1) := dk_2 (dk_at dksJ7_indexOfChar_1 7 rfl rfl)
theorem dJ7_indexOfChar_32 : decode cJ7_indexOfChar 32 = .ok (.ireturn, 1) := dk_172 (dk_at dksJ7_indexOfChar_1 8 rfl rfl)
def dkwJ7_charAt_0 : List UInt8 := [27, 42, 190, 184, 0, 9, 42, 27, 51, 17, 0, 255, 126, 146, 172]
abbrev dktJ7_charAt_0 : List UInt8 := dkwJ7_charAt_0 ++ []
theorem dksJ7_charAt_0 : cJ7_charAt.data.toList.drop 0 = dktJ7_charAt_0 := by decide +kernel
theorem dJ7_charAt_0 : decode cJ7_charAt 0 = .ok (.iload_n 1, 1) := dk_27 (dk_at dksJ7_charAt_0 0 rfl rfl)
theorem dJ7_charAt_1 : decode cJ7_charAt 1 = .ok (.aload_n 0, 1) := dk_42 (dk_at dksJ7_charAt_0 1 rfl rfl)
theorem dJ7_charAt_2 : decode cJ7_charAt 2 = .ok (.arraylength, 1) := dk_190 (dk_at dksJ7_charAt_0 2 rfl rfl)
theorem dJ7_charAt_3 : decode cJ7_charAt 3 = .ok (.invokestatic 9, 3) := dk_184 0 9 (dk_at dksJ7_charAt_0 3 rfl rfl)
theorem dJ7_charAt_6 : decode cJ7_charAt 6 = .ok (.aload_n 0, 1) := dk_42 (dk_at dksJ7_charAt_0 6 rfl rfl)
theorem dJ7_charAt_7 : decode cJ7_charAt 7 = .ok (.iload_n 1, 1) := dk_27 (dk_at dksJ7_charAt_0 7 rfl rfl)
theorem dJ7_charAt_8 : decode cJ7_charAt 8 = .ok (.baload, 1) := dk_51 (dk_at dksJ7_charAt_0 8 rfl rfl)
theorem dJ7_charAt_9 : decode cJ7_charAt 9 = .ok (.sipush 255, 3) := dk_17 0 255 (dk_at dksJ7_charAt_0 9 rfl rfl)
theorem dJ7_charAt_12 : decode cJ7_charAt 12 = .ok (.iand, 1) := dk_126 (dk_at dksJ7_charAt_0 12 rfl rfl)
theorem dJ7_charAt_13 : decode cJ7_charAt 13 = .ok (.i2c, 1) := dk_146 (dk_at dksJ7_charAt_0 13 rfl rfl)
theorem dJ7_charAt_14 : decode cJ7_charAt 14 = .ok (.ireturn, 1) := dk_172 (dk_at dksJ7_charAt_0 14 rfl rfl)
theorem dJ11_init_0 : decode cJ11_init 0 = .ok (.aload_n 0, 1) := by decide +kernel
theorem dJ11_init_1 : decode cJ11_init 1 = .ok (.invokespecial 1, 3) := by decide +kernel
theorem dJ11_init_4 : decode cJ11_init 4 = .ok (.return_, 1) := by decide +kernel
theorem dJ12_init_0 : decode cJ12_init 0 = .ok (.aload_n 0, 1) := by decide +kernel
theorem dJ12_init_1 : decode cJ12_init 1 = .ok (.invokespecial 1, 3) := by decide +kernel
theorem dJ12_init_4 : decode cJ12_init 4 = .ok (.return_, 1) := by decide +kernel
theorem dJ13_longValue_0 : decode cJ13_longValue 0 = .ok (.aload_n 0, 1) := by decide +kernel
theorem dJ13_longValue_1 : decode cJ13_longValue 1 = .ok (.getfield 273, 3) := by decide +kernel
theorem dJ13_longValue_4 : decode cJ13_longValue 4 = .ok (.lreturn, 1) := by decide +kernel
def dkwJ13_valueOf_1 : List UInt8 := [136, 17, 0, 128, 96, 50, 176, 187, 0, 1, 89, 30, 183, 0, 240, 176]
abbrev dktJ13_valueOf_1 : List UInt8 := dkwJ13_valueOf_1 ++ []
def dkwJ13_valueOf_0 : List UInt8 := [17, 0, 128, 61, 30, 20, 0, 230, 148, 155, 0, 22, 30, 20, 0, 232, 148, 157, 0, 14, 178, 0, 234, 30]
abbrev dktJ13_valueOf_0 : List UInt8 := dkwJ13_valueOf_0 ++ dktJ13_valueOf_1
theorem dksJ13_valueOf_0 : cJ13_valueOf.data.toList.drop 0 = dktJ13_valueOf_0 := by decide +kernel
theorem dksJ13_valueOf_1 : cJ13_valueOf.data.toList.drop 24 = dktJ13_valueOf_1 := dk_seg dksJ13_valueOf_0 24 rfl rfl
theorem dJ13_valueOf_0 : decode cJ13_valueOf 0 = .ok (.sipush 128, 3) := dk_17 0 128 (dk_at dksJ13_valueOf_0 0 rfl rfl)
theorem dJ13_valueOf_3 : decode cJ13_valueOf 3 = .ok (.istore_n 2, 1) := dk_61 (dk_at dksJ13_valueOf_0 3 rfl rfl)
theorem dJ13_valueOf_4 : decode cJ13_valueOf 4 = .ok (.lload_n 0, 1) := dk_30 (dk_at dksJ13_valueOf_0 4 rfl rfl)
theorem dJ13_valueOf_5 : decode cJ13_valueOf 5 = .ok (.ldc2_w 230, 3) := dk_20 0 230 (dk_at dksJ13_valueOf_0 5 rfl rfl)
theorem dJ13_valueOf_8 : decode cJ13_valueOf 8 = .ok (.lcmp, 1) := dk_148 (dk_at dksJ13_valueOf_0 8 rfl rfl)
theorem dJ13_valueOf_9 : decode cJ13_valueOf 9 = .ok (.ifCond .lt 22, 3) := dk_155 0 22 (dk_at dksJ13_valueOf_0 9 rfl rfl)
theorem dJ13_valueOf_12 : decode cJ13_valueOf 12 = .ok (.lload_n 0, 1) := dk_30 (dk_at dksJ13_valueOf_0 12 rfl rfl)
theorem dJ13_valueOf_13 : decode cJ13_valueOf 13 = .ok (.ldc2_w 232, 3) := dk_20 0 232 (dk_at dksJ13_valueOf_0 13 rfl rfl)
theorem dJ13_valueOf_16 : decode cJ13_valueOf 16 = .ok (.lcmp, 1) := dk_148 (dk_at dksJ13_valueOf_0 16 rfl rfl)
theorem dJ13_valueOf_17 : decode cJ13_valueOf 17 = .ok (.ifCond .gt 14, 3) := dk_157 0 14 (dk_at dksJ13_valueOf_0 17 rfl rfl)
theorem dJ13_valueOf_20 : decode cJ13_valueOf 20 = .ok (.getstatic 234, 3) := dk_178 0 234 (dk_at dksJ13_valueOf_0 20 rfl rfl)
theorem dJ13_valueOf_23 : decode cJ13_valueOf 23 = .ok (.lload_n 0, 1) := dk_30 (dk_at dksJ13_valueOf_0 23 rfl rfl)
theorem dJ13_valueOf_24 : decode cJ13_valueOf 24 = .ok (.l2i, 1) := dk_136 (dk_at dksJ13_valueOf_1 0 rfl rfl)
theorem dJ13_valueOf_25 : decode cJ13_valueOf 25 = .ok (.sipush 128, 3) := dk_17 0 128 (dk_at dksJ13_valueOf_1 1 rfl rfl)
theorem dJ13_valueOf_28 : decode cJ13_valueOf 28 = .ok (.iadd, 1) := dk_96 (dk_at dksJ13_valueOf_1 4 rfl rfl)
theorem dJ13_valueOf_29 : decode cJ13_valueOf 29 = .ok (.aaload, 1) := dk_50 (dk_at dksJ13_valueOf_1 5 rfl rfl)
theorem dJ13_valueOf_30 : decode cJ13_valueOf 30 = .ok (.areturn, 1) := dk_176 (dk_at dksJ13_valueOf_1 6 rfl rfl)
theorem dJ13_valueOf_31 : decode cJ13_valueOf 31 = .ok (.new 1, 3) := dk_187 0 1 (dk_at dksJ13_valueOf_1 7 rfl rfl)
theorem dJ13_valueOf_34 : decode cJ13_valueOf 34 = .ok (.dup, 1) := dk_89 (dk_at dksJ13_valueOf_1 10 rfl rfl)
theorem dJ13_valueOf_35 : decode cJ13_valueOf 35 = .ok (.lload_n 0, 1) := dk_30 (dk_at dksJ13_valueOf_1 11 rfl rfl)
theorem dJ13_valueOf_36 : decode cJ13_valueOf 36 = .ok (.invokespecial 240, 3) := dk_183 0 240 (dk_at dksJ13_valueOf_1 12 rfl rfl)
theorem dJ13_valueOf_39 : decode cJ13_valueOf 39 = .ok (.areturn, 1) := dk_176 (dk_at dksJ13_valueOf_1 15 rfl rfl)
def dkwJ13_init_0 : List UInt8 := [42, 183, 1, 14, 42, 31, 181, 1, 17, 177]
abbrev dktJ13_init_0 : List UInt8 := dkwJ13_init_0 ++ []
theorem dksJ13_init_0 : cJ13_init.data.toList.drop 0 = dktJ13_init_0 := by decide +kernel
theorem dJ13_init_0 : decode cJ13_init 0 = .ok (.aload_n 0, 1) := dk_42 (dk_at dksJ13_init_0 0 rfl rfl)
theorem dJ13_init_1 : decode cJ13_init 1 = .ok (.invokespecial 270, 3) := dk_183 1 14 (dk_at dksJ13_init_0 1 rfl rfl)
theorem dJ13_init_4 : decode cJ13_init 4 = .ok (.aload_n 0, 1) := dk_42 (dk_at dksJ13_init_0 4 rfl rfl)
theorem dJ13_init_5 : decode cJ13_init 5 = .ok (.lload_n 1, 1) := dk_31 (dk_at dksJ13_init_0 5 rfl rfl)
theorem dJ13_init_6 : decode cJ13_init 6 = .ok (.putfield 273, 3) := dk_181 1 17 (dk_at dksJ13_init_0 6 rfl rfl)
theorem dJ13_init_9 : decode cJ13_init 9 = .ok (.return_, 1) := dk_177 (dk_at dksJ13_init_0 9 rfl rfl)
def dkwJ14_newLength_1 : List UInt8 := [184, 0, 201, 172]
abbrev dktJ14_newLength_1 : List UInt8 := dkwJ14_newLength_1 ++ []
def dkwJ14_newLength_0 : List UInt8 := [26, 27, 28, 184, 0, 194, 96, 62, 3, 29, 162, 0, 11, 29, 18, 200, 163, 0, 5, 29, 172, 26, 27]
abbrev dktJ14_newLength_0 : List UInt8 := dkwJ14_newLength_0 ++ dktJ14_newLength_1
theorem dksJ14_newLength_0 : cJ14_newLength.data.toList.drop 0 = dktJ14_newLength_0 := by decide +kernel
theorem dksJ14_newLength_1 : cJ14_newLength.data.toList.drop 23 = dktJ14_newLength_1 := dk_seg dksJ14_newLength_0 23 rfl rfl
theorem dJ14_newLength_0 : decode cJ14_newLength 0 = .ok (.iload_n 0, 1) := dk_26 (dk_at dksJ14_newLength_0 0 rfl rfl)
theorem dJ14_newLength_1 : decode cJ14_newLength 1 = .ok (.iload_n 1, 1) := dk_27 (dk_at dksJ14_newLength_0 1 rfl rfl)
theorem dJ14_newLength_2 : decode cJ14_newLength 2 = .ok (.iload_n 2, 1) := dk_28 (dk_at dksJ14_newLength_0 2 rfl rfl)
theorem dJ14_newLength_3 : decode cJ14_newLength 3 = .ok (.invokestatic 194, 3) := dk_184 0 194 (dk_at dksJ14_newLength_0 3 rfl rfl)
theorem dJ14_newLength_6 : decode cJ14_newLength 6 = .ok (.iadd, 1) := dk_96 (dk_at dksJ14_newLength_0 6 rfl rfl)
theorem dJ14_newLength_7 : decode cJ14_newLength 7 = .ok (.istore_n 3, 1) := dk_62 (dk_at dksJ14_newLength_0 7 rfl rfl)
theorem dJ14_newLength_8 : decode cJ14_newLength 8 = .ok (.iconst 0, 1) := dk_3 (dk_at dksJ14_newLength_0 8 rfl rfl)
theorem dJ14_newLength_9 : decode cJ14_newLength 9 = .ok (.iload_n 3, 1) := dk_29 (dk_at dksJ14_newLength_0 9 rfl rfl)
theorem dJ14_newLength_10 : decode cJ14_newLength 10 = .ok (.if_icmp .ge 11, 3) := dk_162 0 11 (dk_at dksJ14_newLength_0 10 rfl rfl)
theorem dJ14_newLength_13 : decode cJ14_newLength 13 = .ok (.iload_n 3, 1) := dk_29 (dk_at dksJ14_newLength_0 13 rfl rfl)
theorem dJ14_newLength_14 : decode cJ14_newLength 14 = .ok (.ldc 200, 2) := dk_18 200 (dk_at dksJ14_newLength_0 14 rfl rfl)
theorem dJ14_newLength_16 : decode cJ14_newLength 16 = .ok (.if_icmp .gt 5, 3) := dk_163 0 5 (dk_at dksJ14_newLength_0 16 rfl rfl)
theorem dJ14_newLength_19 : decode cJ14_newLength 19 = .ok (.iload_n 3, 1) := dk_29 (dk_at dksJ14_newLength_0 19 rfl rfl)
theorem dJ14_newLength_20 : decode cJ14_newLength 20 = .ok (.ireturn, 1) := dk_172 (dk_at dksJ14_newLength_0 20 rfl rfl)
theorem dJ14_newLength_21 : decode cJ14_newLength 21 = .ok (.iload_n 0, 1) := dk_26 (dk_at dksJ14_newLength_0 21 rfl rfl)
theorem dJ14_newLength_22 : decode cJ14_newLength 22 = .ok (.iload_n 1, 1) := dk_27 (dk_at dksJ14_newLength_0 22 rfl rfl)
theorem dJ14_newLength_23 : decode cJ14_newLength 23 = .ok (.invokestatic 201, 3) := dk_184 0 201 (dk_at dksJ14_newLength_1 0 rfl rfl)
theorem dJ14_newLength_26 : decode cJ14_newLength 26 = .ok (.ireturn, 1) := dk_172 (dk_at dksJ14_newLength_1 3 rfl rfl)
def dkwJ14_hugeLength_2 : List UInt8 := [191, 28, 18, 200, 163, 0, 6, 18, 200, 172, 28, 172]
abbrev dktJ14_hugeLength_2 : List UInt8 := dkwJ14_hugeLength_2 ++ []
def dkwJ14_hugeLength_1 : List UInt8 := [26, 182, 0, 98, 18, 208, 182, 0, 94, 27, 182, 0, 98, 18, 210, 182, 0, 94, 182, 0, 101, 183, 0, 212]
abbrev dktJ14_hugeLength_1 : List UInt8 := dkwJ14_hugeLength_1 ++ dktJ14_hugeLength_2
def dkwJ14_hugeLength_0 : List UInt8 := [26, 27, 96, 61, 28, 156, 0, 44, 187, 0, 204, 89, 187, 0, 89, 89, 183, 0, 91, 18, 206, 182, 0, 94]
abbrev dktJ14_hugeLength_0 : List UInt8 := dkwJ14_hugeLength_0 ++ dktJ14_hugeLength_1
theorem dksJ14_hugeLength_0 : cJ14_hugeLength.data.toList.drop 0 = dktJ14_hugeLength_0 := by decide +kernel
theorem dksJ14_hugeLength_1 : cJ14_hugeLength.data.toList.drop 24 = dktJ14_hugeLength_1 := dk_seg dksJ14_hugeLength_0 24 rfl rfl
theorem dksJ14_hugeLength_2 : cJ14_hugeLength.data.toList.drop 48 = dktJ14_hugeLength_2 := dk_seg dksJ14_hugeLength_1 24 rfl rfl
theorem dJ14_hugeLength_0 : decode cJ14_hugeLength 0 = .ok (.iload_n 0, 1) := dk_26 (dk_at dksJ14_hugeLength_0 0 rfl rfl)
theorem dJ14_hugeLength_1 : decode cJ14_hugeLength 1 = .ok (.iload_n 1, 1) := dk_27 (dk_at dksJ14_hugeLength_0 1 rfl rfl)
theorem dJ14_hugeLength_2 : decode cJ14_hugeLength 2 = .ok (.iadd, 1) := dk_96 (dk_at dksJ14_hugeLength_0 2 rfl rfl)
theorem dJ14_hugeLength_3 : decode cJ14_hugeLength 3 = .ok (.istore_n 2, 1) := dk_61 (dk_at dksJ14_hugeLength_0 3 rfl rfl)
theorem dJ14_hugeLength_4 : decode cJ14_hugeLength 4 = .ok (.iload_n 2, 1) := dk_28 (dk_at dksJ14_hugeLength_0 4 rfl rfl)
theorem dJ14_hugeLength_5 : decode cJ14_hugeLength 5 = .ok (.ifCond .ge 44, 3) := dk_156 0 44 (dk_at dksJ14_hugeLength_0 5 rfl rfl)
theorem dJ14_hugeLength_8 : decode cJ14_hugeLength 8 = .ok (.new 204, 3) := dk_187 0 204 (dk_at dksJ14_hugeLength_0 8 rfl rfl)
theorem dJ14_hugeLength_11 : decode cJ14_hugeLength 11 = .ok (.dup, 1) := dk_89 (dk_at dksJ14_hugeLength_0 11 rfl rfl)
theorem dJ14_hugeLength_12 : decode cJ14_hugeLength 12 = .ok (.new 89, 3) := dk_187 0 89 (dk_at dksJ14_hugeLength_0 12 rfl rfl)
theorem dJ14_hugeLength_15 : decode cJ14_hugeLength 15 = .ok (.dup, 1) := dk_89 (dk_at dksJ14_hugeLength_0 15 rfl rfl)
theorem dJ14_hugeLength_16 : decode cJ14_hugeLength 16 = .ok (.invokespecial 91, 3) := dk_183 0 91 (dk_at dksJ14_hugeLength_0 16 rfl rfl)
theorem dJ14_hugeLength_19 : decode cJ14_hugeLength 19 = .ok (.ldc 206, 2) := dk_18 206 (dk_at dksJ14_hugeLength_0 19 rfl rfl)
theorem dJ14_hugeLength_21 : decode cJ14_hugeLength 21 = .ok (.invokevirtual 94, 3) := dk_182 0 94 (dk_at dksJ14_hugeLength_0 21 rfl rfl)
theorem dJ14_hugeLength_24 : decode cJ14_hugeLength 24 = .ok (.iload_n 0, 1) := dk_26 (dk_at dksJ14_hugeLength_1 0 rfl rfl)
theorem dJ14_hugeLength_25 : decode cJ14_hugeLength 25 = .ok (.invokevirtual 98, 3) := dk_182 0 98 (dk_at dksJ14_hugeLength_1 1 rfl rfl)
theorem dJ14_hugeLength_28 : decode cJ14_hugeLength 28 = .ok (.ldc 208, 2) := dk_18 208 (dk_at dksJ14_hugeLength_1 4 rfl rfl)
theorem dJ14_hugeLength_30 : decode cJ14_hugeLength 30 = .ok (.invokevirtual 94, 3) := dk_182 0 94 (dk_at dksJ14_hugeLength_1 6 rfl rfl)
theorem dJ14_hugeLength_33 : decode cJ14_hugeLength 33 = .ok (.iload_n 1, 1) := dk_27 (dk_at dksJ14_hugeLength_1 9 rfl rfl)
theorem dJ14_hugeLength_34 : decode cJ14_hugeLength 34 = .ok (.invokevirtual 98, 3) := dk_182 0 98 (dk_at dksJ14_hugeLength_1 10 rfl rfl)
theorem dJ14_hugeLength_37 : decode cJ14_hugeLength 37 = .ok (.ldc 210, 2) := dk_18 210 (dk_at dksJ14_hugeLength_1 13 rfl rfl)
theorem dJ14_hugeLength_39 : decode cJ14_hugeLength 39 = .ok (.invokevirtual 94, 3) := dk_182 0 94 (dk_at dksJ14_hugeLength_1 15 rfl rfl)
theorem dJ14_hugeLength_42 : decode cJ14_hugeLength 42 = .ok (.invokevirtual 101, 3) := dk_182 0 101 (dk_at dksJ14_hugeLength_1 18 rfl rfl)
theorem dJ14_hugeLength_45 : decode cJ14_hugeLength 45 = .ok (.invokespecial 212, 3) := dk_183 0 212 (dk_at dksJ14_hugeLength_1 21 rfl rfl)
theorem dJ14_hugeLength_48 : decode cJ14_hugeLength 48 = .ok (.athrow, 1) := dk_191 (dk_at dksJ14_hugeLength_2 0 rfl rfl)
theorem dJ14_hugeLength_49 : decode cJ14_hugeLength 49 = .ok (.iload_n 2, 1) := dk_28 (dk_at dksJ14_hugeLength_2 1 rfl rfl)
theorem dJ14_hugeLength_50 : decode cJ14_hugeLength 50 = .ok (.ldc 200, 2) := dk_18 200 (dk_at dksJ14_hugeLength_2 2 rfl rfl)
theorem dJ14_hugeLength_52 : decode cJ14_hugeLength 52 = .ok (.if_icmp .gt 6, 3) := dk_163 0 6 (dk_at dksJ14_hugeLength_2 4 rfl rfl)
theorem dJ14_hugeLength_55 : decode cJ14_hugeLength 55 = .ok (.ldc 200, 2) := dk_18 200 (dk_at dksJ14_hugeLength_2 7 rfl rfl)
theorem dJ14_hugeLength_57 : decode cJ14_hugeLength 57 = .ok (.ireturn, 1) := dk_172 (dk_at dksJ14_hugeLength_2 9 rfl rfl)
theorem dJ14_hugeLength_58 : decode cJ14_hugeLength 58 = .ok (.iload_n 2, 1) := dk_28 (dk_at dksJ14_hugeLength_2 10 rfl rfl)
theorem dJ14_hugeLength_59 : decode cJ14_hugeLength 59 = .ok (.ireturn, 1) := dk_172 (dk_at dksJ14_hugeLength_2 11 rfl rfl)
def dkwJ15_copyOf_0 : List UInt8 := [42, 27, 42, 182, 0, 86, 184, 1, 44, 176]
abbrev dktJ15_copyOf_0 : List UInt8 := dkwJ15_copyOf_0 ++ []
theorem dksJ15_copyOf_0 : cJ15_copyOf.data.toList.drop 0 = dktJ15_copyOf_0 := by decide +kernel
theorem dJ15_copyOf_0 : decode cJ15_copyOf 0 = .ok (.aload_n 0, 1) := dk_42 (dk_at dksJ15_copyOf_0 0 rfl rfl)
theorem dJ15_copyOf_1 : decode cJ15_copyOf 1 = .ok (.iload_n 1, 1) := dk_27 (dk_at dksJ15_copyOf_0 1 rfl rfl)
theorem dJ15_copyOf_2 : decode cJ15_copyOf 2 = .ok (.aload_n 0, 1) := dk_42 (dk_at dksJ15_copyOf_0 2 rfl rfl)
theorem dJ15_copyOf_3 : decode cJ15_copyOf 3 = .ok (.invokevirtual 86, 3) := dk_182 0 86 (dk_at dksJ15_copyOf_0 3 rfl rfl)
theorem dJ15_copyOf_6 : decode cJ15_copyOf 6 = .ok (.invokestatic 300, 3) := dk_184 1 44 (dk_at dksJ15_copyOf_0 6 rfl rfl)
theorem dJ15_copyOf_9 : decode cJ15_copyOf 9 = .ok (.areturn, 1) := dk_176 (dk_at dksJ15_copyOf_0 9 rfl rfl)
def dkwJ15_copyOf_2_1 : List UInt8 := [78, 42, 3, 45, 3, 42, 190, 27, 184, 1, 48, 184, 0, 150, 45, 176]
abbrev dktJ15_copyOf_2_1 : List UInt8 := dkwJ15_copyOf_2_1 ++ []
def dkwJ15_copyOf_2_0 : List UInt8 := [44, 18, 110, 166, 0, 10, 27, 189, 0, 2, 167, 0, 14, 44, 182, 0, 90, 27, 184, 0, 95, 192, 0, 110]
abbrev dktJ15_copyOf_2_0 : List UInt8 := dkwJ15_copyOf_2_0 ++ dktJ15_copyOf_2_1
theorem dksJ15_copyOf_2_0 : cJ15_copyOf_2.data.toList.drop 0 = dktJ15_copyOf_2_0 := by decide +kernel
theorem dksJ15_copyOf_2_1 : cJ15_copyOf_2.data.toList.drop 24 = dktJ15_copyOf_2_1 := dk_seg dksJ15_copyOf_2_0 24 rfl rfl
theorem dJ15_copyOf_2_0 : decode cJ15_copyOf_2 0 = .ok (.aload_n 2, 1) := dk_44 (dk_at dksJ15_copyOf_2_0 0 rfl rfl)
theorem dJ15_copyOf_2_1 : decode cJ15_copyOf_2 1 = .ok (.ldc 110, 2) := dk_18 110 (dk_at dksJ15_copyOf_2_0 1 rfl rfl)
theorem dJ15_copyOf_2_3 : decode cJ15_copyOf_2 3 = .ok (.if_acmp .ne 10, 3) := dk_166 0 10 (dk_at dksJ15_copyOf_2_0 3 rfl rfl)
theorem dJ15_copyOf_2_6 : decode cJ15_copyOf_2 6 = .ok (.iload_n 1, 1) := dk_27 (dk_at dksJ15_copyOf_2_0 6 rfl rfl)
theorem dJ15_copyOf_2_7 : decode cJ15_copyOf_2 7 = .ok (.anewarray 2, 3) := dk_189 0 2 (dk_at dksJ15_copyOf_2_0 7 rfl rfl)
theorem dJ15_copyOf_2_10 : decode cJ15_copyOf_2 10 = .ok (.goto 14, 3) := dk_167 0 14 (dk_at dksJ15_copyOf_2_0 10 rfl rfl)
theorem dJ15_copyOf_2_13 : decode cJ15_copyOf_2 13 = .ok (.aload_n 2, 1) := dk_44 (dk_at dksJ15_copyOf_2_0 13 rfl rfl)
theorem dJ15_copyOf_2_14 : decode cJ15_copyOf_2 14 = .ok (.invokevirtual 90, 3) := dk_182 0 90 (dk_at dksJ15_copyOf_2_0 14 rfl rfl)
theorem dJ15_copyOf_2_17 : decode cJ15_copyOf_2 17 = .ok (.iload_n 1, 1) := dk_27 (dk_at dksJ15_copyOf_2_0 17 rfl rfl)
theorem dJ15_copyOf_2_18 : decode cJ15_copyOf_2 18 = .ok (.invokestatic 95, 3) := dk_184 0 95 (dk_at dksJ15_copyOf_2_0 18 rfl rfl)
theorem dJ15_copyOf_2_21 : decode cJ15_copyOf_2 21 = .ok (.checkcast 110, 3) := dk_192 0 110 (dk_at dksJ15_copyOf_2_0 21 rfl rfl)
theorem dJ15_copyOf_2_24 : decode cJ15_copyOf_2 24 = .ok (.astore_n 3, 1) := dk_78 (dk_at dksJ15_copyOf_2_1 0 rfl rfl)
theorem dJ15_copyOf_2_25 : decode cJ15_copyOf_2 25 = .ok (.aload_n 0, 1) := dk_42 (dk_at dksJ15_copyOf_2_1 1 rfl rfl)
theorem dJ15_copyOf_2_26 : decode cJ15_copyOf_2 26 = .ok (.iconst 0, 1) := dk_3 (dk_at dksJ15_copyOf_2_1 2 rfl rfl)
theorem dJ15_copyOf_2_27 : decode cJ15_copyOf_2 27 = .ok (.aload_n 3, 1) := dk_45 (dk_at dksJ15_copyOf_2_1 3 rfl rfl)
theorem dJ15_copyOf_2_28 : decode cJ15_copyOf_2 28 = .ok (.iconst 0, 1) := dk_3 (dk_at dksJ15_copyOf_2_1 4 rfl rfl)
theorem dJ15_copyOf_2_29 : decode cJ15_copyOf_2 29 = .ok (.aload_n 0, 1) := dk_42 (dk_at dksJ15_copyOf_2_1 5 rfl rfl)
theorem dJ15_copyOf_2_30 : decode cJ15_copyOf_2 30 = .ok (.arraylength, 1) := dk_190 (dk_at dksJ15_copyOf_2_1 6 rfl rfl)
theorem dJ15_copyOf_2_31 : decode cJ15_copyOf_2 31 = .ok (.iload_n 1, 1) := dk_27 (dk_at dksJ15_copyOf_2_1 7 rfl rfl)
theorem dJ15_copyOf_2_32 : decode cJ15_copyOf_2 32 = .ok (.invokestatic 304, 3) := dk_184 1 48 (dk_at dksJ15_copyOf_2_1 8 rfl rfl)
theorem dJ15_copyOf_2_35 : decode cJ15_copyOf_2 35 = .ok (.invokestatic 150, 3) := dk_184 0 150 (dk_at dksJ15_copyOf_2_1 11 rfl rfl)
theorem dJ15_copyOf_2_38 : decode cJ15_copyOf_2 38 = .ok (.aload_n 3, 1) := dk_45 (dk_at dksJ15_copyOf_2_1 14 rfl rfl)
theorem dJ15_copyOf_2_39 : decode cJ15_copyOf_2 39 = .ok (.areturn, 1) := dk_176 (dk_at dksJ15_copyOf_2_1 15 rfl rfl)
theorem dJ16_intValue_0 : decode cJ16_intValue 0 = .ok (.aload_n 0, 1) := by decide +kernel
theorem dJ16_intValue_1 : decode cJ16_intValue 1 = .ok (.getfield 205, 3) := by decide +kernel
theorem dJ16_intValue_4 : decode cJ16_intValue 4 = .ok (.ireturn, 1) := by decide +kernel
def dkwJ16_valueOf_1 : List UInt8 := [187, 0, 1, 89, 26, 183, 0, 199, 176]
abbrev dktJ16_valueOf_1 : List UInt8 := dkwJ16_valueOf_1 ++ []
def dkwJ16_valueOf_0 : List UInt8 := [26, 16, 128, 161, 0, 20, 26, 178, 0, 191, 163, 0, 13, 178, 0, 195, 26, 17, 0, 128, 96, 50, 176]
abbrev dktJ16_valueOf_0 : List UInt8 := dkwJ16_valueOf_0 ++ dktJ16_valueOf_1
theorem dksJ16_valueOf_0 : cJ16_valueOf.data.toList.drop 0 = dktJ16_valueOf_0 := by decide +kernel
theorem dksJ16_valueOf_1 : cJ16_valueOf.data.toList.drop 23 = dktJ16_valueOf_1 := dk_seg dksJ16_valueOf_0 23 rfl rfl
theorem dJ16_valueOf_0 : decode cJ16_valueOf 0 = .ok (.iload_n 0, 1) := dk_26 (dk_at dksJ16_valueOf_0 0 rfl rfl)
theorem dJ16_valueOf_1 : decode cJ16_valueOf 1 = .ok (.bipush (-128), 2) := dk_16 128 (dk_at dksJ16_valueOf_0 1 rfl rfl)
theorem dJ16_valueOf_3 : decode cJ16_valueOf 3 = .ok (.if_icmp .lt 20, 3) := dk_161 0 20 (dk_at dksJ16_valueOf_0 3 rfl rfl)
theorem dJ16_valueOf_6 : decode cJ16_valueOf 6 = .ok (.iload_n 0, 1) := dk_26 (dk_at dksJ16_valueOf_0 6 rfl rfl)
theorem dJ16_valueOf_7 : decode cJ16_valueOf 7 = .ok (.getstatic 191, 3) := dk_178 0 191 (dk_at dksJ16_valueOf_0 7 rfl rfl)
theorem dJ16_valueOf_10 : decode cJ16_valueOf 10 = .ok (.if_icmp .gt 13, 3) := dk_163 0 13 (dk_at dksJ16_valueOf_0 10 rfl rfl)
theorem dJ16_valueOf_13 : decode cJ16_valueOf 13 = .ok (.getstatic 195, 3) := dk_178 0 195 (dk_at dksJ16_valueOf_0 13 rfl rfl)
theorem dJ16_valueOf_16 : decode cJ16_valueOf 16 = .ok (.iload_n 0, 1) := dk_26 (dk_at dksJ16_valueOf_0 16 rfl rfl)
theorem dJ16_valueOf_17 : decode cJ16_valueOf 17 = .ok (.sipush 128, 3) := dk_17 0 128 (dk_at dksJ16_valueOf_0 17 rfl rfl)
theorem dJ16_valueOf_20 : decode cJ16_valueOf 20 = .ok (.iadd, 1) := dk_96 (dk_at dksJ16_valueOf_0 20 rfl rfl)
theorem dJ16_valueOf_21 : decode cJ16_valueOf 21 = .ok (.aaload, 1) := dk_50 (dk_at dksJ16_valueOf_0 21 rfl rfl)
theorem dJ16_valueOf_22 : decode cJ16_valueOf 22 = .ok (.areturn, 1) := dk_176 (dk_at dksJ16_valueOf_0 22 rfl rfl)
theorem dJ16_valueOf_23 : decode cJ16_valueOf 23 = .ok (.new 1, 3) := dk_187 0 1 (dk_at dksJ16_valueOf_1 0 rfl rfl)
theorem dJ16_valueOf_26 : decode cJ16_valueOf 26 = .ok (.dup, 1) := dk_89 (dk_at dksJ16_valueOf_1 3 rfl rfl)
theorem dJ16_valueOf_27 : decode cJ16_valueOf 27 = .ok (.iload_n 0, 1) := dk_26 (dk_at dksJ16_valueOf_1 4 rfl rfl)
theorem dJ16_valueOf_28 : decode cJ16_valueOf 28 = .ok (.invokespecial 199, 3) := dk_183 0 199 (dk_at dksJ16_valueOf_1 5 rfl rfl)
theorem dJ16_valueOf_31 : decode cJ16_valueOf 31 = .ok (.areturn, 1) := dk_176 (dk_at dksJ16_valueOf_1 8 rfl rfl)
def dkwJ16_init_0 : List UInt8 := [42, 183, 0, 202, 42, 27, 181, 0, 205, 177]
abbrev dktJ16_init_0 : List UInt8 := dkwJ16_init_0 ++ []
theorem dksJ16_init_0 : cJ16_init.data.toList.drop 0 = dktJ16_init_0 := by decide +kernel
theorem dJ16_init_0 : decode cJ16_init 0 = .ok (.aload_n 0, 1) := dk_42 (dk_at dksJ16_init_0 0 rfl rfl)
theorem dJ16_init_1 : decode cJ16_init 1 = .ok (.invokespecial 202, 3) := dk_183 0 202 (dk_at dksJ16_init_0 1 rfl rfl)
theorem dJ16_init_4 : decode cJ16_init 4 = .ok (.aload_n 0, 1) := dk_42 (dk_at dksJ16_init_0 4 rfl rfl)
theorem dJ16_init_5 : decode cJ16_init 5 = .ok (.iload_n 1, 1) := dk_27 (dk_at dksJ16_init_0 5 rfl rfl)
theorem dJ16_init_6 : decode cJ16_init 6 = .ok (.putfield 205, 3) := dk_181 0 205 (dk_at dksJ16_init_0 6 rfl rfl)
theorem dJ16_init_9 : decode cJ16_init 9 = .ok (.return_, 1) := dk_177 (dk_at dksJ16_init_0 9 rfl rfl)
theorem dJ17_init_0 : decode cJ17_init 0 = .ok (.aload_n 0, 1) := by decide +kernel
theorem dJ17_init_1 : decode cJ17_init 1 = .ok (.invokespecial 1, 3) := by decide +kernel
theorem dJ17_init_4 : decode cJ17_init 4 = .ok (.return_, 1) := by decide +kernel
theorem dJ18_init_0 : decode cJ18_init 0 = .ok (.aload_n 0, 1) := by decide +kernel
theorem dJ18_init_1 : decode cJ18_init 1 = .ok (.invokespecial 1, 3) := by decide +kernel
theorem dJ18_init_4 : decode cJ18_init 4 = .ok (.return_, 1) := by decide +kernel
set_option maxRecDepth 100000
theorem kc_J0_init : zKc yJ0_init cJ0_init 1 none := ⟨⟨by decide, by decide⟩, q335, q119, by decide⟩
theorem ki_J1_1 : zKI "java/util/AbstractList" 1 yJ0_init 0 := ⟨Or.inl q333, q334, by decide, rfl⟩
theorem pk_J1_init_7 : zPk yJ1_init 7 [29] 0 .int := List.forall_mem_cons.mpr ⟨⟨_, _, _, "java/util/AbstractList", tyJ2, rfl, by decide, in_J2, tyJ2_ok, nmJ2, Or.inl q343, Or.inl rfl, rfl, Or.inl rfl⟩, fun _ h_ => absurd h_ List.not_mem_nil⟩
theorem kc_J1_init : zKc yJ1_init cJ1_init 1 none := ⟨⟨by decide, by decide⟩, q332, q120, by decide⟩
theorem ki_J2_1 : zKI "java/util/ArrayList" 1 yJ1_init 0 := ⟨Or.inl q330, q331, by decide, rfl⟩
theorem gk_J2_15 : zGk "java/util/ArrayList" 15 0 := ⟨_, _, _, rfl, q339⟩
theorem pk_J2_init_9 : zPk yJ2_init 9 [29] 1 (.array (.object "java/lang/Object")) := List.forall_mem_cons.mpr ⟨⟨_, _, _, "java/util/ArrayList", tyJ2, rfl, by decide, in_J2, tyJ2_ok, nmJ2, Or.inl q341, Or.inl rfl, rfl, Or.inl rfl⟩, fun _ h_ => absurd h_ List.not_mem_nil⟩
theorem fk_J2_48 : zFk "java/util/ArrayList" 48 [29] 2 := List.forall_mem_cons.mpr ⟨⟨by decide, _, _, _, "java/util/ArrayList", rfl, by decide, in_J2, Or.inl q342, Or.inl rfl⟩, fun _ h_ => absurd h_ List.not_mem_nil⟩
theorem kc_J3_checkIndex : zKc yJ3_checkIndex cJ3_checkIndex 2 (some .int) := ⟨⟨by decide, by decide⟩, q433, q123, by decide⟩
theorem ks_J2_118 : zKS "java/util/ArrayList" 118 yJ3_checkIndex 2 := ⟨Or.inl q431, q432, by decide⟩
theorem kc_J2_elementData : zKc yJ2_elementData cJ2_elementData 2 (some (.object "java/lang/Object")) := ⟨⟨by decide, by decide⟩, q440, q121, by decide⟩
theorem kv_J2_123_29 : zKV "java/util/ArrayList" 123 29 yJ2_elementData 1 := ⟨Or.inl q437, q438, by decide, _, _, _, rfl, q439⟩
theorem fk_J2_9 : zFk "java/util/ArrayList" 9 [29] 1 := List.forall_mem_cons.mpr ⟨⟨by decide, _, _, _, "java/util/ArrayList", rfl, by decide, in_J2, Or.inl q341, Or.inl rfl⟩, fun _ h_ => absurd h_ List.not_mem_nil⟩
theorem kc_J4_checkIndex : zKc yJ4_checkIndex cJ4_checkIndex 3 (some .int) := ⟨⟨by decide, by decide⟩, q436, q124, by decide⟩
theorem ks_J3_105 : zKS "java/util/Objects" 105 yJ4_checkIndex 3 := ⟨Or.inl q434, q435, by decide⟩
theorem gk_J2_39 : zGk "java/util/ArrayList" 39 1 := ⟨_, _, _, rfl, q467⟩
theorem pk_J2_init_2_9 : zPk yJ2_init_2 9 [29] 1 (.array (.object "java/lang/Object")) := List.forall_mem_cons.mpr ⟨⟨_, _, _, "java/util/ArrayList", tyJ2, rfl, by decide, in_J2, tyJ2_ok, nmJ2, Or.inl q341, Or.inl rfl, rfl, Or.inl rfl⟩, fun _ h_ => absurd h_ List.not_mem_nil⟩
theorem fk_J2_63 : zFk "java/util/ArrayList" 63 [29] 0 := List.forall_mem_cons.mpr ⟨⟨by decide, _, _, _, "java/util/ArrayList", rfl, by decide, in_J2, Or.inl q344, Or.inr q345⟩, fun _ h_ => absurd h_ List.not_mem_nil⟩
theorem pk_J2_add_63 : zPk yJ2_add 63 [29] 0 .int := List.forall_mem_cons.mpr ⟨⟨_, _, _, "java/util/ArrayList", tyJ2, rfl, by decide, in_J2, tyJ2_ok, nmJ2, Or.inl q344, Or.inr q345, rfl, Or.inl rfl⟩, fun _ h_ => absurd h_ List.not_mem_nil⟩
theorem kc_J2_add_2 : zKc yJ2_add_2 cJ2_add_2 4 none := ⟨⟨by decide, by decide⟩, q877, q121, by decide⟩
theorem kv_J2_131_29 : zKV "java/util/ArrayList" 131 29 yJ2_add_2 3 := ⟨Or.inl q874, q876, by decide, _, _, _, rfl, qs13⟩
theorem kc_J2_grow : zKc yJ2_grow cJ2_grow 1 (some (.array (.object "java/lang/Object"))) := ⟨⟨by decide, by decide⟩, q881, q121, by decide⟩
theorem kv_J2_129_29 : zKV "java/util/ArrayList" 129 29 yJ2_grow 0 := ⟨Or.inl q878, q880, by decide, _, _, _, rfl, qs14⟩
theorem pk_J2_add_2_48 : zPk yJ2_add_2 48 [29] 2 .int := List.forall_mem_cons.mpr ⟨⟨_, _, _, "java/util/ArrayList", tyJ2, rfl, by decide, in_J2, tyJ2_ok, nmJ2, Or.inl q342, Or.inl rfl, rfl, Or.inl rfl⟩, fun _ h_ => absurd h_ List.not_mem_nil⟩
theorem kc_J2_grow_2 : zKc yJ2_grow_2 cJ2_grow_2 4 (some (.array (.object "java/lang/Object"))) := ⟨⟨by decide, by decide⟩, q885, q121, by decide⟩
theorem kv_J2_69_29 : zKV "java/util/ArrayList" 69 29 yJ2_grow_2 1 := ⟨Or.inl q882, q884, by decide, _, _, _, rfl, qs15⟩
theorem kc_J5_max : zKc yJ5_max cJ5_max 2 (some .int) := ⟨⟨by decide, by decide⟩, q653, q125, by decide⟩
theorem ks_J2_79 : zKS "java/util/ArrayList" 79 yJ5_max 2 := ⟨Or.inl q943, q652, by decide⟩
theorem pk_J2_grow_2_9 : zPk yJ2_grow_2 9 [29] 1 (.array (.object "java/lang/Object")) := List.forall_mem_cons.mpr ⟨⟨_, _, _, "java/util/ArrayList", tyJ2, rfl, by decide, in_J2, tyJ2_ok, nmJ2, Or.inl q341, Or.inl rfl, rfl, Or.inl rfl⟩, fun _ h_ => absurd h_ List.not_mem_nil⟩
theorem kc_J14_newLength : zKc yJ14_newLength cJ14_newLength 4 (some .int) := ⟨⟨by decide, by decide⟩, q888, q140, by decide⟩
theorem ks_J2_73 : zKS "java/util/ArrayList" 73 yJ14_newLength 3 := ⟨Or.inl q886, q887, by decide⟩
theorem kc_J15_copyOf : zKc yJ15_copyOf cJ15_copyOf 2 (some (.array (.object "java/lang/Object"))) := ⟨⟨by decide, by decide⟩, q896, q141, by decide⟩
theorem ks_J2_66 : zKS "java/util/ArrayList" 66 yJ15_copyOf 2 := ⟨Or.inl q894, q895, by decide⟩
theorem ks_J14_194 : zKS "jdk/internal/util/ArraysSupport" 194 yJ5_max 2 := ⟨Or.inl q889, q652, by decide⟩
theorem kc_J15_copyOf_2 : zKc yJ15_copyOf_2 cJ15_copyOf_2 4 (some (.array (.object "java/lang/Object"))) := ⟨⟨by decide, by decide⟩, q936, q141, by decide⟩
theorem ks_J15_300 : zKS "java/util/Arrays" 300 yJ15_copyOf_2 3 := ⟨Or.inl q934, q935, by decide⟩
theorem kc_J5_min : zKc yJ5_min cJ5_min 2 (some .int) := ⟨⟨by decide, by decide⟩, q452, q125, by decide⟩
theorem ks_J15_304 : zKS "java/util/Arrays" 304 yJ5_min 2 := ⟨Or.inl q939, q451, by decide⟩
theorem pk_J2_clear_63 : zPk yJ2_clear 63 [29] 0 .int := List.forall_mem_cons.mpr ⟨⟨_, _, _, "java/util/ArrayList", tyJ2, rfl, by decide, in_J2, tyJ2_ok, nmJ2, Or.inl q344, Or.inr q345, rfl, Or.inl rfl⟩, fun _ h_ => absurd h_ List.not_mem_nil⟩
theorem pk_J2_clear_48 : zPk yJ2_clear 48 [29] 2 .int := List.forall_mem_cons.mpr ⟨⟨_, _, _, "java/util/ArrayList", tyJ2, rfl, by decide, in_J2, tyJ2_ok, nmJ2, Or.inl q342, Or.inl rfl, rfl, Or.inl rfl⟩, fun _ h_ => absurd h_ List.not_mem_nil⟩
theorem kc_J2_fastRemove : zKc yJ2_fastRemove cJ2_fastRemove 4 none := ⟨⟨by decide, by decide⟩, q1317, q121, by decide⟩
theorem kv_J2_144_29 : zKV "java/util/ArrayList" 144 29 yJ2_fastRemove 2 := ⟨Or.inl q1314, q1316, by decide, _, _, _, rfl, qs36⟩
theorem pk_J2_fastRemove_63 : zPk yJ2_fastRemove 63 [29] 0 .int := List.forall_mem_cons.mpr ⟨⟨_, _, _, "java/util/ArrayList", tyJ2, rfl, by decide, in_J2, tyJ2_ok, nmJ2, Or.inl q344, Or.inr q345, rfl, Or.inl rfl⟩, fun _ h_ => absurd h_ List.not_mem_nil⟩
theorem pk_J2_fastRemove_48 : zPk yJ2_fastRemove 48 [29] 2 .int := List.forall_mem_cons.mpr ⟨⟨_, _, _, "java/util/ArrayList", tyJ2, rfl, by decide, in_J2, tyJ2_ok, nmJ2, Or.inl q342, Or.inl rfl, rfl, Or.inl rfl⟩, fun _ h_ => absurd h_ List.not_mem_nil⟩
theorem kc_J6_indexOf_2 : zKc yJ6_indexOf_2 cJ6_indexOf_2 3 (some .int) := ⟨⟨by decide, by decide⟩, q630, q130, by decide⟩
theorem k40_J6_633 : zK40 240 "java/lang/String" 633 yJ6_indexOf_2 2 := ⟨by decide, q627, q628, by decide, q629⟩
theorem kc_J6_isLatin1 : zKc yJ6_isLatin1 cJ6_isLatin1 1 (some .boolean) := ⟨⟨by decide, by decide⟩, q634, q130, by decide⟩
theorem k40_J6_492 : zK40 240 "java/lang/String" 492 yJ6_isLatin1 0 := ⟨by decide, q631, q632, by decide, q633⟩
theorem fk_J6_9 : zFs "java/lang/String" 9 0 := ⟨rfl, q2454⟩
theorem kc_J6_length : zKc yJ6_length cJ6_length 1 (some .int) := ⟨⟨by decide, by decide⟩, q640, q130, by decide⟩
theorem k40_J6_505 : zK40 240 "java/lang/String" 505 yJ6_length 0 := ⟨by decide, q637, q638, by decide, q639⟩
theorem kc_J7_indexOf : zKc yJ7_indexOf cJ7_indexOf 4 (some .int) := ⟨⟨by decide, by decide⟩, q647, q131, by decide⟩
theorem ks_J6_637 : zKS "java/lang/String" 637 yJ7_indexOf 4 := ⟨Or.inl q645, q646, by decide⟩
theorem gk_J6_38 : zGk "java/lang/String" 38 5 := ⟨_, _, _, rfl, q635⟩
theorem fk_J6_15 : zFs "java/lang/String" 15 1 := ⟨rfl, q2453⟩
theorem kc_J7_canEncode : zKc yJ7_canEncode cJ7_canEncode 1 (some .boolean) := ⟨⟨by decide, by decide⟩, q650, q131, by decide⟩
theorem ks_J7_88 : zKS "java/lang/StringLatin1" 88 yJ7_canEncode 1 := ⟨Or.inl q648, q649, by decide⟩
theorem ks_J7_92 : zKS "java/lang/StringLatin1" 92 yJ5_max 2 := ⟨Or.inl q651, q652, by decide⟩
theorem ks_J7_38 : zKS "java/lang/StringLatin1" 38 yJ5_min 2 := ⟨Or.inl q654, q451, by decide⟩
theorem kc_J7_indexOfChar : zKc yJ7_indexOfChar cJ7_indexOfChar 6 (some .int) := ⟨⟨by decide, by decide⟩, q657, q131, by decide⟩
theorem ks_J7_95 : zKS "java/lang/StringLatin1" 95 yJ7_indexOfChar 4 := ⟨Or.inl q655, q656, by decide⟩
theorem kc_J6_coder : zKc yJ6_coder cJ6_coder 1 (some .byte) := ⟨⟨by decide, by decide⟩, q644, q130, by decide⟩
theorem k40_J6_335 : zK40 240 "java/lang/String" 335 yJ6_coder 0 := ⟨by decide, q641, q642, by decide, q643⟩
theorem kc_J7_charAt : zKc yJ7_charAt cJ7_charAt 2 (some .char) := ⟨⟨by decide, by decide⟩, q723, q131, by decide⟩
theorem ks_J6_495 : zKS "java/lang/String" 495 yJ7_charAt 2 := ⟨Or.inl q721, q722, by decide⟩
theorem kc_J6_checkIndex : zKc yJ6_checkIndex cJ6_checkIndex 2 none := ⟨⟨by decide, by decide⟩, q726, q130, by decide⟩
theorem ks_J7_9 : zKS "java/lang/StringLatin1" 9 yJ6_checkIndex 2 := ⟨Or.inl q724, q725, by decide⟩
theorem gk_J6_1053 : zGk "java/lang/String" 1053 6 := ⟨_, _, _, rfl, q676⟩
theorem ks_J6_1059 : zKS "java/lang/String" 1059 yJ4_checkIndex 3 := ⟨Or.inl q727, q435, by decide⟩
theorem fk_J13_273 : zFk "java/lang/Long" 273 [30, 230] 0 := List.forall_mem_cons.mpr ⟨⟨by decide, _, _, _, "java/lang/Long", rfl, by decide, in_J13, Or.inl q866, Or.inl rfl⟩, List.forall_mem_cons.mpr ⟨⟨by decide, _, _, _, "java/lang/Long", rfl, by decide, in_J13, Or.inl q866, Or.inl rfl⟩, fun _ h_ => absurd h_ List.not_mem_nil⟩⟩
theorem gk_J13_234 : zGk "java/lang/Long" 234 4 := ⟨_, _, _, rfl, q855⟩
theorem zd_J13 : ∀ j, j < 1 → zv (zdv (tyJ13 j)) = defaultValue (tyJ13 j) := by decide
theorem nk_J13_1 : zNk "java/lang/Long" 1 30 1 tyJ13 := ⟨_, _, rfl, in_J13, fun j hj => ⟨tyJ13_ok j hj, zd_J13 j hj⟩, q857, q858, q138⟩
theorem kc_J13_init : zKc yJ13_init cJ13_init 3 none := ⟨⟨by decide, by decide⟩, q861, q138, by decide⟩
theorem ki_J13_240 : zKI "java/lang/Long" 240 yJ13_init 1 := ⟨Or.inl q859, q860, by decide, rfl⟩
theorem kc_J12_init : zKc yJ12_init cJ12_init 1 none := ⟨⟨by decide, by decide⟩, q864, q137, by decide⟩
theorem ki_J13_270 : zKI "java/lang/Long" 270 yJ12_init 0 := ⟨Or.inl q862, q863, by decide, rfl⟩
theorem pk_J13_init_273 : zPk yJ13_init 273 [30] 0 .long := List.forall_mem_cons.mpr ⟨⟨_, _, _, "java/lang/Long", tyJ13, rfl, by decide, in_J13, tyJ13_ok, nmJ13, Or.inl q866, Or.inl rfl, rfl, Or.inr ⟨rfl, rfl, rfl⟩⟩, fun _ h_ => absurd h_ List.not_mem_nil⟩
theorem fk_J16_205 : zFk "java/lang/Integer" 205 [31, 231] 0 := List.forall_mem_cons.mpr ⟨⟨by decide, _, _, _, "java/lang/Integer", rfl, by decide, in_J16, Or.inl q957, Or.inl rfl⟩, List.forall_mem_cons.mpr ⟨⟨by decide, _, _, _, "java/lang/Integer", rfl, by decide, in_J16, Or.inl q957, Or.inl rfl⟩, fun _ h_ => absurd h_ List.not_mem_nil⟩⟩
theorem gk_J16_191 : zGk "java/lang/Integer" 191 2 := ⟨_, _, _, rfl, q947⟩
theorem gk_J16_195 : zGk "java/lang/Integer" 195 3 := ⟨_, _, _, rfl, q949⟩
theorem zd_J16 : ∀ j, j < 1 → zv (zdv (tyJ16 j)) = defaultValue (tyJ16 j) := by decide
theorem nk_J16_1 : zNk "java/lang/Integer" 1 31 1 tyJ16 := ⟨_, _, rfl, in_J16, fun j hj => ⟨tyJ16_ok j hj, zd_J16 j hj⟩, q951, q952, q143⟩
theorem kc_J16_init : zKc yJ16_init cJ16_init 2 none := ⟨⟨by decide, by decide⟩, q955, q143, by decide⟩
theorem ki_J16_199 : zKI "java/lang/Integer" 199 yJ16_init 1 := ⟨Or.inl q953, q954, by decide, rfl⟩
theorem ki_J16_202 : zKI "java/lang/Integer" 202 yJ12_init 0 := ⟨Or.inl q956, q863, by decide, rfl⟩
theorem pk_J16_init_205 : zPk yJ16_init 205 [31] 0 .int := List.forall_mem_cons.mpr ⟨⟨_, _, _, "java/lang/Integer", tyJ16, rfl, by decide, in_J16, tyJ16_ok, nmJ16, Or.inl q957, Or.inl rfl, rfl, Or.inr ⟨rfl, rfl, rfl⟩⟩, fun _ h_ => absurd h_ List.not_mem_nil⟩
theorem kc_J11_init : zKc yJ11_init cJ11_init 1 none := ⟨⟨by decide, by decide⟩, q798, q135, by decide⟩
theorem ki_J17_1 : zKI "java/lang/RuntimeException" 1 yJ11_init 0 := ⟨Or.inl q1724, q797, by decide, rfl⟩
theorem kc_J17_init : zKc yJ17_init cJ17_init 1 none := ⟨⟨by decide, by decide⟩, q1723, q166, by decide⟩
theorem ki_J18_1 : zKI "java/util/NoSuchElementException" 1 yJ17_init 0 := ⟨Or.inl q1721, q1722, by decide, rfl⟩
/-! java/util/AbstractCollection.<init>()V -/
def f_J0_init (n : Nat) (a : Nat) (h : zHp) : Option (Unit × zHp) :=
  some ((), h)
theorem w_J0_init {G : zG} {X : zX} {d : Nat} {h0 : zHp} (C : zC G X yJ0_init cJ0_init 1 d none h0) (hd : 1 ≤ d) (n : Nat) (a : Nat) (h : zHp) : zS G X 1 0 [some (zR (some a))] [] h (f_J0_init n a   h) (li lvU) := by
  unfold f_J0_init
  refine s_aload_n (pc := 0) C dJ0_init_0 rfl ?_
  refine s_objInit (pc := 1) C (by omega) q336 q175 q176 dJ0_init_1 (Nat.le_of_ble_eq_true rfl) ?_
  exact s_return (pc := 4) C dJ0_init_4
theorem t_J0_init {G : zG} {d : Nat} (hd : 1 ≤ d) (n : Nat) (a : Nat) (h : zHp) : zT G d yJ0_init (ws_ yJ0_init cJ0_init 1 none) [zR (some a)] h (f_J0_init n a  h) (li lvU) := zT.of (by decide +kernel) 0 (L0 := [some (zR (some a))]) rfl (Nat.le_of_ble_eq_true rfl) (fun X C => w_J0_init C hd n a  h)
/-! java/util/AbstractList.<init>()V -/
def f_J1_init (n : Nat) (a : Nat) (h : zHp) : Option (Unit × zHp) :=
  (bN (f_J0_init n a h) fun _ h2 => ((zpf [29] 0 (some a) (zI (0 : Int32)) h2).bind fun h3 => some ((), h3)))
theorem w_J1_init {G : zG} {X : zX} {d : Nat} {h0 : zHp} (C : zC G X yJ1_init cJ1_init 1 d none h0) (hd : 2 ≤ d) (n : Nat) (a : Nat) (h : zHp) : zS G X 1 0 [some (zR (some a))] [] h (f_J1_init n a   h) (li lvU) := by
  unfold f_J1_init
  refine s_aload_n (pc := 0) C dJ1_init_0 rfl ?_
  refine s_callN (pc := 1) (st := []) C lvU (t_J0_init (d := d - 1) (by omega) n a h) (zce C kc_J0_init (by omega)) (zlkI C kc_J0_init ki_J1_1 dJ1_init_1 [] rfl rfl) dJ1_init_1 (Nat.le_of_ble_eq_true rfl) (fun _ h2 _ => ?_)
  refine s_aload_n (pc := 4) C dJ1_init_4 rfl ?_
  refine s_iconst (pc := 5) (v := (0 : Int32)) C dJ1_init_5 (by decide) ?_
  refine s_putI (pc := 6) C pk_J1_init_7 dJ1_init_6 (fun h3 _ => ?_)
  exact s_return (pc := 9) C dJ1_init_9
theorem t_J1_init {G : zG} {d : Nat} (hd : 2 ≤ d) (n : Nat) (a : Nat) (h : zHp) : zT G d yJ1_init (ws_ yJ1_init cJ1_init 1 none) [zR (some a)] h (f_J1_init n a  h) (li lvU) := zT.of (by decide +kernel) 0 (L0 := [some (zR (some a))]) rfl (Nat.le_of_ble_eq_true rfl) (fun X C => w_J1_init C hd n a  h)
/-! java/util/ArrayList.<init>(I)V -/
def f_J2_init (n : Nat) (a : Nat) (l1 : Int32) (h : zHp) : Option (Unit × zHp) :=
  (bN (f_J1_init n a h) fun _ h2 => (if 0 < l1 then (bN (znewa 104 (zR none) l1 h2) fun a7 h8 => ((zpf [29] 1 (some a) (zR (some a7)) h8).bind fun h9 => some ((), h9))) else (if l1 = 0 then ((zgR 0 h2).bind fun r5 => ((zpf [29] 1 (some a) (zR r5) h2).bind fun h6 => some ((), h6))) else none)))
theorem w_J2_init {G : zG} {X : zX} {d : Nat} {h0 : zHp} (C : zC G X yJ2_init cJ2_init 2 d none h0) (hd : 3 ≤ d) (n : Nat) (a : Nat) (l1 : Int32) (h : zHp) : zS G X 2 0 [some (zR (some a)), some (zI l1)] [] h (f_J2_init n a  l1 h) (li lvU) := by
  unfold f_J2_init
  refine s_aload_n (pc := 0) C dJ2_init_0 rfl ?_
  refine s_callN (pc := 1) (st := []) C lvU (t_J1_init (d := d - 1) (by omega) n a h) (zce C kc_J1_init (by omega)) (zlkI C kc_J1_init ki_J2_1 dJ2_init_1 [] rfl rfl) dJ2_init_1 (Nat.le_of_ble_eq_true rfl) (fun _ h2 _ => ?_)
  refine s_iload_n (pc := 4) C dJ2_init_4 rfl ?_
  refine s_if_le (pc := 5) (tgt := 19) C dJ2_init_5 (by decide) (fun cn3 => ?_) (fun cn3 => ?_)
  · refine s_iload_n (pc := 19) C dJ2_init_19 rfl ?_
    refine s_if_ne (pc := 20) (tgt := 33) C dJ2_init_20 (by decide) (fun cn4 => ?_) (fun cn4 => ?_)
    · exact zS.none_
    · refine s_aload_n (pc := 23) C dJ2_init_23 rfl ?_
      refine s_getsR (pc := 24) C gk_J2_15 dJ2_init_24 (fun r5 _ => ?_)
      refine s_putR (pc := 27) (ty := (.array (.object "java/lang/Object"))) C (Or.inr ⟨_, rfl⟩) pk_J2_init_9 dJ2_init_27 (fun h6 _ => ?_)
      refine s_goto (pc := 30) (tgt := 60) C dJ2_init_30 (by decide) ?_
      exact s_return (pc := 60) C dJ2_init_60
  · refine s_aload_n (pc := 8) C dJ2_init_8 rfl ?_
    refine s_iload_n (pc := 9) C dJ2_init_9 rfl ?_
    refine s_anewarr (pc := 10) (k := 4) C (by decide) rfl q337 q338 dJ2_init_10 (fun a7 h8 _ => ?_)
    refine s_putR (pc := 13) (ty := (.array (.object "java/lang/Object"))) C (Or.inr ⟨_, rfl⟩) pk_J2_init_9 dJ2_init_13 (fun h9 _ => ?_)
    refine s_goto (pc := 16) (tgt := 60) C dJ2_init_16 (by decide) ?_
    exact s_return (pc := 60) C dJ2_init_60
theorem t_J2_init {G : zG} {d : Nat} (hd : 3 ≤ d) (n : Nat) (a : Nat) (l1 : Int32) (h : zHp) : zT G d yJ2_init (ws_ yJ2_init cJ2_init 2 none) [zR (some a), zI l1] h (f_J2_init n a l1 h) (li lvU) := zT.of (by decide +kernel) 0 (L0 := [some (zR (some a)), some (zI l1)]) rfl (Nat.le_of_ble_eq_true rfl) (fun X C => w_J2_init C hd n a l1 h)
/-! java/util/ArrayList.size()I -/
def f_J2_size (n : Nat) (a : Nat) (h : zHp) : Option (Int32 × zHp) :=
  ((zfI [29] 2 (some a) h).bind fun x1 => some (x1, h))
theorem w_J2_size {G : zG} {X : zX} {d : Nat} {h0 : zHp} (C : zC G X yJ2_size cJ2_size 1 d (some .int) h0) (hd : 1 ≤ d) (n : Nat) (a : Nat) (h : zHp) : zS G X 1 0 [some (zR (some a))] [] h (f_J2_size n a   h) (li lvI) := by
  unfold f_J2_size
  refine s_aload_n (pc := 0) C dJ2_size_0 rfl ?_
  refine s_getI (pc := 1) C fk_J2_48 dJ2_size_1 (by decide) (fun x1 _ => ?_)
  exact s_ireturn (pc := 4) C dJ2_size_4
theorem t_J2_size {G : zG} {d : Nat} (hd : 1 ≤ d) (n : Nat) (a : Nat) (h : zHp) : zT G d yJ2_size (ws_ yJ2_size cJ2_size 1 (some .int)) [zR (some a)] h (f_J2_size n a  h) (li lvI) := zT.of (by decide +kernel) 0 (L0 := [some (zR (some a))]) rfl (Nat.le_of_ble_eq_true rfl) (fun X C => w_J2_size C hd n a  h)
/-! java/util/ArrayList.elementData(I)Ljava/lang/Object; -/
def f_J2_elementData (n : Nat) (a : Nat) (l1 : Int32) (h : zHp) : Option (Option Nat × zHp) :=
  ((zfR [29] 1 (some a) h).bind fun r1 => ((zaR zra r1 l1 h).bind fun r2 => some (r2, h)))
theorem w_J2_elementData {G : zG} {X : zX} {d : Nat} {h0 : zHp} (C : zC G X yJ2_elementData cJ2_elementData 2 d (some (.object "java/lang/Object")) h0) (hd : 1 ≤ d) (n : Nat) (a : Nat) (l1 : Int32) (h : zHp) : zS G X 2 0 [some (zR (some a)), some (zI l1)] [] h (f_J2_elementData n a  l1 h) (li lvR) := by
  unfold f_J2_elementData
  refine s_aload_n (pc := 0) C dJ2_elementData_0 rfl ?_
  refine s_getR (pc := 1) C fk_J2_9 dJ2_elementData_1 (by decide) (fun r1 _ => ?_)
  refine s_iload_n (pc := 4) C dJ2_elementData_4 rfl ?_
  refine s_aaload (pc := 5) C dJ2_elementData_5 (fun r2 _ => ?_)
  exact s_areturn (pc := 6) (rt := (.object "java/lang/Object")) C rfl (Or.inl ⟨_, rfl⟩) dJ2_elementData_6
theorem t_J2_elementData {G : zG} {d : Nat} (hd : 1 ≤ d) (n : Nat) (a : Nat) (l1 : Int32) (h : zHp) : zT G d yJ2_elementData (ws_ yJ2_elementData cJ2_elementData 2 (some (.object "java/lang/Object"))) [zR (some a), zI l1] h (f_J2_elementData n a l1 h) (li lvR) := zT.of (by decide +kernel) 0 (L0 := [some (zR (some a)), some (zI l1)]) rfl (Nat.le_of_ble_eq_true rfl) (fun X C => w_J2_elementData C hd n a l1 h)
/-! jdk/internal/util/Preconditions.checkIndex(IILjava/util/function/BiFunction;)I -/
def f_J4_checkIndex_L9 (n : Nat) (l0 : Int32) (l1 : Int32) (l2 : Option Nat) (h : zHp) : Option (Int32 × zHp) :=
  none
def f_J4_checkIndex (n : Nat) (l0 : Int32) (l1 : Int32) (l2 : Option Nat) (h : zHp) : Option (Int32 × zHp) :=
  (if l0 < 0 then f_J4_checkIndex_L9 n l0 l1 l2 h else (if l0 < l1 then some (l0, h) else f_J4_checkIndex_L9 n l0 l1 l2 h))
theorem w_J4_checkIndex_L9 {G : zG} {X : zX} {d : Nat} {h0 : zHp} (C : zC G X yJ4_checkIndex cJ4_checkIndex 3 d (some .int) h0) (hd : 1 ≤ d) (n : Nat) (l0 : Int32) (l1 : Int32) (l2 : Option Nat) (h : zHp) : zS G X 3 9 [some (zI l0), some (zI l1), some (zR l2)] [] h (f_J4_checkIndex_L9 n  l0 l1 l2 h) (li lvI) := by
  unfold f_J4_checkIndex_L9
  refine s_aload_n (pc := 9) C dJ4_checkIndex_9 rfl ?_
  refine s_iload_n (pc := 10) C dJ4_checkIndex_10 rfl ?_
  refine s_iload_n (pc := 11) C dJ4_checkIndex_11 rfl ?_
  exact zS.none_
theorem w_J4_checkIndex {G : zG} {X : zX} {d : Nat} {h0 : zHp} (C : zC G X yJ4_checkIndex cJ4_checkIndex 3 d (some .int) h0) (hd : 1 ≤ d) (n : Nat) (l0 : Int32) (l1 : Int32) (l2 : Option Nat) (h : zHp) : zS G X 3 0 [some (zI l0), some (zI l1), some (zR l2)] [] h (f_J4_checkIndex n  l0 l1 l2 h) (li lvI) := by
  unfold f_J4_checkIndex
  refine s_iload_n (pc := 0) C dJ4_checkIndex_0 rfl ?_
  refine s_if_lt (pc := 1) (tgt := 9) C dJ4_checkIndex_1 (by decide) (fun cn1 => ?_) (fun cn1 => ?_)
  · exact w_J4_checkIndex_L9 C hd n l0 l1 l2 h
  · refine s_iload_n (pc := 4) C dJ4_checkIndex_4 rfl ?_
    refine s_iload_n (pc := 5) C dJ4_checkIndex_5 rfl ?_
    refine s_icmp_lt (pc := 6) (tgt := 16) C dJ4_checkIndex_6 (by decide) (fun cn2 => ?_) (fun cn2 => ?_)
    · refine s_iload_n (pc := 16) C dJ4_checkIndex_16 rfl ?_
      exact s_ireturn (pc := 17) C dJ4_checkIndex_17
    · exact w_J4_checkIndex_L9 C hd n l0 l1 l2 h
theorem t_J4_checkIndex {G : zG} {d : Nat} (hd : 1 ≤ d) (n : Nat) (l0 : Int32) (l1 : Int32) (l2 : Option Nat) (h : zHp) : zT G d yJ4_checkIndex (ws_ yJ4_checkIndex cJ4_checkIndex 3 (some .int)) [zI l0, zI l1, zR l2] h (f_J4_checkIndex n l0 l1 l2 h) (li lvI) := zT.of (by decide +kernel) 0 (L0 := [some (zI l0), some (zI l1), some (zR l2)]) rfl (Nat.le_of_ble_eq_true rfl) (fun X C => w_J4_checkIndex C hd n l0 l1 l2 h)
/-! java/util/Objects.checkIndex(II)I -/
def f_J3_checkIndex (n : Nat) (l0 : Int32) (l1 : Int32) (h : zHp) : Option (Int32 × zHp) :=
  (bN (f_J4_checkIndex n l0 l1 none h) fun x1 h2 => some (x1, h2))
theorem w_J3_checkIndex {G : zG} {X : zX} {d : Nat} {h0 : zHp} (C : zC G X yJ3_checkIndex cJ3_checkIndex 2 d (some .int) h0) (hd : 2 ≤ d) (n : Nat) (l0 : Int32) (l1 : Int32) (h : zHp) : zS G X 2 0 [some (zI l0), some (zI l1)] [] h (f_J3_checkIndex n  l0 l1 h) (li lvI) := by
  unfold f_J3_checkIndex
  refine s_iload_n (pc := 0) C dJ3_checkIndex_0 rfl ?_
  refine s_iload_n (pc := 1) C dJ3_checkIndex_1 rfl ?_
  refine s_null (pc := 2) C dJ3_checkIndex_2 ?_
  refine s_callN (pc := 3) (st := []) C lvI (t_J4_checkIndex (d := d - 1) (by omega) n l0 l1 none h) (zce C kc_J4_checkIndex (by omega)) (zlkS C kc_J4_checkIndex ks_J3_105 dJ3_checkIndex_3 [zI l0, zI l1, zR none] rfl rfl) dJ3_checkIndex_3 (Nat.le_of_ble_eq_true rfl) (fun x1 h2 _ => ?_)
  exact s_ireturn (pc := 6) C dJ3_checkIndex_6
theorem t_J3_checkIndex {G : zG} {d : Nat} (hd : 2 ≤ d) (n : Nat) (l0 : Int32) (l1 : Int32) (h : zHp) : zT G d yJ3_checkIndex (ws_ yJ3_checkIndex cJ3_checkIndex 2 (some .int)) [zI l0, zI l1] h (f_J3_checkIndex n l0 l1 h) (li lvI) := zT.of (by decide +kernel) 0 (L0 := [some (zI l0), some (zI l1)]) rfl (Nat.le_of_ble_eq_true rfl) (fun X C => w_J3_checkIndex C hd n l0 l1 h)
/-! java/util/ArrayList.get(I)Ljava/lang/Object; -/
def f_J2_get (n : Nat) (a : Nat) (l1 : Int32) (h : zHp) : Option (Option Nat × zHp) :=
  ((zfI [29] 2 (some a) h).bind fun x1 => (bN (f_J3_checkIndex n l1 x1 h) fun x2 h3 => ((zrc [29] (some a) h3).bind fun a4 => (bN (f_J2_elementData n a4 l1 h3) fun r6 h7 => some (r6, h7)))))
theorem w_J2_get {G : zG} {X : zX} {d : Nat} {h0 : zHp} (C : zC G X yJ2_get cJ2_get 2 d (some (.object "java/lang/Object")) h0) (hd : 3 ≤ d) (n : Nat) (a : Nat) (l1 : Int32) (h : zHp) : zS G X 2 0 [some (zR (some a)), some (zI l1)] [] h (f_J2_get n a  l1 h) (li lvR) := by
  unfold f_J2_get
  refine s_iload_n (pc := 0) C dJ2_get_0 rfl ?_
  refine s_aload_n (pc := 1) C dJ2_get_1 rfl ?_
  refine s_getI (pc := 2) C fk_J2_48 dJ2_get_2 (by decide) (fun x1 _ => ?_)
  refine s_callN (pc := 5) (st := []) C lvI (t_J3_checkIndex (d := d - 1) (by omega) n l1 x1 h) (zce C kc_J3_checkIndex (by omega)) (zlkS C kc_J3_checkIndex ks_J2_118 dJ2_get_5 [zI l1, zI x1] rfl rfl) dJ2_get_5 (Nat.le_of_ble_eq_true rfl) (fun x2 h3 _ => ?_)
  refine s_pop (pc := 8) C dJ2_get_8 rfl ?_
  refine s_aload_n (pc := 9) C dJ2_get_9 rfl ?_
  refine s_iload_n (pc := 10) C dJ2_get_10 rfl ?_
  refine s_rc (pc := 11) (fun a4 e_ z5 => ?_)
  cases e_
  refine s_callN (pc := 11) (st := []) C lvR (t_J2_elementData (d := d - 1) (by omega) n a l1 h3) (zce C kc_J2_elementData (by omega)) (zlkV C kc_J2_elementData kv_J2_123_29 dJ2_get_11 (zmem1 z5) [zI l1] rfl rfl) dJ2_get_11 (Nat.le_of_ble_eq_true rfl) (fun r6 h7 _ => ?_)
  exact s_areturn (pc := 14) (rt := (.object "java/lang/Object")) C rfl (Or.inl ⟨_, rfl⟩) dJ2_get_14
theorem t_J2_get {G : zG} {d : Nat} (hd : 3 ≤ d) (n : Nat) (a : Nat) (l1 : Int32) (h : zHp) : zT G d yJ2_get (ws_ yJ2_get cJ2_get 2 (some (.object "java/lang/Object"))) [zR (some a), zI l1] h (f_J2_get n a l1 h) (li lvR) := zT.of (by decide +kernel) 0 (L0 := [some (zR (some a)), some (zI l1)]) rfl (Nat.le_of_ble_eq_true rfl) (fun X C => w_J2_get C hd n a l1 h)
/-! java/util/ArrayList.<init>()V -/
def f_J2_init_2 (n : Nat) (a : Nat) (h : zHp) : Option (Unit × zHp) :=
  (bN (f_J1_init n a h) fun _ h2 => ((zgR 1 h2).bind fun r3 => ((zpf [29] 1 (some a) (zR r3) h2).bind fun h4 => some ((), h4))))
theorem w_J2_init_2 {G : zG} {X : zX} {d : Nat} {h0 : zHp} (C : zC G X yJ2_init_2 cJ2_init_2 1 d none h0) (hd : 3 ≤ d) (n : Nat) (a : Nat) (h : zHp) : zS G X 1 0 [some (zR (some a))] [] h (f_J2_init_2 n a   h) (li lvU) := by
  unfold f_J2_init_2
  refine s_aload_n (pc := 0) C dJ2_init_2_0 rfl ?_
  refine s_callN (pc := 1) (st := []) C lvU (t_J1_init (d := d - 1) (by omega) n a h) (zce C kc_J1_init (by omega)) (zlkI C kc_J1_init ki_J2_1 dJ2_init_2_1 [] rfl rfl) dJ2_init_2_1 (Nat.le_of_ble_eq_true rfl) (fun _ h2 _ => ?_)
  refine s_aload_n (pc := 4) C dJ2_init_2_4 rfl ?_
  refine s_getsR (pc := 5) C gk_J2_39 dJ2_init_2_5 (fun r3 _ => ?_)
  refine s_putR (pc := 8) (ty := (.array (.object "java/lang/Object"))) C (Or.inr ⟨_, rfl⟩) pk_J2_init_2_9 dJ2_init_2_8 (fun h4 _ => ?_)
  exact s_return (pc := 11) C dJ2_init_2_11
theorem t_J2_init_2 {G : zG} {d : Nat} (hd : 3 ≤ d) (n : Nat) (a : Nat) (h : zHp) : zT G d yJ2_init_2 (ws_ yJ2_init_2 cJ2_init_2 1 none) [zR (some a)] h (f_J2_init_2 n a  h) (li lvU) := zT.of (by decide +kernel) 0 (L0 := [some (zR (some a))]) rfl (Nat.le_of_ble_eq_true rfl) (fun X C => w_J2_init_2 C hd n a  h)
/-! jdk/internal/util/ArraysSupport.newLength(III)I -/
def f_J14_newLength_L21 (n : Nat) (l0 : Int32) (l1 : Int32) (h : zHp) : Option (Int32 × zHp) :=
  none
def f_J14_newLength (n : Nat) (l0 : Int32) (l1 : Int32) (l2 : Int32) (h : zHp) : Option (Int32 × zHp) :=
  (bN (f_J5_max n l1 l2 h) fun x1 h2 => (if (0 : Int32) < (l0 + x1) then (if (2147483639 : Int32) < (l0 + x1) then f_J14_newLength_L21 n l0 l1 h2 else some ((l0 + x1), h2)) else f_J14_newLength_L21 n l0 l1 h2))
theorem w_J14_newLength_L21 {G : zG} {X : zX} {d : Nat} {h0 : zHp} (C : zC G X yJ14_newLength cJ14_newLength 4 d (some .int) h0) (hd : 2 ≤ d) (n : Nat) (l0 : Int32) (l1 : Int32) (h : zHp) : zS G X 4 21 [some (zI l0), some (zI l1), none, none] [] h (f_J14_newLength_L21 n  l0 l1 h) (li lvI) := by
  unfold f_J14_newLength_L21
  refine s_iload_n (pc := 21) C dJ14_newLength_21 rfl ?_
  refine s_iload_n (pc := 22) C dJ14_newLength_22 rfl ?_
  exact zS.none_
theorem w_J14_newLength {G : zG} {X : zX} {d : Nat} {h0 : zHp} (C : zC G X yJ14_newLength cJ14_newLength 4 d (some .int) h0) (hd : 2 ≤ d) (n : Nat) (l0 : Int32) (l1 : Int32) (l2 : Int32) (h : zHp) : zS G X 4 0 [some (zI l0), some (zI l1), some (zI l2), none] [] h (f_J14_newLength n  l0 l1 l2 h) (li lvI) := by
  unfold f_J14_newLength
  refine s_iload_n (pc := 0) C dJ14_newLength_0 rfl ?_
  refine s_iload_n (pc := 1) C dJ14_newLength_1 rfl ?_
  refine s_iload_n (pc := 2) C dJ14_newLength_2 rfl ?_
  refine s_callN (pc := 3) (st := [zI l0]) C lvI (t_J5_max (d := d - 1) (by omega) n l1 l2 h) (zce C kc_J5_max (by omega)) (zlkS C kc_J5_max ks_J14_194 dJ14_newLength_3 [zI l1, zI l2] rfl rfl) dJ14_newLength_3 (Nat.le_of_ble_eq_true rfl) (fun x1 h2 _ => ?_)
  refine s_iadd (pc := 6) C dJ14_newLength_6 ?_
  refine s_istore_n (pc := 7) (L' := [some (zI l0), some (zI l1), some (zI l2), some (zI (l0 + x1))]) C dJ14_newLength_7 (by decide) rfl ?_
  refine s_iconst (pc := 8) (v := (0 : Int32)) C dJ14_newLength_8 (by decide) ?_
  refine s_iload_n (pc := 9) C dJ14_newLength_9 rfl ?_
  refine s_icmp_ge (pc := 10) (tgt := 21) C dJ14_newLength_10 (by decide) (fun cn3 => ?_) (fun cn3 => ?_)
  · refine zS.weak [true, true, false, false] rfl ?_
    exact w_J14_newLength_L21 C hd n l0 l1 h2
  · refine s_iload_n (pc := 13) C dJ14_newLength_13 rfl ?_
    refine s_ldc (pc := 14) C q890 dJ14_newLength_14 ?_
    refine s_icmp_gt (pc := 16) (tgt := 21) C dJ14_newLength_16 (by decide) (fun cn4 => ?_) (fun cn4 => ?_)
    · refine zS.weak [true, true, false, false] rfl ?_
      exact w_J14_newLength_L21 C hd n l0 l1 h2
    · refine s_iload_n (pc := 19) C dJ14_newLength_19 rfl ?_
      exact s_ireturn (pc := 20) C dJ14_newLength_20
theorem t_J14_newLength {G : zG} {d : Nat} (hd : 2 ≤ d) (n : Nat) (l0 : Int32) (l1 : Int32) (l2 : Int32) (h : zHp) : zT G d yJ14_newLength (ws_ yJ14_newLength cJ14_newLength 4 (some .int)) [zI l0, zI l1, zI l2] h (f_J14_newLength n l0 l1 l2 h) (li lvI) := zT.of (by decide +kernel) 1 (L0 := [some (zI l0), some (zI l1), some (zI l2), none]) rfl (Nat.le_of_ble_eq_true rfl) (fun X C => w_J14_newLength C hd n l0 l1 l2 h)
/-! java/util/Arrays.copyOf([Ljava/lang/Object;ILjava/lang/Class;)[Ljava/lang/Object; -/
def f_J15_copyOf_2 (n : Nat) (l0 : Option Nat) (l1 : Int32) (l2 : Option Nat) (h : zHp) : Option (Option Nat × zHp) :=
  ((zgR 50 h).bind fun r1 => (if l2 = r1 then (bN (znewa 104 (zR none) l1 h) fun a3 h4 => ((zlen l0 h4).bind fun x5 => (bN (f_J5_min n x5 l1 h4) fun x6 h7 => ((zcopy l0 (0 : Int32) (some a3) (0 : Int32) x6 h7).bind fun h8 => some ((some a3), h8))))) else none))
theorem w_J15_copyOf_2 {G : zG} {X : zX} {d : Nat} {h0 : zHp} (C : zC G X yJ15_copyOf_2 cJ15_copyOf_2 4 d (some (.array (.object "java/lang/Object"))) h0) (hd : 2 ≤ d) (n : Nat) (l0 : Option Nat) (l1 : Int32) (l2 : Option Nat) (h : zHp) : zS G X 4 0 [some (zR l0), some (zI l1), some (zR l2), none] [] h (f_J15_copyOf_2 n  l0 l1 l2 h) (li lvR) := by
  unfold f_J15_copyOf_2
  refine s_aload_n (pc := 0) C dJ15_copyOf_2_0 rfl ?_
  refine s_ldcM (pc := 1) C q937 dJ15_copyOf_2_1 (fun r1 _ => ?_)
  refine s_acmp_ne (pc := 3) (tgt := 13) C dJ15_copyOf_2_3 (by decide) (fun cn2 => ?_) (fun cn2 => ?_)
  · refine s_aload_n (pc := 13) C dJ15_copyOf_2_13 rfl ?_
    exact zS.none_
  · refine s_iload_n (pc := 6) C dJ15_copyOf_2_6 rfl ?_
    refine s_anewarr (pc := 7) (k := 4) C (by decide) rfl q938 q338 dJ15_copyOf_2_7 (fun a3 h4 _ => ?_)
    refine s_goto (pc := 10) (tgt := 24) C dJ15_copyOf_2_10 (by decide) ?_
    refine s_astore_n (pc := 24) (L' := [some (zR l0), some (zI l1), some (zR l2), some (zR (some a3))]) C dJ15_copyOf_2_24 (by decide) rfl ?_
    refine s_aload_n (pc := 25) C dJ15_copyOf_2_25 rfl ?_
    refine s_iconst (pc := 26) (v := (0 : Int32)) C dJ15_copyOf_2_26 (by decide) ?_
    refine s_aload_n (pc := 27) C dJ15_copyOf_2_27 rfl ?_
    refine s_iconst (pc := 28) (v := (0 : Int32)) C dJ15_copyOf_2_28 (by decide) ?_
    refine s_aload_n (pc := 29) C dJ15_copyOf_2_29 rfl ?_
    refine s_alen (pc := 30) C dJ15_copyOf_2_30 (fun x5 _ => ?_)
    refine s_iload_n (pc := 31) C dJ15_copyOf_2_31 rfl ?_
    refine s_callN (pc := 32) (st := [zI (0 : Int32), zR (some a3), zI (0 : Int32), zR l0]) C lvI (t_J5_min (d := d - 1) (by omega) n x5 l1 h4) (zce C kc_J5_min (by omega)) (zlkS C kc_J5_min ks_J15_304 dJ15_copyOf_2_32 [zI x5, zI l1] rfl rfl) dJ15_copyOf_2_32 (Nat.le_of_ble_eq_true rfl) (fun x6 h7 _ => ?_)
    refine s_copy (pc := 35) C (by omega) q940 q942 q941 q142 dJ15_copyOf_2_35 (Nat.le_of_ble_eq_true rfl) (fun h8 _ => ?_)
    refine s_aload_n (pc := 38) C dJ15_copyOf_2_38 rfl ?_
    exact s_areturn (pc := 39) (rt := (.array (.object "java/lang/Object"))) C rfl (Or.inr ⟨_, rfl⟩) dJ15_copyOf_2_39
theorem t_J15_copyOf_2 {G : zG} {d : Nat} (hd : 2 ≤ d) (n : Nat) (l0 : Option Nat) (l1 : Int32) (l2 : Option Nat) (h : zHp) : zT G d yJ15_copyOf_2 (ws_ yJ15_copyOf_2 cJ15_copyOf_2 4 (some (.array (.object "java/lang/Object")))) [zR l0, zI l1, zR l2] h (f_J15_copyOf_2 n l0 l1 l2 h) (li lvR) := zT.of (by decide +kernel) 1 (L0 := [some (zR l0), some (zI l1), some (zR l2), none]) rfl (Nat.le_of_ble_eq_true rfl) (fun X C => w_J15_copyOf_2 C hd n l0 l1 l2 h)
/-! java/util/Arrays.copyOf([Ljava/lang/Object;I)[Ljava/lang/Object; -/
def f_J15_copyOf (n : Nat) (l0 : Option Nat) (l1 : Int32) (h : zHp) : Option (Option Nat × zHp) :=
  ((zrc [104] l0 h).bind fun _ => (zgR 50 h).bind fun r1 => (bN (f_J15_copyOf_2 n l0 l1 r1 h) fun r2 h3 => some (r2, h3)))
theorem w_J15_copyOf {G : zG} {X : zX} {d : Nat} {h0 : zHp} (C : zC G X yJ15_copyOf cJ15_copyOf 2 d (some (.array (.object "java/lang/Object"))) h0) (hd : 3 ≤ d) (n : Nat) (l0 : Option Nat) (l1 : Int32) (h : zHp) : zS G X 2 0 [some (zR l0), some (zI l1)] [] h (f_J15_copyOf n  l0 l1 h) (li lvR) := by
  unfold f_J15_copyOf
  refine s_aload_n (pc := 0) C dJ15_copyOf_0 rfl ?_
  refine s_iload_n (pc := 1) C dJ15_copyOf_1 rfl ?_
  refine s_aload_n (pc := 2) C dJ15_copyOf_2 rfl ?_
  refine s_getClass (pc := 3) C (by omega) q897 q2443 q898 q933 dJ15_copyOf_3 (Nat.le_of_ble_eq_true rfl) (fun r1 _ => ?_)
  refine s_callN (pc := 6) (st := []) C lvR (t_J15_copyOf_2 (d := d - 1) (by omega) n l0 l1 r1 h) (zce C kc_J15_copyOf_2 (by omega)) (zlkS C kc_J15_copyOf_2 ks_J15_300 dJ15_copyOf_6 [zR l0, zI l1, zR r1] rfl rfl) dJ15_copyOf_6 (Nat.le_of_ble_eq_true rfl) (fun r2 h3 _ => ?_)
  exact s_areturn (pc := 9) (rt := (.array (.object "java/lang/Object"))) C rfl (Or.inr ⟨_, rfl⟩) dJ15_copyOf_9
theorem t_J15_copyOf {G : zG} {d : Nat} (hd : 3 ≤ d) (n : Nat) (l0 : Option Nat) (l1 : Int32) (h : zHp) : zT G d yJ15_copyOf (ws_ yJ15_copyOf cJ15_copyOf 2 (some (.array (.object "java/lang/Object")))) [zR l0, zI l1] h (f_J15_copyOf n l0 l1 h) (li lvR) := zT.of (by decide +kernel) 0 (L0 := [some (zR l0), some (zI l1)]) rfl (Nat.le_of_ble_eq_true rfl) (fun X C => w_J15_copyOf C hd n l0 l1 h)
/-! java/util/ArrayList.grow(I)[Ljava/lang/Object; -/
def f_J2_grow_2_L20 (n : Nat) (a : Nat) (l1 : Int32) (l2 : Int32) (h : zHp) : Option (Option Nat × zHp) :=
  (bN (f_J14_newLength n l2 (l1 - l2) (zshr l2 (1 : Int32)) h) fun x1 h2 => ((zfR [29] 1 (some a) h2).bind fun r3 => (bN (f_J15_copyOf n r3 x1 h2) fun r4 h5 => ((zpf [29] 1 (some a) (zR r4) h5).bind fun h6 => some (r4, h6)))))
def f_J2_grow_2 (n : Nat) (a : Nat) (l1 : Int32) (h : zHp) : Option (Option Nat × zHp) :=
  ((zfR [29] 1 (some a) h).bind fun r1 => ((zlen r1 h).bind fun x2 => (if 0 < x2 then f_J2_grow_2_L20 n a l1 x2 h else ((zfR [29] 1 (some a) h).bind fun r4 => ((zgR 1 h).bind fun r5 => (if r4 = r5 then (bN (f_J5_max n (10 : Int32) l1 h) fun x7 h8 => (bN (znewa 104 (zR none) x7 h8) fun a9 h10 => ((zpf [29] 1 (some a) (zR (some a9)) h10).bind fun h11 => some ((some a9), h11)))) else f_J2_grow_2_L20 n a l1 x2 h))))))
theorem w_J2_grow_2_L20 {G : zG} {X : zX} {d : Nat} {h0 : zHp} (C : zC G X yJ2_grow_2 cJ2_grow_2 4 d (some (.array (.object "java/lang/Object"))) h0) (hd : 4 ≤ d) (n : Nat) (a : Nat) (l1 : Int32) (l2 : Int32) (h : zHp) : zS G X 4 20 [some (zR (some a)), some (zI l1), some (zI l2), none] [] h (f_J2_grow_2_L20 n a  l1 l2 h) (li lvR) := by
  unfold f_J2_grow_2_L20
  refine s_iload_n (pc := 20) C dJ2_grow_2_20 rfl ?_
  refine s_iload_n (pc := 21) C dJ2_grow_2_21 rfl ?_
  refine s_iload_n (pc := 22) C dJ2_grow_2_22 rfl ?_
  refine s_isub (pc := 23) C dJ2_grow_2_23 ?_
  refine s_iload_n (pc := 24) C dJ2_grow_2_24 rfl ?_
  refine s_iconst (pc := 25) (v := (1 : Int32)) C dJ2_grow_2_25 (by decide) ?_
  refine s_ishr (pc := 26) C dJ2_grow_2_26 ?_
  refine s_callN (pc := 27) (st := []) C lvI (t_J14_newLength (d := d - 1) (by omega) n l2 (l1 - l2) (zshr l2 (1 : Int32)) h) (zce C kc_J14_newLength (by omega)) (zlkS C kc_J14_newLength ks_J2_73 dJ2_grow_2_27 [zI l2, zI (l1 - l2), zI (zshr l2 (1 : Int32))] rfl rfl) dJ2_grow_2_27 (Nat.le_of_ble_eq_true rfl) (fun x1 h2 _ => ?_)
  refine s_istore_n (pc := 30) (L' := [some (zR (some a)), some (zI l1), some (zI l2), some (zI x1)]) C dJ2_grow_2_30 (by decide) rfl ?_
  refine s_aload_n (pc := 31) C dJ2_grow_2_31 rfl ?_
  refine s_aload_n (pc := 32) C dJ2_grow_2_32 rfl ?_
  refine s_getR (pc := 33) C fk_J2_9 dJ2_grow_2_33 (by decide) (fun r3 _ => ?_)
  refine s_iload_n (pc := 36) C dJ2_grow_2_36 rfl ?_
  refine s_callN (pc := 37) (st := [zR (some a)]) C lvR (t_J15_copyOf (d := d - 1) (by omega) n r3 x1 h2) (zce C kc_J15_copyOf (by omega)) (zlkS C kc_J15_copyOf ks_J2_66 dJ2_grow_2_37 [zR r3, zI x1] rfl rfl) dJ2_grow_2_37 (Nat.le_of_ble_eq_true rfl) (fun r4 h5 _ => ?_)
  refine s_dup_x1 (pc := 40) C dJ2_grow_2_40 rfl rfl ?_
  refine s_putR (pc := 41) (ty := (.array (.object "java/lang/Object"))) C (Or.inr ⟨_, rfl⟩) pk_J2_grow_2_9 dJ2_grow_2_41 (fun h6 _ => ?_)
  exact s_areturn (pc := 44) (rt := (.array (.object "java/lang/Object"))) C rfl (Or.inr ⟨_, rfl⟩) dJ2_grow_2_44
theorem w_J2_grow_2 {G : zG} {X : zX} {d : Nat} {h0 : zHp} (C : zC G X yJ2_grow_2 cJ2_grow_2 4 d (some (.array (.object "java/lang/Object"))) h0) (hd : 4 ≤ d) (n : Nat) (a : Nat) (l1 : Int32) (h : zHp) : zS G X 4 0 [some (zR (some a)), some (zI l1), none, none] [] h (f_J2_grow_2 n a  l1 h) (li lvR) := by
  unfold f_J2_grow_2
  refine s_aload_n (pc := 0) C dJ2_grow_2_0 rfl ?_
  refine s_getR (pc := 1) C fk_J2_9 dJ2_grow_2_1 (by decide) (fun r1 _ => ?_)
  refine s_alen (pc := 4) C dJ2_grow_2_4 (fun x2 _ => ?_)
  refine s_istore_n (pc := 5) (L' := [some (zR (some a)), some (zI l1), some (zI x2), none]) C dJ2_grow_2_5 (by decide) rfl ?_
  refine s_iload_n (pc := 6) C dJ2_grow_2_6 rfl ?_
  refine s_if_gt (pc := 7) (tgt := 20) C dJ2_grow_2_7 (by decide) (fun cn3 => ?_) (fun cn3 => ?_)
  · exact w_J2_grow_2_L20 C hd n a l1 x2 h
  · refine s_aload_n (pc := 10) C dJ2_grow_2_10 rfl ?_
    refine s_getR (pc := 11) C fk_J2_9 dJ2_grow_2_11 (by decide) (fun r4 _ => ?_)
    refine s_getsR (pc := 14) C gk_J2_39 dJ2_grow_2_14 (fun r5 _ => ?_)
    refine s_acmp_eq (pc := 17) (tgt := 45) C dJ2_grow_2_17 (by decide) (fun cn6 => ?_) (fun cn6 => ?_)
    · refine s_aload_n (pc := 45) C dJ2_grow_2_45 rfl ?_
      refine s_bipush (pc := 46) (v := (10 : Int32)) C dJ2_grow_2_46 (by decide) ?_
      refine s_iload_n (pc := 48) C dJ2_grow_2_48 rfl ?_
      refine s_callN (pc := 49) (st := [zR (some a)]) C lvI (t_J5_max (d := d - 1) (by omega) n (10 : Int32) l1 h) (zce C kc_J5_max (by omega)) (zlkS C kc_J5_max ks_J2_79 dJ2_grow_2_49 [zI (10 : Int32), zI l1] rfl rfl) dJ2_grow_2_49 (Nat.le_of_ble_eq_true rfl) (fun x7 h8 _ => ?_)
      refine s_anewarr (pc := 52) (k := 4) C (by decide) rfl q337 q338 dJ2_grow_2_52 (fun a9 h10 _ => ?_)
      refine s_dup_x1 (pc := 55) C dJ2_grow_2_55 rfl rfl ?_
      refine s_putR (pc := 56) (ty := (.array (.object "java/lang/Object"))) C (Or.inr ⟨_, rfl⟩) pk_J2_grow_2_9 dJ2_grow_2_56 (fun h11 _ => ?_)
      exact s_areturn (pc := 59) (rt := (.array (.object "java/lang/Object"))) C rfl (Or.inr ⟨_, rfl⟩) dJ2_grow_2_59
    · exact w_J2_grow_2_L20 C hd n a l1 x2 h
theorem t_J2_grow_2 {G : zG} {d : Nat} (hd : 4 ≤ d) (n : Nat) (a : Nat) (l1 : Int32) (h : zHp) : zT G d yJ2_grow_2 (ws_ yJ2_grow_2 cJ2_grow_2 4 (some (.array (.object "java/lang/Object")))) [zR (some a), zI l1] h (f_J2_grow_2 n a l1 h) (li lvR) := zT.of (by decide +kernel) 2 (L0 := [some (zR (some a)), some (zI l1), none, none]) rfl (Nat.le_of_ble_eq_true rfl) (fun X C => w_J2_grow_2 C hd n a l1 h)
/-! java/util/ArrayList.grow()[Ljava/lang/Object; -/
def f_J2_grow (n : Nat) (a : Nat) (h : zHp) : Option (Option Nat × zHp) :=
  ((zfI [29] 2 (some a) h).bind fun x1 => ((zrc [29] (some a) h).bind fun a2 => (bN (f_J2_grow_2 n a2 (x1 + (1 : Int32)) h) fun r4 h5 => some (r4, h5))))
theorem w_J2_grow {G : zG} {X : zX} {d : Nat} {h0 : zHp} (C : zC G X yJ2_grow cJ2_grow 1 d (some (.array (.object "java/lang/Object"))) h0) (hd : 5 ≤ d) (n : Nat) (a : Nat) (h : zHp) : zS G X 1 0 [some (zR (some a))] [] h (f_J2_grow n a   h) (li lvR) := by
  unfold f_J2_grow
  refine s_aload_n (pc := 0) C dJ2_grow_0 rfl ?_
  refine s_aload_n (pc := 1) C dJ2_grow_1 rfl ?_
  refine s_getI (pc := 2) C fk_J2_48 dJ2_grow_2 (by decide) (fun x1 _ => ?_)
  refine s_iconst (pc := 5) (v := (1 : Int32)) C dJ2_grow_5 (by decide) ?_
  refine s_iadd (pc := 6) C dJ2_grow_6 ?_
  refine s_rc (pc := 7) (fun a2 e_ z3 => ?_)
  cases e_
  refine s_callN (pc := 7) (st := []) C lvR (t_J2_grow_2 (d := d - 1) (by omega) n a (x1 + (1 : Int32)) h) (zce C kc_J2_grow_2 (by omega)) (zlkV C kc_J2_grow_2 kv_J2_69_29 dJ2_grow_7 (zmem1 z3) [zI (x1 + (1 : Int32))] rfl rfl) dJ2_grow_7 (Nat.le_of_ble_eq_true rfl) (fun r4 h5 _ => ?_)
  exact s_areturn (pc := 10) (rt := (.array (.object "java/lang/Object"))) C rfl (Or.inr ⟨_, rfl⟩) dJ2_grow_10
theorem t_J2_grow {G : zG} {d : Nat} (hd : 5 ≤ d) (n : Nat) (a : Nat) (h : zHp) : zT G d yJ2_grow (ws_ yJ2_grow cJ2_grow 1 (some (.array (.object "java/lang/Object")))) [zR (some a)] h (f_J2_grow n a  h) (li lvR) := zT.of (by decide +kernel) 0 (L0 := [some (zR (some a))]) rfl (Nat.le_of_ble_eq_true rfl) (fun X C => w_J2_grow C hd n a  h)
/-! java/util/ArrayList.add(Ljava/lang/Object;[Ljava/lang/Object;I)V -/
def f_J2_add_2_L11 (n : Nat) (a : Nat) (l1 : Option Nat) (l2 : Option Nat) (l3 : Int32) (h : zHp) : Option (Unit × zHp) :=
  ((zasO l2 l3 l1 h).bind fun h1 => ((zpf [29] 2 (some a) (zI (l3 + (1 : Int32))) h1).bind fun h2 => some ((), h2)))
def f_J2_add_2 (n : Nat) (a : Nat) (l1 : Option Nat) (l2 : Option Nat) (l3 : Int32) (h : zHp) : Option (Unit × zHp) :=
  ((zlen l2 h).bind fun x1 => (if l3 = x1 then ((zrc [29] (some a) h).bind fun a3 => (bN (f_J2_grow n a3 h) fun r5 h6 => f_J2_add_2_L11 n a l1 r5 l3 h6)) else f_J2_add_2_L11 n a l1 l2 l3 h))
theorem w_J2_add_2_L11 {G : zG} {X : zX} {d : Nat} {h0 : zHp} (C : zC G X yJ2_add_2 cJ2_add_2 4 d none h0) (hd : 6 ≤ d) (n : Nat) (a : Nat) (l1 : Option Nat) (l2 : Option Nat) (l3 : Int32) (h : zHp) : zS G X 4 11 [some (zR (some a)), some (zR l1), some (zR l2), some (zI l3)] [] h (f_J2_add_2_L11 n a  l1 l2 l3 h) (li lvU) := by
  unfold f_J2_add_2_L11
  refine s_aload_n (pc := 11) C dJ2_add_2_11 rfl ?_
  refine s_iload_n (pc := 12) C dJ2_add_2_12 rfl ?_
  refine s_aload_n (pc := 13) C dJ2_add_2_13 rfl ?_
  refine s_aastore (pc := 14) C dJ2_add_2_14 (fun h1 _ => ?_)
  refine s_aload_n (pc := 15) C dJ2_add_2_15 rfl ?_
  refine s_iload_n (pc := 16) C dJ2_add_2_16 rfl ?_
  refine s_iconst (pc := 17) (v := (1 : Int32)) C dJ2_add_2_17 (by decide) ?_
  refine s_iadd (pc := 18) C dJ2_add_2_18 ?_
  refine s_putI (pc := 19) C pk_J2_add_2_48 dJ2_add_2_19 (fun h2 _ => ?_)
  exact s_return (pc := 22) C dJ2_add_2_22
theorem w_J2_add_2 {G : zG} {X : zX} {d : Nat} {h0 : zHp} (C : zC G X yJ2_add_2 cJ2_add_2 4 d none h0) (hd : 6 ≤ d) (n : Nat) (a : Nat) (l1 : Option Nat) (l2 : Option Nat) (l3 : Int32) (h : zHp) : zS G X 4 0 [some (zR (some a)), some (zR l1), some (zR l2), some (zI l3)] [] h (f_J2_add_2 n a  l1 l2 l3 h) (li lvU) := by
  unfold f_J2_add_2
  refine s_iload_n (pc := 0) C dJ2_add_2_0 rfl ?_
  refine s_aload_n (pc := 1) C dJ2_add_2_1 rfl ?_
  refine s_alen (pc := 2) C dJ2_add_2_2 (fun x1 _ => ?_)
  refine s_icmp_ne (pc := 3) (tgt := 11) C dJ2_add_2_3 (by decide) (fun cn2 => ?_) (fun cn2 => ?_)
  · exact w_J2_add_2_L11 C hd n a l1 l2 l3 h
  · refine s_aload_n (pc := 6) C dJ2_add_2_6 rfl ?_
    refine s_rc (pc := 7) (fun a3 e_ z4 => ?_)
    cases e_
    refine s_callN (pc := 7) (st := []) C lvR (t_J2_grow (d := d - 1) (by omega) n a h) (zce C kc_J2_grow (by omega)) (zlkV C kc_J2_grow kv_J2_129_29 dJ2_add_2_7 (zmem1 z4) [] rfl rfl) dJ2_add_2_7 (Nat.le_of_ble_eq_true rfl) (fun r5 h6 _ => ?_)
    refine s_astore_n (pc := 10) (L' := [some (zR (some a)), some (zR l1), some (zR r5), some (zI l3)]) C dJ2_add_2_10 (by decide) rfl ?_
    exact w_J2_add_2_L11 C hd n a l1 r5 l3 h6
theorem t_J2_add_2 {G : zG} {d : Nat} (hd : 6 ≤ d) (n : Nat) (a : Nat) (l1 : Option Nat) (l2 : Option Nat) (l3 : Int32) (h : zHp) : zT G d yJ2_add_2 (ws_ yJ2_add_2 cJ2_add_2 4 none) [zR (some a), zR l1, zR l2, zI l3] h (f_J2_add_2 n a l1 l2 l3 h) (li lvU) := zT.of (by decide +kernel) 0 (L0 := [some (zR (some a)), some (zR l1), some (zR l2), some (zI l3)]) rfl (Nat.le_of_ble_eq_true rfl) (fun X C => w_J2_add_2 C hd n a l1 l2 l3 h)
/-! java/util/ArrayList.add(Ljava/lang/Object;)Z -/
def f_J2_add (n : Nat) (a : Nat) (l1 : Option Nat) (h : zHp) : Option (Int32 × zHp) :=
  ((zfI [29] 0 (some a) h).bind fun x1 => ((zpf [29] 0 (some a) (zI (x1 + (1 : Int32))) h).bind fun h2 => ((zfR [29] 1 (some a) h2).bind fun r3 => ((zfI [29] 2 (some a) h2).bind fun x4 => ((zrc [29] (some a) h2).bind fun a5 => (bN (f_J2_add_2 n a5 l1 r3 x4 h2) fun _ h8 => some ((1 : Int32), h8)))))))
theorem w_J2_add {G : zG} {X : zX} {d : Nat} {h0 : zHp} (C : zC G X yJ2_add cJ2_add 2 d (some .boolean) h0) (hd : 7 ≤ d) (n : Nat) (a : Nat) (l1 : Option Nat) (h : zHp) : zS G X 2 0 [some (zR (some a)), some (zR l1)] [] h (f_J2_add n a  l1 h) (li lvI) := by
  unfold f_J2_add
  refine s_aload_n (pc := 0) C dJ2_add_0 rfl ?_
  refine s_dup (pc := 1) C dJ2_add_1 rfl ?_
  refine s_getI (pc := 2) C fk_J2_63 dJ2_add_2 (by decide) (fun x1 _ => ?_)
  refine s_iconst (pc := 5) (v := (1 : Int32)) C dJ2_add_5 (by decide) ?_
  refine s_iadd (pc := 6) C dJ2_add_6 ?_
  refine s_putI (pc := 7) C pk_J2_add_63 dJ2_add_7 (fun h2 _ => ?_)
  refine s_aload_n (pc := 10) C dJ2_add_10 rfl ?_
  refine s_aload_n (pc := 11) C dJ2_add_11 rfl ?_
  refine s_aload_n (pc := 12) C dJ2_add_12 rfl ?_
  refine s_getR (pc := 13) C fk_J2_9 dJ2_add_13 (by decide) (fun r3 _ => ?_)
  refine s_aload_n (pc := 16) C dJ2_add_16 rfl ?_
  refine s_getI (pc := 17) C fk_J2_48 dJ2_add_17 (by decide) (fun x4 _ => ?_)
  refine s_rc (pc := 20) (fun a5 e_ z6 => ?_)
  cases e_
  refine s_callN (pc := 20) (st := []) C lvU (t_J2_add_2 (d := d - 1) (by omega) n a l1 r3 x4 h2) (zce C kc_J2_add_2 (by omega)) (zlkV C kc_J2_add_2 kv_J2_131_29 dJ2_add_20 (zmem1 z6) [zR l1, zR r3, zI x4] rfl rfl) dJ2_add_20 (Nat.le_of_ble_eq_true rfl) (fun _ h8 _ => ?_)
  refine s_iconst (pc := 23) (v := (1 : Int32)) C dJ2_add_23 (by decide) ?_
  exact s_zret1 (pc := 24) C (Or.inr rfl) dJ2_add_24
theorem t_J2_add {G : zG} {d : Nat} (hd : 7 ≤ d) (n : Nat) (a : Nat) (l1 : Option Nat) (h : zHp) : zT G d yJ2_add (ws_ yJ2_add cJ2_add 2 (some .boolean)) [zR (some a), zR l1] h (f_J2_add n a l1 h) (li lvI) := zT.of (by decide +kernel) 0 (L0 := [some (zR (some a)), some (zR l1)]) rfl (Nat.le_of_ble_eq_true rfl) (fun X C => w_J2_add C hd n a l1 h)
/-! java/util/ArrayList.clear()V -/
def f_J2_clear_L27_b (n : Nat) (a : Nat) (self : Option Nat → Int32 → Int32 → zHp → Option (Unit × zHp)) (l1 : Option Nat) (l2 : Int32) (l3 : Int32) (h : zHp) : Option (Unit × zHp) :=
  (if l3 < l2 then ((zasO l1 l3 none h).bind fun h2 => self l1 l2 (l3 + (1 : Int32)) h2) else some ((), h))
def f_J2_clear_L27 (n : Nat) (a : Nat) (k : Nat) : Option Nat → Int32 → Int32 → zHp → Option (Unit × zHp) := zloop (f_J2_clear_L27_b n a ) (fun _ _ _ _ => none) k
def f_J2_clear (n : Nat) (a : Nat) (h : zHp) : Option (Unit × zHp) :=
  ((zfI [29] 0 (some a) h).bind fun x1 => ((zpf [29] 0 (some a) (zI (x1 + (1 : Int32))) h).bind fun h2 => ((zfR [29] 1 (some a) h2).bind fun r3 => ((zfI [29] 2 (some a) h2).bind fun x4 => ((zpf [29] 2 (some a) (zI (0 : Int32)) h2).bind fun h5 => f_J2_clear_L27 n a n r3 x4 (0 : Int32) h5)))))
theorem w_J2_clear_L27_b {G : zG} {X : zX} {d : Nat} {h0 : zHp} (C : zC G X yJ2_clear cJ2_clear 4 d none h0) (hd : 1 ≤ d) (n : Nat) (a : Nat) (self : Option Nat → Int32 → Int32 → zHp → Option (Unit × zHp)) (hself : ∀ (l1 : Option Nat) (l2 : Int32) (l3 : Int32) (h : zHp), zS G X 4 27 [none, some (zR l1), some (zI l2), some (zI l3)] [] h (self l1 l2 l3 h) (li lvU)) (l1 : Option Nat) (l2 : Int32) (l3 : Int32) (h : zHp) : zS G X 4 27 [none, some (zR l1), some (zI l2), some (zI l3)] [] h (f_J2_clear_L27_b n a  self l1 l2 l3 h) (li lvU) := by
  unfold f_J2_clear_L27_b
  refine s_iload_n (pc := 27) C dJ2_clear_27 rfl ?_
  refine s_iload_n (pc := 28) C dJ2_clear_28 rfl ?_
  refine s_icmp_ge (pc := 29) (tgt := 42) C dJ2_clear_29 (by decide) (fun cn1 => ?_) (fun cn1 => ?_)
  · exact s_return (pc := 42) C dJ2_clear_42
  · refine s_aload_n (pc := 32) C dJ2_clear_32 rfl ?_
    refine s_iload_n (pc := 33) C dJ2_clear_33 rfl ?_
    refine s_null (pc := 34) C dJ2_clear_34 ?_
    refine s_aastore (pc := 35) C dJ2_clear_35 (fun h2 _ => ?_)
    refine s_iinc (pc := 36) (v := (1 : Int32)) (L' := [none, some (zR l1), some (zI l2), some (zI (l3 + (1 : Int32)))]) C dJ2_clear_36 rfl (by decide) (by decide) rfl ?_
    refine s_goto (pc := 39) (tgt := 27) C dJ2_clear_39 (by decide) ?_
    exact hself l1 l2 (l3 + (1 : Int32)) h2
theorem w_J2_clear_L27 {G : zG} {X : zX} {d : Nat} {h0 : zHp} (C : zC G X yJ2_clear cJ2_clear 4 d none h0) (hd : 1 ≤ d) (n : Nat) (a : Nat) (k : Nat) (l1 : Option Nat) (l2 : Int32) (l3 : Int32) (h : zHp) : zS G X 4 27 [none, some (zR l1), some (zI l2), some (zI l3)] [] h (f_J2_clear_L27 n a  k l1 l2 l3 h) (li lvU) := by
  induction k generalizing l1 l2 l3 h with
  | zero => exact zS.none_
  | succ k ih => exact w_J2_clear_L27_b C hd n a   (f_J2_clear_L27 n a  k) (fun l1 l2 l3 h => ih l1 l2 l3 h) l1 l2 l3 h
theorem w_J2_clear {G : zG} {X : zX} {d : Nat} {h0 : zHp} (C : zC G X yJ2_clear cJ2_clear 4 d none h0) (hd : 1 ≤ d) (n : Nat) (a : Nat) (h : zHp) : zS G X 4 0 [some (zR (some a)), none, none, none] [] h (f_J2_clear n a   h) (li lvU) := by
  unfold f_J2_clear
  refine s_aload_n (pc := 0) C dJ2_clear_0 rfl ?_
  refine s_dup (pc := 1) C dJ2_clear_1 rfl ?_
  refine s_getI (pc := 2) C fk_J2_63 dJ2_clear_2 (by decide) (fun x1 _ => ?_)
  refine s_iconst (pc := 5) (v := (1 : Int32)) C dJ2_clear_5 (by decide) ?_
  refine s_iadd (pc := 6) C dJ2_clear_6 ?_
  refine s_putI (pc := 7) C pk_J2_clear_63 dJ2_clear_7 (fun h2 _ => ?_)
  refine s_aload_n (pc := 10) C dJ2_clear_10 rfl ?_
  refine s_getR (pc := 11) C fk_J2_9 dJ2_clear_11 (by decide) (fun r3 _ => ?_)
  refine s_astore_n (pc := 14) (L' := [some (zR (some a)), some (zR r3), none, none]) C dJ2_clear_14 (by decide) rfl ?_
  refine s_aload_n (pc := 15) C dJ2_clear_15 rfl ?_
  refine s_getI (pc := 16) C fk_J2_48 dJ2_clear_16 (by decide) (fun x4 _ => ?_)
  refine s_istore_n (pc := 19) (L' := [some (zR (some a)), some (zR r3), some (zI x4), none]) C dJ2_clear_19 (by decide) rfl ?_
  refine s_aload_n (pc := 20) C dJ2_clear_20 rfl ?_
  refine s_iconst (pc := 21) (v := (0 : Int32)) C dJ2_clear_21 (by decide) ?_
  refine s_dup_x1 (pc := 22) C dJ2_clear_22 rfl rfl ?_
  refine s_putI (pc := 23) C pk_J2_clear_48 dJ2_clear_23 (fun h5 _ => ?_)
  refine s_istore_n (pc := 26) (L' := [some (zR (some a)), some (zR r3), some (zI x4), some (zI (0 : Int32))]) C dJ2_clear_26 (by decide) rfl ?_
  refine zS.weak [false, true, true, true] rfl ?_
  exact w_J2_clear_L27 C hd n a n r3 x4 (0 : Int32) h5
theorem t_J2_clear {G : zG} {d : Nat} (hd : 1 ≤ d) (n : Nat) (a : Nat) (h : zHp) : zT G d yJ2_clear (ws_ yJ2_clear cJ2_clear 4 none) [zR (some a)] h (f_J2_clear n a  h) (li lvU) := zT.of (by decide +kernel) 3 (L0 := [some (zR (some a)), none, none, none]) rfl (Nat.le_of_ble_eq_true rfl) (fun X C => w_J2_clear C hd n a  h)
/-! java/util/ArrayList.fastRemove([Ljava/lang/Object;I)V -/
def f_J2_fastRemove_L34 (n : Nat) (a : Nat) (l1 : Option Nat) (l3 : Int32) (h : zHp) : Option (Unit × zHp) :=
  ((zpf [29] 2 (some a) (zI l3) h).bind fun h1 => ((zasO l1 l3 none h1).bind fun h2 => some ((), h2)))
def f_J2_fastRemove (n : Nat) (a : Nat) (l1 : Option Nat) (l2 : Int32) (h : zHp) : Option (Unit × zHp) :=
  ((zfI [29] 0 (some a) h).bind fun x1 => ((zpf [29] 0 (some a) (zI (x1 + (1 : Int32))) h).bind fun h2 => ((zfI [29] 2 (some a) h2).bind fun x3 => (if l2 < (x3 - (1 : Int32)) then ((zcopy l1 (l2 + (1 : Int32)) l1 l2 ((x3 - (1 : Int32)) - l2) h2).bind fun h5 => f_J2_fastRemove_L34 n a l1 (x3 - (1 : Int32)) h5) else f_J2_fastRemove_L34 n a l1 (x3 - (1 : Int32)) h2))))
theorem w_J2_fastRemove_L34 {G : zG} {X : zX} {d : Nat} {h0 : zHp} (C : zC G X yJ2_fastRemove cJ2_fastRemove 4 d none h0) (hd : 1 ≤ d) (n : Nat) (a : Nat) (l1 : Option Nat) (l3 : Int32) (h : zHp) : zS G X 4 34 [some (zR (some a)), some (zR l1), none, some (zI l3)] [] h (f_J2_fastRemove_L34 n a  l1 l3 h) (li lvU) := by
  unfold f_J2_fastRemove_L34
  refine s_aload_n (pc := 34) C dJ2_fastRemove_34 rfl ?_
  refine s_aload_n (pc := 35) C dJ2_fastRemove_35 rfl ?_
  refine s_iload_n (pc := 36) C dJ2_fastRemove_36 rfl ?_
  refine s_dup_x1 (pc := 37) C dJ2_fastRemove_37 rfl rfl ?_
  refine s_putI (pc := 38) C pk_J2_fastRemove_48 dJ2_fastRemove_38 (fun h1 _ => ?_)
  refine s_null (pc := 41) C dJ2_fastRemove_41 ?_
  refine s_aastore (pc := 42) C dJ2_fastRemove_42 (fun h2 _ => ?_)
  exact s_return (pc := 43) C dJ2_fastRemove_43
theorem w_J2_fastRemove {G : zG} {X : zX} {d : Nat} {h0 : zHp} (C : zC G X yJ2_fastRemove cJ2_fastRemove 4 d none h0) (hd : 1 ≤ d) (n : Nat) (a : Nat) (l1 : Option Nat) (l2 : Int32) (h : zHp) : zS G X 4 0 [some (zR (some a)), some (zR l1), some (zI l2), none] [] h (f_J2_fastRemove n a  l1 l2 h) (li lvU) := by
  unfold f_J2_fastRemove
  refine s_aload_n (pc := 0) C dJ2_fastRemove_0 rfl ?_
  refine s_dup (pc := 1) C dJ2_fastRemove_1 rfl ?_
  refine s_getI (pc := 2) C fk_J2_63 dJ2_fastRemove_2 (by decide) (fun x1 _ => ?_)
  refine s_iconst (pc := 5) (v := (1 : Int32)) C dJ2_fastRemove_5 (by decide) ?_
  refine s_iadd (pc := 6) C dJ2_fastRemove_6 ?_
  refine s_putI (pc := 7) C pk_J2_fastRemove_63 dJ2_fastRemove_7 (fun h2 _ => ?_)
  refine s_aload_n (pc := 10) C dJ2_fastRemove_10 rfl ?_
  refine s_getI (pc := 11) C fk_J2_48 dJ2_fastRemove_11 (by decide) (fun x3 _ => ?_)
  refine s_iconst (pc := 14) (v := (1 : Int32)) C dJ2_fastRemove_14 (by decide) ?_
  refine s_isub (pc := 15) C dJ2_fastRemove_15 ?_
  refine s_dup (pc := 16) C dJ2_fastRemove_16 rfl ?_
  refine s_istore_n (pc := 17) (L' := [some (zR (some a)), some (zR l1), some (zI l2), some (zI (x3 - (1 : Int32)))]) C dJ2_fastRemove_17 (by decide) rfl ?_
  refine s_iload_n (pc := 18) C dJ2_fastRemove_18 rfl ?_
  refine s_icmp_le (pc := 19) (tgt := 34) C dJ2_fastRemove_19 (by decide) (fun cn4 => ?_) (fun cn4 => ?_)
  · refine zS.weak [true, true, false, true] rfl ?_
    exact w_J2_fastRemove_L34 C hd n a l1 (x3 - (1 : Int32)) h2
  · refine s_aload_n (pc := 22) C dJ2_fastRemove_22 rfl ?_
    refine s_iload_n (pc := 23) C dJ2_fastRemove_23 rfl ?_
    refine s_iconst (pc := 24) (v := (1 : Int32)) C dJ2_fastRemove_24 (by decide) ?_
    refine s_iadd (pc := 25) C dJ2_fastRemove_25 ?_
    refine s_aload_n (pc := 26) C dJ2_fastRemove_26 rfl ?_
    refine s_iload_n (pc := 27) C dJ2_fastRemove_27 rfl ?_
    refine s_iload_n (pc := 28) C dJ2_fastRemove_28 rfl ?_
    refine s_iload_n (pc := 29) C dJ2_fastRemove_29 rfl ?_
    refine s_isub (pc := 30) C dJ2_fastRemove_30 ?_
    refine s_copy (pc := 31) C (by omega) q1318 q942 q941 q142 dJ2_fastRemove_31 (Nat.le_of_ble_eq_true rfl) (fun h5 _ => ?_)
    refine zS.weak [true, true, false, true] rfl ?_
    exact w_J2_fastRemove_L34 C hd n a l1 (x3 - (1 : Int32)) h5
theorem t_J2_fastRemove {G : zG} {d : Nat} (hd : 1 ≤ d) (n : Nat) (a : Nat) (l1 : Option Nat) (l2 : Int32) (h : zHp) : zT G d yJ2_fastRemove (ws_ yJ2_fastRemove cJ2_fastRemove 4 none) [zR (some a), zR l1, zI l2] h (f_J2_fastRemove n a l1 l2 h) (li lvU) := zT.of (by decide +kernel) 1 (L0 := [some (zR (some a)), some (zR l1), some (zI l2), none]) rfl (Nat.le_of_ble_eq_true rfl) (fun X C => w_J2_fastRemove C hd n a l1 l2 h)
/-! java/util/ArrayList.remove(I)Ljava/lang/Object; -/
def f_J2_remove (n : Nat) (a : Nat) (l1 : Int32) (h : zHp) : Option (Option Nat × zHp) :=
  ((zfI [29] 2 (some a) h).bind fun x1 => (bN (f_J3_checkIndex n l1 x1 h) fun x2 h3 => ((zfR [29] 1 (some a) h3).bind fun r4 => ((zaR zra r4 l1 h3).bind fun r5 => ((zrc [29] (some a) h3).bind fun a6 => (bN (f_J2_fastRemove n a6 r4 l1 h3) fun _ h9 => some (r5, h9)))))))
theorem w_J2_remove {G : zG} {X : zX} {d : Nat} {h0 : zHp} (C : zC G X yJ2_remove cJ2_remove 4 d (some (.object "java/lang/Object")) h0) (hd : 3 ≤ d) (n : Nat) (a : Nat) (l1 : Int32) (h : zHp) : zS G X 4 0 [some (zR (some a)), some (zI l1), none, none] [] h (f_J2_remove n a  l1 h) (li lvR) := by
  unfold f_J2_remove
  refine s_iload_n (pc := 0) C dJ2_remove_0 rfl ?_
  refine s_aload_n (pc := 1) C dJ2_remove_1 rfl ?_
  refine s_getI (pc := 2) C fk_J2_48 dJ2_remove_2 (by decide) (fun x1 _ => ?_)
  refine s_callN (pc := 5) (st := []) C lvI (t_J3_checkIndex (d := d - 1) (by omega) n l1 x1 h) (zce C kc_J3_checkIndex (by omega)) (zlkS C kc_J3_checkIndex ks_J2_118 dJ2_remove_5 [zI l1, zI x1] rfl rfl) dJ2_remove_5 (Nat.le_of_ble_eq_true rfl) (fun x2 h3 _ => ?_)
  refine s_pop (pc := 8) C dJ2_remove_8 rfl ?_
  refine s_aload_n (pc := 9) C dJ2_remove_9 rfl ?_
  refine s_getR (pc := 10) C fk_J2_9 dJ2_remove_10 (by decide) (fun r4 _ => ?_)
  refine s_astore_n (pc := 13) (L' := [some (zR (some a)), some (zI l1), some (zR r4), none]) C dJ2_remove_13 (by decide) rfl ?_
  refine s_aload_n (pc := 14) C dJ2_remove_14 rfl ?_
  refine s_iload_n (pc := 15) C dJ2_remove_15 rfl ?_
  refine s_aaload (pc := 16) C dJ2_remove_16 (fun r5 _ => ?_)
  refine s_astore_n (pc := 17) (L' := [some (zR (some a)), some (zI l1), some (zR r4), some (zR r5)]) C dJ2_remove_17 (by decide) rfl ?_
  refine s_aload_n (pc := 18) C dJ2_remove_18 rfl ?_
  refine s_aload_n (pc := 19) C dJ2_remove_19 rfl ?_
  refine s_iload_n (pc := 20) C dJ2_remove_20 rfl ?_
  refine s_rc (pc := 21) (fun a6 e_ z7 => ?_)
  cases e_
  refine s_callN (pc := 21) (st := []) C lvU (t_J2_fastRemove (d := d - 1) (by omega) n a r4 l1 h3) (zce C kc_J2_fastRemove (by omega)) (zlkV C kc_J2_fastRemove kv_J2_144_29 dJ2_remove_21 (zmem1 z7) [zR r4, zI l1] rfl rfl) dJ2_remove_21 (Nat.le_of_ble_eq_true rfl) (fun _ h9 _ => ?_)
  refine s_aload_n (pc := 24) C dJ2_remove_24 rfl ?_
  exact s_areturn (pc := 25) (rt := (.object "java/lang/Object")) C rfl (Or.inl ⟨_, rfl⟩) dJ2_remove_25
theorem t_J2_remove {G : zG} {d : Nat} (hd : 3 ≤ d) (n : Nat) (a : Nat) (l1 : Int32) (h : zHp) : zT G d yJ2_remove (ws_ yJ2_remove cJ2_remove 4 (some (.object "java/lang/Object"))) [zR (some a), zI l1] h (f_J2_remove n a l1 h) (li lvR) := zT.of (by decide +kernel) 2 (L0 := [some (zR (some a)), some (zI l1), none, none]) rfl (Nat.le_of_ble_eq_true rfl) (fun X C => w_J2_remove C hd n a l1 h)
/-! java/util/ArrayList.isEmpty()Z -/
def f_J2_isEmpty (n : Nat) (a : Nat) (h : zHp) : Option (Int32 × zHp) :=
  ((zfI [29] 2 (some a) h).bind fun x1 => some ((if x1 = 0 then (1 : Int32) else (0 : Int32)), h))
theorem w_J2_isEmpty {G : zG} {X : zX} {d : Nat} {h0 : zHp} (C : zC G X yJ2_isEmpty cJ2_isEmpty 1 d (some .boolean) h0) (hd : 1 ≤ d) (n : Nat) (a : Nat) (h : zHp) : zS G X 1 0 [some (zR (some a))] [] h (f_J2_isEmpty n a   h) (li lvI) := by
  unfold f_J2_isEmpty
  refine s_aload_n (pc := 0) C dJ2_isEmpty_0 rfl ?_
  refine s_getI (pc := 1) C fk_J2_48 dJ2_isEmpty_1 (by decide) (fun x1 _ => ?_)
  refine zjS (σ := Int32) (if x1 = 0 then (1 : Int32) else (0 : Int32)) 12 (fun v3 => [none]) (fun v3 => [zI v3]) ?_ (fun j => ?_)
  · exact s_zret1 (pc := 12) C (zb_ite (Or.inr rfl) (Or.inl rfl)) dJ2_isEmpty_12
  · refine b_if_ne (pc := 4) (tgt := 11) C dJ2_isEmpty_4 (by decide) (fun cn2 => ?_) (fun cn2 => ?_)
    · refine s_iconst (pc := 11) (v := (0 : Int32)) C dJ2_isEmpty_11 (by decide) ?_
      refine zS.weak [false] rfl (j _ (if_neg cn2).symm)
    · refine s_iconst (pc := 7) (v := (1 : Int32)) C dJ2_isEmpty_7 (by decide) ?_
      refine s_goto (pc := 8) (tgt := 12) C dJ2_isEmpty_8 (by decide) ?_
      refine zS.weak [false] rfl (j _ (if_pos cn2).symm)
theorem t_J2_isEmpty {G : zG} {d : Nat} (hd : 1 ≤ d) (n : Nat) (a : Nat) (h : zHp) : zT G d yJ2_isEmpty (ws_ yJ2_isEmpty cJ2_isEmpty 1 (some .boolean)) [zR (some a)] h (f_J2_isEmpty n a  h) (li lvI) := zT.of (by decide +kernel) 0 (L0 := [some (zR (some a))]) rfl (Nat.le_of_ble_eq_true rfl) (fun X C => w_J2_isEmpty C hd n a  h)
/-! java/lang/String.isLatin1()Z -/
def f_J6_isLatin1 (n : Nat) (a : Nat) (h : zHp) : Option (Int32 × zHp) :=
  ((zgI 5 h).bind fun x1 => (if x1 = 0 then some ((0 : Int32), h) else ((zfIo [240] 1 (some a) h).bind fun x3 => some ((if x3 = 0 then (1 : Int32) else (0 : Int32)), h))))
theorem w_J6_isLatin1 {G : zG} {X : zX} {d : Nat} {h0 : zHp} (C : zC G X yJ6_isLatin1 cJ6_isLatin1 1 d (some .boolean) h0) (hd : 1 ≤ d) (n : Nat) (a : Nat) (h : zHp) : zS G X 1 0 [some (zR (some a))] [] h (f_J6_isLatin1 n a   h) (li lvI) := by
  unfold f_J6_isLatin1
  refine s_getsI (pc := 0) C gk_J6_38 dJ6_isLatin1_0 (fun x1 _ => ?_)
  refine s_if_eq (pc := 3) (tgt := 17) C dJ6_isLatin1_3 (by decide) (fun cn2 => ?_) (fun cn2 => ?_)
  · refine s_iconst (pc := 17) (v := (0 : Int32)) C dJ6_isLatin1_17 (by decide) ?_
    exact s_zret1 (pc := 18) C (Or.inl rfl) dJ6_isLatin1_18
  · refine s_aload_n (pc := 6) C dJ6_isLatin1_6 rfl ?_
    refine s_getIs (pc := 7) C (by decide) fk_J6_15 dJ6_isLatin1_7 (fun x3 _ => ?_)
    refine zjS (σ := Int32) (if x3 = 0 then (1 : Int32) else (0 : Int32)) 18 (fun v5 => [none]) (fun v5 => [zI v5]) ?_ (fun j => ?_)
    · exact s_zret1 (pc := 18) C (zb_ite (Or.inr rfl) (Or.inl rfl)) dJ6_isLatin1_18
    · refine b_if_ne (pc := 10) (tgt := 17) C dJ6_isLatin1_10 (by decide) (fun cn4 => ?_) (fun cn4 => ?_)
      · refine s_iconst (pc := 17) (v := (0 : Int32)) C dJ6_isLatin1_17 (by decide) ?_
        refine zS.weak [false] rfl (j _ (if_neg cn4).symm)
      · refine s_iconst (pc := 13) (v := (1 : Int32)) C dJ6_isLatin1_13 (by decide) ?_
        refine s_goto (pc := 14) (tgt := 18) C dJ6_isLatin1_14 (by decide) ?_
        refine zS.weak [false] rfl (j _ (if_pos cn4).symm)
theorem t_J6_isLatin1 {G : zG} {d : Nat} (hd : 1 ≤ d) (n : Nat) (a : Nat) (h : zHp) : zT G d yJ6_isLatin1 (ws_ yJ6_isLatin1 cJ6_isLatin1 1 (some .boolean)) [zR (some a)] h (f_J6_isLatin1 n a  h) (li lvI) := zT.of (by decide +kernel) 0 (L0 := [some (zR (some a))]) rfl (Nat.le_of_ble_eq_true rfl) (fun X C => w_J6_isLatin1 C hd n a  h)
/-! java/lang/StringLatin1.indexOfChar([BIII)I -/
def f_J7_indexOfChar_L7_b (n : Nat) (self : Option Nat → Int32 → Int32 → Int32 → zHp → Option (Int32 × zHp)) (l0 : Option Nat) (l3 : Int32) (l4 : Int32) (l5 : Int32) (h : zHp) : Option (Int32 × zHp) :=
  (if l5 < l3 then ((zaI [303] l0 l5 h).bind fun x2 => (if x2 = l4 then some (l5, h) else self l0 l3 l4 (l5 + (1 : Int32)) h)) else some ((-1 : Int32), h))
def f_J7_indexOfChar_L7 (n : Nat) (k : Nat) : Option Nat → Int32 → Int32 → Int32 → zHp → Option (Int32 × zHp) := zloop (f_J7_indexOfChar_L7_b n ) (fun _ _ _ _ _ => none) k
def f_J7_indexOfChar (n : Nat) (l0 : Option Nat) (l1 : Int32) (l2 : Int32) (l3 : Int32) (h : zHp) : Option (Int32 × zHp) :=
  f_J7_indexOfChar_L7 n n l0 l3 (l1.toInt8.toInt32) l2 h
theorem w_J7_indexOfChar_L7_b {G : zG} {X : zX} {d : Nat} {h0 : zHp} (C : zC G X yJ7_indexOfChar cJ7_indexOfChar 6 d (some .int) h0) (hd : 1 ≤ d) (n : Nat) (self : Option Nat → Int32 → Int32 → Int32 → zHp → Option (Int32 × zHp)) (hself : ∀ (l0 : Option Nat) (l3 : Int32) (l4 : Int32) (l5 : Int32) (h : zHp), zS G X 6 7 [some (zR l0), none, none, some (zI l3), some (zI l4), some (zI l5)] [] h (self l0 l3 l4 l5 h) (li lvI)) (l0 : Option Nat) (l3 : Int32) (l4 : Int32) (l5 : Int32) (h : zHp) : zS G X 6 7 [some (zR l0), none, none, some (zI l3), some (zI l4), some (zI l5)] [] h (f_J7_indexOfChar_L7_b n  self l0 l3 l4 l5 h) (li lvI) := by
  unfold f_J7_indexOfChar_L7_b
  refine s_iload (pc := 7) C dJ7_indexOfChar_7 rfl ?_
  refine s_iload_n (pc := 9) C dJ7_indexOfChar_9 rfl ?_
  refine s_icmp_ge (pc := 10) (tgt := 31) C dJ7_indexOfChar_10 (by decide) (fun cn1 => ?_) (fun cn1 => ?_)
  · refine s_iconst (pc := 31) (v := (-1 : Int32)) C dJ7_indexOfChar_31 (by decide) ?_
    exact s_ireturn (pc := 32) C dJ7_indexOfChar_32
  · refine s_aload_n (pc := 13) C dJ7_indexOfChar_13 rfl ?_
    refine s_iload (pc := 14) C dJ7_indexOfChar_14 rfl ?_
    refine s_baload (pc := 16) C dJ7_indexOfChar_16 (fun x2 _ => ?_)
    refine s_iload (pc := 17) C dJ7_indexOfChar_17 rfl ?_
    refine s_icmp_ne (pc := 19) (tgt := 25) C dJ7_indexOfChar_19 (by decide) (fun cn3 => ?_) (fun cn3 => ?_)
    · refine s_iinc (pc := 25) (v := (1 : Int32)) (L' := [some (zR l0), none, none, some (zI l3), some (zI l4), some (zI (l5 + (1 : Int32)))]) C dJ7_indexOfChar_25 rfl (by decide) (by decide) rfl ?_
      refine s_goto (pc := 28) (tgt := 7) C dJ7_indexOfChar_28 (by decide) ?_
      exact hself l0 l3 l4 (l5 + (1 : Int32)) h
    · refine s_iload (pc := 22) C dJ7_indexOfChar_22 rfl ?_
      exact s_ireturn (pc := 24) C dJ7_indexOfChar_24
theorem w_J7_indexOfChar_L7 {G : zG} {X : zX} {d : Nat} {h0 : zHp} (C : zC G X yJ7_indexOfChar cJ7_indexOfChar 6 d (some .int) h0) (hd : 1 ≤ d) (n : Nat) (k : Nat) (l0 : Option Nat) (l3 : Int32) (l4 : Int32) (l5 : Int32) (h : zHp) : zS G X 6 7 [some (zR l0), none, none, some (zI l3), some (zI l4), some (zI l5)] [] h (f_J7_indexOfChar_L7 n  k l0 l3 l4 l5 h) (li lvI) := by
  induction k generalizing l0 l3 l4 l5 h with
  | zero => exact zS.none_
  | succ k ih => exact w_J7_indexOfChar_L7_b C hd n   (f_J7_indexOfChar_L7 n  k) (fun l0 l3 l4 l5 h => ih l0 l3 l4 l5 h) l0 l3 l4 l5 h
theorem w_J7_indexOfChar {G : zG} {X : zX} {d : Nat} {h0 : zHp} (C : zC G X yJ7_indexOfChar cJ7_indexOfChar 6 d (some .int) h0) (hd : 1 ≤ d) (n : Nat) (l0 : Option Nat) (l1 : Int32) (l2 : Int32) (l3 : Int32) (h : zHp) : zS G X 6 0 [some (zR l0), some (zI l1), some (zI l2), some (zI l3), none, none] [] h (f_J7_indexOfChar n  l0 l1 l2 l3 h) (li lvI) := by
  unfold f_J7_indexOfChar
  refine s_iload_n (pc := 0) C dJ7_indexOfChar_0 rfl ?_
  refine s_i2b (pc := 1) C dJ7_indexOfChar_1 ?_
  refine s_istore (pc := 2) (L' := [some (zR l0), some (zI l1), some (zI l2), some (zI l3), some (zI (l1.toInt8.toInt32)), none]) C dJ7_indexOfChar_2 (by decide) rfl ?_
  refine s_iload_n (pc := 4) C dJ7_indexOfChar_4 rfl ?_
  refine s_istore (pc := 5) (L' := [some (zR l0), some (zI l1), some (zI l2), some (zI l3), some (zI (l1.toInt8.toInt32)), some (zI l2)]) C dJ7_indexOfChar_5 (by decide) rfl ?_
  refine zS.weak [true, false, false, true, true, true] rfl ?_
  exact w_J7_indexOfChar_L7 C hd n n l0 l3 (l1.toInt8.toInt32) l2 h
theorem t_J7_indexOfChar {G : zG} {d : Nat} (hd : 1 ≤ d) (n : Nat) (l0 : Option Nat) (l1 : Int32) (l2 : Int32) (l3 : Int32) (h : zHp) : zT G d yJ7_indexOfChar (ws_ yJ7_indexOfChar cJ7_indexOfChar 6 (some .int)) [zR l0, zI l1, zI l2, zI l3] h (f_J7_indexOfChar n l0 l1 l2 l3 h) (li lvI) := zT.of (by decide +kernel) 2 (L0 := [some (zR l0), some (zI l1), some (zI l2), some (zI l3), none, none]) rfl (Nat.le_of_ble_eq_true rfl) (fun X C => w_J7_indexOfChar C hd n l0 l1 l2 l3 h)
/-! java/lang/StringLatin1.canEncode(I)Z -/
def f_J7_canEncode (n : Nat) (l0 : Int32) (h : zHp) : Option (Int32 × zHp) :=
  some ((if l0 < 0 then (0 : Int32) else (if (255 : Int32) < l0 then (0 : Int32) else (1 : Int32))), h)
theorem w_J7_canEncode {G : zG} {X : zX} {d : Nat} {h0 : zHp} (C : zC G X yJ7_canEncode cJ7_canEncode 1 d (some .boolean) h0) (hd : 1 ≤ d) (n : Nat) (l0 : Int32) (h : zHp) : zS G X 1 0 [some (zI l0)] [] h (f_J7_canEncode n  l0 h) (li lvI) := by
  unfold f_J7_canEncode
  refine s_iload_n (pc := 0) C dJ7_canEncode_0 rfl ?_
  refine zjS (σ := Int32) (if l0 < 0 then (0 : Int32) else (if (255 : Int32) < l0 then (0 : Int32) else (1 : Int32))) 16 (fun v3 => [none]) (fun v3 => [zI v3]) ?_ (fun j => ?_)
  · exact s_zret1 (pc := 16) C (zb_ite (Or.inl rfl) (zb_ite (Or.inl rfl) (Or.inr rfl))) dJ7_canEncode_16
  · refine b_if_lt (pc := 1) (tgt := 15) C dJ7_canEncode_1 (by decide) (fun cn1 => ?_) (fun cn1 => ?_)
    · refine s_iconst (pc := 15) (v := (0 : Int32)) C dJ7_canEncode_15 (by decide) ?_
      refine zS.weak [false] rfl (j _ (if_pos cn1).symm)
    · refine s_iload_n (pc := 4) C dJ7_canEncode_4 rfl ?_
      refine s_sipush (pc := 5) (v := (255 : Int32)) C dJ7_canEncode_5 (by decide) ?_
      refine b_icmp_gt (pc := 8) (tgt := 15) C dJ7_canEncode_8 (by decide) (fun cn2 => ?_) (fun cn2 => ?_)
      · refine s_iconst (pc := 15) (v := (0 : Int32)) C dJ7_canEncode_15 (by decide) ?_
        refine zS.weak [false] rfl (j _ ((if_neg cn1).trans (if_pos cn2)).symm)
      · refine s_iconst (pc := 11) (v := (1 : Int32)) C dJ7_canEncode_11 (by decide) ?_
        refine s_goto (pc := 12) (tgt := 16) C dJ7_canEncode_12 (by decide) ?_
        refine zS.weak [false] rfl (j _ ((if_neg cn1).trans (if_neg cn2)).symm)
theorem t_J7_canEncode {G : zG} {d : Nat} (hd : 1 ≤ d) (n : Nat) (l0 : Int32) (h : zHp) : zT G d yJ7_canEncode (ws_ yJ7_canEncode cJ7_canEncode 1 (some .boolean)) [zI l0] h (f_J7_canEncode n l0 h) (li lvI) := zT.of (by decide +kernel) 0 (L0 := [some (zI l0)]) rfl (Nat.le_of_ble_eq_true rfl) (fun X C => w_J7_canEncode C hd n l0 h)
/-! java/lang/StringLatin1.indexOf([BIII)I -/
def f_J7_indexOf (n : Nat) (l0 : Option Nat) (l1 : Int32) (l2 : Int32) (l3 : Int32) (h : zHp) : Option (Int32 × zHp) :=
  (bN (f_J7_canEncode n l1 h) fun x1 h2 => (if x1 = 0 then some ((-1 : Int32), h2) else (bN (f_J5_max n l2 (0 : Int32) h2) fun x4 h5 => ((zlen l0 h5).bind fun x6 => (bN (f_J5_min n l3 x6 h5) fun x7 h8 => (if x4 < x7 then (bN (f_J7_indexOfChar n l0 l1 x4 x7 h8) fun x10 h11 => some (x10, h11)) else some ((-1 : Int32), h8)))))))
theorem w_J7_indexOf {G : zG} {X : zX} {d : Nat} {h0 : zHp} (C : zC G X yJ7_indexOf cJ7_indexOf 4 d (some .int) h0) (hd : 2 ≤ d) (n : Nat) (l0 : Option Nat) (l1 : Int32) (l2 : Int32) (l3 : Int32) (h : zHp) : zS G X 4 0 [some (zR l0), some (zI l1), some (zI l2), some (zI l3)] [] h (f_J7_indexOf n  l0 l1 l2 l3 h) (li lvI) := by
  unfold f_J7_indexOf
  refine s_iload_n (pc := 0) C dJ7_indexOf_0 rfl ?_
  refine s_callN (pc := 1) (st := []) C lvI (t_J7_canEncode (d := d - 1) (by omega) n l1 h) (zce C kc_J7_canEncode (by omega)) (zlkS C kc_J7_canEncode ks_J7_88 dJ7_indexOf_1 [zI l1] rfl rfl) dJ7_indexOf_1 (Nat.le_of_ble_eq_true rfl) (fun x1 h2 _ => ?_)
  refine s_if_ne (pc := 4) (tgt := 9) C dJ7_indexOf_4 (by decide) (fun cn3 => ?_) (fun cn3 => ?_)
  · refine s_iload_n (pc := 9) C dJ7_indexOf_9 rfl ?_
    refine s_iconst (pc := 10) (v := (0 : Int32)) C dJ7_indexOf_10 (by decide) ?_
    refine s_callN (pc := 11) (st := []) C lvI (t_J5_max (d := d - 1) (by omega) n l2 (0 : Int32) h2) (zce C kc_J5_max (by omega)) (zlkS C kc_J5_max ks_J7_92 dJ7_indexOf_11 [zI l2, zI (0 : Int32)] rfl rfl) dJ7_indexOf_11 (Nat.le_of_ble_eq_true rfl) (fun x4 h5 _ => ?_)
    refine s_istore_n (pc := 14) (L' := [some (zR l0), some (zI l1), some (zI x4), some (zI l3)]) C dJ7_indexOf_14 (by decide) rfl ?_
    refine s_iload_n (pc := 15) C dJ7_indexOf_15 rfl ?_
    refine s_aload_n (pc := 16) C dJ7_indexOf_16 rfl ?_
    refine s_alen (pc := 17) C dJ7_indexOf_17 (fun x6 _ => ?_)
    refine s_callN (pc := 18) (st := []) C lvI (t_J5_min (d := d - 1) (by omega) n l3 x6 h5) (zce C kc_J5_min (by omega)) (zlkS C kc_J5_min ks_J7_38 dJ7_indexOf_18 [zI l3, zI x6] rfl rfl) dJ7_indexOf_18 (Nat.le_of_ble_eq_true rfl) (fun x7 h8 _ => ?_)
    refine s_istore_n (pc := 21) (L' := [some (zR l0), some (zI l1), some (zI x4), some (zI x7)]) C dJ7_indexOf_21 (by decide) rfl ?_
    refine s_iload_n (pc := 22) C dJ7_indexOf_22 rfl ?_
    refine s_iload_n (pc := 23) C dJ7_indexOf_23 rfl ?_
    refine s_icmp_lt (pc := 24) (tgt := 29) C dJ7_indexOf_24 (by decide) (fun cn9 => ?_) (fun cn9 => ?_)
    · refine s_aload_n (pc := 29) C dJ7_indexOf_29 rfl ?_
      refine s_iload_n (pc := 30) C dJ7_indexOf_30 rfl ?_
      refine s_iload_n (pc := 31) C dJ7_indexOf_31 rfl ?_
      refine s_iload_n (pc := 32) C dJ7_indexOf_32 rfl ?_
      refine s_callN (pc := 33) (st := []) C lvI (t_J7_indexOfChar (d := d - 1) (by omega) n l0 l1 x4 x7 h8) (zce C kc_J7_indexOfChar (by omega)) (zlkS C kc_J7_indexOfChar ks_J7_95 dJ7_indexOf_33 [zR l0, zI l1, zI x4, zI x7] rfl rfl) dJ7_indexOf_33 (Nat.le_of_ble_eq_true rfl) (fun x10 h11 _ => ?_)
      exact s_ireturn (pc := 36) C dJ7_indexOf_36
    · refine s_iconst (pc := 27) (v := (-1 : Int32)) C dJ7_indexOf_27 (by decide) ?_
      exact s_ireturn (pc := 28) C dJ7_indexOf_28
  · refine s_iconst (pc := 7) (v := (-1 : Int32)) C dJ7_indexOf_7 (by decide) ?_
    exact s_ireturn (pc := 8) C dJ7_indexOf_8
theorem t_J7_indexOf {G : zG} {d : Nat} (hd : 2 ≤ d) (n : Nat) (l0 : Option Nat) (l1 : Int32) (l2 : Int32) (l3 : Int32) (h : zHp) : zT G d yJ7_indexOf (ws_ yJ7_indexOf cJ7_indexOf 4 (some .int)) [zR l0, zI l1, zI l2, zI l3] h (f_J7_indexOf n l0 l1 l2 l3 h) (li lvI) := zT.of (by decide +kernel) 0 (L0 := [some (zR l0), some (zI l1), some (zI l2), some (zI l3)]) rfl (Nat.le_of_ble_eq_true rfl) (fun X C => w_J7_indexOf C hd n l0 l1 l2 l3 h)
/-! java/lang/String.coder()B -/
def f_J6_coder (n : Nat) (a : Nat) (h : zHp) : Option (Int32 × zHp) :=
  ((zgI 5 h).bind fun x1 => (if x1 = 0 then (if ¬ (1 : Int32) < -128 ∧ ¬ 127 < (1 : Int32) then some ((1 : Int32), h) else none) else ((zfIo [240] 1 (some a) h).bind fun x3 => (if ¬ x3 < -128 ∧ ¬ 127 < x3 then some (x3, h) else none))))
theorem w_J6_coder {G : zG} {X : zX} {d : Nat} {h0 : zHp} (C : zC G X yJ6_coder cJ6_coder 1 d (some .byte) h0) (hd : 1 ≤ d) (n : Nat) (a : Nat) (h : zHp) : zS G X 1 0 [some (zR (some a))] [] h (f_J6_coder n a   h) (li lvI) := by
  unfold f_J6_coder
  refine s_getsI (pc := 0) C gk_J6_38 dJ6_coder_0 (fun x1 _ => ?_)
  refine s_if_eq (pc := 3) (tgt := 13) C dJ6_coder_3 (by decide) (fun cn2 => ?_) (fun cn2 => ?_)
  · refine s_iconst (pc := 13) (v := (1 : Int32)) C dJ6_coder_13 (by decide) ?_
    exact s_breturn (pc := 14) C dJ6_coder_14
  · refine s_aload_n (pc := 6) C dJ6_coder_6 rfl ?_
    refine s_getIs (pc := 7) C (by decide) fk_J6_15 dJ6_coder_7 (fun x3 _ => ?_)
    refine s_goto (pc := 10) (tgt := 14) C dJ6_coder_10 (by decide) ?_
    exact s_breturn (pc := 14) C dJ6_coder_14
theorem t_J6_coder {G : zG} {d : Nat} (hd : 1 ≤ d) (n : Nat) (a : Nat) (h : zHp) : zT G d yJ6_coder (ws_ yJ6_coder cJ6_coder 1 (some .byte)) [zR (some a)] h (f_J6_coder n a  h) (li lvI) := zT.of (by decide +kernel) 0 (L0 := [some (zR (some a))]) rfl (Nat.le_of_ble_eq_true rfl) (fun X C => w_J6_coder C hd n a  h)
/-! java/lang/String.length()I -/
def f_J6_length (n : Nat) (a : Nat) (h : zHp) : Option (Int32 × zHp) :=
  ((zfRo [240] 0 (some a) h).bind fun r1 => ((zlen r1 h).bind fun x2 => ((zrc [240] (some a) h).bind fun a3 => (bN (f_J6_coder n a3 h) fun x5 h6 => some ((zshr x2 x5), h6)))))
theorem w_J6_length {G : zG} {X : zX} {d : Nat} {h0 : zHp} (C : zC G X yJ6_length cJ6_length 1 d (some .int) h0) (hd : 2 ≤ d) (n : Nat) (a : Nat) (h : zHp) : zS G X 1 0 [some (zR (some a))] [] h (f_J6_length n a   h) (li lvI) := by
  unfold f_J6_length
  refine s_aload_n (pc := 0) C dJ6_length_0 rfl ?_
  refine s_getRs (pc := 1) C (by decide) fk_J6_9 dJ6_length_1 (fun r1 _ => ?_)
  refine s_alen (pc := 4) C dJ6_length_4 (fun x2 _ => ?_)
  refine s_aload_n (pc := 5) C dJ6_length_5 rfl ?_
  refine s_rc (pc := 6) (fun a3 e_ z4 => ?_)
  cases e_
  refine s_callN (pc := 6) (st := [zI x2]) C lvI (t_J6_coder (d := d - 1) (by omega) n a h) (zce C kc_J6_coder (by omega)) (zlk40 C kc_J6_coder k40_J6_335 dJ6_length_6 (zmem1 z4) [] rfl rfl) dJ6_length_6 (Nat.le_of_ble_eq_true rfl) (fun x5 h6 _ => ?_)
  refine s_ishr (pc := 9) C dJ6_length_9 ?_
  exact s_ireturn (pc := 10) C dJ6_length_10
theorem t_J6_length {G : zG} {d : Nat} (hd : 2 ≤ d) (n : Nat) (a : Nat) (h : zHp) : zT G d yJ6_length (ws_ yJ6_length cJ6_length 1 (some .int)) [zR (some a)] h (f_J6_length n a  h) (li lvI) := zT.of (by decide +kernel) 0 (L0 := [some (zR (some a))]) rfl (Nat.le_of_ble_eq_true rfl) (fun X C => w_J6_length C hd n a  h)
/-! java/lang/String.indexOf(II)I -/
def f_J6_indexOf_2 (n : Nat) (a : Nat) (l1 : Int32) (l2 : Int32) (h : zHp) : Option (Int32 × zHp) :=
  ((zrc [240] (some a) h).bind fun a1 => (bN (f_J6_isLatin1 n a1 h) fun x3 h4 => (if x3 = 0 then ((zfRo [240] 0 (some a) h4).bind fun r6 => ((zrc [240] (some a) h4).bind fun a7 => (bN (f_J6_length n a7 h4) fun x9 h10 => none))) else ((zfRo [240] 0 (some a) h4).bind fun r11 => ((zrc [240] (some a) h4).bind fun a12 => (bN (f_J6_length n a12 h4) fun x14 h15 => (bN (f_J7_indexOf n r11 l1 l2 x14 h15) fun x16 h17 => some (x16, h17))))))))
theorem w_J6_indexOf_2 {G : zG} {X : zX} {d : Nat} {h0 : zHp} (C : zC G X yJ6_indexOf_2 cJ6_indexOf_2 3 d (some .int) h0) (hd : 3 ≤ d) (n : Nat) (a : Nat) (l1 : Int32) (l2 : Int32) (h : zHp) : zS G X 3 0 [some (zR (some a)), some (zI l1), some (zI l2)] [] h (f_J6_indexOf_2 n a  l1 l2 h) (li lvI) := by
  unfold f_J6_indexOf_2
  refine s_aload_n (pc := 0) C dJ6_indexOf_2_0 rfl ?_
  refine s_rc (pc := 1) (fun a1 e_ z2 => ?_)
  cases e_
  refine s_callN (pc := 1) (st := []) C lvI (t_J6_isLatin1 (d := d - 1) (by omega) n a h) (zce C kc_J6_isLatin1 (by omega)) (zlk40 C kc_J6_isLatin1 k40_J6_492 dJ6_indexOf_2_1 (zmem1 z2) [] rfl rfl) dJ6_indexOf_2_1 (Nat.le_of_ble_eq_true rfl) (fun x3 h4 _ => ?_)
  refine s_if_eq (pc := 4) (tgt := 23) C dJ6_indexOf_2_4 (by decide) (fun cn5 => ?_) (fun cn5 => ?_)
  · refine s_aload_n (pc := 23) C dJ6_indexOf_2_23 rfl ?_
    refine s_getRs (pc := 24) C (by decide) fk_J6_9 dJ6_indexOf_2_24 (fun r6 _ => ?_)
    refine s_iload_n (pc := 27) C dJ6_indexOf_2_27 rfl ?_
    refine s_iload_n (pc := 28) C dJ6_indexOf_2_28 rfl ?_
    refine s_aload_n (pc := 29) C dJ6_indexOf_2_29 rfl ?_
    refine s_rc (pc := 30) (fun a7 e_ z8 => ?_)
    cases e_
    refine s_callN (pc := 30) (st := [zI l2, zI l1, zR r6]) C lvI (t_J6_length (d := d - 1) (by omega) n a h4) (zce C kc_J6_length (by omega)) (zlk40 C kc_J6_length k40_J6_505 dJ6_indexOf_2_30 (zmem1 z8) [] rfl rfl) dJ6_indexOf_2_30 (Nat.le_of_ble_eq_true rfl) (fun x9 h10 _ => ?_)
    exact zS.none_
  · refine s_aload_n (pc := 7) C dJ6_indexOf_2_7 rfl ?_
    refine s_getRs (pc := 8) C (by decide) fk_J6_9 dJ6_indexOf_2_8 (fun r11 _ => ?_)
    refine s_iload_n (pc := 11) C dJ6_indexOf_2_11 rfl ?_
    refine s_iload_n (pc := 12) C dJ6_indexOf_2_12 rfl ?_
    refine s_aload_n (pc := 13) C dJ6_indexOf_2_13 rfl ?_
    refine s_rc (pc := 14) (fun a12 e_ z13 => ?_)
    cases e_
    refine s_callN (pc := 14) (st := [zI l2, zI l1, zR r11]) C lvI (t_J6_length (d := d - 1) (by omega) n a h4) (zce C kc_J6_length (by omega)) (zlk40 C kc_J6_length k40_J6_505 dJ6_indexOf_2_14 (zmem1 z13) [] rfl rfl) dJ6_indexOf_2_14 (Nat.le_of_ble_eq_true rfl) (fun x14 h15 _ => ?_)
    refine s_callN (pc := 17) (st := []) C lvI (t_J7_indexOf (d := d - 1) (by omega) n r11 l1 l2 x14 h15) (zce C kc_J7_indexOf (by omega)) (zlkS C kc_J7_indexOf ks_J6_637 dJ6_indexOf_2_17 [zR r11, zI l1, zI l2, zI x14] rfl rfl) dJ6_indexOf_2_17 (Nat.le_of_ble_eq_true rfl) (fun x16 h17 _ => ?_)
    refine s_goto (pc := 20) (tgt := 36) C dJ6_indexOf_2_20 (by decide) ?_
    exact s_ireturn (pc := 36) C dJ6_indexOf_2_36
theorem t_J6_indexOf_2 {G : zG} {d : Nat} (hd : 3 ≤ d) (n : Nat) (a : Nat) (l1 : Int32) (l2 : Int32) (h : zHp) : zT G d yJ6_indexOf_2 (ws_ yJ6_indexOf_2 cJ6_indexOf_2 3 (some .int)) [zR (some a), zI l1, zI l2] h (f_J6_indexOf_2 n a l1 l2 h) (li lvI) := zT.of (by decide +kernel) 0 (L0 := [some (zR (some a)), some (zI l1), some (zI l2)]) rfl (Nat.le_of_ble_eq_true rfl) (fun X C => w_J6_indexOf_2 C hd n a l1 l2 h)
/-! java/lang/String.indexOf(I)I -/
def f_J6_indexOf (n : Nat) (a : Nat) (l1 : Int32) (h : zHp) : Option (Int32 × zHp) :=
  ((zrc [240] (some a) h).bind fun a1 => (bN (f_J6_indexOf_2 n a1 l1 (0 : Int32) h) fun x3 h4 => some (x3, h4)))
theorem w_J6_indexOf {G : zG} {X : zX} {d : Nat} {h0 : zHp} (C : zC G X yJ6_indexOf cJ6_indexOf 2 d (some .int) h0) (hd : 4 ≤ d) (n : Nat) (a : Nat) (l1 : Int32) (h : zHp) : zS G X 2 0 [some (zR (some a)), some (zI l1)] [] h (f_J6_indexOf n a  l1 h) (li lvI) := by
  unfold f_J6_indexOf
  refine s_aload_n (pc := 0) C dJ6_indexOf_0 rfl ?_
  refine s_iload_n (pc := 1) C dJ6_indexOf_1 rfl ?_
  refine s_iconst (pc := 2) (v := (0 : Int32)) C dJ6_indexOf_2 (by decide) ?_
  refine s_rc (pc := 3) (fun a1 e_ z2 => ?_)
  cases e_
  refine s_callN (pc := 3) (st := []) C lvI (t_J6_indexOf_2 (d := d - 1) (by omega) n a l1 (0 : Int32) h) (zce C kc_J6_indexOf_2 (by omega)) (zlk40 C kc_J6_indexOf_2 k40_J6_633 dJ6_indexOf_3 (zmem1 z2) [zI l1, zI (0 : Int32)] rfl rfl) dJ6_indexOf_3 (Nat.le_of_ble_eq_true rfl) (fun x3 h4 _ => ?_)
  exact s_ireturn (pc := 6) C dJ6_indexOf_6
theorem t_J6_indexOf {G : zG} {d : Nat} (hd : 4 ≤ d) (n : Nat) (a : Nat) (l1 : Int32) (h : zHp) : zT G d yJ6_indexOf (ws_ yJ6_indexOf cJ6_indexOf 2 (some .int)) [zR (some a), zI l1] h (f_J6_indexOf n a l1 h) (li lvI) := zT.of (by decide +kernel) 0 (L0 := [some (zR (some a)), some (zI l1)]) rfl (Nat.le_of_ble_eq_true rfl) (fun X C => w_J6_indexOf C hd n a l1 h)
/-! java/lang/String.checkIndex(II)V -/
def f_J6_checkIndex (n : Nat) (l0 : Int32) (l1 : Int32) (h : zHp) : Option (Unit × zHp) :=
  ((zgR 6 h).bind fun r1 => (bN (f_J4_checkIndex n l0 l1 r1 h) fun x2 h3 => some ((), h3)))
theorem w_J6_checkIndex {G : zG} {X : zX} {d : Nat} {h0 : zHp} (C : zC G X yJ6_checkIndex cJ6_checkIndex 2 d none h0) (hd : 2 ≤ d) (n : Nat) (l0 : Int32) (l1 : Int32) (h : zHp) : zS G X 2 0 [some (zI l0), some (zI l1)] [] h (f_J6_checkIndex n  l0 l1 h) (li lvU) := by
  unfold f_J6_checkIndex
  refine s_iload_n (pc := 0) C dJ6_checkIndex_0 rfl ?_
  refine s_iload_n (pc := 1) C dJ6_checkIndex_1 rfl ?_
  refine s_getsR (pc := 2) C gk_J6_1053 dJ6_checkIndex_2 (fun r1 _ => ?_)
  refine s_callN (pc := 5) (st := []) C lvI (t_J4_checkIndex (d := d - 1) (by omega) n l0 l1 r1 h) (zce C kc_J4_checkIndex (by omega)) (zlkS C kc_J4_checkIndex ks_J6_1059 dJ6_checkIndex_5 [zI l0, zI l1, zR r1] rfl rfl) dJ6_checkIndex_5 (Nat.le_of_ble_eq_true rfl) (fun x2 h3 _ => ?_)
  refine s_pop (pc := 8) C dJ6_checkIndex_8 rfl ?_
  exact s_return (pc := 9) C dJ6_checkIndex_9
theorem t_J6_checkIndex {G : zG} {d : Nat} (hd : 2 ≤ d) (n : Nat) (l0 : Int32) (l1 : Int32) (h : zHp) : zT G d yJ6_checkIndex (ws_ yJ6_checkIndex cJ6_checkIndex 2 none) [zI l0, zI l1] h (f_J6_checkIndex n l0 l1 h) (li lvU) := zT.of (by decide +kernel) 0 (L0 := [some (zI l0), some (zI l1)]) rfl (Nat.le_of_ble_eq_true rfl) (fun X C => w_J6_checkIndex C hd n l0 l1 h)
/-! java/lang/StringLatin1.charAt([BI)C -/
def f_J7_charAt (n : Nat) (l0 : Option Nat) (l1 : Int32) (h : zHp) : Option (Int32 × zHp) :=
  ((zlen l0 h).bind fun x1 => (bN (f_J6_checkIndex n l1 x1 h) fun _ h3 => ((zaI [303] l0 l1 h3).bind fun x4 => (if ¬ (zi2c (x4 &&& (255 : Int32))) < 0 ∧ (zi2c (x4 &&& (255 : Int32))) < 65536 then some ((zi2c (x4 &&& (255 : Int32))), h3) else none))))
theorem w_J7_charAt {G : zG} {X : zX} {d : Nat} {h0 : zHp} (C : zC G X yJ7_charAt cJ7_charAt 2 d (some .char) h0) (hd : 3 ≤ d) (n : Nat) (l0 : Option Nat) (l1 : Int32) (h : zHp) : zS G X 2 0 [some (zR l0), some (zI l1)] [] h (f_J7_charAt n  l0 l1 h) (li lvI) := by
  unfold f_J7_charAt
  refine s_iload_n (pc := 0) C dJ7_charAt_0 rfl ?_
  refine s_aload_n (pc := 1) C dJ7_charAt_1 rfl ?_
  refine s_alen (pc := 2) C dJ7_charAt_2 (fun x1 _ => ?_)
  refine s_callN (pc := 3) (st := []) C lvU (t_J6_checkIndex (d := d - 1) (by omega) n l1 x1 h) (zce C kc_J6_checkIndex (by omega)) (zlkS C kc_J6_checkIndex ks_J7_9 dJ7_charAt_3 [zI l1, zI x1] rfl rfl) dJ7_charAt_3 (Nat.le_of_ble_eq_true rfl) (fun _ h3 _ => ?_)
  refine s_aload_n (pc := 6) C dJ7_charAt_6 rfl ?_
  refine s_iload_n (pc := 7) C dJ7_charAt_7 rfl ?_
  refine s_baload (pc := 8) C dJ7_charAt_8 (fun x4 _ => ?_)
  refine s_sipush (pc := 9) (v := (255 : Int32)) C dJ7_charAt_9 (by decide) ?_
  refine s_iand (pc := 12) C dJ7_charAt_12 ?_
  refine s_i2c (pc := 13) C dJ7_charAt_13 ?_
  exact s_creturn (pc := 14) C dJ7_charAt_14
theorem t_J7_charAt {G : zG} {d : Nat} (hd : 3 ≤ d) (n : Nat) (l0 : Option Nat) (l1 : Int32) (h : zHp) : zT G d yJ7_charAt (ws_ yJ7_charAt cJ7_charAt 2 (some .char)) [zR l0, zI l1] h (f_J7_charAt n l0 l1 h) (li lvI) := zT.of (by decide +kernel) 0 (L0 := [some (zR l0), some (zI l1)]) rfl (Nat.le_of_ble_eq_true rfl) (fun X C => w_J7_charAt C hd n l0 l1 h)
/-! java/lang/String.charAt(I)C -/
def f_J6_charAt (n : Nat) (a : Nat) (l1 : Int32) (h : zHp) : Option (Int32 × zHp) :=
  ((zrc [240] (some a) h).bind fun a1 => (bN (f_J6_isLatin1 n a1 h) fun x3 h4 => (if x3 = 0 then ((zfRo [240] 0 (some a) h4).bind fun r6 => none) else ((zfRo [240] 0 (some a) h4).bind fun r7 => (bN (f_J7_charAt n r7 l1 h4) fun x8 h9 => (if ¬ x8 < 0 ∧ x8 < 65536 then some (x8, h9) else none))))))
theorem w_J6_charAt {G : zG} {X : zX} {d : Nat} {h0 : zHp} (C : zC G X yJ6_charAt cJ6_charAt 2 d (some .char) h0) (hd : 4 ≤ d) (n : Nat) (a : Nat) (l1 : Int32) (h : zHp) : zS G X 2 0 [some (zR (some a)), some (zI l1)] [] h (f_J6_charAt n a  l1 h) (li lvI) := by
  unfold f_J6_charAt
  refine s_aload_n (pc := 0) C dJ6_charAt_0 rfl ?_
  refine s_rc (pc := 1) (fun a1 e_ z2 => ?_)
  cases e_
  refine s_callN (pc := 1) (st := []) C lvI (t_J6_isLatin1 (d := d - 1) (by omega) n a h) (zce C kc_J6_isLatin1 (by omega)) (zlk40 C kc_J6_isLatin1 k40_J6_492 dJ6_charAt_1 (zmem1 z2) [] rfl rfl) dJ6_charAt_1 (Nat.le_of_ble_eq_true rfl) (fun x3 h4 _ => ?_)
  refine s_if_eq (pc := 4) (tgt := 16) C dJ6_charAt_4 (by decide) (fun cn5 => ?_) (fun cn5 => ?_)
  · refine s_aload_n (pc := 16) C dJ6_charAt_16 rfl ?_
    refine s_getRs (pc := 17) C (by decide) fk_J6_9 dJ6_charAt_17 (fun r6 _ => ?_)
    refine s_iload_n (pc := 20) C dJ6_charAt_20 rfl ?_
    exact zS.none_
  · refine s_aload_n (pc := 7) C dJ6_charAt_7 rfl ?_
    refine s_getRs (pc := 8) C (by decide) fk_J6_9 dJ6_charAt_8 (fun r7 _ => ?_)
    refine s_iload_n (pc := 11) C dJ6_charAt_11 rfl ?_
    refine s_callN (pc := 12) (st := []) C lvI (t_J7_charAt (d := d - 1) (by omega) n r7 l1 h4) (zce C kc_J7_charAt (by omega)) (zlkS C kc_J7_charAt ks_J6_495 dJ6_charAt_12 [zR r7, zI l1] rfl rfl) dJ6_charAt_12 (Nat.le_of_ble_eq_true rfl) (fun x8 h9 _ => ?_)
    exact s_creturn (pc := 15) C dJ6_charAt_15
theorem t_J6_charAt {G : zG} {d : Nat} (hd : 4 ≤ d) (n : Nat) (a : Nat) (l1 : Int32) (h : zHp) : zT G d yJ6_charAt (ws_ yJ6_charAt cJ6_charAt 2 (some .char)) [zR (some a), zI l1] h (f_J6_charAt n a l1 h) (li lvI) := zT.of (by decide +kernel) 0 (L0 := [some (zR (some a)), some (zI l1)]) rfl (Nat.le_of_ble_eq_true rfl) (fun X C => w_J6_charAt C hd n a l1 h)
/-! java/lang/Exception.<init>()V -/
def f_J11_init (n : Nat) (a : Nat) (h : zHp) : Option (Unit × zHp) :=
  ((zthr a h).bind fun h1 => some ((), h1))
theorem w_J11_init {G : zG} {X : zX} {d : Nat} {h0 : zHp} (C : zC G X yJ11_init cJ11_init 1 d none h0) (hd : 3 ≤ d) (n : Nat) (a : Nat) (h : zHp) : zS G X 1 0 [some (zR (some a))] [] h (f_J11_init n a   h) (li lvU) := by
  unfold f_J11_init
  refine s_aload_n (pc := 0) C dJ11_init_0 rfl ?_
  refine s_thr (pc := 1) C (by omega) q799 dJ11_init_1 (Nat.le_of_ble_eq_true rfl) (fun h1 _ => ?_)
  exact s_return (pc := 4) C dJ11_init_4
theorem t_J11_init {G : zG} {d : Nat} (hd : 3 ≤ d) (n : Nat) (a : Nat) (h : zHp) : zT G d yJ11_init (ws_ yJ11_init cJ11_init 1 none) [zR (some a)] h (f_J11_init n a  h) (li lvU) := zT.of (by decide +kernel) 0 (L0 := [some (zR (some a))]) rfl (Nat.le_of_ble_eq_true rfl) (fun X C => w_J11_init C hd n a  h)
/-! java/lang/Number.<init>()V -/
def f_J12_init (n : Nat) (a : Nat) (h : zHp) : Option (Unit × zHp) :=
  some ((), h)
theorem w_J12_init {G : zG} {X : zX} {d : Nat} {h0 : zHp} (C : zC G X yJ12_init cJ12_init 1 d none h0) (hd : 1 ≤ d) (n : Nat) (a : Nat) (h : zHp) : zS G X 1 0 [some (zR (some a))] [] h (f_J12_init n a   h) (li lvU) := by
  unfold f_J12_init
  refine s_aload_n (pc := 0) C dJ12_init_0 rfl ?_
  refine s_objInit (pc := 1) C (by omega) q865 q175 q176 dJ12_init_1 (Nat.le_of_ble_eq_true rfl) ?_
  exact s_return (pc := 4) C dJ12_init_4
theorem t_J12_init {G : zG} {d : Nat} (hd : 1 ≤ d) (n : Nat) (a : Nat) (h : zHp) : zT G d yJ12_init (ws_ yJ12_init cJ12_init 1 none) [zR (some a)] h (f_J12_init n a  h) (li lvU) := zT.of (by decide +kernel) 0 (L0 := [some (zR (some a))]) rfl (Nat.le_of_ble_eq_true rfl) (fun X C => w_J12_init C hd n a  h)
/-! java/lang/Long.longValue()J -/
def f_J13_longValue (n : Nat) (a : Nat) (h : zHp) : Option (Int64 × zHp) :=
  ((zfJo [30, 230] 0 (some a) h).bind fun x1 => some (x1, h))
theorem w_J13_longValue {G : zG} {X : zX} {d : Nat} {h0 : zHp} (C : zC G X yJ13_longValue cJ13_longValue 1 d (some .long) h0) (hd : 1 ≤ d) (n : Nat) (a : Nat) (h : zHp) : zS G X 1 0 [some (zR (some a))] [] h (f_J13_longValue n a   h) (li lvJ) := by
  unfold f_J13_longValue
  refine s_aload_n (pc := 0) C dJ13_longValue_0 rfl ?_
  refine s_getJo (pc := 1) C fk_J13_273 dJ13_longValue_1 (fun x1 _ => ?_)
  exact s_lreturn (pc := 4) C dJ13_longValue_4
theorem t_J13_longValue {G : zG} {d : Nat} (hd : 1 ≤ d) (n : Nat) (a : Nat) (h : zHp) : zT G d yJ13_longValue (ws_ yJ13_longValue cJ13_longValue 1 (some .long)) [zR (some a)] h (f_J13_longValue n a  h) (li lvJ) := zT.of (by decide +kernel) 0 (L0 := [some (zR (some a))]) rfl (Nat.le_of_ble_eq_true rfl) (fun X C => w_J13_longValue C hd n a  h)
/-! java/lang/Long.<init>(J)V -/
def f_J13_init (n : Nat) (a : Nat) (l1 : Int64) (h : zHp) : Option (Unit × zHp) :=
  (bN (f_J12_init n a h) fun _ h2 => ((zpf [30] 0 (some a) (zJ l1) h2).bind fun h3 => some ((), h3)))
theorem w_J13_init {G : zG} {X : zX} {d : Nat} {h0 : zHp} (C : zC G X yJ13_init cJ13_init 3 d none h0) (hd : 2 ≤ d) (n : Nat) (a : Nat) (l1 : Int64) (h : zHp) : zS G X 3 0 [some (zR (some a)), some (zJ l1), none] [] h (f_J13_init n a  l1 h) (li lvU) := by
  unfold f_J13_init
  refine s_aload_n (pc := 0) C dJ13_init_0 rfl ?_
  refine s_callN (pc := 1) (st := []) C lvU (t_J12_init (d := d - 1) (by omega) n a h) (zce C kc_J12_init (by omega)) (zlkI C kc_J12_init ki_J13_270 dJ13_init_1 [] rfl rfl) dJ13_init_1 (Nat.le_of_ble_eq_true rfl) (fun _ h2 _ => ?_)
  refine s_aload_n (pc := 4) C dJ13_init_4 rfl ?_
  refine s_lload_n (pc := 5) C dJ13_init_5 rfl ?_
  refine s_putJ (pc := 6) C pk_J13_init_273 dJ13_init_6 (fun h3 _ => ?_)
  exact s_return (pc := 9) C dJ13_init_9
theorem t_J13_init {G : zG} {d : Nat} (hd : 2 ≤ d) (n : Nat) (a : Nat) (l1 : Int64) (h : zHp) : zT G d yJ13_init (ws_ yJ13_init cJ13_init 3 none) [zR (some a), zJ l1] h (f_J13_init n a l1 h) (li lvU) := zT.of (by decide +kernel) 0 (L0 := [some (zR (some a)), some (zJ l1), none]) rfl (Nat.le_of_ble_eq_true rfl) (fun X C => w_J13_init C hd n a l1 h)
/-! java/lang/Long.valueOf(J)Ljava/lang/Long; -/
def f_J13_valueOf_L31 (n : Nat) (l0 : Int64) (h : zHp) : Option (Option Nat × zHp) :=
  (bN (znew 30 1 (fun k => zdv (tyJ13 k)) h) fun a1 h2 => (bN (f_J13_init n a1 l0 h2) fun _ h4 => some ((some a1), h4)))
def f_J13_valueOf (n : Nat) (l0 : Int64) (h : zHp) : Option (Option Nat × zHp) :=
  (if (lg_cmp l0 (-128 : Int64)) < 0 then f_J13_valueOf_L31 n l0 h else (if 0 < (lg_cmp l0 (127 : Int64)) then f_J13_valueOf_L31 n l0 h else ((zgR 4 h).bind fun r3 => ((zaR zra r3 ((l0.toInt32) + (128 : Int32)) h).bind fun r4 => some (r4, h)))))
theorem w_J13_valueOf_L31 {G : zG} {X : zX} {d : Nat} {h0 : zHp} (C : zC G X yJ13_valueOf cJ13_valueOf 3 d (some (.object "java/lang/Long")) h0) (hd : 3 ≤ d) (n : Nat) (l0 : Int64) (h : zHp) : zS G X 3 31 [some (zJ l0), none, none] [] h (f_J13_valueOf_L31 n  l0 h) (li lvR) := by
  unfold f_J13_valueOf_L31
  refine s_new (pc := 31) C nk_J13_1 dJ13_valueOf_31 (fun a1 h2 _ => ?_)
  refine s_dup (pc := 34) C dJ13_valueOf_34 rfl ?_
  refine s_lload_n (pc := 35) C dJ13_valueOf_35 rfl ?_
  refine s_callN (pc := 36) (st := [zR (some a1)]) C lvU (t_J13_init (d := d - 1) (by omega) n a1 l0 h2) (zce C kc_J13_init (by omega)) (zlkI C kc_J13_init ki_J13_240 dJ13_valueOf_36 [zJ l0] rfl rfl) dJ13_valueOf_36 (Nat.le_of_ble_eq_true rfl) (fun _ h4 _ => ?_)
  exact s_areturn (pc := 39) (rt := (.object "java/lang/Long")) C rfl (Or.inl ⟨_, rfl⟩) dJ13_valueOf_39
theorem w_J13_valueOf {G : zG} {X : zX} {d : Nat} {h0 : zHp} (C : zC G X yJ13_valueOf cJ13_valueOf 3 d (some (.object "java/lang/Long")) h0) (hd : 3 ≤ d) (n : Nat) (l0 : Int64) (h : zHp) : zS G X 3 0 [some (zJ l0), none, none] [] h (f_J13_valueOf n  l0 h) (li lvR) := by
  unfold f_J13_valueOf
  refine s_sipush (pc := 0) (v := (128 : Int32)) C dJ13_valueOf_0 (by decide) ?_
  refine s_istore_n (pc := 3) (L' := [some (zJ l0), none, some (zI (128 : Int32))]) C dJ13_valueOf_3 (by decide) rfl ?_
  refine s_lload_n (pc := 4) C dJ13_valueOf_4 rfl ?_
  refine s_ldc2 (pc := 5) C q853 dJ13_valueOf_5 ?_
  refine s_lcmp (pc := 8) C dJ13_valueOf_8 ?_
  refine s_if_lt (pc := 9) (tgt := 31) C dJ13_valueOf_9 (by decide) (fun cn1 => ?_) (fun cn1 => ?_)
  · refine zS.weak [true, false, false] rfl ?_
    exact w_J13_valueOf_L31 C hd n l0 h
  · refine s_lload_n (pc := 12) C dJ13_valueOf_12 rfl ?_
    refine s_ldc2 (pc := 13) C q854 dJ13_valueOf_13 ?_
    refine s_lcmp (pc := 16) C dJ13_valueOf_16 ?_
    refine s_if_gt (pc := 17) (tgt := 31) C dJ13_valueOf_17 (by decide) (fun cn2 => ?_) (fun cn2 => ?_)
    · refine zS.weak [true, false, false] rfl ?_
      exact w_J13_valueOf_L31 C hd n l0 h
    · refine s_getsR (pc := 20) C gk_J13_234 dJ13_valueOf_20 (fun r3 _ => ?_)
      refine s_lload_n (pc := 23) C dJ13_valueOf_23 rfl ?_
      refine s_l2i (pc := 24) C dJ13_valueOf_24 ?_
      refine s_sipush (pc := 25) (v := (128 : Int32)) C dJ13_valueOf_25 (by decide) ?_
      refine s_iadd (pc := 28) C dJ13_valueOf_28 ?_
      refine s_aaload (pc := 29) C dJ13_valueOf_29 (fun r4 _ => ?_)
      exact s_areturn (pc := 30) (rt := (.object "java/lang/Long")) C rfl (Or.inl ⟨_, rfl⟩) dJ13_valueOf_30
theorem t_J13_valueOf {G : zG} {d : Nat} (hd : 3 ≤ d) (n : Nat) (l0 : Int64) (h : zHp) : zT G d yJ13_valueOf (ws_ yJ13_valueOf cJ13_valueOf 3 (some (.object "java/lang/Long"))) [zJ l0] h (f_J13_valueOf n l0 h) (li lvR) := zT.of (by decide +kernel) 1 (L0 := [some (zJ l0), none, none]) rfl (Nat.le_of_ble_eq_true rfl) (fun X C => w_J13_valueOf C hd n l0 h)
/-! java/lang/Integer.intValue()I -/
def f_J16_intValue (n : Nat) (a : Nat) (h : zHp) : Option (Int32 × zHp) :=
  ((zfIo [31, 231] 0 (some a) h).bind fun x1 => some (x1, h))
theorem w_J16_intValue {G : zG} {X : zX} {d : Nat} {h0 : zHp} (C : zC G X yJ16_intValue cJ16_intValue 1 d (some .int) h0) (hd : 1 ≤ d) (n : Nat) (a : Nat) (h : zHp) : zS G X 1 0 [some (zR (some a))] [] h (f_J16_intValue n a   h) (li lvI) := by
  unfold f_J16_intValue
  refine s_aload_n (pc := 0) C dJ16_intValue_0 rfl ?_
  refine s_getIo (pc := 1) C fk_J16_205 dJ16_intValue_1 (fun x1 _ => ?_)
  exact s_ireturn (pc := 4) C dJ16_intValue_4
theorem t_J16_intValue {G : zG} {d : Nat} (hd : 1 ≤ d) (n : Nat) (a : Nat) (h : zHp) : zT G d yJ16_intValue (ws_ yJ16_intValue cJ16_intValue 1 (some .int)) [zR (some a)] h (f_J16_intValue n a  h) (li lvI) := zT.of (by decide +kernel) 0 (L0 := [some (zR (some a))]) rfl (Nat.le_of_ble_eq_true rfl) (fun X C => w_J16_intValue C hd n a  h)
/-! java/lang/Integer.<init>(I)V -/
def f_J16_init (n : Nat) (a : Nat) (l1 : Int32) (h : zHp) : Option (Unit × zHp) :=
  (bN (f_J12_init n a h) fun _ h2 => ((zpf [31] 0 (some a) (zI l1) h2).bind fun h3 => some ((), h3)))
theorem w_J16_init {G : zG} {X : zX} {d : Nat} {h0 : zHp} (C : zC G X yJ16_init cJ16_init 2 d none h0) (hd : 2 ≤ d) (n : Nat) (a : Nat) (l1 : Int32) (h : zHp) : zS G X 2 0 [some (zR (some a)), some (zI l1)] [] h (f_J16_init n a  l1 h) (li lvU) := by
  unfold f_J16_init
  refine s_aload_n (pc := 0) C dJ16_init_0 rfl ?_
  refine s_callN (pc := 1) (st := []) C lvU (t_J12_init (d := d - 1) (by omega) n a h) (zce C kc_J12_init (by omega)) (zlkI C kc_J12_init ki_J16_202 dJ16_init_1 [] rfl rfl) dJ16_init_1 (Nat.le_of_ble_eq_true rfl) (fun _ h2 _ => ?_)
  refine s_aload_n (pc := 4) C dJ16_init_4 rfl ?_
  refine s_iload_n (pc := 5) C dJ16_init_5 rfl ?_
  refine s_putI (pc := 6) C pk_J16_init_205 dJ16_init_6 (fun h3 _ => ?_)
  exact s_return (pc := 9) C dJ16_init_9
theorem t_J16_init {G : zG} {d : Nat} (hd : 2 ≤ d) (n : Nat) (a : Nat) (l1 : Int32) (h : zHp) : zT G d yJ16_init (ws_ yJ16_init cJ16_init 2 none) [zR (some a), zI l1] h (f_J16_init n a l1 h) (li lvU) := zT.of (by decide +kernel) 0 (L0 := [some (zR (some a)), some (zI l1)]) rfl (Nat.le_of_ble_eq_true rfl) (fun X C => w_J16_init C hd n a l1 h)
/-! java/lang/Integer.valueOf(I)Ljava/lang/Integer; -/
def f_J16_valueOf_L23 (n : Nat) (l0 : Int32) (h : zHp) : Option (Option Nat × zHp) :=
  (bN (znew 31 1 (fun k => zdv (tyJ16 k)) h) fun a1 h2 => (bN (f_J16_init n a1 l0 h2) fun _ h4 => some ((some a1), h4)))
def f_J16_valueOf (n : Nat) (l0 : Int32) (h : zHp) : Option (Option Nat × zHp) :=
  (if l0 < (-128 : Int32) then f_J16_valueOf_L23 n l0 h else ((zgI 2 h).bind fun x2 => (if x2 < l0 then f_J16_valueOf_L23 n l0 h else ((zgR 3 h).bind fun r4 => ((zaR zra r4 (l0 + (128 : Int32)) h).bind fun r5 => some (r5, h))))))
theorem w_J16_valueOf_L23 {G : zG} {X : zX} {d : Nat} {h0 : zHp} (C : zC G X yJ16_valueOf cJ16_valueOf 1 d (some (.object "java/lang/Integer")) h0) (hd : 3 ≤ d) (n : Nat) (l0 : Int32) (h : zHp) : zS G X 1 23 [some (zI l0)] [] h (f_J16_valueOf_L23 n  l0 h) (li lvR) := by
  unfold f_J16_valueOf_L23
  refine s_new (pc := 23) C nk_J16_1 dJ16_valueOf_23 (fun a1 h2 _ => ?_)
  refine s_dup (pc := 26) C dJ16_valueOf_26 rfl ?_
  refine s_iload_n (pc := 27) C dJ16_valueOf_27 rfl ?_
  refine s_callN (pc := 28) (st := [zR (some a1)]) C lvU (t_J16_init (d := d - 1) (by omega) n a1 l0 h2) (zce C kc_J16_init (by omega)) (zlkI C kc_J16_init ki_J16_199 dJ16_valueOf_28 [zI l0] rfl rfl) dJ16_valueOf_28 (Nat.le_of_ble_eq_true rfl) (fun _ h4 _ => ?_)
  exact s_areturn (pc := 31) (rt := (.object "java/lang/Integer")) C rfl (Or.inl ⟨_, rfl⟩) dJ16_valueOf_31
theorem w_J16_valueOf {G : zG} {X : zX} {d : Nat} {h0 : zHp} (C : zC G X yJ16_valueOf cJ16_valueOf 1 d (some (.object "java/lang/Integer")) h0) (hd : 3 ≤ d) (n : Nat) (l0 : Int32) (h : zHp) : zS G X 1 0 [some (zI l0)] [] h (f_J16_valueOf n  l0 h) (li lvR) := by
  unfold f_J16_valueOf
  refine s_iload_n (pc := 0) C dJ16_valueOf_0 rfl ?_
  refine s_bipush (pc := 1) (v := (-128 : Int32)) C dJ16_valueOf_1 (by decide) ?_
  refine s_icmp_lt (pc := 3) (tgt := 23) C dJ16_valueOf_3 (by decide) (fun cn1 => ?_) (fun cn1 => ?_)
  · exact w_J16_valueOf_L23 C hd n l0 h
  · refine s_iload_n (pc := 6) C dJ16_valueOf_6 rfl ?_
    refine s_getsI (pc := 7) C gk_J16_191 dJ16_valueOf_7 (fun x2 _ => ?_)
    refine s_icmp_gt (pc := 10) (tgt := 23) C dJ16_valueOf_10 (by decide) (fun cn3 => ?_) (fun cn3 => ?_)
    · exact w_J16_valueOf_L23 C hd n l0 h
    · refine s_getsR (pc := 13) C gk_J16_195 dJ16_valueOf_13 (fun r4 _ => ?_)
      refine s_iload_n (pc := 16) C dJ16_valueOf_16 rfl ?_
      refine s_sipush (pc := 17) (v := (128 : Int32)) C dJ16_valueOf_17 (by decide) ?_
      refine s_iadd (pc := 20) C dJ16_valueOf_20 ?_
      refine s_aaload (pc := 21) C dJ16_valueOf_21 (fun r5 _ => ?_)
      exact s_areturn (pc := 22) (rt := (.object "java/lang/Integer")) C rfl (Or.inl ⟨_, rfl⟩) dJ16_valueOf_22
theorem t_J16_valueOf {G : zG} {d : Nat} (hd : 3 ≤ d) (n : Nat) (l0 : Int32) (h : zHp) : zT G d yJ16_valueOf (ws_ yJ16_valueOf cJ16_valueOf 1 (some (.object "java/lang/Integer"))) [zI l0] h (f_J16_valueOf n l0 h) (li lvR) := zT.of (by decide +kernel) 0 (L0 := [some (zI l0)]) rfl (Nat.le_of_ble_eq_true rfl) (fun X C => w_J16_valueOf C hd n l0 h)
/-! java/lang/RuntimeException.<init>()V -/
def f_J17_init (n : Nat) (a : Nat) (h : zHp) : Option (Unit × zHp) :=
  (bN (f_J11_init n a h) fun _ h2 => some ((), h2))
theorem w_J17_init {G : zG} {X : zX} {d : Nat} {h0 : zHp} (C : zC G X yJ17_init cJ17_init 1 d none h0) (hd : 4 ≤ d) (n : Nat) (a : Nat) (h : zHp) : zS G X 1 0 [some (zR (some a))] [] h (f_J17_init n a   h) (li lvU) := by
  unfold f_J17_init
  refine s_aload_n (pc := 0) C dJ17_init_0 rfl ?_
  refine s_callN (pc := 1) (st := []) C lvU (t_J11_init (d := d - 1) (by omega) n a h) (zce C kc_J11_init (by omega)) (zlkI C kc_J11_init ki_J17_1 dJ17_init_1 [] rfl rfl) dJ17_init_1 (Nat.le_of_ble_eq_true rfl) (fun _ h2 _ => ?_)
  exact s_return (pc := 4) C dJ17_init_4
theorem t_J17_init {G : zG} {d : Nat} (hd : 4 ≤ d) (n : Nat) (a : Nat) (h : zHp) : zT G d yJ17_init (ws_ yJ17_init cJ17_init 1 none) [zR (some a)] h (f_J17_init n a  h) (li lvU) := zT.of (by decide +kernel) 0 (L0 := [some (zR (some a))]) rfl (Nat.le_of_ble_eq_true rfl) (fun X C => w_J17_init C hd n a  h)
/-! java/util/NoSuchElementException.<init>()V -/
def f_J18_init (n : Nat) (a : Nat) (h : zHp) : Option (Unit × zHp) :=
  (bN (f_J17_init n a h) fun _ h2 => some ((), h2))
theorem w_J18_init {G : zG} {X : zX} {d : Nat} {h0 : zHp} (C : zC G X yJ18_init cJ18_init 1 d none h0) (hd : 5 ≤ d) (n : Nat) (a : Nat) (h : zHp) : zS G X 1 0 [some (zR (some a))] [] h (f_J18_init n a   h) (li lvU) := by
  unfold f_J18_init
  refine s_aload_n (pc := 0) C dJ18_init_0 rfl ?_
  refine s_callN (pc := 1) (st := []) C lvU (t_J17_init (d := d - 1) (by omega) n a h) (zce C kc_J17_init (by omega)) (zlkI C kc_J17_init ki_J18_1 dJ18_init_1 [] rfl rfl) dJ18_init_1 (Nat.le_of_ble_eq_true rfl) (fun _ h2 _ => ?_)
  exact s_return (pc := 4) C dJ18_init_4
theorem t_J18_init {G : zG} {d : Nat} (hd : 5 ≤ d) (n : Nat) (a : Nat) (h : zHp) : zT G d yJ18_init (ws_ yJ18_init cJ18_init 1 none) [zR (some a)] h (f_J18_init n a  h) (li lvU) := zT.of (by decide +kernel) 0 (L0 := [some (zR (some a))]) rfl (Nat.le_of_ble_eq_true rfl) (fun X C => w_J18_init C hd n a  h)
