/-! decode rows (out of claim/names) -/
set_option maxRecDepth 100000
theorem dJ4_init_0 : decode cJ4_init 0 = .ok (.aload_n 0, 1) := by decide +kernel
theorem dJ4_init_1 : decode cJ4_init 1 = .ok (.invokespecial 1, 3) := by decide +kernel
theorem dJ4_init_4 : decode cJ4_init 4 = .ok (.return_, 1) := by decide +kernel
def dkwJ5_init_0 : List UInt8 := [42, 183, 0, 1, 42, 3, 181, 0, 7, 177]
abbrev dktJ5_init_0 : List UInt8 := dkwJ5_init_0 ++ []
theorem dksJ5_init_0 : cJ5_init.data.toList.drop 0 = dktJ5_init_0 := by decide +kernel
theorem dJ5_init_0 : decode cJ5_init 0 = .ok (.aload_n 0, 1) := dk_42 (dk_at dksJ5_init_0 0 rfl rfl)
theorem dJ5_init_1 : decode cJ5_init 1 = .ok (.invokespecial 1, 3) := dk_183 0 1 (dk_at dksJ5_init_0 1 rfl rfl)
theorem dJ5_init_4 : decode cJ5_init 4 = .ok (.aload_n 0, 1) := dk_42 (dk_at dksJ5_init_0 4 rfl rfl)
theorem dJ5_init_5 : decode cJ5_init 5 = .ok (.iconst 0, 1) := dk_3 (dk_at dksJ5_init_0 5 rfl rfl)
theorem dJ5_init_6 : decode cJ5_init 6 = .ok (.putfield 7, 3) := dk_181 0 7 (dk_at dksJ5_init_0 6 rfl rfl)
theorem dJ5_init_9 : decode cJ5_init 9 = .ok (.return_, 1) := dk_177 (dk_at dksJ5_init_0 9 rfl rfl)
def dkwJ6_init_0 : List UInt8 := [42, 183, 0, 1, 42, 178, 0, 39, 181, 0, 9, 177]
abbrev dktJ6_init_0 : List UInt8 := dkwJ6_init_0 ++ []
theorem dksJ6_init_0 : cJ6_init.data.toList.drop 0 = dktJ6_init_0 := by decide +kernel
theorem dJ6_init_0 : decode cJ6_init 0 = .ok (.aload_n 0, 1) := dk_42 (dk_at dksJ6_init_0 0 rfl rfl)
theorem dJ6_init_1 : decode cJ6_init 1 = .ok (.invokespecial 1, 3) := dk_183 0 1 (dk_at dksJ6_init_0 1 rfl rfl)
theorem dJ6_init_4 : decode cJ6_init 4 = .ok (.aload_n 0, 1) := dk_42 (dk_at dksJ6_init_0 4 rfl rfl)
theorem dJ6_init_5 : decode cJ6_init 5 = .ok (.getstatic 39, 3) := dk_178 0 39 (dk_at dksJ6_init_0 5 rfl rfl)
theorem dJ6_init_8 : decode cJ6_init 8 = .ok (.putfield 9, 3) := dk_181 0 9 (dk_at dksJ6_init_0 8 rfl rfl)
theorem dJ6_init_11 : decode cJ6_init 11 = .ok (.return_, 1) := dk_177 (dk_at dksJ6_init_0 11 rfl rfl)
def dkwJ6_init_2_2 : List UInt8 := [182, 0, 25, 27, 182, 0, 29, 182, 0, 32, 183, 0, 36, 191, 177]
abbrev dktJ6_init_2_2 : List UInt8 := dkwJ6_init_2_2 ++ []
def dkwJ6_init_2_1 : List UInt8 := [178, 0, 15, 181, 0, 9, 167, 0, 30, 187, 0, 18, 89, 187, 0, 20, 89, 183, 0, 22, 18, 23]
abbrev dktJ6_init_2_1 : List UInt8 := dkwJ6_init_2_1 ++ dktJ6_init_2_2
def dkwJ6_init_2_0 : List UInt8 := [42, 183, 0, 1, 27, 158, 0, 14, 42, 27, 189, 0, 7, 181, 0, 9, 167, 0, 44, 27, 154, 0, 13, 42]
abbrev dktJ6_init_2_0 : List UInt8 := dkwJ6_init_2_0 ++ dktJ6_init_2_1
theorem dksJ6_init_2_0 : cJ6_init_2.data.toList.drop 0 = dktJ6_init_2_0 := by decide +kernel
theorem dksJ6_init_2_1 : cJ6_init_2.data.toList.drop 24 = dktJ6_init_2_1 := dk_seg dksJ6_init_2_0 24 rfl rfl
theorem dksJ6_init_2_2 : cJ6_init_2.data.toList.drop 46 = dktJ6_init_2_2 := dk_seg dksJ6_init_2_1 22 rfl rfl
theorem dJ6_init_2_0 : decode cJ6_init_2 0 = .ok (.aload_n 0, 1) := dk_42 (dk_at dksJ6_init_2_0 0 rfl rfl)
theorem dJ6_init_2_1 : decode cJ6_init_2 1 = .ok (.invokespecial 1, 3) := dk_183 0 1 (dk_at dksJ6_init_2_0 1 rfl rfl)
theorem dJ6_init_2_4 : decode cJ6_init_2 4 = .ok (.iload_n 1, 1) := dk_27 (dk_at dksJ6_init_2_0 4 rfl rfl)
theorem dJ6_init_2_5 : decode cJ6_init_2 5 = .ok (.ifCond .le 14, 3) := dk_158 0 14 (dk_at dksJ6_init_2_0 5 rfl rfl)
theorem dJ6_init_2_8 : decode cJ6_init_2 8 = .ok (.aload_n 0, 1) := dk_42 (dk_at dksJ6_init_2_0 8 rfl rfl)
theorem dJ6_init_2_9 : decode cJ6_init_2 9 = .ok (.iload_n 1, 1) := dk_27 (dk_at dksJ6_init_2_0 9 rfl rfl)
theorem dJ6_init_2_10 : decode cJ6_init_2 10 = .ok (.anewarray 7, 3) := dk_189 0 7 (dk_at dksJ6_init_2_0 10 rfl rfl)
theorem dJ6_init_2_13 : decode cJ6_init_2 13 = .ok (.putfield 9, 3) := dk_181 0 9 (dk_at dksJ6_init_2_0 13 rfl rfl)
theorem dJ6_init_2_16 : decode cJ6_init_2 16 = .ok (.goto 44, 3) := dk_167 0 44 (dk_at dksJ6_init_2_0 16 rfl rfl)
theorem dJ6_init_2_19 : decode cJ6_init_2 19 = .ok (.iload_n 1, 1) := dk_27 (dk_at dksJ6_init_2_0 19 rfl rfl)
theorem dJ6_init_2_20 : decode cJ6_init_2 20 = .ok (.ifCond .ne 13, 3) := dk_154 0 13 (dk_at dksJ6_init_2_0 20 rfl rfl)
theorem dJ6_init_2_23 : decode cJ6_init_2 23 = .ok (.aload_n 0, 1) := dk_42 (dk_at dksJ6_init_2_0 23 rfl rfl)
theorem dJ6_init_2_24 : decode cJ6_init_2 24 = .ok (.getstatic 15, 3) := dk_178 0 15 (dk_at dksJ6_init_2_1 0 rfl rfl)
theorem dJ6_init_2_27 : decode cJ6_init_2 27 = .ok (.putfield 9, 3) := dk_181 0 9 (dk_at dksJ6_init_2_1 3 rfl rfl)
theorem dJ6_init_2_30 : decode cJ6_init_2 30 = .ok (.goto 30, 3) := dk_167 0 30 (dk_at dksJ6_init_2_1 6 rfl rfl)
theorem dJ6_init_2_33 : decode cJ6_init_2 33 = .ok (.new 18, 3) := dk_187 0 18 (dk_at dksJ6_init_2_1 9 rfl rfl)
theorem dJ6_init_2_36 : decode cJ6_init_2 36 = .ok (.dup, 1) := dk_89 (dk_at dksJ6_init_2_1 12 rfl rfl)
theorem dJ6_init_2_37 : decode cJ6_init_2 37 = .ok (.new 20, 3) := dk_187 0 20 (dk_at dksJ6_init_2_1 13 rfl rfl)
theorem dJ6_init_2_40 : decode cJ6_init_2 40 = .ok (.dup, 1) := dk_89 (dk_at dksJ6_init_2_1 16 rfl rfl)
theorem dJ6_init_2_41 : decode cJ6_init_2 41 = .ok (.invokespecial 22, 3) := dk_183 0 22 (dk_at dksJ6_init_2_1 17 rfl rfl)
theorem dJ6_init_2_44 : decode cJ6_init_2 44 = .ok (.ldc 23, 2) := dk_18 23 (dk_at dksJ6_init_2_1 20 rfl rfl)
theorem dJ6_init_2_46 : decode cJ6_init_2 46 = .ok (.invokevirtual 25, 3) := dk_182 0 25 (dk_at dksJ6_init_2_2 0 rfl rfl)
theorem dJ6_init_2_49 : decode cJ6_init_2 49 = .ok (.iload_n 1, 1) := dk_27 (dk_at dksJ6_init_2_2 3 rfl rfl)
theorem dJ6_init_2_50 : decode cJ6_init_2 50 = .ok (.invokevirtual 29, 3) := dk_182 0 29 (dk_at dksJ6_init_2_2 4 rfl rfl)
theorem dJ6_init_2_53 : decode cJ6_init_2 53 = .ok (.invokevirtual 32, 3) := dk_182 0 32 (dk_at dksJ6_init_2_2 7 rfl rfl)
theorem dJ6_init_2_56 : decode cJ6_init_2 56 = .ok (.invokespecial 36, 3) := dk_183 0 36 (dk_at dksJ6_init_2_2 10 rfl rfl)
theorem dJ6_init_2_59 : decode cJ6_init_2 59 = .ok (.athrow, 1) := dk_191 (dk_at dksJ6_init_2_2 13 rfl rfl)
theorem dJ6_init_2_60 : decode cJ6_init_2 60 = .ok (.return_, 1) := dk_177 (dk_at dksJ6_init_2_2 14 rfl rfl)
theorem dJ6_size_0 : decode cJ6_size 0 = .ok (.aload_n 0, 1) := by decide +kernel
theorem dJ6_size_1 : decode cJ6_size 1 = .ok (.getfield 48, 3) := by decide +kernel
theorem dJ6_size_4 : decode cJ6_size 4 = .ok (.ireturn, 1) := by decide +kernel
def dkwJ6_get_0 : List UInt8 := [27, 42, 180, 0, 48, 184, 0, 118, 87, 42, 27, 182, 0, 123, 176]
abbrev dktJ6_get_0 : List UInt8 := dkwJ6_get_0 ++ []
theorem dksJ6_get_0 : cJ6_get.data.toList.drop 0 = dktJ6_get_0 := by decide +kernel
theorem dJ6_get_0 : decode cJ6_get 0 = .ok (.iload_n 1, 1) := dk_27 (dk_at dksJ6_get_0 0 rfl rfl)
theorem dJ6_get_1 : decode cJ6_get 1 = .ok (.aload_n 0, 1) := dk_42 (dk_at dksJ6_get_0 1 rfl rfl)
theorem dJ6_get_2 : decode cJ6_get 2 = .ok (.getfield 48, 3) := dk_180 0 48 (dk_at dksJ6_get_0 2 rfl rfl)
theorem dJ6_get_5 : decode cJ6_get 5 = .ok (.invokestatic 118, 3) := dk_184 0 118 (dk_at dksJ6_get_0 5 rfl rfl)
theorem dJ6_get_8 : decode cJ6_get 8 = .ok (.pop, 1) := dk_87 (dk_at dksJ6_get_0 8 rfl rfl)
theorem dJ6_get_9 : decode cJ6_get 9 = .ok (.aload_n 0, 1) := dk_42 (dk_at dksJ6_get_0 9 rfl rfl)
theorem dJ6_get_10 : decode cJ6_get 10 = .ok (.iload_n 1, 1) := dk_27 (dk_at dksJ6_get_0 10 rfl rfl)
theorem dJ6_get_11 : decode cJ6_get 11 = .ok (.invokevirtual 123, 3) := dk_182 0 123 (dk_at dksJ6_get_0 11 rfl rfl)
theorem dJ6_get_14 : decode cJ6_get 14 = .ok (.areturn, 1) := dk_176 (dk_at dksJ6_get_0 14 rfl rfl)
def dkwJ6_elementData_0 : List UInt8 := [42, 180, 0, 9, 27, 50, 176]
abbrev dktJ6_elementData_0 : List UInt8 := dkwJ6_elementData_0 ++ []
theorem dksJ6_elementData_0 : cJ6_elementData.data.toList.drop 0 = dktJ6_elementData_0 := by decide +kernel
theorem dJ6_elementData_0 : decode cJ6_elementData 0 = .ok (.aload_n 0, 1) := dk_42 (dk_at dksJ6_elementData_0 0 rfl rfl)
theorem dJ6_elementData_1 : decode cJ6_elementData 1 = .ok (.getfield 9, 3) := dk_180 0 9 (dk_at dksJ6_elementData_0 1 rfl rfl)
theorem dJ6_elementData_4 : decode cJ6_elementData 4 = .ok (.iload_n 1, 1) := dk_27 (dk_at dksJ6_elementData_0 4 rfl rfl)
theorem dJ6_elementData_5 : decode cJ6_elementData 5 = .ok (.aaload, 1) := dk_50 (dk_at dksJ6_elementData_0 5 rfl rfl)
theorem dJ6_elementData_6 : decode cJ6_elementData 6 = .ok (.areturn, 1) := dk_176 (dk_at dksJ6_elementData_0 6 rfl rfl)
def dkwJ6_add_1 : List UInt8 := [172]
abbrev dktJ6_add_1 : List UInt8 := dkwJ6_add_1 ++ []
def dkwJ6_add_0 : List UInt8 := [42, 89, 180, 0, 63, 4, 96, 181, 0, 63, 42, 43, 42, 180, 0, 9, 42, 180, 0, 48, 182, 0, 131, 4]
abbrev dktJ6_add_0 : List UInt8 := dkwJ6_add_0 ++ dktJ6_add_1
theorem dksJ6_add_0 : cJ6_add.data.toList.drop 0 = dktJ6_add_0 := by decide +kernel
theorem dksJ6_add_1 : cJ6_add.data.toList.drop 24 = dktJ6_add_1 := dk_seg dksJ6_add_0 24 rfl rfl
theorem dJ6_add_0 : decode cJ6_add 0 = .ok (.aload_n 0, 1) := dk_42 (dk_at dksJ6_add_0 0 rfl rfl)
theorem dJ6_add_1 : decode cJ6_add 1 = .ok (.dup, 1) := dk_89 (dk_at dksJ6_add_0 1 rfl rfl)
theorem dJ6_add_2 : decode cJ6_add 2 = .ok (.getfield 63, 3) := dk_180 0 63 (dk_at dksJ6_add_0 2 rfl rfl)
theorem dJ6_add_5 : decode cJ6_add 5 = .ok (.iconst 1, 1) := dk_4 (dk_at dksJ6_add_0 5 rfl rfl)
theorem dJ6_add_6 : decode cJ6_add 6 = .ok (.iadd, 1) := dk_96 (dk_at dksJ6_add_0 6 rfl rfl)
theorem dJ6_add_7 : decode cJ6_add 7 = .ok (.putfield 63, 3) := dk_181 0 63 (dk_at dksJ6_add_0 7 rfl rfl)
theorem dJ6_add_10 : decode cJ6_add 10 = .ok (.aload_n 0, 1) := dk_42 (dk_at dksJ6_add_0 10 rfl rfl)
theorem dJ6_add_11 : decode cJ6_add 11 = .ok (.aload_n 1, 1) := dk_43 (dk_at dksJ6_add_0 11 rfl rfl)
theorem dJ6_add_12 : decode cJ6_add 12 = .ok (.aload_n 0, 1) := dk_42 (dk_at dksJ6_add_0 12 rfl rfl)
theorem dJ6_add_13 : decode cJ6_add 13 = .ok (.getfield 9, 3) := dk_180 0 9 (dk_at dksJ6_add_0 13 rfl rfl)
theorem dJ6_add_16 : decode cJ6_add 16 = .ok (.aload_n 0, 1) := dk_42 (dk_at dksJ6_add_0 16 rfl rfl)
theorem dJ6_add_17 : decode cJ6_add 17 = .ok (.getfield 48, 3) := dk_180 0 48 (dk_at dksJ6_add_0 17 rfl rfl)
theorem dJ6_add_20 : decode cJ6_add 20 = .ok (.invokevirtual 131, 3) := dk_182 0 131 (dk_at dksJ6_add_0 20 rfl rfl)
theorem dJ6_add_23 : decode cJ6_add 23 = .ok (.iconst 1, 1) := dk_4 (dk_at dksJ6_add_0 23 rfl rfl)
theorem dJ6_add_24 : decode cJ6_add 24 = .ok (.ireturn, 1) := dk_172 (dk_at dksJ6_add_1 0 rfl rfl)
def dkwJ6_add_2_0 : List UInt8 := [29, 44, 190, 160, 0, 8, 42, 182, 0, 129, 77, 44, 29, 43, 83, 42, 29, 4, 96, 181, 0, 48, 177]
abbrev dktJ6_add_2_0 : List UInt8 := dkwJ6_add_2_0 ++ []
theorem dksJ6_add_2_0 : cJ6_add_2.data.toList.drop 0 = dktJ6_add_2_0 := by decide +kernel
theorem dJ6_add_2_0 : decode cJ6_add_2 0 = .ok (.iload_n 3, 1) := dk_29 (dk_at dksJ6_add_2_0 0 rfl rfl)
theorem dJ6_add_2_1 : decode cJ6_add_2 1 = .ok (.aload_n 2, 1) := dk_44 (dk_at dksJ6_add_2_0 1 rfl rfl)
theorem dJ6_add_2_2 : decode cJ6_add_2 2 = .ok (.arraylength, 1) := dk_190 (dk_at dksJ6_add_2_0 2 rfl rfl)
theorem dJ6_add_2_3 : decode cJ6_add_2 3 = .ok (.if_icmp .ne 8, 3) := dk_160 0 8 (dk_at dksJ6_add_2_0 3 rfl rfl)
theorem dJ6_add_2_6 : decode cJ6_add_2 6 = .ok (.aload_n 0, 1) := dk_42 (dk_at dksJ6_add_2_0 6 rfl rfl)
theorem dJ6_add_2_7 : decode cJ6_add_2 7 = .ok (.invokevirtual 129, 3) := dk_182 0 129 (dk_at dksJ6_add_2_0 7 rfl rfl)
theorem dJ6_add_2_10 : decode cJ6_add_2 10 = .ok (.astore_n 2, 1) := dk_77 (dk_at dksJ6_add_2_0 10 rfl rfl)
theorem dJ6_add_2_11 : decode cJ6_add_2 11 = .ok (.aload_n 2, 1) := dk_44 (dk_at dksJ6_add_2_0 11 rfl rfl)
theorem dJ6_add_2_12 : decode cJ6_add_2 12 = .ok (.iload_n 3, 1) := dk_29 (dk_at dksJ6_add_2_0 12 rfl rfl)
theorem dJ6_add_2_13 : decode cJ6_add_2 13 = .ok (.aload_n 1, 1) := dk_43 (dk_at dksJ6_add_2_0 13 rfl rfl)
theorem dJ6_add_2_14 : decode cJ6_add_2 14 = .ok (.aastore, 1) := dk_83 (dk_at dksJ6_add_2_0 14 rfl rfl)
theorem dJ6_add_2_15 : decode cJ6_add_2 15 = .ok (.aload_n 0, 1) := dk_42 (dk_at dksJ6_add_2_0 15 rfl rfl)
theorem dJ6_add_2_16 : decode cJ6_add_2 16 = .ok (.iload_n 3, 1) := dk_29 (dk_at dksJ6_add_2_0 16 rfl rfl)
theorem dJ6_add_2_17 : decode cJ6_add_2 17 = .ok (.iconst 1, 1) := dk_4 (dk_at dksJ6_add_2_0 17 rfl rfl)
theorem dJ6_add_2_18 : decode cJ6_add_2 18 = .ok (.iadd, 1) := dk_96 (dk_at dksJ6_add_2_0 18 rfl rfl)
theorem dJ6_add_2_19 : decode cJ6_add_2 19 = .ok (.putfield 48, 3) := dk_181 0 48 (dk_at dksJ6_add_2_0 19 rfl rfl)
theorem dJ6_add_2_22 : decode cJ6_add_2 22 = .ok (.return_, 1) := dk_177 (dk_at dksJ6_add_2_0 22 rfl rfl)
def dkwJ6_grow_0 : List UInt8 := [42, 42, 180, 0, 48, 4, 96, 182, 0, 69, 176]
abbrev dktJ6_grow_0 : List UInt8 := dkwJ6_grow_0 ++ []
theorem dksJ6_grow_0 : cJ6_grow.data.toList.drop 0 = dktJ6_grow_0 := by decide +kernel
theorem dJ6_grow_0 : decode cJ6_grow 0 = .ok (.aload_n 0, 1) := dk_42 (dk_at dksJ6_grow_0 0 rfl rfl)
theorem dJ6_grow_1 : decode cJ6_grow 1 = .ok (.aload_n 0, 1) := dk_42 (dk_at dksJ6_grow_0 1 rfl rfl)
theorem dJ6_grow_2 : decode cJ6_grow 2 = .ok (.getfield 48, 3) := dk_180 0 48 (dk_at dksJ6_grow_0 2 rfl rfl)
theorem dJ6_grow_5 : decode cJ6_grow 5 = .ok (.iconst 1, 1) := dk_4 (dk_at dksJ6_grow_0 5 rfl rfl)
theorem dJ6_grow_6 : decode cJ6_grow 6 = .ok (.iadd, 1) := dk_96 (dk_at dksJ6_grow_0 6 rfl rfl)
theorem dJ6_grow_7 : decode cJ6_grow 7 = .ok (.invokevirtual 69, 3) := dk_182 0 69 (dk_at dksJ6_grow_0 7 rfl rfl)
theorem dJ6_grow_10 : decode cJ6_grow 10 = .ok (.areturn, 1) := dk_176 (dk_at dksJ6_grow_0 10 rfl rfl)
def dkwJ6_grow_2_2 : List UInt8 := [27, 184, 0, 79, 189, 0, 7, 90, 181, 0, 9, 176]
abbrev dktJ6_grow_2_2 : List UInt8 := dkwJ6_grow_2_2 ++ []
def dkwJ6_grow_2_1 : List UInt8 := [28, 4, 122, 184, 0, 73, 62, 42, 42, 180, 0, 9, 29, 184, 0, 66, 90, 181, 0, 9, 176, 42, 16, 10]
abbrev dktJ6_grow_2_1 : List UInt8 := dkwJ6_grow_2_1 ++ dktJ6_grow_2_2
def dkwJ6_grow_2_0 : List UInt8 := [42, 180, 0, 9, 190, 61, 28, 157, 0, 13, 42, 180, 0, 9, 178, 0, 39, 165, 0, 28, 28, 27, 28, 100]
abbrev dktJ6_grow_2_0 : List UInt8 := dkwJ6_grow_2_0 ++ dktJ6_grow_2_1
theorem dksJ6_grow_2_0 : cJ6_grow_2.data.toList.drop 0 = dktJ6_grow_2_0 := by decide +kernel
theorem dksJ6_grow_2_1 : cJ6_grow_2.data.toList.drop 24 = dktJ6_grow_2_1 := dk_seg dksJ6_grow_2_0 24 rfl rfl
theorem dksJ6_grow_2_2 : cJ6_grow_2.data.toList.drop 48 = dktJ6_grow_2_2 := dk_seg dksJ6_grow_2_1 24 rfl rfl
theorem dJ6_grow_2_0 : decode cJ6_grow_2 0 = .ok (.aload_n 0, 1) := dk_42 (dk_at dksJ6_grow_2_0 0 rfl rfl)
theorem dJ6_grow_2_1 : decode cJ6_grow_2 1 = .ok (.getfield 9, 3) := dk_180 0 9 (dk_at dksJ6_grow_2_0 1 rfl rfl)
theorem dJ6_grow_2_4 : decode cJ6_grow_2 4 = .ok (.arraylength, 1) := dk_190 (dk_at dksJ6_grow_2_0 4 rfl rfl)
theorem dJ6_grow_2_5 : decode cJ6_grow_2 5 = .ok (.istore_n 2, 1) := dk_61 (dk_at dksJ6_grow_2_0 5 rfl rfl)
theorem dJ6_grow_2_6 : decode cJ6_grow_2 6 = .ok (.iload_n 2, 1) := dk_28 (dk_at dksJ6_grow_2_0 6 rfl rfl)
theorem dJ6_grow_2_7 : decode cJ6_grow_2 7 = .ok (.ifCond .gt 13, 3) := dk_157 0 13 (dk_at dksJ6_grow_2_0 7 rfl rfl)
theorem dJ6_grow_2_10 : decode cJ6_grow_2 10 = .ok (.aload_n 0, 1) := dk_42 (dk_at dksJ6_grow_2_0 10 rfl rfl)
theorem dJ6_grow_2_11 : decode cJ6_grow_2 11 = .ok (.getfield 9, 3) := dk_180 0 9 (dk_at dksJ6_grow_2_0 11 rfl rfl)
theorem dJ6_grow_2_14 : decode cJ6_grow_2 14 = .ok (.getstatic 39, 3) := dk_178 0 39 (dk_at dksJ6_grow_2_0 14 rfl rfl)
theorem dJ6_grow_2_17 : decode cJ6_grow_2 17 = .ok (.if_acmp .eq 28, 3) := dk_165 0 28 (dk_at dksJ6_grow_2_0 17 rfl rfl)
theorem dJ6_grow_2_20 : decode cJ6_grow_2 20 = .ok (.iload_n 2, 1) := dk_28 (dk_at dksJ6_grow_2_0 20 rfl rfl)
theorem dJ6_grow_2_21 : decode cJ6_grow_2 21 = .ok (.iload_n 1, 1) := dk_27 (dk_at dksJ6_grow_2_0 21 rfl rfl)
theorem dJ6_grow_2_22 : decode cJ6_grow_2 22 = .ok (.iload_n 2, 1) := dk_28 (dk_at dksJ6_grow_2_0 22 rfl rfl)
theorem dJ6_grow_2_23 : decode cJ6_grow_2 23 = .ok (.isub, 1) := dk_100 (dk_at dksJ6_grow_2_0 23 rfl rfl)
theorem dJ6_grow_2_24 : decode cJ6_grow_2 24 = .ok (.iload_n 2, 1) := dk_28 (dk_at dksJ6_grow_2_1 0 rfl rfl)
theorem dJ6_grow_2_25 : decode cJ6_grow_2 25 = .ok (.iconst 1, 1) := dk_4 (dk_at dksJ6_grow_2_1 1 rfl rfl)
theorem dJ6_grow_2_26 : decode cJ6_grow_2 26 = .ok (.ishr, 1) := dk_122 (dk_at dksJ6_grow_2_1 2 rfl rfl)
theorem dJ6_grow_2_27 : decode cJ6_grow_2 27 = .ok (.invokestatic 73, 3) := dk_184 0 73 (dk_at dksJ6_grow_2_1 3 rfl rfl)
theorem dJ6_grow_2_30 : decode cJ6_grow_2 30 = .ok (.istore_n 3, 1) := dk_62 (dk_at dksJ6_grow_2_1 6 rfl rfl)
theorem dJ6_grow_2_31 : decode cJ6_grow_2 31 = .ok (.aload_n 0, 1) := dk_42 (dk_at dksJ6_grow_2_1 7 rfl rfl)
theorem dJ6_grow_2_32 : decode cJ6_grow_2 32 = .ok (.aload_n 0, 1) := dk_42 (dk_at dksJ6_grow_2_1 8 rfl rfl)
theorem dJ6_grow_2_33 : decode cJ6_grow_2 33 = .ok (.getfield 9, 3) := dk_180 0 9 (dk_at dksJ6_grow_2_1 9 rfl rfl)
theorem dJ6_grow_2_36 : decode cJ6_grow_2 36 = .ok (.iload_n 3, 1) := dk_29 (dk_at dksJ6_grow_2_1 12 rfl rfl)
theorem dJ6_grow_2_37 : decode cJ6_grow_2 37 = .ok (.invokestatic 66, 3) := dk_184 0 66 (dk_at dksJ6_grow_2_1 13 rfl rfl)
theorem dJ6_grow_2_40 : decode cJ6_grow_2 40 = .ok (.dup_x1, 1) := dk_90 (dk_at dksJ6_grow_2_1 16 rfl rfl)
theorem dJ6_grow_2_41 : decode cJ6_grow_2 41 = .ok (.putfield 9, 3) := dk_181 0 9 (dk_at dksJ6_grow_2_1 17 rfl rfl)
theorem dJ6_grow_2_44 : decode cJ6_grow_2 44 = .ok (.areturn, 1) := dk_176 (dk_at dksJ6_grow_2_1 20 rfl rfl)
theorem dJ6_grow_2_45 : decode cJ6_grow_2 45 = .ok (.aload_n 0, 1) := dk_42 (dk_at dksJ6_grow_2_1 21 rfl rfl)
theorem dJ6_grow_2_46 : decode cJ6_grow_2 46 = .ok (.bipush 10, 2) := dk_16 10 (dk_at dksJ6_grow_2_1 22 rfl rfl)
theorem dJ6_grow_2_48 : decode cJ6_grow_2 48 = .ok (.iload_n 1, 1) := dk_27 (dk_at dksJ6_grow_2_2 0 rfl rfl)
theorem dJ6_grow_2_49 : decode cJ6_grow_2 49 = .ok (.invokestatic 79, 3) := dk_184 0 79 (dk_at dksJ6_grow_2_2 1 rfl rfl)
theorem dJ6_grow_2_52 : decode cJ6_grow_2 52 = .ok (.anewarray 7, 3) := dk_189 0 7 (dk_at dksJ6_grow_2_2 4 rfl rfl)
theorem dJ6_grow_2_55 : decode cJ6_grow_2 55 = .ok (.dup_x1, 1) := dk_90 (dk_at dksJ6_grow_2_2 7 rfl rfl)
theorem dJ6_grow_2_56 : decode cJ6_grow_2 56 = .ok (.putfield 9, 3) := dk_181 0 9 (dk_at dksJ6_grow_2_2 8 rfl rfl)
theorem dJ6_grow_2_59 : decode cJ6_grow_2 59 = .ok (.areturn, 1) := dk_176 (dk_at dksJ6_grow_2_2 11 rfl rfl)
def dkwJ9_length_0 : List UInt8 := [42, 180, 0, 9, 190, 42, 182, 1, 79, 122, 172]
abbrev dktJ9_length_0 : List UInt8 := dkwJ9_length_0 ++ []
theorem dksJ9_length_0 : cJ9_length.data.toList.drop 0 = dktJ9_length_0 := by decide +kernel
theorem dJ9_length_0 : decode cJ9_length 0 = .ok (.aload_n 0, 1) := dk_42 (dk_at dksJ9_length_0 0 rfl rfl)
theorem dJ9_length_1 : decode cJ9_length 1 = .ok (.getfield 9, 3) := dk_180 0 9 (dk_at dksJ9_length_0 1 rfl rfl)
theorem dJ9_length_4 : decode cJ9_length 4 = .ok (.arraylength, 1) := dk_190 (dk_at dksJ9_length_0 4 rfl rfl)
theorem dJ9_length_5 : decode cJ9_length 5 = .ok (.aload_n 0, 1) := dk_42 (dk_at dksJ9_length_0 5 rfl rfl)
theorem dJ9_length_6 : decode cJ9_length 6 = .ok (.invokevirtual 335, 3) := dk_182 1 79 (dk_at dksJ9_length_0 6 rfl rfl)
theorem dJ9_length_9 : decode cJ9_length 9 = .ok (.ishr, 1) := dk_122 (dk_at dksJ9_length_0 9 rfl rfl)
theorem dJ9_length_10 : decode cJ9_length 10 = .ok (.ireturn, 1) := dk_172 (dk_at dksJ9_length_0 10 rfl rfl)
def dkwJ9_coder_0 : List UInt8 := [178, 0, 38, 153, 0, 10, 42, 180, 0, 15, 167, 0, 4, 4, 172]
abbrev dktJ9_coder_0 : List UInt8 := dkwJ9_coder_0 ++ []
theorem dksJ9_coder_0 : cJ9_coder.data.toList.drop 0 = dktJ9_coder_0 := by decide +kernel
theorem dJ9_coder_0 : decode cJ9_coder 0 = .ok (.getstatic 38, 3) := dk_178 0 38 (dk_at dksJ9_coder_0 0 rfl rfl)
theorem dJ9_coder_3 : decode cJ9_coder 3 = .ok (.ifCond .eq 10, 3) := dk_153 0 10 (dk_at dksJ9_coder_0 3 rfl rfl)
theorem dJ9_coder_6 : decode cJ9_coder 6 = .ok (.aload_n 0, 1) := dk_42 (dk_at dksJ9_coder_0 6 rfl rfl)
theorem dJ9_coder_7 : decode cJ9_coder 7 = .ok (.getfield 15, 3) := dk_180 0 15 (dk_at dksJ9_coder_0 7 rfl rfl)
theorem dJ9_coder_10 : decode cJ9_coder 10 = .ok (.goto 4, 3) := dk_167 0 4 (dk_at dksJ9_coder_0 10 rfl rfl)
theorem dJ9_coder_13 : decode cJ9_coder 13 = .ok (.iconst 1, 1) := dk_4 (dk_at dksJ9_coder_0 13 rfl rfl)
theorem dJ9_coder_14 : decode cJ9_coder 14 = .ok (.ireturn, 1) := dk_172 (dk_at dksJ9_coder_0 14 rfl rfl)
def dkwJ9_indexOf_0 : List UInt8 := [42, 27, 3, 182, 2, 121, 172]
abbrev dktJ9_indexOf_0 : List UInt8 := dkwJ9_indexOf_0 ++ []
theorem dksJ9_indexOf_0 : cJ9_indexOf.data.toList.drop 0 = dktJ9_indexOf_0 := by decide +kernel
theorem dJ9_indexOf_0 : decode cJ9_indexOf 0 = .ok (.aload_n 0, 1) := dk_42 (dk_at dksJ9_indexOf_0 0 rfl rfl)
theorem dJ9_indexOf_1 : decode cJ9_indexOf 1 = .ok (.iload_n 1, 1) := dk_27 (dk_at dksJ9_indexOf_0 1 rfl rfl)
theorem dJ9_indexOf_2 : decode cJ9_indexOf 2 = .ok (.iconst 0, 1) := dk_3 (dk_at dksJ9_indexOf_0 2 rfl rfl)
theorem dJ9_indexOf_3 : decode cJ9_indexOf 3 = .ok (.invokevirtual 633, 3) := dk_182 2 121 (dk_at dksJ9_indexOf_0 3 rfl rfl)
theorem dJ9_indexOf_6 : decode cJ9_indexOf 6 = .ok (.ireturn, 1) := dk_172 (dk_at dksJ9_indexOf_0 6 rfl rfl)
def dkwJ9_indexOf_2_1 : List UInt8 := [180, 0, 9, 27, 28, 42, 182, 1, 249, 184, 2, 128, 172]
abbrev dktJ9_indexOf_2_1 : List UInt8 := dkwJ9_indexOf_2_1 ++ []
def dkwJ9_indexOf_2_0 : List UInt8 := [42, 182, 1, 236, 153, 0, 19, 42, 180, 0, 9, 27, 28, 42, 182, 1, 249, 184, 2, 125, 167, 0, 16, 42]
abbrev dktJ9_indexOf_2_0 : List UInt8 := dkwJ9_indexOf_2_0 ++ dktJ9_indexOf_2_1
theorem dksJ9_indexOf_2_0 : cJ9_indexOf_2.data.toList.drop 0 = dktJ9_indexOf_2_0 := by decide +kernel
theorem dksJ9_indexOf_2_1 : cJ9_indexOf_2.data.toList.drop 24 = dktJ9_indexOf_2_1 := dk_seg dksJ9_indexOf_2_0 24 rfl rfl
theorem dJ9_indexOf_2_0 : decode cJ9_indexOf_2 0 = .ok (.aload_n 0, 1) := dk_42 (dk_at dksJ9_indexOf_2_0 0 rfl rfl)
theorem dJ9_indexOf_2_1 : decode cJ9_indexOf_2 1 = .ok (.invokevirtual 492, 3) := dk_182 1 236 (dk_at dksJ9_indexOf_2_0 1 rfl rfl)
theorem dJ9_indexOf_2_4 : decode cJ9_indexOf_2 4 = .ok (.ifCond .eq 19, 3) := dk_153 0 19 (dk_at dksJ9_indexOf_2_0 4 rfl rfl)
theorem dJ9_indexOf_2_7 : decode cJ9_indexOf_2 7 = .ok (.aload_n 0, 1) := dk_42 (dk_at dksJ9_indexOf_2_0 7 rfl rfl)
theorem dJ9_indexOf_2_8 : decode cJ9_indexOf_2 8 = .ok (.getfield 9, 3) := dk_180 0 9 (dk_at dksJ9_indexOf_2_0 8 rfl rfl)
theorem dJ9_indexOf_2_11 : decode cJ9_indexOf_2 11 = .ok (.iload_n 1, 1) := dk_27 (dk_at dksJ9_indexOf_2_0 11 rfl rfl)
theorem dJ9_indexOf_2_12 : decode cJ9_indexOf_2 12 = .ok (.iload_n 2, 1) := dk_28 (dk_at dksJ9_indexOf_2_0 12 rfl rfl)
theorem dJ9_indexOf_2_13 : decode cJ9_indexOf_2 13 = .ok (.aload_n 0, 1) := dk_42 (dk_at dksJ9_indexOf_2_0 13 rfl rfl)
theorem dJ9_indexOf_2_14 : decode cJ9_indexOf_2 14 = .ok (.invokevirtual 505, 3) := dk_182 1 249 (dk_at dksJ9_indexOf_2_0 14 rfl rfl)
theorem dJ9_indexOf_2_17 : decode cJ9_indexOf_2 17 = .ok (.invokestatic 637, 3) := dk_184 2 125 (dk_at dksJ9_indexOf_2_0 17 rfl rfl)
theorem dJ9_indexOf_2_20 : decode cJ9_indexOf_2 20 = .ok (.goto 16, 3) := dk_167 0 16 (dk_at dksJ9_indexOf_2_0 20 rfl rfl)
theorem dJ9_indexOf_2_23 : decode cJ9_indexOf_2 23 = .ok (.aload_n 0, 1) := dk_42 (dk_at dksJ9_indexOf_2_0 23 rfl rfl)
theorem dJ9_indexOf_2_24 : decode cJ9_indexOf_2 24 = .ok (.getfield 9, 3) := dk_180 0 9 (dk_at dksJ9_indexOf_2_1 0 rfl rfl)
theorem dJ9_indexOf_2_27 : decode cJ9_indexOf_2 27 = .ok (.iload_n 1, 1) := dk_27 (dk_at dksJ9_indexOf_2_1 3 rfl rfl)
theorem dJ9_indexOf_2_28 : decode cJ9_indexOf_2 28 = .ok (.iload_n 2, 1) := dk_28 (dk_at dksJ9_indexOf_2_1 4 rfl rfl)
theorem dJ9_indexOf_2_29 : decode cJ9_indexOf_2 29 = .ok (.aload_n 0, 1) := dk_42 (dk_at dksJ9_indexOf_2_1 5 rfl rfl)
theorem dJ9_indexOf_2_30 : decode cJ9_indexOf_2 30 = .ok (.invokevirtual 505, 3) := dk_182 1 249 (dk_at dksJ9_indexOf_2_1 6 rfl rfl)
theorem dJ9_indexOf_2_33 : decode cJ9_indexOf_2 33 = .ok (.invokestatic 640, 3) := dk_184 2 128 (dk_at dksJ9_indexOf_2_1 9 rfl rfl)
theorem dJ9_indexOf_2_36 : decode cJ9_indexOf_2 36 = .ok (.ireturn, 1) := dk_172 (dk_at dksJ9_indexOf_2_1 12 rfl rfl)
def dkwJ9_isLatin1_0 : List UInt8 := [178, 0, 38, 153, 0, 14, 42, 180, 0, 15, 154, 0, 7, 4, 167, 0, 4, 3, 172]
abbrev dktJ9_isLatin1_0 : List UInt8 := dkwJ9_isLatin1_0 ++ []
theorem dksJ9_isLatin1_0 : cJ9_isLatin1.data.toList.drop 0 = dktJ9_isLatin1_0 := by decide +kernel
theorem dJ9_isLatin1_0 : decode cJ9_isLatin1 0 = .ok (.getstatic 38, 3) := dk_178 0 38 (dk_at dksJ9_isLatin1_0 0 rfl rfl)
theorem dJ9_isLatin1_3 : decode cJ9_isLatin1 3 = .ok (.ifCond .eq 14, 3) := dk_153 0 14 (dk_at dksJ9_isLatin1_0 3 rfl rfl)
theorem dJ9_isLatin1_6 : decode cJ9_isLatin1 6 = .ok (.aload_n 0, 1) := dk_42 (dk_at dksJ9_isLatin1_0 6 rfl rfl)
theorem dJ9_isLatin1_7 : decode cJ9_isLatin1 7 = .ok (.getfield 15, 3) := dk_180 0 15 (dk_at dksJ9_isLatin1_0 7 rfl rfl)
theorem dJ9_isLatin1_10 : decode cJ9_isLatin1 10 = .ok (.ifCond .ne 7, 3) := dk_154 0 7 (dk_at dksJ9_isLatin1_0 10 rfl rfl)
theorem dJ9_isLatin1_13 : decode cJ9_isLatin1 13 = .ok (.iconst 1, 1) := dk_4 (dk_at dksJ9_isLatin1_0 13 rfl rfl)
theorem dJ9_isLatin1_14 : decode cJ9_isLatin1 14 = .ok (.goto 4, 3) := dk_167 0 4 (dk_at dksJ9_isLatin1_0 14 rfl rfl)
theorem dJ9_isLatin1_17 : decode cJ9_isLatin1 17 = .ok (.iconst 0, 1) := dk_3 (dk_at dksJ9_isLatin1_0 17 rfl rfl)
theorem dJ9_isLatin1_18 : decode cJ9_isLatin1 18 = .ok (.ireturn, 1) := dk_172 (dk_at dksJ9_isLatin1_0 18 rfl rfl)
def dkwJ9_charAt_1 : List UInt8 := [172]
abbrev dktJ9_charAt_1 : List UInt8 := dkwJ9_charAt_1 ++ []
def dkwJ9_charAt_0 : List UInt8 := [42, 182, 1, 236, 153, 0, 12, 42, 180, 0, 9, 27, 184, 1, 239, 172, 42, 180, 0, 9, 27, 184, 1, 242]
abbrev dktJ9_charAt_0 : List UInt8 := dkwJ9_charAt_0 ++ dktJ9_charAt_1
theorem dksJ9_charAt_0 : cJ9_charAt.data.toList.drop 0 = dktJ9_charAt_0 := by decide +kernel
theorem dksJ9_charAt_1 : cJ9_charAt.data.toList.drop 24 = dktJ9_charAt_1 := dk_seg dksJ9_charAt_0 24 rfl rfl
theorem dJ9_charAt_0 : decode cJ9_charAt 0 = .ok (.aload_n 0, 1) := dk_42 (dk_at dksJ9_charAt_0 0 rfl rfl)
theorem dJ9_charAt_1 : decode cJ9_charAt 1 = .ok (.invokevirtual 492, 3) := dk_182 1 236 (dk_at dksJ9_charAt_0 1 rfl rfl)
theorem dJ9_charAt_4 : decode cJ9_charAt 4 = .ok (.ifCond .eq 12, 3) := dk_153 0 12 (dk_at dksJ9_charAt_0 4 rfl rfl)
theorem dJ9_charAt_7 : decode cJ9_charAt 7 = .ok (.aload_n 0, 1) := dk_42 (dk_at dksJ9_charAt_0 7 rfl rfl)
theorem dJ9_charAt_8 : decode cJ9_charAt 8 = .ok (.getfield 9, 3) := dk_180 0 9 (dk_at dksJ9_charAt_0 8 rfl rfl)
theorem dJ9_charAt_11 : decode cJ9_charAt 11 = .ok (.iload_n 1, 1) := dk_27 (dk_at dksJ9_charAt_0 11 rfl rfl)
theorem dJ9_charAt_12 : decode cJ9_charAt 12 = .ok (.invokestatic 495, 3) := dk_184 1 239 (dk_at dksJ9_charAt_0 12 rfl rfl)
theorem dJ9_charAt_15 : decode cJ9_charAt 15 = .ok (.ireturn, 1) := dk_172 (dk_at dksJ9_charAt_0 15 rfl rfl)
theorem dJ9_charAt_16 : decode cJ9_charAt 16 = .ok (.aload_n 0, 1) := dk_42 (dk_at dksJ9_charAt_0 16 rfl rfl)
theorem dJ9_charAt_17 : decode cJ9_charAt 17 = .ok (.getfield 9, 3) := dk_180 0 9 (dk_at dksJ9_charAt_0 17 rfl rfl)
theorem dJ9_charAt_20 : decode cJ9_charAt 20 = .ok (.iload_n 1, 1) := dk_27 (dk_at dksJ9_charAt_0 20 rfl rfl)
theorem dJ9_charAt_21 : decode cJ9_charAt 21 = .ok (.invokestatic 498, 3) := dk_184 1 242 (dk_at dksJ9_charAt_0 21 rfl rfl)
theorem dJ9_charAt_24 : decode cJ9_charAt 24 = .ok (.ireturn, 1) := dk_172 (dk_at dksJ9_charAt_1 0 rfl rfl)
def dkwJ9_checkIndex_0 : List UInt8 := [26, 27, 178, 4, 29, 184, 4, 35, 87, 177]
abbrev dktJ9_checkIndex_0 : List UInt8 := dkwJ9_checkIndex_0 ++ []
theorem dksJ9_checkIndex_0 : cJ9_checkIndex.data.toList.drop 0 = dktJ9_checkIndex_0 := by decide +kernel
theorem dJ9_checkIndex_0 : decode cJ9_checkIndex 0 = .ok (.iload_n 0, 1) := dk_26 (dk_at dksJ9_checkIndex_0 0 rfl rfl)
theorem dJ9_checkIndex_1 : decode cJ9_checkIndex 1 = .ok (.iload_n 1, 1) := dk_27 (dk_at dksJ9_checkIndex_0 1 rfl rfl)
theorem dJ9_checkIndex_2 : decode cJ9_checkIndex 2 = .ok (.getstatic 1053, 3) := dk_178 4 29 (dk_at dksJ9_checkIndex_0 2 rfl rfl)
theorem dJ9_checkIndex_5 : decode cJ9_checkIndex 5 = .ok (.invokestatic 1059, 3) := dk_184 4 35 (dk_at dksJ9_checkIndex_0 5 rfl rfl)
theorem dJ9_checkIndex_8 : decode cJ9_checkIndex 8 = .ok (.pop, 1) := dk_87 (dk_at dksJ9_checkIndex_0 8 rfl rfl)
theorem dJ9_checkIndex_9 : decode cJ9_checkIndex 9 = .ok (.return_, 1) := dk_177 (dk_at dksJ9_checkIndex_0 9 rfl rfl)
def dkwJ11_newLength_1 : List UInt8 := [184, 0, 201, 172]
abbrev dktJ11_newLength_1 : List UInt8 := dkwJ11_newLength_1 ++ []
def dkwJ11_newLength_0 : List UInt8 := [26, 27, 28, 184, 0, 194, 96, 62, 3, 29, 162, 0, 11, 29, 18, 200, 163, 0, 5, 29, 172, 26, 27]
abbrev dktJ11_newLength_0 : List UInt8 := dkwJ11_newLength_0 ++ dktJ11_newLength_1
theorem dksJ11_newLength_0 : cJ11_newLength.data.toList.drop 0 = dktJ11_newLength_0 := by decide +kernel
theorem dksJ11_newLength_1 : cJ11_newLength.data.toList.drop 23 = dktJ11_newLength_1 := dk_seg dksJ11_newLength_0 23 rfl rfl
theorem dJ11_newLength_0 : decode cJ11_newLength 0 = .ok (.iload_n 0, 1) := dk_26 (dk_at dksJ11_newLength_0 0 rfl rfl)
theorem dJ11_newLength_1 : decode cJ11_newLength 1 = .ok (.iload_n 1, 1) := dk_27 (dk_at dksJ11_newLength_0 1 rfl rfl)
theorem dJ11_newLength_2 : decode cJ11_newLength 2 = .ok (.iload_n 2, 1) := dk_28 (dk_at dksJ11_newLength_0 2 rfl rfl)
theorem dJ11_newLength_3 : decode cJ11_newLength 3 = .ok (.invokestatic 194, 3) := dk_184 0 194 (dk_at dksJ11_newLength_0 3 rfl rfl)
theorem dJ11_newLength_6 : decode cJ11_newLength 6 = .ok (.iadd, 1) := dk_96 (dk_at dksJ11_newLength_0 6 rfl rfl)
theorem dJ11_newLength_7 : decode cJ11_newLength 7 = .ok (.istore_n 3, 1) := dk_62 (dk_at dksJ11_newLength_0 7 rfl rfl)
theorem dJ11_newLength_8 : decode cJ11_newLength 8 = .ok (.iconst 0, 1) := dk_3 (dk_at dksJ11_newLength_0 8 rfl rfl)
theorem dJ11_newLength_9 : decode cJ11_newLength 9 = .ok (.iload_n 3, 1) := dk_29 (dk_at dksJ11_newLength_0 9 rfl rfl)
theorem dJ11_newLength_10 : decode cJ11_newLength 10 = .ok (.if_icmp .ge 11, 3) := dk_162 0 11 (dk_at dksJ11_newLength_0 10 rfl rfl)
theorem dJ11_newLength_13 : decode cJ11_newLength 13 = .ok (.iload_n 3, 1) := dk_29 (dk_at dksJ11_newLength_0 13 rfl rfl)
theorem dJ11_newLength_14 : decode cJ11_newLength 14 = .ok (.ldc 200, 2) := dk_18 200 (dk_at dksJ11_newLength_0 14 rfl rfl)
theorem dJ11_newLength_16 : decode cJ11_newLength 16 = .ok (.if_icmp .gt 5, 3) := dk_163 0 5 (dk_at dksJ11_newLength_0 16 rfl rfl)
theorem dJ11_newLength_19 : decode cJ11_newLength 19 = .ok (.iload_n 3, 1) := dk_29 (dk_at dksJ11_newLength_0 19 rfl rfl)
theorem dJ11_newLength_20 : decode cJ11_newLength 20 = .ok (.ireturn, 1) := dk_172 (dk_at dksJ11_newLength_0 20 rfl rfl)
theorem dJ11_newLength_21 : decode cJ11_newLength 21 = .ok (.iload_n 0, 1) := dk_26 (dk_at dksJ11_newLength_0 21 rfl rfl)
theorem dJ11_newLength_22 : decode cJ11_newLength 22 = .ok (.iload_n 1, 1) := dk_27 (dk_at dksJ11_newLength_0 22 rfl rfl)
theorem dJ11_newLength_23 : decode cJ11_newLength 23 = .ok (.invokestatic 201, 3) := dk_184 0 201 (dk_at dksJ11_newLength_1 0 rfl rfl)
theorem dJ11_newLength_26 : decode cJ11_newLength 26 = .ok (.ireturn, 1) := dk_172 (dk_at dksJ11_newLength_1 3 rfl rfl)
def dkwJ14_checkIndex_0 : List UInt8 := [26, 155, 0, 8, 26, 27, 161, 0, 10, 44, 26, 27, 184, 0, 95, 191, 26, 172]
abbrev dktJ14_checkIndex_0 : List UInt8 := dkwJ14_checkIndex_0 ++ []
theorem dksJ14_checkIndex_0 : cJ14_checkIndex.data.toList.drop 0 = dktJ14_checkIndex_0 := by decide +kernel
theorem dJ14_checkIndex_0 : decode cJ14_checkIndex 0 = .ok (.iload_n 0, 1) := dk_26 (dk_at dksJ14_checkIndex_0 0 rfl rfl)
theorem dJ14_checkIndex_1 : decode cJ14_checkIndex 1 = .ok (.ifCond .lt 8, 3) := dk_155 0 8 (dk_at dksJ14_checkIndex_0 1 rfl rfl)
theorem dJ14_checkIndex_4 : decode cJ14_checkIndex 4 = .ok (.iload_n 0, 1) := dk_26 (dk_at dksJ14_checkIndex_0 4 rfl rfl)
theorem dJ14_checkIndex_5 : decode cJ14_checkIndex 5 = .ok (.iload_n 1, 1) := dk_27 (dk_at dksJ14_checkIndex_0 5 rfl rfl)
theorem dJ14_checkIndex_6 : decode cJ14_checkIndex 6 = .ok (.if_icmp .lt 10, 3) := dk_161 0 10 (dk_at dksJ14_checkIndex_0 6 rfl rfl)
theorem dJ14_checkIndex_9 : decode cJ14_checkIndex 9 = .ok (.aload_n 2, 1) := dk_44 (dk_at dksJ14_checkIndex_0 9 rfl rfl)
theorem dJ14_checkIndex_10 : decode cJ14_checkIndex 10 = .ok (.iload_n 0, 1) := dk_26 (dk_at dksJ14_checkIndex_0 10 rfl rfl)
theorem dJ14_checkIndex_11 : decode cJ14_checkIndex 11 = .ok (.iload_n 1, 1) := dk_27 (dk_at dksJ14_checkIndex_0 11 rfl rfl)
theorem dJ14_checkIndex_12 : decode cJ14_checkIndex 12 = .ok (.invokestatic 95, 3) := dk_184 0 95 (dk_at dksJ14_checkIndex_0 12 rfl rfl)
theorem dJ14_checkIndex_15 : decode cJ14_checkIndex 15 = .ok (.athrow, 1) := dk_191 (dk_at dksJ14_checkIndex_0 15 rfl rfl)
theorem dJ14_checkIndex_16 : decode cJ14_checkIndex 16 = .ok (.iload_n 0, 1) := dk_26 (dk_at dksJ14_checkIndex_0 16 rfl rfl)
theorem dJ14_checkIndex_17 : decode cJ14_checkIndex 17 = .ok (.ireturn, 1) := dk_172 (dk_at dksJ14_checkIndex_0 17 rfl rfl)
def dkwJ15_indexOf_1 : List UInt8 := [161, 0, 5, 2, 172, 42, 27, 28, 29, 184, 0, 95, 172]
abbrev dktJ15_indexOf_1 : List UInt8 := dkwJ15_indexOf_1 ++ []
def dkwJ15_indexOf_0 : List UInt8 := [27, 184, 0, 88, 154, 0, 5, 2, 172, 28, 3, 184, 0, 92, 61, 29, 42, 190, 184, 0, 38, 62, 28, 29]
abbrev dktJ15_indexOf_0 : List UInt8 := dkwJ15_indexOf_0 ++ dktJ15_indexOf_1
theorem dksJ15_indexOf_0 : cJ15_indexOf.data.toList.drop 0 = dktJ15_indexOf_0 := by decide +kernel
theorem dksJ15_indexOf_1 : cJ15_indexOf.data.toList.drop 24 = dktJ15_indexOf_1 := dk_seg dksJ15_indexOf_0 24 rfl rfl
theorem dJ15_indexOf_0 : decode cJ15_indexOf 0 = .ok (.iload_n 1, 1) := dk_27 (dk_at dksJ15_indexOf_0 0 rfl rfl)
theorem dJ15_indexOf_1 : decode cJ15_indexOf 1 = .ok (.invokestatic 88, 3) := dk_184 0 88 (dk_at dksJ15_indexOf_0 1 rfl rfl)
theorem dJ15_indexOf_4 : decode cJ15_indexOf 4 = .ok (.ifCond .ne 5, 3) := dk_154 0 5 (dk_at dksJ15_indexOf_0 4 rfl rfl)
theorem dJ15_indexOf_7 : decode cJ15_indexOf 7 = .ok (.iconst (-1), 1) := dk_2 (dk_at dksJ15_indexOf_0 7 rfl rfl)
theorem dJ15_indexOf_8 : decode cJ15_indexOf 8 = .ok (.ireturn, 1) := dk_172 (dk_at dksJ15_indexOf_0 8 rfl rfl)
theorem dJ15_indexOf_9 : decode cJ15_indexOf 9 = .ok (.iload_n 2, 1) := dk_28 (dk_at dksJ15_indexOf_0 9 rfl rfl)
theorem dJ15_indexOf_10 : decode cJ15_indexOf 10 = .ok (.iconst 0, 1) := dk_3 (dk_at dksJ15_indexOf_0 10 rfl rfl)
theorem dJ15_indexOf_11 : decode cJ15_indexOf 11 = .ok (.invokestatic 92, 3) := dk_184 0 92 (dk_at dksJ15_indexOf_0 11 rfl rfl)
theorem dJ15_indexOf_14 : decode cJ15_indexOf 14 = .ok (.istore_n 2, 1) := dk_61 (dk_at dksJ15_indexOf_0 14 rfl rfl)
theorem dJ15_indexOf_15 : decode cJ15_indexOf 15 = .ok (.iload_n 3, 1) := dk_29 (dk_at dksJ15_indexOf_0 15 rfl rfl)
theorem dJ15_indexOf_16 : decode cJ15_indexOf 16 = .ok (.aload_n 0, 1) := dk_42 (dk_at dksJ15_indexOf_0 16 rfl rfl)
theorem dJ15_indexOf_17 : decode cJ15_indexOf 17 = .ok (.arraylength, 1) := dk_190 (dk_at dksJ15_indexOf_0 17 rfl rfl)
theorem dJ15_indexOf_18 : decode cJ15_indexOf 18 = .ok (.invokestatic 38, 3) := dk_184 0 38 (dk_at dksJ15_indexOf_0 18 rfl rfl)
theorem dJ15_indexOf_21 : decode cJ15_indexOf 21 = .ok (.istore_n 3, 1) := dk_62 (dk_at dksJ15_indexOf_0 21 rfl rfl)
theorem dJ15_indexOf_22 : decode cJ15_indexOf 22 = .ok (.iload_n 2, 1) := dk_28 (dk_at dksJ15_indexOf_0 22 rfl rfl)
theorem dJ15_indexOf_23 : decode cJ15_indexOf 23 = .ok (.iload_n 3, 1) := dk_29 (dk_at dksJ15_indexOf_0 23 rfl rfl)
theorem dJ15_indexOf_24 : decode cJ15_indexOf 24 = .ok (.if_icmp .lt 5, 3) := dk_161 0 5 (dk_at dksJ15_indexOf_1 0 rfl rfl)
theorem dJ15_indexOf_27 : decode cJ15_indexOf 27 = .ok (.iconst (-1), 1) := dk_2 (dk_at dksJ15_indexOf_1 3 rfl rfl)
theorem dJ15_indexOf_28 : decode cJ15_indexOf 28 = .ok (.ireturn, 1) := dk_172 (dk_at dksJ15_indexOf_1 4 rfl rfl)
theorem dJ15_indexOf_29 : decode cJ15_indexOf 29 = .ok (.aload_n 0, 1) := dk_42 (dk_at dksJ15_indexOf_1 5 rfl rfl)
theorem dJ15_indexOf_30 : decode cJ15_indexOf 30 = .ok (.iload_n 1, 1) := dk_27 (dk_at dksJ15_indexOf_1 6 rfl rfl)
theorem dJ15_indexOf_31 : decode cJ15_indexOf 31 = .ok (.iload_n 2, 1) := dk_28 (dk_at dksJ15_indexOf_1 7 rfl rfl)
theorem dJ15_indexOf_32 : decode cJ15_indexOf 32 = .ok (.iload_n 3, 1) := dk_29 (dk_at dksJ15_indexOf_1 8 rfl rfl)
theorem dJ15_indexOf_33 : decode cJ15_indexOf 33 = .ok (.invokestatic 95, 3) := dk_184 0 95 (dk_at dksJ15_indexOf_1 9 rfl rfl)
theorem dJ15_indexOf_36 : decode cJ15_indexOf 36 = .ok (.ireturn, 1) := dk_172 (dk_at dksJ15_indexOf_1 12 rfl rfl)
def dkwJ15_canEncode_0 : List UInt8 := [26, 155, 0, 14, 26, 17, 0, 255, 163, 0, 7, 4, 167, 0, 4, 3, 172]
abbrev dktJ15_canEncode_0 : List UInt8 := dkwJ15_canEncode_0 ++ []
theorem dksJ15_canEncode_0 : cJ15_canEncode.data.toList.drop 0 = dktJ15_canEncode_0 := by decide +kernel
theorem dJ15_canEncode_0 : decode cJ15_canEncode 0 = .ok (.iload_n 0, 1) := dk_26 (dk_at dksJ15_canEncode_0 0 rfl rfl)
theorem dJ15_canEncode_1 : decode cJ15_canEncode 1 = .ok (.ifCond .lt 14, 3) := dk_155 0 14 (dk_at dksJ15_canEncode_0 1 rfl rfl)
theorem dJ15_canEncode_4 : decode cJ15_canEncode 4 = .ok (.iload_n 0, 1) := dk_26 (dk_at dksJ15_canEncode_0 4 rfl rfl)
theorem dJ15_canEncode_5 : decode cJ15_canEncode 5 = .ok (.sipush 255, 3) := dk_17 0 255 (dk_at dksJ15_canEncode_0 5 rfl rfl)
theorem dJ15_canEncode_8 : decode cJ15_canEncode 8 = .ok (.if_icmp .gt 7, 3) := dk_163 0 7 (dk_at dksJ15_canEncode_0 8 rfl rfl)
theorem dJ15_canEncode_11 : decode cJ15_canEncode 11 = .ok (.iconst 1, 1) := dk_4 (dk_at dksJ15_canEncode_0 11 rfl rfl)
theorem dJ15_canEncode_12 : decode cJ15_canEncode 12 = .ok (.goto 4, 3) := dk_167 0 4 (dk_at dksJ15_canEncode_0 12 rfl rfl)
theorem dJ15_canEncode_15 : decode cJ15_canEncode 15 = .ok (.iconst 0, 1) := dk_3 (dk_at dksJ15_canEncode_0 15 rfl rfl)
theorem dJ15_canEncode_16 : decode cJ15_canEncode 16 = .ok (.ireturn, 1) := dk_172 (dk_at dksJ15_canEncode_0 16 rfl rfl)
def dkwJ15_indexOfChar_1 : List UInt8 := [172, 132, 5, 1, 167, 255, 235, 2, 172]
abbrev dktJ15_indexOfChar_1 : List UInt8 := dkwJ15_indexOfChar_1 ++ []
def dkwJ15_indexOfChar_0 : List UInt8 := [27, 145, 54, 4, 28, 54, 5, 21, 5, 29, 162, 0, 21, 42, 21, 5, 51, 21, 4, 160, 0, 6, 21, 5]
abbrev dktJ15_indexOfChar_0 : List UInt8 := dkwJ15_indexOfChar_0 ++ dktJ15_indexOfChar_1
theorem dksJ15_indexOfChar_0 : cJ15_indexOfChar.data.toList.drop 0 = dktJ15_indexOfChar_0 := by decide +kernel
theorem dksJ15_indexOfChar_1 : cJ15_indexOfChar.data.toList.drop 24 = dktJ15_indexOfChar_1 := dk_seg dksJ15_indexOfChar_0 24 rfl rfl
theorem dJ15_indexOfChar_0 : decode cJ15_indexOfChar 0 = .ok (.iload_n 1, 1) := dk_27 (dk_at dksJ15_indexOfChar_0 0 rfl rfl)
theorem dJ15_indexOfChar_1 : decode cJ15_indexOfChar 1 = .ok (.i2b, 1) := dk_145 (dk_at dksJ15_indexOfChar_0 1 rfl rfl)
theorem dJ15_indexOfChar_2 : decode cJ15_indexOfChar 2 = .ok (.istore 4, 2) := dk_54 4 (dk_at dksJ15_indexOfChar_0 2 rfl rfl)
theorem dJ15_indexOfChar_4 : decode cJ15_indexOfChar 4 = .ok (.iload_n 2, 1) := dk_28 (dk_at dksJ15_indexOfChar_0 4 rfl rfl)
theorem dJ15_indexOfChar_5 : decode cJ15_indexOfChar 5 = .ok (.istore 5, 2) := dk_54 5 (dk_at dksJ15_indexOfChar_0 5 rfl rfl)
theorem dJ15_indexOfChar_7 : decode cJ15_indexOfChar 7 = .ok (.iload 5, 2) := dk_21 5 (dk_at dksJ15_indexOfChar_0 7 rfl rfl)
theorem dJ15_indexOfChar_9 : decode cJ15_indexOfChar 9 = .ok (.iload_n 3, 1) := dk_29 (dk_at dksJ15_indexOfChar_0 9 rfl rfl)
theorem dJ15_indexOfChar_10 : decode cJ15_indexOfChar 10 = .ok (.if_icmp .ge 21, 3) := dk_162 0 21 (dk_at dksJ15_indexOfChar_0 10 rfl rfl)
theorem dJ15_indexOfChar_13 : decode cJ15_indexOfChar 13 = .ok (.aload_n 0, 1) := dk_42 (dk_at dksJ15_indexOfChar_0 13 rfl rfl)
theorem dJ15_indexOfChar_14 : decode cJ15_indexOfChar 14 = .ok (.iload 5, 2) := dk_21 5 (dk_at dksJ15_indexOfChar_0 14 rfl rfl)
theorem dJ15_indexOfChar_16 : decode cJ15_indexOfChar 16 = .ok (.baload, 1) := dk_51 (dk_at dksJ15_indexOfChar_0 16 rfl rfl)
theorem dJ15_indexOfChar_17 : decode cJ15_indexOfChar 17 = .ok (.iload 4, 2) := dk_21 4 (dk_at dksJ15_indexOfChar_0 17 rfl rfl)
theorem dJ15_indexOfChar_19 : decode cJ15_indexOfChar 19 = .ok (.if_icmp .ne 6, 3) := dk_160 0 6 (dk_at dksJ15_indexOfChar_0 19 rfl rfl)
theorem dJ15_indexOfChar_22 : decode cJ15_indexOfChar 22 = .ok (.iload 5, 2) := dk_21 5 (dk_at dksJ15_indexOfChar_0 22 rfl rfl)
theorem dJ15_indexOfChar_24 : decode cJ15_indexOfChar 24 = .ok (.ireturn, 1) := dk_172 (dk_at dksJ15_indexOfChar_1 0 rfl rfl)
theorem dJ15_indexOfChar_25 : decode cJ15_indexOfChar 25 = .ok (.iinc 5 1, 3) := dk_132 5 1 (dk_at dksJ15_indexOfChar_1 1 rfl rfl)
theorem dJ15_indexOfChar_28 : decode cJ15_indexOfChar 28 = .ok (.goto (-21), 3) := dk_167 255 235 (dk_at dksJ15_indexOfChar_1 4 rfl rfl)
theorem dJ15_indexOfChar_31 : decode cJ15_indexOfChar 31 = .ok (.iconst (-1), 1) := dk_2 (dk_at dksJ15_indexOfChar_1 7 rfl rfl)
theorem dJ15_indexOfChar_32 : decode cJ15_indexOfChar 32 = .ok (.ireturn, 1) := dk_172 (dk_at dksJ15_indexOfChar_1 8 rfl rfl)
def dkwJ15_charAt_0 : List UInt8 := [27, 42, 190, 184, 0, 9, 42, 27, 51, 17, 0, 255, 126, 146, 172]
abbrev dktJ15_charAt_0 : List UInt8 := dkwJ15_charAt_0 ++ []
theorem dksJ15_charAt_0 : cJ15_charAt.data.toList.drop 0 = dktJ15_charAt_0 := by decide +kernel
theorem dJ15_charAt_0 : decode cJ15_charAt 0 = .ok (.iload_n 1, 1) := dk_27 (dk_at dksJ15_charAt_0 0 rfl rfl)
theorem dJ15_charAt_1 : decode cJ15_charAt 1 = .ok (.aload_n 0, 1) := dk_42 (dk_at dksJ15_charAt_0 1 rfl rfl)
theorem dJ15_charAt_2 : decode cJ15_charAt 2 = .ok (.arraylength, 1) := dk_190 (dk_at dksJ15_charAt_0 2 rfl rfl)
theorem dJ15_charAt_3 : decode cJ15_charAt 3 = .ok (.invokestatic 9, 3) := dk_184 0 9 (dk_at dksJ15_charAt_0 3 rfl rfl)
theorem dJ15_charAt_6 : decode cJ15_charAt 6 = .ok (.aload_n 0, 1) := dk_42 (dk_at dksJ15_charAt_0 6 rfl rfl)
theorem dJ15_charAt_7 : decode cJ15_charAt 7 = .ok (.iload_n 1, 1) := dk_27 (dk_at dksJ15_charAt_0 7 rfl rfl)
theorem dJ15_charAt_8 : decode cJ15_charAt 8 = .ok (.baload, 1) := dk_51 (dk_at dksJ15_charAt_0 8 rfl rfl)
theorem dJ15_charAt_9 : decode cJ15_charAt 9 = .ok (.sipush 255, 3) := dk_17 0 255 (dk_at dksJ15_charAt_0 9 rfl rfl)
theorem dJ15_charAt_12 : decode cJ15_charAt 12 = .ok (.iand, 1) := dk_126 (dk_at dksJ15_charAt_0 12 rfl rfl)
theorem dJ15_charAt_13 : decode cJ15_charAt 13 = .ok (.i2c, 1) := dk_146 (dk_at dksJ15_charAt_0 13 rfl rfl)
theorem dJ15_charAt_14 : decode cJ15_charAt 14 = .ok (.ireturn, 1) := dk_172 (dk_at dksJ15_charAt_0 14 rfl rfl)
def dkwJ18_checkIndex_0 : List UInt8 := [26, 27, 1, 184, 0, 105, 172]
abbrev dktJ18_checkIndex_0 : List UInt8 := dkwJ18_checkIndex_0 ++ []
theorem dksJ18_checkIndex_0 : cJ18_checkIndex.data.toList.drop 0 = dktJ18_checkIndex_0 := by decide +kernel
theorem dJ18_checkIndex_0 : decode cJ18_checkIndex 0 = .ok (.iload_n 0, 1) := dk_26 (dk_at dksJ18_checkIndex_0 0 rfl rfl)
theorem dJ18_checkIndex_1 : decode cJ18_checkIndex 1 = .ok (.iload_n 1, 1) := dk_27 (dk_at dksJ18_checkIndex_0 1 rfl rfl)
theorem dJ18_checkIndex_2 : decode cJ18_checkIndex 2 = .ok (.aconst_null, 1) := dk_1 (dk_at dksJ18_checkIndex_0 2 rfl rfl)
theorem dJ18_checkIndex_3 : decode cJ18_checkIndex 3 = .ok (.invokestatic 105, 3) := dk_184 0 105 (dk_at dksJ18_checkIndex_0 3 rfl rfl)
theorem dJ18_checkIndex_6 : decode cJ18_checkIndex 6 = .ok (.ireturn, 1) := dk_172 (dk_at dksJ18_checkIndex_0 6 rfl rfl)
theorem dJ19_init_0 : decode cJ19_init 0 = .ok (.aload_n 0, 1) := by decide +kernel
theorem dJ19_init_1 : decode cJ19_init 1 = .ok (.invokespecial 1, 3) := by decide +kernel
theorem dJ19_init_4 : decode cJ19_init 4 = .ok (.return_, 1) := by decide +kernel
def dkwX1_init_2 : List UInt8 := [188, 10, 181, 0, 56, 42, 17, 1, 144, 188, 10, 181, 0, 59, 42, 17, 1, 144, 188, 10, 181, 0, 62, 177]
abbrev dktX1_init_2 : List UInt8 := dkwX1_init_2 ++ []
def dkwX1_init_1 : List UInt8 := [181, 0, 45, 42, 16, 8, 188, 4, 181, 0, 49, 42, 17, 1, 144, 188, 10, 181, 0, 53, 42, 17, 1, 144]
abbrev dktX1_init_1 : List UInt8 := dkwX1_init_1 ++ dktX1_init_2
def dkwX1_init_0 : List UInt8 := [42, 183, 0, 31, 42, 17, 15, 160, 188, 8, 181, 0, 37, 42, 2, 181, 0, 41, 42, 16, 6, 188, 10]
abbrev dktX1_init_0 : List UInt8 := dkwX1_init_0 ++ dktX1_init_1
theorem dksX1_init_0 : cX1_init.data.toList.drop 0 = dktX1_init_0 := by decide +kernel
theorem dksX1_init_1 : cX1_init.data.toList.drop 23 = dktX1_init_1 := dk_seg dksX1_init_0 23 rfl rfl
theorem dksX1_init_2 : cX1_init.data.toList.drop 47 = dktX1_init_2 := dk_seg dksX1_init_1 24 rfl rfl
theorem dX1_init_0 : decode cX1_init 0 = .ok (.aload_n 0, 1) := dk_42 (dk_at dksX1_init_0 0 rfl rfl)
theorem dX1_init_1 : decode cX1_init 1 = .ok (.invokespecial 31, 3) := dk_183 0 31 (dk_at dksX1_init_0 1 rfl rfl)
theorem dX1_init_4 : decode cX1_init 4 = .ok (.aload_n 0, 1) := dk_42 (dk_at dksX1_init_0 4 rfl rfl)
theorem dX1_init_5 : decode cX1_init 5 = .ok (.sipush 4000, 3) := dk_17 15 160 (dk_at dksX1_init_0 5 rfl rfl)
theorem dX1_init_8 : decode cX1_init 8 = .ok (.newarray .byte, 2) := dk_188_8 (dk_at dksX1_init_0 8 rfl rfl)
theorem dX1_init_10 : decode cX1_init 10 = .ok (.putfield 37, 3) := dk_181 0 37 (dk_at dksX1_init_0 10 rfl rfl)
theorem dX1_init_13 : decode cX1_init 13 = .ok (.aload_n 0, 1) := dk_42 (dk_at dksX1_init_0 13 rfl rfl)
theorem dX1_init_14 : decode cX1_init 14 = .ok (.iconst (-1), 1) := dk_2 (dk_at dksX1_init_0 14 rfl rfl)
theorem dX1_init_15 : decode cX1_init 15 = .ok (.putfield 41, 3) := dk_181 0 41 (dk_at dksX1_init_0 15 rfl rfl)
theorem dX1_init_18 : decode cX1_init 18 = .ok (.aload_n 0, 1) := dk_42 (dk_at dksX1_init_0 18 rfl rfl)
theorem dX1_init_19 : decode cX1_init 19 = .ok (.bipush 6, 2) := dk_16 6 (dk_at dksX1_init_0 19 rfl rfl)
theorem dX1_init_21 : decode cX1_init 21 = .ok (.newarray .int, 2) := dk_188_10 (dk_at dksX1_init_0 21 rfl rfl)
theorem dX1_init_23 : decode cX1_init 23 = .ok (.putfield 45, 3) := dk_181 0 45 (dk_at dksX1_init_1 0 rfl rfl)
theorem dX1_init_26 : decode cX1_init 26 = .ok (.aload_n 0, 1) := dk_42 (dk_at dksX1_init_1 3 rfl rfl)
theorem dX1_init_27 : decode cX1_init 27 = .ok (.bipush 8, 2) := dk_16 8 (dk_at dksX1_init_1 4 rfl rfl)
theorem dX1_init_29 : decode cX1_init 29 = .ok (.newarray .boolean, 2) := dk_188_4 (dk_at dksX1_init_1 6 rfl rfl)
theorem dX1_init_31 : decode cX1_init 31 = .ok (.putfield 49, 3) := dk_181 0 49 (dk_at dksX1_init_1 8 rfl rfl)
theorem dX1_init_34 : decode cX1_init 34 = .ok (.aload_n 0, 1) := dk_42 (dk_at dksX1_init_1 11 rfl rfl)
theorem dX1_init_35 : decode cX1_init 35 = .ok (.sipush 400, 3) := dk_17 1 144 (dk_at dksX1_init_1 12 rfl rfl)
theorem dX1_init_38 : decode cX1_init 38 = .ok (.newarray .int, 2) := dk_188_10 (dk_at dksX1_init_1 15 rfl rfl)
theorem dX1_init_40 : decode cX1_init 40 = .ok (.putfield 53, 3) := dk_181 0 53 (dk_at dksX1_init_1 17 rfl rfl)
theorem dX1_init_43 : decode cX1_init 43 = .ok (.aload_n 0, 1) := dk_42 (dk_at dksX1_init_1 20 rfl rfl)
theorem dX1_init_44 : decode cX1_init 44 = .ok (.sipush 400, 3) := dk_17 1 144 (dk_at dksX1_init_1 21 rfl rfl)
theorem dX1_init_47 : decode cX1_init 47 = .ok (.newarray .int, 2) := dk_188_10 (dk_at dksX1_init_2 0 rfl rfl)
theorem dX1_init_49 : decode cX1_init 49 = .ok (.putfield 56, 3) := dk_181 0 56 (dk_at dksX1_init_2 2 rfl rfl)
theorem dX1_init_52 : decode cX1_init 52 = .ok (.aload_n 0, 1) := dk_42 (dk_at dksX1_init_2 5 rfl rfl)
theorem dX1_init_53 : decode cX1_init 53 = .ok (.sipush 400, 3) := dk_17 1 144 (dk_at dksX1_init_2 6 rfl rfl)
theorem dX1_init_56 : decode cX1_init 56 = .ok (.newarray .int, 2) := dk_188_10 (dk_at dksX1_init_2 9 rfl rfl)
theorem dX1_init_58 : decode cX1_init 58 = .ok (.putfield 59, 3) := dk_181 0 59 (dk_at dksX1_init_2 11 rfl rfl)
theorem dX1_init_61 : decode cX1_init 61 = .ok (.aload_n 0, 1) := dk_42 (dk_at dksX1_init_2 14 rfl rfl)
theorem dX1_init_62 : decode cX1_init 62 = .ok (.sipush 400, 3) := dk_17 1 144 (dk_at dksX1_init_2 15 rfl rfl)
theorem dX1_init_65 : decode cX1_init 65 = .ok (.newarray .int, 2) := dk_188_10 (dk_at dksX1_init_2 18 rfl rfl)
theorem dX1_init_67 : decode cX1_init 67 = .ok (.putfield 62, 3) := dk_181 0 62 (dk_at dksX1_init_2 20 rfl rfl)
theorem dX1_init_70 : decode cX1_init 70 = .ok (.return_, 1) := dk_177 (dk_at dksX1_init_2 23 rfl rfl)
def dkwX1_feed_2 : List UInt8 := [172]
abbrev dktX1_feed_2 : List UInt8 := dkwX1_feed_2 ++ []
def dkwX1_feed_1 : List UInt8 := [182, 0, 68, 42, 29, 182, 0, 68, 42, 21, 4, 182, 0, 68, 42, 21, 5, 182, 0, 68, 42, 180, 0, 65]
abbrev dktX1_feed_1 : List UInt8 := dkwX1_feed_1 ++ dktX1_feed_2
def dkwX1_feed_0 : List UInt8 := [42, 180, 0, 65, 16, 20, 96, 17, 15, 160, 164, 0, 5, 2, 172, 42, 27, 182, 0, 68, 42, 28]
abbrev dktX1_feed_0 : List UInt8 := dkwX1_feed_0 ++ dktX1_feed_1
theorem dksX1_feed_0 : cX1_feed.data.toList.drop 0 = dktX1_feed_0 := by decide +kernel
theorem dksX1_feed_1 : cX1_feed.data.toList.drop 22 = dktX1_feed_1 := dk_seg dksX1_feed_0 22 rfl rfl
theorem dksX1_feed_2 : cX1_feed.data.toList.drop 46 = dktX1_feed_2 := dk_seg dksX1_feed_1 24 rfl rfl
theorem dX1_feed_0 : decode cX1_feed 0 = .ok (.aload_n 0, 1) := dk_42 (dk_at dksX1_feed_0 0 rfl rfl)
theorem dX1_feed_1 : decode cX1_feed 1 = .ok (.getfield 65, 3) := dk_180 0 65 (dk_at dksX1_feed_0 1 rfl rfl)
theorem dX1_feed_4 : decode cX1_feed 4 = .ok (.bipush 20, 2) := dk_16 20 (dk_at dksX1_feed_0 4 rfl rfl)
theorem dX1_feed_6 : decode cX1_feed 6 = .ok (.iadd, 1) := dk_96 (dk_at dksX1_feed_0 6 rfl rfl)
theorem dX1_feed_7 : decode cX1_feed 7 = .ok (.sipush 4000, 3) := dk_17 15 160 (dk_at dksX1_feed_0 7 rfl rfl)
theorem dX1_feed_10 : decode cX1_feed 10 = .ok (.if_icmp .le 5, 3) := dk_164 0 5 (dk_at dksX1_feed_0 10 rfl rfl)
theorem dX1_feed_13 : decode cX1_feed 13 = .ok (.iconst (-1), 1) := dk_2 (dk_at dksX1_feed_0 13 rfl rfl)
theorem dX1_feed_14 : decode cX1_feed 14 = .ok (.ireturn, 1) := dk_172 (dk_at dksX1_feed_0 14 rfl rfl)
theorem dX1_feed_15 : decode cX1_feed 15 = .ok (.aload_n 0, 1) := dk_42 (dk_at dksX1_feed_0 15 rfl rfl)
theorem dX1_feed_16 : decode cX1_feed 16 = .ok (.iload_n 1, 1) := dk_27 (dk_at dksX1_feed_0 16 rfl rfl)
theorem dX1_feed_17 : decode cX1_feed 17 = .ok (.invokevirtual 68, 3) := dk_182 0 68 (dk_at dksX1_feed_0 17 rfl rfl)
theorem dX1_feed_20 : decode cX1_feed 20 = .ok (.aload_n 0, 1) := dk_42 (dk_at dksX1_feed_0 20 rfl rfl)
theorem dX1_feed_21 : decode cX1_feed 21 = .ok (.iload_n 2, 1) := dk_28 (dk_at dksX1_feed_0 21 rfl rfl)
theorem dX1_feed_22 : decode cX1_feed 22 = .ok (.invokevirtual 68, 3) := dk_182 0 68 (dk_at dksX1_feed_1 0 rfl rfl)
theorem dX1_feed_25 : decode cX1_feed 25 = .ok (.aload_n 0, 1) := dk_42 (dk_at dksX1_feed_1 3 rfl rfl)
theorem dX1_feed_26 : decode cX1_feed 26 = .ok (.iload_n 3, 1) := dk_29 (dk_at dksX1_feed_1 4 rfl rfl)
theorem dX1_feed_27 : decode cX1_feed 27 = .ok (.invokevirtual 68, 3) := dk_182 0 68 (dk_at dksX1_feed_1 5 rfl rfl)
theorem dX1_feed_30 : decode cX1_feed 30 = .ok (.aload_n 0, 1) := dk_42 (dk_at dksX1_feed_1 8 rfl rfl)
theorem dX1_feed_31 : decode cX1_feed 31 = .ok (.iload 4, 2) := dk_21 4 (dk_at dksX1_feed_1 9 rfl rfl)
theorem dX1_feed_33 : decode cX1_feed 33 = .ok (.invokevirtual 68, 3) := dk_182 0 68 (dk_at dksX1_feed_1 11 rfl rfl)
theorem dX1_feed_36 : decode cX1_feed 36 = .ok (.aload_n 0, 1) := dk_42 (dk_at dksX1_feed_1 14 rfl rfl)
theorem dX1_feed_37 : decode cX1_feed 37 = .ok (.iload 5, 2) := dk_21 5 (dk_at dksX1_feed_1 15 rfl rfl)
theorem dX1_feed_39 : decode cX1_feed 39 = .ok (.invokevirtual 68, 3) := dk_182 0 68 (dk_at dksX1_feed_1 17 rfl rfl)
theorem dX1_feed_42 : decode cX1_feed 42 = .ok (.aload_n 0, 1) := dk_42 (dk_at dksX1_feed_1 20 rfl rfl)
theorem dX1_feed_43 : decode cX1_feed 43 = .ok (.getfield 65, 3) := dk_180 0 65 (dk_at dksX1_feed_1 21 rfl rfl)
theorem dX1_feed_46 : decode cX1_feed 46 = .ok (.ireturn, 1) := dk_172 (dk_at dksX1_feed_2 0 rfl rfl)
def dkwX1_put_1 : List UInt8 := [180, 0, 65, 4, 96, 181, 0, 65, 132, 2, 248, 167, 255, 226, 177]
abbrev dktX1_put_1 : List UInt8 := dkwX1_put_1 ++ []
def dkwX1_put_0 : List UInt8 := [16, 24, 61, 28, 155, 0, 32, 42, 180, 0, 37, 42, 180, 0, 65, 27, 28, 122, 145, 84, 42, 89]
abbrev dktX1_put_0 : List UInt8 := dkwX1_put_0 ++ dktX1_put_1
theorem dksX1_put_0 : cX1_put.data.toList.drop 0 = dktX1_put_0 := by decide +kernel
theorem dksX1_put_1 : cX1_put.data.toList.drop 22 = dktX1_put_1 := dk_seg dksX1_put_0 22 rfl rfl
theorem dX1_put_0 : decode cX1_put 0 = .ok (.bipush 24, 2) := dk_16 24 (dk_at dksX1_put_0 0 rfl rfl)
theorem dX1_put_2 : decode cX1_put 2 = .ok (.istore_n 2, 1) := dk_61 (dk_at dksX1_put_0 2 rfl rfl)
theorem dX1_put_3 : decode cX1_put 3 = .ok (.iload_n 2, 1) := dk_28 (dk_at dksX1_put_0 3 rfl rfl)
theorem dX1_put_4 : decode cX1_put 4 = .ok (.ifCond .lt 32, 3) := dk_155 0 32 (dk_at dksX1_put_0 4 rfl rfl)
theorem dX1_put_7 : decode cX1_put 7 = .ok (.aload_n 0, 1) := dk_42 (dk_at dksX1_put_0 7 rfl rfl)
theorem dX1_put_8 : decode cX1_put 8 = .ok (.getfield 37, 3) := dk_180 0 37 (dk_at dksX1_put_0 8 rfl rfl)
theorem dX1_put_11 : decode cX1_put 11 = .ok (.aload_n 0, 1) := dk_42 (dk_at dksX1_put_0 11 rfl rfl)
theorem dX1_put_12 : decode cX1_put 12 = .ok (.getfield 65, 3) := dk_180 0 65 (dk_at dksX1_put_0 12 rfl rfl)
theorem dX1_put_15 : decode cX1_put 15 = .ok (.iload_n 1, 1) := dk_27 (dk_at dksX1_put_0 15 rfl rfl)
theorem dX1_put_16 : decode cX1_put 16 = .ok (.iload_n 2, 1) := dk_28 (dk_at dksX1_put_0 16 rfl rfl)
theorem dX1_put_17 : decode cX1_put 17 = .ok (.ishr, 1) := dk_122 (dk_at dksX1_put_0 17 rfl rfl)
theorem dX1_put_18 : decode cX1_put 18 = .ok (.i2b, 1) := dk_145 (dk_at dksX1_put_0 18 rfl rfl)
theorem dX1_put_19 : decode cX1_put 19 = .ok (.bastore, 1) := dk_84 (dk_at dksX1_put_0 19 rfl rfl)
theorem dX1_put_20 : decode cX1_put 20 = .ok (.aload_n 0, 1) := dk_42 (dk_at dksX1_put_0 20 rfl rfl)
theorem dX1_put_21 : decode cX1_put 21 = .ok (.dup, 1) := dk_89 (dk_at dksX1_put_0 21 rfl rfl)
theorem dX1_put_22 : decode cX1_put 22 = .ok (.getfield 65, 3) := dk_180 0 65 (dk_at dksX1_put_1 0 rfl rfl)
theorem dX1_put_25 : decode cX1_put 25 = .ok (.iconst 1, 1) := dk_4 (dk_at dksX1_put_1 3 rfl rfl)
theorem dX1_put_26 : decode cX1_put 26 = .ok (.iadd, 1) := dk_96 (dk_at dksX1_put_1 4 rfl rfl)
theorem dX1_put_27 : decode cX1_put 27 = .ok (.putfield 65, 3) := dk_181 0 65 (dk_at dksX1_put_1 5 rfl rfl)
theorem dX1_put_30 : decode cX1_put 30 = .ok (.iinc 2 (-8), 3) := dk_132 2 248 (dk_at dksX1_put_1 8 rfl rfl)
theorem dX1_put_33 : decode cX1_put 33 = .ok (.goto (-30), 3) := dk_167 255 226 (dk_at dksX1_put_1 11 rfl rfl)
theorem dX1_put_36 : decode cX1_put 36 = .ok (.return_, 1) := dk_177 (dk_at dksX1_put_1 14 rfl rfl)
def dkwX1_word_1 : List UInt8 := [132, 3, 1, 167, 255, 233, 31, 173]
abbrev dktX1_word_1 : List UInt8 := dkwX1_word_1 ++ []
def dkwX1_word_0 : List UInt8 := [9, 64, 3, 62, 29, 42, 182, 0, 1, 162, 0, 21, 31, 16, 8, 121, 42, 29, 182, 0, 7, 133, 129, 64]
abbrev dktX1_word_0 : List UInt8 := dkwX1_word_0 ++ dktX1_word_1
theorem dksX1_word_0 : cX1_word.data.toList.drop 0 = dktX1_word_0 := by decide +kernel
theorem dksX1_word_1 : cX1_word.data.toList.drop 24 = dktX1_word_1 := dk_seg dksX1_word_0 24 rfl rfl
theorem dX1_word_0 : decode cX1_word 0 = .ok (.lconst 0, 1) := dk_9 (dk_at dksX1_word_0 0 rfl rfl)
theorem dX1_word_1 : decode cX1_word 1 = .ok (.lstore_n 1, 1) := dk_64 (dk_at dksX1_word_0 1 rfl rfl)
theorem dX1_word_2 : decode cX1_word 2 = .ok (.iconst 0, 1) := dk_3 (dk_at dksX1_word_0 2 rfl rfl)
theorem dX1_word_3 : decode cX1_word 3 = .ok (.istore_n 3, 1) := dk_62 (dk_at dksX1_word_0 3 rfl rfl)
theorem dX1_word_4 : decode cX1_word 4 = .ok (.iload_n 3, 1) := dk_29 (dk_at dksX1_word_0 4 rfl rfl)
theorem dX1_word_5 : decode cX1_word 5 = .ok (.aload_n 0, 1) := dk_42 (dk_at dksX1_word_0 5 rfl rfl)
theorem dX1_word_6 : decode cX1_word 6 = .ok (.invokevirtual 1, 3) := dk_182 0 1 (dk_at dksX1_word_0 6 rfl rfl)
theorem dX1_word_9 : decode cX1_word 9 = .ok (.if_icmp .ge 21, 3) := dk_162 0 21 (dk_at dksX1_word_0 9 rfl rfl)
theorem dX1_word_12 : decode cX1_word 12 = .ok (.lload_n 1, 1) := dk_31 (dk_at dksX1_word_0 12 rfl rfl)
theorem dX1_word_13 : decode cX1_word 13 = .ok (.bipush 8, 2) := dk_16 8 (dk_at dksX1_word_0 13 rfl rfl)
theorem dX1_word_15 : decode cX1_word 15 = .ok (.lshl, 1) := dk_121 (dk_at dksX1_word_0 15 rfl rfl)
theorem dX1_word_16 : decode cX1_word 16 = .ok (.aload_n 0, 1) := dk_42 (dk_at dksX1_word_0 16 rfl rfl)
theorem dX1_word_17 : decode cX1_word 17 = .ok (.iload_n 3, 1) := dk_29 (dk_at dksX1_word_0 17 rfl rfl)
theorem dX1_word_18 : decode cX1_word 18 = .ok (.invokevirtual 7, 3) := dk_182 0 7 (dk_at dksX1_word_0 18 rfl rfl)
theorem dX1_word_21 : decode cX1_word 21 = .ok (.i2l, 1) := dk_133 (dk_at dksX1_word_0 21 rfl rfl)
theorem dX1_word_22 : decode cX1_word 22 = .ok (.lor, 1) := dk_129 (dk_at dksX1_word_0 22 rfl rfl)
theorem dX1_word_23 : decode cX1_word 23 = .ok (.lstore_n 1, 1) := dk_64 (dk_at dksX1_word_0 23 rfl rfl)
theorem dX1_word_24 : decode cX1_word 24 = .ok (.iinc 3 1, 3) := dk_132 3 1 (dk_at dksX1_word_1 0 rfl rfl)
theorem dX1_word_27 : decode cX1_word 27 = .ok (.goto (-23), 3) := dk_167 255 233 (dk_at dksX1_word_1 3 rfl rfl)
theorem dX1_word_30 : decode cX1_word 30 = .ok (.lload_n 1, 1) := dk_31 (dk_at dksX1_word_1 6 rfl rfl)
theorem dX1_word_31 : decode cX1_word 31 = .ok (.lreturn, 1) := dk_173 (dk_at dksX1_word_1 7 rfl rfl)
def dkwX1_isReserved_2 : List UInt8 := [159, 0, 7, 4, 167, 0, 4, 3, 172]
abbrev dktX1_isReserved_2 : List UInt8 := dkwX1_isReserved_2 ++ []
def dkwX1_isReserved_1 : List UInt8 := [184, 0, 15, 2, 160, 0, 23, 18, 27, 30, 184, 0, 15, 2, 160, 0, 13, 18, 29, 30, 184, 0, 15, 2]
abbrev dktX1_isReserved_1 : List UInt8 := dkwX1_isReserved_1 ++ dktX1_isReserved_2
def dkwX1_isReserved_0 : List UInt8 := [18, 13, 30, 184, 0, 15, 2, 159, 0, 13, 30, 18, 19, 184, 0, 21, 148, 154, 0, 33, 18, 25, 30]
abbrev dktX1_isReserved_0 : List UInt8 := dkwX1_isReserved_0 ++ dktX1_isReserved_1
theorem dksX1_isReserved_0 : cX1_isReserved.data.toList.drop 0 = dktX1_isReserved_0 := by decide +kernel
theorem dksX1_isReserved_1 : cX1_isReserved.data.toList.drop 23 = dktX1_isReserved_1 := dk_seg dksX1_isReserved_0 23 rfl rfl
theorem dksX1_isReserved_2 : cX1_isReserved.data.toList.drop 47 = dktX1_isReserved_2 := dk_seg dksX1_isReserved_1 24 rfl rfl
theorem dX1_isReserved_0 : decode cX1_isReserved 0 = .ok (.ldc 13, 2) := dk_18 13 (dk_at dksX1_isReserved_0 0 rfl rfl)
theorem dX1_isReserved_2 : decode cX1_isReserved 2 = .ok (.lload_n 0, 1) := dk_30 (dk_at dksX1_isReserved_0 2 rfl rfl)
theorem dX1_isReserved_3 : decode cX1_isReserved 3 = .ok (.invokestatic 15, 3) := dk_184 0 15 (dk_at dksX1_isReserved_0 3 rfl rfl)
theorem dX1_isReserved_6 : decode cX1_isReserved 6 = .ok (.iconst (-1), 1) := dk_2 (dk_at dksX1_isReserved_0 6 rfl rfl)
theorem dX1_isReserved_7 : decode cX1_isReserved 7 = .ok (.if_icmp .eq 13, 3) := dk_159 0 13 (dk_at dksX1_isReserved_0 7 rfl rfl)
theorem dX1_isReserved_10 : decode cX1_isReserved 10 = .ok (.lload_n 0, 1) := dk_30 (dk_at dksX1_isReserved_0 10 rfl rfl)
theorem dX1_isReserved_11 : decode cX1_isReserved 11 = .ok (.ldc 19, 2) := dk_18 19 (dk_at dksX1_isReserved_0 11 rfl rfl)
theorem dX1_isReserved_13 : decode cX1_isReserved 13 = .ok (.invokestatic 21, 3) := dk_184 0 21 (dk_at dksX1_isReserved_0 13 rfl rfl)
theorem dX1_isReserved_16 : decode cX1_isReserved 16 = .ok (.lcmp, 1) := dk_148 (dk_at dksX1_isReserved_0 16 rfl rfl)
theorem dX1_isReserved_17 : decode cX1_isReserved 17 = .ok (.ifCond .ne 33, 3) := dk_154 0 33 (dk_at dksX1_isReserved_0 17 rfl rfl)
theorem dX1_isReserved_20 : decode cX1_isReserved 20 = .ok (.ldc 25, 2) := dk_18 25 (dk_at dksX1_isReserved_0 20 rfl rfl)
theorem dX1_isReserved_22 : decode cX1_isReserved 22 = .ok (.lload_n 0, 1) := dk_30 (dk_at dksX1_isReserved_0 22 rfl rfl)
theorem dX1_isReserved_23 : decode cX1_isReserved 23 = .ok (.invokestatic 15, 3) := dk_184 0 15 (dk_at dksX1_isReserved_1 0 rfl rfl)
theorem dX1_isReserved_26 : decode cX1_isReserved 26 = .ok (.iconst (-1), 1) := dk_2 (dk_at dksX1_isReserved_1 3 rfl rfl)
theorem dX1_isReserved_27 : decode cX1_isReserved 27 = .ok (.if_icmp .ne 23, 3) := dk_160 0 23 (dk_at dksX1_isReserved_1 4 rfl rfl)
theorem dX1_isReserved_30 : decode cX1_isReserved 30 = .ok (.ldc 27, 2) := dk_18 27 (dk_at dksX1_isReserved_1 7 rfl rfl)
theorem dX1_isReserved_32 : decode cX1_isReserved 32 = .ok (.lload_n 0, 1) := dk_30 (dk_at dksX1_isReserved_1 9 rfl rfl)
theorem dX1_isReserved_33 : decode cX1_isReserved 33 = .ok (.invokestatic 15, 3) := dk_184 0 15 (dk_at dksX1_isReserved_1 10 rfl rfl)
theorem dX1_isReserved_36 : decode cX1_isReserved 36 = .ok (.iconst (-1), 1) := dk_2 (dk_at dksX1_isReserved_1 13 rfl rfl)
theorem dX1_isReserved_37 : decode cX1_isReserved 37 = .ok (.if_icmp .ne 13, 3) := dk_160 0 13 (dk_at dksX1_isReserved_1 14 rfl rfl)
theorem dX1_isReserved_40 : decode cX1_isReserved 40 = .ok (.ldc 29, 2) := dk_18 29 (dk_at dksX1_isReserved_1 17 rfl rfl)
theorem dX1_isReserved_42 : decode cX1_isReserved 42 = .ok (.lload_n 0, 1) := dk_30 (dk_at dksX1_isReserved_1 19 rfl rfl)
theorem dX1_isReserved_43 : decode cX1_isReserved 43 = .ok (.invokestatic 15, 3) := dk_184 0 15 (dk_at dksX1_isReserved_1 20 rfl rfl)
theorem dX1_isReserved_46 : decode cX1_isReserved 46 = .ok (.iconst (-1), 1) := dk_2 (dk_at dksX1_isReserved_1 23 rfl rfl)
theorem dX1_isReserved_47 : decode cX1_isReserved 47 = .ok (.if_icmp .eq 7, 3) := dk_159 0 7 (dk_at dksX1_isReserved_2 0 rfl rfl)
theorem dX1_isReserved_50 : decode cX1_isReserved 50 = .ok (.iconst 1, 1) := dk_4 (dk_at dksX1_isReserved_2 3 rfl rfl)
theorem dX1_isReserved_51 : decode cX1_isReserved 51 = .ok (.goto 4, 3) := dk_167 0 4 (dk_at dksX1_isReserved_2 4 rfl rfl)
theorem dX1_isReserved_54 : decode cX1_isReserved 54 = .ok (.iconst 0, 1) := dk_3 (dk_at dksX1_isReserved_2 7 rfl rfl)
theorem dX1_isReserved_55 : decode cX1_isReserved 55 = .ok (.ireturn, 1) := dk_172 (dk_at dksX1_isReserved_2 8 rfl rfl)
def dkwX1_among_2 : List UInt8 := [154, 0, 6, 21, 5, 172, 9, 66, 132, 5, 1, 132, 6, 1, 167, 255, 203, 2, 172]
abbrev dktX1_among_2 : List UInt8 := dkwX1_among_2 ++ []
def dkwX1_among_1 : List UInt8 := [16, 32, 159, 0, 19, 33, 16, 8, 121, 42, 21, 6, 182, 0, 7, 133, 129, 66, 167, 0, 17, 33, 31, 148]
abbrev dktX1_among_1 : List UInt8 := dkwX1_among_1 ++ dktX1_among_2
def dkwX1_among_0 : List UInt8 := [9, 66, 3, 54, 5, 3, 54, 6, 21, 6, 42, 182, 0, 1, 162, 0, 50, 42, 21, 6, 182, 0, 7]
abbrev dktX1_among_0 : List UInt8 := dkwX1_among_0 ++ dktX1_among_1
theorem dksX1_among_0 : cX1_among.data.toList.drop 0 = dktX1_among_0 := by decide +kernel
theorem dksX1_among_1 : cX1_among.data.toList.drop 23 = dktX1_among_1 := dk_seg dksX1_among_0 23 rfl rfl
theorem dksX1_among_2 : cX1_among.data.toList.drop 47 = dktX1_among_2 := dk_seg dksX1_among_1 24 rfl rfl
theorem dX1_among_0 : decode cX1_among 0 = .ok (.lconst 0, 1) := dk_9 (dk_at dksX1_among_0 0 rfl rfl)
theorem dX1_among_1 : decode cX1_among 1 = .ok (.lstore_n 3, 1) := dk_66 (dk_at dksX1_among_0 1 rfl rfl)
theorem dX1_among_2 : decode cX1_among 2 = .ok (.iconst 0, 1) := dk_3 (dk_at dksX1_among_0 2 rfl rfl)
theorem dX1_among_3 : decode cX1_among 3 = .ok (.istore 5, 2) := dk_54 5 (dk_at dksX1_among_0 3 rfl rfl)
theorem dX1_among_5 : decode cX1_among 5 = .ok (.iconst 0, 1) := dk_3 (dk_at dksX1_among_0 5 rfl rfl)
theorem dX1_among_6 : decode cX1_among 6 = .ok (.istore 6, 2) := dk_54 6 (dk_at dksX1_among_0 6 rfl rfl)
theorem dX1_among_8 : decode cX1_among 8 = .ok (.iload 6, 2) := dk_21 6 (dk_at dksX1_among_0 8 rfl rfl)
theorem dX1_among_10 : decode cX1_among 10 = .ok (.aload_n 0, 1) := dk_42 (dk_at dksX1_among_0 10 rfl rfl)
theorem dX1_among_11 : decode cX1_among 11 = .ok (.invokevirtual 1, 3) := dk_182 0 1 (dk_at dksX1_among_0 11 rfl rfl)
theorem dX1_among_14 : decode cX1_among 14 = .ok (.if_icmp .ge 50, 3) := dk_162 0 50 (dk_at dksX1_among_0 14 rfl rfl)
theorem dX1_among_17 : decode cX1_among 17 = .ok (.aload_n 0, 1) := dk_42 (dk_at dksX1_among_0 17 rfl rfl)
theorem dX1_among_18 : decode cX1_among 18 = .ok (.iload 6, 2) := dk_21 6 (dk_at dksX1_among_0 18 rfl rfl)
theorem dX1_among_20 : decode cX1_among 20 = .ok (.invokevirtual 7, 3) := dk_182 0 7 (dk_at dksX1_among_0 20 rfl rfl)
theorem dX1_among_23 : decode cX1_among 23 = .ok (.bipush 32, 2) := dk_16 32 (dk_at dksX1_among_1 0 rfl rfl)
theorem dX1_among_25 : decode cX1_among 25 = .ok (.if_icmp .eq 19, 3) := dk_159 0 19 (dk_at dksX1_among_1 2 rfl rfl)
theorem dX1_among_28 : decode cX1_among 28 = .ok (.lload_n 3, 1) := dk_33 (dk_at dksX1_among_1 5 rfl rfl)
theorem dX1_among_29 : decode cX1_among 29 = .ok (.bipush 8, 2) := dk_16 8 (dk_at dksX1_among_1 6 rfl rfl)
theorem dX1_among_31 : decode cX1_among 31 = .ok (.lshl, 1) := dk_121 (dk_at dksX1_among_1 8 rfl rfl)
theorem dX1_among_32 : decode cX1_among 32 = .ok (.aload_n 0, 1) := dk_42 (dk_at dksX1_among_1 9 rfl rfl)
theorem dX1_among_33 : decode cX1_among 33 = .ok (.iload 6, 2) := dk_21 6 (dk_at dksX1_among_1 10 rfl rfl)
theorem dX1_among_35 : decode cX1_among 35 = .ok (.invokevirtual 7, 3) := dk_182 0 7 (dk_at dksX1_among_1 12 rfl rfl)
theorem dX1_among_38 : decode cX1_among 38 = .ok (.i2l, 1) := dk_133 (dk_at dksX1_among_1 15 rfl rfl)
theorem dX1_among_39 : decode cX1_among 39 = .ok (.lor, 1) := dk_129 (dk_at dksX1_among_1 16 rfl rfl)
theorem dX1_among_40 : decode cX1_among 40 = .ok (.lstore_n 3, 1) := dk_66 (dk_at dksX1_among_1 17 rfl rfl)
theorem dX1_among_41 : decode cX1_among 41 = .ok (.goto 17, 3) := dk_167 0 17 (dk_at dksX1_among_1 18 rfl rfl)
theorem dX1_among_44 : decode cX1_among 44 = .ok (.lload_n 3, 1) := dk_33 (dk_at dksX1_among_1 21 rfl rfl)
theorem dX1_among_45 : decode cX1_among 45 = .ok (.lload_n 1, 1) := dk_31 (dk_at dksX1_among_1 22 rfl rfl)
theorem dX1_among_46 : decode cX1_among 46 = .ok (.lcmp, 1) := dk_148 (dk_at dksX1_among_1 23 rfl rfl)
theorem dX1_among_47 : decode cX1_among 47 = .ok (.ifCond .ne 6, 3) := dk_154 0 6 (dk_at dksX1_among_2 0 rfl rfl)
theorem dX1_among_50 : decode cX1_among 50 = .ok (.iload 5, 2) := dk_21 5 (dk_at dksX1_among_2 3 rfl rfl)
theorem dX1_among_52 : decode cX1_among 52 = .ok (.ireturn, 1) := dk_172 (dk_at dksX1_among_2 5 rfl rfl)
theorem dX1_among_53 : decode cX1_among 53 = .ok (.lconst 0, 1) := dk_9 (dk_at dksX1_among_2 6 rfl rfl)
theorem dX1_among_54 : decode cX1_among 54 = .ok (.lstore_n 3, 1) := dk_66 (dk_at dksX1_among_2 7 rfl rfl)
theorem dX1_among_55 : decode cX1_among 55 = .ok (.iinc 5 1, 3) := dk_132 5 1 (dk_at dksX1_among_2 8 rfl rfl)
theorem dX1_among_58 : decode cX1_among 58 = .ok (.iinc 6 1, 3) := dk_132 6 1 (dk_at dksX1_among_2 11 rfl rfl)
theorem dX1_among_61 : decode cX1_among 61 = .ok (.goto (-53), 3) := dk_167 255 203 (dk_at dksX1_among_2 14 rfl rfl)
theorem dX1_among_64 : decode cX1_among 64 = .ok (.iconst (-1), 1) := dk_2 (dk_at dksX1_among_2 17 rfl rfl)
theorem dX1_among_65 : decode cX1_among 65 = .ok (.ireturn, 1) := dk_172 (dk_at dksX1_among_2 18 rfl rfl)
def dkwX1_begin_9 : List UInt8 := [182, 0, 201, 132, 1, 1, 167, 255, 129, 177]
abbrev dktX1_begin_9 : List UInt8 := dkwX1_begin_9 ++ []
def dkwX1_begin_8 : List UInt8 := [44, 184, 0, 192, 44, 193, 0, 195, 153, 0, 17, 44, 192, 0, 195, 78, 45, 185, 0, 197, 1, 0]
abbrev dktX1_begin_8 : List UInt8 := dkwX1_begin_8 ++ dktX1_begin_9
def dkwX1_begin_7 : List UInt8 := [192, 0, 178, 78, 45, 185, 0, 180, 1, 0, 3, 181, 0, 184, 45, 185, 0, 180, 1, 0, 3, 181, 0, 189]
abbrev dktX1_begin_7 : List UInt8 := dkwX1_begin_7 ++ dktX1_begin_8
def dkwX1_begin_6 : List UInt8 := [192, 0, 167, 78, 45, 185, 0, 169, 1, 0, 3, 181, 0, 173, 44, 193, 0, 178, 153, 0, 28, 44]
abbrev dktX1_begin_6 : List UInt8 := dkwX1_begin_6 ++ dktX1_begin_7
def dkwX1_begin_5 : List UInt8 := [181, 0, 151, 44, 180, 0, 154, 182, 0, 158, 44, 184, 0, 163, 44, 193, 0, 167, 153, 0, 18, 44]
abbrev dktX1_begin_5 : List UInt8 := dkwX1_begin_5 ++ dktX1_begin_6
def dkwX1_begin_4 : List UInt8 := [182, 0, 108, 162, 0, 119, 42, 180, 0, 75, 180, 0, 104, 27, 182, 0, 127, 192, 0, 131, 77, 44, 3]
abbrev dktX1_begin_4 : List UInt8 := dkwX1_begin_4 ++ dktX1_begin_5
def dkwX1_begin_3 : List UInt8 := [180, 0, 49, 27, 3, 84, 132, 1, 1, 167, 255, 240, 3, 60, 27, 42, 180, 0, 75, 180, 0, 104]
abbrev dktX1_begin_3 : List UInt8 := dkwX1_begin_3 ++ dktX1_begin_4
def dkwX1_begin_2 : List UInt8 := [180, 0, 75, 180, 0, 148, 27, 46, 79, 132, 1, 1, 167, 255, 227, 3, 60, 27, 16, 8, 162, 0, 16, 42]
abbrev dktX1_begin_2 : List UInt8 := dkwX1_begin_2 ++ dktX1_begin_3
def dkwX1_begin_1 : List UInt8 := [181, 0, 145, 3, 60, 27, 42, 180, 0, 75, 180, 0, 113, 162, 0, 24, 42, 180, 0, 45, 27, 42]
abbrev dktX1_begin_1 : List UInt8 := dkwX1_begin_1 ++ dktX1_begin_2
def dkwX1_begin_0 : List UInt8 := [42, 3, 181, 0, 133, 42, 3, 181, 0, 136, 42, 3, 181, 0, 139, 42, 3, 181, 0, 142, 42, 3]
abbrev dktX1_begin_0 : List UInt8 := dkwX1_begin_0 ++ dktX1_begin_1
theorem dksX1_begin_0 : cX1_begin.data.toList.drop 0 = dktX1_begin_0 := by decide +kernel
theorem dksX1_begin_1 : cX1_begin.data.toList.drop 22 = dktX1_begin_1 := dk_seg dksX1_begin_0 22 rfl rfl
theorem dksX1_begin_2 : cX1_begin.data.toList.drop 44 = dktX1_begin_2 := dk_seg dksX1_begin_1 22 rfl rfl
theorem dksX1_begin_3 : cX1_begin.data.toList.drop 68 = dktX1_begin_3 := dk_seg dksX1_begin_2 24 rfl rfl
theorem dksX1_begin_4 : cX1_begin.data.toList.drop 90 = dktX1_begin_4 := dk_seg dksX1_begin_3 22 rfl rfl
theorem dksX1_begin_5 : cX1_begin.data.toList.drop 113 = dktX1_begin_5 := dk_seg dksX1_begin_4 23 rfl rfl
theorem dksX1_begin_6 : cX1_begin.data.toList.drop 135 = dktX1_begin_6 := dk_seg dksX1_begin_5 22 rfl rfl
theorem dksX1_begin_7 : cX1_begin.data.toList.drop 157 = dktX1_begin_7 := dk_seg dksX1_begin_6 22 rfl rfl
theorem dksX1_begin_8 : cX1_begin.data.toList.drop 181 = dktX1_begin_8 := dk_seg dksX1_begin_7 24 rfl rfl
theorem dksX1_begin_9 : cX1_begin.data.toList.drop 203 = dktX1_begin_9 := dk_seg dksX1_begin_8 22 rfl rfl
theorem dX1_begin_0 : decode cX1_begin 0 = .ok (.aload_n 0, 1) := dk_42 (dk_at dksX1_begin_0 0 rfl rfl)
theorem dX1_begin_1 : decode cX1_begin 1 = .ok (.iconst 0, 1) := dk_3 (dk_at dksX1_begin_0 1 rfl rfl)
theorem dX1_begin_2 : decode cX1_begin 2 = .ok (.putfield 133, 3) := dk_181 0 133 (dk_at dksX1_begin_0 2 rfl rfl)
theorem dX1_begin_5 : decode cX1_begin 5 = .ok (.aload_n 0, 1) := dk_42 (dk_at dksX1_begin_0 5 rfl rfl)
theorem dX1_begin_6 : decode cX1_begin 6 = .ok (.iconst 0, 1) := dk_3 (dk_at dksX1_begin_0 6 rfl rfl)
theorem dX1_begin_7 : decode cX1_begin 7 = .ok (.putfield 136, 3) := dk_181 0 136 (dk_at dksX1_begin_0 7 rfl rfl)
theorem dX1_begin_10 : decode cX1_begin 10 = .ok (.aload_n 0, 1) := dk_42 (dk_at dksX1_begin_0 10 rfl rfl)
theorem dX1_begin_11 : decode cX1_begin 11 = .ok (.iconst 0, 1) := dk_3 (dk_at dksX1_begin_0 11 rfl rfl)
theorem dX1_begin_12 : decode cX1_begin 12 = .ok (.putfield 139, 3) := dk_181 0 139 (dk_at dksX1_begin_0 12 rfl rfl)
theorem dX1_begin_15 : decode cX1_begin 15 = .ok (.aload_n 0, 1) := dk_42 (dk_at dksX1_begin_0 15 rfl rfl)
theorem dX1_begin_16 : decode cX1_begin 16 = .ok (.iconst 0, 1) := dk_3 (dk_at dksX1_begin_0 16 rfl rfl)
theorem dX1_begin_17 : decode cX1_begin 17 = .ok (.putfield 142, 3) := dk_181 0 142 (dk_at dksX1_begin_0 17 rfl rfl)
theorem dX1_begin_20 : decode cX1_begin 20 = .ok (.aload_n 0, 1) := dk_42 (dk_at dksX1_begin_0 20 rfl rfl)
theorem dX1_begin_21 : decode cX1_begin 21 = .ok (.iconst 0, 1) := dk_3 (dk_at dksX1_begin_0 21 rfl rfl)
theorem dX1_begin_22 : decode cX1_begin 22 = .ok (.putfield 145, 3) := dk_181 0 145 (dk_at dksX1_begin_1 0 rfl rfl)
theorem dX1_begin_25 : decode cX1_begin 25 = .ok (.iconst 0, 1) := dk_3 (dk_at dksX1_begin_1 3 rfl rfl)
theorem dX1_begin_26 : decode cX1_begin 26 = .ok (.istore_n 1, 1) := dk_60 (dk_at dksX1_begin_1 4 rfl rfl)
theorem dX1_begin_27 : decode cX1_begin 27 = .ok (.iload_n 1, 1) := dk_27 (dk_at dksX1_begin_1 5 rfl rfl)
theorem dX1_begin_28 : decode cX1_begin 28 = .ok (.aload_n 0, 1) := dk_42 (dk_at dksX1_begin_1 6 rfl rfl)
theorem dX1_begin_29 : decode cX1_begin 29 = .ok (.getfield 75, 3) := dk_180 0 75 (dk_at dksX1_begin_1 7 rfl rfl)
theorem dX1_begin_32 : decode cX1_begin 32 = .ok (.getfield 113, 3) := dk_180 0 113 (dk_at dksX1_begin_1 10 rfl rfl)
theorem dX1_begin_35 : decode cX1_begin 35 = .ok (.if_icmp .ge 24, 3) := dk_162 0 24 (dk_at dksX1_begin_1 13 rfl rfl)
theorem dX1_begin_38 : decode cX1_begin 38 = .ok (.aload_n 0, 1) := dk_42 (dk_at dksX1_begin_1 16 rfl rfl)
theorem dX1_begin_39 : decode cX1_begin 39 = .ok (.getfield 45, 3) := dk_180 0 45 (dk_at dksX1_begin_1 17 rfl rfl)
theorem dX1_begin_42 : decode cX1_begin 42 = .ok (.iload_n 1, 1) := dk_27 (dk_at dksX1_begin_1 20 rfl rfl)
theorem dX1_begin_43 : decode cX1_begin 43 = .ok (.aload_n 0, 1) := dk_42 (dk_at dksX1_begin_1 21 rfl rfl)
theorem dX1_begin_44 : decode cX1_begin 44 = .ok (.getfield 75, 3) := dk_180 0 75 (dk_at dksX1_begin_2 0 rfl rfl)
theorem dX1_begin_47 : decode cX1_begin 47 = .ok (.getfield 148, 3) := dk_180 0 148 (dk_at dksX1_begin_2 3 rfl rfl)
theorem dX1_begin_50 : decode cX1_begin 50 = .ok (.iload_n 1, 1) := dk_27 (dk_at dksX1_begin_2 6 rfl rfl)
theorem dX1_begin_51 : decode cX1_begin 51 = .ok (.iaload, 1) := dk_46 (dk_at dksX1_begin_2 7 rfl rfl)
theorem dX1_begin_52 : decode cX1_begin 52 = .ok (.iastore, 1) := dk_79 (dk_at dksX1_begin_2 8 rfl rfl)
theorem dX1_begin_53 : decode cX1_begin 53 = .ok (.iinc 1 1, 3) := dk_132 1 1 (dk_at dksX1_begin_2 9 rfl rfl)
theorem dX1_begin_56 : decode cX1_begin 56 = .ok (.goto (-29), 3) := dk_167 255 227 (dk_at dksX1_begin_2 12 rfl rfl)
theorem dX1_begin_59 : decode cX1_begin 59 = .ok (.iconst 0, 1) := dk_3 (dk_at dksX1_begin_2 15 rfl rfl)
theorem dX1_begin_60 : decode cX1_begin 60 = .ok (.istore_n 1, 1) := dk_60 (dk_at dksX1_begin_2 16 rfl rfl)
theorem dX1_begin_61 : decode cX1_begin 61 = .ok (.iload_n 1, 1) := dk_27 (dk_at dksX1_begin_2 17 rfl rfl)
theorem dX1_begin_62 : decode cX1_begin 62 = .ok (.bipush 8, 2) := dk_16 8 (dk_at dksX1_begin_2 18 rfl rfl)
theorem dX1_begin_64 : decode cX1_begin 64 = .ok (.if_icmp .ge 16, 3) := dk_162 0 16 (dk_at dksX1_begin_2 20 rfl rfl)
theorem dX1_begin_67 : decode cX1_begin 67 = .ok (.aload_n 0, 1) := dk_42 (dk_at dksX1_begin_2 23 rfl rfl)
theorem dX1_begin_68 : decode cX1_begin 68 = .ok (.getfield 49, 3) := dk_180 0 49 (dk_at dksX1_begin_3 0 rfl rfl)
theorem dX1_begin_71 : decode cX1_begin 71 = .ok (.iload_n 1, 1) := dk_27 (dk_at dksX1_begin_3 3 rfl rfl)
theorem dX1_begin_72 : decode cX1_begin 72 = .ok (.iconst 0, 1) := dk_3 (dk_at dksX1_begin_3 4 rfl rfl)
theorem dX1_begin_73 : decode cX1_begin 73 = .ok (.bastore, 1) := dk_84 (dk_at dksX1_begin_3 5 rfl rfl)
theorem dX1_begin_74 : decode cX1_begin 74 = .ok (.iinc 1 1, 3) := dk_132 1 1 (dk_at dksX1_begin_3 6 rfl rfl)
theorem dX1_begin_77 : decode cX1_begin 77 = .ok (.goto (-16), 3) := dk_167 255 240 (dk_at dksX1_begin_3 9 rfl rfl)
theorem dX1_begin_80 : decode cX1_begin 80 = .ok (.iconst 0, 1) := dk_3 (dk_at dksX1_begin_3 12 rfl rfl)
theorem dX1_begin_81 : decode cX1_begin 81 = .ok (.istore_n 1, 1) := dk_60 (dk_at dksX1_begin_3 13 rfl rfl)
theorem dX1_begin_82 : decode cX1_begin 82 = .ok (.iload_n 1, 1) := dk_27 (dk_at dksX1_begin_3 14 rfl rfl)
theorem dX1_begin_83 : decode cX1_begin 83 = .ok (.aload_n 0, 1) := dk_42 (dk_at dksX1_begin_3 15 rfl rfl)
theorem dX1_begin_84 : decode cX1_begin 84 = .ok (.getfield 75, 3) := dk_180 0 75 (dk_at dksX1_begin_3 16 rfl rfl)
theorem dX1_begin_87 : decode cX1_begin 87 = .ok (.getfield 104, 3) := dk_180 0 104 (dk_at dksX1_begin_3 19 rfl rfl)
theorem dX1_begin_90 : decode cX1_begin 90 = .ok (.invokevirtual 108, 3) := dk_182 0 108 (dk_at dksX1_begin_4 0 rfl rfl)
theorem dX1_begin_93 : decode cX1_begin 93 = .ok (.if_icmp .ge 119, 3) := dk_162 0 119 (dk_at dksX1_begin_4 3 rfl rfl)
theorem dX1_begin_96 : decode cX1_begin 96 = .ok (.aload_n 0, 1) := dk_42 (dk_at dksX1_begin_4 6 rfl rfl)
theorem dX1_begin_97 : decode cX1_begin 97 = .ok (.getfield 75, 3) := dk_180 0 75 (dk_at dksX1_begin_4 7 rfl rfl)
theorem dX1_begin_100 : decode cX1_begin 100 = .ok (.getfield 104, 3) := dk_180 0 104 (dk_at dksX1_begin_4 10 rfl rfl)
theorem dX1_begin_103 : decode cX1_begin 103 = .ok (.iload_n 1, 1) := dk_27 (dk_at dksX1_begin_4 13 rfl rfl)
theorem dX1_begin_104 : decode cX1_begin 104 = .ok (.invokevirtual 127, 3) := dk_182 0 127 (dk_at dksX1_begin_4 14 rfl rfl)
theorem dX1_begin_107 : decode cX1_begin 107 = .ok (.checkcast 131, 3) := dk_192 0 131 (dk_at dksX1_begin_4 17 rfl rfl)
theorem dX1_begin_110 : decode cX1_begin 110 = .ok (.astore_n 2, 1) := dk_77 (dk_at dksX1_begin_4 20 rfl rfl)
theorem dX1_begin_111 : decode cX1_begin 111 = .ok (.aload_n 2, 1) := dk_44 (dk_at dksX1_begin_4 21 rfl rfl)
theorem dX1_begin_112 : decode cX1_begin 112 = .ok (.iconst 0, 1) := dk_3 (dk_at dksX1_begin_4 22 rfl rfl)
theorem dX1_begin_113 : decode cX1_begin 113 = .ok (.putfield 151, 3) := dk_181 0 151 (dk_at dksX1_begin_5 0 rfl rfl)
theorem dX1_begin_116 : decode cX1_begin 116 = .ok (.aload_n 2, 1) := dk_44 (dk_at dksX1_begin_5 3 rfl rfl)
theorem dX1_begin_117 : decode cX1_begin 117 = .ok (.getfield 154, 3) := dk_180 0 154 (dk_at dksX1_begin_5 4 rfl rfl)
theorem dX1_begin_120 : decode cX1_begin 120 = .ok (.invokevirtual 158, 3) := dk_182 0 158 (dk_at dksX1_begin_5 7 rfl rfl)
theorem dX1_begin_123 : decode cX1_begin 123 = .ok (.aload_n 2, 1) := dk_44 (dk_at dksX1_begin_5 10 rfl rfl)
theorem dX1_begin_124 : decode cX1_begin 124 = .ok (.invokestatic 163, 3) := dk_184 0 163 (dk_at dksX1_begin_5 11 rfl rfl)
theorem dX1_begin_127 : decode cX1_begin 127 = .ok (.aload_n 2, 1) := dk_44 (dk_at dksX1_begin_5 14 rfl rfl)
theorem dX1_begin_128 : decode cX1_begin 128 = .ok (.instanceof 167, 3) := dk_193 0 167 (dk_at dksX1_begin_5 15 rfl rfl)
theorem dX1_begin_131 : decode cX1_begin 131 = .ok (.ifCond .eq 18, 3) := dk_153 0 18 (dk_at dksX1_begin_5 18 rfl rfl)
theorem dX1_begin_134 : decode cX1_begin 134 = .ok (.aload_n 2, 1) := dk_44 (dk_at dksX1_begin_5 21 rfl rfl)
theorem dX1_begin_135 : decode cX1_begin 135 = .ok (.checkcast 167, 3) := dk_192 0 167 (dk_at dksX1_begin_6 0 rfl rfl)
theorem dX1_begin_138 : decode cX1_begin 138 = .ok (.astore_n 3, 1) := dk_78 (dk_at dksX1_begin_6 3 rfl rfl)
theorem dX1_begin_139 : decode cX1_begin 139 = .ok (.aload_n 3, 1) := dk_45 (dk_at dksX1_begin_6 4 rfl rfl)
theorem dX1_begin_140 : decode cX1_begin 140 = .ok (.invokeinterface 169 1, 5) := by decide +kernel
theorem dX1_begin_145 : decode cX1_begin 145 = .ok (.iconst 0, 1) := dk_3 (dk_at dksX1_begin_6 10 rfl rfl)
theorem dX1_begin_146 : decode cX1_begin 146 = .ok (.putfield 173, 3) := dk_181 0 173 (dk_at dksX1_begin_6 11 rfl rfl)
theorem dX1_begin_149 : decode cX1_begin 149 = .ok (.aload_n 2, 1) := dk_44 (dk_at dksX1_begin_6 14 rfl rfl)
theorem dX1_begin_150 : decode cX1_begin 150 = .ok (.instanceof 178, 3) := dk_193 0 178 (dk_at dksX1_begin_6 15 rfl rfl)
theorem dX1_begin_153 : decode cX1_begin 153 = .ok (.ifCond .eq 28, 3) := dk_153 0 28 (dk_at dksX1_begin_6 18 rfl rfl)
theorem dX1_begin_156 : decode cX1_begin 156 = .ok (.aload_n 2, 1) := dk_44 (dk_at dksX1_begin_6 21 rfl rfl)
theorem dX1_begin_157 : decode cX1_begin 157 = .ok (.checkcast 178, 3) := dk_192 0 178 (dk_at dksX1_begin_7 0 rfl rfl)
theorem dX1_begin_160 : decode cX1_begin 160 = .ok (.astore_n 3, 1) := dk_78 (dk_at dksX1_begin_7 3 rfl rfl)
theorem dX1_begin_161 : decode cX1_begin 161 = .ok (.aload_n 3, 1) := dk_45 (dk_at dksX1_begin_7 4 rfl rfl)
theorem dX1_begin_162 : decode cX1_begin 162 = .ok (.invokeinterface 180 1, 5) := by decide +kernel
theorem dX1_begin_167 : decode cX1_begin 167 = .ok (.iconst 0, 1) := dk_3 (dk_at dksX1_begin_7 10 rfl rfl)
theorem dX1_begin_168 : decode cX1_begin 168 = .ok (.putfield 184, 3) := dk_181 0 184 (dk_at dksX1_begin_7 11 rfl rfl)
theorem dX1_begin_171 : decode cX1_begin 171 = .ok (.aload_n 3, 1) := dk_45 (dk_at dksX1_begin_7 14 rfl rfl)
theorem dX1_begin_172 : decode cX1_begin 172 = .ok (.invokeinterface 180 1, 5) := by decide +kernel
theorem dX1_begin_177 : decode cX1_begin 177 = .ok (.iconst 0, 1) := dk_3 (dk_at dksX1_begin_7 20 rfl rfl)
theorem dX1_begin_178 : decode cX1_begin 178 = .ok (.putfield 189, 3) := dk_181 0 189 (dk_at dksX1_begin_7 21 rfl rfl)
theorem dX1_begin_181 : decode cX1_begin 181 = .ok (.aload_n 2, 1) := dk_44 (dk_at dksX1_begin_8 0 rfl rfl)
theorem dX1_begin_182 : decode cX1_begin 182 = .ok (.invokestatic 192, 3) := dk_184 0 192 (dk_at dksX1_begin_8 1 rfl rfl)
theorem dX1_begin_185 : decode cX1_begin 185 = .ok (.aload_n 2, 1) := dk_44 (dk_at dksX1_begin_8 4 rfl rfl)
theorem dX1_begin_186 : decode cX1_begin 186 = .ok (.instanceof 195, 3) := dk_193 0 195 (dk_at dksX1_begin_8 5 rfl rfl)
theorem dX1_begin_189 : decode cX1_begin 189 = .ok (.ifCond .eq 17, 3) := dk_153 0 17 (dk_at dksX1_begin_8 8 rfl rfl)
theorem dX1_begin_192 : decode cX1_begin 192 = .ok (.aload_n 2, 1) := dk_44 (dk_at dksX1_begin_8 11 rfl rfl)
theorem dX1_begin_193 : decode cX1_begin 193 = .ok (.checkcast 195, 3) := dk_192 0 195 (dk_at dksX1_begin_8 12 rfl rfl)
theorem dX1_begin_196 : decode cX1_begin 196 = .ok (.astore_n 3, 1) := dk_78 (dk_at dksX1_begin_8 15 rfl rfl)
theorem dX1_begin_197 : decode cX1_begin 197 = .ok (.aload_n 3, 1) := dk_45 (dk_at dksX1_begin_8 16 rfl rfl)
theorem dX1_begin_198 : decode cX1_begin 198 = .ok (.invokeinterface 197 1, 5) := by decide +kernel
theorem dX1_begin_203 : decode cX1_begin 203 = .ok (.invokevirtual 201, 3) := dk_182 0 201 (dk_at dksX1_begin_9 0 rfl rfl)
theorem dX1_begin_206 : decode cX1_begin 206 = .ok (.iinc 1 1, 3) := dk_132 1 1 (dk_at dksX1_begin_9 3 rfl rfl)
theorem dX1_begin_209 : decode cX1_begin 209 = .ok (.goto (-127), 3) := dk_167 255 129 (dk_at dksX1_begin_9 6 rfl rfl)
theorem dX1_begin_212 : decode cX1_begin 212 = .ok (.return_, 1) := dk_177 (dk_at dksX1_begin_9 9 rfl rfl)
def dkwX1_goals_1 : List UInt8 := [193, 0, 178, 153, 0, 18, 42, 192, 0, 178, 76, 43, 185, 0, 180, 1, 0, 3, 181, 0, 207, 177]
abbrev dktX1_goals_1 : List UInt8 := dkwX1_goals_1 ++ []
def dkwX1_goals_0 : List UInt8 := [42, 193, 0, 167, 153, 0, 18, 42, 192, 0, 167, 76, 43, 185, 0, 169, 1, 0, 3, 181, 0, 204, 42]
abbrev dktX1_goals_0 : List UInt8 := dkwX1_goals_0 ++ dktX1_goals_1
theorem dksX1_goals_0 : cX1_goals.data.toList.drop 0 = dktX1_goals_0 := by decide +kernel
theorem dksX1_goals_1 : cX1_goals.data.toList.drop 23 = dktX1_goals_1 := dk_seg dksX1_goals_0 23 rfl rfl
theorem dX1_goals_0 : decode cX1_goals 0 = .ok (.aload_n 0, 1) := dk_42 (dk_at dksX1_goals_0 0 rfl rfl)
theorem dX1_goals_1 : decode cX1_goals 1 = .ok (.instanceof 167, 3) := dk_193 0 167 (dk_at dksX1_goals_0 1 rfl rfl)
theorem dX1_goals_4 : decode cX1_goals 4 = .ok (.ifCond .eq 18, 3) := dk_153 0 18 (dk_at dksX1_goals_0 4 rfl rfl)
theorem dX1_goals_7 : decode cX1_goals 7 = .ok (.aload_n 0, 1) := dk_42 (dk_at dksX1_goals_0 7 rfl rfl)
theorem dX1_goals_8 : decode cX1_goals 8 = .ok (.checkcast 167, 3) := dk_192 0 167 (dk_at dksX1_goals_0 8 rfl rfl)
theorem dX1_goals_11 : decode cX1_goals 11 = .ok (.astore_n 1, 1) := dk_76 (dk_at dksX1_goals_0 11 rfl rfl)
theorem dX1_goals_12 : decode cX1_goals 12 = .ok (.aload_n 1, 1) := dk_43 (dk_at dksX1_goals_0 12 rfl rfl)
theorem dX1_goals_13 : decode cX1_goals 13 = .ok (.invokeinterface 169 1, 5) := by decide +kernel
theorem dX1_goals_18 : decode cX1_goals 18 = .ok (.iconst 0, 1) := dk_3 (dk_at dksX1_goals_0 18 rfl rfl)
theorem dX1_goals_19 : decode cX1_goals 19 = .ok (.putfield 204, 3) := dk_181 0 204 (dk_at dksX1_goals_0 19 rfl rfl)
theorem dX1_goals_22 : decode cX1_goals 22 = .ok (.aload_n 0, 1) := dk_42 (dk_at dksX1_goals_0 22 rfl rfl)
theorem dX1_goals_23 : decode cX1_goals 23 = .ok (.instanceof 178, 3) := dk_193 0 178 (dk_at dksX1_goals_1 0 rfl rfl)
theorem dX1_goals_26 : decode cX1_goals 26 = .ok (.ifCond .eq 18, 3) := dk_153 0 18 (dk_at dksX1_goals_1 3 rfl rfl)
theorem dX1_goals_29 : decode cX1_goals 29 = .ok (.aload_n 0, 1) := dk_42 (dk_at dksX1_goals_1 6 rfl rfl)
theorem dX1_goals_30 : decode cX1_goals 30 = .ok (.checkcast 178, 3) := dk_192 0 178 (dk_at dksX1_goals_1 7 rfl rfl)
theorem dX1_goals_33 : decode cX1_goals 33 = .ok (.astore_n 1, 1) := dk_76 (dk_at dksX1_goals_1 10 rfl rfl)
theorem dX1_goals_34 : decode cX1_goals 34 = .ok (.aload_n 1, 1) := dk_43 (dk_at dksX1_goals_1 11 rfl rfl)
theorem dX1_goals_35 : decode cX1_goals 35 = .ok (.invokeinterface 180 1, 5) := by decide +kernel
theorem dX1_goals_40 : decode cX1_goals 40 = .ok (.iconst 0, 1) := dk_3 (dk_at dksX1_goals_1 17 rfl rfl)
theorem dX1_goals_41 : decode cX1_goals 41 = .ok (.putfield 207, 3) := dk_181 0 207 (dk_at dksX1_goals_1 18 rfl rfl)
theorem dX1_goals_44 : decode cX1_goals 44 = .ok (.return_, 1) := dk_177 (dk_at dksX1_goals_1 21 rfl rfl)
def dkwX1_dark_1 : List UInt8 := [193, 0, 219, 153, 0, 18, 42, 192, 0, 219, 76, 43, 185, 0, 221, 1, 0, 3, 181, 0, 225, 177]
abbrev dktX1_dark_1 : List UInt8 := dkwX1_dark_1 ++ []
def dkwX1_dark_0 : List UInt8 := [42, 193, 0, 208, 153, 0, 18, 42, 192, 0, 208, 76, 43, 185, 0, 210, 1, 0, 3, 181, 0, 214, 42]
abbrev dktX1_dark_0 : List UInt8 := dkwX1_dark_0 ++ dktX1_dark_1
theorem dksX1_dark_0 : cX1_dark.data.toList.drop 0 = dktX1_dark_0 := by decide +kernel
theorem dksX1_dark_1 : cX1_dark.data.toList.drop 23 = dktX1_dark_1 := dk_seg dksX1_dark_0 23 rfl rfl
theorem dX1_dark_0 : decode cX1_dark 0 = .ok (.aload_n 0, 1) := dk_42 (dk_at dksX1_dark_0 0 rfl rfl)
theorem dX1_dark_1 : decode cX1_dark 1 = .ok (.instanceof 208, 3) := dk_193 0 208 (dk_at dksX1_dark_0 1 rfl rfl)
theorem dX1_dark_4 : decode cX1_dark 4 = .ok (.ifCond .eq 18, 3) := dk_153 0 18 (dk_at dksX1_dark_0 4 rfl rfl)
theorem dX1_dark_7 : decode cX1_dark 7 = .ok (.aload_n 0, 1) := dk_42 (dk_at dksX1_dark_0 7 rfl rfl)
theorem dX1_dark_8 : decode cX1_dark 8 = .ok (.checkcast 208, 3) := dk_192 0 208 (dk_at dksX1_dark_0 8 rfl rfl)
theorem dX1_dark_11 : decode cX1_dark 11 = .ok (.astore_n 1, 1) := dk_76 (dk_at dksX1_dark_0 11 rfl rfl)
theorem dX1_dark_12 : decode cX1_dark 12 = .ok (.aload_n 1, 1) := dk_43 (dk_at dksX1_dark_0 12 rfl rfl)
theorem dX1_dark_13 : decode cX1_dark 13 = .ok (.invokeinterface 210 1, 5) := by decide +kernel
theorem dX1_dark_18 : decode cX1_dark 18 = .ok (.iconst 0, 1) := dk_3 (dk_at dksX1_dark_0 18 rfl rfl)
theorem dX1_dark_19 : decode cX1_dark 19 = .ok (.putfield 214, 3) := dk_181 0 214 (dk_at dksX1_dark_0 19 rfl rfl)
theorem dX1_dark_22 : decode cX1_dark 22 = .ok (.aload_n 0, 1) := dk_42 (dk_at dksX1_dark_0 22 rfl rfl)
theorem dX1_dark_23 : decode cX1_dark 23 = .ok (.instanceof 219, 3) := dk_193 0 219 (dk_at dksX1_dark_1 0 rfl rfl)
theorem dX1_dark_26 : decode cX1_dark 26 = .ok (.ifCond .eq 18, 3) := dk_153 0 18 (dk_at dksX1_dark_1 3 rfl rfl)
theorem dX1_dark_29 : decode cX1_dark 29 = .ok (.aload_n 0, 1) := dk_42 (dk_at dksX1_dark_1 6 rfl rfl)
theorem dX1_dark_30 : decode cX1_dark 30 = .ok (.checkcast 219, 3) := dk_192 0 219 (dk_at dksX1_dark_1 7 rfl rfl)
theorem dX1_dark_33 : decode cX1_dark 33 = .ok (.astore_n 1, 1) := dk_76 (dk_at dksX1_dark_1 10 rfl rfl)
theorem dX1_dark_34 : decode cX1_dark 34 = .ok (.aload_n 1, 1) := dk_43 (dk_at dksX1_dark_1 11 rfl rfl)
theorem dX1_dark_35 : decode cX1_dark 35 = .ok (.invokeinterface 221 1, 5) := by decide +kernel
theorem dX1_dark_40 : decode cX1_dark 40 = .ok (.iconst 0, 1) := dk_3 (dk_at dksX1_dark_1 17 rfl rfl)
theorem dX1_dark_41 : decode cX1_dark 41 = .ok (.putfield 225, 3) := dk_181 0 225 (dk_at dksX1_dark_1 18 rfl rfl)
theorem dX1_dark_44 : decode cX1_dark 44 = .ok (.return_, 1) := dk_177 (dk_at dksX1_dark_1 21 rfl rfl)
def dkwX1_fault_1 : List UInt8 := [180, 0, 79, 167, 0, 7, 42, 180, 0, 41, 172]
abbrev dktX1_fault_1 : List UInt8 := dkwX1_fault_1 ++ []
def dkwX1_fault_0 : List UInt8 := [27, 153, 0, 8, 27, 4, 160, 0, 7, 4, 167, 0, 4, 3, 184, 0, 100, 27, 154, 0, 10, 42]
abbrev dktX1_fault_0 : List UInt8 := dkwX1_fault_0 ++ dktX1_fault_1
theorem dksX1_fault_0 : cX1_fault.data.toList.drop 0 = dktX1_fault_0 := by decide +kernel
theorem dksX1_fault_1 : cX1_fault.data.toList.drop 22 = dktX1_fault_1 := dk_seg dksX1_fault_0 22 rfl rfl
theorem dX1_fault_0 : decode cX1_fault 0 = .ok (.iload_n 1, 1) := dk_27 (dk_at dksX1_fault_0 0 rfl rfl)
theorem dX1_fault_1 : decode cX1_fault 1 = .ok (.ifCond .eq 8, 3) := dk_153 0 8 (dk_at dksX1_fault_0 1 rfl rfl)
theorem dX1_fault_4 : decode cX1_fault 4 = .ok (.iload_n 1, 1) := dk_27 (dk_at dksX1_fault_0 4 rfl rfl)
theorem dX1_fault_5 : decode cX1_fault 5 = .ok (.iconst 1, 1) := dk_4 (dk_at dksX1_fault_0 5 rfl rfl)
theorem dX1_fault_6 : decode cX1_fault 6 = .ok (.if_icmp .ne 7, 3) := dk_160 0 7 (dk_at dksX1_fault_0 6 rfl rfl)
theorem dX1_fault_9 : decode cX1_fault 9 = .ok (.iconst 1, 1) := dk_4 (dk_at dksX1_fault_0 9 rfl rfl)
theorem dX1_fault_10 : decode cX1_fault 10 = .ok (.goto 4, 3) := dk_167 0 4 (dk_at dksX1_fault_0 10 rfl rfl)
theorem dX1_fault_13 : decode cX1_fault 13 = .ok (.iconst 0, 1) := dk_3 (dk_at dksX1_fault_0 13 rfl rfl)
theorem dX1_fault_14 : decode cX1_fault 14 = .ok (.invokestatic 100, 3) := dk_184 0 100 (dk_at dksX1_fault_0 14 rfl rfl)
theorem dX1_fault_17 : decode cX1_fault 17 = .ok (.iload_n 1, 1) := dk_27 (dk_at dksX1_fault_0 17 rfl rfl)
theorem dX1_fault_18 : decode cX1_fault 18 = .ok (.ifCond .ne 10, 3) := dk_154 0 10 (dk_at dksX1_fault_0 18 rfl rfl)
theorem dX1_fault_21 : decode cX1_fault 21 = .ok (.aload_n 0, 1) := dk_42 (dk_at dksX1_fault_0 21 rfl rfl)
theorem dX1_fault_22 : decode cX1_fault 22 = .ok (.getfield 79, 3) := dk_180 0 79 (dk_at dksX1_fault_1 0 rfl rfl)
theorem dX1_fault_25 : decode cX1_fault 25 = .ok (.goto 7, 3) := dk_167 0 7 (dk_at dksX1_fault_1 3 rfl rfl)
theorem dX1_fault_28 : decode cX1_fault 28 = .ok (.aload_n 0, 1) := dk_42 (dk_at dksX1_fault_1 6 rfl rfl)
theorem dX1_fault_29 : decode cX1_fault 29 = .ok (.getfield 41, 3) := dk_180 0 41 (dk_at dksX1_fault_1 7 rfl rfl)
theorem dX1_fault_32 : decode cX1_fault 32 = .ok (.ireturn, 1) := dk_172 (dk_at dksX1_fault_1 10 rfl rfl)
def dkwX1_there_0 : List UInt8 := [26, 154, 0, 11, 187, 0, 121, 89, 183, 0, 123, 191, 177]
abbrev dktX1_there_0 : List UInt8 := dkwX1_there_0 ++ []
theorem dksX1_there_0 : cX1_there.data.toList.drop 0 = dktX1_there_0 := by decide +kernel
theorem dX1_there_0 : decode cX1_there 0 = .ok (.iload_n 0, 1) := dk_26 (dk_at dksX1_there_0 0 rfl rfl)
theorem dX1_there_1 : decode cX1_there 1 = .ok (.ifCond .ne 11, 3) := dk_154 0 11 (dk_at dksX1_there_0 1 rfl rfl)
theorem dX1_there_4 : decode cX1_there 4 = .ok (.new 121, 3) := dk_187 0 121 (dk_at dksX1_there_0 4 rfl rfl)
theorem dX1_there_7 : decode cX1_there 7 = .ok (.dup, 1) := dk_89 (dk_at dksX1_there_0 7 rfl rfl)
theorem dX1_there_8 : decode cX1_there 8 = .ok (.invokespecial 123, 3) := dk_183 0 123 (dk_at dksX1_there_0 8 rfl rfl)
theorem dX1_there_11 : decode cX1_there 11 = .ok (.athrow, 1) := dk_191 (dk_at dksX1_there_0 11 rfl rfl)
theorem dX1_there_12 : decode cX1_there 12 = .ok (.return_, 1) := dk_177 (dk_at dksX1_there_0 12 rfl rfl)
def dkwX1_count_3 : List UInt8 := [160, 0, 13, 42, 180, 0, 75, 180, 0, 116, 167, 0, 10, 42, 180, 0, 75, 180, 0, 118, 172]
abbrev dktX1_count_3 : List UInt8 := dkwX1_count_3 ++ []
def dkwX1_count_2 : List UInt8 := [182, 0, 108, 167, 0, 40, 27, 4, 160, 0, 13, 42, 180, 0, 75, 180, 0, 113, 167, 0, 25, 27, 5]
abbrev dktX1_count_2 : List UInt8 := dkwX1_count_2 ++ dktX1_count_3
def dkwX1_count_1 : List UInt8 := [180, 0, 65, 172, 42, 180, 0, 75, 199, 0, 5, 3, 172, 27, 154, 0, 16, 42, 180, 0, 75, 180, 0, 104]
abbrev dktX1_count_1 : List UInt8 := dkwX1_count_1 ++ dktX1_count_2
def dkwX1_count_0 : List UInt8 := [27, 155, 0, 12, 27, 7, 163, 0, 7, 4, 167, 0, 4, 3, 184, 0, 100, 27, 7, 160, 0, 8, 42]
abbrev dktX1_count_0 : List UInt8 := dkwX1_count_0 ++ dktX1_count_1
theorem dksX1_count_0 : cX1_count.data.toList.drop 0 = dktX1_count_0 := by decide +kernel
theorem dksX1_count_1 : cX1_count.data.toList.drop 23 = dktX1_count_1 := dk_seg dksX1_count_0 23 rfl rfl
theorem dksX1_count_2 : cX1_count.data.toList.drop 47 = dktX1_count_2 := dk_seg dksX1_count_1 24 rfl rfl
theorem dksX1_count_3 : cX1_count.data.toList.drop 70 = dktX1_count_3 := dk_seg dksX1_count_2 23 rfl rfl
theorem dX1_count_0 : decode cX1_count 0 = .ok (.iload_n 1, 1) := dk_27 (dk_at dksX1_count_0 0 rfl rfl)
theorem dX1_count_1 : decode cX1_count 1 = .ok (.ifCond .lt 12, 3) := dk_155 0 12 (dk_at dksX1_count_0 1 rfl rfl)
theorem dX1_count_4 : decode cX1_count 4 = .ok (.iload_n 1, 1) := dk_27 (dk_at dksX1_count_0 4 rfl rfl)
theorem dX1_count_5 : decode cX1_count 5 = .ok (.iconst 4, 1) := dk_7 (dk_at dksX1_count_0 5 rfl rfl)
theorem dX1_count_6 : decode cX1_count 6 = .ok (.if_icmp .gt 7, 3) := dk_163 0 7 (dk_at dksX1_count_0 6 rfl rfl)
theorem dX1_count_9 : decode cX1_count 9 = .ok (.iconst 1, 1) := dk_4 (dk_at dksX1_count_0 9 rfl rfl)
theorem dX1_count_10 : decode cX1_count 10 = .ok (.goto 4, 3) := dk_167 0 4 (dk_at dksX1_count_0 10 rfl rfl)
theorem dX1_count_13 : decode cX1_count 13 = .ok (.iconst 0, 1) := dk_3 (dk_at dksX1_count_0 13 rfl rfl)
theorem dX1_count_14 : decode cX1_count 14 = .ok (.invokestatic 100, 3) := dk_184 0 100 (dk_at dksX1_count_0 14 rfl rfl)
theorem dX1_count_17 : decode cX1_count 17 = .ok (.iload_n 1, 1) := dk_27 (dk_at dksX1_count_0 17 rfl rfl)
theorem dX1_count_18 : decode cX1_count 18 = .ok (.iconst 4, 1) := dk_7 (dk_at dksX1_count_0 18 rfl rfl)
theorem dX1_count_19 : decode cX1_count 19 = .ok (.if_icmp .ne 8, 3) := dk_160 0 8 (dk_at dksX1_count_0 19 rfl rfl)
theorem dX1_count_22 : decode cX1_count 22 = .ok (.aload_n 0, 1) := dk_42 (dk_at dksX1_count_0 22 rfl rfl)
theorem dX1_count_23 : decode cX1_count 23 = .ok (.getfield 65, 3) := dk_180 0 65 (dk_at dksX1_count_1 0 rfl rfl)
theorem dX1_count_26 : decode cX1_count 26 = .ok (.ireturn, 1) := dk_172 (dk_at dksX1_count_1 3 rfl rfl)
theorem dX1_count_27 : decode cX1_count 27 = .ok (.aload_n 0, 1) := dk_42 (dk_at dksX1_count_1 4 rfl rfl)
theorem dX1_count_28 : decode cX1_count 28 = .ok (.getfield 75, 3) := dk_180 0 75 (dk_at dksX1_count_1 5 rfl rfl)
theorem dX1_count_31 : decode cX1_count 31 = .ok (.ifnonnull 5, 3) := dk_199 0 5 (dk_at dksX1_count_1 8 rfl rfl)
theorem dX1_count_34 : decode cX1_count 34 = .ok (.iconst 0, 1) := dk_3 (dk_at dksX1_count_1 11 rfl rfl)
theorem dX1_count_35 : decode cX1_count 35 = .ok (.ireturn, 1) := dk_172 (dk_at dksX1_count_1 12 rfl rfl)
theorem dX1_count_36 : decode cX1_count 36 = .ok (.iload_n 1, 1) := dk_27 (dk_at dksX1_count_1 13 rfl rfl)
theorem dX1_count_37 : decode cX1_count 37 = .ok (.ifCond .ne 16, 3) := dk_154 0 16 (dk_at dksX1_count_1 14 rfl rfl)
theorem dX1_count_40 : decode cX1_count 40 = .ok (.aload_n 0, 1) := dk_42 (dk_at dksX1_count_1 17 rfl rfl)
theorem dX1_count_41 : decode cX1_count 41 = .ok (.getfield 75, 3) := dk_180 0 75 (dk_at dksX1_count_1 18 rfl rfl)
theorem dX1_count_44 : decode cX1_count 44 = .ok (.getfield 104, 3) := dk_180 0 104 (dk_at dksX1_count_1 21 rfl rfl)
theorem dX1_count_47 : decode cX1_count 47 = .ok (.invokevirtual 108, 3) := dk_182 0 108 (dk_at dksX1_count_2 0 rfl rfl)
theorem dX1_count_50 : decode cX1_count 50 = .ok (.goto 40, 3) := dk_167 0 40 (dk_at dksX1_count_2 3 rfl rfl)
theorem dX1_count_53 : decode cX1_count 53 = .ok (.iload_n 1, 1) := dk_27 (dk_at dksX1_count_2 6 rfl rfl)
theorem dX1_count_54 : decode cX1_count 54 = .ok (.iconst 1, 1) := dk_4 (dk_at dksX1_count_2 7 rfl rfl)
theorem dX1_count_55 : decode cX1_count 55 = .ok (.if_icmp .ne 13, 3) := dk_160 0 13 (dk_at dksX1_count_2 8 rfl rfl)
theorem dX1_count_58 : decode cX1_count 58 = .ok (.aload_n 0, 1) := dk_42 (dk_at dksX1_count_2 11 rfl rfl)
theorem dX1_count_59 : decode cX1_count 59 = .ok (.getfield 75, 3) := dk_180 0 75 (dk_at dksX1_count_2 12 rfl rfl)
theorem dX1_count_62 : decode cX1_count 62 = .ok (.getfield 113, 3) := dk_180 0 113 (dk_at dksX1_count_2 15 rfl rfl)
theorem dX1_count_65 : decode cX1_count 65 = .ok (.goto 25, 3) := dk_167 0 25 (dk_at dksX1_count_2 18 rfl rfl)
theorem dX1_count_68 : decode cX1_count 68 = .ok (.iload_n 1, 1) := dk_27 (dk_at dksX1_count_2 21 rfl rfl)
theorem dX1_count_69 : decode cX1_count 69 = .ok (.iconst 2, 1) := dk_5 (dk_at dksX1_count_2 22 rfl rfl)
theorem dX1_count_70 : decode cX1_count 70 = .ok (.if_icmp .ne 13, 3) := dk_160 0 13 (dk_at dksX1_count_3 0 rfl rfl)
theorem dX1_count_73 : decode cX1_count 73 = .ok (.aload_n 0, 1) := dk_42 (dk_at dksX1_count_3 3 rfl rfl)
theorem dX1_count_74 : decode cX1_count 74 = .ok (.getfield 75, 3) := dk_180 0 75 (dk_at dksX1_count_3 4 rfl rfl)
theorem dX1_count_77 : decode cX1_count 77 = .ok (.getfield 116, 3) := dk_180 0 116 (dk_at dksX1_count_3 7 rfl rfl)
theorem dX1_count_80 : decode cX1_count 80 = .ok (.goto 10, 3) := dk_167 0 10 (dk_at dksX1_count_3 10 rfl rfl)
theorem dX1_count_83 : decode cX1_count 83 = .ok (.aload_n 0, 1) := dk_42 (dk_at dksX1_count_3 13 rfl rfl)
theorem dX1_count_84 : decode cX1_count 84 = .ok (.getfield 75, 3) := dk_180 0 75 (dk_at dksX1_count_3 14 rfl rfl)
theorem dX1_count_87 : decode cX1_count 87 = .ok (.getfield 118, 3) := dk_180 0 118 (dk_at dksX1_count_3 17 rfl rfl)
theorem dX1_count_90 : decode cX1_count 90 = .ok (.ireturn, 1) := dk_172 (dk_at dksX1_count_3 20 rfl rfl)
def dkwX1_open_0 : List UInt8 := [42, 182, 0, 236, 42, 182, 0, 89, 177]
abbrev dktX1_open_0 : List UInt8 := dkwX1_open_0 ++ []
theorem dksX1_open_0 : cX1_open.data.toList.drop 0 = dktX1_open_0 := by decide +kernel
theorem dX1_open_0 : decode cX1_open 0 = .ok (.aload_n 0, 1) := dk_42 (dk_at dksX1_open_0 0 rfl rfl)
theorem dX1_open_1 : decode cX1_open 1 = .ok (.invokevirtual 236, 3) := dk_182 0 236 (dk_at dksX1_open_0 1 rfl rfl)
theorem dX1_open_4 : decode cX1_open 4 = .ok (.aload_n 0, 1) := dk_42 (dk_at dksX1_open_0 4 rfl rfl)
theorem dX1_open_5 : decode cX1_open 5 = .ok (.invokevirtual 89, 3) := dk_182 0 89 (dk_at dksX1_open_0 5 rfl rfl)
theorem dX1_open_8 : decode cX1_open 8 = .ok (.return_, 1) := dk_177 (dk_at dksX1_open_0 8 rfl rfl)
def dkwX1_isFair_0 : List UInt8 := [42, 180, 0, 75, 199, 0, 11, 187, 0, 124, 89, 183, 0, 126, 191, 177]
abbrev dktX1_isFair_0 : List UInt8 := dkwX1_isFair_0 ++ []
theorem dksX1_isFair_0 : cX1_isFair.data.toList.drop 0 = dktX1_isFair_0 := by decide +kernel
theorem dX1_isFair_0 : decode cX1_isFair 0 = .ok (.aload_n 0, 1) := dk_42 (dk_at dksX1_isFair_0 0 rfl rfl)
theorem dX1_isFair_1 : decode cX1_isFair 1 = .ok (.getfield 75, 3) := dk_180 0 75 (dk_at dksX1_isFair_0 1 rfl rfl)
theorem dX1_isFair_4 : decode cX1_isFair 4 = .ok (.ifnonnull 11, 3) := dk_199 0 11 (dk_at dksX1_isFair_0 4 rfl rfl)
theorem dX1_isFair_7 : decode cX1_isFair 7 = .ok (.new 124, 3) := dk_187 0 124 (dk_at dksX1_isFair_0 7 rfl rfl)
theorem dX1_isFair_10 : decode cX1_isFair 10 = .ok (.dup, 1) := dk_89 (dk_at dksX1_isFair_0 10 rfl rfl)
theorem dX1_isFair_11 : decode cX1_isFair 11 = .ok (.invokespecial 126, 3) := dk_183 0 126 (dk_at dksX1_isFair_0 11 rfl rfl)
theorem dX1_isFair_14 : decode cX1_isFair 14 = .ok (.athrow, 1) := dk_191 (dk_at dksX1_isFair_0 14 rfl rfl)
theorem dX1_isFair_15 : decode cX1_isFair 15 = .ok (.return_, 1) := dk_177 (dk_at dksX1_isFair_0 15 rfl rfl)
def dkwX1_come_3 : List UInt8 := [180, 0, 233, 167, 0, 4, 2, 172]
abbrev dktX1_come_3 : List UInt8 := dkwX1_come_3 ++ []
def dkwX1_come_2 : List UInt8 := [185, 0, 197, 1, 0, 42, 180, 0, 133, 28, 182, 1, 166, 153, 0, 16, 25, 4, 185, 0, 197, 1, 0]
abbrev dktX1_come_2 : List UInt8 := dkwX1_come_2 ++ dktX1_come_3
def dkwX1_come_1 : List UInt8 := [193, 0, 195, 153, 0, 7, 4, 167, 0, 4, 3, 184, 0, 239, 45, 192, 0, 195, 58, 4, 25, 4]
abbrev dktX1_come_1 : List UInt8 := dkwX1_come_1 ++ dktX1_come_2
def dkwX1_come_0 : List UInt8 := [42, 182, 0, 236, 42, 27, 182, 1, 162, 78, 28, 4, 161, 0, 20, 28, 16, 100, 163, 0, 14, 45]
abbrev dktX1_come_0 : List UInt8 := dkwX1_come_0 ++ dktX1_come_1
theorem dksX1_come_0 : cX1_come.data.toList.drop 0 = dktX1_come_0 := by decide +kernel
theorem dksX1_come_1 : cX1_come.data.toList.drop 22 = dktX1_come_1 := dk_seg dksX1_come_0 22 rfl rfl
theorem dksX1_come_2 : cX1_come.data.toList.drop 44 = dktX1_come_2 := dk_seg dksX1_come_1 22 rfl rfl
theorem dksX1_come_3 : cX1_come.data.toList.drop 67 = dktX1_come_3 := dk_seg dksX1_come_2 23 rfl rfl
theorem dX1_come_0 : decode cX1_come 0 = .ok (.aload_n 0, 1) := dk_42 (dk_at dksX1_come_0 0 rfl rfl)
theorem dX1_come_1 : decode cX1_come 1 = .ok (.invokevirtual 236, 3) := dk_182 0 236 (dk_at dksX1_come_0 1 rfl rfl)
theorem dX1_come_4 : decode cX1_come 4 = .ok (.aload_n 0, 1) := dk_42 (dk_at dksX1_come_0 4 rfl rfl)
theorem dX1_come_5 : decode cX1_come 5 = .ok (.iload_n 1, 1) := dk_27 (dk_at dksX1_come_0 5 rfl rfl)
theorem dX1_come_6 : decode cX1_come 6 = .ok (.invokevirtual 418, 3) := dk_182 1 162 (dk_at dksX1_come_0 6 rfl rfl)
theorem dX1_come_9 : decode cX1_come 9 = .ok (.astore_n 3, 1) := dk_78 (dk_at dksX1_come_0 9 rfl rfl)
theorem dX1_come_10 : decode cX1_come 10 = .ok (.iload_n 2, 1) := dk_28 (dk_at dksX1_come_0 10 rfl rfl)
theorem dX1_come_11 : decode cX1_come 11 = .ok (.iconst 1, 1) := dk_4 (dk_at dksX1_come_0 11 rfl rfl)
theorem dX1_come_12 : decode cX1_come 12 = .ok (.if_icmp .lt 20, 3) := dk_161 0 20 (dk_at dksX1_come_0 12 rfl rfl)
theorem dX1_come_15 : decode cX1_come 15 = .ok (.iload_n 2, 1) := dk_28 (dk_at dksX1_come_0 15 rfl rfl)
theorem dX1_come_16 : decode cX1_come 16 = .ok (.bipush 100, 2) := dk_16 100 (dk_at dksX1_come_0 16 rfl rfl)
theorem dX1_come_18 : decode cX1_come 18 = .ok (.if_icmp .gt 14, 3) := dk_163 0 14 (dk_at dksX1_come_0 18 rfl rfl)
theorem dX1_come_21 : decode cX1_come 21 = .ok (.aload_n 3, 1) := dk_45 (dk_at dksX1_come_0 21 rfl rfl)
theorem dX1_come_22 : decode cX1_come 22 = .ok (.instanceof 195, 3) := dk_193 0 195 (dk_at dksX1_come_1 0 rfl rfl)
theorem dX1_come_25 : decode cX1_come 25 = .ok (.ifCond .eq 7, 3) := dk_153 0 7 (dk_at dksX1_come_1 3 rfl rfl)
theorem dX1_come_28 : decode cX1_come 28 = .ok (.iconst 1, 1) := dk_4 (dk_at dksX1_come_1 6 rfl rfl)
theorem dX1_come_29 : decode cX1_come 29 = .ok (.goto 4, 3) := dk_167 0 4 (dk_at dksX1_come_1 7 rfl rfl)
theorem dX1_come_32 : decode cX1_come 32 = .ok (.iconst 0, 1) := dk_3 (dk_at dksX1_come_1 10 rfl rfl)
theorem dX1_come_33 : decode cX1_come 33 = .ok (.invokestatic 239, 3) := dk_184 0 239 (dk_at dksX1_come_1 11 rfl rfl)
theorem dX1_come_36 : decode cX1_come 36 = .ok (.aload_n 3, 1) := dk_45 (dk_at dksX1_come_1 14 rfl rfl)
theorem dX1_come_37 : decode cX1_come 37 = .ok (.checkcast 195, 3) := dk_192 0 195 (dk_at dksX1_come_1 15 rfl rfl)
theorem dX1_come_40 : decode cX1_come 40 = .ok (.astore 4, 2) := dk_58 4 (dk_at dksX1_come_1 18 rfl rfl)
theorem dX1_come_42 : decode cX1_come 42 = .ok (.aload 4, 2) := dk_25 4 (dk_at dksX1_come_1 20 rfl rfl)
theorem dX1_come_44 : decode cX1_come 44 = .ok (.invokeinterface 197 1, 5) := by decide +kernel
theorem dX1_come_49 : decode cX1_come 49 = .ok (.aload_n 0, 1) := dk_42 (dk_at dksX1_come_2 5 rfl rfl)
theorem dX1_come_50 : decode cX1_come 50 = .ok (.getfield 133, 3) := dk_180 0 133 (dk_at dksX1_come_2 6 rfl rfl)
theorem dX1_come_53 : decode cX1_come 53 = .ok (.iload_n 2, 1) := dk_28 (dk_at dksX1_come_2 9 rfl rfl)
theorem dX1_come_54 : decode cX1_come 54 = .ok (.invokevirtual 422, 3) := dk_182 1 166 (dk_at dksX1_come_2 10 rfl rfl)
theorem dX1_come_57 : decode cX1_come 57 = .ok (.ifCond .eq 16, 3) := dk_153 0 16 (dk_at dksX1_come_2 13 rfl rfl)
theorem dX1_come_60 : decode cX1_come 60 = .ok (.aload 4, 2) := dk_25 4 (dk_at dksX1_come_2 16 rfl rfl)
theorem dX1_come_62 : decode cX1_come 62 = .ok (.invokeinterface 197 1, 5) := by decide +kernel
theorem dX1_come_67 : decode cX1_come 67 = .ok (.getfield 233, 3) := dk_180 0 233 (dk_at dksX1_come_3 0 rfl rfl)
theorem dX1_come_70 : decode cX1_come 70 = .ok (.goto 4, 3) := dk_167 0 4 (dk_at dksX1_come_3 3 rfl rfl)
theorem dX1_come_73 : decode cX1_come 73 = .ok (.iconst (-1), 1) := dk_2 (dk_at dksX1_come_3 6 rfl rfl)
theorem dX1_come_74 : decode cX1_come 74 = .ok (.ireturn, 1) := dk_172 (dk_at dksX1_come_3 7 rfl rfl)
def dkwX1_rideAt_1 : List UInt8 := [184, 0, 100, 42, 180, 0, 75, 180, 0, 104, 27, 182, 0, 127, 192, 0, 131, 176]
abbrev dktX1_rideAt_1 : List UInt8 := dkwX1_rideAt_1 ++ []
def dkwX1_rideAt_0 : List UInt8 := [27, 155, 0, 21, 27, 42, 180, 0, 75, 180, 0, 104, 182, 0, 108, 162, 0, 7, 4, 167, 0, 4, 3]
abbrev dktX1_rideAt_0 : List UInt8 := dkwX1_rideAt_0 ++ dktX1_rideAt_1
theorem dksX1_rideAt_0 : cX1_rideAt.data.toList.drop 0 = dktX1_rideAt_0 := by decide +kernel
theorem dksX1_rideAt_1 : cX1_rideAt.data.toList.drop 23 = dktX1_rideAt_1 := dk_seg dksX1_rideAt_0 23 rfl rfl
theorem dX1_rideAt_0 : decode cX1_rideAt 0 = .ok (.iload_n 1, 1) := dk_27 (dk_at dksX1_rideAt_0 0 rfl rfl)
theorem dX1_rideAt_1 : decode cX1_rideAt 1 = .ok (.ifCond .lt 21, 3) := dk_155 0 21 (dk_at dksX1_rideAt_0 1 rfl rfl)
theorem dX1_rideAt_4 : decode cX1_rideAt 4 = .ok (.iload_n 1, 1) := dk_27 (dk_at dksX1_rideAt_0 4 rfl rfl)
theorem dX1_rideAt_5 : decode cX1_rideAt 5 = .ok (.aload_n 0, 1) := dk_42 (dk_at dksX1_rideAt_0 5 rfl rfl)
theorem dX1_rideAt_6 : decode cX1_rideAt 6 = .ok (.getfield 75, 3) := dk_180 0 75 (dk_at dksX1_rideAt_0 6 rfl rfl)
theorem dX1_rideAt_9 : decode cX1_rideAt 9 = .ok (.getfield 104, 3) := dk_180 0 104 (dk_at dksX1_rideAt_0 9 rfl rfl)
theorem dX1_rideAt_12 : decode cX1_rideAt 12 = .ok (.invokevirtual 108, 3) := dk_182 0 108 (dk_at dksX1_rideAt_0 12 rfl rfl)
theorem dX1_rideAt_15 : decode cX1_rideAt 15 = .ok (.if_icmp .ge 7, 3) := dk_162 0 7 (dk_at dksX1_rideAt_0 15 rfl rfl)
theorem dX1_rideAt_18 : decode cX1_rideAt 18 = .ok (.iconst 1, 1) := dk_4 (dk_at dksX1_rideAt_0 18 rfl rfl)
theorem dX1_rideAt_19 : decode cX1_rideAt 19 = .ok (.goto 4, 3) := dk_167 0 4 (dk_at dksX1_rideAt_0 19 rfl rfl)
theorem dX1_rideAt_22 : decode cX1_rideAt 22 = .ok (.iconst 0, 1) := dk_3 (dk_at dksX1_rideAt_0 22 rfl rfl)
theorem dX1_rideAt_23 : decode cX1_rideAt 23 = .ok (.invokestatic 100, 3) := dk_184 0 100 (dk_at dksX1_rideAt_1 0 rfl rfl)
theorem dX1_rideAt_26 : decode cX1_rideAt 26 = .ok (.aload_n 0, 1) := dk_42 (dk_at dksX1_rideAt_1 3 rfl rfl)
theorem dX1_rideAt_27 : decode cX1_rideAt 27 = .ok (.getfield 75, 3) := dk_180 0 75 (dk_at dksX1_rideAt_1 4 rfl rfl)
theorem dX1_rideAt_30 : decode cX1_rideAt 30 = .ok (.getfield 104, 3) := dk_180 0 104 (dk_at dksX1_rideAt_1 7 rfl rfl)
theorem dX1_rideAt_33 : decode cX1_rideAt 33 = .ok (.iload_n 1, 1) := dk_27 (dk_at dksX1_rideAt_1 10 rfl rfl)
theorem dX1_rideAt_34 : decode cX1_rideAt 34 = .ok (.invokevirtual 127, 3) := dk_182 0 127 (dk_at dksX1_rideAt_1 11 rfl rfl)
theorem dX1_rideAt_37 : decode cX1_rideAt 37 = .ok (.checkcast 131, 3) := dk_192 0 131 (dk_at dksX1_rideAt_1 14 rfl rfl)
theorem dX1_rideAt_40 : decode cX1_rideAt 40 = .ok (.areturn, 1) := dk_176 (dk_at dksX1_rideAt_1 17 rfl rfl)
def dkwX1_need_0 : List UInt8 := [26, 154, 0, 11, 187, 0, 72, 89, 183, 0, 74, 191, 177]
abbrev dktX1_need_0 : List UInt8 := dkwX1_need_0 ++ []
theorem dksX1_need_0 : cX1_need.data.toList.drop 0 = dktX1_need_0 := by decide +kernel
theorem dX1_need_0 : decode cX1_need 0 = .ok (.iload_n 0, 1) := dk_26 (dk_at dksX1_need_0 0 rfl rfl)
theorem dX1_need_1 : decode cX1_need 1 = .ok (.ifCond .ne 11, 3) := dk_154 0 11 (dk_at dksX1_need_0 1 rfl rfl)
theorem dX1_need_4 : decode cX1_need 4 = .ok (.new 72, 3) := dk_187 0 72 (dk_at dksX1_need_0 4 rfl rfl)
theorem dX1_need_7 : decode cX1_need 7 = .ok (.dup, 1) := dk_89 (dk_at dksX1_need_0 7 rfl rfl)
theorem dX1_need_8 : decode cX1_need 8 = .ok (.invokespecial 74, 3) := dk_183 0 74 (dk_at dksX1_need_0 8 rfl rfl)
theorem dX1_need_11 : decode cX1_need 11 = .ok (.athrow, 1) := dk_191 (dk_at dksX1_need_0 11 rfl rfl)
theorem dX1_need_12 : decode cX1_need 12 = .ok (.return_, 1) := dk_177 (dk_at dksX1_need_0 12 rfl rfl)
def dkwX1_wind_1 : List UInt8 := [180, 0, 136, 61, 42, 27, 181, 0, 136, 28, 172]
abbrev dktX1_wind_1 : List UInt8 := dkwX1_wind_1 ++ []
def dkwX1_wind_0 : List UInt8 := [42, 182, 0, 236, 27, 155, 0, 14, 27, 17, 0, 199, 163, 0, 7, 4, 167, 0, 4, 3, 184, 0, 239, 42]
abbrev dktX1_wind_0 : List UInt8 := dkwX1_wind_0 ++ dktX1_wind_1
theorem dksX1_wind_0 : cX1_wind.data.toList.drop 0 = dktX1_wind_0 := by decide +kernel
theorem dksX1_wind_1 : cX1_wind.data.toList.drop 24 = dktX1_wind_1 := dk_seg dksX1_wind_0 24 rfl rfl
theorem dX1_wind_0 : decode cX1_wind 0 = .ok (.aload_n 0, 1) := dk_42 (dk_at dksX1_wind_0 0 rfl rfl)
theorem dX1_wind_1 : decode cX1_wind 1 = .ok (.invokevirtual 236, 3) := dk_182 0 236 (dk_at dksX1_wind_0 1 rfl rfl)
theorem dX1_wind_4 : decode cX1_wind 4 = .ok (.iload_n 1, 1) := dk_27 (dk_at dksX1_wind_0 4 rfl rfl)
theorem dX1_wind_5 : decode cX1_wind 5 = .ok (.ifCond .lt 14, 3) := dk_155 0 14 (dk_at dksX1_wind_0 5 rfl rfl)
theorem dX1_wind_8 : decode cX1_wind 8 = .ok (.iload_n 1, 1) := dk_27 (dk_at dksX1_wind_0 8 rfl rfl)
theorem dX1_wind_9 : decode cX1_wind 9 = .ok (.sipush 199, 3) := dk_17 0 199 (dk_at dksX1_wind_0 9 rfl rfl)
theorem dX1_wind_12 : decode cX1_wind 12 = .ok (.if_icmp .gt 7, 3) := dk_163 0 7 (dk_at dksX1_wind_0 12 rfl rfl)
theorem dX1_wind_15 : decode cX1_wind 15 = .ok (.iconst 1, 1) := dk_4 (dk_at dksX1_wind_0 15 rfl rfl)
theorem dX1_wind_16 : decode cX1_wind 16 = .ok (.goto 4, 3) := dk_167 0 4 (dk_at dksX1_wind_0 16 rfl rfl)
theorem dX1_wind_19 : decode cX1_wind 19 = .ok (.iconst 0, 1) := dk_3 (dk_at dksX1_wind_0 19 rfl rfl)
theorem dX1_wind_20 : decode cX1_wind 20 = .ok (.invokestatic 239, 3) := dk_184 0 239 (dk_at dksX1_wind_0 20 rfl rfl)
theorem dX1_wind_23 : decode cX1_wind 23 = .ok (.aload_n 0, 1) := dk_42 (dk_at dksX1_wind_0 23 rfl rfl)
theorem dX1_wind_24 : decode cX1_wind 24 = .ok (.getfield 136, 3) := dk_180 0 136 (dk_at dksX1_wind_1 0 rfl rfl)
theorem dX1_wind_27 : decode cX1_wind 27 = .ok (.istore_n 2, 1) := dk_61 (dk_at dksX1_wind_1 3 rfl rfl)
theorem dX1_wind_28 : decode cX1_wind 28 = .ok (.aload_n 0, 1) := dk_42 (dk_at dksX1_wind_1 4 rfl rfl)
theorem dX1_wind_29 : decode cX1_wind 29 = .ok (.iload_n 1, 1) := dk_27 (dk_at dksX1_wind_1 5 rfl rfl)
theorem dX1_wind_30 : decode cX1_wind 30 = .ok (.putfield 136, 3) := dk_181 0 136 (dk_at dksX1_wind_1 6 rfl rfl)
theorem dX1_wind_33 : decode cX1_wind 33 = .ok (.iload_n 2, 1) := dk_28 (dk_at dksX1_wind_1 9 rfl rfl)
theorem dX1_wind_34 : decode cX1_wind 34 = .ok (.ireturn, 1) := dk_172 (dk_at dksX1_wind_1 10 rfl rfl)
def dkwX1_tick_2 : List UInt8 := [180, 0, 145, 28, 100, 172]
abbrev dktX1_tick_2 : List UInt8 := dkwX1_tick_2 ++ []
def dkwX1_tick_1 : List UInt8 := [180, 0, 145, 61, 3, 62, 29, 27, 162, 0, 13, 42, 182, 0, 242, 132, 3, 1, 167, 255, 244, 42]
abbrev dktX1_tick_1 : List UInt8 := dkwX1_tick_1 ++ dktX1_tick_2
def dkwX1_tick_0 : List UInt8 := [42, 182, 0, 236, 27, 4, 161, 0, 13, 27, 16, 100, 163, 0, 7, 4, 167, 0, 4, 3, 184, 0, 239, 42]
abbrev dktX1_tick_0 : List UInt8 := dkwX1_tick_0 ++ dktX1_tick_1
theorem dksX1_tick_0 : cX1_tick.data.toList.drop 0 = dktX1_tick_0 := by decide +kernel
theorem dksX1_tick_1 : cX1_tick.data.toList.drop 24 = dktX1_tick_1 := dk_seg dksX1_tick_0 24 rfl rfl
theorem dksX1_tick_2 : cX1_tick.data.toList.drop 46 = dktX1_tick_2 := dk_seg dksX1_tick_1 22 rfl rfl
theorem dX1_tick_0 : decode cX1_tick 0 = .ok (.aload_n 0, 1) := dk_42 (dk_at dksX1_tick_0 0 rfl rfl)
theorem dX1_tick_1 : decode cX1_tick 1 = .ok (.invokevirtual 236, 3) := dk_182 0 236 (dk_at dksX1_tick_0 1 rfl rfl)
theorem dX1_tick_4 : decode cX1_tick 4 = .ok (.iload_n 1, 1) := dk_27 (dk_at dksX1_tick_0 4 rfl rfl)
theorem dX1_tick_5 : decode cX1_tick 5 = .ok (.iconst 1, 1) := dk_4 (dk_at dksX1_tick_0 5 rfl rfl)
theorem dX1_tick_6 : decode cX1_tick 6 = .ok (.if_icmp .lt 13, 3) := dk_161 0 13 (dk_at dksX1_tick_0 6 rfl rfl)
theorem dX1_tick_9 : decode cX1_tick 9 = .ok (.iload_n 1, 1) := dk_27 (dk_at dksX1_tick_0 9 rfl rfl)
theorem dX1_tick_10 : decode cX1_tick 10 = .ok (.bipush 100, 2) := dk_16 100 (dk_at dksX1_tick_0 10 rfl rfl)
theorem dX1_tick_12 : decode cX1_tick 12 = .ok (.if_icmp .gt 7, 3) := dk_163 0 7 (dk_at dksX1_tick_0 12 rfl rfl)
theorem dX1_tick_15 : decode cX1_tick 15 = .ok (.iconst 1, 1) := dk_4 (dk_at dksX1_tick_0 15 rfl rfl)
theorem dX1_tick_16 : decode cX1_tick 16 = .ok (.goto 4, 3) := dk_167 0 4 (dk_at dksX1_tick_0 16 rfl rfl)
theorem dX1_tick_19 : decode cX1_tick 19 = .ok (.iconst 0, 1) := dk_3 (dk_at dksX1_tick_0 19 rfl rfl)
theorem dX1_tick_20 : decode cX1_tick 20 = .ok (.invokestatic 239, 3) := dk_184 0 239 (dk_at dksX1_tick_0 20 rfl rfl)
theorem dX1_tick_23 : decode cX1_tick 23 = .ok (.aload_n 0, 1) := dk_42 (dk_at dksX1_tick_0 23 rfl rfl)
theorem dX1_tick_24 : decode cX1_tick 24 = .ok (.getfield 145, 3) := dk_180 0 145 (dk_at dksX1_tick_1 0 rfl rfl)
theorem dX1_tick_27 : decode cX1_tick 27 = .ok (.istore_n 2, 1) := dk_61 (dk_at dksX1_tick_1 3 rfl rfl)
theorem dX1_tick_28 : decode cX1_tick 28 = .ok (.iconst 0, 1) := dk_3 (dk_at dksX1_tick_1 4 rfl rfl)
theorem dX1_tick_29 : decode cX1_tick 29 = .ok (.istore_n 3, 1) := dk_62 (dk_at dksX1_tick_1 5 rfl rfl)
theorem dX1_tick_30 : decode cX1_tick 30 = .ok (.iload_n 3, 1) := dk_29 (dk_at dksX1_tick_1 6 rfl rfl)
theorem dX1_tick_31 : decode cX1_tick 31 = .ok (.iload_n 1, 1) := dk_27 (dk_at dksX1_tick_1 7 rfl rfl)
theorem dX1_tick_32 : decode cX1_tick 32 = .ok (.if_icmp .ge 13, 3) := dk_162 0 13 (dk_at dksX1_tick_1 8 rfl rfl)
theorem dX1_tick_35 : decode cX1_tick 35 = .ok (.aload_n 0, 1) := dk_42 (dk_at dksX1_tick_1 11 rfl rfl)
theorem dX1_tick_36 : decode cX1_tick 36 = .ok (.invokevirtual 242, 3) := dk_182 0 242 (dk_at dksX1_tick_1 12 rfl rfl)
theorem dX1_tick_39 : decode cX1_tick 39 = .ok (.iinc 3 1, 3) := dk_132 3 1 (dk_at dksX1_tick_1 15 rfl rfl)
theorem dX1_tick_42 : decode cX1_tick 42 = .ok (.goto (-12), 3) := dk_167 255 244 (dk_at dksX1_tick_1 18 rfl rfl)
theorem dX1_tick_45 : decode cX1_tick 45 = .ok (.aload_n 0, 1) := dk_42 (dk_at dksX1_tick_1 21 rfl rfl)
theorem dX1_tick_46 : decode cX1_tick 46 = .ok (.getfield 145, 3) := dk_180 0 145 (dk_at dksX1_tick_2 0 rfl rfl)
theorem dX1_tick_49 : decode cX1_tick 49 = .ok (.iload_n 2, 1) := dk_28 (dk_at dksX1_tick_2 3 rfl rfl)
theorem dX1_tick_50 : decode cX1_tick 50 = .ok (.isub, 1) := dk_100 (dk_at dksX1_tick_2 4 rfl rfl)
theorem dX1_tick_51 : decode cX1_tick 51 = .ok (.ireturn, 1) := dk_172 (dk_at dksX1_tick_2 5 rfl rfl)
def dkwX1_once_12 : List UInt8 := [185, 1, 23, 1, 0, 96, 184, 1, 26, 181, 0, 151, 132, 2, 1, 167, 255, 208, 177]
abbrev dktX1_once_12 : List UInt8 := dkwX1_once_12 ++ []
def dkwX1_once_11 : List UInt8 := [180, 0, 104, 28, 182, 0, 127, 192, 0, 131, 78, 45, 58, 4, 45, 17, 39, 15, 45, 180, 0, 151, 25, 4]
abbrev dktX1_once_11 : List UInt8 := dkwX1_once_11 ++ dktX1_once_12
def dkwX1_once_10 : List UInt8 := [42, 28, 45, 7, 182, 1, 19, 132, 2, 1, 167, 255, 185, 3, 61, 28, 27, 162, 0, 49, 42, 180, 0, 75]
abbrev dktX1_once_10 : List UInt8 := dkwX1_once_10 ++ dktX1_once_11
def dkwX1_once_9 : List UInt8 := [45, 184, 1, 12, 154, 0, 6, 167, 0, 24, 45, 184, 0, 163, 45, 180, 0, 154, 180, 1, 16, 154, 0, 10]
abbrev dktX1_once_9 : List UInt8 := dkwX1_once_9 ++ dktX1_once_10
def dkwX1_once_8 : List UInt8 := [182, 0, 127, 192, 0, 131, 78, 45, 58, 4, 25, 4, 185, 1, 9, 1, 0, 42, 180, 0, 136, 162, 0, 34]
abbrev dktX1_once_8 : List UInt8 := dkwX1_once_8 ++ dktX1_once_9
def dkwX1_once_7 : List UInt8 := [167, 255, 227, 42, 27, 182, 1, 6, 3, 61, 28, 27, 162, 0, 72, 42, 180, 0, 75, 180, 0, 104, 28]
abbrev dktX1_once_7 : List UInt8 := dkwX1_once_7 ++ dktX1_once_8
def dkwX1_once_6 : List UInt8 := [180, 0, 75, 180, 0, 104, 28, 182, 0, 127, 192, 1, 1, 78, 45, 185, 1, 3, 1, 0, 132, 2, 1]
abbrev dktX1_once_6 : List UInt8 := dkwX1_once_6 ++ dktX1_once_7
def dkwX1_once_5 : List UInt8 := [182, 0, 127, 192, 0, 131, 182, 0, 253, 132, 2, 1, 167, 255, 229, 3, 61, 28, 27, 162, 0, 30, 42]
abbrev dktX1_once_5 : List UInt8 := dkwX1_once_5 ++ dktX1_once_6
def dkwX1_once_4 : List UInt8 := [132, 2, 1, 167, 255, 182, 3, 61, 28, 27, 162, 0, 28, 42, 28, 42, 180, 0, 75, 180, 0, 104, 28]
abbrev dktX1_once_4 : List UInt8 := dkwX1_once_4 ++ dktX1_once_5
def dkwX1_once_3 : List UInt8 := [42, 89, 180, 0, 142, 21, 4, 96, 181, 0, 142, 21, 4, 158, 0, 11, 42, 7, 28, 21, 4, 182, 0, 249]
abbrev dktX1_once_3 : List UInt8 := dkwX1_once_3 ++ dktX1_once_4
def dkwX1_once_2 : List UInt8 := [153, 0, 48, 25, 4, 192, 0, 195, 78, 45, 185, 0, 197, 1, 0, 42, 180, 0, 133, 182, 0, 245, 54, 4]
abbrev dktX1_once_2 : List UInt8 := dkwX1_once_2 ++ dktX1_once_3
def dkwX1_once_1 : List UInt8 := [27, 162, 0, 75, 42, 180, 0, 75, 180, 0, 104, 28, 182, 0, 127, 58, 4, 25, 4, 193, 0, 195]
abbrev dktX1_once_1 : List UInt8 := dkwX1_once_1 ++ dktX1_once_2
def dkwX1_once_0 : List UInt8 := [42, 89, 180, 0, 133, 4, 96, 181, 0, 133, 42, 180, 0, 75, 180, 0, 104, 182, 0, 108, 60, 3, 61, 28]
abbrev dktX1_once_0 : List UInt8 := dkwX1_once_0 ++ dktX1_once_1
theorem dksX1_once_0 : cX1_once.data.toList.drop 0 = dktX1_once_0 := by decide +kernel
theorem dksX1_once_1 : cX1_once.data.toList.drop 24 = dktX1_once_1 := dk_seg dksX1_once_0 24 rfl rfl
theorem dksX1_once_2 : cX1_once.data.toList.drop 46 = dktX1_once_2 := dk_seg dksX1_once_1 22 rfl rfl
theorem dksX1_once_3 : cX1_once.data.toList.drop 70 = dktX1_once_3 := dk_seg dksX1_once_2 24 rfl rfl
theorem dksX1_once_4 : cX1_once.data.toList.drop 94 = dktX1_once_4 := dk_seg dksX1_once_3 24 rfl rfl
theorem dksX1_once_5 : cX1_once.data.toList.drop 117 = dktX1_once_5 := dk_seg dksX1_once_4 23 rfl rfl
theorem dksX1_once_6 : cX1_once.data.toList.drop 140 = dktX1_once_6 := dk_seg dksX1_once_5 23 rfl rfl
theorem dksX1_once_7 : cX1_once.data.toList.drop 163 = dktX1_once_7 := dk_seg dksX1_once_6 23 rfl rfl
theorem dksX1_once_8 : cX1_once.data.toList.drop 186 = dktX1_once_8 := dk_seg dksX1_once_7 23 rfl rfl
theorem dksX1_once_9 : cX1_once.data.toList.drop 210 = dktX1_once_9 := dk_seg dksX1_once_8 24 rfl rfl
theorem dksX1_once_10 : cX1_once.data.toList.drop 234 = dktX1_once_10 := dk_seg dksX1_once_9 24 rfl rfl
theorem dksX1_once_11 : cX1_once.data.toList.drop 258 = dktX1_once_11 := dk_seg dksX1_once_10 24 rfl rfl
theorem dksX1_once_12 : cX1_once.data.toList.drop 282 = dktX1_once_12 := dk_seg dksX1_once_11 24 rfl rfl
theorem dX1_once_0 : decode cX1_once 0 = .ok (.aload_n 0, 1) := dk_42 (dk_at dksX1_once_0 0 rfl rfl)
theorem dX1_once_1 : decode cX1_once 1 = .ok (.dup, 1) := dk_89 (dk_at dksX1_once_0 1 rfl rfl)
theorem dX1_once_2 : decode cX1_once 2 = .ok (.getfield 133, 3) := dk_180 0 133 (dk_at dksX1_once_0 2 rfl rfl)
theorem dX1_once_5 : decode cX1_once 5 = .ok (.iconst 1, 1) := dk_4 (dk_at dksX1_once_0 5 rfl rfl)
theorem dX1_once_6 : decode cX1_once 6 = .ok (.iadd, 1) := dk_96 (dk_at dksX1_once_0 6 rfl rfl)
theorem dX1_once_7 : decode cX1_once 7 = .ok (.putfield 133, 3) := dk_181 0 133 (dk_at dksX1_once_0 7 rfl rfl)
theorem dX1_once_10 : decode cX1_once 10 = .ok (.aload_n 0, 1) := dk_42 (dk_at dksX1_once_0 10 rfl rfl)
theorem dX1_once_11 : decode cX1_once 11 = .ok (.getfield 75, 3) := dk_180 0 75 (dk_at dksX1_once_0 11 rfl rfl)
theorem dX1_once_14 : decode cX1_once 14 = .ok (.getfield 104, 3) := dk_180 0 104 (dk_at dksX1_once_0 14 rfl rfl)
theorem dX1_once_17 : decode cX1_once 17 = .ok (.invokevirtual 108, 3) := dk_182 0 108 (dk_at dksX1_once_0 17 rfl rfl)
theorem dX1_once_20 : decode cX1_once 20 = .ok (.istore_n 1, 1) := dk_60 (dk_at dksX1_once_0 20 rfl rfl)
theorem dX1_once_21 : decode cX1_once 21 = .ok (.iconst 0, 1) := dk_3 (dk_at dksX1_once_0 21 rfl rfl)
theorem dX1_once_22 : decode cX1_once 22 = .ok (.istore_n 2, 1) := dk_61 (dk_at dksX1_once_0 22 rfl rfl)
theorem dX1_once_23 : decode cX1_once 23 = .ok (.iload_n 2, 1) := dk_28 (dk_at dksX1_once_0 23 rfl rfl)
theorem dX1_once_24 : decode cX1_once 24 = .ok (.iload_n 1, 1) := dk_27 (dk_at dksX1_once_1 0 rfl rfl)
theorem dX1_once_25 : decode cX1_once 25 = .ok (.if_icmp .ge 75, 3) := dk_162 0 75 (dk_at dksX1_once_1 1 rfl rfl)
theorem dX1_once_28 : decode cX1_once 28 = .ok (.aload_n 0, 1) := dk_42 (dk_at dksX1_once_1 4 rfl rfl)
theorem dX1_once_29 : decode cX1_once 29 = .ok (.getfield 75, 3) := dk_180 0 75 (dk_at dksX1_once_1 5 rfl rfl)
theorem dX1_once_32 : decode cX1_once 32 = .ok (.getfield 104, 3) := dk_180 0 104 (dk_at dksX1_once_1 8 rfl rfl)
theorem dX1_once_35 : decode cX1_once 35 = .ok (.iload_n 2, 1) := dk_28 (dk_at dksX1_once_1 11 rfl rfl)
theorem dX1_once_36 : decode cX1_once 36 = .ok (.invokevirtual 127, 3) := dk_182 0 127 (dk_at dksX1_once_1 12 rfl rfl)
theorem dX1_once_39 : decode cX1_once 39 = .ok (.astore 4, 2) := dk_58 4 (dk_at dksX1_once_1 15 rfl rfl)
theorem dX1_once_41 : decode cX1_once 41 = .ok (.aload 4, 2) := dk_25 4 (dk_at dksX1_once_1 17 rfl rfl)
theorem dX1_once_43 : decode cX1_once 43 = .ok (.instanceof 195, 3) := dk_193 0 195 (dk_at dksX1_once_1 19 rfl rfl)
theorem dX1_once_46 : decode cX1_once 46 = .ok (.ifCond .eq 48, 3) := dk_153 0 48 (dk_at dksX1_once_2 0 rfl rfl)
theorem dX1_once_49 : decode cX1_once 49 = .ok (.aload 4, 2) := dk_25 4 (dk_at dksX1_once_2 3 rfl rfl)
theorem dX1_once_51 : decode cX1_once 51 = .ok (.checkcast 195, 3) := dk_192 0 195 (dk_at dksX1_once_2 5 rfl rfl)
theorem dX1_once_54 : decode cX1_once 54 = .ok (.astore_n 3, 1) := dk_78 (dk_at dksX1_once_2 8 rfl rfl)
theorem dX1_once_55 : decode cX1_once 55 = .ok (.aload_n 3, 1) := dk_45 (dk_at dksX1_once_2 9 rfl rfl)
theorem dX1_once_56 : decode cX1_once 56 = .ok (.invokeinterface 197 1, 5) := by decide +kernel
theorem dX1_once_61 : decode cX1_once 61 = .ok (.aload_n 0, 1) := dk_42 (dk_at dksX1_once_2 15 rfl rfl)
theorem dX1_once_62 : decode cX1_once 62 = .ok (.getfield 133, 3) := dk_180 0 133 (dk_at dksX1_once_2 16 rfl rfl)
theorem dX1_once_65 : decode cX1_once 65 = .ok (.invokevirtual 245, 3) := dk_182 0 245 (dk_at dksX1_once_2 19 rfl rfl)
theorem dX1_once_68 : decode cX1_once 68 = .ok (.istore 4, 2) := dk_54 4 (dk_at dksX1_once_2 22 rfl rfl)
theorem dX1_once_70 : decode cX1_once 70 = .ok (.aload_n 0, 1) := dk_42 (dk_at dksX1_once_3 0 rfl rfl)
theorem dX1_once_71 : decode cX1_once 71 = .ok (.dup, 1) := dk_89 (dk_at dksX1_once_3 1 rfl rfl)
theorem dX1_once_72 : decode cX1_once 72 = .ok (.getfield 142, 3) := dk_180 0 142 (dk_at dksX1_once_3 2 rfl rfl)
theorem dX1_once_75 : decode cX1_once 75 = .ok (.iload 4, 2) := dk_21 4 (dk_at dksX1_once_3 5 rfl rfl)
theorem dX1_once_77 : decode cX1_once 77 = .ok (.iadd, 1) := dk_96 (dk_at dksX1_once_3 7 rfl rfl)
theorem dX1_once_78 : decode cX1_once 78 = .ok (.putfield 142, 3) := dk_181 0 142 (dk_at dksX1_once_3 8 rfl rfl)
theorem dX1_once_81 : decode cX1_once 81 = .ok (.iload 4, 2) := dk_21 4 (dk_at dksX1_once_3 11 rfl rfl)
theorem dX1_once_83 : decode cX1_once 83 = .ok (.ifCond .le 11, 3) := dk_158 0 11 (dk_at dksX1_once_3 13 rfl rfl)
theorem dX1_once_86 : decode cX1_once 86 = .ok (.aload_n 0, 1) := dk_42 (dk_at dksX1_once_3 16 rfl rfl)
theorem dX1_once_87 : decode cX1_once 87 = .ok (.iconst 4, 1) := dk_7 (dk_at dksX1_once_3 17 rfl rfl)
theorem dX1_once_88 : decode cX1_once 88 = .ok (.iload_n 2, 1) := dk_28 (dk_at dksX1_once_3 18 rfl rfl)
theorem dX1_once_89 : decode cX1_once 89 = .ok (.iload 4, 2) := dk_21 4 (dk_at dksX1_once_3 19 rfl rfl)
theorem dX1_once_91 : decode cX1_once 91 = .ok (.invokevirtual 249, 3) := dk_182 0 249 (dk_at dksX1_once_3 21 rfl rfl)
theorem dX1_once_94 : decode cX1_once 94 = .ok (.iinc 2 1, 3) := dk_132 2 1 (dk_at dksX1_once_4 0 rfl rfl)
theorem dX1_once_97 : decode cX1_once 97 = .ok (.goto (-74), 3) := dk_167 255 182 (dk_at dksX1_once_4 3 rfl rfl)
theorem dX1_once_100 : decode cX1_once 100 = .ok (.iconst 0, 1) := dk_3 (dk_at dksX1_once_4 6 rfl rfl)
theorem dX1_once_101 : decode cX1_once 101 = .ok (.istore_n 2, 1) := dk_61 (dk_at dksX1_once_4 7 rfl rfl)
theorem dX1_once_102 : decode cX1_once 102 = .ok (.iload_n 2, 1) := dk_28 (dk_at dksX1_once_4 8 rfl rfl)
theorem dX1_once_103 : decode cX1_once 103 = .ok (.iload_n 1, 1) := dk_27 (dk_at dksX1_once_4 9 rfl rfl)
theorem dX1_once_104 : decode cX1_once 104 = .ok (.if_icmp .ge 28, 3) := dk_162 0 28 (dk_at dksX1_once_4 10 rfl rfl)
theorem dX1_once_107 : decode cX1_once 107 = .ok (.aload_n 0, 1) := dk_42 (dk_at dksX1_once_4 13 rfl rfl)
theorem dX1_once_108 : decode cX1_once 108 = .ok (.iload_n 2, 1) := dk_28 (dk_at dksX1_once_4 14 rfl rfl)
theorem dX1_once_109 : decode cX1_once 109 = .ok (.aload_n 0, 1) := dk_42 (dk_at dksX1_once_4 15 rfl rfl)
theorem dX1_once_110 : decode cX1_once 110 = .ok (.getfield 75, 3) := dk_180 0 75 (dk_at dksX1_once_4 16 rfl rfl)
theorem dX1_once_113 : decode cX1_once 113 = .ok (.getfield 104, 3) := dk_180 0 104 (dk_at dksX1_once_4 19 rfl rfl)
theorem dX1_once_116 : decode cX1_once 116 = .ok (.iload_n 2, 1) := dk_28 (dk_at dksX1_once_4 22 rfl rfl)
theorem dX1_once_117 : decode cX1_once 117 = .ok (.invokevirtual 127, 3) := dk_182 0 127 (dk_at dksX1_once_5 0 rfl rfl)
theorem dX1_once_120 : decode cX1_once 120 = .ok (.checkcast 131, 3) := dk_192 0 131 (dk_at dksX1_once_5 3 rfl rfl)
theorem dX1_once_123 : decode cX1_once 123 = .ok (.invokevirtual 253, 3) := dk_182 0 253 (dk_at dksX1_once_5 6 rfl rfl)
theorem dX1_once_126 : decode cX1_once 126 = .ok (.iinc 2 1, 3) := dk_132 2 1 (dk_at dksX1_once_5 9 rfl rfl)
theorem dX1_once_129 : decode cX1_once 129 = .ok (.goto (-27), 3) := dk_167 255 229 (dk_at dksX1_once_5 12 rfl rfl)
theorem dX1_once_132 : decode cX1_once 132 = .ok (.iconst 0, 1) := dk_3 (dk_at dksX1_once_5 15 rfl rfl)
theorem dX1_once_133 : decode cX1_once 133 = .ok (.istore_n 2, 1) := dk_61 (dk_at dksX1_once_5 16 rfl rfl)
theorem dX1_once_134 : decode cX1_once 134 = .ok (.iload_n 2, 1) := dk_28 (dk_at dksX1_once_5 17 rfl rfl)
theorem dX1_once_135 : decode cX1_once 135 = .ok (.iload_n 1, 1) := dk_27 (dk_at dksX1_once_5 18 rfl rfl)
theorem dX1_once_136 : decode cX1_once 136 = .ok (.if_icmp .ge 30, 3) := dk_162 0 30 (dk_at dksX1_once_5 19 rfl rfl)
theorem dX1_once_139 : decode cX1_once 139 = .ok (.aload_n 0, 1) := dk_42 (dk_at dksX1_once_5 22 rfl rfl)
theorem dX1_once_140 : decode cX1_once 140 = .ok (.getfield 75, 3) := dk_180 0 75 (dk_at dksX1_once_6 0 rfl rfl)
theorem dX1_once_143 : decode cX1_once 143 = .ok (.getfield 104, 3) := dk_180 0 104 (dk_at dksX1_once_6 3 rfl rfl)
theorem dX1_once_146 : decode cX1_once 146 = .ok (.iload_n 2, 1) := dk_28 (dk_at dksX1_once_6 6 rfl rfl)
theorem dX1_once_147 : decode cX1_once 147 = .ok (.invokevirtual 127, 3) := dk_182 0 127 (dk_at dksX1_once_6 7 rfl rfl)
theorem dX1_once_150 : decode cX1_once 150 = .ok (.checkcast 257, 3) := dk_192 1 1 (dk_at dksX1_once_6 10 rfl rfl)
theorem dX1_once_153 : decode cX1_once 153 = .ok (.astore_n 3, 1) := dk_78 (dk_at dksX1_once_6 13 rfl rfl)
theorem dX1_once_154 : decode cX1_once 154 = .ok (.aload_n 3, 1) := dk_45 (dk_at dksX1_once_6 14 rfl rfl)
theorem dX1_once_155 : decode cX1_once 155 = .ok (.invokeinterface 259 1, 5) := by decide +kernel
theorem dX1_once_160 : decode cX1_once 160 = .ok (.iinc 2 1, 3) := dk_132 2 1 (dk_at dksX1_once_6 20 rfl rfl)
theorem dX1_once_163 : decode cX1_once 163 = .ok (.goto (-29), 3) := dk_167 255 227 (dk_at dksX1_once_7 0 rfl rfl)
theorem dX1_once_166 : decode cX1_once 166 = .ok (.aload_n 0, 1) := dk_42 (dk_at dksX1_once_7 3 rfl rfl)
theorem dX1_once_167 : decode cX1_once 167 = .ok (.iload_n 1, 1) := dk_27 (dk_at dksX1_once_7 4 rfl rfl)
theorem dX1_once_168 : decode cX1_once 168 = .ok (.invokevirtual 262, 3) := dk_182 1 6 (dk_at dksX1_once_7 5 rfl rfl)
theorem dX1_once_171 : decode cX1_once 171 = .ok (.iconst 0, 1) := dk_3 (dk_at dksX1_once_7 8 rfl rfl)
theorem dX1_once_172 : decode cX1_once 172 = .ok (.istore_n 2, 1) := dk_61 (dk_at dksX1_once_7 9 rfl rfl)
theorem dX1_once_173 : decode cX1_once 173 = .ok (.iload_n 2, 1) := dk_28 (dk_at dksX1_once_7 10 rfl rfl)
theorem dX1_once_174 : decode cX1_once 174 = .ok (.iload_n 1, 1) := dk_27 (dk_at dksX1_once_7 11 rfl rfl)
theorem dX1_once_175 : decode cX1_once 175 = .ok (.if_icmp .ge 72, 3) := dk_162 0 72 (dk_at dksX1_once_7 12 rfl rfl)
theorem dX1_once_178 : decode cX1_once 178 = .ok (.aload_n 0, 1) := dk_42 (dk_at dksX1_once_7 15 rfl rfl)
theorem dX1_once_179 : decode cX1_once 179 = .ok (.getfield 75, 3) := dk_180 0 75 (dk_at dksX1_once_7 16 rfl rfl)
theorem dX1_once_182 : decode cX1_once 182 = .ok (.getfield 104, 3) := dk_180 0 104 (dk_at dksX1_once_7 19 rfl rfl)
theorem dX1_once_185 : decode cX1_once 185 = .ok (.iload_n 2, 1) := dk_28 (dk_at dksX1_once_7 22 rfl rfl)
theorem dX1_once_186 : decode cX1_once 186 = .ok (.invokevirtual 127, 3) := dk_182 0 127 (dk_at dksX1_once_8 0 rfl rfl)
theorem dX1_once_189 : decode cX1_once 189 = .ok (.checkcast 131, 3) := dk_192 0 131 (dk_at dksX1_once_8 3 rfl rfl)
theorem dX1_once_192 : decode cX1_once 192 = .ok (.astore_n 3, 1) := dk_78 (dk_at dksX1_once_8 6 rfl rfl)
theorem dX1_once_193 : decode cX1_once 193 = .ok (.aload_n 3, 1) := dk_45 (dk_at dksX1_once_8 7 rfl rfl)
theorem dX1_once_194 : decode cX1_once 194 = .ok (.astore 4, 2) := dk_58 4 (dk_at dksX1_once_8 8 rfl rfl)
theorem dX1_once_196 : decode cX1_once 196 = .ok (.aload 4, 2) := dk_25 4 (dk_at dksX1_once_8 10 rfl rfl)
theorem dX1_once_198 : decode cX1_once 198 = .ok (.invokeinterface 265 1, 5) := by decide +kernel
theorem dX1_once_203 : decode cX1_once 203 = .ok (.aload_n 0, 1) := dk_42 (dk_at dksX1_once_8 17 rfl rfl)
theorem dX1_once_204 : decode cX1_once 204 = .ok (.getfield 136, 3) := dk_180 0 136 (dk_at dksX1_once_8 18 rfl rfl)
theorem dX1_once_207 : decode cX1_once 207 = .ok (.if_icmp .ge 34, 3) := dk_162 0 34 (dk_at dksX1_once_8 21 rfl rfl)
theorem dX1_once_210 : decode cX1_once 210 = .ok (.aload_n 3, 1) := dk_45 (dk_at dksX1_once_9 0 rfl rfl)
theorem dX1_once_211 : decode cX1_once 211 = .ok (.invokestatic 268, 3) := dk_184 1 12 (dk_at dksX1_once_9 1 rfl rfl)
theorem dX1_once_214 : decode cX1_once 214 = .ok (.ifCond .ne 6, 3) := dk_154 0 6 (dk_at dksX1_once_9 4 rfl rfl)
theorem dX1_once_217 : decode cX1_once 217 = .ok (.goto 24, 3) := dk_167 0 24 (dk_at dksX1_once_9 7 rfl rfl)
theorem dX1_once_220 : decode cX1_once 220 = .ok (.aload_n 3, 1) := dk_45 (dk_at dksX1_once_9 10 rfl rfl)
theorem dX1_once_221 : decode cX1_once 221 = .ok (.invokestatic 163, 3) := dk_184 0 163 (dk_at dksX1_once_9 11 rfl rfl)
theorem dX1_once_224 : decode cX1_once 224 = .ok (.aload_n 3, 1) := dk_45 (dk_at dksX1_once_9 14 rfl rfl)
theorem dX1_once_225 : decode cX1_once 225 = .ok (.getfield 154, 3) := dk_180 0 154 (dk_at dksX1_once_9 15 rfl rfl)
theorem dX1_once_228 : decode cX1_once 228 = .ok (.getfield 272, 3) := dk_180 1 16 (dk_at dksX1_once_9 18 rfl rfl)
theorem dX1_once_231 : decode cX1_once 231 = .ok (.ifCond .ne 10, 3) := dk_154 0 10 (dk_at dksX1_once_9 21 rfl rfl)
theorem dX1_once_234 : decode cX1_once 234 = .ok (.aload_n 0, 1) := dk_42 (dk_at dksX1_once_10 0 rfl rfl)
theorem dX1_once_235 : decode cX1_once 235 = .ok (.iload_n 2, 1) := dk_28 (dk_at dksX1_once_10 1 rfl rfl)
theorem dX1_once_236 : decode cX1_once 236 = .ok (.aload_n 3, 1) := dk_45 (dk_at dksX1_once_10 2 rfl rfl)
theorem dX1_once_237 : decode cX1_once 237 = .ok (.iconst 4, 1) := dk_7 (dk_at dksX1_once_10 3 rfl rfl)
theorem dX1_once_238 : decode cX1_once 238 = .ok (.invokevirtual 275, 3) := dk_182 1 19 (dk_at dksX1_once_10 4 rfl rfl)
theorem dX1_once_241 : decode cX1_once 241 = .ok (.iinc 2 1, 3) := dk_132 2 1 (dk_at dksX1_once_10 7 rfl rfl)
theorem dX1_once_244 : decode cX1_once 244 = .ok (.goto (-71), 3) := dk_167 255 185 (dk_at dksX1_once_10 10 rfl rfl)
theorem dX1_once_247 : decode cX1_once 247 = .ok (.iconst 0, 1) := dk_3 (dk_at dksX1_once_10 13 rfl rfl)
theorem dX1_once_248 : decode cX1_once 248 = .ok (.istore_n 2, 1) := dk_61 (dk_at dksX1_once_10 14 rfl rfl)
theorem dX1_once_249 : decode cX1_once 249 = .ok (.iload_n 2, 1) := dk_28 (dk_at dksX1_once_10 15 rfl rfl)
theorem dX1_once_250 : decode cX1_once 250 = .ok (.iload_n 1, 1) := dk_27 (dk_at dksX1_once_10 16 rfl rfl)
theorem dX1_once_251 : decode cX1_once 251 = .ok (.if_icmp .ge 49, 3) := dk_162 0 49 (dk_at dksX1_once_10 17 rfl rfl)
theorem dX1_once_254 : decode cX1_once 254 = .ok (.aload_n 0, 1) := dk_42 (dk_at dksX1_once_10 20 rfl rfl)
theorem dX1_once_255 : decode cX1_once 255 = .ok (.getfield 75, 3) := dk_180 0 75 (dk_at dksX1_once_10 21 rfl rfl)
theorem dX1_once_258 : decode cX1_once 258 = .ok (.getfield 104, 3) := dk_180 0 104 (dk_at dksX1_once_11 0 rfl rfl)
theorem dX1_once_261 : decode cX1_once 261 = .ok (.iload_n 2, 1) := dk_28 (dk_at dksX1_once_11 3 rfl rfl)
theorem dX1_once_262 : decode cX1_once 262 = .ok (.invokevirtual 127, 3) := dk_182 0 127 (dk_at dksX1_once_11 4 rfl rfl)
theorem dX1_once_265 : decode cX1_once 265 = .ok (.checkcast 131, 3) := dk_192 0 131 (dk_at dksX1_once_11 7 rfl rfl)
theorem dX1_once_268 : decode cX1_once 268 = .ok (.astore_n 3, 1) := dk_78 (dk_at dksX1_once_11 10 rfl rfl)
theorem dX1_once_269 : decode cX1_once 269 = .ok (.aload_n 3, 1) := dk_45 (dk_at dksX1_once_11 11 rfl rfl)
theorem dX1_once_270 : decode cX1_once 270 = .ok (.astore 4, 2) := dk_58 4 (dk_at dksX1_once_11 12 rfl rfl)
theorem dX1_once_272 : decode cX1_once 272 = .ok (.aload_n 3, 1) := dk_45 (dk_at dksX1_once_11 14 rfl rfl)
theorem dX1_once_273 : decode cX1_once 273 = .ok (.sipush 9999, 3) := dk_17 39 15 (dk_at dksX1_once_11 15 rfl rfl)
theorem dX1_once_276 : decode cX1_once 276 = .ok (.aload_n 3, 1) := dk_45 (dk_at dksX1_once_11 18 rfl rfl)
theorem dX1_once_277 : decode cX1_once 277 = .ok (.getfield 151, 3) := dk_180 0 151 (dk_at dksX1_once_11 19 rfl rfl)
theorem dX1_once_280 : decode cX1_once 280 = .ok (.aload 4, 2) := dk_25 4 (dk_at dksX1_once_11 22 rfl rfl)
theorem dX1_once_282 : decode cX1_once 282 = .ok (.invokeinterface 279 1, 5) := by decide +kernel
theorem dX1_once_287 : decode cX1_once 287 = .ok (.iadd, 1) := dk_96 (dk_at dksX1_once_12 5 rfl rfl)
theorem dX1_once_288 : decode cX1_once 288 = .ok (.invokestatic 282, 3) := dk_184 1 26 (dk_at dksX1_once_12 6 rfl rfl)
theorem dX1_once_291 : decode cX1_once 291 = .ok (.putfield 151, 3) := dk_181 0 151 (dk_at dksX1_once_12 9 rfl rfl)
theorem dX1_once_294 : decode cX1_once 294 = .ok (.iinc 2 1, 3) := dk_132 2 1 (dk_at dksX1_once_12 12 rfl rfl)
theorem dX1_once_297 : decode cX1_once 297 = .ok (.goto (-48), 3) := dk_167 255 208 (dk_at dksX1_once_12 15 rfl rfl)
theorem dX1_once_300 : decode cX1_once 300 = .ok (.return_, 1) := dk_177 (dk_at dksX1_once_12 18 rfl rfl)
def dkwX1_tell_2 : List UInt8 := [42, 180, 0, 133, 79, 42, 89, 180, 0, 145, 4, 96, 181, 0, 145, 177]
abbrev dktX1_tell_2 : List UInt8 := dkwX1_tell_2 ++ []
def dkwX1_tell_1 : List UInt8 := [42, 180, 0, 145, 28, 79, 42, 180, 0, 59, 42, 180, 0, 145, 29, 79, 42, 180, 0, 62, 42, 180, 0, 145]
abbrev dktX1_tell_1 : List UInt8 := dkwX1_tell_1 ++ dktX1_tell_2
def dkwX1_tell_0 : List UInt8 := [42, 180, 0, 145, 17, 1, 144, 162, 0, 46, 42, 180, 0, 53, 42, 180, 0, 145, 27, 79, 42, 180, 0, 56]
abbrev dktX1_tell_0 : List UInt8 := dkwX1_tell_0 ++ dktX1_tell_1
theorem dksX1_tell_0 : cX1_tell.data.toList.drop 0 = dktX1_tell_0 := by decide +kernel
theorem dksX1_tell_1 : cX1_tell.data.toList.drop 24 = dktX1_tell_1 := dk_seg dksX1_tell_0 24 rfl rfl
theorem dksX1_tell_2 : cX1_tell.data.toList.drop 48 = dktX1_tell_2 := dk_seg dksX1_tell_1 24 rfl rfl
theorem dX1_tell_0 : decode cX1_tell 0 = .ok (.aload_n 0, 1) := dk_42 (dk_at dksX1_tell_0 0 rfl rfl)
theorem dX1_tell_1 : decode cX1_tell 1 = .ok (.getfield 145, 3) := dk_180 0 145 (dk_at dksX1_tell_0 1 rfl rfl)
theorem dX1_tell_4 : decode cX1_tell 4 = .ok (.sipush 400, 3) := dk_17 1 144 (dk_at dksX1_tell_0 4 rfl rfl)
theorem dX1_tell_7 : decode cX1_tell 7 = .ok (.if_icmp .ge 46, 3) := dk_162 0 46 (dk_at dksX1_tell_0 7 rfl rfl)
theorem dX1_tell_10 : decode cX1_tell 10 = .ok (.aload_n 0, 1) := dk_42 (dk_at dksX1_tell_0 10 rfl rfl)
theorem dX1_tell_11 : decode cX1_tell 11 = .ok (.getfield 53, 3) := dk_180 0 53 (dk_at dksX1_tell_0 11 rfl rfl)
theorem dX1_tell_14 : decode cX1_tell 14 = .ok (.aload_n 0, 1) := dk_42 (dk_at dksX1_tell_0 14 rfl rfl)
theorem dX1_tell_15 : decode cX1_tell 15 = .ok (.getfield 145, 3) := dk_180 0 145 (dk_at dksX1_tell_0 15 rfl rfl)
theorem dX1_tell_18 : decode cX1_tell 18 = .ok (.iload_n 1, 1) := dk_27 (dk_at dksX1_tell_0 18 rfl rfl)
theorem dX1_tell_19 : decode cX1_tell 19 = .ok (.iastore, 1) := dk_79 (dk_at dksX1_tell_0 19 rfl rfl)
theorem dX1_tell_20 : decode cX1_tell 20 = .ok (.aload_n 0, 1) := dk_42 (dk_at dksX1_tell_0 20 rfl rfl)
theorem dX1_tell_21 : decode cX1_tell 21 = .ok (.getfield 56, 3) := dk_180 0 56 (dk_at dksX1_tell_0 21 rfl rfl)
theorem dX1_tell_24 : decode cX1_tell 24 = .ok (.aload_n 0, 1) := dk_42 (dk_at dksX1_tell_1 0 rfl rfl)
theorem dX1_tell_25 : decode cX1_tell 25 = .ok (.getfield 145, 3) := dk_180 0 145 (dk_at dksX1_tell_1 1 rfl rfl)
theorem dX1_tell_28 : decode cX1_tell 28 = .ok (.iload_n 2, 1) := dk_28 (dk_at dksX1_tell_1 4 rfl rfl)
theorem dX1_tell_29 : decode cX1_tell 29 = .ok (.iastore, 1) := dk_79 (dk_at dksX1_tell_1 5 rfl rfl)
theorem dX1_tell_30 : decode cX1_tell 30 = .ok (.aload_n 0, 1) := dk_42 (dk_at dksX1_tell_1 6 rfl rfl)
theorem dX1_tell_31 : decode cX1_tell 31 = .ok (.getfield 59, 3) := dk_180 0 59 (dk_at dksX1_tell_1 7 rfl rfl)
theorem dX1_tell_34 : decode cX1_tell 34 = .ok (.aload_n 0, 1) := dk_42 (dk_at dksX1_tell_1 10 rfl rfl)
theorem dX1_tell_35 : decode cX1_tell 35 = .ok (.getfield 145, 3) := dk_180 0 145 (dk_at dksX1_tell_1 11 rfl rfl)
theorem dX1_tell_38 : decode cX1_tell 38 = .ok (.iload_n 3, 1) := dk_29 (dk_at dksX1_tell_1 14 rfl rfl)
theorem dX1_tell_39 : decode cX1_tell 39 = .ok (.iastore, 1) := dk_79 (dk_at dksX1_tell_1 15 rfl rfl)
theorem dX1_tell_40 : decode cX1_tell 40 = .ok (.aload_n 0, 1) := dk_42 (dk_at dksX1_tell_1 16 rfl rfl)
theorem dX1_tell_41 : decode cX1_tell 41 = .ok (.getfield 62, 3) := dk_180 0 62 (dk_at dksX1_tell_1 17 rfl rfl)
theorem dX1_tell_44 : decode cX1_tell 44 = .ok (.aload_n 0, 1) := dk_42 (dk_at dksX1_tell_1 20 rfl rfl)
theorem dX1_tell_45 : decode cX1_tell 45 = .ok (.getfield 145, 3) := dk_180 0 145 (dk_at dksX1_tell_1 21 rfl rfl)
theorem dX1_tell_48 : decode cX1_tell 48 = .ok (.aload_n 0, 1) := dk_42 (dk_at dksX1_tell_2 0 rfl rfl)
theorem dX1_tell_49 : decode cX1_tell 49 = .ok (.getfield 133, 3) := dk_180 0 133 (dk_at dksX1_tell_2 1 rfl rfl)
theorem dX1_tell_52 : decode cX1_tell 52 = .ok (.iastore, 1) := dk_79 (dk_at dksX1_tell_2 4 rfl rfl)
theorem dX1_tell_53 : decode cX1_tell 53 = .ok (.aload_n 0, 1) := dk_42 (dk_at dksX1_tell_2 5 rfl rfl)
theorem dX1_tell_54 : decode cX1_tell 54 = .ok (.dup, 1) := dk_89 (dk_at dksX1_tell_2 6 rfl rfl)
theorem dX1_tell_55 : decode cX1_tell 55 = .ok (.getfield 145, 3) := dk_180 0 145 (dk_at dksX1_tell_2 7 rfl rfl)
theorem dX1_tell_58 : decode cX1_tell 58 = .ok (.iconst 1, 1) := dk_4 (dk_at dksX1_tell_2 10 rfl rfl)
theorem dX1_tell_59 : decode cX1_tell 59 = .ok (.iadd, 1) := dk_96 (dk_at dksX1_tell_2 11 rfl rfl)
theorem dX1_tell_60 : decode cX1_tell 60 = .ok (.putfield 145, 3) := dk_181 0 145 (dk_at dksX1_tell_2 12 rfl rfl)
theorem dX1_tell_63 : decode cX1_tell 63 = .ok (.return_, 1) := dk_177 (dk_at dksX1_tell_2 15 rfl rfl)
def dkwX1_goesOn_4 : List UInt8 := [42, 27, 44, 21, 6, 182, 1, 19, 4, 54, 4, 132, 5, 1, 167, 255, 182, 177]
abbrev dktX1_goesOn_4 : List UInt8 := dkwX1_goesOn_4 ++ []
def dkwX1_goesOn_3 : List UInt8 := [44, 45, 45, 182, 1, 59, 182, 1, 74, 54, 4, 42, 180, 1, 71, 153, 0, 20, 42, 180, 1, 71, 54, 6]
abbrev dktX1_goesOn_3 : List UInt8 := dkwX1_goesOn_3 ++ dktX1_goesOn_4
def dkwX1_goesOn_2 : List UInt8 := [21, 5, 16, 40, 162, 0, 61, 45, 89, 180, 1, 68, 4, 96, 181, 1, 68, 42, 3, 181, 1, 71, 42, 27]
abbrev dktX1_goesOn_2 : List UInt8 := dkwX1_goesOn_2 ++ dktX1_goesOn_3
def dkwX1_goesOn_1 : List UInt8 := [42, 27, 45, 182, 1, 52, 4, 54, 4, 3, 54, 5, 21, 4, 153, 0, 75, 45, 180, 1, 16, 154, 0, 68]
abbrev dktX1_goesOn_1 : List UInt8 := dkwX1_goesOn_1 ++ dktX1_goesOn_2
def dkwX1_goesOn_0 : List UInt8 := [44, 180, 0, 154, 78, 45, 180, 1, 16, 154, 0, 21, 45, 182, 1, 59, 180, 1, 63, 16, 23, 160, 0, 9]
abbrev dktX1_goesOn_0 : List UInt8 := dkwX1_goesOn_0 ++ dktX1_goesOn_1
theorem dksX1_goesOn_0 : cX1_goesOn.data.toList.drop 0 = dktX1_goesOn_0 := by decide +kernel
theorem dksX1_goesOn_1 : cX1_goesOn.data.toList.drop 24 = dktX1_goesOn_1 := dk_seg dksX1_goesOn_0 24 rfl rfl
theorem dksX1_goesOn_2 : cX1_goesOn.data.toList.drop 48 = dktX1_goesOn_2 := dk_seg dksX1_goesOn_1 24 rfl rfl
theorem dksX1_goesOn_3 : cX1_goesOn.data.toList.drop 72 = dktX1_goesOn_3 := dk_seg dksX1_goesOn_2 24 rfl rfl
theorem dksX1_goesOn_4 : cX1_goesOn.data.toList.drop 96 = dktX1_goesOn_4 := dk_seg dksX1_goesOn_3 24 rfl rfl
theorem dX1_goesOn_0 : decode cX1_goesOn 0 = .ok (.aload_n 2, 1) := dk_44 (dk_at dksX1_goesOn_0 0 rfl rfl)
theorem dX1_goesOn_1 : decode cX1_goesOn 1 = .ok (.getfield 154, 3) := dk_180 0 154 (dk_at dksX1_goesOn_0 1 rfl rfl)
theorem dX1_goesOn_4 : decode cX1_goesOn 4 = .ok (.astore_n 3, 1) := dk_78 (dk_at dksX1_goesOn_0 4 rfl rfl)
theorem dX1_goesOn_5 : decode cX1_goesOn 5 = .ok (.aload_n 3, 1) := dk_45 (dk_at dksX1_goesOn_0 5 rfl rfl)
theorem dX1_goesOn_6 : decode cX1_goesOn 6 = .ok (.getfield 272, 3) := dk_180 1 16 (dk_at dksX1_goesOn_0 6 rfl rfl)
theorem dX1_goesOn_9 : decode cX1_goesOn 9 = .ok (.ifCond .ne 21, 3) := dk_154 0 21 (dk_at dksX1_goesOn_0 9 rfl rfl)
theorem dX1_goesOn_12 : decode cX1_goesOn 12 = .ok (.aload_n 3, 1) := dk_45 (dk_at dksX1_goesOn_0 12 rfl rfl)
theorem dX1_goesOn_13 : decode cX1_goesOn 13 = .ok (.invokevirtual 315, 3) := dk_182 1 59 (dk_at dksX1_goesOn_0 13 rfl rfl)
theorem dX1_goesOn_16 : decode cX1_goesOn 16 = .ok (.getfield 319, 3) := dk_180 1 63 (dk_at dksX1_goesOn_0 16 rfl rfl)
theorem dX1_goesOn_19 : decode cX1_goesOn 19 = .ok (.bipush 23, 2) := dk_16 23 (dk_at dksX1_goesOn_0 19 rfl rfl)
theorem dX1_goesOn_21 : decode cX1_goesOn 21 = .ok (.if_icmp .ne 9, 3) := dk_160 0 9 (dk_at dksX1_goesOn_0 21 rfl rfl)
theorem dX1_goesOn_24 : decode cX1_goesOn 24 = .ok (.aload_n 0, 1) := dk_42 (dk_at dksX1_goesOn_1 0 rfl rfl)
theorem dX1_goesOn_25 : decode cX1_goesOn 25 = .ok (.iload_n 1, 1) := dk_27 (dk_at dksX1_goesOn_1 1 rfl rfl)
theorem dX1_goesOn_26 : decode cX1_goesOn 26 = .ok (.aload_n 3, 1) := dk_45 (dk_at dksX1_goesOn_1 2 rfl rfl)
theorem dX1_goesOn_27 : decode cX1_goesOn 27 = .ok (.invokevirtual 308, 3) := dk_182 1 52 (dk_at dksX1_goesOn_1 3 rfl rfl)
theorem dX1_goesOn_30 : decode cX1_goesOn 30 = .ok (.iconst 1, 1) := dk_4 (dk_at dksX1_goesOn_1 6 rfl rfl)
theorem dX1_goesOn_31 : decode cX1_goesOn 31 = .ok (.istore 4, 2) := dk_54 4 (dk_at dksX1_goesOn_1 7 rfl rfl)
theorem dX1_goesOn_33 : decode cX1_goesOn 33 = .ok (.iconst 0, 1) := dk_3 (dk_at dksX1_goesOn_1 9 rfl rfl)
theorem dX1_goesOn_34 : decode cX1_goesOn 34 = .ok (.istore 5, 2) := dk_54 5 (dk_at dksX1_goesOn_1 10 rfl rfl)
theorem dX1_goesOn_36 : decode cX1_goesOn 36 = .ok (.iload 4, 2) := dk_21 4 (dk_at dksX1_goesOn_1 12 rfl rfl)
theorem dX1_goesOn_38 : decode cX1_goesOn 38 = .ok (.ifCond .eq 75, 3) := dk_153 0 75 (dk_at dksX1_goesOn_1 14 rfl rfl)
theorem dX1_goesOn_41 : decode cX1_goesOn 41 = .ok (.aload_n 3, 1) := dk_45 (dk_at dksX1_goesOn_1 17 rfl rfl)
theorem dX1_goesOn_42 : decode cX1_goesOn 42 = .ok (.getfield 272, 3) := dk_180 1 16 (dk_at dksX1_goesOn_1 18 rfl rfl)
theorem dX1_goesOn_45 : decode cX1_goesOn 45 = .ok (.ifCond .ne 68, 3) := dk_154 0 68 (dk_at dksX1_goesOn_1 21 rfl rfl)
theorem dX1_goesOn_48 : decode cX1_goesOn 48 = .ok (.iload 5, 2) := dk_21 5 (dk_at dksX1_goesOn_2 0 rfl rfl)
theorem dX1_goesOn_50 : decode cX1_goesOn 50 = .ok (.bipush 40, 2) := dk_16 40 (dk_at dksX1_goesOn_2 2 rfl rfl)
theorem dX1_goesOn_52 : decode cX1_goesOn 52 = .ok (.if_icmp .ge 61, 3) := dk_162 0 61 (dk_at dksX1_goesOn_2 4 rfl rfl)
theorem dX1_goesOn_55 : decode cX1_goesOn 55 = .ok (.aload_n 3, 1) := dk_45 (dk_at dksX1_goesOn_2 7 rfl rfl)
theorem dX1_goesOn_56 : decode cX1_goesOn 56 = .ok (.dup, 1) := dk_89 (dk_at dksX1_goesOn_2 8 rfl rfl)
theorem dX1_goesOn_57 : decode cX1_goesOn 57 = .ok (.getfield 324, 3) := dk_180 1 68 (dk_at dksX1_goesOn_2 9 rfl rfl)
theorem dX1_goesOn_60 : decode cX1_goesOn 60 = .ok (.iconst 1, 1) := dk_4 (dk_at dksX1_goesOn_2 12 rfl rfl)
theorem dX1_goesOn_61 : decode cX1_goesOn 61 = .ok (.iadd, 1) := dk_96 (dk_at dksX1_goesOn_2 13 rfl rfl)
theorem dX1_goesOn_62 : decode cX1_goesOn 62 = .ok (.putfield 324, 3) := dk_181 1 68 (dk_at dksX1_goesOn_2 14 rfl rfl)
theorem dX1_goesOn_65 : decode cX1_goesOn 65 = .ok (.aload_n 0, 1) := dk_42 (dk_at dksX1_goesOn_2 17 rfl rfl)
theorem dX1_goesOn_66 : decode cX1_goesOn 66 = .ok (.iconst 0, 1) := dk_3 (dk_at dksX1_goesOn_2 18 rfl rfl)
theorem dX1_goesOn_67 : decode cX1_goesOn 67 = .ok (.putfield 327, 3) := dk_181 1 71 (dk_at dksX1_goesOn_2 19 rfl rfl)
theorem dX1_goesOn_70 : decode cX1_goesOn 70 = .ok (.aload_n 0, 1) := dk_42 (dk_at dksX1_goesOn_2 22 rfl rfl)
theorem dX1_goesOn_71 : decode cX1_goesOn 71 = .ok (.iload_n 1, 1) := dk_27 (dk_at dksX1_goesOn_2 23 rfl rfl)
theorem dX1_goesOn_72 : decode cX1_goesOn 72 = .ok (.aload_n 2, 1) := dk_44 (dk_at dksX1_goesOn_3 0 rfl rfl)
theorem dX1_goesOn_73 : decode cX1_goesOn 73 = .ok (.aload_n 3, 1) := dk_45 (dk_at dksX1_goesOn_3 1 rfl rfl)
theorem dX1_goesOn_74 : decode cX1_goesOn 74 = .ok (.aload_n 3, 1) := dk_45 (dk_at dksX1_goesOn_3 2 rfl rfl)
theorem dX1_goesOn_75 : decode cX1_goesOn 75 = .ok (.invokevirtual 315, 3) := dk_182 1 59 (dk_at dksX1_goesOn_3 3 rfl rfl)
theorem dX1_goesOn_78 : decode cX1_goesOn 78 = .ok (.invokevirtual 330, 3) := dk_182 1 74 (dk_at dksX1_goesOn_3 6 rfl rfl)
theorem dX1_goesOn_81 : decode cX1_goesOn 81 = .ok (.istore 4, 2) := dk_54 4 (dk_at dksX1_goesOn_3 9 rfl rfl)
theorem dX1_goesOn_83 : decode cX1_goesOn 83 = .ok (.aload_n 0, 1) := dk_42 (dk_at dksX1_goesOn_3 11 rfl rfl)
theorem dX1_goesOn_84 : decode cX1_goesOn 84 = .ok (.getfield 327, 3) := dk_180 1 71 (dk_at dksX1_goesOn_3 12 rfl rfl)
theorem dX1_goesOn_87 : decode cX1_goesOn 87 = .ok (.ifCond .eq 20, 3) := dk_153 0 20 (dk_at dksX1_goesOn_3 15 rfl rfl)
theorem dX1_goesOn_90 : decode cX1_goesOn 90 = .ok (.aload_n 0, 1) := dk_42 (dk_at dksX1_goesOn_3 18 rfl rfl)
theorem dX1_goesOn_91 : decode cX1_goesOn 91 = .ok (.getfield 327, 3) := dk_180 1 71 (dk_at dksX1_goesOn_3 19 rfl rfl)
theorem dX1_goesOn_94 : decode cX1_goesOn 94 = .ok (.istore 6, 2) := dk_54 6 (dk_at dksX1_goesOn_3 22 rfl rfl)
theorem dX1_goesOn_96 : decode cX1_goesOn 96 = .ok (.aload_n 0, 1) := dk_42 (dk_at dksX1_goesOn_4 0 rfl rfl)
theorem dX1_goesOn_97 : decode cX1_goesOn 97 = .ok (.iload_n 1, 1) := dk_27 (dk_at dksX1_goesOn_4 1 rfl rfl)
theorem dX1_goesOn_98 : decode cX1_goesOn 98 = .ok (.aload_n 2, 1) := dk_44 (dk_at dksX1_goesOn_4 2 rfl rfl)
theorem dX1_goesOn_99 : decode cX1_goesOn 99 = .ok (.iload 6, 2) := dk_21 6 (dk_at dksX1_goesOn_4 3 rfl rfl)
theorem dX1_goesOn_101 : decode cX1_goesOn 101 = .ok (.invokevirtual 275, 3) := dk_182 1 19 (dk_at dksX1_goesOn_4 5 rfl rfl)
theorem dX1_goesOn_104 : decode cX1_goesOn 104 = .ok (.iconst 1, 1) := dk_4 (dk_at dksX1_goesOn_4 8 rfl rfl)
theorem dX1_goesOn_105 : decode cX1_goesOn 105 = .ok (.istore 4, 2) := dk_54 4 (dk_at dksX1_goesOn_4 9 rfl rfl)
theorem dX1_goesOn_107 : decode cX1_goesOn 107 = .ok (.iinc 5 1, 3) := dk_132 5 1 (dk_at dksX1_goesOn_4 11 rfl rfl)
theorem dX1_goesOn_110 : decode cX1_goesOn 110 = .ok (.goto (-74), 3) := dk_167 255 182 (dk_at dksX1_goesOn_4 14 rfl rfl)
theorem dX1_goesOn_113 : decode cX1_goesOn 113 = .ok (.return_, 1) := dk_177 (dk_at dksX1_goesOn_4 17 rfl rfl)
def dkwX1_settle_1 : List UInt8 := [177]
abbrev dktX1_settle_1 : List UInt8 := dkwX1_settle_1 ++ []
def dkwX1_settle_0 : List UInt8 := [44, 182, 1, 56, 154, 0, 4, 177, 44, 4, 181, 1, 16, 42, 16, 6, 27, 42, 180, 0, 133, 182, 0, 249]
abbrev dktX1_settle_0 : List UInt8 := dkwX1_settle_0 ++ dktX1_settle_1
theorem dksX1_settle_0 : cX1_settle.data.toList.drop 0 = dktX1_settle_0 := by decide +kernel
theorem dksX1_settle_1 : cX1_settle.data.toList.drop 24 = dktX1_settle_1 := dk_seg dksX1_settle_0 24 rfl rfl
theorem dX1_settle_0 : decode cX1_settle 0 = .ok (.aload_n 2, 1) := dk_44 (dk_at dksX1_settle_0 0 rfl rfl)
theorem dX1_settle_1 : decode cX1_settle 1 = .ok (.invokevirtual 312, 3) := dk_182 1 56 (dk_at dksX1_settle_0 1 rfl rfl)
theorem dX1_settle_4 : decode cX1_settle 4 = .ok (.ifCond .ne 4, 3) := dk_154 0 4 (dk_at dksX1_settle_0 4 rfl rfl)
theorem dX1_settle_7 : decode cX1_settle 7 = .ok (.return_, 1) := dk_177 (dk_at dksX1_settle_0 7 rfl rfl)
theorem dX1_settle_8 : decode cX1_settle 8 = .ok (.aload_n 2, 1) := dk_44 (dk_at dksX1_settle_0 8 rfl rfl)
theorem dX1_settle_9 : decode cX1_settle 9 = .ok (.iconst 1, 1) := dk_4 (dk_at dksX1_settle_0 9 rfl rfl)
theorem dX1_settle_10 : decode cX1_settle 10 = .ok (.putfield 272, 3) := dk_181 1 16 (dk_at dksX1_settle_0 10 rfl rfl)
theorem dX1_settle_13 : decode cX1_settle 13 = .ok (.aload_n 0, 1) := dk_42 (dk_at dksX1_settle_0 13 rfl rfl)
theorem dX1_settle_14 : decode cX1_settle 14 = .ok (.bipush 6, 2) := dk_16 6 (dk_at dksX1_settle_0 14 rfl rfl)
theorem dX1_settle_16 : decode cX1_settle 16 = .ok (.iload_n 1, 1) := dk_27 (dk_at dksX1_settle_0 16 rfl rfl)
theorem dX1_settle_17 : decode cX1_settle 17 = .ok (.aload_n 0, 1) := dk_42 (dk_at dksX1_settle_0 17 rfl rfl)
theorem dX1_settle_18 : decode cX1_settle 18 = .ok (.getfield 133, 3) := dk_180 0 133 (dk_at dksX1_settle_0 18 rfl rfl)
theorem dX1_settle_21 : decode cX1_settle 21 = .ok (.invokevirtual 249, 3) := dk_182 0 249 (dk_at dksX1_settle_0 21 rfl rfl)
theorem dX1_settle_24 : decode cX1_settle 24 = .ok (.return_, 1) := dk_177 (dk_at dksX1_settle_1 0 rfl rfl)
def dkwX1_does_13 : List UInt8 := [21, 5, 182, 1, 130, 172]
abbrev dktX1_does_13 : List UInt8 := dkwX1_does_13 ++ []
def dkwX1_does_12 : List UInt8 := [180, 1, 127, 25, 4, 180, 1, 120, 21, 5, 79, 42, 27, 45, 182, 1, 116, 172, 42, 27, 44, 45, 25, 4]
abbrev dktX1_does_12 : List UInt8 := dkwX1_does_12 ++ dktX1_does_13
def dkwX1_does_11 : List UInt8 := [25, 4, 180, 1, 63, 16, 11, 160, 0, 7, 4, 167, 0, 4, 3, 84, 42, 27, 45, 182, 1, 116, 172, 45]
abbrev dktX1_does_11 : List UInt8 := dkwX1_does_11 ++ dktX1_does_12
def dkwX1_does_10 : List UInt8 := [180, 1, 120, 92, 46, 4, 96, 79, 42, 27, 45, 182, 1, 116, 172, 42, 180, 0, 49, 25, 4, 180, 1, 120]
abbrev dktX1_does_10 : List UInt8 := dkwX1_does_10 ++ dktX1_does_11
def dkwX1_does_9 : List UInt8 := [4, 172, 45, 180, 1, 46, 25, 4, 180, 1, 120, 92, 46, 4, 100, 79, 42, 180, 0, 45, 25, 4]
abbrev dktX1_does_9 : List UInt8 := dkwX1_does_9 ++ dktX1_does_10
def dkwX1_does_8 : List UInt8 := [180, 1, 46, 25, 4, 180, 1, 120, 46, 154, 0, 8, 42, 6, 181, 1, 71, 42, 180, 1, 71, 153, 0, 5]
abbrev dktX1_does_8 : List UInt8 := dkwX1_does_8 ++ dktX1_does_9
def dkwX1_does_7 : List UInt8 := [153, 0, 7, 4, 167, 0, 4, 3, 172, 42, 27, 45, 25, 4, 180, 1, 120, 182, 1, 123, 172, 45]
abbrev dktX1_does_7 : List UInt8 := dkwX1_does_7 ++ dktX1_does_8
def dkwX1_does_6 : List UInt8 := [180, 1, 106, 42, 44, 182, 1, 110, 153, 0, 23, 42, 180, 1, 71, 154, 0, 16, 42, 27, 45, 182, 1, 116]
abbrev dktX1_does_6 : List UInt8 := dkwX1_does_6 ++ dktX1_does_7
def dkwX1_does_5 : List UInt8 := [27, 44, 45, 25, 4, 180, 1, 63, 21, 5, 182, 1, 98, 172, 42, 27, 44, 45, 182, 1, 102, 172, 25, 4]
abbrev dktX1_does_5 : List UInt8 := dkwX1_does_5 ++ dktX1_does_6
def dkwX1_does_4 : List UInt8 := [27, 44, 45, 25, 4, 180, 1, 63, 5, 160, 0, 7, 4, 167, 0, 4, 3, 21, 5, 182, 1, 95, 172, 42]
abbrev dktX1_does_4 : List UInt8 := dkwX1_does_4 ++ dktX1_does_5
def dkwX1_does_3 : List UInt8 := [42, 27, 44, 45, 25, 4, 180, 1, 63, 154, 0, 7, 4, 167, 0, 4, 3, 21, 5, 182, 1, 91, 172, 42]
abbrev dktX1_does_3 : List UInt8 := dkwX1_does_3 ++ dktX1_does_4
def dkwX1_does_2 : List UInt8 := [170, 0, 0, 0, 0, 1, 45, 0, 0, 0, 0, 0, 0, 0, 13, 0, 0, 0, 71, 0, 0, 0, 71, 0, 0, 0, 94, 0, 0, 0, 94, 0, 0, 0, 118, 0, 0, 0, 133, 0, 0, 0, 118, 0, 0, 0, 118, 0, 0, 0, 141, 0, 0, 0, 176, 0, 0, 0, 188, 0, 0, 0, 250, 0, 0, 0, 250, 0, 0, 1, 26]
abbrev dktX1_does_2 : List UInt8 := dkwX1_does_2 ++ dktX1_does_3
def dkwX1_does_1 : List UInt8 := [42, 44, 182, 1, 85, 54, 5, 42, 180, 1, 71, 153, 0, 5, 4, 172, 25, 4, 180, 1, 63]
abbrev dktX1_does_1 : List UInt8 := dkwX1_does_1 ++ dktX1_does_2
def dkwX1_does_0 : List UInt8 := [25, 4, 180, 1, 81, 198, 0, 10, 45, 180, 1, 38, 153, 0, 7, 3, 167, 0, 13, 25, 4, 180, 1, 81]
abbrev dktX1_does_0 : List UInt8 := dkwX1_does_0 ++ dktX1_does_1
theorem dksX1_does_0 : cX1_does.data.toList.drop 0 = dktX1_does_0 := by decide +kernel
theorem dksX1_does_1 : cX1_does.data.toList.drop 24 = dktX1_does_1 := dk_seg dksX1_does_0 24 rfl rfl
theorem dksX1_does_2 : cX1_does.data.toList.drop 45 = dktX1_does_2 := dk_seg dksX1_does_1 21 rfl rfl
theorem dksX1_does_3 : cX1_does.data.toList.drop 116 = dktX1_does_3 := dk_seg dksX1_does_2 71 rfl rfl
theorem dksX1_does_4 : cX1_does.data.toList.drop 140 = dktX1_does_4 := dk_seg dksX1_does_3 24 rfl rfl
theorem dksX1_does_5 : cX1_does.data.toList.drop 164 = dktX1_does_5 := dk_seg dksX1_does_4 24 rfl rfl
theorem dksX1_does_6 : cX1_does.data.toList.drop 188 = dktX1_does_6 := dk_seg dksX1_does_5 24 rfl rfl
theorem dksX1_does_7 : cX1_does.data.toList.drop 212 = dktX1_does_7 := dk_seg dksX1_does_6 24 rfl rfl
theorem dksX1_does_8 : cX1_does.data.toList.drop 234 = dktX1_does_8 := dk_seg dksX1_does_7 22 rfl rfl
theorem dksX1_does_9 : cX1_does.data.toList.drop 258 = dktX1_does_9 := dk_seg dksX1_does_8 24 rfl rfl
theorem dksX1_does_10 : cX1_does.data.toList.drop 280 = dktX1_does_10 := dk_seg dksX1_does_9 22 rfl rfl
theorem dksX1_does_11 : cX1_does.data.toList.drop 304 = dktX1_does_11 := dk_seg dksX1_does_10 24 rfl rfl
theorem dksX1_does_12 : cX1_does.data.toList.drop 328 = dktX1_does_12 := dk_seg dksX1_does_11 24 rfl rfl
theorem dksX1_does_13 : cX1_does.data.toList.drop 352 = dktX1_does_13 := dk_seg dksX1_does_12 24 rfl rfl
theorem dX1_does_0 : decode cX1_does 0 = .ok (.aload 4, 2) := dk_25 4 (dk_at dksX1_does_0 0 rfl rfl)
theorem dX1_does_2 : decode cX1_does 2 = .ok (.getfield 337, 3) := dk_180 1 81 (dk_at dksX1_does_0 2 rfl rfl)
theorem dX1_does_5 : decode cX1_does 5 = .ok (.ifnull 10, 3) := dk_198 0 10 (dk_at dksX1_does_0 5 rfl rfl)
theorem dX1_does_8 : decode cX1_does 8 = .ok (.aload_n 3, 1) := dk_45 (dk_at dksX1_does_0 8 rfl rfl)
theorem dX1_does_9 : decode cX1_does 9 = .ok (.getfield 294, 3) := dk_180 1 38 (dk_at dksX1_does_0 9 rfl rfl)
theorem dX1_does_12 : decode cX1_does 12 = .ok (.ifCond .eq 7, 3) := dk_153 0 7 (dk_at dksX1_does_0 12 rfl rfl)
theorem dX1_does_15 : decode cX1_does 15 = .ok (.iconst 0, 1) := dk_3 (dk_at dksX1_does_0 15 rfl rfl)
theorem dX1_does_16 : decode cX1_does 16 = .ok (.goto 13, 3) := dk_167 0 13 (dk_at dksX1_does_0 16 rfl rfl)
theorem dX1_does_19 : decode cX1_does 19 = .ok (.aload 4, 2) := dk_25 4 (dk_at dksX1_does_0 19 rfl rfl)
theorem dX1_does_21 : decode cX1_does 21 = .ok (.getfield 337, 3) := dk_180 1 81 (dk_at dksX1_does_0 21 rfl rfl)
theorem dX1_does_24 : decode cX1_does 24 = .ok (.aload_n 0, 1) := dk_42 (dk_at dksX1_does_1 0 rfl rfl)
theorem dX1_does_25 : decode cX1_does 25 = .ok (.aload_n 2, 1) := dk_44 (dk_at dksX1_does_1 1 rfl rfl)
theorem dX1_does_26 : decode cX1_does 26 = .ok (.invokevirtual 341, 3) := dk_182 1 85 (dk_at dksX1_does_1 2 rfl rfl)
theorem dX1_does_29 : decode cX1_does 29 = .ok (.istore 5, 2) := dk_54 5 (dk_at dksX1_does_1 5 rfl rfl)
theorem dX1_does_31 : decode cX1_does 31 = .ok (.aload_n 0, 1) := dk_42 (dk_at dksX1_does_1 7 rfl rfl)
theorem dX1_does_32 : decode cX1_does 32 = .ok (.getfield 327, 3) := dk_180 1 71 (dk_at dksX1_does_1 8 rfl rfl)
theorem dX1_does_35 : decode cX1_does 35 = .ok (.ifCond .eq 5, 3) := dk_153 0 5 (dk_at dksX1_does_1 11 rfl rfl)
theorem dX1_does_38 : decode cX1_does 38 = .ok (.iconst 1, 1) := dk_4 (dk_at dksX1_does_1 14 rfl rfl)
theorem dX1_does_39 : decode cX1_does 39 = .ok (.ireturn, 1) := dk_172 (dk_at dksX1_does_1 15 rfl rfl)
theorem dX1_does_40 : decode cX1_does 40 = .ok (.aload 4, 2) := dk_25 4 (dk_at dksX1_does_1 16 rfl rfl)
theorem dX1_does_42 : decode cX1_does 42 = .ok (.getfield 319, 3) := dk_180 1 63 (dk_at dksX1_does_1 18 rfl rfl)
theorem dX1_does_45 : decode cX1_does 45 = .ok (.tableswitch 301 0 13 #[71, 71, 94, 94, 118, 133, 118, 118, 141, 176, 188, 250, 250, 282], 71) := by decide +kernel
theorem dX1_does_116 : decode cX1_does 116 = .ok (.aload_n 0, 1) := dk_42 (dk_at dksX1_does_3 0 rfl rfl)
theorem dX1_does_117 : decode cX1_does 117 = .ok (.iload_n 1, 1) := dk_27 (dk_at dksX1_does_3 1 rfl rfl)
theorem dX1_does_118 : decode cX1_does 118 = .ok (.aload_n 2, 1) := dk_44 (dk_at dksX1_does_3 2 rfl rfl)
theorem dX1_does_119 : decode cX1_does 119 = .ok (.aload_n 3, 1) := dk_45 (dk_at dksX1_does_3 3 rfl rfl)
theorem dX1_does_120 : decode cX1_does 120 = .ok (.aload 4, 2) := dk_25 4 (dk_at dksX1_does_3 4 rfl rfl)
theorem dX1_does_122 : decode cX1_does 122 = .ok (.getfield 319, 3) := dk_180 1 63 (dk_at dksX1_does_3 6 rfl rfl)
theorem dX1_does_125 : decode cX1_does 125 = .ok (.ifCond .ne 7, 3) := dk_154 0 7 (dk_at dksX1_does_3 9 rfl rfl)
theorem dX1_does_128 : decode cX1_does 128 = .ok (.iconst 1, 1) := dk_4 (dk_at dksX1_does_3 12 rfl rfl)
theorem dX1_does_129 : decode cX1_does 129 = .ok (.goto 4, 3) := dk_167 0 4 (dk_at dksX1_does_3 13 rfl rfl)
theorem dX1_does_132 : decode cX1_does 132 = .ok (.iconst 0, 1) := dk_3 (dk_at dksX1_does_3 16 rfl rfl)
theorem dX1_does_133 : decode cX1_does 133 = .ok (.iload 5, 2) := dk_21 5 (dk_at dksX1_does_3 17 rfl rfl)
theorem dX1_does_135 : decode cX1_does 135 = .ok (.invokevirtual 347, 3) := dk_182 1 91 (dk_at dksX1_does_3 19 rfl rfl)
theorem dX1_does_138 : decode cX1_does 138 = .ok (.ireturn, 1) := dk_172 (dk_at dksX1_does_3 22 rfl rfl)
theorem dX1_does_139 : decode cX1_does 139 = .ok (.aload_n 0, 1) := dk_42 (dk_at dksX1_does_3 23 rfl rfl)
theorem dX1_does_140 : decode cX1_does 140 = .ok (.iload_n 1, 1) := dk_27 (dk_at dksX1_does_4 0 rfl rfl)
theorem dX1_does_141 : decode cX1_does 141 = .ok (.aload_n 2, 1) := dk_44 (dk_at dksX1_does_4 1 rfl rfl)
theorem dX1_does_142 : decode cX1_does 142 = .ok (.aload_n 3, 1) := dk_45 (dk_at dksX1_does_4 2 rfl rfl)
theorem dX1_does_143 : decode cX1_does 143 = .ok (.aload 4, 2) := dk_25 4 (dk_at dksX1_does_4 3 rfl rfl)
theorem dX1_does_145 : decode cX1_does 145 = .ok (.getfield 319, 3) := dk_180 1 63 (dk_at dksX1_does_4 5 rfl rfl)
theorem dX1_does_148 : decode cX1_does 148 = .ok (.iconst 2, 1) := dk_5 (dk_at dksX1_does_4 8 rfl rfl)
theorem dX1_does_149 : decode cX1_does 149 = .ok (.if_icmp .ne 7, 3) := dk_160 0 7 (dk_at dksX1_does_4 9 rfl rfl)
theorem dX1_does_152 : decode cX1_does 152 = .ok (.iconst 1, 1) := dk_4 (dk_at dksX1_does_4 12 rfl rfl)
theorem dX1_does_153 : decode cX1_does 153 = .ok (.goto 4, 3) := dk_167 0 4 (dk_at dksX1_does_4 13 rfl rfl)
theorem dX1_does_156 : decode cX1_does 156 = .ok (.iconst 0, 1) := dk_3 (dk_at dksX1_does_4 16 rfl rfl)
theorem dX1_does_157 : decode cX1_does 157 = .ok (.iload 5, 2) := dk_21 5 (dk_at dksX1_does_4 17 rfl rfl)
theorem dX1_does_159 : decode cX1_does 159 = .ok (.invokevirtual 351, 3) := dk_182 1 95 (dk_at dksX1_does_4 19 rfl rfl)
theorem dX1_does_162 : decode cX1_does 162 = .ok (.ireturn, 1) := dk_172 (dk_at dksX1_does_4 22 rfl rfl)
theorem dX1_does_163 : decode cX1_does 163 = .ok (.aload_n 0, 1) := dk_42 (dk_at dksX1_does_4 23 rfl rfl)
theorem dX1_does_164 : decode cX1_does 164 = .ok (.iload_n 1, 1) := dk_27 (dk_at dksX1_does_5 0 rfl rfl)
theorem dX1_does_165 : decode cX1_does 165 = .ok (.aload_n 2, 1) := dk_44 (dk_at dksX1_does_5 1 rfl rfl)
theorem dX1_does_166 : decode cX1_does 166 = .ok (.aload_n 3, 1) := dk_45 (dk_at dksX1_does_5 2 rfl rfl)
theorem dX1_does_167 : decode cX1_does 167 = .ok (.aload 4, 2) := dk_25 4 (dk_at dksX1_does_5 3 rfl rfl)
theorem dX1_does_169 : decode cX1_does 169 = .ok (.getfield 319, 3) := dk_180 1 63 (dk_at dksX1_does_5 5 rfl rfl)
theorem dX1_does_172 : decode cX1_does 172 = .ok (.iload 5, 2) := dk_21 5 (dk_at dksX1_does_5 8 rfl rfl)
theorem dX1_does_174 : decode cX1_does 174 = .ok (.invokevirtual 354, 3) := dk_182 1 98 (dk_at dksX1_does_5 10 rfl rfl)
theorem dX1_does_177 : decode cX1_does 177 = .ok (.ireturn, 1) := dk_172 (dk_at dksX1_does_5 13 rfl rfl)
theorem dX1_does_178 : decode cX1_does 178 = .ok (.aload_n 0, 1) := dk_42 (dk_at dksX1_does_5 14 rfl rfl)
theorem dX1_does_179 : decode cX1_does 179 = .ok (.iload_n 1, 1) := dk_27 (dk_at dksX1_does_5 15 rfl rfl)
theorem dX1_does_180 : decode cX1_does 180 = .ok (.aload_n 2, 1) := dk_44 (dk_at dksX1_does_5 16 rfl rfl)
theorem dX1_does_181 : decode cX1_does 181 = .ok (.aload_n 3, 1) := dk_45 (dk_at dksX1_does_5 17 rfl rfl)
theorem dX1_does_182 : decode cX1_does 182 = .ok (.invokevirtual 358, 3) := dk_182 1 102 (dk_at dksX1_does_5 18 rfl rfl)
theorem dX1_does_185 : decode cX1_does 185 = .ok (.ireturn, 1) := dk_172 (dk_at dksX1_does_5 21 rfl rfl)
theorem dX1_does_186 : decode cX1_does 186 = .ok (.aload 4, 2) := dk_25 4 (dk_at dksX1_does_5 22 rfl rfl)
theorem dX1_does_188 : decode cX1_does 188 = .ok (.getfield 362, 3) := dk_180 1 106 (dk_at dksX1_does_6 0 rfl rfl)
theorem dX1_does_191 : decode cX1_does 191 = .ok (.aload_n 0, 1) := dk_42 (dk_at dksX1_does_6 3 rfl rfl)
theorem dX1_does_192 : decode cX1_does 192 = .ok (.aload_n 2, 1) := dk_44 (dk_at dksX1_does_6 4 rfl rfl)
theorem dX1_does_193 : decode cX1_does 193 = .ok (.invokevirtual 366, 3) := dk_182 1 110 (dk_at dksX1_does_6 5 rfl rfl)
theorem dX1_does_196 : decode cX1_does 196 = .ok (.ifCond .eq 23, 3) := dk_153 0 23 (dk_at dksX1_does_6 8 rfl rfl)
theorem dX1_does_199 : decode cX1_does 199 = .ok (.aload_n 0, 1) := dk_42 (dk_at dksX1_does_6 11 rfl rfl)
theorem dX1_does_200 : decode cX1_does 200 = .ok (.getfield 327, 3) := dk_180 1 71 (dk_at dksX1_does_6 12 rfl rfl)
theorem dX1_does_203 : decode cX1_does 203 = .ok (.ifCond .ne 16, 3) := dk_154 0 16 (dk_at dksX1_does_6 15 rfl rfl)
theorem dX1_does_206 : decode cX1_does 206 = .ok (.aload_n 0, 1) := dk_42 (dk_at dksX1_does_6 18 rfl rfl)
theorem dX1_does_207 : decode cX1_does 207 = .ok (.iload_n 1, 1) := dk_27 (dk_at dksX1_does_6 19 rfl rfl)
theorem dX1_does_208 : decode cX1_does 208 = .ok (.aload_n 3, 1) := dk_45 (dk_at dksX1_does_6 20 rfl rfl)
theorem dX1_does_209 : decode cX1_does 209 = .ok (.invokevirtual 372, 3) := dk_182 1 116 (dk_at dksX1_does_6 21 rfl rfl)
theorem dX1_does_212 : decode cX1_does 212 = .ok (.ifCond .eq 7, 3) := dk_153 0 7 (dk_at dksX1_does_7 0 rfl rfl)
theorem dX1_does_215 : decode cX1_does 215 = .ok (.iconst 1, 1) := dk_4 (dk_at dksX1_does_7 3 rfl rfl)
theorem dX1_does_216 : decode cX1_does 216 = .ok (.goto 4, 3) := dk_167 0 4 (dk_at dksX1_does_7 4 rfl rfl)
theorem dX1_does_219 : decode cX1_does 219 = .ok (.iconst 0, 1) := dk_3 (dk_at dksX1_does_7 7 rfl rfl)
theorem dX1_does_220 : decode cX1_does 220 = .ok (.ireturn, 1) := dk_172 (dk_at dksX1_does_7 8 rfl rfl)
theorem dX1_does_221 : decode cX1_does 221 = .ok (.aload_n 0, 1) := dk_42 (dk_at dksX1_does_7 9 rfl rfl)
theorem dX1_does_222 : decode cX1_does 222 = .ok (.iload_n 1, 1) := dk_27 (dk_at dksX1_does_7 10 rfl rfl)
theorem dX1_does_223 : decode cX1_does 223 = .ok (.aload_n 3, 1) := dk_45 (dk_at dksX1_does_7 11 rfl rfl)
theorem dX1_does_224 : decode cX1_does 224 = .ok (.aload 4, 2) := dk_25 4 (dk_at dksX1_does_7 12 rfl rfl)
theorem dX1_does_226 : decode cX1_does 226 = .ok (.getfield 376, 3) := dk_180 1 120 (dk_at dksX1_does_7 14 rfl rfl)
theorem dX1_does_229 : decode cX1_does 229 = .ok (.invokevirtual 379, 3) := dk_182 1 123 (dk_at dksX1_does_7 17 rfl rfl)
theorem dX1_does_232 : decode cX1_does 232 = .ok (.ireturn, 1) := dk_172 (dk_at dksX1_does_7 20 rfl rfl)
theorem dX1_does_233 : decode cX1_does 233 = .ok (.aload_n 3, 1) := dk_45 (dk_at dksX1_does_7 21 rfl rfl)
theorem dX1_does_234 : decode cX1_does 234 = .ok (.getfield 302, 3) := dk_180 1 46 (dk_at dksX1_does_8 0 rfl rfl)
theorem dX1_does_237 : decode cX1_does 237 = .ok (.aload 4, 2) := dk_25 4 (dk_at dksX1_does_8 3 rfl rfl)
theorem dX1_does_239 : decode cX1_does 239 = .ok (.getfield 376, 3) := dk_180 1 120 (dk_at dksX1_does_8 5 rfl rfl)
theorem dX1_does_242 : decode cX1_does 242 = .ok (.iaload, 1) := dk_46 (dk_at dksX1_does_8 8 rfl rfl)
theorem dX1_does_243 : decode cX1_does 243 = .ok (.ifCond .ne 8, 3) := dk_154 0 8 (dk_at dksX1_does_8 9 rfl rfl)
theorem dX1_does_246 : decode cX1_does 246 = .ok (.aload_n 0, 1) := dk_42 (dk_at dksX1_does_8 12 rfl rfl)
theorem dX1_does_247 : decode cX1_does 247 = .ok (.iconst 3, 1) := dk_6 (dk_at dksX1_does_8 13 rfl rfl)
theorem dX1_does_248 : decode cX1_does 248 = .ok (.putfield 327, 3) := dk_181 1 71 (dk_at dksX1_does_8 14 rfl rfl)
theorem dX1_does_251 : decode cX1_does 251 = .ok (.aload_n 0, 1) := dk_42 (dk_at dksX1_does_8 17 rfl rfl)
theorem dX1_does_252 : decode cX1_does 252 = .ok (.getfield 327, 3) := dk_180 1 71 (dk_at dksX1_does_8 18 rfl rfl)
theorem dX1_does_255 : decode cX1_does 255 = .ok (.ifCond .eq 5, 3) := dk_153 0 5 (dk_at dksX1_does_8 21 rfl rfl)
theorem dX1_does_258 : decode cX1_does 258 = .ok (.iconst 1, 1) := dk_4 (dk_at dksX1_does_9 0 rfl rfl)
theorem dX1_does_259 : decode cX1_does 259 = .ok (.ireturn, 1) := dk_172 (dk_at dksX1_does_9 1 rfl rfl)
theorem dX1_does_260 : decode cX1_does 260 = .ok (.aload_n 3, 1) := dk_45 (dk_at dksX1_does_9 2 rfl rfl)
theorem dX1_does_261 : decode cX1_does 261 = .ok (.getfield 302, 3) := dk_180 1 46 (dk_at dksX1_does_9 3 rfl rfl)
theorem dX1_does_264 : decode cX1_does 264 = .ok (.aload 4, 2) := dk_25 4 (dk_at dksX1_does_9 6 rfl rfl)
theorem dX1_does_266 : decode cX1_does 266 = .ok (.getfield 376, 3) := dk_180 1 120 (dk_at dksX1_does_9 8 rfl rfl)
theorem dX1_does_269 : decode cX1_does 269 = .ok (.dup2, 1) := dk_92 (dk_at dksX1_does_9 11 rfl rfl)
theorem dX1_does_270 : decode cX1_does 270 = .ok (.iaload, 1) := dk_46 (dk_at dksX1_does_9 12 rfl rfl)
theorem dX1_does_271 : decode cX1_does 271 = .ok (.iconst 1, 1) := dk_4 (dk_at dksX1_does_9 13 rfl rfl)
theorem dX1_does_272 : decode cX1_does 272 = .ok (.isub, 1) := dk_100 (dk_at dksX1_does_9 14 rfl rfl)
theorem dX1_does_273 : decode cX1_does 273 = .ok (.iastore, 1) := dk_79 (dk_at dksX1_does_9 15 rfl rfl)
theorem dX1_does_274 : decode cX1_does 274 = .ok (.aload_n 0, 1) := dk_42 (dk_at dksX1_does_9 16 rfl rfl)
theorem dX1_does_275 : decode cX1_does 275 = .ok (.getfield 45, 3) := dk_180 0 45 (dk_at dksX1_does_9 17 rfl rfl)
theorem dX1_does_278 : decode cX1_does 278 = .ok (.aload 4, 2) := dk_25 4 (dk_at dksX1_does_9 20 rfl rfl)
theorem dX1_does_280 : decode cX1_does 280 = .ok (.getfield 376, 3) := dk_180 1 120 (dk_at dksX1_does_10 0 rfl rfl)
theorem dX1_does_283 : decode cX1_does 283 = .ok (.dup2, 1) := dk_92 (dk_at dksX1_does_10 3 rfl rfl)
theorem dX1_does_284 : decode cX1_does 284 = .ok (.iaload, 1) := dk_46 (dk_at dksX1_does_10 4 rfl rfl)
theorem dX1_does_285 : decode cX1_does 285 = .ok (.iconst 1, 1) := dk_4 (dk_at dksX1_does_10 5 rfl rfl)
theorem dX1_does_286 : decode cX1_does 286 = .ok (.iadd, 1) := dk_96 (dk_at dksX1_does_10 6 rfl rfl)
theorem dX1_does_287 : decode cX1_does 287 = .ok (.iastore, 1) := dk_79 (dk_at dksX1_does_10 7 rfl rfl)
theorem dX1_does_288 : decode cX1_does 288 = .ok (.aload_n 0, 1) := dk_42 (dk_at dksX1_does_10 8 rfl rfl)
theorem dX1_does_289 : decode cX1_does 289 = .ok (.iload_n 1, 1) := dk_27 (dk_at dksX1_does_10 9 rfl rfl)
theorem dX1_does_290 : decode cX1_does 290 = .ok (.aload_n 3, 1) := dk_45 (dk_at dksX1_does_10 10 rfl rfl)
theorem dX1_does_291 : decode cX1_does 291 = .ok (.invokevirtual 372, 3) := dk_182 1 116 (dk_at dksX1_does_10 11 rfl rfl)
theorem dX1_does_294 : decode cX1_does 294 = .ok (.ireturn, 1) := dk_172 (dk_at dksX1_does_10 14 rfl rfl)
theorem dX1_does_295 : decode cX1_does 295 = .ok (.aload_n 0, 1) := dk_42 (dk_at dksX1_does_10 15 rfl rfl)
theorem dX1_does_296 : decode cX1_does 296 = .ok (.getfield 49, 3) := dk_180 0 49 (dk_at dksX1_does_10 16 rfl rfl)
theorem dX1_does_299 : decode cX1_does 299 = .ok (.aload 4, 2) := dk_25 4 (dk_at dksX1_does_10 19 rfl rfl)
theorem dX1_does_301 : decode cX1_does 301 = .ok (.getfield 376, 3) := dk_180 1 120 (dk_at dksX1_does_10 21 rfl rfl)
theorem dX1_does_304 : decode cX1_does 304 = .ok (.aload 4, 2) := dk_25 4 (dk_at dksX1_does_11 0 rfl rfl)
theorem dX1_does_306 : decode cX1_does 306 = .ok (.getfield 319, 3) := dk_180 1 63 (dk_at dksX1_does_11 2 rfl rfl)
theorem dX1_does_309 : decode cX1_does 309 = .ok (.bipush 11, 2) := dk_16 11 (dk_at dksX1_does_11 5 rfl rfl)
theorem dX1_does_311 : decode cX1_does 311 = .ok (.if_icmp .ne 7, 3) := dk_160 0 7 (dk_at dksX1_does_11 7 rfl rfl)
theorem dX1_does_314 : decode cX1_does 314 = .ok (.iconst 1, 1) := dk_4 (dk_at dksX1_does_11 10 rfl rfl)
theorem dX1_does_315 : decode cX1_does 315 = .ok (.goto 4, 3) := dk_167 0 4 (dk_at dksX1_does_11 11 rfl rfl)
theorem dX1_does_318 : decode cX1_does 318 = .ok (.iconst 0, 1) := dk_3 (dk_at dksX1_does_11 14 rfl rfl)
theorem dX1_does_319 : decode cX1_does 319 = .ok (.bastore, 1) := dk_84 (dk_at dksX1_does_11 15 rfl rfl)
theorem dX1_does_320 : decode cX1_does 320 = .ok (.aload_n 0, 1) := dk_42 (dk_at dksX1_does_11 16 rfl rfl)
theorem dX1_does_321 : decode cX1_does 321 = .ok (.iload_n 1, 1) := dk_27 (dk_at dksX1_does_11 17 rfl rfl)
theorem dX1_does_322 : decode cX1_does 322 = .ok (.aload_n 3, 1) := dk_45 (dk_at dksX1_does_11 18 rfl rfl)
theorem dX1_does_323 : decode cX1_does 323 = .ok (.invokevirtual 372, 3) := dk_182 1 116 (dk_at dksX1_does_11 19 rfl rfl)
theorem dX1_does_326 : decode cX1_does 326 = .ok (.ireturn, 1) := dk_172 (dk_at dksX1_does_11 22 rfl rfl)
theorem dX1_does_327 : decode cX1_does 327 = .ok (.aload_n 3, 1) := dk_45 (dk_at dksX1_does_11 23 rfl rfl)
theorem dX1_does_328 : decode cX1_does 328 = .ok (.getfield 383, 3) := dk_180 1 127 (dk_at dksX1_does_12 0 rfl rfl)
theorem dX1_does_331 : decode cX1_does 331 = .ok (.aload 4, 2) := dk_25 4 (dk_at dksX1_does_12 3 rfl rfl)
theorem dX1_does_333 : decode cX1_does 333 = .ok (.getfield 376, 3) := dk_180 1 120 (dk_at dksX1_does_12 5 rfl rfl)
theorem dX1_does_336 : decode cX1_does 336 = .ok (.iload 5, 2) := dk_21 5 (dk_at dksX1_does_12 8 rfl rfl)
theorem dX1_does_338 : decode cX1_does 338 = .ok (.iastore, 1) := dk_79 (dk_at dksX1_does_12 10 rfl rfl)
theorem dX1_does_339 : decode cX1_does 339 = .ok (.aload_n 0, 1) := dk_42 (dk_at dksX1_does_12 11 rfl rfl)
theorem dX1_does_340 : decode cX1_does 340 = .ok (.iload_n 1, 1) := dk_27 (dk_at dksX1_does_12 12 rfl rfl)
theorem dX1_does_341 : decode cX1_does 341 = .ok (.aload_n 3, 1) := dk_45 (dk_at dksX1_does_12 13 rfl rfl)
theorem dX1_does_342 : decode cX1_does 342 = .ok (.invokevirtual 372, 3) := dk_182 1 116 (dk_at dksX1_does_12 14 rfl rfl)
theorem dX1_does_345 : decode cX1_does 345 = .ok (.ireturn, 1) := dk_172 (dk_at dksX1_does_12 17 rfl rfl)
theorem dX1_does_346 : decode cX1_does 346 = .ok (.aload_n 0, 1) := dk_42 (dk_at dksX1_does_12 18 rfl rfl)
theorem dX1_does_347 : decode cX1_does 347 = .ok (.iload_n 1, 1) := dk_27 (dk_at dksX1_does_12 19 rfl rfl)
theorem dX1_does_348 : decode cX1_does 348 = .ok (.aload_n 2, 1) := dk_44 (dk_at dksX1_does_12 20 rfl rfl)
theorem dX1_does_349 : decode cX1_does 349 = .ok (.aload_n 3, 1) := dk_45 (dk_at dksX1_does_12 21 rfl rfl)
theorem dX1_does_350 : decode cX1_does 350 = .ok (.aload 4, 2) := dk_25 4 (dk_at dksX1_does_12 22 rfl rfl)
theorem dX1_does_352 : decode cX1_does 352 = .ok (.iload 5, 2) := dk_21 5 (dk_at dksX1_does_13 0 rfl rfl)
theorem dX1_does_354 : decode cX1_does 354 = .ok (.invokevirtual 386, 3) := dk_182 1 130 (dk_at dksX1_does_13 2 rfl rfl)
theorem dX1_does_357 : decode cX1_does 357 = .ok (.ireturn, 1) := dk_172 (dk_at dksX1_does_13 5 rfl rfl)
def dkwX1_measured_8 : List UInt8 := [153, 0, 20, 42, 192, 0, 195, 77, 44, 185, 0, 197, 1, 0, 180, 0, 233, 167, 0, 4, 3, 172]
abbrev dktX1_measured_8 : List UInt8 := dkwX1_measured_8 ++ []
def dkwX1_measured_7 : List UInt8 := [77, 44, 185, 0, 221, 1, 0, 180, 0, 225, 167, 0, 4, 3, 172, 42, 180, 0, 151, 172, 42, 193, 0, 195]
abbrev dktX1_measured_7 : List UInt8 := dkwX1_measured_7 ++ dktX1_measured_8
def dkwX1_measured_6 : List UInt8 := [185, 0, 210, 1, 0, 180, 0, 214, 167, 0, 4, 3, 172, 42, 193, 0, 219, 153, 0, 20, 42, 192, 0, 219]
abbrev dktX1_measured_6 : List UInt8 := dkwX1_measured_6 ++ dktX1_measured_7
def dkwX1_measured_5 : List UInt8 := [180, 0, 230, 167, 0, 4, 3, 172, 42, 193, 0, 208, 153, 0, 20, 42, 192, 0, 208, 77, 44]
abbrev dktX1_measured_5 : List UInt8 := dkwX1_measured_5 ++ dktX1_measured_6
def dkwX1_measured_4 : List UInt8 := [167, 0, 4, 3, 172, 42, 193, 0, 195, 153, 0, 20, 42, 192, 0, 195, 77, 44, 185, 0, 197, 1, 0]
abbrev dktX1_measured_4 : List UInt8 := dkwX1_measured_4 ++ dktX1_measured_5
def dkwX1_measured_3 : List UInt8 := [3, 172, 42, 193, 0, 178, 153, 0, 20, 42, 192, 0, 178, 77, 44, 185, 0, 180, 1, 0, 180, 0, 184]
abbrev dktX1_measured_3 : List UInt8 := dkwX1_measured_3 ++ dktX1_measured_4
def dkwX1_measured_2 : List UInt8 := [42, 193, 0, 167, 153, 0, 20, 42, 192, 0, 167, 77, 44, 185, 0, 169, 1, 0, 180, 0, 173, 167, 0, 4]
abbrev dktX1_measured_2 : List UInt8 := dkwX1_measured_2 ++ dktX1_measured_3
def dkwX1_measured_1 : List UInt8 := [170, 0, 0, 0, 0, 0, 174, 0, 0, 0, 0, 0, 0, 0, 5, 0, 0, 0, 39, 0, 0, 0, 65, 0, 0, 0, 91, 0, 0, 0, 117, 0, 0, 0, 143, 0, 0, 0, 169]
abbrev dktX1_measured_1 : List UInt8 := dkwX1_measured_1 ++ dktX1_measured_2
def dkwX1_measured_0 : List UInt8 := [27]
abbrev dktX1_measured_0 : List UInt8 := dkwX1_measured_0 ++ dktX1_measured_1
theorem dksX1_measured_0 : cX1_measured.data.toList.drop 0 = dktX1_measured_0 := by decide +kernel
theorem dksX1_measured_1 : cX1_measured.data.toList.drop 1 = dktX1_measured_1 := dk_seg dksX1_measured_0 1 rfl rfl
theorem dksX1_measured_2 : cX1_measured.data.toList.drop 40 = dktX1_measured_2 := dk_seg dksX1_measured_1 39 rfl rfl
theorem dksX1_measured_3 : cX1_measured.data.toList.drop 64 = dktX1_measured_3 := dk_seg dksX1_measured_2 24 rfl rfl
theorem dksX1_measured_4 : cX1_measured.data.toList.drop 87 = dktX1_measured_4 := dk_seg dksX1_measured_3 23 rfl rfl
theorem dksX1_measured_5 : cX1_measured.data.toList.drop 110 = dktX1_measured_5 := dk_seg dksX1_measured_4 23 rfl rfl
theorem dksX1_measured_6 : cX1_measured.data.toList.drop 131 = dktX1_measured_6 := dk_seg dksX1_measured_5 21 rfl rfl
theorem dksX1_measured_7 : cX1_measured.data.toList.drop 155 = dktX1_measured_7 := dk_seg dksX1_measured_6 24 rfl rfl
theorem dksX1_measured_8 : cX1_measured.data.toList.drop 179 = dktX1_measured_8 := dk_seg dksX1_measured_7 24 rfl rfl
theorem dX1_measured_0 : decode cX1_measured 0 = .ok (.iload_n 1, 1) := dk_27 (dk_at dksX1_measured_0 0 rfl rfl)
theorem dX1_measured_1 : decode cX1_measured 1 = .ok (.tableswitch 174 0 5 #[39, 65, 91, 117, 143, 169], 39) := by decide +kernel
theorem dX1_measured_40 : decode cX1_measured 40 = .ok (.aload_n 0, 1) := dk_42 (dk_at dksX1_measured_2 0 rfl rfl)
theorem dX1_measured_41 : decode cX1_measured 41 = .ok (.instanceof 167, 3) := dk_193 0 167 (dk_at dksX1_measured_2 1 rfl rfl)
theorem dX1_measured_44 : decode cX1_measured 44 = .ok (.ifCond .eq 20, 3) := dk_153 0 20 (dk_at dksX1_measured_2 4 rfl rfl)
theorem dX1_measured_47 : decode cX1_measured 47 = .ok (.aload_n 0, 1) := dk_42 (dk_at dksX1_measured_2 7 rfl rfl)
theorem dX1_measured_48 : decode cX1_measured 48 = .ok (.checkcast 167, 3) := dk_192 0 167 (dk_at dksX1_measured_2 8 rfl rfl)
theorem dX1_measured_51 : decode cX1_measured 51 = .ok (.astore_n 2, 1) := dk_77 (dk_at dksX1_measured_2 11 rfl rfl)
theorem dX1_measured_52 : decode cX1_measured 52 = .ok (.aload_n 2, 1) := dk_44 (dk_at dksX1_measured_2 12 rfl rfl)
theorem dX1_measured_53 : decode cX1_measured 53 = .ok (.invokeinterface 169 1, 5) := by decide +kernel
theorem dX1_measured_58 : decode cX1_measured 58 = .ok (.getfield 173, 3) := dk_180 0 173 (dk_at dksX1_measured_2 18 rfl rfl)
theorem dX1_measured_61 : decode cX1_measured 61 = .ok (.goto 4, 3) := dk_167 0 4 (dk_at dksX1_measured_2 21 rfl rfl)
theorem dX1_measured_64 : decode cX1_measured 64 = .ok (.iconst 0, 1) := dk_3 (dk_at dksX1_measured_3 0 rfl rfl)
theorem dX1_measured_65 : decode cX1_measured 65 = .ok (.ireturn, 1) := dk_172 (dk_at dksX1_measured_3 1 rfl rfl)
theorem dX1_measured_66 : decode cX1_measured 66 = .ok (.aload_n 0, 1) := dk_42 (dk_at dksX1_measured_3 2 rfl rfl)
theorem dX1_measured_67 : decode cX1_measured 67 = .ok (.instanceof 178, 3) := dk_193 0 178 (dk_at dksX1_measured_3 3 rfl rfl)
theorem dX1_measured_70 : decode cX1_measured 70 = .ok (.ifCond .eq 20, 3) := dk_153 0 20 (dk_at dksX1_measured_3 6 rfl rfl)
theorem dX1_measured_73 : decode cX1_measured 73 = .ok (.aload_n 0, 1) := dk_42 (dk_at dksX1_measured_3 9 rfl rfl)
theorem dX1_measured_74 : decode cX1_measured 74 = .ok (.checkcast 178, 3) := dk_192 0 178 (dk_at dksX1_measured_3 10 rfl rfl)
theorem dX1_measured_77 : decode cX1_measured 77 = .ok (.astore_n 2, 1) := dk_77 (dk_at dksX1_measured_3 13 rfl rfl)
theorem dX1_measured_78 : decode cX1_measured 78 = .ok (.aload_n 2, 1) := dk_44 (dk_at dksX1_measured_3 14 rfl rfl)
theorem dX1_measured_79 : decode cX1_measured 79 = .ok (.invokeinterface 180 1, 5) := by decide +kernel
theorem dX1_measured_84 : decode cX1_measured 84 = .ok (.getfield 184, 3) := dk_180 0 184 (dk_at dksX1_measured_3 20 rfl rfl)
theorem dX1_measured_87 : decode cX1_measured 87 = .ok (.goto 4, 3) := dk_167 0 4 (dk_at dksX1_measured_4 0 rfl rfl)
theorem dX1_measured_90 : decode cX1_measured 90 = .ok (.iconst 0, 1) := dk_3 (dk_at dksX1_measured_4 3 rfl rfl)
theorem dX1_measured_91 : decode cX1_measured 91 = .ok (.ireturn, 1) := dk_172 (dk_at dksX1_measured_4 4 rfl rfl)
theorem dX1_measured_92 : decode cX1_measured 92 = .ok (.aload_n 0, 1) := dk_42 (dk_at dksX1_measured_4 5 rfl rfl)
theorem dX1_measured_93 : decode cX1_measured 93 = .ok (.instanceof 195, 3) := dk_193 0 195 (dk_at dksX1_measured_4 6 rfl rfl)
theorem dX1_measured_96 : decode cX1_measured 96 = .ok (.ifCond .eq 20, 3) := dk_153 0 20 (dk_at dksX1_measured_4 9 rfl rfl)
theorem dX1_measured_99 : decode cX1_measured 99 = .ok (.aload_n 0, 1) := dk_42 (dk_at dksX1_measured_4 12 rfl rfl)
theorem dX1_measured_100 : decode cX1_measured 100 = .ok (.checkcast 195, 3) := dk_192 0 195 (dk_at dksX1_measured_4 13 rfl rfl)
theorem dX1_measured_103 : decode cX1_measured 103 = .ok (.astore_n 2, 1) := dk_77 (dk_at dksX1_measured_4 16 rfl rfl)
theorem dX1_measured_104 : decode cX1_measured 104 = .ok (.aload_n 2, 1) := dk_44 (dk_at dksX1_measured_4 17 rfl rfl)
theorem dX1_measured_105 : decode cX1_measured 105 = .ok (.invokeinterface 197 1, 5) := by decide +kernel
theorem dX1_measured_110 : decode cX1_measured 110 = .ok (.getfield 230, 3) := dk_180 0 230 (dk_at dksX1_measured_5 0 rfl rfl)
theorem dX1_measured_113 : decode cX1_measured 113 = .ok (.goto 4, 3) := dk_167 0 4 (dk_at dksX1_measured_5 3 rfl rfl)
theorem dX1_measured_116 : decode cX1_measured 116 = .ok (.iconst 0, 1) := dk_3 (dk_at dksX1_measured_5 6 rfl rfl)
theorem dX1_measured_117 : decode cX1_measured 117 = .ok (.ireturn, 1) := dk_172 (dk_at dksX1_measured_5 7 rfl rfl)
theorem dX1_measured_118 : decode cX1_measured 118 = .ok (.aload_n 0, 1) := dk_42 (dk_at dksX1_measured_5 8 rfl rfl)
theorem dX1_measured_119 : decode cX1_measured 119 = .ok (.instanceof 208, 3) := dk_193 0 208 (dk_at dksX1_measured_5 9 rfl rfl)
theorem dX1_measured_122 : decode cX1_measured 122 = .ok (.ifCond .eq 20, 3) := dk_153 0 20 (dk_at dksX1_measured_5 12 rfl rfl)
theorem dX1_measured_125 : decode cX1_measured 125 = .ok (.aload_n 0, 1) := dk_42 (dk_at dksX1_measured_5 15 rfl rfl)
theorem dX1_measured_126 : decode cX1_measured 126 = .ok (.checkcast 208, 3) := dk_192 0 208 (dk_at dksX1_measured_5 16 rfl rfl)
theorem dX1_measured_129 : decode cX1_measured 129 = .ok (.astore_n 2, 1) := dk_77 (dk_at dksX1_measured_5 19 rfl rfl)
theorem dX1_measured_130 : decode cX1_measured 130 = .ok (.aload_n 2, 1) := dk_44 (dk_at dksX1_measured_5 20 rfl rfl)
theorem dX1_measured_131 : decode cX1_measured 131 = .ok (.invokeinterface 210 1, 5) := by decide +kernel
theorem dX1_measured_136 : decode cX1_measured 136 = .ok (.getfield 214, 3) := dk_180 0 214 (dk_at dksX1_measured_6 5 rfl rfl)
theorem dX1_measured_139 : decode cX1_measured 139 = .ok (.goto 4, 3) := dk_167 0 4 (dk_at dksX1_measured_6 8 rfl rfl)
theorem dX1_measured_142 : decode cX1_measured 142 = .ok (.iconst 0, 1) := dk_3 (dk_at dksX1_measured_6 11 rfl rfl)
theorem dX1_measured_143 : decode cX1_measured 143 = .ok (.ireturn, 1) := dk_172 (dk_at dksX1_measured_6 12 rfl rfl)
theorem dX1_measured_144 : decode cX1_measured 144 = .ok (.aload_n 0, 1) := dk_42 (dk_at dksX1_measured_6 13 rfl rfl)
theorem dX1_measured_145 : decode cX1_measured 145 = .ok (.instanceof 219, 3) := dk_193 0 219 (dk_at dksX1_measured_6 14 rfl rfl)
theorem dX1_measured_148 : decode cX1_measured 148 = .ok (.ifCond .eq 20, 3) := dk_153 0 20 (dk_at dksX1_measured_6 17 rfl rfl)
theorem dX1_measured_151 : decode cX1_measured 151 = .ok (.aload_n 0, 1) := dk_42 (dk_at dksX1_measured_6 20 rfl rfl)
theorem dX1_measured_152 : decode cX1_measured 152 = .ok (.checkcast 219, 3) := dk_192 0 219 (dk_at dksX1_measured_6 21 rfl rfl)
theorem dX1_measured_155 : decode cX1_measured 155 = .ok (.astore_n 2, 1) := dk_77 (dk_at dksX1_measured_7 0 rfl rfl)
theorem dX1_measured_156 : decode cX1_measured 156 = .ok (.aload_n 2, 1) := dk_44 (dk_at dksX1_measured_7 1 rfl rfl)
theorem dX1_measured_157 : decode cX1_measured 157 = .ok (.invokeinterface 221 1, 5) := by decide +kernel
theorem dX1_measured_162 : decode cX1_measured 162 = .ok (.getfield 225, 3) := dk_180 0 225 (dk_at dksX1_measured_7 7 rfl rfl)
theorem dX1_measured_165 : decode cX1_measured 165 = .ok (.goto 4, 3) := dk_167 0 4 (dk_at dksX1_measured_7 10 rfl rfl)
theorem dX1_measured_168 : decode cX1_measured 168 = .ok (.iconst 0, 1) := dk_3 (dk_at dksX1_measured_7 13 rfl rfl)
theorem dX1_measured_169 : decode cX1_measured 169 = .ok (.ireturn, 1) := dk_172 (dk_at dksX1_measured_7 14 rfl rfl)
theorem dX1_measured_170 : decode cX1_measured 170 = .ok (.aload_n 0, 1) := dk_42 (dk_at dksX1_measured_7 15 rfl rfl)
theorem dX1_measured_171 : decode cX1_measured 171 = .ok (.getfield 151, 3) := dk_180 0 151 (dk_at dksX1_measured_7 16 rfl rfl)
theorem dX1_measured_174 : decode cX1_measured 174 = .ok (.ireturn, 1) := dk_172 (dk_at dksX1_measured_7 19 rfl rfl)
theorem dX1_measured_175 : decode cX1_measured 175 = .ok (.aload_n 0, 1) := dk_42 (dk_at dksX1_measured_7 20 rfl rfl)
theorem dX1_measured_176 : decode cX1_measured 176 = .ok (.instanceof 195, 3) := dk_193 0 195 (dk_at dksX1_measured_7 21 rfl rfl)
theorem dX1_measured_179 : decode cX1_measured 179 = .ok (.ifCond .eq 20, 3) := dk_153 0 20 (dk_at dksX1_measured_8 0 rfl rfl)
theorem dX1_measured_182 : decode cX1_measured 182 = .ok (.aload_n 0, 1) := dk_42 (dk_at dksX1_measured_8 3 rfl rfl)
theorem dX1_measured_183 : decode cX1_measured 183 = .ok (.checkcast 195, 3) := dk_192 0 195 (dk_at dksX1_measured_8 4 rfl rfl)
theorem dX1_measured_186 : decode cX1_measured 186 = .ok (.astore_n 2, 1) := dk_77 (dk_at dksX1_measured_8 7 rfl rfl)
theorem dX1_measured_187 : decode cX1_measured 187 = .ok (.aload_n 2, 1) := dk_44 (dk_at dksX1_measured_8 8 rfl rfl)
theorem dX1_measured_188 : decode cX1_measured 188 = .ok (.invokeinterface 197 1, 5) := by decide +kernel
theorem dX1_measured_193 : decode cX1_measured 193 = .ok (.getfield 233, 3) := dk_180 0 233 (dk_at dksX1_measured_8 14 rfl rfl)
theorem dX1_measured_196 : decode cX1_measured 196 = .ok (.goto 4, 3) := dk_167 0 4 (dk_at dksX1_measured_8 17 rfl rfl)
theorem dX1_measured_199 : decode cX1_measured 199 = .ok (.iconst 0, 1) := dk_3 (dk_at dksX1_measured_8 20 rfl rfl)
theorem dX1_measured_200 : decode cX1_measured 200 = .ok (.ireturn, 1) := dk_172 (dk_at dksX1_measured_8 21 rfl rfl)
def dkwX1_aims_5 : List UInt8 := [182, 1, 116, 172]
abbrev dktX1_aims_5 : List UInt8 := dkwX1_aims_5 ++ []
def dkwX1_aims_4 : List UInt8 := [167, 0, 21, 44, 192, 0, 178, 58, 6, 25, 6, 185, 0, 180, 1, 0, 21, 5, 181, 0, 207, 42, 27, 45]
abbrev dktX1_aims_4 : List UInt8 := dkwX1_aims_4 ++ dktX1_aims_5
def dkwX1_aims_3 : List UInt8 := [21, 4, 153, 0, 24, 44, 192, 0, 167, 58, 6, 25, 6, 185, 0, 169, 1, 0, 21, 5, 181, 0, 204]
abbrev dktX1_aims_3 : List UInt8 := dkwX1_aims_3 ++ dktX1_aims_4
def dkwX1_aims_2 : List UInt8 := [44, 180, 0, 151, 17, 3, 232, 164, 0, 8, 42, 8, 181, 1, 71, 42, 180, 1, 71, 153, 0, 5, 4, 172]
abbrev dktX1_aims_2 : List UInt8 := dkwX1_aims_2 ++ dktX1_aims_3
def dkwX1_aims_1 : List UInt8 := [155, 0, 11, 21, 5, 17, 3, 232, 164, 0, 11, 42, 5, 181, 1, 71, 167, 0, 23, 21, 5, 153, 0, 18]
abbrev dktX1_aims_1 : List UInt8 := dkwX1_aims_1 ++ dktX1_aims_2
def dkwX1_aims_0 : List UInt8 := [21, 4, 153, 0, 20, 21, 5, 16, 156, 161, 0, 26, 21, 5, 16, 100, 164, 0, 27, 167, 0, 16, 21, 5]
abbrev dktX1_aims_0 : List UInt8 := dkwX1_aims_0 ++ dktX1_aims_1
theorem dksX1_aims_0 : cX1_aims.data.toList.drop 0 = dktX1_aims_0 := by decide +kernel
theorem dksX1_aims_1 : cX1_aims.data.toList.drop 24 = dktX1_aims_1 := dk_seg dksX1_aims_0 24 rfl rfl
theorem dksX1_aims_2 : cX1_aims.data.toList.drop 48 = dktX1_aims_2 := dk_seg dksX1_aims_1 24 rfl rfl
theorem dksX1_aims_3 : cX1_aims.data.toList.drop 72 = dktX1_aims_3 := dk_seg dksX1_aims_2 24 rfl rfl
theorem dksX1_aims_4 : cX1_aims.data.toList.drop 95 = dktX1_aims_4 := dk_seg dksX1_aims_3 23 rfl rfl
theorem dksX1_aims_5 : cX1_aims.data.toList.drop 119 = dktX1_aims_5 := dk_seg dksX1_aims_4 24 rfl rfl
theorem dX1_aims_0 : decode cX1_aims 0 = .ok (.iload 4, 2) := dk_21 4 (dk_at dksX1_aims_0 0 rfl rfl)
theorem dX1_aims_2 : decode cX1_aims 2 = .ok (.ifCond .eq 20, 3) := dk_153 0 20 (dk_at dksX1_aims_0 2 rfl rfl)
theorem dX1_aims_5 : decode cX1_aims 5 = .ok (.iload 5, 2) := dk_21 5 (dk_at dksX1_aims_0 5 rfl rfl)
theorem dX1_aims_7 : decode cX1_aims 7 = .ok (.bipush (-100), 2) := dk_16 156 (dk_at dksX1_aims_0 7 rfl rfl)
theorem dX1_aims_9 : decode cX1_aims 9 = .ok (.if_icmp .lt 26, 3) := dk_161 0 26 (dk_at dksX1_aims_0 9 rfl rfl)
theorem dX1_aims_12 : decode cX1_aims 12 = .ok (.iload 5, 2) := dk_21 5 (dk_at dksX1_aims_0 12 rfl rfl)
theorem dX1_aims_14 : decode cX1_aims 14 = .ok (.bipush 100, 2) := dk_16 100 (dk_at dksX1_aims_0 14 rfl rfl)
theorem dX1_aims_16 : decode cX1_aims 16 = .ok (.if_icmp .le 27, 3) := dk_164 0 27 (dk_at dksX1_aims_0 16 rfl rfl)
theorem dX1_aims_19 : decode cX1_aims 19 = .ok (.goto 16, 3) := dk_167 0 16 (dk_at dksX1_aims_0 19 rfl rfl)
theorem dX1_aims_22 : decode cX1_aims 22 = .ok (.iload 5, 2) := dk_21 5 (dk_at dksX1_aims_0 22 rfl rfl)
theorem dX1_aims_24 : decode cX1_aims 24 = .ok (.ifCond .lt 11, 3) := dk_155 0 11 (dk_at dksX1_aims_1 0 rfl rfl)
theorem dX1_aims_27 : decode cX1_aims 27 = .ok (.iload 5, 2) := dk_21 5 (dk_at dksX1_aims_1 3 rfl rfl)
theorem dX1_aims_29 : decode cX1_aims 29 = .ok (.sipush 1000, 3) := dk_17 3 232 (dk_at dksX1_aims_1 5 rfl rfl)
theorem dX1_aims_32 : decode cX1_aims 32 = .ok (.if_icmp .le 11, 3) := dk_164 0 11 (dk_at dksX1_aims_1 8 rfl rfl)
theorem dX1_aims_35 : decode cX1_aims 35 = .ok (.aload_n 0, 1) := dk_42 (dk_at dksX1_aims_1 11 rfl rfl)
theorem dX1_aims_36 : decode cX1_aims 36 = .ok (.iconst 2, 1) := dk_5 (dk_at dksX1_aims_1 12 rfl rfl)
theorem dX1_aims_37 : decode cX1_aims 37 = .ok (.putfield 327, 3) := dk_181 1 71 (dk_at dksX1_aims_1 13 rfl rfl)
theorem dX1_aims_40 : decode cX1_aims 40 = .ok (.goto 23, 3) := dk_167 0 23 (dk_at dksX1_aims_1 16 rfl rfl)
theorem dX1_aims_43 : decode cX1_aims 43 = .ok (.iload 5, 2) := dk_21 5 (dk_at dksX1_aims_1 19 rfl rfl)
theorem dX1_aims_45 : decode cX1_aims 45 = .ok (.ifCond .eq 18, 3) := dk_153 0 18 (dk_at dksX1_aims_1 21 rfl rfl)
theorem dX1_aims_48 : decode cX1_aims 48 = .ok (.aload_n 2, 1) := dk_44 (dk_at dksX1_aims_2 0 rfl rfl)
theorem dX1_aims_49 : decode cX1_aims 49 = .ok (.getfield 151, 3) := dk_180 0 151 (dk_at dksX1_aims_2 1 rfl rfl)
theorem dX1_aims_52 : decode cX1_aims 52 = .ok (.sipush 1000, 3) := dk_17 3 232 (dk_at dksX1_aims_2 4 rfl rfl)
theorem dX1_aims_55 : decode cX1_aims 55 = .ok (.if_icmp .le 8, 3) := dk_164 0 8 (dk_at dksX1_aims_2 7 rfl rfl)
theorem dX1_aims_58 : decode cX1_aims 58 = .ok (.aload_n 0, 1) := dk_42 (dk_at dksX1_aims_2 10 rfl rfl)
theorem dX1_aims_59 : decode cX1_aims 59 = .ok (.iconst 5, 1) := dk_8 (dk_at dksX1_aims_2 11 rfl rfl)
theorem dX1_aims_60 : decode cX1_aims 60 = .ok (.putfield 327, 3) := dk_181 1 71 (dk_at dksX1_aims_2 12 rfl rfl)
theorem dX1_aims_63 : decode cX1_aims 63 = .ok (.aload_n 0, 1) := dk_42 (dk_at dksX1_aims_2 15 rfl rfl)
theorem dX1_aims_64 : decode cX1_aims 64 = .ok (.getfield 327, 3) := dk_180 1 71 (dk_at dksX1_aims_2 16 rfl rfl)
theorem dX1_aims_67 : decode cX1_aims 67 = .ok (.ifCond .eq 5, 3) := dk_153 0 5 (dk_at dksX1_aims_2 19 rfl rfl)
theorem dX1_aims_70 : decode cX1_aims 70 = .ok (.iconst 1, 1) := dk_4 (dk_at dksX1_aims_2 22 rfl rfl)
theorem dX1_aims_71 : decode cX1_aims 71 = .ok (.ireturn, 1) := dk_172 (dk_at dksX1_aims_2 23 rfl rfl)
theorem dX1_aims_72 : decode cX1_aims 72 = .ok (.iload 4, 2) := dk_21 4 (dk_at dksX1_aims_3 0 rfl rfl)
theorem dX1_aims_74 : decode cX1_aims 74 = .ok (.ifCond .eq 24, 3) := dk_153 0 24 (dk_at dksX1_aims_3 2 rfl rfl)
theorem dX1_aims_77 : decode cX1_aims 77 = .ok (.aload_n 2, 1) := dk_44 (dk_at dksX1_aims_3 5 rfl rfl)
theorem dX1_aims_78 : decode cX1_aims 78 = .ok (.checkcast 167, 3) := dk_192 0 167 (dk_at dksX1_aims_3 6 rfl rfl)
theorem dX1_aims_81 : decode cX1_aims 81 = .ok (.astore 6, 2) := dk_58 6 (dk_at dksX1_aims_3 9 rfl rfl)
theorem dX1_aims_83 : decode cX1_aims 83 = .ok (.aload 6, 2) := dk_25 6 (dk_at dksX1_aims_3 11 rfl rfl)
theorem dX1_aims_85 : decode cX1_aims 85 = .ok (.invokeinterface 169 1, 5) := by decide +kernel
theorem dX1_aims_90 : decode cX1_aims 90 = .ok (.iload 5, 2) := dk_21 5 (dk_at dksX1_aims_3 18 rfl rfl)
theorem dX1_aims_92 : decode cX1_aims 92 = .ok (.putfield 204, 3) := dk_181 0 204 (dk_at dksX1_aims_3 20 rfl rfl)
theorem dX1_aims_95 : decode cX1_aims 95 = .ok (.goto 21, 3) := dk_167 0 21 (dk_at dksX1_aims_4 0 rfl rfl)
theorem dX1_aims_98 : decode cX1_aims 98 = .ok (.aload_n 2, 1) := dk_44 (dk_at dksX1_aims_4 3 rfl rfl)
theorem dX1_aims_99 : decode cX1_aims 99 = .ok (.checkcast 178, 3) := dk_192 0 178 (dk_at dksX1_aims_4 4 rfl rfl)
theorem dX1_aims_102 : decode cX1_aims 102 = .ok (.astore 6, 2) := dk_58 6 (dk_at dksX1_aims_4 7 rfl rfl)
theorem dX1_aims_104 : decode cX1_aims 104 = .ok (.aload 6, 2) := dk_25 6 (dk_at dksX1_aims_4 9 rfl rfl)
theorem dX1_aims_106 : decode cX1_aims 106 = .ok (.invokeinterface 180 1, 5) := by decide +kernel
theorem dX1_aims_111 : decode cX1_aims 111 = .ok (.iload 5, 2) := dk_21 5 (dk_at dksX1_aims_4 16 rfl rfl)
theorem dX1_aims_113 : decode cX1_aims 113 = .ok (.putfield 207, 3) := dk_181 0 207 (dk_at dksX1_aims_4 18 rfl rfl)
theorem dX1_aims_116 : decode cX1_aims 116 = .ok (.aload_n 0, 1) := dk_42 (dk_at dksX1_aims_4 21 rfl rfl)
theorem dX1_aims_117 : decode cX1_aims 117 = .ok (.iload_n 1, 1) := dk_27 (dk_at dksX1_aims_4 22 rfl rfl)
theorem dX1_aims_118 : decode cX1_aims 118 = .ok (.aload_n 3, 1) := dk_45 (dk_at dksX1_aims_4 23 rfl rfl)
theorem dX1_aims_119 : decode cX1_aims 119 = .ok (.invokevirtual 372, 3) := dk_182 1 116 (dk_at dksX1_aims_5 0 rfl rfl)
theorem dX1_aims_122 : decode cX1_aims 122 = .ok (.ireturn, 1) := dk_172 (dk_at dksX1_aims_5 3 rfl rfl)
def dkwX1_done_0 : List UInt8 := [44, 3, 181, 1, 38, 44, 89, 180, 1, 78, 4, 96, 181, 1, 78, 42, 27, 44, 182, 1, 52, 4, 172]
abbrev dktX1_done_0 : List UInt8 := dkwX1_done_0 ++ []
theorem dksX1_done_0 : cX1_done.data.toList.drop 0 = dktX1_done_0 := by decide +kernel
theorem dX1_done_0 : decode cX1_done 0 = .ok (.aload_n 2, 1) := dk_44 (dk_at dksX1_done_0 0 rfl rfl)
theorem dX1_done_1 : decode cX1_done 1 = .ok (.iconst 0, 1) := dk_3 (dk_at dksX1_done_0 1 rfl rfl)
theorem dX1_done_2 : decode cX1_done 2 = .ok (.putfield 294, 3) := dk_181 1 38 (dk_at dksX1_done_0 2 rfl rfl)
theorem dX1_done_5 : decode cX1_done 5 = .ok (.aload_n 2, 1) := dk_44 (dk_at dksX1_done_0 5 rfl rfl)
theorem dX1_done_6 : decode cX1_done 6 = .ok (.dup, 1) := dk_89 (dk_at dksX1_done_0 6 rfl rfl)
theorem dX1_done_7 : decode cX1_done 7 = .ok (.getfield 334, 3) := dk_180 1 78 (dk_at dksX1_done_0 7 rfl rfl)
theorem dX1_done_10 : decode cX1_done 10 = .ok (.iconst 1, 1) := dk_4 (dk_at dksX1_done_0 10 rfl rfl)
theorem dX1_done_11 : decode cX1_done 11 = .ok (.iadd, 1) := dk_96 (dk_at dksX1_done_0 11 rfl rfl)
theorem dX1_done_12 : decode cX1_done 12 = .ok (.putfield 334, 3) := dk_181 1 78 (dk_at dksX1_done_0 12 rfl rfl)
theorem dX1_done_15 : decode cX1_done 15 = .ok (.aload_n 0, 1) := dk_42 (dk_at dksX1_done_0 15 rfl rfl)
theorem dX1_done_16 : decode cX1_done 16 = .ok (.iload_n 1, 1) := dk_27 (dk_at dksX1_done_0 16 rfl rfl)
theorem dX1_done_17 : decode cX1_done 17 = .ok (.aload_n 2, 1) := dk_44 (dk_at dksX1_done_0 17 rfl rfl)
theorem dX1_done_18 : decode cX1_done 18 = .ok (.invokevirtual 308, 3) := dk_182 1 52 (dk_at dksX1_done_0 18 rfl rfl)
theorem dX1_done_21 : decode cX1_done 21 = .ok (.iconst 1, 1) := dk_4 (dk_at dksX1_done_0 21 rfl rfl)
theorem dX1_done_22 : decode cX1_done 22 = .ok (.ireturn, 1) := dk_172 (dk_at dksX1_done_0 22 rfl rfl)
def dkwX1_shines_3 : List UInt8 := [42, 27, 45, 182, 1, 116, 172]
abbrev dktX1_shines_3 : List UInt8 := dkwX1_shines_3 ++ []
def dkwX1_shines_2 : List UInt8 := [181, 0, 214, 167, 0, 21, 44, 192, 0, 219, 58, 6, 25, 6, 185, 0, 221, 1, 0, 21, 5, 181, 0, 225]
abbrev dktX1_shines_2 : List UInt8 := dkwX1_shines_2 ++ dktX1_shines_3
def dkwX1_shines_1 : List UInt8 := [4, 172, 21, 4, 153, 0, 24, 44, 192, 0, 208, 58, 6, 25, 6, 185, 0, 210, 1, 0, 21, 5]
abbrev dktX1_shines_1 : List UInt8 := dkwX1_shines_1 ++ dktX1_shines_2
def dkwX1_shines_0 : List UInt8 := [21, 5, 155, 0, 10, 21, 5, 16, 100, 164, 0, 8, 42, 5, 181, 1, 71, 42, 180, 1, 71, 153, 0, 5]
abbrev dktX1_shines_0 : List UInt8 := dkwX1_shines_0 ++ dktX1_shines_1
theorem dksX1_shines_0 : cX1_shines.data.toList.drop 0 = dktX1_shines_0 := by decide +kernel
theorem dksX1_shines_1 : cX1_shines.data.toList.drop 24 = dktX1_shines_1 := dk_seg dksX1_shines_0 24 rfl rfl
theorem dksX1_shines_2 : cX1_shines.data.toList.drop 46 = dktX1_shines_2 := dk_seg dksX1_shines_1 22 rfl rfl
theorem dksX1_shines_3 : cX1_shines.data.toList.drop 70 = dktX1_shines_3 := dk_seg dksX1_shines_2 24 rfl rfl
theorem dX1_shines_0 : decode cX1_shines 0 = .ok (.iload 5, 2) := dk_21 5 (dk_at dksX1_shines_0 0 rfl rfl)
theorem dX1_shines_2 : decode cX1_shines 2 = .ok (.ifCond .lt 10, 3) := dk_155 0 10 (dk_at dksX1_shines_0 2 rfl rfl)
theorem dX1_shines_5 : decode cX1_shines 5 = .ok (.iload 5, 2) := dk_21 5 (dk_at dksX1_shines_0 5 rfl rfl)
theorem dX1_shines_7 : decode cX1_shines 7 = .ok (.bipush 100, 2) := dk_16 100 (dk_at dksX1_shines_0 7 rfl rfl)
theorem dX1_shines_9 : decode cX1_shines 9 = .ok (.if_icmp .le 8, 3) := dk_164 0 8 (dk_at dksX1_shines_0 9 rfl rfl)
theorem dX1_shines_12 : decode cX1_shines 12 = .ok (.aload_n 0, 1) := dk_42 (dk_at dksX1_shines_0 12 rfl rfl)
theorem dX1_shines_13 : decode cX1_shines 13 = .ok (.iconst 2, 1) := dk_5 (dk_at dksX1_shines_0 13 rfl rfl)
theorem dX1_shines_14 : decode cX1_shines 14 = .ok (.putfield 327, 3) := dk_181 1 71 (dk_at dksX1_shines_0 14 rfl rfl)
theorem dX1_shines_17 : decode cX1_shines 17 = .ok (.aload_n 0, 1) := dk_42 (dk_at dksX1_shines_0 17 rfl rfl)
theorem dX1_shines_18 : decode cX1_shines 18 = .ok (.getfield 327, 3) := dk_180 1 71 (dk_at dksX1_shines_0 18 rfl rfl)
theorem dX1_shines_21 : decode cX1_shines 21 = .ok (.ifCond .eq 5, 3) := dk_153 0 5 (dk_at dksX1_shines_0 21 rfl rfl)
theorem dX1_shines_24 : decode cX1_shines 24 = .ok (.iconst 1, 1) := dk_4 (dk_at dksX1_shines_1 0 rfl rfl)
theorem dX1_shines_25 : decode cX1_shines 25 = .ok (.ireturn, 1) := dk_172 (dk_at dksX1_shines_1 1 rfl rfl)
theorem dX1_shines_26 : decode cX1_shines 26 = .ok (.iload 4, 2) := dk_21 4 (dk_at dksX1_shines_1 2 rfl rfl)
theorem dX1_shines_28 : decode cX1_shines 28 = .ok (.ifCond .eq 24, 3) := dk_153 0 24 (dk_at dksX1_shines_1 4 rfl rfl)
theorem dX1_shines_31 : decode cX1_shines 31 = .ok (.aload_n 2, 1) := dk_44 (dk_at dksX1_shines_1 7 rfl rfl)
theorem dX1_shines_32 : decode cX1_shines 32 = .ok (.checkcast 208, 3) := dk_192 0 208 (dk_at dksX1_shines_1 8 rfl rfl)
theorem dX1_shines_35 : decode cX1_shines 35 = .ok (.astore 6, 2) := dk_58 6 (dk_at dksX1_shines_1 11 rfl rfl)
theorem dX1_shines_37 : decode cX1_shines 37 = .ok (.aload 6, 2) := dk_25 6 (dk_at dksX1_shines_1 13 rfl rfl)
theorem dX1_shines_39 : decode cX1_shines 39 = .ok (.invokeinterface 210 1, 5) := by decide +kernel
theorem dX1_shines_44 : decode cX1_shines 44 = .ok (.iload 5, 2) := dk_21 5 (dk_at dksX1_shines_1 20 rfl rfl)
theorem dX1_shines_46 : decode cX1_shines 46 = .ok (.putfield 214, 3) := dk_181 0 214 (dk_at dksX1_shines_2 0 rfl rfl)
theorem dX1_shines_49 : decode cX1_shines 49 = .ok (.goto 21, 3) := dk_167 0 21 (dk_at dksX1_shines_2 3 rfl rfl)
theorem dX1_shines_52 : decode cX1_shines 52 = .ok (.aload_n 2, 1) := dk_44 (dk_at dksX1_shines_2 6 rfl rfl)
theorem dX1_shines_53 : decode cX1_shines 53 = .ok (.checkcast 219, 3) := dk_192 0 219 (dk_at dksX1_shines_2 7 rfl rfl)
theorem dX1_shines_56 : decode cX1_shines 56 = .ok (.astore 6, 2) := dk_58 6 (dk_at dksX1_shines_2 10 rfl rfl)
theorem dX1_shines_58 : decode cX1_shines 58 = .ok (.aload 6, 2) := dk_25 6 (dk_at dksX1_shines_2 12 rfl rfl)
theorem dX1_shines_60 : decode cX1_shines 60 = .ok (.invokeinterface 221 1, 5) := by decide +kernel
theorem dX1_shines_65 : decode cX1_shines 65 = .ok (.iload 5, 2) := dk_21 5 (dk_at dksX1_shines_2 19 rfl rfl)
theorem dX1_shines_67 : decode cX1_shines 67 = .ok (.putfield 225, 3) := dk_181 0 225 (dk_at dksX1_shines_2 21 rfl rfl)
theorem dX1_shines_70 : decode cX1_shines 70 = .ok (.aload_n 0, 1) := dk_42 (dk_at dksX1_shines_3 0 rfl rfl)
theorem dX1_shines_71 : decode cX1_shines 71 = .ok (.iload_n 1, 1) := dk_27 (dk_at dksX1_shines_3 1 rfl rfl)
theorem dX1_shines_72 : decode cX1_shines 72 = .ok (.aload_n 3, 1) := dk_45 (dk_at dksX1_shines_3 2 rfl rfl)
theorem dX1_shines_73 : decode cX1_shines 73 = .ok (.invokevirtual 372, 3) := dk_182 1 116 (dk_at dksX1_shines_3 3 rfl rfl)
theorem dX1_shines_76 : decode cX1_shines 76 = .ok (.ireturn, 1) := dk_172 (dk_at dksX1_shines_3 6 rfl rfl)
def dkwX1_lasts_5 : List UInt8 := [180, 1, 153, 4, 100, 181, 1, 153, 45, 180, 1, 153, 154, 0, 10, 42, 27, 45, 182, 1, 116, 87, 3, 172]
abbrev dktX1_lasts_5 : List UInt8 := dkwX1_lasts_5 ++ []
def dkwX1_lasts_4 : List UInt8 := [160, 0, 21, 44, 192, 0, 195, 58, 7, 25, 7, 42, 180, 0, 133, 185, 1, 159, 2, 0, 87, 45, 89]
abbrev dktX1_lasts_4 : List UInt8 := dkwX1_lasts_4 ++ dktX1_lasts_5
def dkwX1_lasts_3 : List UInt8 := [160, 0, 21, 44, 3, 44, 180, 0, 151, 16, 50, 100, 184, 1, 156, 181, 0, 151, 167, 0, 27, 21, 4, 7]
abbrev dktX1_lasts_3 : List UInt8 := dkwX1_lasts_3 ++ dktX1_lasts_4
def dkwX1_lasts_2 : List UInt8 := [45, 180, 1, 38, 154, 0, 14, 45, 4, 181, 1, 38, 45, 21, 5, 181, 1, 153, 21, 4, 16, 6]
abbrev dktX1_lasts_2 : List UInt8 := dkwX1_lasts_2 ++ dktX1_lasts_3
def dkwX1_lasts_1 : List UInt8 := [21, 4, 16, 7, 159, 0, 20, 25, 6, 185, 1, 150, 1, 0, 154, 0, 10, 42, 4, 181, 1, 71, 4, 172]
abbrev dktX1_lasts_1 : List UInt8 := dkwX1_lasts_1 ++ dktX1_lasts_2
def dkwX1_lasts_0 : List UInt8 := [45, 180, 1, 38, 154, 0, 16, 21, 5, 4, 162, 0, 10, 42, 27, 45, 182, 1, 116, 172, 44, 58, 6]
abbrev dktX1_lasts_0 : List UInt8 := dkwX1_lasts_0 ++ dktX1_lasts_1
theorem dksX1_lasts_0 : cX1_lasts.data.toList.drop 0 = dktX1_lasts_0 := by decide +kernel
theorem dksX1_lasts_1 : cX1_lasts.data.toList.drop 23 = dktX1_lasts_1 := dk_seg dksX1_lasts_0 23 rfl rfl
theorem dksX1_lasts_2 : cX1_lasts.data.toList.drop 47 = dktX1_lasts_2 := dk_seg dksX1_lasts_1 24 rfl rfl
theorem dksX1_lasts_3 : cX1_lasts.data.toList.drop 69 = dktX1_lasts_3 := dk_seg dksX1_lasts_2 22 rfl rfl
theorem dksX1_lasts_4 : cX1_lasts.data.toList.drop 93 = dktX1_lasts_4 := dk_seg dksX1_lasts_3 24 rfl rfl
theorem dksX1_lasts_5 : cX1_lasts.data.toList.drop 116 = dktX1_lasts_5 := dk_seg dksX1_lasts_4 23 rfl rfl
theorem dX1_lasts_0 : decode cX1_lasts 0 = .ok (.aload_n 3, 1) := dk_45 (dk_at dksX1_lasts_0 0 rfl rfl)
theorem dX1_lasts_1 : decode cX1_lasts 1 = .ok (.getfield 294, 3) := dk_180 1 38 (dk_at dksX1_lasts_0 1 rfl rfl)
theorem dX1_lasts_4 : decode cX1_lasts 4 = .ok (.ifCond .ne 16, 3) := dk_154 0 16 (dk_at dksX1_lasts_0 4 rfl rfl)
theorem dX1_lasts_7 : decode cX1_lasts 7 = .ok (.iload 5, 2) := dk_21 5 (dk_at dksX1_lasts_0 7 rfl rfl)
theorem dX1_lasts_9 : decode cX1_lasts 9 = .ok (.iconst 1, 1) := dk_4 (dk_at dksX1_lasts_0 9 rfl rfl)
theorem dX1_lasts_10 : decode cX1_lasts 10 = .ok (.if_icmp .ge 10, 3) := dk_162 0 10 (dk_at dksX1_lasts_0 10 rfl rfl)
theorem dX1_lasts_13 : decode cX1_lasts 13 = .ok (.aload_n 0, 1) := dk_42 (dk_at dksX1_lasts_0 13 rfl rfl)
theorem dX1_lasts_14 : decode cX1_lasts 14 = .ok (.iload_n 1, 1) := dk_27 (dk_at dksX1_lasts_0 14 rfl rfl)
theorem dX1_lasts_15 : decode cX1_lasts 15 = .ok (.aload_n 3, 1) := dk_45 (dk_at dksX1_lasts_0 15 rfl rfl)
theorem dX1_lasts_16 : decode cX1_lasts 16 = .ok (.invokevirtual 372, 3) := dk_182 1 116 (dk_at dksX1_lasts_0 16 rfl rfl)
theorem dX1_lasts_19 : decode cX1_lasts 19 = .ok (.ireturn, 1) := dk_172 (dk_at dksX1_lasts_0 19 rfl rfl)
theorem dX1_lasts_20 : decode cX1_lasts 20 = .ok (.aload_n 2, 1) := dk_44 (dk_at dksX1_lasts_0 20 rfl rfl)
theorem dX1_lasts_21 : decode cX1_lasts 21 = .ok (.astore 6, 2) := dk_58 6 (dk_at dksX1_lasts_0 21 rfl rfl)
theorem dX1_lasts_23 : decode cX1_lasts 23 = .ok (.iload 4, 2) := dk_21 4 (dk_at dksX1_lasts_1 0 rfl rfl)
theorem dX1_lasts_25 : decode cX1_lasts 25 = .ok (.bipush 7, 2) := dk_16 7 (dk_at dksX1_lasts_1 2 rfl rfl)
theorem dX1_lasts_27 : decode cX1_lasts 27 = .ok (.if_icmp .eq 20, 3) := dk_159 0 20 (dk_at dksX1_lasts_1 4 rfl rfl)
theorem dX1_lasts_30 : decode cX1_lasts 30 = .ok (.aload 6, 2) := dk_25 6 (dk_at dksX1_lasts_1 7 rfl rfl)
theorem dX1_lasts_32 : decode cX1_lasts 32 = .ok (.invokeinterface 406 1, 5) := by decide +kernel
theorem dX1_lasts_37 : decode cX1_lasts 37 = .ok (.ifCond .ne 10, 3) := dk_154 0 10 (dk_at dksX1_lasts_1 14 rfl rfl)
theorem dX1_lasts_40 : decode cX1_lasts 40 = .ok (.aload_n 0, 1) := dk_42 (dk_at dksX1_lasts_1 17 rfl rfl)
theorem dX1_lasts_41 : decode cX1_lasts 41 = .ok (.iconst 1, 1) := dk_4 (dk_at dksX1_lasts_1 18 rfl rfl)
theorem dX1_lasts_42 : decode cX1_lasts 42 = .ok (.putfield 327, 3) := dk_181 1 71 (dk_at dksX1_lasts_1 19 rfl rfl)
theorem dX1_lasts_45 : decode cX1_lasts 45 = .ok (.iconst 1, 1) := dk_4 (dk_at dksX1_lasts_1 22 rfl rfl)
theorem dX1_lasts_46 : decode cX1_lasts 46 = .ok (.ireturn, 1) := dk_172 (dk_at dksX1_lasts_1 23 rfl rfl)
theorem dX1_lasts_47 : decode cX1_lasts 47 = .ok (.aload_n 3, 1) := dk_45 (dk_at dksX1_lasts_2 0 rfl rfl)
theorem dX1_lasts_48 : decode cX1_lasts 48 = .ok (.getfield 294, 3) := dk_180 1 38 (dk_at dksX1_lasts_2 1 rfl rfl)
theorem dX1_lasts_51 : decode cX1_lasts 51 = .ok (.ifCond .ne 14, 3) := dk_154 0 14 (dk_at dksX1_lasts_2 4 rfl rfl)
theorem dX1_lasts_54 : decode cX1_lasts 54 = .ok (.aload_n 3, 1) := dk_45 (dk_at dksX1_lasts_2 7 rfl rfl)
theorem dX1_lasts_55 : decode cX1_lasts 55 = .ok (.iconst 1, 1) := dk_4 (dk_at dksX1_lasts_2 8 rfl rfl)
theorem dX1_lasts_56 : decode cX1_lasts 56 = .ok (.putfield 294, 3) := dk_181 1 38 (dk_at dksX1_lasts_2 9 rfl rfl)
theorem dX1_lasts_59 : decode cX1_lasts 59 = .ok (.aload_n 3, 1) := dk_45 (dk_at dksX1_lasts_2 12 rfl rfl)
theorem dX1_lasts_60 : decode cX1_lasts 60 = .ok (.iload 5, 2) := dk_21 5 (dk_at dksX1_lasts_2 13 rfl rfl)
theorem dX1_lasts_62 : decode cX1_lasts 62 = .ok (.putfield 409, 3) := dk_181 1 153 (dk_at dksX1_lasts_2 15 rfl rfl)
theorem dX1_lasts_65 : decode cX1_lasts 65 = .ok (.iload 4, 2) := dk_21 4 (dk_at dksX1_lasts_2 18 rfl rfl)
theorem dX1_lasts_67 : decode cX1_lasts 67 = .ok (.bipush 6, 2) := dk_16 6 (dk_at dksX1_lasts_2 20 rfl rfl)
theorem dX1_lasts_69 : decode cX1_lasts 69 = .ok (.if_icmp .ne 21, 3) := dk_160 0 21 (dk_at dksX1_lasts_3 0 rfl rfl)
theorem dX1_lasts_72 : decode cX1_lasts 72 = .ok (.aload_n 2, 1) := dk_44 (dk_at dksX1_lasts_3 3 rfl rfl)
theorem dX1_lasts_73 : decode cX1_lasts 73 = .ok (.iconst 0, 1) := dk_3 (dk_at dksX1_lasts_3 4 rfl rfl)
theorem dX1_lasts_74 : decode cX1_lasts 74 = .ok (.aload_n 2, 1) := dk_44 (dk_at dksX1_lasts_3 5 rfl rfl)
theorem dX1_lasts_75 : decode cX1_lasts 75 = .ok (.getfield 151, 3) := dk_180 0 151 (dk_at dksX1_lasts_3 6 rfl rfl)
theorem dX1_lasts_78 : decode cX1_lasts 78 = .ok (.bipush 50, 2) := dk_16 50 (dk_at dksX1_lasts_3 9 rfl rfl)
theorem dX1_lasts_80 : decode cX1_lasts 80 = .ok (.isub, 1) := dk_100 (dk_at dksX1_lasts_3 11 rfl rfl)
theorem dX1_lasts_81 : decode cX1_lasts 81 = .ok (.invokestatic 412, 3) := dk_184 1 156 (dk_at dksX1_lasts_3 12 rfl rfl)
theorem dX1_lasts_84 : decode cX1_lasts 84 = .ok (.putfield 151, 3) := dk_181 0 151 (dk_at dksX1_lasts_3 15 rfl rfl)
theorem dX1_lasts_87 : decode cX1_lasts 87 = .ok (.goto 27, 3) := dk_167 0 27 (dk_at dksX1_lasts_3 18 rfl rfl)
theorem dX1_lasts_90 : decode cX1_lasts 90 = .ok (.iload 4, 2) := dk_21 4 (dk_at dksX1_lasts_3 21 rfl rfl)
theorem dX1_lasts_92 : decode cX1_lasts 92 = .ok (.iconst 4, 1) := dk_7 (dk_at dksX1_lasts_3 23 rfl rfl)
theorem dX1_lasts_93 : decode cX1_lasts 93 = .ok (.if_icmp .ne 21, 3) := dk_160 0 21 (dk_at dksX1_lasts_4 0 rfl rfl)
theorem dX1_lasts_96 : decode cX1_lasts 96 = .ok (.aload_n 2, 1) := dk_44 (dk_at dksX1_lasts_4 3 rfl rfl)
theorem dX1_lasts_97 : decode cX1_lasts 97 = .ok (.checkcast 195, 3) := dk_192 0 195 (dk_at dksX1_lasts_4 4 rfl rfl)
theorem dX1_lasts_100 : decode cX1_lasts 100 = .ok (.astore 7, 2) := dk_58 7 (dk_at dksX1_lasts_4 7 rfl rfl)
theorem dX1_lasts_102 : decode cX1_lasts 102 = .ok (.aload 7, 2) := dk_25 7 (dk_at dksX1_lasts_4 9 rfl rfl)
theorem dX1_lasts_104 : decode cX1_lasts 104 = .ok (.aload_n 0, 1) := dk_42 (dk_at dksX1_lasts_4 11 rfl rfl)
theorem dX1_lasts_105 : decode cX1_lasts 105 = .ok (.getfield 133, 3) := dk_180 0 133 (dk_at dksX1_lasts_4 12 rfl rfl)
theorem dX1_lasts_108 : decode cX1_lasts 108 = .ok (.invokeinterface 415 2, 5) := by decide +kernel
theorem dX1_lasts_113 : decode cX1_lasts 113 = .ok (.pop, 1) := dk_87 (dk_at dksX1_lasts_4 20 rfl rfl)
theorem dX1_lasts_114 : decode cX1_lasts 114 = .ok (.aload_n 3, 1) := dk_45 (dk_at dksX1_lasts_4 21 rfl rfl)
theorem dX1_lasts_115 : decode cX1_lasts 115 = .ok (.dup, 1) := dk_89 (dk_at dksX1_lasts_4 22 rfl rfl)
theorem dX1_lasts_116 : decode cX1_lasts 116 = .ok (.getfield 409, 3) := dk_180 1 153 (dk_at dksX1_lasts_5 0 rfl rfl)
theorem dX1_lasts_119 : decode cX1_lasts 119 = .ok (.iconst 1, 1) := dk_4 (dk_at dksX1_lasts_5 3 rfl rfl)
theorem dX1_lasts_120 : decode cX1_lasts 120 = .ok (.isub, 1) := dk_100 (dk_at dksX1_lasts_5 4 rfl rfl)
theorem dX1_lasts_121 : decode cX1_lasts 121 = .ok (.putfield 409, 3) := dk_181 1 153 (dk_at dksX1_lasts_5 5 rfl rfl)
theorem dX1_lasts_124 : decode cX1_lasts 124 = .ok (.aload_n 3, 1) := dk_45 (dk_at dksX1_lasts_5 8 rfl rfl)
theorem dX1_lasts_125 : decode cX1_lasts 125 = .ok (.getfield 409, 3) := dk_180 1 153 (dk_at dksX1_lasts_5 9 rfl rfl)
theorem dX1_lasts_128 : decode cX1_lasts 128 = .ok (.ifCond .ne 10, 3) := dk_154 0 10 (dk_at dksX1_lasts_5 12 rfl rfl)
theorem dX1_lasts_131 : decode cX1_lasts 131 = .ok (.aload_n 0, 1) := dk_42 (dk_at dksX1_lasts_5 15 rfl rfl)
theorem dX1_lasts_132 : decode cX1_lasts 132 = .ok (.iload_n 1, 1) := dk_27 (dk_at dksX1_lasts_5 16 rfl rfl)
theorem dX1_lasts_133 : decode cX1_lasts 133 = .ok (.aload_n 3, 1) := dk_45 (dk_at dksX1_lasts_5 17 rfl rfl)
theorem dX1_lasts_134 : decode cX1_lasts 134 = .ok (.invokevirtual 372, 3) := dk_182 1 116 (dk_at dksX1_lasts_5 18 rfl rfl)
theorem dX1_lasts_137 : decode cX1_lasts 137 = .ok (.pop, 1) := dk_87 (dk_at dksX1_lasts_5 21 rfl rfl)
theorem dX1_lasts_138 : decode cX1_lasts 138 = .ok (.iconst 0, 1) := dk_3 (dk_at dksX1_lasts_5 22 rfl rfl)
theorem dX1_lasts_139 : decode cX1_lasts 139 = .ok (.ireturn, 1) := dk_172 (dk_at dksX1_lasts_5 23 rfl rfl)
def dkwX1_unloads_3 : List UInt8 := [182, 0, 249, 42, 27, 45, 182, 1, 116, 172]
abbrev dktX1_unloads_3 : List UInt8 := dkwX1_unloads_3 ++ []
def dkwX1_unloads_2 : List UInt8 := [181, 0, 230, 42, 89, 180, 0, 139, 21, 6, 96, 181, 0, 139, 21, 6, 158, 0, 11, 42, 8, 27, 21, 6]
abbrev dktX1_unloads_2 : List UInt8 := dkwX1_unloads_2 ++ dktX1_unloads_3
def dkwX1_unloads_1 : List UInt8 := [58, 5, 25, 5, 185, 0, 197, 1, 0, 180, 0, 230, 54, 6, 25, 5, 185, 0, 197, 1, 0, 3]
abbrev dktX1_unloads_1 : List UInt8 := dkwX1_unloads_1 ++ dktX1_unloads_2
def dkwX1_unloads_0 : List UInt8 := [44, 58, 4, 25, 4, 185, 1, 150, 1, 0, 154, 0, 10, 42, 4, 181, 1, 71, 4, 172, 44, 192, 0, 195]
abbrev dktX1_unloads_0 : List UInt8 := dkwX1_unloads_0 ++ dktX1_unloads_1
theorem dksX1_unloads_0 : cX1_unloads.data.toList.drop 0 = dktX1_unloads_0 := by decide +kernel
theorem dksX1_unloads_1 : cX1_unloads.data.toList.drop 24 = dktX1_unloads_1 := dk_seg dksX1_unloads_0 24 rfl rfl
theorem dksX1_unloads_2 : cX1_unloads.data.toList.drop 46 = dktX1_unloads_2 := dk_seg dksX1_unloads_1 22 rfl rfl
theorem dksX1_unloads_3 : cX1_unloads.data.toList.drop 70 = dktX1_unloads_3 := dk_seg dksX1_unloads_2 24 rfl rfl
theorem dX1_unloads_0 : decode cX1_unloads 0 = .ok (.aload_n 2, 1) := dk_44 (dk_at dksX1_unloads_0 0 rfl rfl)
theorem dX1_unloads_1 : decode cX1_unloads 1 = .ok (.astore 4, 2) := dk_58 4 (dk_at dksX1_unloads_0 1 rfl rfl)
theorem dX1_unloads_3 : decode cX1_unloads 3 = .ok (.aload 4, 2) := dk_25 4 (dk_at dksX1_unloads_0 3 rfl rfl)
theorem dX1_unloads_5 : decode cX1_unloads 5 = .ok (.invokeinterface 406 1, 5) := by decide +kernel
theorem dX1_unloads_10 : decode cX1_unloads 10 = .ok (.ifCond .ne 10, 3) := dk_154 0 10 (dk_at dksX1_unloads_0 10 rfl rfl)
theorem dX1_unloads_13 : decode cX1_unloads 13 = .ok (.aload_n 0, 1) := dk_42 (dk_at dksX1_unloads_0 13 rfl rfl)
theorem dX1_unloads_14 : decode cX1_unloads 14 = .ok (.iconst 1, 1) := dk_4 (dk_at dksX1_unloads_0 14 rfl rfl)
theorem dX1_unloads_15 : decode cX1_unloads 15 = .ok (.putfield 327, 3) := dk_181 1 71 (dk_at dksX1_unloads_0 15 rfl rfl)
theorem dX1_unloads_18 : decode cX1_unloads 18 = .ok (.iconst 1, 1) := dk_4 (dk_at dksX1_unloads_0 18 rfl rfl)
theorem dX1_unloads_19 : decode cX1_unloads 19 = .ok (.ireturn, 1) := dk_172 (dk_at dksX1_unloads_0 19 rfl rfl)
theorem dX1_unloads_20 : decode cX1_unloads 20 = .ok (.aload_n 2, 1) := dk_44 (dk_at dksX1_unloads_0 20 rfl rfl)
theorem dX1_unloads_21 : decode cX1_unloads 21 = .ok (.checkcast 195, 3) := dk_192 0 195 (dk_at dksX1_unloads_0 21 rfl rfl)
theorem dX1_unloads_24 : decode cX1_unloads 24 = .ok (.astore 5, 2) := dk_58 5 (dk_at dksX1_unloads_1 0 rfl rfl)
theorem dX1_unloads_26 : decode cX1_unloads 26 = .ok (.aload 5, 2) := dk_25 5 (dk_at dksX1_unloads_1 2 rfl rfl)
theorem dX1_unloads_28 : decode cX1_unloads 28 = .ok (.invokeinterface 197 1, 5) := by decide +kernel
theorem dX1_unloads_33 : decode cX1_unloads 33 = .ok (.getfield 230, 3) := dk_180 0 230 (dk_at dksX1_unloads_1 9 rfl rfl)
theorem dX1_unloads_36 : decode cX1_unloads 36 = .ok (.istore 6, 2) := dk_54 6 (dk_at dksX1_unloads_1 12 rfl rfl)
theorem dX1_unloads_38 : decode cX1_unloads 38 = .ok (.aload 5, 2) := dk_25 5 (dk_at dksX1_unloads_1 14 rfl rfl)
theorem dX1_unloads_40 : decode cX1_unloads 40 = .ok (.invokeinterface 197 1, 5) := by decide +kernel
theorem dX1_unloads_45 : decode cX1_unloads 45 = .ok (.iconst 0, 1) := dk_3 (dk_at dksX1_unloads_1 21 rfl rfl)
theorem dX1_unloads_46 : decode cX1_unloads 46 = .ok (.putfield 230, 3) := dk_181 0 230 (dk_at dksX1_unloads_2 0 rfl rfl)
theorem dX1_unloads_49 : decode cX1_unloads 49 = .ok (.aload_n 0, 1) := dk_42 (dk_at dksX1_unloads_2 3 rfl rfl)
theorem dX1_unloads_50 : decode cX1_unloads 50 = .ok (.dup, 1) := dk_89 (dk_at dksX1_unloads_2 4 rfl rfl)
theorem dX1_unloads_51 : decode cX1_unloads 51 = .ok (.getfield 139, 3) := dk_180 0 139 (dk_at dksX1_unloads_2 5 rfl rfl)
theorem dX1_unloads_54 : decode cX1_unloads 54 = .ok (.iload 6, 2) := dk_21 6 (dk_at dksX1_unloads_2 8 rfl rfl)
theorem dX1_unloads_56 : decode cX1_unloads 56 = .ok (.iadd, 1) := dk_96 (dk_at dksX1_unloads_2 10 rfl rfl)
theorem dX1_unloads_57 : decode cX1_unloads 57 = .ok (.putfield 139, 3) := dk_181 0 139 (dk_at dksX1_unloads_2 11 rfl rfl)
theorem dX1_unloads_60 : decode cX1_unloads 60 = .ok (.iload 6, 2) := dk_21 6 (dk_at dksX1_unloads_2 14 rfl rfl)
theorem dX1_unloads_62 : decode cX1_unloads 62 = .ok (.ifCond .le 11, 3) := dk_158 0 11 (dk_at dksX1_unloads_2 16 rfl rfl)
theorem dX1_unloads_65 : decode cX1_unloads 65 = .ok (.aload_n 0, 1) := dk_42 (dk_at dksX1_unloads_2 19 rfl rfl)
theorem dX1_unloads_66 : decode cX1_unloads 66 = .ok (.iconst 5, 1) := dk_8 (dk_at dksX1_unloads_2 20 rfl rfl)
theorem dX1_unloads_67 : decode cX1_unloads 67 = .ok (.iload_n 1, 1) := dk_27 (dk_at dksX1_unloads_2 21 rfl rfl)
theorem dX1_unloads_68 : decode cX1_unloads 68 = .ok (.iload 6, 2) := dk_21 6 (dk_at dksX1_unloads_2 22 rfl rfl)
theorem dX1_unloads_70 : decode cX1_unloads 70 = .ok (.invokevirtual 249, 3) := dk_182 0 249 (dk_at dksX1_unloads_3 0 rfl rfl)
theorem dX1_unloads_73 : decode cX1_unloads 73 = .ok (.aload_n 0, 1) := dk_42 (dk_at dksX1_unloads_3 3 rfl rfl)
theorem dX1_unloads_74 : decode cX1_unloads 74 = .ok (.iload_n 1, 1) := dk_27 (dk_at dksX1_unloads_3 4 rfl rfl)
theorem dX1_unloads_75 : decode cX1_unloads 75 = .ok (.aload_n 3, 1) := dk_45 (dk_at dksX1_unloads_3 5 rfl rfl)
theorem dX1_unloads_76 : decode cX1_unloads 76 = .ok (.invokevirtual 372, 3) := dk_182 1 116 (dk_at dksX1_unloads_3 6 rfl rfl)
theorem dX1_unloads_79 : decode cX1_unloads 79 = .ok (.ireturn, 1) := dk_172 (dk_at dksX1_unloads_3 9 rfl rfl)
def dkwX1_claims_2 : List UInt8 := [79, 42, 27, 44, 182, 1, 116, 172]
abbrev dktX1_claims_2 : List UInt8 := dkwX1_claims_2 ++ []
def dkwX1_claims_1 : List UInt8 := [154, 0, 5, 3, 172, 42, 180, 0, 45, 29, 92, 46, 4, 100, 79, 44, 180, 1, 46, 29, 92, 46, 4, 96]
abbrev dktX1_claims_1 : List UInt8 := dkwX1_claims_1 ++ dktX1_claims_2
def dkwX1_claims_0 : List UInt8 := [44, 180, 1, 46, 29, 46, 5, 160, 0, 10, 42, 6, 181, 1, 71, 4, 172, 42, 180, 0, 45, 29, 46]
abbrev dktX1_claims_0 : List UInt8 := dkwX1_claims_0 ++ dktX1_claims_1
theorem dksX1_claims_0 : cX1_claims.data.toList.drop 0 = dktX1_claims_0 := by decide +kernel
theorem dksX1_claims_1 : cX1_claims.data.toList.drop 23 = dktX1_claims_1 := dk_seg dksX1_claims_0 23 rfl rfl
theorem dksX1_claims_2 : cX1_claims.data.toList.drop 47 = dktX1_claims_2 := dk_seg dksX1_claims_1 24 rfl rfl
theorem dX1_claims_0 : decode cX1_claims 0 = .ok (.aload_n 2, 1) := dk_44 (dk_at dksX1_claims_0 0 rfl rfl)
theorem dX1_claims_1 : decode cX1_claims 1 = .ok (.getfield 302, 3) := dk_180 1 46 (dk_at dksX1_claims_0 1 rfl rfl)
theorem dX1_claims_4 : decode cX1_claims 4 = .ok (.iload_n 3, 1) := dk_29 (dk_at dksX1_claims_0 4 rfl rfl)
theorem dX1_claims_5 : decode cX1_claims 5 = .ok (.iaload, 1) := dk_46 (dk_at dksX1_claims_0 5 rfl rfl)
theorem dX1_claims_6 : decode cX1_claims 6 = .ok (.iconst 2, 1) := dk_5 (dk_at dksX1_claims_0 6 rfl rfl)
theorem dX1_claims_7 : decode cX1_claims 7 = .ok (.if_icmp .ne 10, 3) := dk_160 0 10 (dk_at dksX1_claims_0 7 rfl rfl)
theorem dX1_claims_10 : decode cX1_claims 10 = .ok (.aload_n 0, 1) := dk_42 (dk_at dksX1_claims_0 10 rfl rfl)
theorem dX1_claims_11 : decode cX1_claims 11 = .ok (.iconst 3, 1) := dk_6 (dk_at dksX1_claims_0 11 rfl rfl)
theorem dX1_claims_12 : decode cX1_claims 12 = .ok (.putfield 327, 3) := dk_181 1 71 (dk_at dksX1_claims_0 12 rfl rfl)
theorem dX1_claims_15 : decode cX1_claims 15 = .ok (.iconst 1, 1) := dk_4 (dk_at dksX1_claims_0 15 rfl rfl)
theorem dX1_claims_16 : decode cX1_claims 16 = .ok (.ireturn, 1) := dk_172 (dk_at dksX1_claims_0 16 rfl rfl)
theorem dX1_claims_17 : decode cX1_claims 17 = .ok (.aload_n 0, 1) := dk_42 (dk_at dksX1_claims_0 17 rfl rfl)
theorem dX1_claims_18 : decode cX1_claims 18 = .ok (.getfield 45, 3) := dk_180 0 45 (dk_at dksX1_claims_0 18 rfl rfl)
theorem dX1_claims_21 : decode cX1_claims 21 = .ok (.iload_n 3, 1) := dk_29 (dk_at dksX1_claims_0 21 rfl rfl)
theorem dX1_claims_22 : decode cX1_claims 22 = .ok (.iaload, 1) := dk_46 (dk_at dksX1_claims_0 22 rfl rfl)
theorem dX1_claims_23 : decode cX1_claims 23 = .ok (.ifCond .ne 5, 3) := dk_154 0 5 (dk_at dksX1_claims_1 0 rfl rfl)
theorem dX1_claims_26 : decode cX1_claims 26 = .ok (.iconst 0, 1) := dk_3 (dk_at dksX1_claims_1 3 rfl rfl)
theorem dX1_claims_27 : decode cX1_claims 27 = .ok (.ireturn, 1) := dk_172 (dk_at dksX1_claims_1 4 rfl rfl)
theorem dX1_claims_28 : decode cX1_claims 28 = .ok (.aload_n 0, 1) := dk_42 (dk_at dksX1_claims_1 5 rfl rfl)
theorem dX1_claims_29 : decode cX1_claims 29 = .ok (.getfield 45, 3) := dk_180 0 45 (dk_at dksX1_claims_1 6 rfl rfl)
theorem dX1_claims_32 : decode cX1_claims 32 = .ok (.iload_n 3, 1) := dk_29 (dk_at dksX1_claims_1 9 rfl rfl)
theorem dX1_claims_33 : decode cX1_claims 33 = .ok (.dup2, 1) := dk_92 (dk_at dksX1_claims_1 10 rfl rfl)
theorem dX1_claims_34 : decode cX1_claims 34 = .ok (.iaload, 1) := dk_46 (dk_at dksX1_claims_1 11 rfl rfl)
theorem dX1_claims_35 : decode cX1_claims 35 = .ok (.iconst 1, 1) := dk_4 (dk_at dksX1_claims_1 12 rfl rfl)
theorem dX1_claims_36 : decode cX1_claims 36 = .ok (.isub, 1) := dk_100 (dk_at dksX1_claims_1 13 rfl rfl)
theorem dX1_claims_37 : decode cX1_claims 37 = .ok (.iastore, 1) := dk_79 (dk_at dksX1_claims_1 14 rfl rfl)
theorem dX1_claims_38 : decode cX1_claims 38 = .ok (.aload_n 2, 1) := dk_44 (dk_at dksX1_claims_1 15 rfl rfl)
theorem dX1_claims_39 : decode cX1_claims 39 = .ok (.getfield 302, 3) := dk_180 1 46 (dk_at dksX1_claims_1 16 rfl rfl)
theorem dX1_claims_42 : decode cX1_claims 42 = .ok (.iload_n 3, 1) := dk_29 (dk_at dksX1_claims_1 19 rfl rfl)
theorem dX1_claims_43 : decode cX1_claims 43 = .ok (.dup2, 1) := dk_92 (dk_at dksX1_claims_1 20 rfl rfl)
theorem dX1_claims_44 : decode cX1_claims 44 = .ok (.iaload, 1) := dk_46 (dk_at dksX1_claims_1 21 rfl rfl)
theorem dX1_claims_45 : decode cX1_claims 45 = .ok (.iconst 1, 1) := dk_4 (dk_at dksX1_claims_1 22 rfl rfl)
theorem dX1_claims_46 : decode cX1_claims 46 = .ok (.iadd, 1) := dk_96 (dk_at dksX1_claims_1 23 rfl rfl)
theorem dX1_claims_47 : decode cX1_claims 47 = .ok (.iastore, 1) := dk_79 (dk_at dksX1_claims_2 0 rfl rfl)
theorem dX1_claims_48 : decode cX1_claims 48 = .ok (.aload_n 0, 1) := dk_42 (dk_at dksX1_claims_2 1 rfl rfl)
theorem dX1_claims_49 : decode cX1_claims 49 = .ok (.iload_n 1, 1) := dk_27 (dk_at dksX1_claims_2 2 rfl rfl)
theorem dX1_claims_50 : decode cX1_claims 50 = .ok (.aload_n 2, 1) := dk_44 (dk_at dksX1_claims_2 3 rfl rfl)
theorem dX1_claims_51 : decode cX1_claims 51 = .ok (.invokevirtual 372, 3) := dk_182 1 116 (dk_at dksX1_claims_2 4 rfl rfl)
theorem dX1_claims_54 : decode cX1_claims 54 = .ok (.ireturn, 1) := dk_172 (dk_at dksX1_claims_2 7 rfl rfl)
def dkwX1_turns_8 : List UInt8 := [16, 6, 27, 42, 180, 0, 133, 182, 0, 249, 4, 172, 42, 27, 45, 182, 1, 52, 4, 172]
abbrev dktX1_turns_8 : List UInt8 := dkwX1_turns_8 ++ []
def dkwX1_turns_7 : List UInt8 := [167, 0, 35, 45, 182, 1, 141, 167, 0, 28, 45, 182, 1, 144, 167, 0, 21, 45, 4, 181, 1, 16, 42]
abbrev dktX1_turns_7 : List UInt8 := dkwX1_turns_7 ++ dktX1_turns_8
def dkwX1_turns_6 : List UInt8 := [25, 4, 180, 1, 134, 181, 1, 78, 167, 0, 49, 45, 4, 3, 25, 4, 180, 1, 134, 184, 1, 137]
abbrev dktX1_turns_6 : List UInt8 := dkwX1_turns_6 ++ dktX1_turns_7
def dkwX1_turns_5 : List UInt8 := [180, 1, 71, 153, 0, 5, 4, 172, 45, 21, 6, 153, 0, 12, 45, 180, 1, 78, 4, 96, 167, 0, 8]
abbrev dktX1_turns_5 : List UInt8 := dkwX1_turns_5 ++ dktX1_turns_6
def dkwX1_turns_4 : List UInt8 := [25, 4, 180, 1, 134, 184, 1, 137, 167, 0, 96, 25, 4, 180, 1, 106, 42, 44, 182, 1, 110, 54, 6, 42]
abbrev dktX1_turns_4 : List UInt8 := dkwX1_turns_4 ++ dktX1_turns_5
def dkwX1_turns_3 : List UInt8 := [181, 1, 78, 167, 0, 125, 45, 3, 25, 4, 180, 1, 63, 16, 14, 160, 0, 8, 21, 5, 167, 0, 4, 2]
abbrev dktX1_turns_3 : List UInt8 := dkwX1_turns_3 ++ dktX1_turns_4
def dkwX1_turns_2 : List UInt8 := [25, 4, 180, 1, 63, 16, 14, 160, 0, 21, 21, 5, 4, 162, 0, 15, 45, 25, 4, 180, 1, 134]
abbrev dktX1_turns_2 : List UInt8 := dkwX1_turns_2 ++ dktX1_turns_3
def dkwX1_turns_1 : List UInt8 := [170, 0, 0, 0, 0, 0, 175, 0, 0, 0, 14, 0, 0, 0, 20, 0, 0, 0, 43, 0, 0, 0, 43, 0, 0, 0, 100, 0, 0, 0, 147, 0, 0, 0, 161, 0, 0, 0, 175, 0, 0, 0, 168]
abbrev dktX1_turns_1 : List UInt8 := dkwX1_turns_1 ++ dktX1_turns_2
def dkwX1_turns_0 : List UInt8 := [25, 4, 180, 1, 63]
abbrev dktX1_turns_0 : List UInt8 := dkwX1_turns_0 ++ dktX1_turns_1
theorem dksX1_turns_0 : cX1_turns.data.toList.drop 0 = dktX1_turns_0 := by decide +kernel
theorem dksX1_turns_1 : cX1_turns.data.toList.drop 5 = dktX1_turns_1 := dk_seg dksX1_turns_0 5 rfl rfl
theorem dksX1_turns_2 : cX1_turns.data.toList.drop 48 = dktX1_turns_2 := dk_seg dksX1_turns_1 43 rfl rfl
theorem dksX1_turns_3 : cX1_turns.data.toList.drop 70 = dktX1_turns_3 := dk_seg dksX1_turns_2 22 rfl rfl
theorem dksX1_turns_4 : cX1_turns.data.toList.drop 94 = dktX1_turns_4 := dk_seg dksX1_turns_3 24 rfl rfl
theorem dksX1_turns_5 : cX1_turns.data.toList.drop 118 = dktX1_turns_5 := dk_seg dksX1_turns_4 24 rfl rfl
theorem dksX1_turns_6 : cX1_turns.data.toList.drop 141 = dktX1_turns_6 := dk_seg dksX1_turns_5 23 rfl rfl
theorem dksX1_turns_7 : cX1_turns.data.toList.drop 163 = dktX1_turns_7 := dk_seg dksX1_turns_6 22 rfl rfl
theorem dksX1_turns_8 : cX1_turns.data.toList.drop 186 = dktX1_turns_8 := dk_seg dksX1_turns_7 23 rfl rfl
theorem dX1_turns_0 : decode cX1_turns 0 = .ok (.aload 4, 2) := dk_25 4 (dk_at dksX1_turns_0 0 rfl rfl)
theorem dX1_turns_2 : decode cX1_turns 2 = .ok (.getfield 319, 3) := dk_180 1 63 (dk_at dksX1_turns_0 2 rfl rfl)
theorem dX1_turns_5 : decode cX1_turns 5 = .ok (.tableswitch 175 14 20 #[43, 43, 100, 147, 161, 175, 168], 43) := by decide +kernel
theorem dX1_turns_48 : decode cX1_turns 48 = .ok (.aload 4, 2) := dk_25 4 (dk_at dksX1_turns_2 0 rfl rfl)
theorem dX1_turns_50 : decode cX1_turns 50 = .ok (.getfield 319, 3) := dk_180 1 63 (dk_at dksX1_turns_2 2 rfl rfl)
theorem dX1_turns_53 : decode cX1_turns 53 = .ok (.bipush 14, 2) := dk_16 14 (dk_at dksX1_turns_2 5 rfl rfl)
theorem dX1_turns_55 : decode cX1_turns 55 = .ok (.if_icmp .ne 21, 3) := dk_160 0 21 (dk_at dksX1_turns_2 7 rfl rfl)
theorem dX1_turns_58 : decode cX1_turns 58 = .ok (.iload 5, 2) := dk_21 5 (dk_at dksX1_turns_2 10 rfl rfl)
theorem dX1_turns_60 : decode cX1_turns 60 = .ok (.iconst 1, 1) := dk_4 (dk_at dksX1_turns_2 12 rfl rfl)
theorem dX1_turns_61 : decode cX1_turns 61 = .ok (.if_icmp .ge 15, 3) := dk_162 0 15 (dk_at dksX1_turns_2 13 rfl rfl)
theorem dX1_turns_64 : decode cX1_turns 64 = .ok (.aload_n 3, 1) := dk_45 (dk_at dksX1_turns_2 16 rfl rfl)
theorem dX1_turns_65 : decode cX1_turns 65 = .ok (.aload 4, 2) := dk_25 4 (dk_at dksX1_turns_2 17 rfl rfl)
theorem dX1_turns_67 : decode cX1_turns 67 = .ok (.getfield 390, 3) := dk_180 1 134 (dk_at dksX1_turns_2 19 rfl rfl)
theorem dX1_turns_70 : decode cX1_turns 70 = .ok (.putfield 334, 3) := dk_181 1 78 (dk_at dksX1_turns_3 0 rfl rfl)
theorem dX1_turns_73 : decode cX1_turns 73 = .ok (.goto 125, 3) := dk_167 0 125 (dk_at dksX1_turns_3 3 rfl rfl)
theorem dX1_turns_76 : decode cX1_turns 76 = .ok (.aload_n 3, 1) := dk_45 (dk_at dksX1_turns_3 6 rfl rfl)
theorem dX1_turns_77 : decode cX1_turns 77 = .ok (.iconst 0, 1) := dk_3 (dk_at dksX1_turns_3 7 rfl rfl)
theorem dX1_turns_78 : decode cX1_turns 78 = .ok (.aload 4, 2) := dk_25 4 (dk_at dksX1_turns_3 8 rfl rfl)
theorem dX1_turns_80 : decode cX1_turns 80 = .ok (.getfield 319, 3) := dk_180 1 63 (dk_at dksX1_turns_3 10 rfl rfl)
theorem dX1_turns_83 : decode cX1_turns 83 = .ok (.bipush 14, 2) := dk_16 14 (dk_at dksX1_turns_3 13 rfl rfl)
theorem dX1_turns_85 : decode cX1_turns 85 = .ok (.if_icmp .ne 8, 3) := dk_160 0 8 (dk_at dksX1_turns_3 15 rfl rfl)
theorem dX1_turns_88 : decode cX1_turns 88 = .ok (.iload 5, 2) := dk_21 5 (dk_at dksX1_turns_3 18 rfl rfl)
theorem dX1_turns_90 : decode cX1_turns 90 = .ok (.goto 4, 3) := dk_167 0 4 (dk_at dksX1_turns_3 20 rfl rfl)
theorem dX1_turns_93 : decode cX1_turns 93 = .ok (.iconst (-1), 1) := dk_2 (dk_at dksX1_turns_3 23 rfl rfl)
theorem dX1_turns_94 : decode cX1_turns 94 = .ok (.aload 4, 2) := dk_25 4 (dk_at dksX1_turns_4 0 rfl rfl)
theorem dX1_turns_96 : decode cX1_turns 96 = .ok (.getfield 390, 3) := dk_180 1 134 (dk_at dksX1_turns_4 2 rfl rfl)
theorem dX1_turns_99 : decode cX1_turns 99 = .ok (.invokestatic 393, 3) := dk_184 1 137 (dk_at dksX1_turns_4 5 rfl rfl)
theorem dX1_turns_102 : decode cX1_turns 102 = .ok (.goto 96, 3) := dk_167 0 96 (dk_at dksX1_turns_4 8 rfl rfl)
theorem dX1_turns_105 : decode cX1_turns 105 = .ok (.aload 4, 2) := dk_25 4 (dk_at dksX1_turns_4 11 rfl rfl)
theorem dX1_turns_107 : decode cX1_turns 107 = .ok (.getfield 362, 3) := dk_180 1 106 (dk_at dksX1_turns_4 13 rfl rfl)
theorem dX1_turns_110 : decode cX1_turns 110 = .ok (.aload_n 0, 1) := dk_42 (dk_at dksX1_turns_4 16 rfl rfl)
theorem dX1_turns_111 : decode cX1_turns 111 = .ok (.aload_n 2, 1) := dk_44 (dk_at dksX1_turns_4 17 rfl rfl)
theorem dX1_turns_112 : decode cX1_turns 112 = .ok (.invokevirtual 366, 3) := dk_182 1 110 (dk_at dksX1_turns_4 18 rfl rfl)
theorem dX1_turns_115 : decode cX1_turns 115 = .ok (.istore 6, 2) := dk_54 6 (dk_at dksX1_turns_4 21 rfl rfl)
theorem dX1_turns_117 : decode cX1_turns 117 = .ok (.aload_n 0, 1) := dk_42 (dk_at dksX1_turns_4 23 rfl rfl)
theorem dX1_turns_118 : decode cX1_turns 118 = .ok (.getfield 327, 3) := dk_180 1 71 (dk_at dksX1_turns_5 0 rfl rfl)
theorem dX1_turns_121 : decode cX1_turns 121 = .ok (.ifCond .eq 5, 3) := dk_153 0 5 (dk_at dksX1_turns_5 3 rfl rfl)
theorem dX1_turns_124 : decode cX1_turns 124 = .ok (.iconst 1, 1) := dk_4 (dk_at dksX1_turns_5 6 rfl rfl)
theorem dX1_turns_125 : decode cX1_turns 125 = .ok (.ireturn, 1) := dk_172 (dk_at dksX1_turns_5 7 rfl rfl)
theorem dX1_turns_126 : decode cX1_turns 126 = .ok (.aload_n 3, 1) := dk_45 (dk_at dksX1_turns_5 8 rfl rfl)
theorem dX1_turns_127 : decode cX1_turns 127 = .ok (.iload 6, 2) := dk_21 6 (dk_at dksX1_turns_5 9 rfl rfl)
theorem dX1_turns_129 : decode cX1_turns 129 = .ok (.ifCond .eq 12, 3) := dk_153 0 12 (dk_at dksX1_turns_5 11 rfl rfl)
theorem dX1_turns_132 : decode cX1_turns 132 = .ok (.aload_n 3, 1) := dk_45 (dk_at dksX1_turns_5 14 rfl rfl)
theorem dX1_turns_133 : decode cX1_turns 133 = .ok (.getfield 334, 3) := dk_180 1 78 (dk_at dksX1_turns_5 15 rfl rfl)
theorem dX1_turns_136 : decode cX1_turns 136 = .ok (.iconst 1, 1) := dk_4 (dk_at dksX1_turns_5 18 rfl rfl)
theorem dX1_turns_137 : decode cX1_turns 137 = .ok (.iadd, 1) := dk_96 (dk_at dksX1_turns_5 19 rfl rfl)
theorem dX1_turns_138 : decode cX1_turns 138 = .ok (.goto 8, 3) := dk_167 0 8 (dk_at dksX1_turns_5 20 rfl rfl)
theorem dX1_turns_141 : decode cX1_turns 141 = .ok (.aload 4, 2) := dk_25 4 (dk_at dksX1_turns_6 0 rfl rfl)
theorem dX1_turns_143 : decode cX1_turns 143 = .ok (.getfield 390, 3) := dk_180 1 134 (dk_at dksX1_turns_6 2 rfl rfl)
theorem dX1_turns_146 : decode cX1_turns 146 = .ok (.putfield 334, 3) := dk_181 1 78 (dk_at dksX1_turns_6 5 rfl rfl)
theorem dX1_turns_149 : decode cX1_turns 149 = .ok (.goto 49, 3) := dk_167 0 49 (dk_at dksX1_turns_6 8 rfl rfl)
theorem dX1_turns_152 : decode cX1_turns 152 = .ok (.aload_n 3, 1) := dk_45 (dk_at dksX1_turns_6 11 rfl rfl)
theorem dX1_turns_153 : decode cX1_turns 153 = .ok (.iconst 1, 1) := dk_4 (dk_at dksX1_turns_6 12 rfl rfl)
theorem dX1_turns_154 : decode cX1_turns 154 = .ok (.iconst 0, 1) := dk_3 (dk_at dksX1_turns_6 13 rfl rfl)
theorem dX1_turns_155 : decode cX1_turns 155 = .ok (.aload 4, 2) := dk_25 4 (dk_at dksX1_turns_6 14 rfl rfl)
theorem dX1_turns_157 : decode cX1_turns 157 = .ok (.getfield 390, 3) := dk_180 1 134 (dk_at dksX1_turns_6 16 rfl rfl)
theorem dX1_turns_160 : decode cX1_turns 160 = .ok (.invokestatic 393, 3) := dk_184 1 137 (dk_at dksX1_turns_6 19 rfl rfl)
theorem dX1_turns_163 : decode cX1_turns 163 = .ok (.goto 35, 3) := dk_167 0 35 (dk_at dksX1_turns_7 0 rfl rfl)
theorem dX1_turns_166 : decode cX1_turns 166 = .ok (.aload_n 3, 1) := dk_45 (dk_at dksX1_turns_7 3 rfl rfl)
theorem dX1_turns_167 : decode cX1_turns 167 = .ok (.invokevirtual 397, 3) := dk_182 1 141 (dk_at dksX1_turns_7 4 rfl rfl)
theorem dX1_turns_170 : decode cX1_turns 170 = .ok (.goto 28, 3) := dk_167 0 28 (dk_at dksX1_turns_7 7 rfl rfl)
theorem dX1_turns_173 : decode cX1_turns 173 = .ok (.aload_n 3, 1) := dk_45 (dk_at dksX1_turns_7 10 rfl rfl)
theorem dX1_turns_174 : decode cX1_turns 174 = .ok (.invokevirtual 400, 3) := dk_182 1 144 (dk_at dksX1_turns_7 11 rfl rfl)
theorem dX1_turns_177 : decode cX1_turns 177 = .ok (.goto 21, 3) := dk_167 0 21 (dk_at dksX1_turns_7 14 rfl rfl)
theorem dX1_turns_180 : decode cX1_turns 180 = .ok (.aload_n 3, 1) := dk_45 (dk_at dksX1_turns_7 17 rfl rfl)
theorem dX1_turns_181 : decode cX1_turns 181 = .ok (.iconst 1, 1) := dk_4 (dk_at dksX1_turns_7 18 rfl rfl)
theorem dX1_turns_182 : decode cX1_turns 182 = .ok (.putfield 272, 3) := dk_181 1 16 (dk_at dksX1_turns_7 19 rfl rfl)
theorem dX1_turns_185 : decode cX1_turns 185 = .ok (.aload_n 0, 1) := dk_42 (dk_at dksX1_turns_7 22 rfl rfl)
theorem dX1_turns_186 : decode cX1_turns 186 = .ok (.bipush 6, 2) := dk_16 6 (dk_at dksX1_turns_8 0 rfl rfl)
theorem dX1_turns_188 : decode cX1_turns 188 = .ok (.iload_n 1, 1) := dk_27 (dk_at dksX1_turns_8 2 rfl rfl)
theorem dX1_turns_189 : decode cX1_turns 189 = .ok (.aload_n 0, 1) := dk_42 (dk_at dksX1_turns_8 3 rfl rfl)
theorem dX1_turns_190 : decode cX1_turns 190 = .ok (.getfield 133, 3) := dk_180 0 133 (dk_at dksX1_turns_8 4 rfl rfl)
theorem dX1_turns_193 : decode cX1_turns 193 = .ok (.invokevirtual 249, 3) := dk_182 0 249 (dk_at dksX1_turns_8 7 rfl rfl)
theorem dX1_turns_196 : decode cX1_turns 196 = .ok (.iconst 1, 1) := dk_4 (dk_at dksX1_turns_8 10 rfl rfl)
theorem dX1_turns_197 : decode cX1_turns 197 = .ok (.ireturn, 1) := dk_172 (dk_at dksX1_turns_8 11 rfl rfl)
theorem dX1_turns_198 : decode cX1_turns 198 = .ok (.aload_n 0, 1) := dk_42 (dk_at dksX1_turns_8 12 rfl rfl)
theorem dX1_turns_199 : decode cX1_turns 199 = .ok (.iload_n 1, 1) := dk_27 (dk_at dksX1_turns_8 13 rfl rfl)
theorem dX1_turns_200 : decode cX1_turns 200 = .ok (.aload_n 3, 1) := dk_45 (dk_at dksX1_turns_8 14 rfl rfl)
theorem dX1_turns_201 : decode cX1_turns 201 = .ok (.invokevirtual 308, 3) := dk_182 1 52 (dk_at dksX1_turns_8 15 rfl rfl)
theorem dX1_turns_204 : decode cX1_turns 204 = .ok (.iconst 1, 1) := dk_4 (dk_at dksX1_turns_8 18 rfl rfl)
theorem dX1_turns_205 : decode cX1_turns 205 = .ok (.ireturn, 1) := dk_172 (dk_at dksX1_turns_8 19 rfl rfl)
def dkwX1_enter_0 : List UInt8 := [42, 27, 28, 29, 182, 1, 147, 42, 89, 180, 1, 78, 4, 96, 181, 1, 78, 177]
abbrev dktX1_enter_0 : List UInt8 := dkwX1_enter_0 ++ []
theorem dksX1_enter_0 : cX1_enter.data.toList.drop 0 = dktX1_enter_0 := by decide +kernel
theorem dX1_enter_0 : decode cX1_enter 0 = .ok (.aload_n 0, 1) := dk_42 (dk_at dksX1_enter_0 0 rfl rfl)
theorem dX1_enter_1 : decode cX1_enter 1 = .ok (.iload_n 1, 1) := dk_27 (dk_at dksX1_enter_0 1 rfl rfl)
theorem dX1_enter_2 : decode cX1_enter 2 = .ok (.iload_n 2, 1) := dk_28 (dk_at dksX1_enter_0 2 rfl rfl)
theorem dX1_enter_3 : decode cX1_enter 3 = .ok (.iload_n 3, 1) := dk_29 (dk_at dksX1_enter_0 3 rfl rfl)
theorem dX1_enter_4 : decode cX1_enter 4 = .ok (.invokevirtual 403, 3) := dk_182 1 147 (dk_at dksX1_enter_0 4 rfl rfl)
theorem dX1_enter_7 : decode cX1_enter 7 = .ok (.aload_n 0, 1) := dk_42 (dk_at dksX1_enter_0 7 rfl rfl)
theorem dX1_enter_8 : decode cX1_enter 8 = .ok (.dup, 1) := dk_89 (dk_at dksX1_enter_0 8 rfl rfl)
theorem dX1_enter_9 : decode cX1_enter 9 = .ok (.getfield 334, 3) := dk_180 1 78 (dk_at dksX1_enter_0 9 rfl rfl)
theorem dX1_enter_12 : decode cX1_enter 12 = .ok (.iconst 1, 1) := dk_4 (dk_at dksX1_enter_0 12 rfl rfl)
theorem dX1_enter_13 : decode cX1_enter 13 = .ok (.iadd, 1) := dk_96 (dk_at dksX1_enter_0 13 rfl rfl)
theorem dX1_enter_14 : decode cX1_enter 14 = .ok (.putfield 334, 3) := dk_181 1 78 (dk_at dksX1_enter_0 14 rfl rfl)
theorem dX1_enter_17 : decode cX1_enter 17 = .ok (.return_, 1) := dk_177 (dk_at dksX1_enter_0 17 rfl rfl)
def dkwX1_stalls_4 : List UInt8 := [42, 27, 25, 4, 182, 1, 52, 177]
abbrev dktX1_stalls_4 : List UInt8 := dkwX1_stalls_4 ++ []
def dkwX1_stalls_3 : List UInt8 := [167, 255, 219, 42, 5, 27, 29, 182, 0, 249, 177, 25, 4, 29, 181, 1, 49, 42, 4, 27, 29, 182, 0, 249]
abbrev dktX1_stalls_3 : List UInt8 := dkwX1_stalls_3 ++ dktX1_stalls_4
def dkwX1_stalls_2 : List UInt8 := [25, 4, 180, 1, 46, 21, 5, 46, 96, 79, 25, 4, 180, 1, 46, 21, 5, 3, 79, 132, 5, 1]
abbrev dktX1_stalls_2 : List UInt8 := dkwX1_stalls_2 ++ dktX1_stalls_3
def dkwX1_stalls_1 : List UInt8 := [25, 4, 5, 181, 1, 16, 3, 54, 5, 21, 5, 16, 6, 162, 0, 36, 42, 180, 0, 45, 21, 5, 92, 46]
abbrev dktX1_stalls_1 : List UInt8 := dkwX1_stalls_1 ++ dktX1_stalls_2
def dkwX1_stalls_0 : List UInt8 := [44, 184, 0, 163, 44, 180, 0, 154, 58, 4, 25, 4, 3, 181, 1, 38, 25, 4, 182, 1, 42, 154, 0, 60]
abbrev dktX1_stalls_0 : List UInt8 := dkwX1_stalls_0 ++ dktX1_stalls_1
theorem dksX1_stalls_0 : cX1_stalls.data.toList.drop 0 = dktX1_stalls_0 := by decide +kernel
theorem dksX1_stalls_1 : cX1_stalls.data.toList.drop 24 = dktX1_stalls_1 := dk_seg dksX1_stalls_0 24 rfl rfl
theorem dksX1_stalls_2 : cX1_stalls.data.toList.drop 48 = dktX1_stalls_2 := dk_seg dksX1_stalls_1 24 rfl rfl
theorem dksX1_stalls_3 : cX1_stalls.data.toList.drop 70 = dktX1_stalls_3 := dk_seg dksX1_stalls_2 22 rfl rfl
theorem dksX1_stalls_4 : cX1_stalls.data.toList.drop 94 = dktX1_stalls_4 := dk_seg dksX1_stalls_3 24 rfl rfl
theorem dX1_stalls_0 : decode cX1_stalls 0 = .ok (.aload_n 2, 1) := dk_44 (dk_at dksX1_stalls_0 0 rfl rfl)
theorem dX1_stalls_1 : decode cX1_stalls 1 = .ok (.invokestatic 163, 3) := dk_184 0 163 (dk_at dksX1_stalls_0 1 rfl rfl)
theorem dX1_stalls_4 : decode cX1_stalls 4 = .ok (.aload_n 2, 1) := dk_44 (dk_at dksX1_stalls_0 4 rfl rfl)
theorem dX1_stalls_5 : decode cX1_stalls 5 = .ok (.getfield 154, 3) := dk_180 0 154 (dk_at dksX1_stalls_0 5 rfl rfl)
theorem dX1_stalls_8 : decode cX1_stalls 8 = .ok (.astore 4, 2) := dk_58 4 (dk_at dksX1_stalls_0 8 rfl rfl)
theorem dX1_stalls_10 : decode cX1_stalls 10 = .ok (.aload 4, 2) := dk_25 4 (dk_at dksX1_stalls_0 10 rfl rfl)
theorem dX1_stalls_12 : decode cX1_stalls 12 = .ok (.iconst 0, 1) := dk_3 (dk_at dksX1_stalls_0 12 rfl rfl)
theorem dX1_stalls_13 : decode cX1_stalls 13 = .ok (.putfield 294, 3) := dk_181 1 38 (dk_at dksX1_stalls_0 13 rfl rfl)
theorem dX1_stalls_16 : decode cX1_stalls 16 = .ok (.aload 4, 2) := dk_25 4 (dk_at dksX1_stalls_0 16 rfl rfl)
theorem dX1_stalls_18 : decode cX1_stalls 18 = .ok (.invokevirtual 298, 3) := dk_182 1 42 (dk_at dksX1_stalls_0 18 rfl rfl)
theorem dX1_stalls_21 : decode cX1_stalls 21 = .ok (.ifCond .ne 60, 3) := dk_154 0 60 (dk_at dksX1_stalls_0 21 rfl rfl)
theorem dX1_stalls_24 : decode cX1_stalls 24 = .ok (.aload 4, 2) := dk_25 4 (dk_at dksX1_stalls_1 0 rfl rfl)
theorem dX1_stalls_26 : decode cX1_stalls 26 = .ok (.iconst 2, 1) := dk_5 (dk_at dksX1_stalls_1 2 rfl rfl)
theorem dX1_stalls_27 : decode cX1_stalls 27 = .ok (.putfield 272, 3) := dk_181 1 16 (dk_at dksX1_stalls_1 3 rfl rfl)
theorem dX1_stalls_30 : decode cX1_stalls 30 = .ok (.iconst 0, 1) := dk_3 (dk_at dksX1_stalls_1 6 rfl rfl)
theorem dX1_stalls_31 : decode cX1_stalls 31 = .ok (.istore 5, 2) := dk_54 5 (dk_at dksX1_stalls_1 7 rfl rfl)
theorem dX1_stalls_33 : decode cX1_stalls 33 = .ok (.iload 5, 2) := dk_21 5 (dk_at dksX1_stalls_1 9 rfl rfl)
theorem dX1_stalls_35 : decode cX1_stalls 35 = .ok (.bipush 6, 2) := dk_16 6 (dk_at dksX1_stalls_1 11 rfl rfl)
theorem dX1_stalls_37 : decode cX1_stalls 37 = .ok (.if_icmp .ge 36, 3) := dk_162 0 36 (dk_at dksX1_stalls_1 13 rfl rfl)
theorem dX1_stalls_40 : decode cX1_stalls 40 = .ok (.aload_n 0, 1) := dk_42 (dk_at dksX1_stalls_1 16 rfl rfl)
theorem dX1_stalls_41 : decode cX1_stalls 41 = .ok (.getfield 45, 3) := dk_180 0 45 (dk_at dksX1_stalls_1 17 rfl rfl)
theorem dX1_stalls_44 : decode cX1_stalls 44 = .ok (.iload 5, 2) := dk_21 5 (dk_at dksX1_stalls_1 20 rfl rfl)
theorem dX1_stalls_46 : decode cX1_stalls 46 = .ok (.dup2, 1) := dk_92 (dk_at dksX1_stalls_1 22 rfl rfl)
theorem dX1_stalls_47 : decode cX1_stalls 47 = .ok (.iaload, 1) := dk_46 (dk_at dksX1_stalls_1 23 rfl rfl)
theorem dX1_stalls_48 : decode cX1_stalls 48 = .ok (.aload 4, 2) := dk_25 4 (dk_at dksX1_stalls_2 0 rfl rfl)
theorem dX1_stalls_50 : decode cX1_stalls 50 = .ok (.getfield 302, 3) := dk_180 1 46 (dk_at dksX1_stalls_2 2 rfl rfl)
theorem dX1_stalls_53 : decode cX1_stalls 53 = .ok (.iload 5, 2) := dk_21 5 (dk_at dksX1_stalls_2 5 rfl rfl)
theorem dX1_stalls_55 : decode cX1_stalls 55 = .ok (.iaload, 1) := dk_46 (dk_at dksX1_stalls_2 7 rfl rfl)
theorem dX1_stalls_56 : decode cX1_stalls 56 = .ok (.iadd, 1) := dk_96 (dk_at dksX1_stalls_2 8 rfl rfl)
theorem dX1_stalls_57 : decode cX1_stalls 57 = .ok (.iastore, 1) := dk_79 (dk_at dksX1_stalls_2 9 rfl rfl)
theorem dX1_stalls_58 : decode cX1_stalls 58 = .ok (.aload 4, 2) := dk_25 4 (dk_at dksX1_stalls_2 10 rfl rfl)
theorem dX1_stalls_60 : decode cX1_stalls 60 = .ok (.getfield 302, 3) := dk_180 1 46 (dk_at dksX1_stalls_2 12 rfl rfl)
theorem dX1_stalls_63 : decode cX1_stalls 63 = .ok (.iload 5, 2) := dk_21 5 (dk_at dksX1_stalls_2 15 rfl rfl)
theorem dX1_stalls_65 : decode cX1_stalls 65 = .ok (.iconst 0, 1) := dk_3 (dk_at dksX1_stalls_2 17 rfl rfl)
theorem dX1_stalls_66 : decode cX1_stalls 66 = .ok (.iastore, 1) := dk_79 (dk_at dksX1_stalls_2 18 rfl rfl)
theorem dX1_stalls_67 : decode cX1_stalls 67 = .ok (.iinc 5 1, 3) := dk_132 5 1 (dk_at dksX1_stalls_2 19 rfl rfl)
theorem dX1_stalls_70 : decode cX1_stalls 70 = .ok (.goto (-37), 3) := dk_167 255 219 (dk_at dksX1_stalls_3 0 rfl rfl)
theorem dX1_stalls_73 : decode cX1_stalls 73 = .ok (.aload_n 0, 1) := dk_42 (dk_at dksX1_stalls_3 3 rfl rfl)
theorem dX1_stalls_74 : decode cX1_stalls 74 = .ok (.iconst 2, 1) := dk_5 (dk_at dksX1_stalls_3 4 rfl rfl)
theorem dX1_stalls_75 : decode cX1_stalls 75 = .ok (.iload_n 1, 1) := dk_27 (dk_at dksX1_stalls_3 5 rfl rfl)
theorem dX1_stalls_76 : decode cX1_stalls 76 = .ok (.iload_n 3, 1) := dk_29 (dk_at dksX1_stalls_3 6 rfl rfl)
theorem dX1_stalls_77 : decode cX1_stalls 77 = .ok (.invokevirtual 249, 3) := dk_182 0 249 (dk_at dksX1_stalls_3 7 rfl rfl)
theorem dX1_stalls_80 : decode cX1_stalls 80 = .ok (.return_, 1) := dk_177 (dk_at dksX1_stalls_3 10 rfl rfl)
theorem dX1_stalls_81 : decode cX1_stalls 81 = .ok (.aload 4, 2) := dk_25 4 (dk_at dksX1_stalls_3 11 rfl rfl)
theorem dX1_stalls_83 : decode cX1_stalls 83 = .ok (.iload_n 3, 1) := dk_29 (dk_at dksX1_stalls_3 13 rfl rfl)
theorem dX1_stalls_84 : decode cX1_stalls 84 = .ok (.putfield 305, 3) := dk_181 1 49 (dk_at dksX1_stalls_3 14 rfl rfl)
theorem dX1_stalls_87 : decode cX1_stalls 87 = .ok (.aload_n 0, 1) := dk_42 (dk_at dksX1_stalls_3 17 rfl rfl)
theorem dX1_stalls_88 : decode cX1_stalls 88 = .ok (.iconst 1, 1) := dk_4 (dk_at dksX1_stalls_3 18 rfl rfl)
theorem dX1_stalls_89 : decode cX1_stalls 89 = .ok (.iload_n 1, 1) := dk_27 (dk_at dksX1_stalls_3 19 rfl rfl)
theorem dX1_stalls_90 : decode cX1_stalls 90 = .ok (.iload_n 3, 1) := dk_29 (dk_at dksX1_stalls_3 20 rfl rfl)
theorem dX1_stalls_91 : decode cX1_stalls 91 = .ok (.invokevirtual 249, 3) := dk_182 0 249 (dk_at dksX1_stalls_3 21 rfl rfl)
theorem dX1_stalls_94 : decode cX1_stalls 94 = .ok (.aload_n 0, 1) := dk_42 (dk_at dksX1_stalls_4 0 rfl rfl)
theorem dX1_stalls_95 : decode cX1_stalls 95 = .ok (.iload_n 1, 1) := dk_27 (dk_at dksX1_stalls_4 1 rfl rfl)
theorem dX1_stalls_96 : decode cX1_stalls 96 = .ok (.aload 4, 2) := dk_25 4 (dk_at dksX1_stalls_4 2 rfl rfl)
theorem dX1_stalls_98 : decode cX1_stalls 98 = .ok (.invokevirtual 308, 3) := dk_182 1 52 (dk_at dksX1_stalls_4 4 rfl rfl)
theorem dX1_stalls_101 : decode cX1_stalls 101 = .ok (.return_, 1) := dk_177 (dk_at dksX1_stalls_4 7 rfl rfl)
def dkwX1_shed_7 : List UInt8 := [177]
abbrev dktX1_shed_7 : List UInt8 := dkwX1_shed_7 ++ []
def dkwX1_shed_6 : List UInt8 := [180, 0, 154, 180, 1, 16, 154, 0, 12, 42, 29, 25, 4, 16, 7, 182, 1, 19, 132, 3, 255, 167, 255, 142]
abbrev dktX1_shed_6 : List UInt8 := dkwX1_shed_6 ++ dktX1_shed_7
def dkwX1_shed_5 : List UInt8 := [21, 6, 100, 61, 25, 4, 184, 0, 163, 25, 4, 184, 0, 192, 42, 6, 29, 21, 6, 182, 0, 249, 25, 4]
abbrev dktX1_shed_5 : List UInt8 := dkwX1_shed_5 ++ dktX1_shed_6
def dkwX1_shed_4 : List UInt8 := [153, 0, 65, 25, 4, 184, 1, 12, 154, 0, 14, 25, 4, 184, 1, 35, 154, 0, 6, 167, 0, 46, 28]
abbrev dktX1_shed_4 : List UInt8 := dkwX1_shed_4 ++ dktX1_shed_5
def dkwX1_shed_3 : List UInt8 := [182, 0, 127, 192, 0, 131, 58, 4, 25, 4, 58, 5, 25, 5, 185, 1, 32, 1, 0, 54, 6, 21, 6]
abbrev dktX1_shed_3 : List UInt8 := dkwX1_shed_3 ++ dktX1_shed_4
def dkwX1_shed_2 : List UInt8 := [155, 0, 116, 28, 42, 180, 0, 75, 180, 0, 118, 164, 0, 105, 42, 180, 0, 75, 180, 0, 104, 29]
abbrev dktX1_shed_2 : List UInt8 := dkwX1_shed_2 ++ dktX1_shed_3
def dkwX1_shed_1 : List UInt8 := [58, 4, 28, 25, 4, 185, 1, 32, 1, 0, 96, 61, 132, 3, 1, 167, 255, 222, 27, 4, 100, 62, 29]
abbrev dktX1_shed_1 : List UInt8 := dkwX1_shed_1 ++ dktX1_shed_2
def dkwX1_shed_0 : List UInt8 := [3, 61, 3, 62, 29, 27, 162, 0, 35, 42, 180, 0, 75, 180, 0, 104, 29, 182, 0, 127, 192, 1, 1]
abbrev dktX1_shed_0 : List UInt8 := dkwX1_shed_0 ++ dktX1_shed_1
theorem dksX1_shed_0 : cX1_shed.data.toList.drop 0 = dktX1_shed_0 := by decide +kernel
theorem dksX1_shed_1 : cX1_shed.data.toList.drop 23 = dktX1_shed_1 := dk_seg dksX1_shed_0 23 rfl rfl
theorem dksX1_shed_2 : cX1_shed.data.toList.drop 46 = dktX1_shed_2 := dk_seg dksX1_shed_1 23 rfl rfl
theorem dksX1_shed_3 : cX1_shed.data.toList.drop 68 = dktX1_shed_3 := dk_seg dksX1_shed_2 22 rfl rfl
theorem dksX1_shed_4 : cX1_shed.data.toList.drop 91 = dktX1_shed_4 := dk_seg dksX1_shed_3 23 rfl rfl
theorem dksX1_shed_5 : cX1_shed.data.toList.drop 114 = dktX1_shed_5 := dk_seg dksX1_shed_4 23 rfl rfl
theorem dksX1_shed_6 : cX1_shed.data.toList.drop 138 = dktX1_shed_6 := dk_seg dksX1_shed_5 24 rfl rfl
theorem dksX1_shed_7 : cX1_shed.data.toList.drop 162 = dktX1_shed_7 := dk_seg dksX1_shed_6 24 rfl rfl
theorem dX1_shed_0 : decode cX1_shed 0 = .ok (.iconst 0, 1) := dk_3 (dk_at dksX1_shed_0 0 rfl rfl)
theorem dX1_shed_1 : decode cX1_shed 1 = .ok (.istore_n 2, 1) := dk_61 (dk_at dksX1_shed_0 1 rfl rfl)
theorem dX1_shed_2 : decode cX1_shed 2 = .ok (.iconst 0, 1) := dk_3 (dk_at dksX1_shed_0 2 rfl rfl)
theorem dX1_shed_3 : decode cX1_shed 3 = .ok (.istore_n 3, 1) := dk_62 (dk_at dksX1_shed_0 3 rfl rfl)
theorem dX1_shed_4 : decode cX1_shed 4 = .ok (.iload_n 3, 1) := dk_29 (dk_at dksX1_shed_0 4 rfl rfl)
theorem dX1_shed_5 : decode cX1_shed 5 = .ok (.iload_n 1, 1) := dk_27 (dk_at dksX1_shed_0 5 rfl rfl)
theorem dX1_shed_6 : decode cX1_shed 6 = .ok (.if_icmp .ge 35, 3) := dk_162 0 35 (dk_at dksX1_shed_0 6 rfl rfl)
theorem dX1_shed_9 : decode cX1_shed 9 = .ok (.aload_n 0, 1) := dk_42 (dk_at dksX1_shed_0 9 rfl rfl)
theorem dX1_shed_10 : decode cX1_shed 10 = .ok (.getfield 75, 3) := dk_180 0 75 (dk_at dksX1_shed_0 10 rfl rfl)
theorem dX1_shed_13 : decode cX1_shed 13 = .ok (.getfield 104, 3) := dk_180 0 104 (dk_at dksX1_shed_0 13 rfl rfl)
theorem dX1_shed_16 : decode cX1_shed 16 = .ok (.iload_n 3, 1) := dk_29 (dk_at dksX1_shed_0 16 rfl rfl)
theorem dX1_shed_17 : decode cX1_shed 17 = .ok (.invokevirtual 127, 3) := dk_182 0 127 (dk_at dksX1_shed_0 17 rfl rfl)
theorem dX1_shed_20 : decode cX1_shed 20 = .ok (.checkcast 257, 3) := dk_192 1 1 (dk_at dksX1_shed_0 20 rfl rfl)
theorem dX1_shed_23 : decode cX1_shed 23 = .ok (.astore 4, 2) := dk_58 4 (dk_at dksX1_shed_1 0 rfl rfl)
theorem dX1_shed_25 : decode cX1_shed 25 = .ok (.iload_n 2, 1) := dk_28 (dk_at dksX1_shed_1 2 rfl rfl)
theorem dX1_shed_26 : decode cX1_shed 26 = .ok (.aload 4, 2) := dk_25 4 (dk_at dksX1_shed_1 3 rfl rfl)
theorem dX1_shed_28 : decode cX1_shed 28 = .ok (.invokeinterface 288 1, 5) := by decide +kernel
theorem dX1_shed_33 : decode cX1_shed 33 = .ok (.iadd, 1) := dk_96 (dk_at dksX1_shed_1 10 rfl rfl)
theorem dX1_shed_34 : decode cX1_shed 34 = .ok (.istore_n 2, 1) := dk_61 (dk_at dksX1_shed_1 11 rfl rfl)
theorem dX1_shed_35 : decode cX1_shed 35 = .ok (.iinc 3 1, 3) := dk_132 3 1 (dk_at dksX1_shed_1 12 rfl rfl)
theorem dX1_shed_38 : decode cX1_shed 38 = .ok (.goto (-34), 3) := dk_167 255 222 (dk_at dksX1_shed_1 15 rfl rfl)
theorem dX1_shed_41 : decode cX1_shed 41 = .ok (.iload_n 1, 1) := dk_27 (dk_at dksX1_shed_1 18 rfl rfl)
theorem dX1_shed_42 : decode cX1_shed 42 = .ok (.iconst 1, 1) := dk_4 (dk_at dksX1_shed_1 19 rfl rfl)
theorem dX1_shed_43 : decode cX1_shed 43 = .ok (.isub, 1) := dk_100 (dk_at dksX1_shed_1 20 rfl rfl)
theorem dX1_shed_44 : decode cX1_shed 44 = .ok (.istore_n 3, 1) := dk_62 (dk_at dksX1_shed_1 21 rfl rfl)
theorem dX1_shed_45 : decode cX1_shed 45 = .ok (.iload_n 3, 1) := dk_29 (dk_at dksX1_shed_1 22 rfl rfl)
theorem dX1_shed_46 : decode cX1_shed 46 = .ok (.ifCond .lt 116, 3) := dk_155 0 116 (dk_at dksX1_shed_2 0 rfl rfl)
theorem dX1_shed_49 : decode cX1_shed 49 = .ok (.iload_n 2, 1) := dk_28 (dk_at dksX1_shed_2 3 rfl rfl)
theorem dX1_shed_50 : decode cX1_shed 50 = .ok (.aload_n 0, 1) := dk_42 (dk_at dksX1_shed_2 4 rfl rfl)
theorem dX1_shed_51 : decode cX1_shed 51 = .ok (.getfield 75, 3) := dk_180 0 75 (dk_at dksX1_shed_2 5 rfl rfl)
theorem dX1_shed_54 : decode cX1_shed 54 = .ok (.getfield 118, 3) := dk_180 0 118 (dk_at dksX1_shed_2 8 rfl rfl)
theorem dX1_shed_57 : decode cX1_shed 57 = .ok (.if_icmp .le 105, 3) := dk_164 0 105 (dk_at dksX1_shed_2 11 rfl rfl)
theorem dX1_shed_60 : decode cX1_shed 60 = .ok (.aload_n 0, 1) := dk_42 (dk_at dksX1_shed_2 14 rfl rfl)
theorem dX1_shed_61 : decode cX1_shed 61 = .ok (.getfield 75, 3) := dk_180 0 75 (dk_at dksX1_shed_2 15 rfl rfl)
theorem dX1_shed_64 : decode cX1_shed 64 = .ok (.getfield 104, 3) := dk_180 0 104 (dk_at dksX1_shed_2 18 rfl rfl)
theorem dX1_shed_67 : decode cX1_shed 67 = .ok (.iload_n 3, 1) := dk_29 (dk_at dksX1_shed_2 21 rfl rfl)
theorem dX1_shed_68 : decode cX1_shed 68 = .ok (.invokevirtual 127, 3) := dk_182 0 127 (dk_at dksX1_shed_3 0 rfl rfl)
theorem dX1_shed_71 : decode cX1_shed 71 = .ok (.checkcast 131, 3) := dk_192 0 131 (dk_at dksX1_shed_3 3 rfl rfl)
theorem dX1_shed_74 : decode cX1_shed 74 = .ok (.astore 4, 2) := dk_58 4 (dk_at dksX1_shed_3 6 rfl rfl)
theorem dX1_shed_76 : decode cX1_shed 76 = .ok (.aload 4, 2) := dk_25 4 (dk_at dksX1_shed_3 8 rfl rfl)
theorem dX1_shed_78 : decode cX1_shed 78 = .ok (.astore 5, 2) := dk_58 5 (dk_at dksX1_shed_3 10 rfl rfl)
theorem dX1_shed_80 : decode cX1_shed 80 = .ok (.aload 5, 2) := dk_25 5 (dk_at dksX1_shed_3 12 rfl rfl)
theorem dX1_shed_82 : decode cX1_shed 82 = .ok (.invokeinterface 288 1, 5) := by decide +kernel
theorem dX1_shed_87 : decode cX1_shed 87 = .ok (.istore 6, 2) := dk_54 6 (dk_at dksX1_shed_3 19 rfl rfl)
theorem dX1_shed_89 : decode cX1_shed 89 = .ok (.iload 6, 2) := dk_21 6 (dk_at dksX1_shed_3 21 rfl rfl)
theorem dX1_shed_91 : decode cX1_shed 91 = .ok (.ifCond .eq 65, 3) := dk_153 0 65 (dk_at dksX1_shed_4 0 rfl rfl)
theorem dX1_shed_94 : decode cX1_shed 94 = .ok (.aload 4, 2) := dk_25 4 (dk_at dksX1_shed_4 3 rfl rfl)
theorem dX1_shed_96 : decode cX1_shed 96 = .ok (.invokestatic 268, 3) := dk_184 1 12 (dk_at dksX1_shed_4 5 rfl rfl)
theorem dX1_shed_99 : decode cX1_shed 99 = .ok (.ifCond .ne 14, 3) := dk_154 0 14 (dk_at dksX1_shed_4 8 rfl rfl)
theorem dX1_shed_102 : decode cX1_shed 102 = .ok (.aload 4, 2) := dk_25 4 (dk_at dksX1_shed_4 11 rfl rfl)
theorem dX1_shed_104 : decode cX1_shed 104 = .ok (.invokestatic 291, 3) := dk_184 1 35 (dk_at dksX1_shed_4 13 rfl rfl)
theorem dX1_shed_107 : decode cX1_shed 107 = .ok (.ifCond .ne 6, 3) := dk_154 0 6 (dk_at dksX1_shed_4 16 rfl rfl)
theorem dX1_shed_110 : decode cX1_shed 110 = .ok (.goto 46, 3) := dk_167 0 46 (dk_at dksX1_shed_4 19 rfl rfl)
theorem dX1_shed_113 : decode cX1_shed 113 = .ok (.iload_n 2, 1) := dk_28 (dk_at dksX1_shed_4 22 rfl rfl)
theorem dX1_shed_114 : decode cX1_shed 114 = .ok (.iload 6, 2) := dk_21 6 (dk_at dksX1_shed_5 0 rfl rfl)
theorem dX1_shed_116 : decode cX1_shed 116 = .ok (.isub, 1) := dk_100 (dk_at dksX1_shed_5 2 rfl rfl)
theorem dX1_shed_117 : decode cX1_shed 117 = .ok (.istore_n 2, 1) := dk_61 (dk_at dksX1_shed_5 3 rfl rfl)
theorem dX1_shed_118 : decode cX1_shed 118 = .ok (.aload 4, 2) := dk_25 4 (dk_at dksX1_shed_5 4 rfl rfl)
theorem dX1_shed_120 : decode cX1_shed 120 = .ok (.invokestatic 163, 3) := dk_184 0 163 (dk_at dksX1_shed_5 6 rfl rfl)
theorem dX1_shed_123 : decode cX1_shed 123 = .ok (.aload 4, 2) := dk_25 4 (dk_at dksX1_shed_5 9 rfl rfl)
theorem dX1_shed_125 : decode cX1_shed 125 = .ok (.invokestatic 192, 3) := dk_184 0 192 (dk_at dksX1_shed_5 11 rfl rfl)
theorem dX1_shed_128 : decode cX1_shed 128 = .ok (.aload_n 0, 1) := dk_42 (dk_at dksX1_shed_5 14 rfl rfl)
theorem dX1_shed_129 : decode cX1_shed 129 = .ok (.iconst 3, 1) := dk_6 (dk_at dksX1_shed_5 15 rfl rfl)
theorem dX1_shed_130 : decode cX1_shed 130 = .ok (.iload_n 3, 1) := dk_29 (dk_at dksX1_shed_5 16 rfl rfl)
theorem dX1_shed_131 : decode cX1_shed 131 = .ok (.iload 6, 2) := dk_21 6 (dk_at dksX1_shed_5 17 rfl rfl)
theorem dX1_shed_133 : decode cX1_shed 133 = .ok (.invokevirtual 249, 3) := dk_182 0 249 (dk_at dksX1_shed_5 19 rfl rfl)
theorem dX1_shed_136 : decode cX1_shed 136 = .ok (.aload 4, 2) := dk_25 4 (dk_at dksX1_shed_5 22 rfl rfl)
theorem dX1_shed_138 : decode cX1_shed 138 = .ok (.getfield 154, 3) := dk_180 0 154 (dk_at dksX1_shed_6 0 rfl rfl)
theorem dX1_shed_141 : decode cX1_shed 141 = .ok (.getfield 272, 3) := dk_180 1 16 (dk_at dksX1_shed_6 3 rfl rfl)
theorem dX1_shed_144 : decode cX1_shed 144 = .ok (.ifCond .ne 12, 3) := dk_154 0 12 (dk_at dksX1_shed_6 6 rfl rfl)
theorem dX1_shed_147 : decode cX1_shed 147 = .ok (.aload_n 0, 1) := dk_42 (dk_at dksX1_shed_6 9 rfl rfl)
theorem dX1_shed_148 : decode cX1_shed 148 = .ok (.iload_n 3, 1) := dk_29 (dk_at dksX1_shed_6 10 rfl rfl)
theorem dX1_shed_149 : decode cX1_shed 149 = .ok (.aload 4, 2) := dk_25 4 (dk_at dksX1_shed_6 11 rfl rfl)
theorem dX1_shed_151 : decode cX1_shed 151 = .ok (.bipush 7, 2) := dk_16 7 (dk_at dksX1_shed_6 13 rfl rfl)
theorem dX1_shed_153 : decode cX1_shed 153 = .ok (.invokevirtual 275, 3) := dk_182 1 19 (dk_at dksX1_shed_6 15 rfl rfl)
theorem dX1_shed_156 : decode cX1_shed 156 = .ok (.iinc 3 (-1), 3) := dk_132 3 255 (dk_at dksX1_shed_6 18 rfl rfl)
theorem dX1_shed_159 : decode cX1_shed 159 = .ok (.goto (-114), 3) := dk_167 255 142 (dk_at dksX1_shed_6 21 rfl rfl)
theorem dX1_shed_162 : decode cX1_shed 162 = .ok (.return_, 1) := dk_177 (dk_at dksX1_shed_7 0 rfl rfl)
def dkwX1_hasGoal_2 : List UInt8 := [4, 167, 0, 4, 3, 172]
abbrev dktX1_hasGoal_2 : List UInt8 := dkwX1_hasGoal_2 ++ []
def dkwX1_hasGoal_1 : List UInt8 := [42, 193, 0, 178, 153, 0, 24, 42, 192, 0, 178, 76, 43, 185, 0, 180, 1, 0, 180, 0, 207, 153, 0, 7]
abbrev dktX1_hasGoal_1 : List UInt8 := dkwX1_hasGoal_1 ++ dktX1_hasGoal_2
def dkwX1_hasGoal_0 : List UInt8 := [42, 193, 0, 167, 153, 0, 20, 42, 192, 0, 167, 77, 44, 185, 0, 169, 1, 0, 180, 0, 204, 154, 0, 27]
abbrev dktX1_hasGoal_0 : List UInt8 := dkwX1_hasGoal_0 ++ dktX1_hasGoal_1
theorem dksX1_hasGoal_0 : cX1_hasGoal.data.toList.drop 0 = dktX1_hasGoal_0 := by decide +kernel
theorem dksX1_hasGoal_1 : cX1_hasGoal.data.toList.drop 24 = dktX1_hasGoal_1 := dk_seg dksX1_hasGoal_0 24 rfl rfl
theorem dksX1_hasGoal_2 : cX1_hasGoal.data.toList.drop 48 = dktX1_hasGoal_2 := dk_seg dksX1_hasGoal_1 24 rfl rfl
theorem dX1_hasGoal_0 : decode cX1_hasGoal 0 = .ok (.aload_n 0, 1) := dk_42 (dk_at dksX1_hasGoal_0 0 rfl rfl)
theorem dX1_hasGoal_1 : decode cX1_hasGoal 1 = .ok (.instanceof 167, 3) := dk_193 0 167 (dk_at dksX1_hasGoal_0 1 rfl rfl)
theorem dX1_hasGoal_4 : decode cX1_hasGoal 4 = .ok (.ifCond .eq 20, 3) := dk_153 0 20 (dk_at dksX1_hasGoal_0 4 rfl rfl)
theorem dX1_hasGoal_7 : decode cX1_hasGoal 7 = .ok (.aload_n 0, 1) := dk_42 (dk_at dksX1_hasGoal_0 7 rfl rfl)
theorem dX1_hasGoal_8 : decode cX1_hasGoal 8 = .ok (.checkcast 167, 3) := dk_192 0 167 (dk_at dksX1_hasGoal_0 8 rfl rfl)
theorem dX1_hasGoal_11 : decode cX1_hasGoal 11 = .ok (.astore_n 2, 1) := dk_77 (dk_at dksX1_hasGoal_0 11 rfl rfl)
theorem dX1_hasGoal_12 : decode cX1_hasGoal 12 = .ok (.aload_n 2, 1) := dk_44 (dk_at dksX1_hasGoal_0 12 rfl rfl)
theorem dX1_hasGoal_13 : decode cX1_hasGoal 13 = .ok (.invokeinterface 169 1, 5) := by decide +kernel
theorem dX1_hasGoal_18 : decode cX1_hasGoal 18 = .ok (.getfield 204, 3) := dk_180 0 204 (dk_at dksX1_hasGoal_0 18 rfl rfl)
theorem dX1_hasGoal_21 : decode cX1_hasGoal 21 = .ok (.ifCond .ne 27, 3) := dk_154 0 27 (dk_at dksX1_hasGoal_0 21 rfl rfl)
theorem dX1_hasGoal_24 : decode cX1_hasGoal 24 = .ok (.aload_n 0, 1) := dk_42 (dk_at dksX1_hasGoal_1 0 rfl rfl)
theorem dX1_hasGoal_25 : decode cX1_hasGoal 25 = .ok (.instanceof 178, 3) := dk_193 0 178 (dk_at dksX1_hasGoal_1 1 rfl rfl)
theorem dX1_hasGoal_28 : decode cX1_hasGoal 28 = .ok (.ifCond .eq 24, 3) := dk_153 0 24 (dk_at dksX1_hasGoal_1 4 rfl rfl)
theorem dX1_hasGoal_31 : decode cX1_hasGoal 31 = .ok (.aload_n 0, 1) := dk_42 (dk_at dksX1_hasGoal_1 7 rfl rfl)
theorem dX1_hasGoal_32 : decode cX1_hasGoal 32 = .ok (.checkcast 178, 3) := dk_192 0 178 (dk_at dksX1_hasGoal_1 8 rfl rfl)
theorem dX1_hasGoal_35 : decode cX1_hasGoal 35 = .ok (.astore_n 1, 1) := dk_76 (dk_at dksX1_hasGoal_1 11 rfl rfl)
theorem dX1_hasGoal_36 : decode cX1_hasGoal 36 = .ok (.aload_n 1, 1) := dk_43 (dk_at dksX1_hasGoal_1 12 rfl rfl)
theorem dX1_hasGoal_37 : decode cX1_hasGoal 37 = .ok (.invokeinterface 180 1, 5) := by decide +kernel
theorem dX1_hasGoal_42 : decode cX1_hasGoal 42 = .ok (.getfield 207, 3) := dk_180 0 207 (dk_at dksX1_hasGoal_1 18 rfl rfl)
theorem dX1_hasGoal_45 : decode cX1_hasGoal 45 = .ok (.ifCond .eq 7, 3) := dk_153 0 7 (dk_at dksX1_hasGoal_1 21 rfl rfl)
theorem dX1_hasGoal_48 : decode cX1_hasGoal 48 = .ok (.iconst 1, 1) := dk_4 (dk_at dksX1_hasGoal_2 0 rfl rfl)
theorem dX1_hasGoal_49 : decode cX1_hasGoal 49 = .ok (.goto 4, 3) := dk_167 0 4 (dk_at dksX1_hasGoal_2 1 rfl rfl)
theorem dX1_hasGoal_52 : decode cX1_hasGoal 52 = .ok (.iconst 0, 1) := dk_3 (dk_at dksX1_hasGoal_2 4 rfl rfl)
theorem dX1_hasGoal_53 : decode cX1_hasGoal 53 = .ok (.ireturn, 1) := dk_172 (dk_at dksX1_hasGoal_2 5 rfl rfl)
def dkwX1_isBright_2 : List UInt8 := [4, 167, 0, 4, 3, 172]
abbrev dktX1_isBright_2 : List UInt8 := dkwX1_isBright_2 ++ []
def dkwX1_isBright_1 : List UInt8 := [42, 193, 0, 219, 153, 0, 24, 42, 192, 0, 219, 76, 43, 185, 0, 221, 1, 0, 180, 0, 225, 153, 0, 7]
abbrev dktX1_isBright_1 : List UInt8 := dkwX1_isBright_1 ++ dktX1_isBright_2
def dkwX1_isBright_0 : List UInt8 := [42, 193, 0, 208, 153, 0, 20, 42, 192, 0, 208, 77, 44, 185, 0, 210, 1, 0, 180, 0, 214, 154, 0, 27]
abbrev dktX1_isBright_0 : List UInt8 := dkwX1_isBright_0 ++ dktX1_isBright_1
theorem dksX1_isBright_0 : cX1_isBright.data.toList.drop 0 = dktX1_isBright_0 := by decide +kernel
theorem dksX1_isBright_1 : cX1_isBright.data.toList.drop 24 = dktX1_isBright_1 := dk_seg dksX1_isBright_0 24 rfl rfl
theorem dksX1_isBright_2 : cX1_isBright.data.toList.drop 48 = dktX1_isBright_2 := dk_seg dksX1_isBright_1 24 rfl rfl
theorem dX1_isBright_0 : decode cX1_isBright 0 = .ok (.aload_n 0, 1) := dk_42 (dk_at dksX1_isBright_0 0 rfl rfl)
theorem dX1_isBright_1 : decode cX1_isBright 1 = .ok (.instanceof 208, 3) := dk_193 0 208 (dk_at dksX1_isBright_0 1 rfl rfl)
theorem dX1_isBright_4 : decode cX1_isBright 4 = .ok (.ifCond .eq 20, 3) := dk_153 0 20 (dk_at dksX1_isBright_0 4 rfl rfl)
theorem dX1_isBright_7 : decode cX1_isBright 7 = .ok (.aload_n 0, 1) := dk_42 (dk_at dksX1_isBright_0 7 rfl rfl)
theorem dX1_isBright_8 : decode cX1_isBright 8 = .ok (.checkcast 208, 3) := dk_192 0 208 (dk_at dksX1_isBright_0 8 rfl rfl)
theorem dX1_isBright_11 : decode cX1_isBright 11 = .ok (.astore_n 2, 1) := dk_77 (dk_at dksX1_isBright_0 11 rfl rfl)
theorem dX1_isBright_12 : decode cX1_isBright 12 = .ok (.aload_n 2, 1) := dk_44 (dk_at dksX1_isBright_0 12 rfl rfl)
theorem dX1_isBright_13 : decode cX1_isBright 13 = .ok (.invokeinterface 210 1, 5) := by decide +kernel
theorem dX1_isBright_18 : decode cX1_isBright 18 = .ok (.getfield 214, 3) := dk_180 0 214 (dk_at dksX1_isBright_0 18 rfl rfl)
theorem dX1_isBright_21 : decode cX1_isBright 21 = .ok (.ifCond .ne 27, 3) := dk_154 0 27 (dk_at dksX1_isBright_0 21 rfl rfl)
theorem dX1_isBright_24 : decode cX1_isBright 24 = .ok (.aload_n 0, 1) := dk_42 (dk_at dksX1_isBright_1 0 rfl rfl)
theorem dX1_isBright_25 : decode cX1_isBright 25 = .ok (.instanceof 219, 3) := dk_193 0 219 (dk_at dksX1_isBright_1 1 rfl rfl)
theorem dX1_isBright_28 : decode cX1_isBright 28 = .ok (.ifCond .eq 24, 3) := dk_153 0 24 (dk_at dksX1_isBright_1 4 rfl rfl)
theorem dX1_isBright_31 : decode cX1_isBright 31 = .ok (.aload_n 0, 1) := dk_42 (dk_at dksX1_isBright_1 7 rfl rfl)
theorem dX1_isBright_32 : decode cX1_isBright 32 = .ok (.checkcast 219, 3) := dk_192 0 219 (dk_at dksX1_isBright_1 8 rfl rfl)
theorem dX1_isBright_35 : decode cX1_isBright 35 = .ok (.astore_n 1, 1) := dk_76 (dk_at dksX1_isBright_1 11 rfl rfl)
theorem dX1_isBright_36 : decode cX1_isBright 36 = .ok (.aload_n 1, 1) := dk_43 (dk_at dksX1_isBright_1 12 rfl rfl)
theorem dX1_isBright_37 : decode cX1_isBright 37 = .ok (.invokeinterface 221 1, 5) := by decide +kernel
theorem dX1_isBright_42 : decode cX1_isBright 42 = .ok (.getfield 225, 3) := dk_180 0 225 (dk_at dksX1_isBright_1 18 rfl rfl)
theorem dX1_isBright_45 : decode cX1_isBright 45 = .ok (.ifCond .eq 7, 3) := dk_153 0 7 (dk_at dksX1_isBright_1 21 rfl rfl)
theorem dX1_isBright_48 : decode cX1_isBright 48 = .ok (.iconst 1, 1) := dk_4 (dk_at dksX1_isBright_2 0 rfl rfl)
theorem dX1_isBright_49 : decode cX1_isBright 49 = .ok (.goto 4, 3) := dk_167 0 4 (dk_at dksX1_isBright_2 1 rfl rfl)
theorem dX1_isBright_52 : decode cX1_isBright 52 = .ok (.iconst 0, 1) := dk_3 (dk_at dksX1_isBright_2 4 rfl rfl)
theorem dX1_isBright_53 : decode cX1_isBright 53 = .ok (.ireturn, 1) := dk_172 (dk_at dksX1_isBright_2 5 rfl rfl)
def dkwX1_measure_8 : List UInt8 := [6, 100, 184, 1, 171, 172]
abbrev dktX1_measure_8 : List UInt8 := dkwX1_measure_8 ++ []
def dkwX1_measure_7 : List UInt8 := [185, 0, 197, 1, 0, 180, 1, 175, 167, 0, 4, 3, 172, 45, 28, 8, 160, 0, 7, 5, 167, 0, 6, 28]
abbrev dktX1_measure_7 : List UInt8 := dkwX1_measure_7 ++ dktX1_measure_8
def dkwX1_measure_6 : List UInt8 := [167, 0, 4, 3, 172, 45, 193, 0, 195, 153, 0, 22, 45, 192, 0, 195, 58, 4, 25, 4]
abbrev dktX1_measure_6 : List UInt8 := dkwX1_measure_6 ++ dktX1_measure_7
def dkwX1_measure_5 : List UInt8 := [193, 0, 178, 153, 0, 22, 45, 192, 0, 178, 58, 4, 25, 4, 185, 0, 180, 1, 0, 180, 0, 207]
abbrev dktX1_measure_5 : List UInt8 := dkwX1_measure_5 ++ dktX1_measure_6
def dkwX1_measure_4 : List UInt8 := [25, 4, 185, 0, 169, 1, 0, 180, 0, 204, 167, 0, 4, 3, 172, 45, 4, 184, 1, 171, 172, 45]
abbrev dktX1_measure_4 : List UInt8 := dkwX1_measure_4 ++ dktX1_measure_5
def dkwX1_measure_3 : List UInt8 := [45, 180, 1, 170, 172, 45, 3, 184, 1, 171, 172, 45, 193, 0, 167, 153, 0, 22, 45, 192, 0, 167, 58, 4]
abbrev dktX1_measure_3 : List UInt8 := dkwX1_measure_3 ++ dktX1_measure_4
def dkwX1_measure_2 : List UInt8 := [170, 0, 0, 0, 0, 0, 160, 0, 0, 0, 0, 0, 0, 0, 10, 0, 0, 0, 59, 0, 0, 0, 64, 0, 0, 0, 70, 0, 0, 0, 98, 0, 0, 0, 104, 0, 0, 0, 160, 0, 0, 0, 160, 0, 0, 0, 160, 0, 0, 0, 160, 0, 0, 0, 160, 0, 0, 0, 132]
abbrev dktX1_measure_2 : List UInt8 := dkwX1_measure_2 ++ dktX1_measure_3
def dkwX1_measure_1 : List UInt8 := [3, 184, 0, 100, 28]
abbrev dktX1_measure_1 : List UInt8 := dkwX1_measure_1 ++ dktX1_measure_2
def dkwX1_measure_0 : List UInt8 := [42, 182, 0, 236, 42, 27, 182, 1, 162, 78, 28, 155, 0, 13, 28, 16, 10, 163, 0, 7, 4, 167, 0, 4]
abbrev dktX1_measure_0 : List UInt8 := dkwX1_measure_0 ++ dktX1_measure_1
theorem dksX1_measure_0 : cX1_measure.data.toList.drop 0 = dktX1_measure_0 := by decide +kernel
theorem dksX1_measure_1 : cX1_measure.data.toList.drop 24 = dktX1_measure_1 := dk_seg dksX1_measure_0 24 rfl rfl
theorem dksX1_measure_2 : cX1_measure.data.toList.drop 29 = dktX1_measure_2 := dk_seg dksX1_measure_1 5 rfl rfl
theorem dksX1_measure_3 : cX1_measure.data.toList.drop 88 = dktX1_measure_3 := dk_seg dksX1_measure_2 59 rfl rfl
theorem dksX1_measure_4 : cX1_measure.data.toList.drop 112 = dktX1_measure_4 := dk_seg dksX1_measure_3 24 rfl rfl
theorem dksX1_measure_5 : cX1_measure.data.toList.drop 134 = dktX1_measure_5 := dk_seg dksX1_measure_4 22 rfl rfl
theorem dksX1_measure_6 : cX1_measure.data.toList.drop 156 = dktX1_measure_6 := dk_seg dksX1_measure_5 22 rfl rfl
theorem dksX1_measure_7 : cX1_measure.data.toList.drop 176 = dktX1_measure_7 := dk_seg dksX1_measure_6 20 rfl rfl
theorem dksX1_measure_8 : cX1_measure.data.toList.drop 200 = dktX1_measure_8 := dk_seg dksX1_measure_7 24 rfl rfl
theorem dX1_measure_0 : decode cX1_measure 0 = .ok (.aload_n 0, 1) := dk_42 (dk_at dksX1_measure_0 0 rfl rfl)
theorem dX1_measure_1 : decode cX1_measure 1 = .ok (.invokevirtual 236, 3) := dk_182 0 236 (dk_at dksX1_measure_0 1 rfl rfl)
theorem dX1_measure_4 : decode cX1_measure 4 = .ok (.aload_n 0, 1) := dk_42 (dk_at dksX1_measure_0 4 rfl rfl)
theorem dX1_measure_5 : decode cX1_measure 5 = .ok (.iload_n 1, 1) := dk_27 (dk_at dksX1_measure_0 5 rfl rfl)
theorem dX1_measure_6 : decode cX1_measure 6 = .ok (.invokevirtual 418, 3) := dk_182 1 162 (dk_at dksX1_measure_0 6 rfl rfl)
theorem dX1_measure_9 : decode cX1_measure 9 = .ok (.astore_n 3, 1) := dk_78 (dk_at dksX1_measure_0 9 rfl rfl)
theorem dX1_measure_10 : decode cX1_measure 10 = .ok (.iload_n 2, 1) := dk_28 (dk_at dksX1_measure_0 10 rfl rfl)
theorem dX1_measure_11 : decode cX1_measure 11 = .ok (.ifCond .lt 13, 3) := dk_155 0 13 (dk_at dksX1_measure_0 11 rfl rfl)
theorem dX1_measure_14 : decode cX1_measure 14 = .ok (.iload_n 2, 1) := dk_28 (dk_at dksX1_measure_0 14 rfl rfl)
theorem dX1_measure_15 : decode cX1_measure 15 = .ok (.bipush 10, 2) := dk_16 10 (dk_at dksX1_measure_0 15 rfl rfl)
theorem dX1_measure_17 : decode cX1_measure 17 = .ok (.if_icmp .gt 7, 3) := dk_163 0 7 (dk_at dksX1_measure_0 17 rfl rfl)
theorem dX1_measure_20 : decode cX1_measure 20 = .ok (.iconst 1, 1) := dk_4 (dk_at dksX1_measure_0 20 rfl rfl)
theorem dX1_measure_21 : decode cX1_measure 21 = .ok (.goto 4, 3) := dk_167 0 4 (dk_at dksX1_measure_0 21 rfl rfl)
theorem dX1_measure_24 : decode cX1_measure 24 = .ok (.iconst 0, 1) := dk_3 (dk_at dksX1_measure_1 0 rfl rfl)
theorem dX1_measure_25 : decode cX1_measure 25 = .ok (.invokestatic 100, 3) := dk_184 0 100 (dk_at dksX1_measure_1 1 rfl rfl)
theorem dX1_measure_28 : decode cX1_measure 28 = .ok (.iload_n 2, 1) := dk_28 (dk_at dksX1_measure_1 4 rfl rfl)
theorem dX1_measure_29 : decode cX1_measure 29 = .ok (.tableswitch 160 0 10 #[59, 64, 70, 98, 104, 160, 160, 160, 160, 160, 132], 59) := by decide +kernel
theorem dX1_measure_88 : decode cX1_measure 88 = .ok (.aload_n 3, 1) := dk_45 (dk_at dksX1_measure_3 0 rfl rfl)
theorem dX1_measure_89 : decode cX1_measure 89 = .ok (.getfield 426, 3) := dk_180 1 170 (dk_at dksX1_measure_3 1 rfl rfl)
theorem dX1_measure_92 : decode cX1_measure 92 = .ok (.ireturn, 1) := dk_172 (dk_at dksX1_measure_3 4 rfl rfl)
theorem dX1_measure_93 : decode cX1_measure 93 = .ok (.aload_n 3, 1) := dk_45 (dk_at dksX1_measure_3 5 rfl rfl)
theorem dX1_measure_94 : decode cX1_measure 94 = .ok (.iconst 0, 1) := dk_3 (dk_at dksX1_measure_3 6 rfl rfl)
theorem dX1_measure_95 : decode cX1_measure 95 = .ok (.invokestatic 427, 3) := dk_184 1 171 (dk_at dksX1_measure_3 7 rfl rfl)
theorem dX1_measure_98 : decode cX1_measure 98 = .ok (.ireturn, 1) := dk_172 (dk_at dksX1_measure_3 10 rfl rfl)
theorem dX1_measure_99 : decode cX1_measure 99 = .ok (.aload_n 3, 1) := dk_45 (dk_at dksX1_measure_3 11 rfl rfl)
theorem dX1_measure_100 : decode cX1_measure 100 = .ok (.instanceof 167, 3) := dk_193 0 167 (dk_at dksX1_measure_3 12 rfl rfl)
theorem dX1_measure_103 : decode cX1_measure 103 = .ok (.ifCond .eq 22, 3) := dk_153 0 22 (dk_at dksX1_measure_3 15 rfl rfl)
theorem dX1_measure_106 : decode cX1_measure 106 = .ok (.aload_n 3, 1) := dk_45 (dk_at dksX1_measure_3 18 rfl rfl)
theorem dX1_measure_107 : decode cX1_measure 107 = .ok (.checkcast 167, 3) := dk_192 0 167 (dk_at dksX1_measure_3 19 rfl rfl)
theorem dX1_measure_110 : decode cX1_measure 110 = .ok (.astore 4, 2) := dk_58 4 (dk_at dksX1_measure_3 22 rfl rfl)
theorem dX1_measure_112 : decode cX1_measure 112 = .ok (.aload 4, 2) := dk_25 4 (dk_at dksX1_measure_4 0 rfl rfl)
theorem dX1_measure_114 : decode cX1_measure 114 = .ok (.invokeinterface 169 1, 5) := by decide +kernel
theorem dX1_measure_119 : decode cX1_measure 119 = .ok (.getfield 204, 3) := dk_180 0 204 (dk_at dksX1_measure_4 7 rfl rfl)
theorem dX1_measure_122 : decode cX1_measure 122 = .ok (.goto 4, 3) := dk_167 0 4 (dk_at dksX1_measure_4 10 rfl rfl)
theorem dX1_measure_125 : decode cX1_measure 125 = .ok (.iconst 0, 1) := dk_3 (dk_at dksX1_measure_4 13 rfl rfl)
theorem dX1_measure_126 : decode cX1_measure 126 = .ok (.ireturn, 1) := dk_172 (dk_at dksX1_measure_4 14 rfl rfl)
theorem dX1_measure_127 : decode cX1_measure 127 = .ok (.aload_n 3, 1) := dk_45 (dk_at dksX1_measure_4 15 rfl rfl)
theorem dX1_measure_128 : decode cX1_measure 128 = .ok (.iconst 1, 1) := dk_4 (dk_at dksX1_measure_4 16 rfl rfl)
theorem dX1_measure_129 : decode cX1_measure 129 = .ok (.invokestatic 427, 3) := dk_184 1 171 (dk_at dksX1_measure_4 17 rfl rfl)
theorem dX1_measure_132 : decode cX1_measure 132 = .ok (.ireturn, 1) := dk_172 (dk_at dksX1_measure_4 20 rfl rfl)
theorem dX1_measure_133 : decode cX1_measure 133 = .ok (.aload_n 3, 1) := dk_45 (dk_at dksX1_measure_4 21 rfl rfl)
theorem dX1_measure_134 : decode cX1_measure 134 = .ok (.instanceof 178, 3) := dk_193 0 178 (dk_at dksX1_measure_5 0 rfl rfl)
theorem dX1_measure_137 : decode cX1_measure 137 = .ok (.ifCond .eq 22, 3) := dk_153 0 22 (dk_at dksX1_measure_5 3 rfl rfl)
theorem dX1_measure_140 : decode cX1_measure 140 = .ok (.aload_n 3, 1) := dk_45 (dk_at dksX1_measure_5 6 rfl rfl)
theorem dX1_measure_141 : decode cX1_measure 141 = .ok (.checkcast 178, 3) := dk_192 0 178 (dk_at dksX1_measure_5 7 rfl rfl)
theorem dX1_measure_144 : decode cX1_measure 144 = .ok (.astore 4, 2) := dk_58 4 (dk_at dksX1_measure_5 10 rfl rfl)
theorem dX1_measure_146 : decode cX1_measure 146 = .ok (.aload 4, 2) := dk_25 4 (dk_at dksX1_measure_5 12 rfl rfl)
theorem dX1_measure_148 : decode cX1_measure 148 = .ok (.invokeinterface 180 1, 5) := by decide +kernel
theorem dX1_measure_153 : decode cX1_measure 153 = .ok (.getfield 207, 3) := dk_180 0 207 (dk_at dksX1_measure_5 19 rfl rfl)
theorem dX1_measure_156 : decode cX1_measure 156 = .ok (.goto 4, 3) := dk_167 0 4 (dk_at dksX1_measure_6 0 rfl rfl)
theorem dX1_measure_159 : decode cX1_measure 159 = .ok (.iconst 0, 1) := dk_3 (dk_at dksX1_measure_6 3 rfl rfl)
theorem dX1_measure_160 : decode cX1_measure 160 = .ok (.ireturn, 1) := dk_172 (dk_at dksX1_measure_6 4 rfl rfl)
theorem dX1_measure_161 : decode cX1_measure 161 = .ok (.aload_n 3, 1) := dk_45 (dk_at dksX1_measure_6 5 rfl rfl)
theorem dX1_measure_162 : decode cX1_measure 162 = .ok (.instanceof 195, 3) := dk_193 0 195 (dk_at dksX1_measure_6 6 rfl rfl)
theorem dX1_measure_165 : decode cX1_measure 165 = .ok (.ifCond .eq 22, 3) := dk_153 0 22 (dk_at dksX1_measure_6 9 rfl rfl)
theorem dX1_measure_168 : decode cX1_measure 168 = .ok (.aload_n 3, 1) := dk_45 (dk_at dksX1_measure_6 12 rfl rfl)
theorem dX1_measure_169 : decode cX1_measure 169 = .ok (.checkcast 195, 3) := dk_192 0 195 (dk_at dksX1_measure_6 13 rfl rfl)
theorem dX1_measure_172 : decode cX1_measure 172 = .ok (.astore 4, 2) := dk_58 4 (dk_at dksX1_measure_6 16 rfl rfl)
theorem dX1_measure_174 : decode cX1_measure 174 = .ok (.aload 4, 2) := dk_25 4 (dk_at dksX1_measure_6 18 rfl rfl)
theorem dX1_measure_176 : decode cX1_measure 176 = .ok (.invokeinterface 197 1, 5) := by decide +kernel
theorem dX1_measure_181 : decode cX1_measure 181 = .ok (.getfield 431, 3) := dk_180 1 175 (dk_at dksX1_measure_7 5 rfl rfl)
theorem dX1_measure_184 : decode cX1_measure 184 = .ok (.goto 4, 3) := dk_167 0 4 (dk_at dksX1_measure_7 8 rfl rfl)
theorem dX1_measure_187 : decode cX1_measure 187 = .ok (.iconst 0, 1) := dk_3 (dk_at dksX1_measure_7 11 rfl rfl)
theorem dX1_measure_188 : decode cX1_measure 188 = .ok (.ireturn, 1) := dk_172 (dk_at dksX1_measure_7 12 rfl rfl)
theorem dX1_measure_189 : decode cX1_measure 189 = .ok (.aload_n 3, 1) := dk_45 (dk_at dksX1_measure_7 13 rfl rfl)
theorem dX1_measure_190 : decode cX1_measure 190 = .ok (.iload_n 2, 1) := dk_28 (dk_at dksX1_measure_7 14 rfl rfl)
theorem dX1_measure_191 : decode cX1_measure 191 = .ok (.iconst 5, 1) := dk_8 (dk_at dksX1_measure_7 15 rfl rfl)
theorem dX1_measure_192 : decode cX1_measure 192 = .ok (.if_icmp .ne 7, 3) := dk_160 0 7 (dk_at dksX1_measure_7 16 rfl rfl)
theorem dX1_measure_195 : decode cX1_measure 195 = .ok (.iconst 2, 1) := dk_5 (dk_at dksX1_measure_7 19 rfl rfl)
theorem dX1_measure_196 : decode cX1_measure 196 = .ok (.goto 6, 3) := dk_167 0 6 (dk_at dksX1_measure_7 20 rfl rfl)
theorem dX1_measure_199 : decode cX1_measure 199 = .ok (.iload_n 2, 1) := dk_28 (dk_at dksX1_measure_7 23 rfl rfl)
theorem dX1_measure_200 : decode cX1_measure 200 = .ok (.iconst 3, 1) := dk_6 (dk_at dksX1_measure_8 0 rfl rfl)
theorem dX1_measure_201 : decode cX1_measure 201 = .ok (.isub, 1) := dk_100 (dk_at dksX1_measure_8 1 rfl rfl)
theorem dX1_measure_202 : decode cX1_measure 202 = .ok (.invokestatic 427, 3) := dk_184 1 171 (dk_at dksX1_measure_8 2 rfl rfl)
theorem dX1_measure_205 : decode cX1_measure 205 = .ok (.ireturn, 1) := dk_172 (dk_at dksX1_measure_8 5 rfl rfl)
def dkwX1_says_4 : List UInt8 := [185, 1, 150, 1, 0, 153, 0, 7, 4, 167, 0, 4, 3, 172, 45, 185, 1, 9, 1, 0, 172]
abbrev dktX1_says_4 : List UInt8 := dkwX1_says_4 ++ []
def dkwX1_says_3 : List UInt8 := [45, 185, 1, 32, 1, 0, 172, 45, 185, 1, 178, 1, 0, 172, 45, 185, 1, 23, 1, 0, 172, 45]
abbrev dktX1_says_3 : List UInt8 := dkwX1_says_3 ++ dktX1_says_4
def dkwX1_says_2 : List UInt8 := [170, 0, 0, 0, 0, 0, 0, 68, 0, 0, 0, 0, 0, 0, 0, 3, 0, 0, 0, 32, 0, 0, 0, 39, 0, 0, 0, 46, 0, 0, 0, 53]
abbrev dktX1_says_2 : List UInt8 := dkwX1_says_2 ++ dktX1_says_3
def dkwX1_says_1 : List UInt8 := [184, 0, 100, 28]
abbrev dktX1_says_1 : List UInt8 := dkwX1_says_1 ++ dktX1_says_2
def dkwX1_says_0 : List UInt8 := [42, 182, 0, 236, 42, 27, 182, 1, 162, 78, 28, 155, 0, 12, 28, 7, 163, 0, 7, 4, 167, 0, 4, 3]
abbrev dktX1_says_0 : List UInt8 := dkwX1_says_0 ++ dktX1_says_1
theorem dksX1_says_0 : cX1_says.data.toList.drop 0 = dktX1_says_0 := by decide +kernel
theorem dksX1_says_1 : cX1_says.data.toList.drop 24 = dktX1_says_1 := dk_seg dksX1_says_0 24 rfl rfl
theorem dksX1_says_2 : cX1_says.data.toList.drop 28 = dktX1_says_2 := dk_seg dksX1_says_1 4 rfl rfl
theorem dksX1_says_3 : cX1_says.data.toList.drop 60 = dktX1_says_3 := dk_seg dksX1_says_2 32 rfl rfl
theorem dksX1_says_4 : cX1_says.data.toList.drop 82 = dktX1_says_4 := dk_seg dksX1_says_3 22 rfl rfl
theorem dX1_says_0 : decode cX1_says 0 = .ok (.aload_n 0, 1) := dk_42 (dk_at dksX1_says_0 0 rfl rfl)
theorem dX1_says_1 : decode cX1_says 1 = .ok (.invokevirtual 236, 3) := dk_182 0 236 (dk_at dksX1_says_0 1 rfl rfl)
theorem dX1_says_4 : decode cX1_says 4 = .ok (.aload_n 0, 1) := dk_42 (dk_at dksX1_says_0 4 rfl rfl)
theorem dX1_says_5 : decode cX1_says 5 = .ok (.iload_n 1, 1) := dk_27 (dk_at dksX1_says_0 5 rfl rfl)
theorem dX1_says_6 : decode cX1_says 6 = .ok (.invokevirtual 418, 3) := dk_182 1 162 (dk_at dksX1_says_0 6 rfl rfl)
theorem dX1_says_9 : decode cX1_says 9 = .ok (.astore_n 3, 1) := dk_78 (dk_at dksX1_says_0 9 rfl rfl)
theorem dX1_says_10 : decode cX1_says 10 = .ok (.iload_n 2, 1) := dk_28 (dk_at dksX1_says_0 10 rfl rfl)
theorem dX1_says_11 : decode cX1_says 11 = .ok (.ifCond .lt 12, 3) := dk_155 0 12 (dk_at dksX1_says_0 11 rfl rfl)
theorem dX1_says_14 : decode cX1_says 14 = .ok (.iload_n 2, 1) := dk_28 (dk_at dksX1_says_0 14 rfl rfl)
theorem dX1_says_15 : decode cX1_says 15 = .ok (.iconst 4, 1) := dk_7 (dk_at dksX1_says_0 15 rfl rfl)
theorem dX1_says_16 : decode cX1_says 16 = .ok (.if_icmp .gt 7, 3) := dk_163 0 7 (dk_at dksX1_says_0 16 rfl rfl)
theorem dX1_says_19 : decode cX1_says 19 = .ok (.iconst 1, 1) := dk_4 (dk_at dksX1_says_0 19 rfl rfl)
theorem dX1_says_20 : decode cX1_says 20 = .ok (.goto 4, 3) := dk_167 0 4 (dk_at dksX1_says_0 20 rfl rfl)
theorem dX1_says_23 : decode cX1_says 23 = .ok (.iconst 0, 1) := dk_3 (dk_at dksX1_says_0 23 rfl rfl)
theorem dX1_says_24 : decode cX1_says 24 = .ok (.invokestatic 100, 3) := dk_184 0 100 (dk_at dksX1_says_1 0 rfl rfl)
theorem dX1_says_27 : decode cX1_says 27 = .ok (.iload_n 2, 1) := dk_28 (dk_at dksX1_says_1 3 rfl rfl)
theorem dX1_says_28 : decode cX1_says 28 = .ok (.tableswitch 68 0 3 #[32, 39, 46, 53], 32) := by decide +kernel
theorem dX1_says_60 : decode cX1_says 60 = .ok (.aload_n 3, 1) := dk_45 (dk_at dksX1_says_3 0 rfl rfl)
theorem dX1_says_61 : decode cX1_says 61 = .ok (.invokeinterface 288 1, 5) := by decide +kernel
theorem dX1_says_66 : decode cX1_says 66 = .ok (.ireturn, 1) := dk_172 (dk_at dksX1_says_3 6 rfl rfl)
theorem dX1_says_67 : decode cX1_says 67 = .ok (.aload_n 3, 1) := dk_45 (dk_at dksX1_says_3 7 rfl rfl)
theorem dX1_says_68 : decode cX1_says 68 = .ok (.invokeinterface 434 1, 5) := by decide +kernel
theorem dX1_says_73 : decode cX1_says 73 = .ok (.ireturn, 1) := dk_172 (dk_at dksX1_says_3 13 rfl rfl)
theorem dX1_says_74 : decode cX1_says 74 = .ok (.aload_n 3, 1) := dk_45 (dk_at dksX1_says_3 14 rfl rfl)
theorem dX1_says_75 : decode cX1_says 75 = .ok (.invokeinterface 279 1, 5) := by decide +kernel
theorem dX1_says_80 : decode cX1_says 80 = .ok (.ireturn, 1) := dk_172 (dk_at dksX1_says_3 20 rfl rfl)
theorem dX1_says_81 : decode cX1_says 81 = .ok (.aload_n 3, 1) := dk_45 (dk_at dksX1_says_3 21 rfl rfl)
theorem dX1_says_82 : decode cX1_says 82 = .ok (.invokeinterface 406 1, 5) := by decide +kernel
theorem dX1_says_87 : decode cX1_says 87 = .ok (.ifCond .eq 7, 3) := dk_153 0 7 (dk_at dksX1_says_4 5 rfl rfl)
theorem dX1_says_90 : decode cX1_says 90 = .ok (.iconst 1, 1) := dk_4 (dk_at dksX1_says_4 8 rfl rfl)
theorem dX1_says_91 : decode cX1_says 91 = .ok (.goto 4, 3) := dk_167 0 4 (dk_at dksX1_says_4 9 rfl rfl)
theorem dX1_says_94 : decode cX1_says 94 = .ok (.iconst 0, 1) := dk_3 (dk_at dksX1_says_4 12 rfl rfl)
theorem dX1_says_95 : decode cX1_says 95 = .ok (.ireturn, 1) := dk_172 (dk_at dksX1_says_4 13 rfl rfl)
theorem dX1_says_96 : decode cX1_says 96 = .ok (.aload_n 3, 1) := dk_45 (dk_at dksX1_says_4 14 rfl rfl)
theorem dX1_says_97 : decode cX1_says 97 = .ok (.invokeinterface 265 1, 5) := by decide +kernel
theorem dX1_says_102 : decode cX1_says 102 = .ok (.ireturn, 1) := dk_172 (dk_at dksX1_says_4 20 rfl rfl)
def dkwX1_script_4 : List UInt8 := [28, 7, 100, 46, 172]
abbrev dktX1_script_4 : List UInt8 := dkwX1_script_4 ++ []
def dkwX1_script_3 : List UInt8 := [45, 180, 1, 16, 172, 45, 180, 1, 49, 172, 45, 182, 1, 181, 172, 45, 180, 1, 68, 172, 45, 180, 1, 127]
abbrev dktX1_script_3 : List UInt8 := dkwX1_script_3 ++ dktX1_script_4
def dkwX1_script_2 : List UInt8 := [170, 0, 0, 0, 0, 0, 0, 52, 0, 0, 0, 0, 0, 0, 0, 3, 0, 0, 0, 32, 0, 0, 0, 37, 0, 0, 0, 42, 0, 0, 0, 47]
abbrev dktX1_script_2 : List UInt8 := dkwX1_script_2 ++ dktX1_script_3
def dkwX1_script_1 : List UInt8 := [167, 0, 4, 3, 184, 0, 100, 28]
abbrev dktX1_script_1 : List UInt8 := dkwX1_script_1 ++ dktX1_script_2
def dkwX1_script_0 : List UInt8 := [42, 182, 0, 236, 42, 27, 182, 1, 162, 180, 0, 154, 78, 28, 155, 0, 13, 28, 16, 7, 163, 0, 7, 4]
abbrev dktX1_script_0 : List UInt8 := dkwX1_script_0 ++ dktX1_script_1
theorem dksX1_script_0 : cX1_script.data.toList.drop 0 = dktX1_script_0 := by decide +kernel
theorem dksX1_script_1 : cX1_script.data.toList.drop 24 = dktX1_script_1 := dk_seg dksX1_script_0 24 rfl rfl
theorem dksX1_script_2 : cX1_script.data.toList.drop 32 = dktX1_script_2 := dk_seg dksX1_script_1 8 rfl rfl
theorem dksX1_script_3 : cX1_script.data.toList.drop 64 = dktX1_script_3 := dk_seg dksX1_script_2 32 rfl rfl
theorem dksX1_script_4 : cX1_script.data.toList.drop 88 = dktX1_script_4 := dk_seg dksX1_script_3 24 rfl rfl
theorem dX1_script_0 : decode cX1_script 0 = .ok (.aload_n 0, 1) := dk_42 (dk_at dksX1_script_0 0 rfl rfl)
theorem dX1_script_1 : decode cX1_script 1 = .ok (.invokevirtual 236, 3) := dk_182 0 236 (dk_at dksX1_script_0 1 rfl rfl)
theorem dX1_script_4 : decode cX1_script 4 = .ok (.aload_n 0, 1) := dk_42 (dk_at dksX1_script_0 4 rfl rfl)
theorem dX1_script_5 : decode cX1_script 5 = .ok (.iload_n 1, 1) := dk_27 (dk_at dksX1_script_0 5 rfl rfl)
theorem dX1_script_6 : decode cX1_script 6 = .ok (.invokevirtual 418, 3) := dk_182 1 162 (dk_at dksX1_script_0 6 rfl rfl)
theorem dX1_script_9 : decode cX1_script 9 = .ok (.getfield 154, 3) := dk_180 0 154 (dk_at dksX1_script_0 9 rfl rfl)
theorem dX1_script_12 : decode cX1_script 12 = .ok (.astore_n 3, 1) := dk_78 (dk_at dksX1_script_0 12 rfl rfl)
theorem dX1_script_13 : decode cX1_script 13 = .ok (.iload_n 2, 1) := dk_28 (dk_at dksX1_script_0 13 rfl rfl)
theorem dX1_script_14 : decode cX1_script 14 = .ok (.ifCond .lt 13, 3) := dk_155 0 13 (dk_at dksX1_script_0 14 rfl rfl)
theorem dX1_script_17 : decode cX1_script 17 = .ok (.iload_n 2, 1) := dk_28 (dk_at dksX1_script_0 17 rfl rfl)
theorem dX1_script_18 : decode cX1_script 18 = .ok (.bipush 7, 2) := dk_16 7 (dk_at dksX1_script_0 18 rfl rfl)
theorem dX1_script_20 : decode cX1_script 20 = .ok (.if_icmp .gt 7, 3) := dk_163 0 7 (dk_at dksX1_script_0 20 rfl rfl)
theorem dX1_script_23 : decode cX1_script 23 = .ok (.iconst 1, 1) := dk_4 (dk_at dksX1_script_0 23 rfl rfl)
theorem dX1_script_24 : decode cX1_script 24 = .ok (.goto 4, 3) := dk_167 0 4 (dk_at dksX1_script_1 0 rfl rfl)
theorem dX1_script_27 : decode cX1_script 27 = .ok (.iconst 0, 1) := dk_3 (dk_at dksX1_script_1 3 rfl rfl)
theorem dX1_script_28 : decode cX1_script 28 = .ok (.invokestatic 100, 3) := dk_184 0 100 (dk_at dksX1_script_1 4 rfl rfl)
theorem dX1_script_31 : decode cX1_script 31 = .ok (.iload_n 2, 1) := dk_28 (dk_at dksX1_script_1 7 rfl rfl)
theorem dX1_script_32 : decode cX1_script 32 = .ok (.tableswitch 52 0 3 #[32, 37, 42, 47], 32) := by decide +kernel
theorem dX1_script_64 : decode cX1_script 64 = .ok (.aload_n 3, 1) := dk_45 (dk_at dksX1_script_3 0 rfl rfl)
theorem dX1_script_65 : decode cX1_script 65 = .ok (.getfield 272, 3) := dk_180 1 16 (dk_at dksX1_script_3 1 rfl rfl)
theorem dX1_script_68 : decode cX1_script 68 = .ok (.ireturn, 1) := dk_172 (dk_at dksX1_script_3 4 rfl rfl)
theorem dX1_script_69 : decode cX1_script 69 = .ok (.aload_n 3, 1) := dk_45 (dk_at dksX1_script_3 5 rfl rfl)
theorem dX1_script_70 : decode cX1_script 70 = .ok (.getfield 305, 3) := dk_180 1 49 (dk_at dksX1_script_3 6 rfl rfl)
theorem dX1_script_73 : decode cX1_script 73 = .ok (.ireturn, 1) := dk_172 (dk_at dksX1_script_3 9 rfl rfl)
theorem dX1_script_74 : decode cX1_script 74 = .ok (.aload_n 3, 1) := dk_45 (dk_at dksX1_script_3 10 rfl rfl)
theorem dX1_script_75 : decode cX1_script 75 = .ok (.invokevirtual 437, 3) := dk_182 1 181 (dk_at dksX1_script_3 11 rfl rfl)
theorem dX1_script_78 : decode cX1_script 78 = .ok (.ireturn, 1) := dk_172 (dk_at dksX1_script_3 14 rfl rfl)
theorem dX1_script_79 : decode cX1_script 79 = .ok (.aload_n 3, 1) := dk_45 (dk_at dksX1_script_3 15 rfl rfl)
theorem dX1_script_80 : decode cX1_script 80 = .ok (.getfield 324, 3) := dk_180 1 68 (dk_at dksX1_script_3 16 rfl rfl)
theorem dX1_script_83 : decode cX1_script 83 = .ok (.ireturn, 1) := dk_172 (dk_at dksX1_script_3 19 rfl rfl)
theorem dX1_script_84 : decode cX1_script 84 = .ok (.aload_n 3, 1) := dk_45 (dk_at dksX1_script_3 20 rfl rfl)
theorem dX1_script_85 : decode cX1_script 85 = .ok (.getfield 383, 3) := dk_180 1 127 (dk_at dksX1_script_3 21 rfl rfl)
theorem dX1_script_88 : decode cX1_script 88 = .ok (.iload_n 2, 1) := dk_28 (dk_at dksX1_script_4 0 rfl rfl)
theorem dX1_script_89 : decode cX1_script 89 = .ok (.iconst 4, 1) := dk_7 (dk_at dksX1_script_4 1 rfl rfl)
theorem dX1_script_90 : decode cX1_script 90 = .ok (.isub, 1) := dk_100 (dk_at dksX1_script_4 2 rfl rfl)
theorem dX1_script_91 : decode cX1_script 91 = .ok (.iaload, 1) := dk_46 (dk_at dksX1_script_4 3 rfl rfl)
theorem dX1_script_92 : decode cX1_script 92 = .ok (.ireturn, 1) := dk_172 (dk_at dksX1_script_4 4 rfl rfl)
def dkwX1_free_1 : List UInt8 := [184, 0, 100, 42, 180, 0, 45, 27, 46, 172]
abbrev dktX1_free_1 : List UInt8 := dkwX1_free_1 ++ []
def dkwX1_free_0 : List UInt8 := [42, 182, 0, 236, 27, 155, 0, 18, 27, 42, 180, 0, 75, 180, 0, 113, 162, 0, 7, 4, 167, 0, 4, 3]
abbrev dktX1_free_0 : List UInt8 := dkwX1_free_0 ++ dktX1_free_1
theorem dksX1_free_0 : cX1_free.data.toList.drop 0 = dktX1_free_0 := by decide +kernel
theorem dksX1_free_1 : cX1_free.data.toList.drop 24 = dktX1_free_1 := dk_seg dksX1_free_0 24 rfl rfl
theorem dX1_free_0 : decode cX1_free 0 = .ok (.aload_n 0, 1) := dk_42 (dk_at dksX1_free_0 0 rfl rfl)
theorem dX1_free_1 : decode cX1_free 1 = .ok (.invokevirtual 236, 3) := dk_182 0 236 (dk_at dksX1_free_0 1 rfl rfl)
theorem dX1_free_4 : decode cX1_free 4 = .ok (.iload_n 1, 1) := dk_27 (dk_at dksX1_free_0 4 rfl rfl)
theorem dX1_free_5 : decode cX1_free 5 = .ok (.ifCond .lt 18, 3) := dk_155 0 18 (dk_at dksX1_free_0 5 rfl rfl)
theorem dX1_free_8 : decode cX1_free 8 = .ok (.iload_n 1, 1) := dk_27 (dk_at dksX1_free_0 8 rfl rfl)
theorem dX1_free_9 : decode cX1_free 9 = .ok (.aload_n 0, 1) := dk_42 (dk_at dksX1_free_0 9 rfl rfl)
theorem dX1_free_10 : decode cX1_free 10 = .ok (.getfield 75, 3) := dk_180 0 75 (dk_at dksX1_free_0 10 rfl rfl)
theorem dX1_free_13 : decode cX1_free 13 = .ok (.getfield 113, 3) := dk_180 0 113 (dk_at dksX1_free_0 13 rfl rfl)
theorem dX1_free_16 : decode cX1_free 16 = .ok (.if_icmp .ge 7, 3) := dk_162 0 7 (dk_at dksX1_free_0 16 rfl rfl)
theorem dX1_free_19 : decode cX1_free 19 = .ok (.iconst 1, 1) := dk_4 (dk_at dksX1_free_0 19 rfl rfl)
theorem dX1_free_20 : decode cX1_free 20 = .ok (.goto 4, 3) := dk_167 0 4 (dk_at dksX1_free_0 20 rfl rfl)
theorem dX1_free_23 : decode cX1_free 23 = .ok (.iconst 0, 1) := dk_3 (dk_at dksX1_free_0 23 rfl rfl)
theorem dX1_free_24 : decode cX1_free 24 = .ok (.invokestatic 100, 3) := dk_184 0 100 (dk_at dksX1_free_1 0 rfl rfl)
theorem dX1_free_27 : decode cX1_free 27 = .ok (.aload_n 0, 1) := dk_42 (dk_at dksX1_free_1 3 rfl rfl)
theorem dX1_free_28 : decode cX1_free 28 = .ok (.getfield 45, 3) := dk_180 0 45 (dk_at dksX1_free_1 4 rfl rfl)
theorem dX1_free_31 : decode cX1_free 31 = .ok (.iload_n 1, 1) := dk_27 (dk_at dksX1_free_1 7 rfl rfl)
theorem dX1_free_32 : decode cX1_free 32 = .ok (.iaload, 1) := dk_46 (dk_at dksX1_free_1 8 rfl rfl)
theorem dX1_free_33 : decode cX1_free 33 = .ok (.ireturn, 1) := dk_172 (dk_at dksX1_free_1 9 rfl rfl)
def dkwX1_isUp_1 : List UInt8 := [184, 0, 100, 42, 180, 0, 49, 27, 51, 172]
abbrev dktX1_isUp_1 : List UInt8 := dkwX1_isUp_1 ++ []
def dkwX1_isUp_0 : List UInt8 := [42, 182, 0, 236, 27, 155, 0, 18, 27, 42, 180, 0, 75, 180, 0, 116, 162, 0, 7, 4, 167, 0, 4, 3]
abbrev dktX1_isUp_0 : List UInt8 := dkwX1_isUp_0 ++ dktX1_isUp_1
theorem dksX1_isUp_0 : cX1_isUp.data.toList.drop 0 = dktX1_isUp_0 := by decide +kernel
theorem dksX1_isUp_1 : cX1_isUp.data.toList.drop 24 = dktX1_isUp_1 := dk_seg dksX1_isUp_0 24 rfl rfl
theorem dX1_isUp_0 : decode cX1_isUp 0 = .ok (.aload_n 0, 1) := dk_42 (dk_at dksX1_isUp_0 0 rfl rfl)
theorem dX1_isUp_1 : decode cX1_isUp 1 = .ok (.invokevirtual 236, 3) := dk_182 0 236 (dk_at dksX1_isUp_0 1 rfl rfl)
theorem dX1_isUp_4 : decode cX1_isUp 4 = .ok (.iload_n 1, 1) := dk_27 (dk_at dksX1_isUp_0 4 rfl rfl)
theorem dX1_isUp_5 : decode cX1_isUp 5 = .ok (.ifCond .lt 18, 3) := dk_155 0 18 (dk_at dksX1_isUp_0 5 rfl rfl)
theorem dX1_isUp_8 : decode cX1_isUp 8 = .ok (.iload_n 1, 1) := dk_27 (dk_at dksX1_isUp_0 8 rfl rfl)
theorem dX1_isUp_9 : decode cX1_isUp 9 = .ok (.aload_n 0, 1) := dk_42 (dk_at dksX1_isUp_0 9 rfl rfl)
theorem dX1_isUp_10 : decode cX1_isUp 10 = .ok (.getfield 75, 3) := dk_180 0 75 (dk_at dksX1_isUp_0 10 rfl rfl)
theorem dX1_isUp_13 : decode cX1_isUp 13 = .ok (.getfield 116, 3) := dk_180 0 116 (dk_at dksX1_isUp_0 13 rfl rfl)
theorem dX1_isUp_16 : decode cX1_isUp 16 = .ok (.if_icmp .ge 7, 3) := dk_162 0 7 (dk_at dksX1_isUp_0 16 rfl rfl)
theorem dX1_isUp_19 : decode cX1_isUp 19 = .ok (.iconst 1, 1) := dk_4 (dk_at dksX1_isUp_0 19 rfl rfl)
theorem dX1_isUp_20 : decode cX1_isUp 20 = .ok (.goto 4, 3) := dk_167 0 4 (dk_at dksX1_isUp_0 20 rfl rfl)
theorem dX1_isUp_23 : decode cX1_isUp 23 = .ok (.iconst 0, 1) := dk_3 (dk_at dksX1_isUp_0 23 rfl rfl)
theorem dX1_isUp_24 : decode cX1_isUp 24 = .ok (.invokestatic 100, 3) := dk_184 0 100 (dk_at dksX1_isUp_1 0 rfl rfl)
theorem dX1_isUp_27 : decode cX1_isUp 27 = .ok (.aload_n 0, 1) := dk_42 (dk_at dksX1_isUp_1 3 rfl rfl)
theorem dX1_isUp_28 : decode cX1_isUp 28 = .ok (.getfield 49, 3) := dk_180 0 49 (dk_at dksX1_isUp_1 4 rfl rfl)
theorem dX1_isUp_31 : decode cX1_isUp 31 = .ok (.iload_n 1, 1) := dk_27 (dk_at dksX1_isUp_1 7 rfl rfl)
theorem dX1_isUp_32 : decode cX1_isUp 32 = .ok (.baload, 1) := dk_51 (dk_at dksX1_isUp_1 8 rfl rfl)
theorem dX1_isUp_33 : decode cX1_isUp 33 = .ok (.ireturn, 1) := dk_172 (dk_at dksX1_isUp_1 9 rfl rfl)
def dkwX1_set_0 : List UInt8 := [42, 27, 182, 1, 183, 62, 42, 180, 0, 49, 27, 28, 84, 29, 28, 159, 0, 7, 4, 167, 0, 4, 3, 172]
abbrev dktX1_set_0 : List UInt8 := dkwX1_set_0 ++ []
theorem dksX1_set_0 : cX1_set.data.toList.drop 0 = dktX1_set_0 := by decide +kernel
theorem dX1_set_0 : decode cX1_set 0 = .ok (.aload_n 0, 1) := dk_42 (dk_at dksX1_set_0 0 rfl rfl)
theorem dX1_set_1 : decode cX1_set 1 = .ok (.iload_n 1, 1) := dk_27 (dk_at dksX1_set_0 1 rfl rfl)
theorem dX1_set_2 : decode cX1_set 2 = .ok (.invokevirtual 439, 3) := dk_182 1 183 (dk_at dksX1_set_0 2 rfl rfl)
theorem dX1_set_5 : decode cX1_set 5 = .ok (.istore_n 3, 1) := dk_62 (dk_at dksX1_set_0 5 rfl rfl)
theorem dX1_set_6 : decode cX1_set 6 = .ok (.aload_n 0, 1) := dk_42 (dk_at dksX1_set_0 6 rfl rfl)
theorem dX1_set_7 : decode cX1_set 7 = .ok (.getfield 49, 3) := dk_180 0 49 (dk_at dksX1_set_0 7 rfl rfl)
theorem dX1_set_10 : decode cX1_set 10 = .ok (.iload_n 1, 1) := dk_27 (dk_at dksX1_set_0 10 rfl rfl)
theorem dX1_set_11 : decode cX1_set 11 = .ok (.iload_n 2, 1) := dk_28 (dk_at dksX1_set_0 11 rfl rfl)
theorem dX1_set_12 : decode cX1_set 12 = .ok (.bastore, 1) := dk_84 (dk_at dksX1_set_0 12 rfl rfl)
theorem dX1_set_13 : decode cX1_set 13 = .ok (.iload_n 3, 1) := dk_29 (dk_at dksX1_set_0 13 rfl rfl)
theorem dX1_set_14 : decode cX1_set 14 = .ok (.iload_n 2, 1) := dk_28 (dk_at dksX1_set_0 14 rfl rfl)
theorem dX1_set_15 : decode cX1_set 15 = .ok (.if_icmp .eq 7, 3) := dk_159 0 7 (dk_at dksX1_set_0 15 rfl rfl)
theorem dX1_set_18 : decode cX1_set 18 = .ok (.iconst 1, 1) := dk_4 (dk_at dksX1_set_0 18 rfl rfl)
theorem dX1_set_19 : decode cX1_set 19 = .ok (.goto 4, 3) := dk_167 0 4 (dk_at dksX1_set_0 19 rfl rfl)
theorem dX1_set_22 : decode cX1_set 22 = .ok (.iconst 0, 1) := dk_3 (dk_at dksX1_set_0 22 rfl rfl)
theorem dX1_set_23 : decode cX1_set 23 = .ok (.ireturn, 1) := dk_172 (dk_at dksX1_set_0 23 rfl rfl)
def dkwX1_total_8 : List UInt8 := [21, 4, 172, 42, 180, 0, 136, 172]
abbrev dktX1_total_8 : List UInt8 := dkwX1_total_8 ++ []
def dkwX1_total_7 : List UInt8 := [42, 180, 0, 133, 172, 42, 180, 0, 139, 172, 42, 180, 0, 142, 172, 28, 172, 42, 180, 0, 145, 172, 29, 172]
abbrev dktX1_total_7 : List UInt8 := dkwX1_total_7 ++ dktX1_total_8
def dkwX1_total_6 : List UInt8 := [170, 0, 0, 0, 68, 0, 0, 0, 0, 0, 0, 0, 6, 0, 0, 0, 41, 0, 0, 0, 46, 0, 0, 0, 51, 0, 0, 0, 56, 0, 0, 0, 58, 0, 0, 0, 63, 0, 0, 0, 65]
abbrev dktX1_total_6 : List UInt8 := dkwX1_total_6 ++ dktX1_total_7
def dkwX1_total_5 : List UInt8 := [54, 4, 132, 5, 1, 167, 255, 165, 27]
abbrev dktX1_total_5 : List UInt8 := dkwX1_total_5 ++ dktX1_total_6
def dkwX1_total_4 : List UInt8 := [96, 61, 29, 25, 7, 185, 1, 32, 1, 0, 96, 62, 21, 4, 25, 7, 185, 1, 178, 1, 0, 184, 1, 156]
abbrev dktX1_total_4 : List UInt8 := dkwX1_total_4 ++ dktX1_total_5
def dkwX1_total_3 : List UInt8 := [193, 0, 195, 153, 0, 23, 25, 6, 192, 0, 195, 58, 8, 28, 25, 8, 185, 0, 197, 1, 0, 180, 1, 187]
abbrev dktX1_total_3 : List UInt8 := dkwX1_total_3 ++ dktX1_total_4
def dkwX1_total_2 : List UInt8 := [180, 0, 75, 180, 0, 104, 21, 5, 182, 0, 127, 192, 0, 131, 58, 6, 25, 6, 58, 7, 25, 6]
abbrev dktX1_total_2 : List UInt8 := dkwX1_total_2 ++ dktX1_total_3
def dkwX1_total_1 : List UInt8 := [3, 62, 3, 54, 4, 3, 54, 5, 21, 5, 42, 180, 0, 75, 180, 0, 104, 182, 0, 108, 162, 0, 82, 42]
abbrev dktX1_total_1 : List UInt8 := dkwX1_total_1 ++ dktX1_total_2
def dkwX1_total_0 : List UInt8 := [42, 182, 0, 236, 27, 155, 0, 13, 27, 16, 7, 163, 0, 7, 4, 167, 0, 4, 3, 184, 0, 100, 3, 61]
abbrev dktX1_total_0 : List UInt8 := dkwX1_total_0 ++ dktX1_total_1
theorem dksX1_total_0 : cX1_total.data.toList.drop 0 = dktX1_total_0 := by decide +kernel
theorem dksX1_total_1 : cX1_total.data.toList.drop 24 = dktX1_total_1 := dk_seg dksX1_total_0 24 rfl rfl
theorem dksX1_total_2 : cX1_total.data.toList.drop 48 = dktX1_total_2 := dk_seg dksX1_total_1 24 rfl rfl
theorem dksX1_total_3 : cX1_total.data.toList.drop 70 = dktX1_total_3 := dk_seg dksX1_total_2 22 rfl rfl
theorem dksX1_total_4 : cX1_total.data.toList.drop 94 = dktX1_total_4 := dk_seg dksX1_total_3 24 rfl rfl
theorem dksX1_total_5 : cX1_total.data.toList.drop 118 = dktX1_total_5 := dk_seg dksX1_total_4 24 rfl rfl
theorem dksX1_total_6 : cX1_total.data.toList.drop 127 = dktX1_total_6 := dk_seg dksX1_total_5 9 rfl rfl
theorem dksX1_total_7 : cX1_total.data.toList.drop 168 = dktX1_total_7 := dk_seg dksX1_total_6 41 rfl rfl
theorem dksX1_total_8 : cX1_total.data.toList.drop 192 = dktX1_total_8 := dk_seg dksX1_total_7 24 rfl rfl
theorem dX1_total_0 : decode cX1_total 0 = .ok (.aload_n 0, 1) := dk_42 (dk_at dksX1_total_0 0 rfl rfl)
theorem dX1_total_1 : decode cX1_total 1 = .ok (.invokevirtual 236, 3) := dk_182 0 236 (dk_at dksX1_total_0 1 rfl rfl)
theorem dX1_total_4 : decode cX1_total 4 = .ok (.iload_n 1, 1) := dk_27 (dk_at dksX1_total_0 4 rfl rfl)
theorem dX1_total_5 : decode cX1_total 5 = .ok (.ifCond .lt 13, 3) := dk_155 0 13 (dk_at dksX1_total_0 5 rfl rfl)
theorem dX1_total_8 : decode cX1_total 8 = .ok (.iload_n 1, 1) := dk_27 (dk_at dksX1_total_0 8 rfl rfl)
theorem dX1_total_9 : decode cX1_total 9 = .ok (.bipush 7, 2) := dk_16 7 (dk_at dksX1_total_0 9 rfl rfl)
theorem dX1_total_11 : decode cX1_total 11 = .ok (.if_icmp .gt 7, 3) := dk_163 0 7 (dk_at dksX1_total_0 11 rfl rfl)
theorem dX1_total_14 : decode cX1_total 14 = .ok (.iconst 1, 1) := dk_4 (dk_at dksX1_total_0 14 rfl rfl)
theorem dX1_total_15 : decode cX1_total 15 = .ok (.goto 4, 3) := dk_167 0 4 (dk_at dksX1_total_0 15 rfl rfl)
theorem dX1_total_18 : decode cX1_total 18 = .ok (.iconst 0, 1) := dk_3 (dk_at dksX1_total_0 18 rfl rfl)
theorem dX1_total_19 : decode cX1_total 19 = .ok (.invokestatic 100, 3) := dk_184 0 100 (dk_at dksX1_total_0 19 rfl rfl)
theorem dX1_total_22 : decode cX1_total 22 = .ok (.iconst 0, 1) := dk_3 (dk_at dksX1_total_0 22 rfl rfl)
theorem dX1_total_23 : decode cX1_total 23 = .ok (.istore_n 2, 1) := dk_61 (dk_at dksX1_total_0 23 rfl rfl)
theorem dX1_total_24 : decode cX1_total 24 = .ok (.iconst 0, 1) := dk_3 (dk_at dksX1_total_1 0 rfl rfl)
theorem dX1_total_25 : decode cX1_total 25 = .ok (.istore_n 3, 1) := dk_62 (dk_at dksX1_total_1 1 rfl rfl)
theorem dX1_total_26 : decode cX1_total 26 = .ok (.iconst 0, 1) := dk_3 (dk_at dksX1_total_1 2 rfl rfl)
theorem dX1_total_27 : decode cX1_total 27 = .ok (.istore 4, 2) := dk_54 4 (dk_at dksX1_total_1 3 rfl rfl)
theorem dX1_total_29 : decode cX1_total 29 = .ok (.iconst 0, 1) := dk_3 (dk_at dksX1_total_1 5 rfl rfl)
theorem dX1_total_30 : decode cX1_total 30 = .ok (.istore 5, 2) := dk_54 5 (dk_at dksX1_total_1 6 rfl rfl)
theorem dX1_total_32 : decode cX1_total 32 = .ok (.iload 5, 2) := dk_21 5 (dk_at dksX1_total_1 8 rfl rfl)
theorem dX1_total_34 : decode cX1_total 34 = .ok (.aload_n 0, 1) := dk_42 (dk_at dksX1_total_1 10 rfl rfl)
theorem dX1_total_35 : decode cX1_total 35 = .ok (.getfield 75, 3) := dk_180 0 75 (dk_at dksX1_total_1 11 rfl rfl)
theorem dX1_total_38 : decode cX1_total 38 = .ok (.getfield 104, 3) := dk_180 0 104 (dk_at dksX1_total_1 14 rfl rfl)
theorem dX1_total_41 : decode cX1_total 41 = .ok (.invokevirtual 108, 3) := dk_182 0 108 (dk_at dksX1_total_1 17 rfl rfl)
theorem dX1_total_44 : decode cX1_total 44 = .ok (.if_icmp .ge 82, 3) := dk_162 0 82 (dk_at dksX1_total_1 20 rfl rfl)
theorem dX1_total_47 : decode cX1_total 47 = .ok (.aload_n 0, 1) := dk_42 (dk_at dksX1_total_1 23 rfl rfl)
theorem dX1_total_48 : decode cX1_total 48 = .ok (.getfield 75, 3) := dk_180 0 75 (dk_at dksX1_total_2 0 rfl rfl)
theorem dX1_total_51 : decode cX1_total 51 = .ok (.getfield 104, 3) := dk_180 0 104 (dk_at dksX1_total_2 3 rfl rfl)
theorem dX1_total_54 : decode cX1_total 54 = .ok (.iload 5, 2) := dk_21 5 (dk_at dksX1_total_2 6 rfl rfl)
theorem dX1_total_56 : decode cX1_total 56 = .ok (.invokevirtual 127, 3) := dk_182 0 127 (dk_at dksX1_total_2 8 rfl rfl)
theorem dX1_total_59 : decode cX1_total 59 = .ok (.checkcast 131, 3) := dk_192 0 131 (dk_at dksX1_total_2 11 rfl rfl)
theorem dX1_total_62 : decode cX1_total 62 = .ok (.astore 6, 2) := dk_58 6 (dk_at dksX1_total_2 14 rfl rfl)
theorem dX1_total_64 : decode cX1_total 64 = .ok (.aload 6, 2) := dk_25 6 (dk_at dksX1_total_2 16 rfl rfl)
theorem dX1_total_66 : decode cX1_total 66 = .ok (.astore 7, 2) := dk_58 7 (dk_at dksX1_total_2 18 rfl rfl)
theorem dX1_total_68 : decode cX1_total 68 = .ok (.aload 6, 2) := dk_25 6 (dk_at dksX1_total_2 20 rfl rfl)
theorem dX1_total_70 : decode cX1_total 70 = .ok (.instanceof 195, 3) := dk_193 0 195 (dk_at dksX1_total_3 0 rfl rfl)
theorem dX1_total_73 : decode cX1_total 73 = .ok (.ifCond .eq 23, 3) := dk_153 0 23 (dk_at dksX1_total_3 3 rfl rfl)
theorem dX1_total_76 : decode cX1_total 76 = .ok (.aload 6, 2) := dk_25 6 (dk_at dksX1_total_3 6 rfl rfl)
theorem dX1_total_78 : decode cX1_total 78 = .ok (.checkcast 195, 3) := dk_192 0 195 (dk_at dksX1_total_3 8 rfl rfl)
theorem dX1_total_81 : decode cX1_total 81 = .ok (.astore 8, 2) := dk_58 8 (dk_at dksX1_total_3 11 rfl rfl)
theorem dX1_total_83 : decode cX1_total 83 = .ok (.iload_n 2, 1) := dk_28 (dk_at dksX1_total_3 13 rfl rfl)
theorem dX1_total_84 : decode cX1_total 84 = .ok (.aload 8, 2) := dk_25 8 (dk_at dksX1_total_3 14 rfl rfl)
theorem dX1_total_86 : decode cX1_total 86 = .ok (.invokeinterface 197 1, 5) := by decide +kernel
theorem dX1_total_91 : decode cX1_total 91 = .ok (.getfield 443, 3) := dk_180 1 187 (dk_at dksX1_total_3 21 rfl rfl)
theorem dX1_total_94 : decode cX1_total 94 = .ok (.iadd, 1) := dk_96 (dk_at dksX1_total_4 0 rfl rfl)
theorem dX1_total_95 : decode cX1_total 95 = .ok (.istore_n 2, 1) := dk_61 (dk_at dksX1_total_4 1 rfl rfl)
theorem dX1_total_96 : decode cX1_total 96 = .ok (.iload_n 3, 1) := dk_29 (dk_at dksX1_total_4 2 rfl rfl)
theorem dX1_total_97 : decode cX1_total 97 = .ok (.aload 7, 2) := dk_25 7 (dk_at dksX1_total_4 3 rfl rfl)
theorem dX1_total_99 : decode cX1_total 99 = .ok (.invokeinterface 288 1, 5) := by decide +kernel
theorem dX1_total_104 : decode cX1_total 104 = .ok (.iadd, 1) := dk_96 (dk_at dksX1_total_4 10 rfl rfl)
theorem dX1_total_105 : decode cX1_total 105 = .ok (.istore_n 3, 1) := dk_62 (dk_at dksX1_total_4 11 rfl rfl)
theorem dX1_total_106 : decode cX1_total 106 = .ok (.iload 4, 2) := dk_21 4 (dk_at dksX1_total_4 12 rfl rfl)
theorem dX1_total_108 : decode cX1_total 108 = .ok (.aload 7, 2) := dk_25 7 (dk_at dksX1_total_4 14 rfl rfl)
theorem dX1_total_110 : decode cX1_total 110 = .ok (.invokeinterface 434 1, 5) := by decide +kernel
theorem dX1_total_115 : decode cX1_total 115 = .ok (.invokestatic 412, 3) := dk_184 1 156 (dk_at dksX1_total_4 21 rfl rfl)
theorem dX1_total_118 : decode cX1_total 118 = .ok (.istore 4, 2) := dk_54 4 (dk_at dksX1_total_5 0 rfl rfl)
theorem dX1_total_120 : decode cX1_total 120 = .ok (.iinc 5 1, 3) := dk_132 5 1 (dk_at dksX1_total_5 2 rfl rfl)
theorem dX1_total_123 : decode cX1_total 123 = .ok (.goto (-91), 3) := dk_167 255 165 (dk_at dksX1_total_5 5 rfl rfl)
theorem dX1_total_126 : decode cX1_total 126 = .ok (.iload_n 1, 1) := dk_27 (dk_at dksX1_total_5 8 rfl rfl)
theorem dX1_total_127 : decode cX1_total 127 = .ok (.tableswitch 68 0 6 #[41, 46, 51, 56, 58, 63, 65], 41) := by decide +kernel
theorem dX1_total_168 : decode cX1_total 168 = .ok (.aload_n 0, 1) := dk_42 (dk_at dksX1_total_7 0 rfl rfl)
theorem dX1_total_169 : decode cX1_total 169 = .ok (.getfield 133, 3) := dk_180 0 133 (dk_at dksX1_total_7 1 rfl rfl)
theorem dX1_total_172 : decode cX1_total 172 = .ok (.ireturn, 1) := dk_172 (dk_at dksX1_total_7 4 rfl rfl)
theorem dX1_total_173 : decode cX1_total 173 = .ok (.aload_n 0, 1) := dk_42 (dk_at dksX1_total_7 5 rfl rfl)
theorem dX1_total_174 : decode cX1_total 174 = .ok (.getfield 139, 3) := dk_180 0 139 (dk_at dksX1_total_7 6 rfl rfl)
theorem dX1_total_177 : decode cX1_total 177 = .ok (.ireturn, 1) := dk_172 (dk_at dksX1_total_7 9 rfl rfl)
theorem dX1_total_178 : decode cX1_total 178 = .ok (.aload_n 0, 1) := dk_42 (dk_at dksX1_total_7 10 rfl rfl)
theorem dX1_total_179 : decode cX1_total 179 = .ok (.getfield 142, 3) := dk_180 0 142 (dk_at dksX1_total_7 11 rfl rfl)
theorem dX1_total_182 : decode cX1_total 182 = .ok (.ireturn, 1) := dk_172 (dk_at dksX1_total_7 14 rfl rfl)
theorem dX1_total_183 : decode cX1_total 183 = .ok (.iload_n 2, 1) := dk_28 (dk_at dksX1_total_7 15 rfl rfl)
theorem dX1_total_184 : decode cX1_total 184 = .ok (.ireturn, 1) := dk_172 (dk_at dksX1_total_7 16 rfl rfl)
theorem dX1_total_185 : decode cX1_total 185 = .ok (.aload_n 0, 1) := dk_42 (dk_at dksX1_total_7 17 rfl rfl)
theorem dX1_total_186 : decode cX1_total 186 = .ok (.getfield 145, 3) := dk_180 0 145 (dk_at dksX1_total_7 18 rfl rfl)
theorem dX1_total_189 : decode cX1_total 189 = .ok (.ireturn, 1) := dk_172 (dk_at dksX1_total_7 21 rfl rfl)
theorem dX1_total_190 : decode cX1_total 190 = .ok (.iload_n 3, 1) := dk_29 (dk_at dksX1_total_7 22 rfl rfl)
theorem dX1_total_191 : decode cX1_total 191 = .ok (.ireturn, 1) := dk_172 (dk_at dksX1_total_7 23 rfl rfl)
theorem dX1_total_192 : decode cX1_total 192 = .ok (.iload 4, 2) := dk_21 4 (dk_at dksX1_total_8 0 rfl rfl)
theorem dX1_total_194 : decode cX1_total 194 = .ok (.ireturn, 1) := dk_172 (dk_at dksX1_total_8 2 rfl rfl)
theorem dX1_total_195 : decode cX1_total 195 = .ok (.aload_n 0, 1) := dk_42 (dk_at dksX1_total_8 3 rfl rfl)
theorem dX1_total_196 : decode cX1_total 196 = .ok (.getfield 136, 3) := dk_180 0 136 (dk_at dksX1_total_8 4 rfl rfl)
theorem dX1_total_199 : decode cX1_total 199 = .ok (.ireturn, 1) := dk_172 (dk_at dksX1_total_8 7 rfl rfl)
def dkwX1_log_3 : List UInt8 := [42, 180, 0, 59, 27, 46, 167, 0, 9, 42, 180, 0, 62, 27, 46, 172]
abbrev dktX1_log_3 : List UInt8 := dkwX1_log_3 ++ []
def dkwX1_log_2 : List UInt8 := [27, 46, 167, 0, 37, 28, 4, 160, 0, 12, 42, 180, 0, 56, 27, 46, 167, 0, 23, 28, 5, 160, 0, 12]
abbrev dktX1_log_2 : List UInt8 := dkwX1_log_2 ++ dktX1_log_3
def dkwX1_log_1 : List UInt8 := [155, 0, 12, 28, 6, 163, 0, 7, 4, 167, 0, 4, 3, 184, 0, 100, 28, 154, 0, 12, 42, 180, 0, 53]
abbrev dktX1_log_1 : List UInt8 := dkwX1_log_1 ++ dktX1_log_2
def dkwX1_log_0 : List UInt8 := [42, 182, 0, 236, 27, 155, 0, 31, 27, 42, 180, 0, 145, 162, 0, 23, 27, 17, 1, 144, 162, 0, 16, 28]
abbrev dktX1_log_0 : List UInt8 := dkwX1_log_0 ++ dktX1_log_1
theorem dksX1_log_0 : cX1_log.data.toList.drop 0 = dktX1_log_0 := by decide +kernel
theorem dksX1_log_1 : cX1_log.data.toList.drop 24 = dktX1_log_1 := dk_seg dksX1_log_0 24 rfl rfl
theorem dksX1_log_2 : cX1_log.data.toList.drop 48 = dktX1_log_2 := dk_seg dksX1_log_1 24 rfl rfl
theorem dksX1_log_3 : cX1_log.data.toList.drop 72 = dktX1_log_3 := dk_seg dksX1_log_2 24 rfl rfl
theorem dX1_log_0 : decode cX1_log 0 = .ok (.aload_n 0, 1) := dk_42 (dk_at dksX1_log_0 0 rfl rfl)
theorem dX1_log_1 : decode cX1_log 1 = .ok (.invokevirtual 236, 3) := dk_182 0 236 (dk_at dksX1_log_0 1 rfl rfl)
theorem dX1_log_4 : decode cX1_log 4 = .ok (.iload_n 1, 1) := dk_27 (dk_at dksX1_log_0 4 rfl rfl)
theorem dX1_log_5 : decode cX1_log 5 = .ok (.ifCond .lt 31, 3) := dk_155 0 31 (dk_at dksX1_log_0 5 rfl rfl)
theorem dX1_log_8 : decode cX1_log 8 = .ok (.iload_n 1, 1) := dk_27 (dk_at dksX1_log_0 8 rfl rfl)
theorem dX1_log_9 : decode cX1_log 9 = .ok (.aload_n 0, 1) := dk_42 (dk_at dksX1_log_0 9 rfl rfl)
theorem dX1_log_10 : decode cX1_log 10 = .ok (.getfield 145, 3) := dk_180 0 145 (dk_at dksX1_log_0 10 rfl rfl)
theorem dX1_log_13 : decode cX1_log 13 = .ok (.if_icmp .ge 23, 3) := dk_162 0 23 (dk_at dksX1_log_0 13 rfl rfl)
theorem dX1_log_16 : decode cX1_log 16 = .ok (.iload_n 1, 1) := dk_27 (dk_at dksX1_log_0 16 rfl rfl)
theorem dX1_log_17 : decode cX1_log 17 = .ok (.sipush 400, 3) := dk_17 1 144 (dk_at dksX1_log_0 17 rfl rfl)
theorem dX1_log_20 : decode cX1_log 20 = .ok (.if_icmp .ge 16, 3) := dk_162 0 16 (dk_at dksX1_log_0 20 rfl rfl)
theorem dX1_log_23 : decode cX1_log 23 = .ok (.iload_n 2, 1) := dk_28 (dk_at dksX1_log_0 23 rfl rfl)
theorem dX1_log_24 : decode cX1_log 24 = .ok (.ifCond .lt 12, 3) := dk_155 0 12 (dk_at dksX1_log_1 0 rfl rfl)
theorem dX1_log_27 : decode cX1_log 27 = .ok (.iload_n 2, 1) := dk_28 (dk_at dksX1_log_1 3 rfl rfl)
theorem dX1_log_28 : decode cX1_log 28 = .ok (.iconst 3, 1) := dk_6 (dk_at dksX1_log_1 4 rfl rfl)
theorem dX1_log_29 : decode cX1_log 29 = .ok (.if_icmp .gt 7, 3) := dk_163 0 7 (dk_at dksX1_log_1 5 rfl rfl)
theorem dX1_log_32 : decode cX1_log 32 = .ok (.iconst 1, 1) := dk_4 (dk_at dksX1_log_1 8 rfl rfl)
theorem dX1_log_33 : decode cX1_log 33 = .ok (.goto 4, 3) := dk_167 0 4 (dk_at dksX1_log_1 9 rfl rfl)
theorem dX1_log_36 : decode cX1_log 36 = .ok (.iconst 0, 1) := dk_3 (dk_at dksX1_log_1 12 rfl rfl)
theorem dX1_log_37 : decode cX1_log 37 = .ok (.invokestatic 100, 3) := dk_184 0 100 (dk_at dksX1_log_1 13 rfl rfl)
theorem dX1_log_40 : decode cX1_log 40 = .ok (.iload_n 2, 1) := dk_28 (dk_at dksX1_log_1 16 rfl rfl)
theorem dX1_log_41 : decode cX1_log 41 = .ok (.ifCond .ne 12, 3) := dk_154 0 12 (dk_at dksX1_log_1 17 rfl rfl)
theorem dX1_log_44 : decode cX1_log 44 = .ok (.aload_n 0, 1) := dk_42 (dk_at dksX1_log_1 20 rfl rfl)
theorem dX1_log_45 : decode cX1_log 45 = .ok (.getfield 53, 3) := dk_180 0 53 (dk_at dksX1_log_1 21 rfl rfl)
theorem dX1_log_48 : decode cX1_log 48 = .ok (.iload_n 1, 1) := dk_27 (dk_at dksX1_log_2 0 rfl rfl)
theorem dX1_log_49 : decode cX1_log 49 = .ok (.iaload, 1) := dk_46 (dk_at dksX1_log_2 1 rfl rfl)
theorem dX1_log_50 : decode cX1_log 50 = .ok (.goto 37, 3) := dk_167 0 37 (dk_at dksX1_log_2 2 rfl rfl)
theorem dX1_log_53 : decode cX1_log 53 = .ok (.iload_n 2, 1) := dk_28 (dk_at dksX1_log_2 5 rfl rfl)
theorem dX1_log_54 : decode cX1_log 54 = .ok (.iconst 1, 1) := dk_4 (dk_at dksX1_log_2 6 rfl rfl)
theorem dX1_log_55 : decode cX1_log 55 = .ok (.if_icmp .ne 12, 3) := dk_160 0 12 (dk_at dksX1_log_2 7 rfl rfl)
theorem dX1_log_58 : decode cX1_log 58 = .ok (.aload_n 0, 1) := dk_42 (dk_at dksX1_log_2 10 rfl rfl)
theorem dX1_log_59 : decode cX1_log 59 = .ok (.getfield 56, 3) := dk_180 0 56 (dk_at dksX1_log_2 11 rfl rfl)
theorem dX1_log_62 : decode cX1_log 62 = .ok (.iload_n 1, 1) := dk_27 (dk_at dksX1_log_2 14 rfl rfl)
theorem dX1_log_63 : decode cX1_log 63 = .ok (.iaload, 1) := dk_46 (dk_at dksX1_log_2 15 rfl rfl)
theorem dX1_log_64 : decode cX1_log 64 = .ok (.goto 23, 3) := dk_167 0 23 (dk_at dksX1_log_2 16 rfl rfl)
theorem dX1_log_67 : decode cX1_log 67 = .ok (.iload_n 2, 1) := dk_28 (dk_at dksX1_log_2 19 rfl rfl)
theorem dX1_log_68 : decode cX1_log 68 = .ok (.iconst 2, 1) := dk_5 (dk_at dksX1_log_2 20 rfl rfl)
theorem dX1_log_69 : decode cX1_log 69 = .ok (.if_icmp .ne 12, 3) := dk_160 0 12 (dk_at dksX1_log_2 21 rfl rfl)
theorem dX1_log_72 : decode cX1_log 72 = .ok (.aload_n 0, 1) := dk_42 (dk_at dksX1_log_3 0 rfl rfl)
theorem dX1_log_73 : decode cX1_log 73 = .ok (.getfield 59, 3) := dk_180 0 59 (dk_at dksX1_log_3 1 rfl rfl)
theorem dX1_log_76 : decode cX1_log 76 = .ok (.iload_n 1, 1) := dk_27 (dk_at dksX1_log_3 4 rfl rfl)
theorem dX1_log_77 : decode cX1_log 77 = .ok (.iaload, 1) := dk_46 (dk_at dksX1_log_3 5 rfl rfl)
theorem dX1_log_78 : decode cX1_log 78 = .ok (.goto 9, 3) := dk_167 0 9 (dk_at dksX1_log_3 6 rfl rfl)
theorem dX1_log_81 : decode cX1_log 81 = .ok (.aload_n 0, 1) := dk_42 (dk_at dksX1_log_3 9 rfl rfl)
theorem dX1_log_82 : decode cX1_log 82 = .ok (.getfield 62, 3) := dk_180 0 62 (dk_at dksX1_log_3 10 rfl rfl)
theorem dX1_log_85 : decode cX1_log 85 = .ok (.iload_n 1, 1) := dk_27 (dk_at dksX1_log_3 13 rfl rfl)
theorem dX1_log_86 : decode cX1_log 86 = .ok (.iaload, 1) := dk_46 (dk_at dksX1_log_3 14 rfl rfl)
theorem dX1_log_87 : decode cX1_log 87 = .ok (.ireturn, 1) := dk_172 (dk_at dksX1_log_3 15 rfl rfl)
def dkwX3_init_2 : List UInt8 := [42, 17, 39, 15, 181, 0, 31, 42, 43, 181, 0, 35, 42, 28, 181, 0, 39, 177]
abbrev dktX3_init_2 : List UInt8 := dkwX3_init_2 ++ []
def dkwX3_init_1 : List UInt8 := [181, 0, 18, 42, 187, 0, 9, 89, 16, 12, 183, 0, 21, 181, 0, 24, 42, 16, 6, 188, 10, 181, 0, 27]
abbrev dktX3_init_1 : List UInt8 := dkwX3_init_1 ++ dktX3_init_2
def dkwX3_init_0 : List UInt8 := [42, 183, 0, 3, 42, 187, 0, 9, 89, 183, 0, 11, 181, 0, 12, 42, 187, 0, 9, 89, 183, 0, 11]
abbrev dktX3_init_0 : List UInt8 := dkwX3_init_0 ++ dktX3_init_1
theorem dksX3_init_0 : cX3_init.data.toList.drop 0 = dktX3_init_0 := by decide +kernel
theorem dksX3_init_1 : cX3_init.data.toList.drop 23 = dktX3_init_1 := dk_seg dksX3_init_0 23 rfl rfl
theorem dksX3_init_2 : cX3_init.data.toList.drop 47 = dktX3_init_2 := dk_seg dksX3_init_1 24 rfl rfl
theorem dX3_init_0 : decode cX3_init 0 = .ok (.aload_n 0, 1) := dk_42 (dk_at dksX3_init_0 0 rfl rfl)
theorem dX3_init_1 : decode cX3_init 1 = .ok (.invokespecial 3, 3) := dk_183 0 3 (dk_at dksX3_init_0 1 rfl rfl)
theorem dX3_init_4 : decode cX3_init 4 = .ok (.aload_n 0, 1) := dk_42 (dk_at dksX3_init_0 4 rfl rfl)
theorem dX3_init_5 : decode cX3_init 5 = .ok (.new 9, 3) := dk_187 0 9 (dk_at dksX3_init_0 5 rfl rfl)
theorem dX3_init_8 : decode cX3_init 8 = .ok (.dup, 1) := dk_89 (dk_at dksX3_init_0 8 rfl rfl)
theorem dX3_init_9 : decode cX3_init 9 = .ok (.invokespecial 11, 3) := dk_183 0 11 (dk_at dksX3_init_0 9 rfl rfl)
theorem dX3_init_12 : decode cX3_init 12 = .ok (.putfield 12, 3) := dk_181 0 12 (dk_at dksX3_init_0 12 rfl rfl)
theorem dX3_init_15 : decode cX3_init 15 = .ok (.aload_n 0, 1) := dk_42 (dk_at dksX3_init_0 15 rfl rfl)
theorem dX3_init_16 : decode cX3_init 16 = .ok (.new 9, 3) := dk_187 0 9 (dk_at dksX3_init_0 16 rfl rfl)
theorem dX3_init_19 : decode cX3_init 19 = .ok (.dup, 1) := dk_89 (dk_at dksX3_init_0 19 rfl rfl)
theorem dX3_init_20 : decode cX3_init 20 = .ok (.invokespecial 11, 3) := dk_183 0 11 (dk_at dksX3_init_0 20 rfl rfl)
theorem dX3_init_23 : decode cX3_init 23 = .ok (.putfield 18, 3) := dk_181 0 18 (dk_at dksX3_init_1 0 rfl rfl)
theorem dX3_init_26 : decode cX3_init 26 = .ok (.aload_n 0, 1) := dk_42 (dk_at dksX3_init_1 3 rfl rfl)
theorem dX3_init_27 : decode cX3_init 27 = .ok (.new 9, 3) := dk_187 0 9 (dk_at dksX3_init_1 4 rfl rfl)
theorem dX3_init_30 : decode cX3_init 30 = .ok (.dup, 1) := dk_89 (dk_at dksX3_init_1 7 rfl rfl)
theorem dX3_init_31 : decode cX3_init 31 = .ok (.bipush 12, 2) := dk_16 12 (dk_at dksX3_init_1 8 rfl rfl)
theorem dX3_init_33 : decode cX3_init 33 = .ok (.invokespecial 21, 3) := dk_183 0 21 (dk_at dksX3_init_1 10 rfl rfl)
theorem dX3_init_36 : decode cX3_init 36 = .ok (.putfield 24, 3) := dk_181 0 24 (dk_at dksX3_init_1 13 rfl rfl)
theorem dX3_init_39 : decode cX3_init 39 = .ok (.aload_n 0, 1) := dk_42 (dk_at dksX3_init_1 16 rfl rfl)
theorem dX3_init_40 : decode cX3_init 40 = .ok (.bipush 6, 2) := dk_16 6 (dk_at dksX3_init_1 17 rfl rfl)
theorem dX3_init_42 : decode cX3_init 42 = .ok (.newarray .int, 2) := dk_188_10 (dk_at dksX3_init_1 19 rfl rfl)
theorem dX3_init_44 : decode cX3_init 44 = .ok (.putfield 27, 3) := dk_181 0 27 (dk_at dksX3_init_1 21 rfl rfl)
theorem dX3_init_47 : decode cX3_init 47 = .ok (.aload_n 0, 1) := dk_42 (dk_at dksX3_init_2 0 rfl rfl)
theorem dX3_init_48 : decode cX3_init 48 = .ok (.sipush 9999, 3) := dk_17 39 15 (dk_at dksX3_init_2 1 rfl rfl)
theorem dX3_init_51 : decode cX3_init 51 = .ok (.putfield 31, 3) := dk_181 0 31 (dk_at dksX3_init_2 4 rfl rfl)
theorem dX3_init_54 : decode cX3_init 54 = .ok (.aload_n 0, 1) := dk_42 (dk_at dksX3_init_2 7 rfl rfl)
theorem dX3_init_55 : decode cX3_init 55 = .ok (.aload_n 1, 1) := dk_43 (dk_at dksX3_init_2 8 rfl rfl)
theorem dX3_init_56 : decode cX3_init 56 = .ok (.putfield 35, 3) := dk_181 0 35 (dk_at dksX3_init_2 9 rfl rfl)
theorem dX3_init_59 : decode cX3_init 59 = .ok (.aload_n 0, 1) := dk_42 (dk_at dksX3_init_2 12 rfl rfl)
theorem dX3_init_60 : decode cX3_init 60 = .ok (.iload_n 2, 1) := dk_28 (dk_at dksX3_init_2 13 rfl rfl)
theorem dX3_init_61 : decode cX3_init 61 = .ok (.putfield 39, 3) := dk_181 0 39 (dk_at dksX3_init_2 14 rfl rfl)
theorem dX3_init_64 : decode cX3_init 64 = .ok (.return_, 1) := dk_177 (dk_at dksX3_init_2 17 rfl rfl)
def dkwX3_fair_15 : List UInt8 := [181, 0, 199, 132, 1, 1, 167, 255, 178, 177]
abbrev dktX3_fair_15 : List UInt8 := dkwX3_fair_15 ++ []
def dkwX3_fair_14 : List UInt8 := [44, 180, 0, 195, 183, 0, 108, 191, 44, 42, 180, 0, 24, 45, 182, 0, 160, 182, 0, 131, 192, 0, 197]
abbrev dktX3_fair_14 : List UInt8 := dkwX3_fair_14 ++ dktX3_fair_15
def dkwX3_fair_13 : List UInt8 := [180, 0, 192, 182, 0, 147, 78, 45, 198, 0, 11, 45, 182, 0, 158, 5, 159, 0, 16, 187, 0, 106, 89, 6]
abbrev dktX3_fair_13 : List UInt8 := dkwX3_fair_13 ++ dktX3_fair_14
def dkwX3_fair_12 : List UInt8 := [180, 0, 18, 182, 0, 128, 162, 0, 73, 42, 180, 0, 18, 27, 182, 0, 131, 192, 0, 190, 77, 42, 44]
abbrev dktX3_fair_12 : List UInt8 := dkwX3_fair_12 ++ dktX3_fair_13
def dkwX3_fair_11 : List UInt8 := [167, 255, 5, 42, 180, 0, 24, 182, 0, 128, 154, 0, 9, 42, 4, 182, 0, 124, 191, 3, 60, 27, 42]
abbrev dktX3_fair_11 : List UInt8 := dkwX3_fair_11 ++ dktX3_fair_12
def dkwX3_fair_10 : List UInt8 := [180, 0, 24, 182, 0, 128, 182, 0, 178, 42, 182, 0, 188, 167, 0, 9, 42, 4, 182, 0, 124, 191]
abbrev dktX3_fair_10 : List UInt8 := dkwX3_fair_10 ++ dktX3_fair_11
def dkwX3_fair_9 : List UInt8 := [180, 0, 24, 182, 0, 128, 16, 12, 160, 0, 9, 42, 7, 182, 0, 124, 191, 42, 182, 0, 118, 42, 5, 42]
abbrev dktX3_fair_9 : List UInt8 := dkwX3_fair_9 ++ dktX3_fair_10
def dkwX3_fair_8 : List UInt8 := [4, 96, 181, 0, 183, 42, 16, 59, 182, 0, 171, 167, 0, 59, 42, 18, 186, 182, 0, 114, 153, 0, 44, 42]
abbrev dktX3_fair_8 : List UInt8 := dkwX3_fair_8 ++ dktX3_fair_9
def dkwX3_fair_7 : List UInt8 := [42, 7, 182, 0, 124, 191, 42, 182, 0, 118, 42, 4, 42, 180, 0, 183, 182, 0, 178, 42, 89, 180, 0, 183]
abbrev dktX3_fair_7 : List UInt8 := dkwX3_fair_7 ++ dktX3_fair_8
def dkwX3_fair_6 : List UInt8 := [182, 0, 171, 167, 0, 115, 42, 18, 181, 182, 0, 114, 153, 0, 50, 42, 180, 0, 183, 16, 8, 160, 0, 9]
abbrev dktX3_fair_6 : List UInt8 := dkwX3_fair_6 ++ dktX3_fair_7
def dkwX3_fair_5 : List UInt8 := [180, 0, 175, 42, 4, 16, 9, 182, 0, 167, 79, 42, 89, 180, 0, 175, 4, 96, 181, 0, 175, 42, 16, 59]
abbrev dktX3_fair_5 : List UInt8 := dkwX3_fair_5 ++ dktX3_fair_6
def dkwX3_fair_4 : List UInt8 := [182, 0, 124, 191, 42, 182, 0, 118, 42, 3, 42, 180, 0, 175, 182, 0, 178, 42, 180, 0, 27, 42]
abbrev dktX3_fair_4 : List UInt8 := dkwX3_fair_4 ++ dktX3_fair_5
def dkwX3_fair_3 : List UInt8 := [167, 0, 187, 42, 18, 174, 182, 0, 114, 153, 0, 66, 42, 180, 0, 175, 16, 6, 160, 0, 9, 42, 7]
abbrev dktX3_fair_3 : List UInt8 := dkwX3_fair_3 ++ dktX3_fair_4
def dkwX3_fair_2 : List UInt8 := [42, 182, 0, 118, 42, 42, 4, 17, 39, 15, 182, 0, 167, 181, 0, 31, 42, 16, 59, 182, 0, 171]
abbrev dktX3_fair_2 : List UInt8 := dkwX3_fair_2 ++ dktX3_fair_3
def dkwX3_fair_1 : List UInt8 := [182, 0, 114, 153, 0, 46, 42, 180, 0, 163, 153, 0, 9, 42, 7, 182, 0, 124, 191, 42, 4, 181, 0, 163]
abbrev dktX3_fair_1 : List UInt8 := dkwX3_fair_1 ++ dktX3_fair_2
def dkwX3_fair_0 : List UInt8 := [42, 182, 0, 118, 42, 180, 0, 58, 178, 0, 52, 165, 0, 247, 42, 180, 0, 45, 60, 42, 18, 162]
abbrev dktX3_fair_0 : List UInt8 := dkwX3_fair_0 ++ dktX3_fair_1
theorem dksX3_fair_0 : cX3_fair.data.toList.drop 0 = dktX3_fair_0 := by decide +kernel
theorem dksX3_fair_1 : cX3_fair.data.toList.drop 22 = dktX3_fair_1 := dk_seg dksX3_fair_0 22 rfl rfl
theorem dksX3_fair_2 : cX3_fair.data.toList.drop 46 = dktX3_fair_2 := dk_seg dksX3_fair_1 24 rfl rfl
theorem dksX3_fair_3 : cX3_fair.data.toList.drop 68 = dktX3_fair_3 := dk_seg dksX3_fair_2 22 rfl rfl
theorem dksX3_fair_4 : cX3_fair.data.toList.drop 91 = dktX3_fair_4 := dk_seg dksX3_fair_3 23 rfl rfl
theorem dksX3_fair_5 : cX3_fair.data.toList.drop 113 = dktX3_fair_5 := dk_seg dksX3_fair_4 22 rfl rfl
theorem dksX3_fair_6 : cX3_fair.data.toList.drop 137 = dktX3_fair_6 := dk_seg dksX3_fair_5 24 rfl rfl
theorem dksX3_fair_7 : cX3_fair.data.toList.drop 161 = dktX3_fair_7 := dk_seg dksX3_fair_6 24 rfl rfl
theorem dksX3_fair_8 : cX3_fair.data.toList.drop 185 = dktX3_fair_8 := dk_seg dksX3_fair_7 24 rfl rfl
theorem dksX3_fair_9 : cX3_fair.data.toList.drop 209 = dktX3_fair_9 := dk_seg dksX3_fair_8 24 rfl rfl
theorem dksX3_fair_10 : cX3_fair.data.toList.drop 233 = dktX3_fair_10 := dk_seg dksX3_fair_9 24 rfl rfl
theorem dksX3_fair_11 : cX3_fair.data.toList.drop 255 = dktX3_fair_11 := dk_seg dksX3_fair_10 22 rfl rfl
theorem dksX3_fair_12 : cX3_fair.data.toList.drop 278 = dktX3_fair_12 := dk_seg dksX3_fair_11 23 rfl rfl
theorem dksX3_fair_13 : cX3_fair.data.toList.drop 301 = dktX3_fair_13 := dk_seg dksX3_fair_12 23 rfl rfl
theorem dksX3_fair_14 : cX3_fair.data.toList.drop 325 = dktX3_fair_14 := dk_seg dksX3_fair_13 24 rfl rfl
theorem dksX3_fair_15 : cX3_fair.data.toList.drop 348 = dktX3_fair_15 := dk_seg dksX3_fair_14 23 rfl rfl
theorem dX3_fair_0 : decode cX3_fair 0 = .ok (.aload_n 0, 1) := dk_42 (dk_at dksX3_fair_0 0 rfl rfl)
theorem dX3_fair_1 : decode cX3_fair 1 = .ok (.invokevirtual 118, 3) := dk_182 0 118 (dk_at dksX3_fair_0 1 rfl rfl)
theorem dX3_fair_4 : decode cX3_fair 4 = .ok (.aload_n 0, 1) := dk_42 (dk_at dksX3_fair_0 4 rfl rfl)
theorem dX3_fair_5 : decode cX3_fair 5 = .ok (.getfield 58, 3) := dk_180 0 58 (dk_at dksX3_fair_0 5 rfl rfl)
theorem dX3_fair_8 : decode cX3_fair 8 = .ok (.getstatic 52, 3) := dk_178 0 52 (dk_at dksX3_fair_0 8 rfl rfl)
theorem dX3_fair_11 : decode cX3_fair 11 = .ok (.if_acmp .eq 247, 3) := dk_165 0 247 (dk_at dksX3_fair_0 11 rfl rfl)
theorem dX3_fair_14 : decode cX3_fair 14 = .ok (.aload_n 0, 1) := dk_42 (dk_at dksX3_fair_0 14 rfl rfl)
theorem dX3_fair_15 : decode cX3_fair 15 = .ok (.getfield 45, 3) := dk_180 0 45 (dk_at dksX3_fair_0 15 rfl rfl)
theorem dX3_fair_18 : decode cX3_fair 18 = .ok (.istore_n 1, 1) := dk_60 (dk_at dksX3_fair_0 18 rfl rfl)
theorem dX3_fair_19 : decode cX3_fair 19 = .ok (.aload_n 0, 1) := dk_42 (dk_at dksX3_fair_0 19 rfl rfl)
theorem dX3_fair_20 : decode cX3_fair 20 = .ok (.ldc 162, 2) := dk_18 162 (dk_at dksX3_fair_0 20 rfl rfl)
theorem dX3_fair_22 : decode cX3_fair 22 = .ok (.invokevirtual 114, 3) := dk_182 0 114 (dk_at dksX3_fair_1 0 rfl rfl)
theorem dX3_fair_25 : decode cX3_fair 25 = .ok (.ifCond .eq 46, 3) := dk_153 0 46 (dk_at dksX3_fair_1 3 rfl rfl)
theorem dX3_fair_28 : decode cX3_fair 28 = .ok (.aload_n 0, 1) := dk_42 (dk_at dksX3_fair_1 6 rfl rfl)
theorem dX3_fair_29 : decode cX3_fair 29 = .ok (.getfield 163, 3) := dk_180 0 163 (dk_at dksX3_fair_1 7 rfl rfl)
theorem dX3_fair_32 : decode cX3_fair 32 = .ok (.ifCond .eq 9, 3) := dk_153 0 9 (dk_at dksX3_fair_1 10 rfl rfl)
theorem dX3_fair_35 : decode cX3_fair 35 = .ok (.aload_n 0, 1) := dk_42 (dk_at dksX3_fair_1 13 rfl rfl)
theorem dX3_fair_36 : decode cX3_fair 36 = .ok (.iconst 4, 1) := dk_7 (dk_at dksX3_fair_1 14 rfl rfl)
theorem dX3_fair_37 : decode cX3_fair 37 = .ok (.invokevirtual 124, 3) := dk_182 0 124 (dk_at dksX3_fair_1 15 rfl rfl)
theorem dX3_fair_40 : decode cX3_fair 40 = .ok (.athrow, 1) := dk_191 (dk_at dksX3_fair_1 18 rfl rfl)
theorem dX3_fair_41 : decode cX3_fair 41 = .ok (.aload_n 0, 1) := dk_42 (dk_at dksX3_fair_1 19 rfl rfl)
theorem dX3_fair_42 : decode cX3_fair 42 = .ok (.iconst 1, 1) := dk_4 (dk_at dksX3_fair_1 20 rfl rfl)
theorem dX3_fair_43 : decode cX3_fair 43 = .ok (.putfield 163, 3) := dk_181 0 163 (dk_at dksX3_fair_1 21 rfl rfl)
theorem dX3_fair_46 : decode cX3_fair 46 = .ok (.aload_n 0, 1) := dk_42 (dk_at dksX3_fair_2 0 rfl rfl)
theorem dX3_fair_47 : decode cX3_fair 47 = .ok (.invokevirtual 118, 3) := dk_182 0 118 (dk_at dksX3_fair_2 1 rfl rfl)
theorem dX3_fair_50 : decode cX3_fair 50 = .ok (.aload_n 0, 1) := dk_42 (dk_at dksX3_fair_2 4 rfl rfl)
theorem dX3_fair_51 : decode cX3_fair 51 = .ok (.aload_n 0, 1) := dk_42 (dk_at dksX3_fair_2 5 rfl rfl)
theorem dX3_fair_52 : decode cX3_fair 52 = .ok (.iconst 1, 1) := dk_4 (dk_at dksX3_fair_2 6 rfl rfl)
theorem dX3_fair_53 : decode cX3_fair 53 = .ok (.sipush 9999, 3) := dk_17 39 15 (dk_at dksX3_fair_2 7 rfl rfl)
theorem dX3_fair_56 : decode cX3_fair 56 = .ok (.invokevirtual 167, 3) := dk_182 0 167 (dk_at dksX3_fair_2 10 rfl rfl)
theorem dX3_fair_59 : decode cX3_fair 59 = .ok (.putfield 31, 3) := dk_181 0 31 (dk_at dksX3_fair_2 13 rfl rfl)
theorem dX3_fair_62 : decode cX3_fair 62 = .ok (.aload_n 0, 1) := dk_42 (dk_at dksX3_fair_2 16 rfl rfl)
theorem dX3_fair_63 : decode cX3_fair 63 = .ok (.bipush 59, 2) := dk_16 59 (dk_at dksX3_fair_2 17 rfl rfl)
theorem dX3_fair_65 : decode cX3_fair 65 = .ok (.invokevirtual 171, 3) := dk_182 0 171 (dk_at dksX3_fair_2 19 rfl rfl)
theorem dX3_fair_68 : decode cX3_fair 68 = .ok (.goto 187, 3) := dk_167 0 187 (dk_at dksX3_fair_3 0 rfl rfl)
theorem dX3_fair_71 : decode cX3_fair 71 = .ok (.aload_n 0, 1) := dk_42 (dk_at dksX3_fair_3 3 rfl rfl)
theorem dX3_fair_72 : decode cX3_fair 72 = .ok (.ldc 174, 2) := dk_18 174 (dk_at dksX3_fair_3 4 rfl rfl)
theorem dX3_fair_74 : decode cX3_fair 74 = .ok (.invokevirtual 114, 3) := dk_182 0 114 (dk_at dksX3_fair_3 6 rfl rfl)
theorem dX3_fair_77 : decode cX3_fair 77 = .ok (.ifCond .eq 66, 3) := dk_153 0 66 (dk_at dksX3_fair_3 9 rfl rfl)
theorem dX3_fair_80 : decode cX3_fair 80 = .ok (.aload_n 0, 1) := dk_42 (dk_at dksX3_fair_3 12 rfl rfl)
theorem dX3_fair_81 : decode cX3_fair 81 = .ok (.getfield 175, 3) := dk_180 0 175 (dk_at dksX3_fair_3 13 rfl rfl)
theorem dX3_fair_84 : decode cX3_fair 84 = .ok (.bipush 6, 2) := dk_16 6 (dk_at dksX3_fair_3 16 rfl rfl)
theorem dX3_fair_86 : decode cX3_fair 86 = .ok (.if_icmp .ne 9, 3) := dk_160 0 9 (dk_at dksX3_fair_3 18 rfl rfl)
theorem dX3_fair_89 : decode cX3_fair 89 = .ok (.aload_n 0, 1) := dk_42 (dk_at dksX3_fair_3 21 rfl rfl)
theorem dX3_fair_90 : decode cX3_fair 90 = .ok (.iconst 4, 1) := dk_7 (dk_at dksX3_fair_3 22 rfl rfl)
theorem dX3_fair_91 : decode cX3_fair 91 = .ok (.invokevirtual 124, 3) := dk_182 0 124 (dk_at dksX3_fair_4 0 rfl rfl)
theorem dX3_fair_94 : decode cX3_fair 94 = .ok (.athrow, 1) := dk_191 (dk_at dksX3_fair_4 3 rfl rfl)
theorem dX3_fair_95 : decode cX3_fair 95 = .ok (.aload_n 0, 1) := dk_42 (dk_at dksX3_fair_4 4 rfl rfl)
theorem dX3_fair_96 : decode cX3_fair 96 = .ok (.invokevirtual 118, 3) := dk_182 0 118 (dk_at dksX3_fair_4 5 rfl rfl)
theorem dX3_fair_99 : decode cX3_fair 99 = .ok (.aload_n 0, 1) := dk_42 (dk_at dksX3_fair_4 8 rfl rfl)
theorem dX3_fair_100 : decode cX3_fair 100 = .ok (.iconst 0, 1) := dk_3 (dk_at dksX3_fair_4 9 rfl rfl)
theorem dX3_fair_101 : decode cX3_fair 101 = .ok (.aload_n 0, 1) := dk_42 (dk_at dksX3_fair_4 10 rfl rfl)
theorem dX3_fair_102 : decode cX3_fair 102 = .ok (.getfield 175, 3) := dk_180 0 175 (dk_at dksX3_fair_4 11 rfl rfl)
theorem dX3_fair_105 : decode cX3_fair 105 = .ok (.invokevirtual 178, 3) := dk_182 0 178 (dk_at dksX3_fair_4 14 rfl rfl)
theorem dX3_fair_108 : decode cX3_fair 108 = .ok (.aload_n 0, 1) := dk_42 (dk_at dksX3_fair_4 17 rfl rfl)
theorem dX3_fair_109 : decode cX3_fair 109 = .ok (.getfield 27, 3) := dk_180 0 27 (dk_at dksX3_fair_4 18 rfl rfl)
theorem dX3_fair_112 : decode cX3_fair 112 = .ok (.aload_n 0, 1) := dk_42 (dk_at dksX3_fair_4 21 rfl rfl)
theorem dX3_fair_113 : decode cX3_fair 113 = .ok (.getfield 175, 3) := dk_180 0 175 (dk_at dksX3_fair_5 0 rfl rfl)
theorem dX3_fair_116 : decode cX3_fair 116 = .ok (.aload_n 0, 1) := dk_42 (dk_at dksX3_fair_5 3 rfl rfl)
theorem dX3_fair_117 : decode cX3_fair 117 = .ok (.iconst 1, 1) := dk_4 (dk_at dksX3_fair_5 4 rfl rfl)
theorem dX3_fair_118 : decode cX3_fair 118 = .ok (.bipush 9, 2) := dk_16 9 (dk_at dksX3_fair_5 5 rfl rfl)
theorem dX3_fair_120 : decode cX3_fair 120 = .ok (.invokevirtual 167, 3) := dk_182 0 167 (dk_at dksX3_fair_5 7 rfl rfl)
theorem dX3_fair_123 : decode cX3_fair 123 = .ok (.iastore, 1) := dk_79 (dk_at dksX3_fair_5 10 rfl rfl)
theorem dX3_fair_124 : decode cX3_fair 124 = .ok (.aload_n 0, 1) := dk_42 (dk_at dksX3_fair_5 11 rfl rfl)
theorem dX3_fair_125 : decode cX3_fair 125 = .ok (.dup, 1) := dk_89 (dk_at dksX3_fair_5 12 rfl rfl)
theorem dX3_fair_126 : decode cX3_fair 126 = .ok (.getfield 175, 3) := dk_180 0 175 (dk_at dksX3_fair_5 13 rfl rfl)
theorem dX3_fair_129 : decode cX3_fair 129 = .ok (.iconst 1, 1) := dk_4 (dk_at dksX3_fair_5 16 rfl rfl)
theorem dX3_fair_130 : decode cX3_fair 130 = .ok (.iadd, 1) := dk_96 (dk_at dksX3_fair_5 17 rfl rfl)
theorem dX3_fair_131 : decode cX3_fair 131 = .ok (.putfield 175, 3) := dk_181 0 175 (dk_at dksX3_fair_5 18 rfl rfl)
theorem dX3_fair_134 : decode cX3_fair 134 = .ok (.aload_n 0, 1) := dk_42 (dk_at dksX3_fair_5 21 rfl rfl)
theorem dX3_fair_135 : decode cX3_fair 135 = .ok (.bipush 59, 2) := dk_16 59 (dk_at dksX3_fair_5 22 rfl rfl)
theorem dX3_fair_137 : decode cX3_fair 137 = .ok (.invokevirtual 171, 3) := dk_182 0 171 (dk_at dksX3_fair_6 0 rfl rfl)
theorem dX3_fair_140 : decode cX3_fair 140 = .ok (.goto 115, 3) := dk_167 0 115 (dk_at dksX3_fair_6 3 rfl rfl)
theorem dX3_fair_143 : decode cX3_fair 143 = .ok (.aload_n 0, 1) := dk_42 (dk_at dksX3_fair_6 6 rfl rfl)
theorem dX3_fair_144 : decode cX3_fair 144 = .ok (.ldc 181, 2) := dk_18 181 (dk_at dksX3_fair_6 7 rfl rfl)
theorem dX3_fair_146 : decode cX3_fair 146 = .ok (.invokevirtual 114, 3) := dk_182 0 114 (dk_at dksX3_fair_6 9 rfl rfl)
theorem dX3_fair_149 : decode cX3_fair 149 = .ok (.ifCond .eq 50, 3) := dk_153 0 50 (dk_at dksX3_fair_6 12 rfl rfl)
theorem dX3_fair_152 : decode cX3_fair 152 = .ok (.aload_n 0, 1) := dk_42 (dk_at dksX3_fair_6 15 rfl rfl)
theorem dX3_fair_153 : decode cX3_fair 153 = .ok (.getfield 183, 3) := dk_180 0 183 (dk_at dksX3_fair_6 16 rfl rfl)
theorem dX3_fair_156 : decode cX3_fair 156 = .ok (.bipush 8, 2) := dk_16 8 (dk_at dksX3_fair_6 19 rfl rfl)
theorem dX3_fair_158 : decode cX3_fair 158 = .ok (.if_icmp .ne 9, 3) := dk_160 0 9 (dk_at dksX3_fair_6 21 rfl rfl)
theorem dX3_fair_161 : decode cX3_fair 161 = .ok (.aload_n 0, 1) := dk_42 (dk_at dksX3_fair_7 0 rfl rfl)
theorem dX3_fair_162 : decode cX3_fair 162 = .ok (.iconst 4, 1) := dk_7 (dk_at dksX3_fair_7 1 rfl rfl)
theorem dX3_fair_163 : decode cX3_fair 163 = .ok (.invokevirtual 124, 3) := dk_182 0 124 (dk_at dksX3_fair_7 2 rfl rfl)
theorem dX3_fair_166 : decode cX3_fair 166 = .ok (.athrow, 1) := dk_191 (dk_at dksX3_fair_7 5 rfl rfl)
theorem dX3_fair_167 : decode cX3_fair 167 = .ok (.aload_n 0, 1) := dk_42 (dk_at dksX3_fair_7 6 rfl rfl)
theorem dX3_fair_168 : decode cX3_fair 168 = .ok (.invokevirtual 118, 3) := dk_182 0 118 (dk_at dksX3_fair_7 7 rfl rfl)
theorem dX3_fair_171 : decode cX3_fair 171 = .ok (.aload_n 0, 1) := dk_42 (dk_at dksX3_fair_7 10 rfl rfl)
theorem dX3_fair_172 : decode cX3_fair 172 = .ok (.iconst 1, 1) := dk_4 (dk_at dksX3_fair_7 11 rfl rfl)
theorem dX3_fair_173 : decode cX3_fair 173 = .ok (.aload_n 0, 1) := dk_42 (dk_at dksX3_fair_7 12 rfl rfl)
theorem dX3_fair_174 : decode cX3_fair 174 = .ok (.getfield 183, 3) := dk_180 0 183 (dk_at dksX3_fair_7 13 rfl rfl)
theorem dX3_fair_177 : decode cX3_fair 177 = .ok (.invokevirtual 178, 3) := dk_182 0 178 (dk_at dksX3_fair_7 16 rfl rfl)
theorem dX3_fair_180 : decode cX3_fair 180 = .ok (.aload_n 0, 1) := dk_42 (dk_at dksX3_fair_7 19 rfl rfl)
theorem dX3_fair_181 : decode cX3_fair 181 = .ok (.dup, 1) := dk_89 (dk_at dksX3_fair_7 20 rfl rfl)
theorem dX3_fair_182 : decode cX3_fair 182 = .ok (.getfield 183, 3) := dk_180 0 183 (dk_at dksX3_fair_7 21 rfl rfl)
theorem dX3_fair_185 : decode cX3_fair 185 = .ok (.iconst 1, 1) := dk_4 (dk_at dksX3_fair_8 0 rfl rfl)
theorem dX3_fair_186 : decode cX3_fair 186 = .ok (.iadd, 1) := dk_96 (dk_at dksX3_fair_8 1 rfl rfl)
theorem dX3_fair_187 : decode cX3_fair 187 = .ok (.putfield 183, 3) := dk_181 0 183 (dk_at dksX3_fair_8 2 rfl rfl)
theorem dX3_fair_190 : decode cX3_fair 190 = .ok (.aload_n 0, 1) := dk_42 (dk_at dksX3_fair_8 5 rfl rfl)
theorem dX3_fair_191 : decode cX3_fair 191 = .ok (.bipush 59, 2) := dk_16 59 (dk_at dksX3_fair_8 6 rfl rfl)
theorem dX3_fair_193 : decode cX3_fair 193 = .ok (.invokevirtual 171, 3) := dk_182 0 171 (dk_at dksX3_fair_8 8 rfl rfl)
theorem dX3_fair_196 : decode cX3_fair 196 = .ok (.goto 59, 3) := dk_167 0 59 (dk_at dksX3_fair_8 11 rfl rfl)
theorem dX3_fair_199 : decode cX3_fair 199 = .ok (.aload_n 0, 1) := dk_42 (dk_at dksX3_fair_8 14 rfl rfl)
theorem dX3_fair_200 : decode cX3_fair 200 = .ok (.ldc 186, 2) := dk_18 186 (dk_at dksX3_fair_8 15 rfl rfl)
theorem dX3_fair_202 : decode cX3_fair 202 = .ok (.invokevirtual 114, 3) := dk_182 0 114 (dk_at dksX3_fair_8 17 rfl rfl)
theorem dX3_fair_205 : decode cX3_fair 205 = .ok (.ifCond .eq 44, 3) := dk_153 0 44 (dk_at dksX3_fair_8 20 rfl rfl)
theorem dX3_fair_208 : decode cX3_fair 208 = .ok (.aload_n 0, 1) := dk_42 (dk_at dksX3_fair_8 23 rfl rfl)
theorem dX3_fair_209 : decode cX3_fair 209 = .ok (.getfield 24, 3) := dk_180 0 24 (dk_at dksX3_fair_9 0 rfl rfl)
theorem dX3_fair_212 : decode cX3_fair 212 = .ok (.invokevirtual 128, 3) := dk_182 0 128 (dk_at dksX3_fair_9 3 rfl rfl)
theorem dX3_fair_215 : decode cX3_fair 215 = .ok (.bipush 12, 2) := dk_16 12 (dk_at dksX3_fair_9 6 rfl rfl)
theorem dX3_fair_217 : decode cX3_fair 217 = .ok (.if_icmp .ne 9, 3) := dk_160 0 9 (dk_at dksX3_fair_9 8 rfl rfl)
theorem dX3_fair_220 : decode cX3_fair 220 = .ok (.aload_n 0, 1) := dk_42 (dk_at dksX3_fair_9 11 rfl rfl)
theorem dX3_fair_221 : decode cX3_fair 221 = .ok (.iconst 4, 1) := dk_7 (dk_at dksX3_fair_9 12 rfl rfl)
theorem dX3_fair_222 : decode cX3_fair 222 = .ok (.invokevirtual 124, 3) := dk_182 0 124 (dk_at dksX3_fair_9 13 rfl rfl)
theorem dX3_fair_225 : decode cX3_fair 225 = .ok (.athrow, 1) := dk_191 (dk_at dksX3_fair_9 16 rfl rfl)
theorem dX3_fair_226 : decode cX3_fair 226 = .ok (.aload_n 0, 1) := dk_42 (dk_at dksX3_fair_9 17 rfl rfl)
theorem dX3_fair_227 : decode cX3_fair 227 = .ok (.invokevirtual 118, 3) := dk_182 0 118 (dk_at dksX3_fair_9 18 rfl rfl)
theorem dX3_fair_230 : decode cX3_fair 230 = .ok (.aload_n 0, 1) := dk_42 (dk_at dksX3_fair_9 21 rfl rfl)
theorem dX3_fair_231 : decode cX3_fair 231 = .ok (.iconst 2, 1) := dk_5 (dk_at dksX3_fair_9 22 rfl rfl)
theorem dX3_fair_232 : decode cX3_fair 232 = .ok (.aload_n 0, 1) := dk_42 (dk_at dksX3_fair_9 23 rfl rfl)
theorem dX3_fair_233 : decode cX3_fair 233 = .ok (.getfield 24, 3) := dk_180 0 24 (dk_at dksX3_fair_10 0 rfl rfl)
theorem dX3_fair_236 : decode cX3_fair 236 = .ok (.invokevirtual 128, 3) := dk_182 0 128 (dk_at dksX3_fair_10 3 rfl rfl)
theorem dX3_fair_239 : decode cX3_fair 239 = .ok (.invokevirtual 178, 3) := dk_182 0 178 (dk_at dksX3_fair_10 6 rfl rfl)
theorem dX3_fair_242 : decode cX3_fair 242 = .ok (.aload_n 0, 1) := dk_42 (dk_at dksX3_fair_10 9 rfl rfl)
theorem dX3_fair_243 : decode cX3_fair 243 = .ok (.invokevirtual 188, 3) := dk_182 0 188 (dk_at dksX3_fair_10 10 rfl rfl)
theorem dX3_fair_246 : decode cX3_fair 246 = .ok (.goto 9, 3) := dk_167 0 9 (dk_at dksX3_fair_10 13 rfl rfl)
theorem dX3_fair_249 : decode cX3_fair 249 = .ok (.aload_n 0, 1) := dk_42 (dk_at dksX3_fair_10 16 rfl rfl)
theorem dX3_fair_250 : decode cX3_fair 250 = .ok (.iconst 1, 1) := dk_4 (dk_at dksX3_fair_10 17 rfl rfl)
theorem dX3_fair_251 : decode cX3_fair 251 = .ok (.invokevirtual 124, 3) := dk_182 0 124 (dk_at dksX3_fair_10 18 rfl rfl)
theorem dX3_fair_254 : decode cX3_fair 254 = .ok (.athrow, 1) := dk_191 (dk_at dksX3_fair_10 21 rfl rfl)
theorem dX3_fair_255 : decode cX3_fair 255 = .ok (.goto (-251), 3) := dk_167 255 5 (dk_at dksX3_fair_11 0 rfl rfl)
theorem dX3_fair_258 : decode cX3_fair 258 = .ok (.aload_n 0, 1) := dk_42 (dk_at dksX3_fair_11 3 rfl rfl)
theorem dX3_fair_259 : decode cX3_fair 259 = .ok (.getfield 24, 3) := dk_180 0 24 (dk_at dksX3_fair_11 4 rfl rfl)
theorem dX3_fair_262 : decode cX3_fair 262 = .ok (.invokevirtual 128, 3) := dk_182 0 128 (dk_at dksX3_fair_11 7 rfl rfl)
theorem dX3_fair_265 : decode cX3_fair 265 = .ok (.ifCond .ne 9, 3) := dk_154 0 9 (dk_at dksX3_fair_11 10 rfl rfl)
theorem dX3_fair_268 : decode cX3_fair 268 = .ok (.aload_n 0, 1) := dk_42 (dk_at dksX3_fair_11 13 rfl rfl)
theorem dX3_fair_269 : decode cX3_fair 269 = .ok (.iconst 1, 1) := dk_4 (dk_at dksX3_fair_11 14 rfl rfl)
theorem dX3_fair_270 : decode cX3_fair 270 = .ok (.invokevirtual 124, 3) := dk_182 0 124 (dk_at dksX3_fair_11 15 rfl rfl)
theorem dX3_fair_273 : decode cX3_fair 273 = .ok (.athrow, 1) := dk_191 (dk_at dksX3_fair_11 18 rfl rfl)
theorem dX3_fair_274 : decode cX3_fair 274 = .ok (.iconst 0, 1) := dk_3 (dk_at dksX3_fair_11 19 rfl rfl)
theorem dX3_fair_275 : decode cX3_fair 275 = .ok (.istore_n 1, 1) := dk_60 (dk_at dksX3_fair_11 20 rfl rfl)
theorem dX3_fair_276 : decode cX3_fair 276 = .ok (.iload_n 1, 1) := dk_27 (dk_at dksX3_fair_11 21 rfl rfl)
theorem dX3_fair_277 : decode cX3_fair 277 = .ok (.aload_n 0, 1) := dk_42 (dk_at dksX3_fair_11 22 rfl rfl)
theorem dX3_fair_278 : decode cX3_fair 278 = .ok (.getfield 18, 3) := dk_180 0 18 (dk_at dksX3_fair_12 0 rfl rfl)
theorem dX3_fair_281 : decode cX3_fair 281 = .ok (.invokevirtual 128, 3) := dk_182 0 128 (dk_at dksX3_fair_12 3 rfl rfl)
theorem dX3_fair_284 : decode cX3_fair 284 = .ok (.if_icmp .ge 73, 3) := dk_162 0 73 (dk_at dksX3_fair_12 6 rfl rfl)
theorem dX3_fair_287 : decode cX3_fair 287 = .ok (.aload_n 0, 1) := dk_42 (dk_at dksX3_fair_12 9 rfl rfl)
theorem dX3_fair_288 : decode cX3_fair 288 = .ok (.getfield 18, 3) := dk_180 0 18 (dk_at dksX3_fair_12 10 rfl rfl)
theorem dX3_fair_291 : decode cX3_fair 291 = .ok (.iload_n 1, 1) := dk_27 (dk_at dksX3_fair_12 13 rfl rfl)
theorem dX3_fair_292 : decode cX3_fair 292 = .ok (.invokevirtual 131, 3) := dk_182 0 131 (dk_at dksX3_fair_12 14 rfl rfl)
theorem dX3_fair_295 : decode cX3_fair 295 = .ok (.checkcast 190, 3) := dk_192 0 190 (dk_at dksX3_fair_12 17 rfl rfl)
theorem dX3_fair_298 : decode cX3_fair 298 = .ok (.astore_n 2, 1) := dk_77 (dk_at dksX3_fair_12 20 rfl rfl)
theorem dX3_fair_299 : decode cX3_fair 299 = .ok (.aload_n 0, 1) := dk_42 (dk_at dksX3_fair_12 21 rfl rfl)
theorem dX3_fair_300 : decode cX3_fair 300 = .ok (.aload_n 2, 1) := dk_44 (dk_at dksX3_fair_12 22 rfl rfl)
theorem dX3_fair_301 : decode cX3_fair 301 = .ok (.getfield 192, 3) := dk_180 0 192 (dk_at dksX3_fair_13 0 rfl rfl)
theorem dX3_fair_304 : decode cX3_fair 304 = .ok (.invokevirtual 147, 3) := dk_182 0 147 (dk_at dksX3_fair_13 3 rfl rfl)
theorem dX3_fair_307 : decode cX3_fair 307 = .ok (.astore_n 3, 1) := dk_78 (dk_at dksX3_fair_13 6 rfl rfl)
theorem dX3_fair_308 : decode cX3_fair 308 = .ok (.aload_n 3, 1) := dk_45 (dk_at dksX3_fair_13 7 rfl rfl)
theorem dX3_fair_309 : decode cX3_fair 309 = .ok (.ifnull 11, 3) := dk_198 0 11 (dk_at dksX3_fair_13 8 rfl rfl)
theorem dX3_fair_312 : decode cX3_fair 312 = .ok (.aload_n 3, 1) := dk_45 (dk_at dksX3_fair_13 11 rfl rfl)
theorem dX3_fair_313 : decode cX3_fair 313 = .ok (.invokevirtual 158, 3) := dk_182 0 158 (dk_at dksX3_fair_13 12 rfl rfl)
theorem dX3_fair_316 : decode cX3_fair 316 = .ok (.iconst 2, 1) := dk_5 (dk_at dksX3_fair_13 15 rfl rfl)
theorem dX3_fair_317 : decode cX3_fair 317 = .ok (.if_icmp .eq 16, 3) := dk_159 0 16 (dk_at dksX3_fair_13 16 rfl rfl)
theorem dX3_fair_320 : decode cX3_fair 320 = .ok (.new 106, 3) := dk_187 0 106 (dk_at dksX3_fair_13 19 rfl rfl)
theorem dX3_fair_323 : decode cX3_fair 323 = .ok (.dup, 1) := dk_89 (dk_at dksX3_fair_13 22 rfl rfl)
theorem dX3_fair_324 : decode cX3_fair 324 = .ok (.iconst 3, 1) := dk_6 (dk_at dksX3_fair_13 23 rfl rfl)
theorem dX3_fair_325 : decode cX3_fair 325 = .ok (.aload_n 2, 1) := dk_44 (dk_at dksX3_fair_14 0 rfl rfl)
theorem dX3_fair_326 : decode cX3_fair 326 = .ok (.getfield 195, 3) := dk_180 0 195 (dk_at dksX3_fair_14 1 rfl rfl)
theorem dX3_fair_329 : decode cX3_fair 329 = .ok (.invokespecial 108, 3) := dk_183 0 108 (dk_at dksX3_fair_14 4 rfl rfl)
theorem dX3_fair_332 : decode cX3_fair 332 = .ok (.athrow, 1) := dk_191 (dk_at dksX3_fair_14 7 rfl rfl)
theorem dX3_fair_333 : decode cX3_fair 333 = .ok (.aload_n 2, 1) := dk_44 (dk_at dksX3_fair_14 8 rfl rfl)
theorem dX3_fair_334 : decode cX3_fair 334 = .ok (.aload_n 0, 1) := dk_42 (dk_at dksX3_fair_14 9 rfl rfl)
theorem dX3_fair_335 : decode cX3_fair 335 = .ok (.getfield 24, 3) := dk_180 0 24 (dk_at dksX3_fair_14 10 rfl rfl)
theorem dX3_fair_338 : decode cX3_fair 338 = .ok (.aload_n 3, 1) := dk_45 (dk_at dksX3_fair_14 13 rfl rfl)
theorem dX3_fair_339 : decode cX3_fair 339 = .ok (.invokevirtual 160, 3) := dk_182 0 160 (dk_at dksX3_fair_14 14 rfl rfl)
theorem dX3_fair_342 : decode cX3_fair 342 = .ok (.invokevirtual 131, 3) := dk_182 0 131 (dk_at dksX3_fair_14 17 rfl rfl)
theorem dX3_fair_345 : decode cX3_fair 345 = .ok (.checkcast 197, 3) := dk_192 0 197 (dk_at dksX3_fair_14 20 rfl rfl)
theorem dX3_fair_348 : decode cX3_fair 348 = .ok (.putfield 199, 3) := dk_181 0 199 (dk_at dksX3_fair_15 0 rfl rfl)
theorem dX3_fair_351 : decode cX3_fair 351 = .ok (.iinc 1 1, 3) := dk_132 1 1 (dk_at dksX3_fair_15 3 rfl rfl)
theorem dX3_fair_354 : decode cX3_fair 354 = .ok (.goto (-78), 3) := dk_167 255 178 (dk_at dksX3_fair_15 6 rfl rfl)
theorem dX3_fair_357 : decode cX3_fair 357 = .ok (.return_, 1) := dk_177 (dk_at dksX3_fair_15 9 rfl rfl)
def dkwX3_go_5 : List UInt8 := [42, 27, 182, 0, 74, 177]
abbrev dktX3_go_5 : List UInt8 := dkwX3_go_5 ++ []
def dkwX3_go_4 : List UInt8 := [153, 0, 10, 42, 182, 0, 65, 167, 0, 22, 27, 184, 0, 68, 153, 0, 10, 42, 182, 0, 71, 167, 0, 8]
abbrev dktX3_go_4 : List UInt8 := dkwX3_go_4 ++ dktX3_go_5
def dkwX3_go_3 : List UInt8 := [180, 0, 42, 42, 180, 0, 39, 161, 0, 13, 42, 178, 0, 52, 181, 0, 58, 167, 0, 36, 27, 184, 0, 61]
abbrev dktX3_go_3 : List UInt8 := dkwX3_go_3 ++ dktX3_go_4
def dkwX3_go_2 : List UInt8 := [181, 0, 42, 167, 255, 207, 42, 42, 180, 0, 42, 181, 0, 45, 42, 42, 180, 0, 42, 182, 0, 48, 60, 42]
abbrev dktX3_go_2 : List UInt8 := dkwX3_go_2 ++ dktX3_go_3
def dkwX3_go_1 : List UInt8 := [159, 0, 17, 42, 180, 0, 35, 42, 180, 0, 42, 51, 16, 10, 160, 0, 16, 42, 89, 180, 0, 42, 4, 96]
abbrev dktX3_go_1 : List UInt8 := dkwX3_go_1 ++ dktX3_go_2
def dkwX3_go_0 : List UInt8 := [42, 180, 0, 42, 42, 180, 0, 39, 162, 0, 44, 42, 180, 0, 35, 42, 180, 0, 42, 51, 16, 32]
abbrev dktX3_go_0 : List UInt8 := dkwX3_go_0 ++ dktX3_go_1
theorem dksX3_go_0 : cX3_go.data.toList.drop 0 = dktX3_go_0 := by decide +kernel
theorem dksX3_go_1 : cX3_go.data.toList.drop 22 = dktX3_go_1 := dk_seg dksX3_go_0 22 rfl rfl
theorem dksX3_go_2 : cX3_go.data.toList.drop 46 = dktX3_go_2 := dk_seg dksX3_go_1 24 rfl rfl
theorem dksX3_go_3 : cX3_go.data.toList.drop 70 = dktX3_go_3 := dk_seg dksX3_go_2 24 rfl rfl
theorem dksX3_go_4 : cX3_go.data.toList.drop 94 = dktX3_go_4 := dk_seg dksX3_go_3 24 rfl rfl
theorem dksX3_go_5 : cX3_go.data.toList.drop 118 = dktX3_go_5 := dk_seg dksX3_go_4 24 rfl rfl
theorem dX3_go_0 : decode cX3_go 0 = .ok (.aload_n 0, 1) := dk_42 (dk_at dksX3_go_0 0 rfl rfl)
theorem dX3_go_1 : decode cX3_go 1 = .ok (.getfield 42, 3) := dk_180 0 42 (dk_at dksX3_go_0 1 rfl rfl)
theorem dX3_go_4 : decode cX3_go 4 = .ok (.aload_n 0, 1) := dk_42 (dk_at dksX3_go_0 4 rfl rfl)
theorem dX3_go_5 : decode cX3_go 5 = .ok (.getfield 39, 3) := dk_180 0 39 (dk_at dksX3_go_0 5 rfl rfl)
theorem dX3_go_8 : decode cX3_go 8 = .ok (.if_icmp .ge 44, 3) := dk_162 0 44 (dk_at dksX3_go_0 8 rfl rfl)
theorem dX3_go_11 : decode cX3_go 11 = .ok (.aload_n 0, 1) := dk_42 (dk_at dksX3_go_0 11 rfl rfl)
theorem dX3_go_12 : decode cX3_go 12 = .ok (.getfield 35, 3) := dk_180 0 35 (dk_at dksX3_go_0 12 rfl rfl)
theorem dX3_go_15 : decode cX3_go 15 = .ok (.aload_n 0, 1) := dk_42 (dk_at dksX3_go_0 15 rfl rfl)
theorem dX3_go_16 : decode cX3_go 16 = .ok (.getfield 42, 3) := dk_180 0 42 (dk_at dksX3_go_0 16 rfl rfl)
theorem dX3_go_19 : decode cX3_go 19 = .ok (.baload, 1) := dk_51 (dk_at dksX3_go_0 19 rfl rfl)
theorem dX3_go_20 : decode cX3_go 20 = .ok (.bipush 32, 2) := dk_16 32 (dk_at dksX3_go_0 20 rfl rfl)
theorem dX3_go_22 : decode cX3_go 22 = .ok (.if_icmp .eq 17, 3) := dk_159 0 17 (dk_at dksX3_go_1 0 rfl rfl)
theorem dX3_go_25 : decode cX3_go 25 = .ok (.aload_n 0, 1) := dk_42 (dk_at dksX3_go_1 3 rfl rfl)
theorem dX3_go_26 : decode cX3_go 26 = .ok (.getfield 35, 3) := dk_180 0 35 (dk_at dksX3_go_1 4 rfl rfl)
theorem dX3_go_29 : decode cX3_go 29 = .ok (.aload_n 0, 1) := dk_42 (dk_at dksX3_go_1 7 rfl rfl)
theorem dX3_go_30 : decode cX3_go 30 = .ok (.getfield 42, 3) := dk_180 0 42 (dk_at dksX3_go_1 8 rfl rfl)
theorem dX3_go_33 : decode cX3_go 33 = .ok (.baload, 1) := dk_51 (dk_at dksX3_go_1 11 rfl rfl)
theorem dX3_go_34 : decode cX3_go 34 = .ok (.bipush 10, 2) := dk_16 10 (dk_at dksX3_go_1 12 rfl rfl)
theorem dX3_go_36 : decode cX3_go 36 = .ok (.if_icmp .ne 16, 3) := dk_160 0 16 (dk_at dksX3_go_1 14 rfl rfl)
theorem dX3_go_39 : decode cX3_go 39 = .ok (.aload_n 0, 1) := dk_42 (dk_at dksX3_go_1 17 rfl rfl)
theorem dX3_go_40 : decode cX3_go 40 = .ok (.dup, 1) := dk_89 (dk_at dksX3_go_1 18 rfl rfl)
theorem dX3_go_41 : decode cX3_go 41 = .ok (.getfield 42, 3) := dk_180 0 42 (dk_at dksX3_go_1 19 rfl rfl)
theorem dX3_go_44 : decode cX3_go 44 = .ok (.iconst 1, 1) := dk_4 (dk_at dksX3_go_1 22 rfl rfl)
theorem dX3_go_45 : decode cX3_go 45 = .ok (.iadd, 1) := dk_96 (dk_at dksX3_go_1 23 rfl rfl)
theorem dX3_go_46 : decode cX3_go 46 = .ok (.putfield 42, 3) := dk_181 0 42 (dk_at dksX3_go_2 0 rfl rfl)
theorem dX3_go_49 : decode cX3_go 49 = .ok (.goto (-49), 3) := dk_167 255 207 (dk_at dksX3_go_2 3 rfl rfl)
theorem dX3_go_52 : decode cX3_go 52 = .ok (.aload_n 0, 1) := dk_42 (dk_at dksX3_go_2 6 rfl rfl)
theorem dX3_go_53 : decode cX3_go 53 = .ok (.aload_n 0, 1) := dk_42 (dk_at dksX3_go_2 7 rfl rfl)
theorem dX3_go_54 : decode cX3_go 54 = .ok (.getfield 42, 3) := dk_180 0 42 (dk_at dksX3_go_2 8 rfl rfl)
theorem dX3_go_57 : decode cX3_go 57 = .ok (.putfield 45, 3) := dk_181 0 45 (dk_at dksX3_go_2 11 rfl rfl)
theorem dX3_go_60 : decode cX3_go 60 = .ok (.aload_n 0, 1) := dk_42 (dk_at dksX3_go_2 14 rfl rfl)
theorem dX3_go_61 : decode cX3_go 61 = .ok (.aload_n 0, 1) := dk_42 (dk_at dksX3_go_2 15 rfl rfl)
theorem dX3_go_62 : decode cX3_go 62 = .ok (.getfield 42, 3) := dk_180 0 42 (dk_at dksX3_go_2 16 rfl rfl)
theorem dX3_go_65 : decode cX3_go 65 = .ok (.invokevirtual 48, 3) := dk_182 0 48 (dk_at dksX3_go_2 19 rfl rfl)
theorem dX3_go_68 : decode cX3_go 68 = .ok (.istore_n 1, 1) := dk_60 (dk_at dksX3_go_2 22 rfl rfl)
theorem dX3_go_69 : decode cX3_go 69 = .ok (.aload_n 0, 1) := dk_42 (dk_at dksX3_go_2 23 rfl rfl)
theorem dX3_go_70 : decode cX3_go 70 = .ok (.getfield 42, 3) := dk_180 0 42 (dk_at dksX3_go_3 0 rfl rfl)
theorem dX3_go_73 : decode cX3_go 73 = .ok (.aload_n 0, 1) := dk_42 (dk_at dksX3_go_3 3 rfl rfl)
theorem dX3_go_74 : decode cX3_go 74 = .ok (.getfield 39, 3) := dk_180 0 39 (dk_at dksX3_go_3 4 rfl rfl)
theorem dX3_go_77 : decode cX3_go 77 = .ok (.if_icmp .lt 13, 3) := dk_161 0 13 (dk_at dksX3_go_3 7 rfl rfl)
theorem dX3_go_80 : decode cX3_go 80 = .ok (.aload_n 0, 1) := dk_42 (dk_at dksX3_go_3 10 rfl rfl)
theorem dX3_go_81 : decode cX3_go 81 = .ok (.getstatic 52, 3) := dk_178 0 52 (dk_at dksX3_go_3 11 rfl rfl)
theorem dX3_go_84 : decode cX3_go 84 = .ok (.putfield 58, 3) := dk_181 0 58 (dk_at dksX3_go_3 14 rfl rfl)
theorem dX3_go_87 : decode cX3_go 87 = .ok (.goto 36, 3) := dk_167 0 36 (dk_at dksX3_go_3 17 rfl rfl)
theorem dX3_go_90 : decode cX3_go 90 = .ok (.iload_n 1, 1) := dk_27 (dk_at dksX3_go_3 20 rfl rfl)
theorem dX3_go_91 : decode cX3_go 91 = .ok (.invokestatic 61, 3) := dk_184 0 61 (dk_at dksX3_go_3 21 rfl rfl)
theorem dX3_go_94 : decode cX3_go 94 = .ok (.ifCond .eq 10, 3) := dk_153 0 10 (dk_at dksX3_go_4 0 rfl rfl)
theorem dX3_go_97 : decode cX3_go 97 = .ok (.aload_n 0, 1) := dk_42 (dk_at dksX3_go_4 3 rfl rfl)
theorem dX3_go_98 : decode cX3_go 98 = .ok (.invokevirtual 65, 3) := dk_182 0 65 (dk_at dksX3_go_4 4 rfl rfl)
theorem dX3_go_101 : decode cX3_go 101 = .ok (.goto 22, 3) := dk_167 0 22 (dk_at dksX3_go_4 7 rfl rfl)
theorem dX3_go_104 : decode cX3_go 104 = .ok (.iload_n 1, 1) := dk_27 (dk_at dksX3_go_4 10 rfl rfl)
theorem dX3_go_105 : decode cX3_go 105 = .ok (.invokestatic 68, 3) := dk_184 0 68 (dk_at dksX3_go_4 11 rfl rfl)
theorem dX3_go_108 : decode cX3_go 108 = .ok (.ifCond .eq 10, 3) := dk_153 0 10 (dk_at dksX3_go_4 14 rfl rfl)
theorem dX3_go_111 : decode cX3_go 111 = .ok (.aload_n 0, 1) := dk_42 (dk_at dksX3_go_4 17 rfl rfl)
theorem dX3_go_112 : decode cX3_go 112 = .ok (.invokevirtual 71, 3) := dk_182 0 71 (dk_at dksX3_go_4 18 rfl rfl)
theorem dX3_go_115 : decode cX3_go 115 = .ok (.goto 8, 3) := dk_167 0 8 (dk_at dksX3_go_4 21 rfl rfl)
theorem dX3_go_118 : decode cX3_go 118 = .ok (.aload_n 0, 1) := dk_42 (dk_at dksX3_go_5 0 rfl rfl)
theorem dX3_go_119 : decode cX3_go 119 = .ok (.iload_n 1, 1) := dk_27 (dk_at dksX3_go_5 1 rfl rfl)
theorem dX3_go_120 : decode cX3_go 120 = .ok (.invokevirtual 74, 3) := dk_182 0 74 (dk_at dksX3_go_5 2 rfl rfl)
theorem dX3_go_123 : decode cX3_go 123 = .ok (.return_, 1) := dk_177 (dk_at dksX3_go_5 5 rfl rfl)
def dkwX3_at_0 : List UInt8 := [27, 42, 180, 0, 39, 162, 0, 12, 42, 180, 0, 35, 27, 51, 167, 0, 4, 3, 172]
abbrev dktX3_at_0 : List UInt8 := dkwX3_at_0 ++ []
theorem dksX3_at_0 : cX3_at.data.toList.drop 0 = dktX3_at_0 := by decide +kernel
theorem dX3_at_0 : decode cX3_at 0 = .ok (.iload_n 1, 1) := dk_27 (dk_at dksX3_at_0 0 rfl rfl)
theorem dX3_at_1 : decode cX3_at 1 = .ok (.aload_n 0, 1) := dk_42 (dk_at dksX3_at_0 1 rfl rfl)
theorem dX3_at_2 : decode cX3_at 2 = .ok (.getfield 39, 3) := dk_180 0 39 (dk_at dksX3_at_0 2 rfl rfl)
theorem dX3_at_5 : decode cX3_at 5 = .ok (.if_icmp .ge 12, 3) := dk_162 0 12 (dk_at dksX3_at_0 5 rfl rfl)
theorem dX3_at_8 : decode cX3_at 8 = .ok (.aload_n 0, 1) := dk_42 (dk_at dksX3_at_0 8 rfl rfl)
theorem dX3_at_9 : decode cX3_at 9 = .ok (.getfield 35, 3) := dk_180 0 35 (dk_at dksX3_at_0 9 rfl rfl)
theorem dX3_at_12 : decode cX3_at 12 = .ok (.iload_n 1, 1) := dk_27 (dk_at dksX3_at_0 12 rfl rfl)
theorem dX3_at_13 : decode cX3_at 13 = .ok (.baload, 1) := dk_51 (dk_at dksX3_at_0 13 rfl rfl)
theorem dX3_at_14 : decode cX3_at 14 = .ok (.goto 4, 3) := dk_167 0 4 (dk_at dksX3_at_0 14 rfl rfl)
theorem dX3_at_17 : decode cX3_at 17 = .ok (.iconst 0, 1) := dk_3 (dk_at dksX3_at_0 17 rfl rfl)
theorem dX3_at_18 : decode cX3_at 18 = .ok (.ireturn, 1) := dk_172 (dk_at dksX3_at_0 18 rfl rfl)
def dkwX3_isLetter_0 : List UInt8 := [26, 16, 97, 161, 0, 13, 26, 16, 122, 163, 0, 7, 4, 167, 0, 4, 3, 172]
abbrev dktX3_isLetter_0 : List UInt8 := dkwX3_isLetter_0 ++ []
theorem dksX3_isLetter_0 : cX3_isLetter.data.toList.drop 0 = dktX3_isLetter_0 := by decide +kernel
theorem dX3_isLetter_0 : decode cX3_isLetter 0 = .ok (.iload_n 0, 1) := dk_26 (dk_at dksX3_isLetter_0 0 rfl rfl)
theorem dX3_isLetter_1 : decode cX3_isLetter 1 = .ok (.bipush 97, 2) := dk_16 97 (dk_at dksX3_isLetter_0 1 rfl rfl)
theorem dX3_isLetter_3 : decode cX3_isLetter 3 = .ok (.if_icmp .lt 13, 3) := dk_161 0 13 (dk_at dksX3_isLetter_0 3 rfl rfl)
theorem dX3_isLetter_6 : decode cX3_isLetter 6 = .ok (.iload_n 0, 1) := dk_26 (dk_at dksX3_isLetter_0 6 rfl rfl)
theorem dX3_isLetter_7 : decode cX3_isLetter 7 = .ok (.bipush 122, 2) := dk_16 122 (dk_at dksX3_isLetter_0 7 rfl rfl)
theorem dX3_isLetter_9 : decode cX3_isLetter 9 = .ok (.if_icmp .gt 7, 3) := dk_163 0 7 (dk_at dksX3_isLetter_0 9 rfl rfl)
theorem dX3_isLetter_12 : decode cX3_isLetter 12 = .ok (.iconst 1, 1) := dk_4 (dk_at dksX3_isLetter_0 12 rfl rfl)
theorem dX3_isLetter_13 : decode cX3_isLetter 13 = .ok (.goto 4, 3) := dk_167 0 4 (dk_at dksX3_isLetter_0 13 rfl rfl)
theorem dX3_isLetter_16 : decode cX3_isLetter 16 = .ok (.iconst 0, 1) := dk_3 (dk_at dksX3_isLetter_0 16 rfl rfl)
theorem dX3_isLetter_17 : decode cX3_isLetter 17 = .ok (.ireturn, 1) := dk_172 (dk_at dksX3_isLetter_0 17 rfl rfl)
def dkwX3_letters_4 : List UInt8 := [181, 0, 58, 177]
abbrev dktX3_letters_4 : List UInt8 := dkwX3_letters_4 ++ []
def dkwX3_letters_3 : List UInt8 := [180, 0, 42, 42, 180, 0, 45, 100, 16, 8, 164, 0, 9, 178, 0, 81, 167, 0, 6, 178, 0, 84]
abbrev dktX3_letters_3 : List UInt8 := dkwX3_letters_3 ++ dktX3_letters_4
def dkwX3_letters_2 : List UInt8 := [182, 0, 48, 133, 129, 181, 0, 77, 42, 89, 180, 0, 42, 4, 96, 181, 0, 42, 167, 255, 197, 42, 42]
abbrev dktX3_letters_2 : List UInt8 := dkwX3_letters_2 ++ dktX3_letters_3
def dkwX3_letters_1 : List UInt8 := [182, 0, 48, 184, 0, 68, 153, 0, 37, 42, 42, 180, 0, 77, 16, 8, 121, 42, 42, 180, 0, 42]
abbrev dktX3_letters_1 : List UInt8 := dkwX3_letters_1 ++ dktX3_letters_2
def dkwX3_letters_0 : List UInt8 := [42, 9, 181, 0, 77, 42, 42, 180, 0, 42, 182, 0, 48, 184, 0, 61, 154, 0, 17, 42, 42, 180, 0, 42]
abbrev dktX3_letters_0 : List UInt8 := dkwX3_letters_0 ++ dktX3_letters_1
theorem dksX3_letters_0 : cX3_letters.data.toList.drop 0 = dktX3_letters_0 := by decide +kernel
theorem dksX3_letters_1 : cX3_letters.data.toList.drop 24 = dktX3_letters_1 := dk_seg dksX3_letters_0 24 rfl rfl
theorem dksX3_letters_2 : cX3_letters.data.toList.drop 46 = dktX3_letters_2 := dk_seg dksX3_letters_1 22 rfl rfl
theorem dksX3_letters_3 : cX3_letters.data.toList.drop 69 = dktX3_letters_3 := dk_seg dksX3_letters_2 23 rfl rfl
theorem dksX3_letters_4 : cX3_letters.data.toList.drop 91 = dktX3_letters_4 := dk_seg dksX3_letters_3 22 rfl rfl
theorem dX3_letters_0 : decode cX3_letters 0 = .ok (.aload_n 0, 1) := dk_42 (dk_at dksX3_letters_0 0 rfl rfl)
theorem dX3_letters_1 : decode cX3_letters 1 = .ok (.lconst 0, 1) := dk_9 (dk_at dksX3_letters_0 1 rfl rfl)
theorem dX3_letters_2 : decode cX3_letters 2 = .ok (.putfield 77, 3) := dk_181 0 77 (dk_at dksX3_letters_0 2 rfl rfl)
theorem dX3_letters_5 : decode cX3_letters 5 = .ok (.aload_n 0, 1) := dk_42 (dk_at dksX3_letters_0 5 rfl rfl)
theorem dX3_letters_6 : decode cX3_letters 6 = .ok (.aload_n 0, 1) := dk_42 (dk_at dksX3_letters_0 6 rfl rfl)
theorem dX3_letters_7 : decode cX3_letters 7 = .ok (.getfield 42, 3) := dk_180 0 42 (dk_at dksX3_letters_0 7 rfl rfl)
theorem dX3_letters_10 : decode cX3_letters 10 = .ok (.invokevirtual 48, 3) := dk_182 0 48 (dk_at dksX3_letters_0 10 rfl rfl)
theorem dX3_letters_13 : decode cX3_letters 13 = .ok (.invokestatic 61, 3) := dk_184 0 61 (dk_at dksX3_letters_0 13 rfl rfl)
theorem dX3_letters_16 : decode cX3_letters 16 = .ok (.ifCond .ne 17, 3) := dk_154 0 17 (dk_at dksX3_letters_0 16 rfl rfl)
theorem dX3_letters_19 : decode cX3_letters 19 = .ok (.aload_n 0, 1) := dk_42 (dk_at dksX3_letters_0 19 rfl rfl)
theorem dX3_letters_20 : decode cX3_letters 20 = .ok (.aload_n 0, 1) := dk_42 (dk_at dksX3_letters_0 20 rfl rfl)
theorem dX3_letters_21 : decode cX3_letters 21 = .ok (.getfield 42, 3) := dk_180 0 42 (dk_at dksX3_letters_0 21 rfl rfl)
theorem dX3_letters_24 : decode cX3_letters 24 = .ok (.invokevirtual 48, 3) := dk_182 0 48 (dk_at dksX3_letters_1 0 rfl rfl)
theorem dX3_letters_27 : decode cX3_letters 27 = .ok (.invokestatic 68, 3) := dk_184 0 68 (dk_at dksX3_letters_1 3 rfl rfl)
theorem dX3_letters_30 : decode cX3_letters 30 = .ok (.ifCond .eq 37, 3) := dk_153 0 37 (dk_at dksX3_letters_1 6 rfl rfl)
theorem dX3_letters_33 : decode cX3_letters 33 = .ok (.aload_n 0, 1) := dk_42 (dk_at dksX3_letters_1 9 rfl rfl)
theorem dX3_letters_34 : decode cX3_letters 34 = .ok (.aload_n 0, 1) := dk_42 (dk_at dksX3_letters_1 10 rfl rfl)
theorem dX3_letters_35 : decode cX3_letters 35 = .ok (.getfield 77, 3) := dk_180 0 77 (dk_at dksX3_letters_1 11 rfl rfl)
theorem dX3_letters_38 : decode cX3_letters 38 = .ok (.bipush 8, 2) := dk_16 8 (dk_at dksX3_letters_1 14 rfl rfl)
theorem dX3_letters_40 : decode cX3_letters 40 = .ok (.lshl, 1) := dk_121 (dk_at dksX3_letters_1 16 rfl rfl)
theorem dX3_letters_41 : decode cX3_letters 41 = .ok (.aload_n 0, 1) := dk_42 (dk_at dksX3_letters_1 17 rfl rfl)
theorem dX3_letters_42 : decode cX3_letters 42 = .ok (.aload_n 0, 1) := dk_42 (dk_at dksX3_letters_1 18 rfl rfl)
theorem dX3_letters_43 : decode cX3_letters 43 = .ok (.getfield 42, 3) := dk_180 0 42 (dk_at dksX3_letters_1 19 rfl rfl)
theorem dX3_letters_46 : decode cX3_letters 46 = .ok (.invokevirtual 48, 3) := dk_182 0 48 (dk_at dksX3_letters_2 0 rfl rfl)
theorem dX3_letters_49 : decode cX3_letters 49 = .ok (.i2l, 1) := dk_133 (dk_at dksX3_letters_2 3 rfl rfl)
theorem dX3_letters_50 : decode cX3_letters 50 = .ok (.lor, 1) := dk_129 (dk_at dksX3_letters_2 4 rfl rfl)
theorem dX3_letters_51 : decode cX3_letters 51 = .ok (.putfield 77, 3) := dk_181 0 77 (dk_at dksX3_letters_2 5 rfl rfl)
theorem dX3_letters_54 : decode cX3_letters 54 = .ok (.aload_n 0, 1) := dk_42 (dk_at dksX3_letters_2 8 rfl rfl)
theorem dX3_letters_55 : decode cX3_letters 55 = .ok (.dup, 1) := dk_89 (dk_at dksX3_letters_2 9 rfl rfl)
theorem dX3_letters_56 : decode cX3_letters 56 = .ok (.getfield 42, 3) := dk_180 0 42 (dk_at dksX3_letters_2 10 rfl rfl)
theorem dX3_letters_59 : decode cX3_letters 59 = .ok (.iconst 1, 1) := dk_4 (dk_at dksX3_letters_2 13 rfl rfl)
theorem dX3_letters_60 : decode cX3_letters 60 = .ok (.iadd, 1) := dk_96 (dk_at dksX3_letters_2 14 rfl rfl)
theorem dX3_letters_61 : decode cX3_letters 61 = .ok (.putfield 42, 3) := dk_181 0 42 (dk_at dksX3_letters_2 15 rfl rfl)
theorem dX3_letters_64 : decode cX3_letters 64 = .ok (.goto (-59), 3) := dk_167 255 197 (dk_at dksX3_letters_2 18 rfl rfl)
theorem dX3_letters_67 : decode cX3_letters 67 = .ok (.aload_n 0, 1) := dk_42 (dk_at dksX3_letters_2 21 rfl rfl)
theorem dX3_letters_68 : decode cX3_letters 68 = .ok (.aload_n 0, 1) := dk_42 (dk_at dksX3_letters_2 22 rfl rfl)
theorem dX3_letters_69 : decode cX3_letters 69 = .ok (.getfield 42, 3) := dk_180 0 42 (dk_at dksX3_letters_3 0 rfl rfl)
theorem dX3_letters_72 : decode cX3_letters 72 = .ok (.aload_n 0, 1) := dk_42 (dk_at dksX3_letters_3 3 rfl rfl)
theorem dX3_letters_73 : decode cX3_letters 73 = .ok (.getfield 45, 3) := dk_180 0 45 (dk_at dksX3_letters_3 4 rfl rfl)
theorem dX3_letters_76 : decode cX3_letters 76 = .ok (.isub, 1) := dk_100 (dk_at dksX3_letters_3 7 rfl rfl)
theorem dX3_letters_77 : decode cX3_letters 77 = .ok (.bipush 8, 2) := dk_16 8 (dk_at dksX3_letters_3 8 rfl rfl)
theorem dX3_letters_79 : decode cX3_letters 79 = .ok (.if_icmp .le 9, 3) := dk_164 0 9 (dk_at dksX3_letters_3 10 rfl rfl)
theorem dX3_letters_82 : decode cX3_letters 82 = .ok (.getstatic 81, 3) := dk_178 0 81 (dk_at dksX3_letters_3 13 rfl rfl)
theorem dX3_letters_85 : decode cX3_letters 85 = .ok (.goto 6, 3) := dk_167 0 6 (dk_at dksX3_letters_3 16 rfl rfl)
theorem dX3_letters_88 : decode cX3_letters 88 = .ok (.getstatic 84, 3) := dk_178 0 84 (dk_at dksX3_letters_3 19 rfl rfl)
theorem dX3_letters_91 : decode cX3_letters 91 = .ok (.putfield 58, 3) := dk_181 0 58 (dk_at dksX3_letters_4 0 rfl rfl)
theorem dX3_letters_94 : decode cX3_letters 94 = .ok (.return_, 1) := dk_177 (dk_at dksX3_letters_4 3 rfl rfl)
def dkwX3_isDigit_0 : List UInt8 := [26, 16, 48, 161, 0, 13, 26, 16, 57, 163, 0, 7, 4, 167, 0, 4, 3, 172]
abbrev dktX3_isDigit_0 : List UInt8 := dkwX3_isDigit_0 ++ []
theorem dksX3_isDigit_0 : cX3_isDigit.data.toList.drop 0 = dktX3_isDigit_0 := by decide +kernel
theorem dX3_isDigit_0 : decode cX3_isDigit 0 = .ok (.iload_n 0, 1) := dk_26 (dk_at dksX3_isDigit_0 0 rfl rfl)
theorem dX3_isDigit_1 : decode cX3_isDigit 1 = .ok (.bipush 48, 2) := dk_16 48 (dk_at dksX3_isDigit_0 1 rfl rfl)
theorem dX3_isDigit_3 : decode cX3_isDigit 3 = .ok (.if_icmp .lt 13, 3) := dk_161 0 13 (dk_at dksX3_isDigit_0 3 rfl rfl)
theorem dX3_isDigit_6 : decode cX3_isDigit 6 = .ok (.iload_n 0, 1) := dk_26 (dk_at dksX3_isDigit_0 6 rfl rfl)
theorem dX3_isDigit_7 : decode cX3_isDigit 7 = .ok (.bipush 57, 2) := dk_16 57 (dk_at dksX3_isDigit_0 7 rfl rfl)
theorem dX3_isDigit_9 : decode cX3_isDigit 9 = .ok (.if_icmp .gt 7, 3) := dk_163 0 7 (dk_at dksX3_isDigit_0 9 rfl rfl)
theorem dX3_isDigit_12 : decode cX3_isDigit 12 = .ok (.iconst 1, 1) := dk_4 (dk_at dksX3_isDigit_0 12 rfl rfl)
theorem dX3_isDigit_13 : decode cX3_isDigit 13 = .ok (.goto 4, 3) := dk_167 0 4 (dk_at dksX3_isDigit_0 13 rfl rfl)
theorem dX3_isDigit_16 : decode cX3_isDigit 16 = .ok (.iconst 0, 1) := dk_3 (dk_at dksX3_isDigit_0 16 rfl rfl)
theorem dX3_isDigit_17 : decode cX3_isDigit 17 = .ok (.ireturn, 1) := dk_172 (dk_at dksX3_isDigit_0 17 rfl rfl)
def dkwX3_digits_4 : List UInt8 := [178, 0, 90, 181, 0, 58, 177]
abbrev dktX3_digits_4 : List UInt8 := dkwX3_digits_4 ++ []
def dkwX3_digits_3 : List UInt8 := [167, 255, 189, 42, 42, 180, 0, 42, 42, 180, 0, 45, 100, 7, 164, 0, 9, 178, 0, 81, 167, 0, 6]
abbrev dktX3_digits_3 : List UInt8 := dkwX3_digits_3 ++ dktX3_digits_4
def dkwX3_digits_2 : List UInt8 := [96, 16, 48, 100, 167, 0, 7, 42, 180, 0, 87, 181, 0, 87, 42, 89, 180, 0, 42, 4, 96, 181, 0, 42]
abbrev dktX3_digits_2 : List UInt8 := dkwX3_digits_2 ++ dktX3_digits_3
def dkwX3_digits_1 : List UInt8 := [42, 180, 0, 45, 100, 7, 162, 0, 25, 16, 10, 42, 180, 0, 87, 104, 42, 42, 180, 0, 42, 182, 0, 48]
abbrev dktX3_digits_1 : List UInt8 := dkwX3_digits_1 ++ dktX3_digits_2
def dkwX3_digits_0 : List UInt8 := [42, 3, 181, 0, 87, 42, 42, 180, 0, 42, 182, 0, 48, 184, 0, 68, 153, 0, 59, 42, 42, 180, 0, 42]
abbrev dktX3_digits_0 : List UInt8 := dkwX3_digits_0 ++ dktX3_digits_1
theorem dksX3_digits_0 : cX3_digits.data.toList.drop 0 = dktX3_digits_0 := by decide +kernel
theorem dksX3_digits_1 : cX3_digits.data.toList.drop 24 = dktX3_digits_1 := dk_seg dksX3_digits_0 24 rfl rfl
theorem dksX3_digits_2 : cX3_digits.data.toList.drop 48 = dktX3_digits_2 := dk_seg dksX3_digits_1 24 rfl rfl
theorem dksX3_digits_3 : cX3_digits.data.toList.drop 72 = dktX3_digits_3 := dk_seg dksX3_digits_2 24 rfl rfl
theorem dksX3_digits_4 : cX3_digits.data.toList.drop 95 = dktX3_digits_4 := dk_seg dksX3_digits_3 23 rfl rfl
theorem dX3_digits_0 : decode cX3_digits 0 = .ok (.aload_n 0, 1) := dk_42 (dk_at dksX3_digits_0 0 rfl rfl)
theorem dX3_digits_1 : decode cX3_digits 1 = .ok (.iconst 0, 1) := dk_3 (dk_at dksX3_digits_0 1 rfl rfl)
theorem dX3_digits_2 : decode cX3_digits 2 = .ok (.putfield 87, 3) := dk_181 0 87 (dk_at dksX3_digits_0 2 rfl rfl)
theorem dX3_digits_5 : decode cX3_digits 5 = .ok (.aload_n 0, 1) := dk_42 (dk_at dksX3_digits_0 5 rfl rfl)
theorem dX3_digits_6 : decode cX3_digits 6 = .ok (.aload_n 0, 1) := dk_42 (dk_at dksX3_digits_0 6 rfl rfl)
theorem dX3_digits_7 : decode cX3_digits 7 = .ok (.getfield 42, 3) := dk_180 0 42 (dk_at dksX3_digits_0 7 rfl rfl)
theorem dX3_digits_10 : decode cX3_digits 10 = .ok (.invokevirtual 48, 3) := dk_182 0 48 (dk_at dksX3_digits_0 10 rfl rfl)
theorem dX3_digits_13 : decode cX3_digits 13 = .ok (.invokestatic 68, 3) := dk_184 0 68 (dk_at dksX3_digits_0 13 rfl rfl)
theorem dX3_digits_16 : decode cX3_digits 16 = .ok (.ifCond .eq 59, 3) := dk_153 0 59 (dk_at dksX3_digits_0 16 rfl rfl)
theorem dX3_digits_19 : decode cX3_digits 19 = .ok (.aload_n 0, 1) := dk_42 (dk_at dksX3_digits_0 19 rfl rfl)
theorem dX3_digits_20 : decode cX3_digits 20 = .ok (.aload_n 0, 1) := dk_42 (dk_at dksX3_digits_0 20 rfl rfl)
theorem dX3_digits_21 : decode cX3_digits 21 = .ok (.getfield 42, 3) := dk_180 0 42 (dk_at dksX3_digits_0 21 rfl rfl)
theorem dX3_digits_24 : decode cX3_digits 24 = .ok (.aload_n 0, 1) := dk_42 (dk_at dksX3_digits_1 0 rfl rfl)
theorem dX3_digits_25 : decode cX3_digits 25 = .ok (.getfield 45, 3) := dk_180 0 45 (dk_at dksX3_digits_1 1 rfl rfl)
theorem dX3_digits_28 : decode cX3_digits 28 = .ok (.isub, 1) := dk_100 (dk_at dksX3_digits_1 4 rfl rfl)
theorem dX3_digits_29 : decode cX3_digits 29 = .ok (.iconst 4, 1) := dk_7 (dk_at dksX3_digits_1 5 rfl rfl)
theorem dX3_digits_30 : decode cX3_digits 30 = .ok (.if_icmp .ge 25, 3) := dk_162 0 25 (dk_at dksX3_digits_1 6 rfl rfl)
theorem dX3_digits_33 : decode cX3_digits 33 = .ok (.bipush 10, 2) := dk_16 10 (dk_at dksX3_digits_1 9 rfl rfl)
theorem dX3_digits_35 : decode cX3_digits 35 = .ok (.aload_n 0, 1) := dk_42 (dk_at dksX3_digits_1 11 rfl rfl)
theorem dX3_digits_36 : decode cX3_digits 36 = .ok (.getfield 87, 3) := dk_180 0 87 (dk_at dksX3_digits_1 12 rfl rfl)
theorem dX3_digits_39 : decode cX3_digits 39 = .ok (.imul, 1) := dk_104 (dk_at dksX3_digits_1 15 rfl rfl)
theorem dX3_digits_40 : decode cX3_digits 40 = .ok (.aload_n 0, 1) := dk_42 (dk_at dksX3_digits_1 16 rfl rfl)
theorem dX3_digits_41 : decode cX3_digits 41 = .ok (.aload_n 0, 1) := dk_42 (dk_at dksX3_digits_1 17 rfl rfl)
theorem dX3_digits_42 : decode cX3_digits 42 = .ok (.getfield 42, 3) := dk_180 0 42 (dk_at dksX3_digits_1 18 rfl rfl)
theorem dX3_digits_45 : decode cX3_digits 45 = .ok (.invokevirtual 48, 3) := dk_182 0 48 (dk_at dksX3_digits_1 21 rfl rfl)
theorem dX3_digits_48 : decode cX3_digits 48 = .ok (.iadd, 1) := dk_96 (dk_at dksX3_digits_2 0 rfl rfl)
theorem dX3_digits_49 : decode cX3_digits 49 = .ok (.bipush 48, 2) := dk_16 48 (dk_at dksX3_digits_2 1 rfl rfl)
theorem dX3_digits_51 : decode cX3_digits 51 = .ok (.isub, 1) := dk_100 (dk_at dksX3_digits_2 3 rfl rfl)
theorem dX3_digits_52 : decode cX3_digits 52 = .ok (.goto 7, 3) := dk_167 0 7 (dk_at dksX3_digits_2 4 rfl rfl)
theorem dX3_digits_55 : decode cX3_digits 55 = .ok (.aload_n 0, 1) := dk_42 (dk_at dksX3_digits_2 7 rfl rfl)
theorem dX3_digits_56 : decode cX3_digits 56 = .ok (.getfield 87, 3) := dk_180 0 87 (dk_at dksX3_digits_2 8 rfl rfl)
theorem dX3_digits_59 : decode cX3_digits 59 = .ok (.putfield 87, 3) := dk_181 0 87 (dk_at dksX3_digits_2 11 rfl rfl)
theorem dX3_digits_62 : decode cX3_digits 62 = .ok (.aload_n 0, 1) := dk_42 (dk_at dksX3_digits_2 14 rfl rfl)
theorem dX3_digits_63 : decode cX3_digits 63 = .ok (.dup, 1) := dk_89 (dk_at dksX3_digits_2 15 rfl rfl)
theorem dX3_digits_64 : decode cX3_digits 64 = .ok (.getfield 42, 3) := dk_180 0 42 (dk_at dksX3_digits_2 16 rfl rfl)
theorem dX3_digits_67 : decode cX3_digits 67 = .ok (.iconst 1, 1) := dk_4 (dk_at dksX3_digits_2 19 rfl rfl)
theorem dX3_digits_68 : decode cX3_digits 68 = .ok (.iadd, 1) := dk_96 (dk_at dksX3_digits_2 20 rfl rfl)
theorem dX3_digits_69 : decode cX3_digits 69 = .ok (.putfield 42, 3) := dk_181 0 42 (dk_at dksX3_digits_2 21 rfl rfl)
theorem dX3_digits_72 : decode cX3_digits 72 = .ok (.goto (-67), 3) := dk_167 255 189 (dk_at dksX3_digits_3 0 rfl rfl)
theorem dX3_digits_75 : decode cX3_digits 75 = .ok (.aload_n 0, 1) := dk_42 (dk_at dksX3_digits_3 3 rfl rfl)
theorem dX3_digits_76 : decode cX3_digits 76 = .ok (.aload_n 0, 1) := dk_42 (dk_at dksX3_digits_3 4 rfl rfl)
theorem dX3_digits_77 : decode cX3_digits 77 = .ok (.getfield 42, 3) := dk_180 0 42 (dk_at dksX3_digits_3 5 rfl rfl)
theorem dX3_digits_80 : decode cX3_digits 80 = .ok (.aload_n 0, 1) := dk_42 (dk_at dksX3_digits_3 8 rfl rfl)
theorem dX3_digits_81 : decode cX3_digits 81 = .ok (.getfield 45, 3) := dk_180 0 45 (dk_at dksX3_digits_3 9 rfl rfl)
theorem dX3_digits_84 : decode cX3_digits 84 = .ok (.isub, 1) := dk_100 (dk_at dksX3_digits_3 12 rfl rfl)
theorem dX3_digits_85 : decode cX3_digits 85 = .ok (.iconst 4, 1) := dk_7 (dk_at dksX3_digits_3 13 rfl rfl)
theorem dX3_digits_86 : decode cX3_digits 86 = .ok (.if_icmp .le 9, 3) := dk_164 0 9 (dk_at dksX3_digits_3 14 rfl rfl)
theorem dX3_digits_89 : decode cX3_digits 89 = .ok (.getstatic 81, 3) := dk_178 0 81 (dk_at dksX3_digits_3 17 rfl rfl)
theorem dX3_digits_92 : decode cX3_digits 92 = .ok (.goto 6, 3) := dk_167 0 6 (dk_at dksX3_digits_3 20 rfl rfl)
theorem dX3_digits_95 : decode cX3_digits 95 = .ok (.getstatic 90, 3) := dk_178 0 90 (dk_at dksX3_digits_4 0 rfl rfl)
theorem dX3_digits_98 : decode cX3_digits 98 = .ok (.putfield 58, 3) := dk_181 0 58 (dk_at dksX3_digits_4 3 rfl rfl)
theorem dX3_digits_101 : decode cX3_digits 101 = .ok (.return_, 1) := dk_177 (dk_at dksX3_digits_4 6 rfl rfl)
def dkwX3_signs_6 : List UInt8 := [182, 0, 101, 156, 0, 10, 42, 178, 0, 81, 181, 0, 58, 177]
abbrev dktX3_signs_6 : List UInt8 := dkwX3_signs_6 ++ []
def dkwX3_signs_5 : List UInt8 := [42, 89, 180, 0, 42, 4, 96, 181, 0, 42, 167, 0, 25, 27, 16, 33, 159, 0, 12, 18, 99, 27]
abbrev dktX3_signs_5 : List UInt8 := dkwX3_signs_5 ++ dktX3_signs_6
def dkwX3_signs_4 : List UInt8 := [17, 1, 1, 167, 0, 18, 27, 16, 61, 160, 0, 9, 17, 1, 2, 167, 0, 6, 17, 1, 3, 181, 0, 96]
abbrev dktX3_signs_4 : List UInt8 := dkwX3_signs_4 ++ dktX3_signs_5
def dkwX3_signs_3 : List UInt8 := [160, 0, 59, 42, 27, 16, 60, 160, 0, 9, 17, 1, 0, 167, 0, 30, 27, 16, 62, 160, 0, 9]
abbrev dktX3_signs_3 : List UInt8 := dkwX3_signs_3 ++ dktX3_signs_4
def dkwX3_signs_2 : List UInt8 := [153, 0, 83, 27, 16, 60, 159, 0, 21, 27, 16, 62, 159, 0, 15, 27, 16, 61, 159, 0, 9, 27, 16, 33]
abbrev dktX3_signs_2 : List UInt8 := dkwX3_signs_2 ++ dktX3_signs_3
def dkwX3_signs_1 : List UInt8 := [178, 0, 93, 181, 0, 58, 42, 27, 181, 0, 96, 42, 89, 180, 0, 42, 4, 96, 181, 0, 42, 28]
abbrev dktX3_signs_1 : List UInt8 := dkwX3_signs_1 ++ dktX3_signs_2
def dkwX3_signs_0 : List UInt8 := [42, 42, 180, 0, 42, 4, 96, 182, 0, 48, 16, 61, 160, 0, 7, 4, 167, 0, 4, 3, 61, 42]
abbrev dktX3_signs_0 : List UInt8 := dkwX3_signs_0 ++ dktX3_signs_1
theorem dksX3_signs_0 : cX3_signs.data.toList.drop 0 = dktX3_signs_0 := by decide +kernel
theorem dksX3_signs_1 : cX3_signs.data.toList.drop 22 = dktX3_signs_1 := dk_seg dksX3_signs_0 22 rfl rfl
theorem dksX3_signs_2 : cX3_signs.data.toList.drop 44 = dktX3_signs_2 := dk_seg dksX3_signs_1 22 rfl rfl
theorem dksX3_signs_3 : cX3_signs.data.toList.drop 68 = dktX3_signs_3 := dk_seg dksX3_signs_2 24 rfl rfl
theorem dksX3_signs_4 : cX3_signs.data.toList.drop 90 = dktX3_signs_4 := dk_seg dksX3_signs_3 22 rfl rfl
theorem dksX3_signs_5 : cX3_signs.data.toList.drop 114 = dktX3_signs_5 := dk_seg dksX3_signs_4 24 rfl rfl
theorem dksX3_signs_6 : cX3_signs.data.toList.drop 136 = dktX3_signs_6 := dk_seg dksX3_signs_5 22 rfl rfl
theorem dX3_signs_0 : decode cX3_signs 0 = .ok (.aload_n 0, 1) := dk_42 (dk_at dksX3_signs_0 0 rfl rfl)
theorem dX3_signs_1 : decode cX3_signs 1 = .ok (.aload_n 0, 1) := dk_42 (dk_at dksX3_signs_0 1 rfl rfl)
theorem dX3_signs_2 : decode cX3_signs 2 = .ok (.getfield 42, 3) := dk_180 0 42 (dk_at dksX3_signs_0 2 rfl rfl)
theorem dX3_signs_5 : decode cX3_signs 5 = .ok (.iconst 1, 1) := dk_4 (dk_at dksX3_signs_0 5 rfl rfl)
theorem dX3_signs_6 : decode cX3_signs 6 = .ok (.iadd, 1) := dk_96 (dk_at dksX3_signs_0 6 rfl rfl)
theorem dX3_signs_7 : decode cX3_signs 7 = .ok (.invokevirtual 48, 3) := dk_182 0 48 (dk_at dksX3_signs_0 7 rfl rfl)
theorem dX3_signs_10 : decode cX3_signs 10 = .ok (.bipush 61, 2) := dk_16 61 (dk_at dksX3_signs_0 10 rfl rfl)
theorem dX3_signs_12 : decode cX3_signs 12 = .ok (.if_icmp .ne 7, 3) := dk_160 0 7 (dk_at dksX3_signs_0 12 rfl rfl)
theorem dX3_signs_15 : decode cX3_signs 15 = .ok (.iconst 1, 1) := dk_4 (dk_at dksX3_signs_0 15 rfl rfl)
theorem dX3_signs_16 : decode cX3_signs 16 = .ok (.goto 4, 3) := dk_167 0 4 (dk_at dksX3_signs_0 16 rfl rfl)
theorem dX3_signs_19 : decode cX3_signs 19 = .ok (.iconst 0, 1) := dk_3 (dk_at dksX3_signs_0 19 rfl rfl)
theorem dX3_signs_20 : decode cX3_signs 20 = .ok (.istore_n 2, 1) := dk_61 (dk_at dksX3_signs_0 20 rfl rfl)
theorem dX3_signs_21 : decode cX3_signs 21 = .ok (.aload_n 0, 1) := dk_42 (dk_at dksX3_signs_0 21 rfl rfl)
theorem dX3_signs_22 : decode cX3_signs 22 = .ok (.getstatic 93, 3) := dk_178 0 93 (dk_at dksX3_signs_1 0 rfl rfl)
theorem dX3_signs_25 : decode cX3_signs 25 = .ok (.putfield 58, 3) := dk_181 0 58 (dk_at dksX3_signs_1 3 rfl rfl)
theorem dX3_signs_28 : decode cX3_signs 28 = .ok (.aload_n 0, 1) := dk_42 (dk_at dksX3_signs_1 6 rfl rfl)
theorem dX3_signs_29 : decode cX3_signs 29 = .ok (.iload_n 1, 1) := dk_27 (dk_at dksX3_signs_1 7 rfl rfl)
theorem dX3_signs_30 : decode cX3_signs 30 = .ok (.putfield 96, 3) := dk_181 0 96 (dk_at dksX3_signs_1 8 rfl rfl)
theorem dX3_signs_33 : decode cX3_signs 33 = .ok (.aload_n 0, 1) := dk_42 (dk_at dksX3_signs_1 11 rfl rfl)
theorem dX3_signs_34 : decode cX3_signs 34 = .ok (.dup, 1) := dk_89 (dk_at dksX3_signs_1 12 rfl rfl)
theorem dX3_signs_35 : decode cX3_signs 35 = .ok (.getfield 42, 3) := dk_180 0 42 (dk_at dksX3_signs_1 13 rfl rfl)
theorem dX3_signs_38 : decode cX3_signs 38 = .ok (.iconst 1, 1) := dk_4 (dk_at dksX3_signs_1 16 rfl rfl)
theorem dX3_signs_39 : decode cX3_signs 39 = .ok (.iadd, 1) := dk_96 (dk_at dksX3_signs_1 17 rfl rfl)
theorem dX3_signs_40 : decode cX3_signs 40 = .ok (.putfield 42, 3) := dk_181 0 42 (dk_at dksX3_signs_1 18 rfl rfl)
theorem dX3_signs_43 : decode cX3_signs 43 = .ok (.iload_n 2, 1) := dk_28 (dk_at dksX3_signs_1 21 rfl rfl)
theorem dX3_signs_44 : decode cX3_signs 44 = .ok (.ifCond .eq 83, 3) := dk_153 0 83 (dk_at dksX3_signs_2 0 rfl rfl)
theorem dX3_signs_47 : decode cX3_signs 47 = .ok (.iload_n 1, 1) := dk_27 (dk_at dksX3_signs_2 3 rfl rfl)
theorem dX3_signs_48 : decode cX3_signs 48 = .ok (.bipush 60, 2) := dk_16 60 (dk_at dksX3_signs_2 4 rfl rfl)
theorem dX3_signs_50 : decode cX3_signs 50 = .ok (.if_icmp .eq 21, 3) := dk_159 0 21 (dk_at dksX3_signs_2 6 rfl rfl)
theorem dX3_signs_53 : decode cX3_signs 53 = .ok (.iload_n 1, 1) := dk_27 (dk_at dksX3_signs_2 9 rfl rfl)
theorem dX3_signs_54 : decode cX3_signs 54 = .ok (.bipush 62, 2) := dk_16 62 (dk_at dksX3_signs_2 10 rfl rfl)
theorem dX3_signs_56 : decode cX3_signs 56 = .ok (.if_icmp .eq 15, 3) := dk_159 0 15 (dk_at dksX3_signs_2 12 rfl rfl)
theorem dX3_signs_59 : decode cX3_signs 59 = .ok (.iload_n 1, 1) := dk_27 (dk_at dksX3_signs_2 15 rfl rfl)
theorem dX3_signs_60 : decode cX3_signs 60 = .ok (.bipush 61, 2) := dk_16 61 (dk_at dksX3_signs_2 16 rfl rfl)
theorem dX3_signs_62 : decode cX3_signs 62 = .ok (.if_icmp .eq 9, 3) := dk_159 0 9 (dk_at dksX3_signs_2 18 rfl rfl)
theorem dX3_signs_65 : decode cX3_signs 65 = .ok (.iload_n 1, 1) := dk_27 (dk_at dksX3_signs_2 21 rfl rfl)
theorem dX3_signs_66 : decode cX3_signs 66 = .ok (.bipush 33, 2) := dk_16 33 (dk_at dksX3_signs_2 22 rfl rfl)
theorem dX3_signs_68 : decode cX3_signs 68 = .ok (.if_icmp .ne 59, 3) := dk_160 0 59 (dk_at dksX3_signs_3 0 rfl rfl)
theorem dX3_signs_71 : decode cX3_signs 71 = .ok (.aload_n 0, 1) := dk_42 (dk_at dksX3_signs_3 3 rfl rfl)
theorem dX3_signs_72 : decode cX3_signs 72 = .ok (.iload_n 1, 1) := dk_27 (dk_at dksX3_signs_3 4 rfl rfl)
theorem dX3_signs_73 : decode cX3_signs 73 = .ok (.bipush 60, 2) := dk_16 60 (dk_at dksX3_signs_3 5 rfl rfl)
theorem dX3_signs_75 : decode cX3_signs 75 = .ok (.if_icmp .ne 9, 3) := dk_160 0 9 (dk_at dksX3_signs_3 7 rfl rfl)
theorem dX3_signs_78 : decode cX3_signs 78 = .ok (.sipush 256, 3) := dk_17 1 0 (dk_at dksX3_signs_3 10 rfl rfl)
theorem dX3_signs_81 : decode cX3_signs 81 = .ok (.goto 30, 3) := dk_167 0 30 (dk_at dksX3_signs_3 13 rfl rfl)
theorem dX3_signs_84 : decode cX3_signs 84 = .ok (.iload_n 1, 1) := dk_27 (dk_at dksX3_signs_3 16 rfl rfl)
theorem dX3_signs_85 : decode cX3_signs 85 = .ok (.bipush 62, 2) := dk_16 62 (dk_at dksX3_signs_3 17 rfl rfl)
theorem dX3_signs_87 : decode cX3_signs 87 = .ok (.if_icmp .ne 9, 3) := dk_160 0 9 (dk_at dksX3_signs_3 19 rfl rfl)
theorem dX3_signs_90 : decode cX3_signs 90 = .ok (.sipush 257, 3) := dk_17 1 1 (dk_at dksX3_signs_4 0 rfl rfl)
theorem dX3_signs_93 : decode cX3_signs 93 = .ok (.goto 18, 3) := dk_167 0 18 (dk_at dksX3_signs_4 3 rfl rfl)
theorem dX3_signs_96 : decode cX3_signs 96 = .ok (.iload_n 1, 1) := dk_27 (dk_at dksX3_signs_4 6 rfl rfl)
theorem dX3_signs_97 : decode cX3_signs 97 = .ok (.bipush 61, 2) := dk_16 61 (dk_at dksX3_signs_4 7 rfl rfl)
theorem dX3_signs_99 : decode cX3_signs 99 = .ok (.if_icmp .ne 9, 3) := dk_160 0 9 (dk_at dksX3_signs_4 9 rfl rfl)
theorem dX3_signs_102 : decode cX3_signs 102 = .ok (.sipush 258, 3) := dk_17 1 2 (dk_at dksX3_signs_4 12 rfl rfl)
theorem dX3_signs_105 : decode cX3_signs 105 = .ok (.goto 6, 3) := dk_167 0 6 (dk_at dksX3_signs_4 15 rfl rfl)
theorem dX3_signs_108 : decode cX3_signs 108 = .ok (.sipush 259, 3) := dk_17 1 3 (dk_at dksX3_signs_4 18 rfl rfl)
theorem dX3_signs_111 : decode cX3_signs 111 = .ok (.putfield 96, 3) := dk_181 0 96 (dk_at dksX3_signs_4 21 rfl rfl)
theorem dX3_signs_114 : decode cX3_signs 114 = .ok (.aload_n 0, 1) := dk_42 (dk_at dksX3_signs_5 0 rfl rfl)
theorem dX3_signs_115 : decode cX3_signs 115 = .ok (.dup, 1) := dk_89 (dk_at dksX3_signs_5 1 rfl rfl)
theorem dX3_signs_116 : decode cX3_signs 116 = .ok (.getfield 42, 3) := dk_180 0 42 (dk_at dksX3_signs_5 2 rfl rfl)
theorem dX3_signs_119 : decode cX3_signs 119 = .ok (.iconst 1, 1) := dk_4 (dk_at dksX3_signs_5 5 rfl rfl)
theorem dX3_signs_120 : decode cX3_signs 120 = .ok (.iadd, 1) := dk_96 (dk_at dksX3_signs_5 6 rfl rfl)
theorem dX3_signs_121 : decode cX3_signs 121 = .ok (.putfield 42, 3) := dk_181 0 42 (dk_at dksX3_signs_5 7 rfl rfl)
theorem dX3_signs_124 : decode cX3_signs 124 = .ok (.goto 25, 3) := dk_167 0 25 (dk_at dksX3_signs_5 10 rfl rfl)
theorem dX3_signs_127 : decode cX3_signs 127 = .ok (.iload_n 1, 1) := dk_27 (dk_at dksX3_signs_5 13 rfl rfl)
theorem dX3_signs_128 : decode cX3_signs 128 = .ok (.bipush 33, 2) := dk_16 33 (dk_at dksX3_signs_5 14 rfl rfl)
theorem dX3_signs_130 : decode cX3_signs 130 = .ok (.if_icmp .eq 12, 3) := dk_159 0 12 (dk_at dksX3_signs_5 16 rfl rfl)
theorem dX3_signs_133 : decode cX3_signs 133 = .ok (.ldc 99, 2) := dk_18 99 (dk_at dksX3_signs_5 19 rfl rfl)
theorem dX3_signs_135 : decode cX3_signs 135 = .ok (.iload_n 1, 1) := dk_27 (dk_at dksX3_signs_5 21 rfl rfl)
theorem dX3_signs_136 : decode cX3_signs 136 = .ok (.invokevirtual 101, 3) := dk_182 0 101 (dk_at dksX3_signs_6 0 rfl rfl)
theorem dX3_signs_139 : decode cX3_signs 139 = .ok (.ifCond .ge 10, 3) := dk_156 0 10 (dk_at dksX3_signs_6 3 rfl rfl)
theorem dX3_signs_142 : decode cX3_signs 142 = .ok (.aload_n 0, 1) := dk_42 (dk_at dksX3_signs_6 6 rfl rfl)
theorem dX3_signs_143 : decode cX3_signs 143 = .ok (.getstatic 81, 3) := dk_178 0 81 (dk_at dksX3_signs_6 7 rfl rfl)
theorem dX3_signs_146 : decode cX3_signs 146 = .ok (.putfield 58, 3) := dk_181 0 58 (dk_at dksX3_signs_6 10 rfl rfl)
theorem dX3_signs_149 : decode cX3_signs 149 = .ok (.return_, 1) := dk_177 (dk_at dksX3_signs_6 13 rfl rfl)
def dkwX3_isWord_1 : List UInt8 := [167, 0, 4, 3, 172]
abbrev dktX3_isWord_1 : List UInt8 := dkwX3_isWord_1 ++ []
def dkwX3_isWord_0 : List UInt8 := [42, 180, 0, 58, 178, 0, 84, 166, 0, 19, 42, 180, 0, 77, 43, 184, 0, 111, 148, 154, 0, 7, 4]
abbrev dktX3_isWord_0 : List UInt8 := dkwX3_isWord_0 ++ dktX3_isWord_1
theorem dksX3_isWord_0 : cX3_isWord.data.toList.drop 0 = dktX3_isWord_0 := by decide +kernel
theorem dksX3_isWord_1 : cX3_isWord.data.toList.drop 23 = dktX3_isWord_1 := dk_seg dksX3_isWord_0 23 rfl rfl
theorem dX3_isWord_0 : decode cX3_isWord 0 = .ok (.aload_n 0, 1) := dk_42 (dk_at dksX3_isWord_0 0 rfl rfl)
theorem dX3_isWord_1 : decode cX3_isWord 1 = .ok (.getfield 58, 3) := dk_180 0 58 (dk_at dksX3_isWord_0 1 rfl rfl)
theorem dX3_isWord_4 : decode cX3_isWord 4 = .ok (.getstatic 84, 3) := dk_178 0 84 (dk_at dksX3_isWord_0 4 rfl rfl)
theorem dX3_isWord_7 : decode cX3_isWord 7 = .ok (.if_acmp .ne 19, 3) := dk_166 0 19 (dk_at dksX3_isWord_0 7 rfl rfl)
theorem dX3_isWord_10 : decode cX3_isWord 10 = .ok (.aload_n 0, 1) := dk_42 (dk_at dksX3_isWord_0 10 rfl rfl)
theorem dX3_isWord_11 : decode cX3_isWord 11 = .ok (.getfield 77, 3) := dk_180 0 77 (dk_at dksX3_isWord_0 11 rfl rfl)
theorem dX3_isWord_14 : decode cX3_isWord 14 = .ok (.aload_n 1, 1) := dk_43 (dk_at dksX3_isWord_0 14 rfl rfl)
theorem dX3_isWord_15 : decode cX3_isWord 15 = .ok (.invokestatic 111, 3) := dk_184 0 111 (dk_at dksX3_isWord_0 15 rfl rfl)
theorem dX3_isWord_18 : decode cX3_isWord 18 = .ok (.lcmp, 1) := dk_148 (dk_at dksX3_isWord_0 18 rfl rfl)
theorem dX3_isWord_19 : decode cX3_isWord 19 = .ok (.ifCond .ne 7, 3) := dk_154 0 7 (dk_at dksX3_isWord_0 19 rfl rfl)
theorem dX3_isWord_22 : decode cX3_isWord 22 = .ok (.iconst 1, 1) := dk_4 (dk_at dksX3_isWord_0 22 rfl rfl)
theorem dX3_isWord_23 : decode cX3_isWord 23 = .ok (.goto 4, 3) := dk_167 0 4 (dk_at dksX3_isWord_1 0 rfl rfl)
theorem dX3_isWord_26 : decode cX3_isWord 26 = .ok (.iconst 0, 1) := dk_3 (dk_at dksX3_isWord_1 3 rfl rfl)
theorem dX3_isWord_27 : decode cX3_isWord 27 = .ok (.ireturn, 1) := dk_172 (dk_at dksX3_isWord_1 4 rfl rfl)
def dkwX3_wrong_0 : List UInt8 := [187, 0, 106, 89, 27, 42, 180, 0, 45, 183, 0, 108, 176]
abbrev dktX3_wrong_0 : List UInt8 := dkwX3_wrong_0 ++ []
theorem dksX3_wrong_0 : cX3_wrong.data.toList.drop 0 = dktX3_wrong_0 := by decide +kernel
theorem dX3_wrong_0 : decode cX3_wrong 0 = .ok (.new 106, 3) := dk_187 0 106 (dk_at dksX3_wrong_0 0 rfl rfl)
theorem dX3_wrong_3 : decode cX3_wrong 3 = .ok (.dup, 1) := dk_89 (dk_at dksX3_wrong_0 3 rfl rfl)
theorem dX3_wrong_4 : decode cX3_wrong 4 = .ok (.iload_n 1, 1) := dk_27 (dk_at dksX3_wrong_0 4 rfl rfl)
theorem dX3_wrong_5 : decode cX3_wrong 5 = .ok (.aload_n 0, 1) := dk_42 (dk_at dksX3_wrong_0 5 rfl rfl)
theorem dX3_wrong_6 : decode cX3_wrong 6 = .ok (.getfield 45, 3) := dk_180 0 45 (dk_at dksX3_wrong_0 6 rfl rfl)
theorem dX3_wrong_9 : decode cX3_wrong 9 = .ok (.invokespecial 108, 3) := dk_183 0 108 (dk_at dksX3_wrong_0 9 rfl rfl)
theorem dX3_wrong_12 : decode cX3_wrong 12 = .ok (.areturn, 1) := dk_176 (dk_at dksX3_wrong_0 12 rfl rfl)
def dkwX3_small_2 : List UInt8 := [172]
abbrev dktX3_small_2 : List UInt8 := dkwX3_small_2 ++ []
def dkwX3_small_1 : List UInt8 := [42, 180, 0, 87, 28, 164, 0, 9, 42, 8, 182, 0, 124, 191, 42, 180, 0, 87, 62, 42, 182, 0, 118, 29]
abbrev dktX3_small_1 : List UInt8 := dkwX3_small_1 ++ dktX3_small_2
def dkwX3_small_0 : List UInt8 := [42, 180, 0, 58, 178, 0, 90, 165, 0, 9, 42, 4, 182, 0, 124, 191, 42, 180, 0, 87, 27, 161, 0, 11]
abbrev dktX3_small_0 : List UInt8 := dkwX3_small_0 ++ dktX3_small_1
theorem dksX3_small_0 : cX3_small.data.toList.drop 0 = dktX3_small_0 := by decide +kernel
theorem dksX3_small_1 : cX3_small.data.toList.drop 24 = dktX3_small_1 := dk_seg dksX3_small_0 24 rfl rfl
theorem dksX3_small_2 : cX3_small.data.toList.drop 48 = dktX3_small_2 := dk_seg dksX3_small_1 24 rfl rfl
theorem dX3_small_0 : decode cX3_small 0 = .ok (.aload_n 0, 1) := dk_42 (dk_at dksX3_small_0 0 rfl rfl)
theorem dX3_small_1 : decode cX3_small 1 = .ok (.getfield 58, 3) := dk_180 0 58 (dk_at dksX3_small_0 1 rfl rfl)
theorem dX3_small_4 : decode cX3_small 4 = .ok (.getstatic 90, 3) := dk_178 0 90 (dk_at dksX3_small_0 4 rfl rfl)
theorem dX3_small_7 : decode cX3_small 7 = .ok (.if_acmp .eq 9, 3) := dk_165 0 9 (dk_at dksX3_small_0 7 rfl rfl)
theorem dX3_small_10 : decode cX3_small 10 = .ok (.aload_n 0, 1) := dk_42 (dk_at dksX3_small_0 10 rfl rfl)
theorem dX3_small_11 : decode cX3_small 11 = .ok (.iconst 1, 1) := dk_4 (dk_at dksX3_small_0 11 rfl rfl)
theorem dX3_small_12 : decode cX3_small 12 = .ok (.invokevirtual 124, 3) := dk_182 0 124 (dk_at dksX3_small_0 12 rfl rfl)
theorem dX3_small_15 : decode cX3_small 15 = .ok (.athrow, 1) := dk_191 (dk_at dksX3_small_0 15 rfl rfl)
theorem dX3_small_16 : decode cX3_small 16 = .ok (.aload_n 0, 1) := dk_42 (dk_at dksX3_small_0 16 rfl rfl)
theorem dX3_small_17 : decode cX3_small 17 = .ok (.getfield 87, 3) := dk_180 0 87 (dk_at dksX3_small_0 17 rfl rfl)
theorem dX3_small_20 : decode cX3_small 20 = .ok (.iload_n 1, 1) := dk_27 (dk_at dksX3_small_0 20 rfl rfl)
theorem dX3_small_21 : decode cX3_small 21 = .ok (.if_icmp .lt 11, 3) := dk_161 0 11 (dk_at dksX3_small_0 21 rfl rfl)
theorem dX3_small_24 : decode cX3_small 24 = .ok (.aload_n 0, 1) := dk_42 (dk_at dksX3_small_1 0 rfl rfl)
theorem dX3_small_25 : decode cX3_small 25 = .ok (.getfield 87, 3) := dk_180 0 87 (dk_at dksX3_small_1 1 rfl rfl)
theorem dX3_small_28 : decode cX3_small 28 = .ok (.iload_n 2, 1) := dk_28 (dk_at dksX3_small_1 4 rfl rfl)
theorem dX3_small_29 : decode cX3_small 29 = .ok (.if_icmp .le 9, 3) := dk_164 0 9 (dk_at dksX3_small_1 5 rfl rfl)
theorem dX3_small_32 : decode cX3_small 32 = .ok (.aload_n 0, 1) := dk_42 (dk_at dksX3_small_1 8 rfl rfl)
theorem dX3_small_33 : decode cX3_small 33 = .ok (.iconst 5, 1) := dk_8 (dk_at dksX3_small_1 9 rfl rfl)
theorem dX3_small_34 : decode cX3_small 34 = .ok (.invokevirtual 124, 3) := dk_182 0 124 (dk_at dksX3_small_1 10 rfl rfl)
theorem dX3_small_37 : decode cX3_small 37 = .ok (.athrow, 1) := dk_191 (dk_at dksX3_small_1 13 rfl rfl)
theorem dX3_small_38 : decode cX3_small 38 = .ok (.aload_n 0, 1) := dk_42 (dk_at dksX3_small_1 14 rfl rfl)
theorem dX3_small_39 : decode cX3_small 39 = .ok (.getfield 87, 3) := dk_180 0 87 (dk_at dksX3_small_1 15 rfl rfl)
theorem dX3_small_42 : decode cX3_small 42 = .ok (.istore_n 3, 1) := dk_62 (dk_at dksX3_small_1 18 rfl rfl)
theorem dX3_small_43 : decode cX3_small 43 = .ok (.aload_n 0, 1) := dk_42 (dk_at dksX3_small_1 19 rfl rfl)
theorem dX3_small_44 : decode cX3_small 44 = .ok (.invokevirtual 118, 3) := dk_182 0 118 (dk_at dksX3_small_1 20 rfl rfl)
theorem dX3_small_47 : decode cX3_small 47 = .ok (.iload_n 3, 1) := dk_29 (dk_at dksX3_small_1 23 rfl rfl)
theorem dX3_small_48 : decode cX3_small 48 = .ok (.ireturn, 1) := dk_172 (dk_at dksX3_small_2 0 rfl rfl)
def dkwX3_need_0 : List UInt8 := [42, 27, 182, 0, 121, 154, 0, 9, 42, 4, 182, 0, 124, 191, 42, 182, 0, 118, 177]
abbrev dktX3_need_0 : List UInt8 := dkwX3_need_0 ++ []
theorem dksX3_need_0 : cX3_need.data.toList.drop 0 = dktX3_need_0 := by decide +kernel
theorem dX3_need_0 : decode cX3_need 0 = .ok (.aload_n 0, 1) := dk_42 (dk_at dksX3_need_0 0 rfl rfl)
theorem dX3_need_1 : decode cX3_need 1 = .ok (.iload_n 1, 1) := dk_27 (dk_at dksX3_need_0 1 rfl rfl)
theorem dX3_need_2 : decode cX3_need 2 = .ok (.invokevirtual 121, 3) := dk_182 0 121 (dk_at dksX3_need_0 2 rfl rfl)
theorem dX3_need_5 : decode cX3_need 5 = .ok (.ifCond .ne 9, 3) := dk_154 0 9 (dk_at dksX3_need_0 5 rfl rfl)
theorem dX3_need_8 : decode cX3_need 8 = .ok (.aload_n 0, 1) := dk_42 (dk_at dksX3_need_0 8 rfl rfl)
theorem dX3_need_9 : decode cX3_need 9 = .ok (.iconst 1, 1) := dk_4 (dk_at dksX3_need_0 9 rfl rfl)
theorem dX3_need_10 : decode cX3_need 10 = .ok (.invokevirtual 124, 3) := dk_182 0 124 (dk_at dksX3_need_0 10 rfl rfl)
theorem dX3_need_13 : decode cX3_need 13 = .ok (.athrow, 1) := dk_191 (dk_at dksX3_need_0 13 rfl rfl)
theorem dX3_need_14 : decode cX3_need 14 = .ok (.aload_n 0, 1) := dk_42 (dk_at dksX3_need_0 14 rfl rfl)
theorem dX3_need_15 : decode cX3_need 15 = .ok (.invokevirtual 118, 3) := dk_182 0 118 (dk_at dksX3_need_0 15 rfl rfl)
theorem dX3_need_18 : decode cX3_need 18 = .ok (.return_, 1) := dk_177 (dk_at dksX3_need_0 18 rfl rfl)
def dkwX3_isSign_0 : List UInt8 := [42, 180, 0, 58, 178, 0, 93, 166, 0, 15, 42, 180, 0, 96, 27, 160, 0, 7, 4, 167, 0, 4, 3, 172]
abbrev dktX3_isSign_0 : List UInt8 := dkwX3_isSign_0 ++ []
theorem dksX3_isSign_0 : cX3_isSign.data.toList.drop 0 = dktX3_isSign_0 := by decide +kernel
theorem dX3_isSign_0 : decode cX3_isSign 0 = .ok (.aload_n 0, 1) := dk_42 (dk_at dksX3_isSign_0 0 rfl rfl)
theorem dX3_isSign_1 : decode cX3_isSign 1 = .ok (.getfield 58, 3) := dk_180 0 58 (dk_at dksX3_isSign_0 1 rfl rfl)
theorem dX3_isSign_4 : decode cX3_isSign 4 = .ok (.getstatic 93, 3) := dk_178 0 93 (dk_at dksX3_isSign_0 4 rfl rfl)
theorem dX3_isSign_7 : decode cX3_isSign 7 = .ok (.if_acmp .ne 15, 3) := dk_166 0 15 (dk_at dksX3_isSign_0 7 rfl rfl)
theorem dX3_isSign_10 : decode cX3_isSign 10 = .ok (.aload_n 0, 1) := dk_42 (dk_at dksX3_isSign_0 10 rfl rfl)
theorem dX3_isSign_11 : decode cX3_isSign 11 = .ok (.getfield 96, 3) := dk_180 0 96 (dk_at dksX3_isSign_0 11 rfl rfl)
theorem dX3_isSign_14 : decode cX3_isSign 14 = .ok (.iload_n 1, 1) := dk_27 (dk_at dksX3_isSign_0 14 rfl rfl)
theorem dX3_isSign_15 : decode cX3_isSign 15 = .ok (.if_icmp .ne 7, 3) := dk_160 0 7 (dk_at dksX3_isSign_0 15 rfl rfl)
theorem dX3_isSign_18 : decode cX3_isSign 18 = .ok (.iconst 1, 1) := dk_4 (dk_at dksX3_isSign_0 18 rfl rfl)
theorem dX3_isSign_19 : decode cX3_isSign 19 = .ok (.goto 4, 3) := dk_167 0 4 (dk_at dksX3_isSign_0 19 rfl rfl)
theorem dX3_isSign_22 : decode cX3_isSign 22 = .ok (.iconst 0, 1) := dk_3 (dk_at dksX3_isSign_0 22 rfl rfl)
theorem dX3_isSign_23 : decode cX3_isSign 23 = .ok (.ireturn, 1) := dk_172 (dk_at dksX3_isSign_0 23 rfl rfl)
def dkwX3_newName_2 : List UInt8 := [183, 0, 151, 182, 0, 154, 87, 42, 182, 0, 118, 177]
abbrev dktX3_newName_2 : List UInt8 := dkwX3_newName_2 ++ []
def dkwX3_newName_1 : List UInt8 := [198, 0, 9, 42, 5, 182, 0, 124, 191, 42, 180, 0, 12, 187, 0, 135, 89, 42, 180, 0, 77, 27, 28]
abbrev dktX3_newName_1 : List UInt8 := dkwX3_newName_1 ++ dktX3_newName_2
def dkwX3_newName_0 : List UInt8 := [42, 182, 0, 140, 42, 180, 0, 77, 184, 0, 143, 154, 0, 14, 42, 42, 180, 0, 77, 182, 0, 147]
abbrev dktX3_newName_0 : List UInt8 := dkwX3_newName_0 ++ dktX3_newName_1
theorem dksX3_newName_0 : cX3_newName.data.toList.drop 0 = dktX3_newName_0 := by decide +kernel
theorem dksX3_newName_1 : cX3_newName.data.toList.drop 22 = dktX3_newName_1 := dk_seg dksX3_newName_0 22 rfl rfl
theorem dksX3_newName_2 : cX3_newName.data.toList.drop 45 = dktX3_newName_2 := dk_seg dksX3_newName_1 23 rfl rfl
theorem dX3_newName_0 : decode cX3_newName 0 = .ok (.aload_n 0, 1) := dk_42 (dk_at dksX3_newName_0 0 rfl rfl)
theorem dX3_newName_1 : decode cX3_newName 1 = .ok (.invokevirtual 140, 3) := dk_182 0 140 (dk_at dksX3_newName_0 1 rfl rfl)
theorem dX3_newName_4 : decode cX3_newName 4 = .ok (.aload_n 0, 1) := dk_42 (dk_at dksX3_newName_0 4 rfl rfl)
theorem dX3_newName_5 : decode cX3_newName 5 = .ok (.getfield 77, 3) := dk_180 0 77 (dk_at dksX3_newName_0 5 rfl rfl)
theorem dX3_newName_8 : decode cX3_newName 8 = .ok (.invokestatic 143, 3) := dk_184 0 143 (dk_at dksX3_newName_0 8 rfl rfl)
theorem dX3_newName_11 : decode cX3_newName 11 = .ok (.ifCond .ne 14, 3) := dk_154 0 14 (dk_at dksX3_newName_0 11 rfl rfl)
theorem dX3_newName_14 : decode cX3_newName 14 = .ok (.aload_n 0, 1) := dk_42 (dk_at dksX3_newName_0 14 rfl rfl)
theorem dX3_newName_15 : decode cX3_newName 15 = .ok (.aload_n 0, 1) := dk_42 (dk_at dksX3_newName_0 15 rfl rfl)
theorem dX3_newName_16 : decode cX3_newName 16 = .ok (.getfield 77, 3) := dk_180 0 77 (dk_at dksX3_newName_0 16 rfl rfl)
theorem dX3_newName_19 : decode cX3_newName 19 = .ok (.invokevirtual 147, 3) := dk_182 0 147 (dk_at dksX3_newName_0 19 rfl rfl)
theorem dX3_newName_22 : decode cX3_newName 22 = .ok (.ifnull 9, 3) := dk_198 0 9 (dk_at dksX3_newName_1 0 rfl rfl)
theorem dX3_newName_25 : decode cX3_newName 25 = .ok (.aload_n 0, 1) := dk_42 (dk_at dksX3_newName_1 3 rfl rfl)
theorem dX3_newName_26 : decode cX3_newName 26 = .ok (.iconst 2, 1) := dk_5 (dk_at dksX3_newName_1 4 rfl rfl)
theorem dX3_newName_27 : decode cX3_newName 27 = .ok (.invokevirtual 124, 3) := dk_182 0 124 (dk_at dksX3_newName_1 5 rfl rfl)
theorem dX3_newName_30 : decode cX3_newName 30 = .ok (.athrow, 1) := dk_191 (dk_at dksX3_newName_1 8 rfl rfl)
theorem dX3_newName_31 : decode cX3_newName 31 = .ok (.aload_n 0, 1) := dk_42 (dk_at dksX3_newName_1 9 rfl rfl)
theorem dX3_newName_32 : decode cX3_newName 32 = .ok (.getfield 12, 3) := dk_180 0 12 (dk_at dksX3_newName_1 10 rfl rfl)
theorem dX3_newName_35 : decode cX3_newName 35 = .ok (.new 135, 3) := dk_187 0 135 (dk_at dksX3_newName_1 13 rfl rfl)
theorem dX3_newName_38 : decode cX3_newName 38 = .ok (.dup, 1) := dk_89 (dk_at dksX3_newName_1 16 rfl rfl)
theorem dX3_newName_39 : decode cX3_newName 39 = .ok (.aload_n 0, 1) := dk_42 (dk_at dksX3_newName_1 17 rfl rfl)
theorem dX3_newName_40 : decode cX3_newName 40 = .ok (.getfield 77, 3) := dk_180 0 77 (dk_at dksX3_newName_1 18 rfl rfl)
theorem dX3_newName_43 : decode cX3_newName 43 = .ok (.iload_n 1, 1) := dk_27 (dk_at dksX3_newName_1 21 rfl rfl)
theorem dX3_newName_44 : decode cX3_newName 44 = .ok (.iload_n 2, 1) := dk_28 (dk_at dksX3_newName_1 22 rfl rfl)
theorem dX3_newName_45 : decode cX3_newName 45 = .ok (.invokespecial 151, 3) := dk_183 0 151 (dk_at dksX3_newName_2 0 rfl rfl)
theorem dX3_newName_48 : decode cX3_newName 48 = .ok (.invokevirtual 154, 3) := dk_182 0 154 (dk_at dksX3_newName_2 3 rfl rfl)
theorem dX3_newName_51 : decode cX3_newName 51 = .ok (.pop, 1) := dk_87 (dk_at dksX3_newName_2 6 rfl rfl)
theorem dX3_newName_52 : decode cX3_newName 52 = .ok (.aload_n 0, 1) := dk_42 (dk_at dksX3_newName_2 7 rfl rfl)
theorem dX3_newName_53 : decode cX3_newName 53 = .ok (.invokevirtual 118, 3) := dk_182 0 118 (dk_at dksX3_newName_2 8 rfl rfl)
theorem dX3_newName_56 : decode cX3_newName 56 = .ok (.return_, 1) := dk_177 (dk_at dksX3_newName_2 11 rfl rfl)
def dkwX3_needWord_0 : List UInt8 := [42, 180, 0, 58, 178, 0, 84, 165, 0, 9, 42, 4, 182, 0, 124, 191, 177]
abbrev dktX3_needWord_0 : List UInt8 := dkwX3_needWord_0 ++ []
theorem dksX3_needWord_0 : cX3_needWord.data.toList.drop 0 = dktX3_needWord_0 := by decide +kernel
theorem dX3_needWord_0 : decode cX3_needWord 0 = .ok (.aload_n 0, 1) := dk_42 (dk_at dksX3_needWord_0 0 rfl rfl)
theorem dX3_needWord_1 : decode cX3_needWord 1 = .ok (.getfield 58, 3) := dk_180 0 58 (dk_at dksX3_needWord_0 1 rfl rfl)
theorem dX3_needWord_4 : decode cX3_needWord 4 = .ok (.getstatic 84, 3) := dk_178 0 84 (dk_at dksX3_needWord_0 4 rfl rfl)
theorem dX3_needWord_7 : decode cX3_needWord 7 = .ok (.if_acmp .eq 9, 3) := dk_165 0 9 (dk_at dksX3_needWord_0 7 rfl rfl)
theorem dX3_needWord_10 : decode cX3_needWord 10 = .ok (.aload_n 0, 1) := dk_42 (dk_at dksX3_needWord_0 10 rfl rfl)
theorem dX3_needWord_11 : decode cX3_needWord 11 = .ok (.iconst 1, 1) := dk_4 (dk_at dksX3_needWord_0 11 rfl rfl)
theorem dX3_needWord_12 : decode cX3_needWord 12 = .ok (.invokevirtual 124, 3) := dk_182 0 124 (dk_at dksX3_needWord_0 12 rfl rfl)
theorem dX3_needWord_15 : decode cX3_needWord 15 = .ok (.athrow, 1) := dk_191 (dk_at dksX3_needWord_0 15 rfl rfl)
theorem dX3_needWord_16 : decode cX3_needWord 16 = .ok (.return_, 1) := dk_177 (dk_at dksX3_needWord_0 16 rfl rfl)
def dkwX3_named_2 : List UInt8 := [167, 255, 211, 1, 176]
abbrev dktX3_named_2 : List UInt8 := dkwX3_named_2 ++ []
def dkwX3_named_1 : List UInt8 := [182, 0, 137, 31, 148, 154, 0, 15, 42, 180, 0, 12, 29, 182, 0, 131, 192, 0, 135, 176, 132, 3, 1]
abbrev dktX3_named_1 : List UInt8 := dkwX3_named_1 ++ dktX3_named_2
def dkwX3_named_0 : List UInt8 := [3, 62, 29, 42, 180, 0, 12, 182, 0, 128, 162, 0, 40, 42, 180, 0, 12, 29, 182, 0, 131, 192, 0, 135]
abbrev dktX3_named_0 : List UInt8 := dkwX3_named_0 ++ dktX3_named_1
theorem dksX3_named_0 : cX3_named.data.toList.drop 0 = dktX3_named_0 := by decide +kernel
theorem dksX3_named_1 : cX3_named.data.toList.drop 24 = dktX3_named_1 := dk_seg dksX3_named_0 24 rfl rfl
theorem dksX3_named_2 : cX3_named.data.toList.drop 47 = dktX3_named_2 := dk_seg dksX3_named_1 23 rfl rfl
theorem dX3_named_0 : decode cX3_named 0 = .ok (.iconst 0, 1) := dk_3 (dk_at dksX3_named_0 0 rfl rfl)
theorem dX3_named_1 : decode cX3_named 1 = .ok (.istore_n 3, 1) := dk_62 (dk_at dksX3_named_0 1 rfl rfl)
theorem dX3_named_2 : decode cX3_named 2 = .ok (.iload_n 3, 1) := dk_29 (dk_at dksX3_named_0 2 rfl rfl)
theorem dX3_named_3 : decode cX3_named 3 = .ok (.aload_n 0, 1) := dk_42 (dk_at dksX3_named_0 3 rfl rfl)
theorem dX3_named_4 : decode cX3_named 4 = .ok (.getfield 12, 3) := dk_180 0 12 (dk_at dksX3_named_0 4 rfl rfl)
theorem dX3_named_7 : decode cX3_named 7 = .ok (.invokevirtual 128, 3) := dk_182 0 128 (dk_at dksX3_named_0 7 rfl rfl)
theorem dX3_named_10 : decode cX3_named 10 = .ok (.if_icmp .ge 40, 3) := dk_162 0 40 (dk_at dksX3_named_0 10 rfl rfl)
theorem dX3_named_13 : decode cX3_named 13 = .ok (.aload_n 0, 1) := dk_42 (dk_at dksX3_named_0 13 rfl rfl)
theorem dX3_named_14 : decode cX3_named 14 = .ok (.getfield 12, 3) := dk_180 0 12 (dk_at dksX3_named_0 14 rfl rfl)
theorem dX3_named_17 : decode cX3_named 17 = .ok (.iload_n 3, 1) := dk_29 (dk_at dksX3_named_0 17 rfl rfl)
theorem dX3_named_18 : decode cX3_named 18 = .ok (.invokevirtual 131, 3) := dk_182 0 131 (dk_at dksX3_named_0 18 rfl rfl)
theorem dX3_named_21 : decode cX3_named 21 = .ok (.checkcast 135, 3) := dk_192 0 135 (dk_at dksX3_named_0 21 rfl rfl)
theorem dX3_named_24 : decode cX3_named 24 = .ok (.invokevirtual 137, 3) := dk_182 0 137 (dk_at dksX3_named_1 0 rfl rfl)
theorem dX3_named_27 : decode cX3_named 27 = .ok (.lload_n 1, 1) := dk_31 (dk_at dksX3_named_1 3 rfl rfl)
theorem dX3_named_28 : decode cX3_named 28 = .ok (.lcmp, 1) := dk_148 (dk_at dksX3_named_1 4 rfl rfl)
theorem dX3_named_29 : decode cX3_named 29 = .ok (.ifCond .ne 15, 3) := dk_154 0 15 (dk_at dksX3_named_1 5 rfl rfl)
theorem dX3_named_32 : decode cX3_named 32 = .ok (.aload_n 0, 1) := dk_42 (dk_at dksX3_named_1 8 rfl rfl)
theorem dX3_named_33 : decode cX3_named 33 = .ok (.getfield 12, 3) := dk_180 0 12 (dk_at dksX3_named_1 9 rfl rfl)
theorem dX3_named_36 : decode cX3_named 36 = .ok (.iload_n 3, 1) := dk_29 (dk_at dksX3_named_1 12 rfl rfl)
theorem dX3_named_37 : decode cX3_named 37 = .ok (.invokevirtual 131, 3) := dk_182 0 131 (dk_at dksX3_named_1 13 rfl rfl)
theorem dX3_named_40 : decode cX3_named 40 = .ok (.checkcast 135, 3) := dk_192 0 135 (dk_at dksX3_named_1 16 rfl rfl)
theorem dX3_named_43 : decode cX3_named 43 = .ok (.areturn, 1) := dk_176 (dk_at dksX3_named_1 19 rfl rfl)
theorem dX3_named_44 : decode cX3_named 44 = .ok (.iinc 3 1, 3) := dk_132 3 1 (dk_at dksX3_named_1 20 rfl rfl)
theorem dX3_named_47 : decode cX3_named 47 = .ok (.goto (-45), 3) := dk_167 255 211 (dk_at dksX3_named_2 0 rfl rfl)
theorem dX3_named_50 : decode cX3_named 50 = .ok (.aconst_null, 1) := dk_1 (dk_at dksX3_named_2 3 rfl rfl)
theorem dX3_named_51 : decode cX3_named 51 = .ok (.areturn, 1) := dk_176 (dk_at dksX3_named_2 4 rfl rfl)
def dkwX3_ride_5 : List UInt8 := [89, 16, 23, 2, 183, 0, 235, 182, 0, 236, 87, 177]
abbrev dktX3_ride_5 : List UInt8 := dkwX3_ride_5 ++ []
def dkwX3_ride_4 : List UInt8 := [42, 3, 181, 0, 220, 42, 3, 181, 0, 223, 42, 182, 0, 226, 42, 180, 0, 216, 180, 0, 229, 187, 0, 233]
abbrev dktX3_ride_4 : List UInt8 := dkwX3_ride_4 ++ dktX3_ride_5
def dkwX3_ride_3 : List UInt8 := [44, 182, 0, 212, 181, 0, 216, 42, 180, 0, 24, 42, 180, 0, 216, 182, 0, 154, 87, 42, 3, 181, 0, 217]
abbrev dktX3_ride_3 : List UInt8 := dkwX3_ride_3 ++ dktX3_ride_4
def dkwX3_ride_2 : List UInt8 := [190, 162, 0, 20, 44, 29, 42, 4, 44, 29, 46, 182, 0, 167, 79, 132, 3, 1, 167, 255, 236, 42, 42, 27]
abbrev dktX3_ride_2 : List UInt8 := dkwX3_ride_2 ++ dktX3_ride_3
def dkwX3_ride_1 : List UInt8 := [27, 2, 160, 0, 9, 42, 4, 182, 0, 124, 191, 42, 182, 0, 118, 27, 184, 0, 208, 77, 3, 62, 29, 44]
abbrev dktX3_ride_1 : List UInt8 := dkwX3_ride_1 ++ dktX3_ride_2
def dkwX3_ride_0 : List UInt8 := [42, 180, 0, 58, 178, 0, 84, 166, 0, 15, 18, 202, 42, 180, 0, 77, 184, 0, 204, 167, 0, 4, 2, 60]
abbrev dktX3_ride_0 : List UInt8 := dkwX3_ride_0 ++ dktX3_ride_1
theorem dksX3_ride_0 : cX3_ride.data.toList.drop 0 = dktX3_ride_0 := by decide +kernel
theorem dksX3_ride_1 : cX3_ride.data.toList.drop 24 = dktX3_ride_1 := dk_seg dksX3_ride_0 24 rfl rfl
theorem dksX3_ride_2 : cX3_ride.data.toList.drop 48 = dktX3_ride_2 := dk_seg dksX3_ride_1 24 rfl rfl
theorem dksX3_ride_3 : cX3_ride.data.toList.drop 72 = dktX3_ride_3 := dk_seg dksX3_ride_2 24 rfl rfl
theorem dksX3_ride_4 : cX3_ride.data.toList.drop 96 = dktX3_ride_4 := dk_seg dksX3_ride_3 24 rfl rfl
theorem dksX3_ride_5 : cX3_ride.data.toList.drop 120 = dktX3_ride_5 := dk_seg dksX3_ride_4 24 rfl rfl
theorem dX3_ride_0 : decode cX3_ride 0 = .ok (.aload_n 0, 1) := dk_42 (dk_at dksX3_ride_0 0 rfl rfl)
theorem dX3_ride_1 : decode cX3_ride 1 = .ok (.getfield 58, 3) := dk_180 0 58 (dk_at dksX3_ride_0 1 rfl rfl)
theorem dX3_ride_4 : decode cX3_ride 4 = .ok (.getstatic 84, 3) := dk_178 0 84 (dk_at dksX3_ride_0 4 rfl rfl)
theorem dX3_ride_7 : decode cX3_ride 7 = .ok (.if_acmp .ne 15, 3) := dk_166 0 15 (dk_at dksX3_ride_0 7 rfl rfl)
theorem dX3_ride_10 : decode cX3_ride 10 = .ok (.ldc 202, 2) := dk_18 202 (dk_at dksX3_ride_0 10 rfl rfl)
theorem dX3_ride_12 : decode cX3_ride 12 = .ok (.aload_n 0, 1) := dk_42 (dk_at dksX3_ride_0 12 rfl rfl)
theorem dX3_ride_13 : decode cX3_ride 13 = .ok (.getfield 77, 3) := dk_180 0 77 (dk_at dksX3_ride_0 13 rfl rfl)
theorem dX3_ride_16 : decode cX3_ride 16 = .ok (.invokestatic 204, 3) := dk_184 0 204 (dk_at dksX3_ride_0 16 rfl rfl)
theorem dX3_ride_19 : decode cX3_ride 19 = .ok (.goto 4, 3) := dk_167 0 4 (dk_at dksX3_ride_0 19 rfl rfl)
theorem dX3_ride_22 : decode cX3_ride 22 = .ok (.iconst (-1), 1) := dk_2 (dk_at dksX3_ride_0 22 rfl rfl)
theorem dX3_ride_23 : decode cX3_ride 23 = .ok (.istore_n 1, 1) := dk_60 (dk_at dksX3_ride_0 23 rfl rfl)
theorem dX3_ride_24 : decode cX3_ride 24 = .ok (.iload_n 1, 1) := dk_27 (dk_at dksX3_ride_1 0 rfl rfl)
theorem dX3_ride_25 : decode cX3_ride 25 = .ok (.iconst (-1), 1) := dk_2 (dk_at dksX3_ride_1 1 rfl rfl)
theorem dX3_ride_26 : decode cX3_ride 26 = .ok (.if_icmp .ne 9, 3) := dk_160 0 9 (dk_at dksX3_ride_1 2 rfl rfl)
theorem dX3_ride_29 : decode cX3_ride 29 = .ok (.aload_n 0, 1) := dk_42 (dk_at dksX3_ride_1 5 rfl rfl)
theorem dX3_ride_30 : decode cX3_ride 30 = .ok (.iconst 1, 1) := dk_4 (dk_at dksX3_ride_1 6 rfl rfl)
theorem dX3_ride_31 : decode cX3_ride 31 = .ok (.invokevirtual 124, 3) := dk_182 0 124 (dk_at dksX3_ride_1 7 rfl rfl)
theorem dX3_ride_34 : decode cX3_ride 34 = .ok (.athrow, 1) := dk_191 (dk_at dksX3_ride_1 10 rfl rfl)
theorem dX3_ride_35 : decode cX3_ride 35 = .ok (.aload_n 0, 1) := dk_42 (dk_at dksX3_ride_1 11 rfl rfl)
theorem dX3_ride_36 : decode cX3_ride 36 = .ok (.invokevirtual 118, 3) := dk_182 0 118 (dk_at dksX3_ride_1 12 rfl rfl)
theorem dX3_ride_39 : decode cX3_ride 39 = .ok (.iload_n 1, 1) := dk_27 (dk_at dksX3_ride_1 15 rfl rfl)
theorem dX3_ride_40 : decode cX3_ride 40 = .ok (.invokestatic 208, 3) := dk_184 0 208 (dk_at dksX3_ride_1 16 rfl rfl)
theorem dX3_ride_43 : decode cX3_ride 43 = .ok (.astore_n 2, 1) := dk_77 (dk_at dksX3_ride_1 19 rfl rfl)
theorem dX3_ride_44 : decode cX3_ride 44 = .ok (.iconst 0, 1) := dk_3 (dk_at dksX3_ride_1 20 rfl rfl)
theorem dX3_ride_45 : decode cX3_ride 45 = .ok (.istore_n 3, 1) := dk_62 (dk_at dksX3_ride_1 21 rfl rfl)
theorem dX3_ride_46 : decode cX3_ride 46 = .ok (.iload_n 3, 1) := dk_29 (dk_at dksX3_ride_1 22 rfl rfl)
theorem dX3_ride_47 : decode cX3_ride 47 = .ok (.aload_n 2, 1) := dk_44 (dk_at dksX3_ride_1 23 rfl rfl)
theorem dX3_ride_48 : decode cX3_ride 48 = .ok (.arraylength, 1) := dk_190 (dk_at dksX3_ride_2 0 rfl rfl)
theorem dX3_ride_49 : decode cX3_ride 49 = .ok (.if_icmp .ge 20, 3) := dk_162 0 20 (dk_at dksX3_ride_2 1 rfl rfl)
theorem dX3_ride_52 : decode cX3_ride 52 = .ok (.aload_n 2, 1) := dk_44 (dk_at dksX3_ride_2 4 rfl rfl)
theorem dX3_ride_53 : decode cX3_ride 53 = .ok (.iload_n 3, 1) := dk_29 (dk_at dksX3_ride_2 5 rfl rfl)
theorem dX3_ride_54 : decode cX3_ride 54 = .ok (.aload_n 0, 1) := dk_42 (dk_at dksX3_ride_2 6 rfl rfl)
theorem dX3_ride_55 : decode cX3_ride 55 = .ok (.iconst 1, 1) := dk_4 (dk_at dksX3_ride_2 7 rfl rfl)
theorem dX3_ride_56 : decode cX3_ride 56 = .ok (.aload_n 2, 1) := dk_44 (dk_at dksX3_ride_2 8 rfl rfl)
theorem dX3_ride_57 : decode cX3_ride 57 = .ok (.iload_n 3, 1) := dk_29 (dk_at dksX3_ride_2 9 rfl rfl)
theorem dX3_ride_58 : decode cX3_ride 58 = .ok (.iaload, 1) := dk_46 (dk_at dksX3_ride_2 10 rfl rfl)
theorem dX3_ride_59 : decode cX3_ride 59 = .ok (.invokevirtual 167, 3) := dk_182 0 167 (dk_at dksX3_ride_2 11 rfl rfl)
theorem dX3_ride_62 : decode cX3_ride 62 = .ok (.iastore, 1) := dk_79 (dk_at dksX3_ride_2 14 rfl rfl)
theorem dX3_ride_63 : decode cX3_ride 63 = .ok (.iinc 3 1, 3) := dk_132 3 1 (dk_at dksX3_ride_2 15 rfl rfl)
theorem dX3_ride_66 : decode cX3_ride 66 = .ok (.goto (-20), 3) := dk_167 255 236 (dk_at dksX3_ride_2 18 rfl rfl)
theorem dX3_ride_69 : decode cX3_ride 69 = .ok (.aload_n 0, 1) := dk_42 (dk_at dksX3_ride_2 21 rfl rfl)
theorem dX3_ride_70 : decode cX3_ride 70 = .ok (.aload_n 0, 1) := dk_42 (dk_at dksX3_ride_2 22 rfl rfl)
theorem dX3_ride_71 : decode cX3_ride 71 = .ok (.iload_n 1, 1) := dk_27 (dk_at dksX3_ride_2 23 rfl rfl)
theorem dX3_ride_72 : decode cX3_ride 72 = .ok (.aload_n 2, 1) := dk_44 (dk_at dksX3_ride_3 0 rfl rfl)
theorem dX3_ride_73 : decode cX3_ride 73 = .ok (.invokevirtual 212, 3) := dk_182 0 212 (dk_at dksX3_ride_3 1 rfl rfl)
theorem dX3_ride_76 : decode cX3_ride 76 = .ok (.putfield 216, 3) := dk_181 0 216 (dk_at dksX3_ride_3 4 rfl rfl)
theorem dX3_ride_79 : decode cX3_ride 79 = .ok (.aload_n 0, 1) := dk_42 (dk_at dksX3_ride_3 7 rfl rfl)
theorem dX3_ride_80 : decode cX3_ride 80 = .ok (.getfield 24, 3) := dk_180 0 24 (dk_at dksX3_ride_3 8 rfl rfl)
theorem dX3_ride_83 : decode cX3_ride 83 = .ok (.aload_n 0, 1) := dk_42 (dk_at dksX3_ride_3 11 rfl rfl)
theorem dX3_ride_84 : decode cX3_ride 84 = .ok (.getfield 216, 3) := dk_180 0 216 (dk_at dksX3_ride_3 12 rfl rfl)
theorem dX3_ride_87 : decode cX3_ride 87 = .ok (.invokevirtual 154, 3) := dk_182 0 154 (dk_at dksX3_ride_3 15 rfl rfl)
theorem dX3_ride_90 : decode cX3_ride 90 = .ok (.pop, 1) := dk_87 (dk_at dksX3_ride_3 18 rfl rfl)
theorem dX3_ride_91 : decode cX3_ride 91 = .ok (.aload_n 0, 1) := dk_42 (dk_at dksX3_ride_3 19 rfl rfl)
theorem dX3_ride_92 : decode cX3_ride 92 = .ok (.iconst 0, 1) := dk_3 (dk_at dksX3_ride_3 20 rfl rfl)
theorem dX3_ride_93 : decode cX3_ride 93 = .ok (.putfield 217, 3) := dk_181 0 217 (dk_at dksX3_ride_3 21 rfl rfl)
theorem dX3_ride_96 : decode cX3_ride 96 = .ok (.aload_n 0, 1) := dk_42 (dk_at dksX3_ride_4 0 rfl rfl)
theorem dX3_ride_97 : decode cX3_ride 97 = .ok (.iconst 0, 1) := dk_3 (dk_at dksX3_ride_4 1 rfl rfl)
theorem dX3_ride_98 : decode cX3_ride 98 = .ok (.putfield 220, 3) := dk_181 0 220 (dk_at dksX3_ride_4 2 rfl rfl)
theorem dX3_ride_101 : decode cX3_ride 101 = .ok (.aload_n 0, 1) := dk_42 (dk_at dksX3_ride_4 5 rfl rfl)
theorem dX3_ride_102 : decode cX3_ride 102 = .ok (.iconst 0, 1) := dk_3 (dk_at dksX3_ride_4 6 rfl rfl)
theorem dX3_ride_103 : decode cX3_ride 103 = .ok (.putfield 223, 3) := dk_181 0 223 (dk_at dksX3_ride_4 7 rfl rfl)
theorem dX3_ride_106 : decode cX3_ride 106 = .ok (.aload_n 0, 1) := dk_42 (dk_at dksX3_ride_4 10 rfl rfl)
theorem dX3_ride_107 : decode cX3_ride 107 = .ok (.invokevirtual 226, 3) := dk_182 0 226 (dk_at dksX3_ride_4 11 rfl rfl)
theorem dX3_ride_110 : decode cX3_ride 110 = .ok (.aload_n 0, 1) := dk_42 (dk_at dksX3_ride_4 14 rfl rfl)
theorem dX3_ride_111 : decode cX3_ride 111 = .ok (.getfield 216, 3) := dk_180 0 216 (dk_at dksX3_ride_4 15 rfl rfl)
theorem dX3_ride_114 : decode cX3_ride 114 = .ok (.getfield 229, 3) := dk_180 0 229 (dk_at dksX3_ride_4 18 rfl rfl)
theorem dX3_ride_117 : decode cX3_ride 117 = .ok (.new 233, 3) := dk_187 0 233 (dk_at dksX3_ride_4 21 rfl rfl)
theorem dX3_ride_120 : decode cX3_ride 120 = .ok (.dup, 1) := dk_89 (dk_at dksX3_ride_5 0 rfl rfl)
theorem dX3_ride_121 : decode cX3_ride 121 = .ok (.bipush 23, 2) := dk_16 23 (dk_at dksX3_ride_5 1 rfl rfl)
theorem dX3_ride_123 : decode cX3_ride 123 = .ok (.iconst (-1), 1) := dk_2 (dk_at dksX3_ride_5 3 rfl rfl)
theorem dX3_ride_124 : decode cX3_ride 124 = .ok (.invokespecial 235, 3) := dk_183 0 235 (dk_at dksX3_ride_5 4 rfl rfl)
theorem dX3_ride_127 : decode cX3_ride 127 = .ok (.invokevirtual 236, 3) := dk_182 0 236 (dk_at dksX3_ride_5 7 rfl rfl)
theorem dX3_ride_130 : decode cX3_ride 130 = .ok (.pop, 1) := dk_87 (dk_at dksX3_ride_5 10 rfl rfl)
theorem dX3_ride_131 : decode cX3_ride 131 = .ok (.return_, 1) := dk_177 (dk_at dksX3_ride_5 11 rfl rfl)
def dkwX3_mosts_9 : List UInt8 := [7, 16, 60, 79, 89, 8, 17, 1, 244, 79, 176]
abbrev dktX3_mosts_9 : List UInt8 := dkwX3_mosts_9 ++ []
def dkwX3_mosts_8 : List UInt8 := [89, 3, 17, 1, 244, 79, 89, 4, 16, 50, 79, 89, 5, 17, 1, 244, 79, 89, 6, 17, 0, 200, 79, 89]
abbrev dktX3_mosts_8 : List UInt8 := dkwX3_mosts_8 ++ dktX3_mosts_9
def dkwX3_mosts_7 : List UInt8 := [17, 1, 244, 79, 176, 5, 188, 10, 89, 3, 16, 60, 79, 89, 4, 17, 1, 244, 79, 176, 16, 6, 188, 10]
abbrev dktX3_mosts_7 : List UInt8 := dkwX3_mosts_7 ++ dktX3_mosts_8
def dkwX3_mosts_6 : List UInt8 := [17, 1, 244, 79, 176, 6, 188, 10, 89, 3, 17, 1, 244, 79, 89, 4, 17, 0, 200, 79, 89, 5]
abbrev dktX3_mosts_6 : List UInt8 := dkwX3_mosts_6 ++ dktX3_mosts_7
def dkwX3_mosts_5 : List UInt8 := [16, 60, 79, 176, 5, 188, 10, 89, 3, 17, 1, 244, 79, 89, 4, 16, 50, 79, 176, 4, 188, 10, 89, 3]
abbrev dktX3_mosts_5 : List UInt8 := dkwX3_mosts_5 ++ dktX3_mosts_6
def dkwX3_mosts_4 : List UInt8 := [17, 1, 244, 79, 89, 4, 16, 50, 79, 89, 5, 17, 1, 244, 79, 89, 6, 17, 0, 200, 79, 89, 7]
abbrev dktX3_mosts_4 : List UInt8 := dkwX3_mosts_4 ++ dktX3_mosts_5
def dkwX3_mosts_3 : List UInt8 := [3, 17, 1, 244, 79, 89, 4, 17, 0, 200, 79, 89, 5, 16, 60, 79, 176, 8, 188, 10, 89, 3]
abbrev dktX3_mosts_3 : List UInt8 := dkwX3_mosts_3 ++ dktX3_mosts_4
def dkwX3_mosts_2 : List UInt8 := [6, 188, 10, 89, 3, 17, 1, 244, 79, 89, 4, 16, 50, 79, 89, 5, 16, 60, 79, 176, 6, 188, 10, 89]
abbrev dktX3_mosts_2 : List UInt8 := dkwX3_mosts_2 ++ dktX3_mosts_3
def dkwX3_mosts_1 : List UInt8 := [170, 0, 0, 0, 0, 0, 186, 0, 0, 0, 0, 0, 0, 0, 8, 0, 0, 0, 51, 0, 0, 0, 71, 0, 0, 0, 92, 0, 0, 0, 124, 0, 0, 0, 139, 0, 0, 0, 149, 0, 0, 0, 171, 0, 0, 0, 186, 0, 0, 0, 51]
abbrev dktX3_mosts_1 : List UInt8 := dkwX3_mosts_1 ++ dktX3_mosts_2
def dkwX3_mosts_0 : List UInt8 := [26]
abbrev dktX3_mosts_0 : List UInt8 := dkwX3_mosts_0 ++ dktX3_mosts_1
theorem dksX3_mosts_0 : cX3_mosts.data.toList.drop 0 = dktX3_mosts_0 := by decide +kernel
theorem dksX3_mosts_1 : cX3_mosts.data.toList.drop 1 = dktX3_mosts_1 := dk_seg dksX3_mosts_0 1 rfl rfl
theorem dksX3_mosts_2 : cX3_mosts.data.toList.drop 52 = dktX3_mosts_2 := dk_seg dksX3_mosts_1 51 rfl rfl
theorem dksX3_mosts_3 : cX3_mosts.data.toList.drop 76 = dktX3_mosts_3 := dk_seg dksX3_mosts_2 24 rfl rfl
theorem dksX3_mosts_4 : cX3_mosts.data.toList.drop 98 = dktX3_mosts_4 := dk_seg dksX3_mosts_3 22 rfl rfl
theorem dksX3_mosts_5 : cX3_mosts.data.toList.drop 121 = dktX3_mosts_5 := dk_seg dksX3_mosts_4 23 rfl rfl
theorem dksX3_mosts_6 : cX3_mosts.data.toList.drop 145 = dktX3_mosts_6 := dk_seg dksX3_mosts_5 24 rfl rfl
theorem dksX3_mosts_7 : cX3_mosts.data.toList.drop 167 = dktX3_mosts_7 := dk_seg dksX3_mosts_6 22 rfl rfl
theorem dksX3_mosts_8 : cX3_mosts.data.toList.drop 191 = dktX3_mosts_8 := dk_seg dksX3_mosts_7 24 rfl rfl
theorem dksX3_mosts_9 : cX3_mosts.data.toList.drop 215 = dktX3_mosts_9 := dk_seg dksX3_mosts_8 24 rfl rfl
theorem dX3_mosts_0 : decode cX3_mosts 0 = .ok (.iload_n 0, 1) := dk_26 (dk_at dksX3_mosts_0 0 rfl rfl)
theorem dX3_mosts_1 : decode cX3_mosts 1 = .ok (.tableswitch 186 0 8 #[51, 71, 92, 124, 139, 149, 171, 186, 51], 51) := by decide +kernel
theorem dX3_mosts_52 : decode cX3_mosts 52 = .ok (.iconst 3, 1) := dk_6 (dk_at dksX3_mosts_2 0 rfl rfl)
theorem dX3_mosts_53 : decode cX3_mosts 53 = .ok (.newarray .int, 2) := dk_188_10 (dk_at dksX3_mosts_2 1 rfl rfl)
theorem dX3_mosts_55 : decode cX3_mosts 55 = .ok (.dup, 1) := dk_89 (dk_at dksX3_mosts_2 3 rfl rfl)
theorem dX3_mosts_56 : decode cX3_mosts 56 = .ok (.iconst 0, 1) := dk_3 (dk_at dksX3_mosts_2 4 rfl rfl)
theorem dX3_mosts_57 : decode cX3_mosts 57 = .ok (.sipush 500, 3) := dk_17 1 244 (dk_at dksX3_mosts_2 5 rfl rfl)
theorem dX3_mosts_60 : decode cX3_mosts 60 = .ok (.iastore, 1) := dk_79 (dk_at dksX3_mosts_2 8 rfl rfl)
theorem dX3_mosts_61 : decode cX3_mosts 61 = .ok (.dup, 1) := dk_89 (dk_at dksX3_mosts_2 9 rfl rfl)
theorem dX3_mosts_62 : decode cX3_mosts 62 = .ok (.iconst 1, 1) := dk_4 (dk_at dksX3_mosts_2 10 rfl rfl)
theorem dX3_mosts_63 : decode cX3_mosts 63 = .ok (.bipush 50, 2) := dk_16 50 (dk_at dksX3_mosts_2 11 rfl rfl)
theorem dX3_mosts_65 : decode cX3_mosts 65 = .ok (.iastore, 1) := dk_79 (dk_at dksX3_mosts_2 13 rfl rfl)
theorem dX3_mosts_66 : decode cX3_mosts 66 = .ok (.dup, 1) := dk_89 (dk_at dksX3_mosts_2 14 rfl rfl)
theorem dX3_mosts_67 : decode cX3_mosts 67 = .ok (.iconst 2, 1) := dk_5 (dk_at dksX3_mosts_2 15 rfl rfl)
theorem dX3_mosts_68 : decode cX3_mosts 68 = .ok (.bipush 60, 2) := dk_16 60 (dk_at dksX3_mosts_2 16 rfl rfl)
theorem dX3_mosts_70 : decode cX3_mosts 70 = .ok (.iastore, 1) := dk_79 (dk_at dksX3_mosts_2 18 rfl rfl)
theorem dX3_mosts_71 : decode cX3_mosts 71 = .ok (.areturn, 1) := dk_176 (dk_at dksX3_mosts_2 19 rfl rfl)
theorem dX3_mosts_72 : decode cX3_mosts 72 = .ok (.iconst 3, 1) := dk_6 (dk_at dksX3_mosts_2 20 rfl rfl)
theorem dX3_mosts_73 : decode cX3_mosts 73 = .ok (.newarray .int, 2) := dk_188_10 (dk_at dksX3_mosts_2 21 rfl rfl)
theorem dX3_mosts_75 : decode cX3_mosts 75 = .ok (.dup, 1) := dk_89 (dk_at dksX3_mosts_2 23 rfl rfl)
theorem dX3_mosts_76 : decode cX3_mosts 76 = .ok (.iconst 0, 1) := dk_3 (dk_at dksX3_mosts_3 0 rfl rfl)
theorem dX3_mosts_77 : decode cX3_mosts 77 = .ok (.sipush 500, 3) := dk_17 1 244 (dk_at dksX3_mosts_3 1 rfl rfl)
theorem dX3_mosts_80 : decode cX3_mosts 80 = .ok (.iastore, 1) := dk_79 (dk_at dksX3_mosts_3 4 rfl rfl)
theorem dX3_mosts_81 : decode cX3_mosts 81 = .ok (.dup, 1) := dk_89 (dk_at dksX3_mosts_3 5 rfl rfl)
theorem dX3_mosts_82 : decode cX3_mosts 82 = .ok (.iconst 1, 1) := dk_4 (dk_at dksX3_mosts_3 6 rfl rfl)
theorem dX3_mosts_83 : decode cX3_mosts 83 = .ok (.sipush 200, 3) := dk_17 0 200 (dk_at dksX3_mosts_3 7 rfl rfl)
theorem dX3_mosts_86 : decode cX3_mosts 86 = .ok (.iastore, 1) := dk_79 (dk_at dksX3_mosts_3 10 rfl rfl)
theorem dX3_mosts_87 : decode cX3_mosts 87 = .ok (.dup, 1) := dk_89 (dk_at dksX3_mosts_3 11 rfl rfl)
theorem dX3_mosts_88 : decode cX3_mosts 88 = .ok (.iconst 2, 1) := dk_5 (dk_at dksX3_mosts_3 12 rfl rfl)
theorem dX3_mosts_89 : decode cX3_mosts 89 = .ok (.bipush 60, 2) := dk_16 60 (dk_at dksX3_mosts_3 13 rfl rfl)
theorem dX3_mosts_91 : decode cX3_mosts 91 = .ok (.iastore, 1) := dk_79 (dk_at dksX3_mosts_3 15 rfl rfl)
theorem dX3_mosts_92 : decode cX3_mosts 92 = .ok (.areturn, 1) := dk_176 (dk_at dksX3_mosts_3 16 rfl rfl)
theorem dX3_mosts_93 : decode cX3_mosts 93 = .ok (.iconst 5, 1) := dk_8 (dk_at dksX3_mosts_3 17 rfl rfl)
theorem dX3_mosts_94 : decode cX3_mosts 94 = .ok (.newarray .int, 2) := dk_188_10 (dk_at dksX3_mosts_3 18 rfl rfl)
theorem dX3_mosts_96 : decode cX3_mosts 96 = .ok (.dup, 1) := dk_89 (dk_at dksX3_mosts_3 20 rfl rfl)
theorem dX3_mosts_97 : decode cX3_mosts 97 = .ok (.iconst 0, 1) := dk_3 (dk_at dksX3_mosts_3 21 rfl rfl)
theorem dX3_mosts_98 : decode cX3_mosts 98 = .ok (.sipush 500, 3) := dk_17 1 244 (dk_at dksX3_mosts_4 0 rfl rfl)
theorem dX3_mosts_101 : decode cX3_mosts 101 = .ok (.iastore, 1) := dk_79 (dk_at dksX3_mosts_4 3 rfl rfl)
theorem dX3_mosts_102 : decode cX3_mosts 102 = .ok (.dup, 1) := dk_89 (dk_at dksX3_mosts_4 4 rfl rfl)
theorem dX3_mosts_103 : decode cX3_mosts 103 = .ok (.iconst 1, 1) := dk_4 (dk_at dksX3_mosts_4 5 rfl rfl)
theorem dX3_mosts_104 : decode cX3_mosts 104 = .ok (.bipush 50, 2) := dk_16 50 (dk_at dksX3_mosts_4 6 rfl rfl)
theorem dX3_mosts_106 : decode cX3_mosts 106 = .ok (.iastore, 1) := dk_79 (dk_at dksX3_mosts_4 8 rfl rfl)
theorem dX3_mosts_107 : decode cX3_mosts 107 = .ok (.dup, 1) := dk_89 (dk_at dksX3_mosts_4 9 rfl rfl)
theorem dX3_mosts_108 : decode cX3_mosts 108 = .ok (.iconst 2, 1) := dk_5 (dk_at dksX3_mosts_4 10 rfl rfl)
theorem dX3_mosts_109 : decode cX3_mosts 109 = .ok (.sipush 500, 3) := dk_17 1 244 (dk_at dksX3_mosts_4 11 rfl rfl)
theorem dX3_mosts_112 : decode cX3_mosts 112 = .ok (.iastore, 1) := dk_79 (dk_at dksX3_mosts_4 14 rfl rfl)
theorem dX3_mosts_113 : decode cX3_mosts 113 = .ok (.dup, 1) := dk_89 (dk_at dksX3_mosts_4 15 rfl rfl)
theorem dX3_mosts_114 : decode cX3_mosts 114 = .ok (.iconst 3, 1) := dk_6 (dk_at dksX3_mosts_4 16 rfl rfl)
theorem dX3_mosts_115 : decode cX3_mosts 115 = .ok (.sipush 200, 3) := dk_17 0 200 (dk_at dksX3_mosts_4 17 rfl rfl)
theorem dX3_mosts_118 : decode cX3_mosts 118 = .ok (.iastore, 1) := dk_79 (dk_at dksX3_mosts_4 20 rfl rfl)
theorem dX3_mosts_119 : decode cX3_mosts 119 = .ok (.dup, 1) := dk_89 (dk_at dksX3_mosts_4 21 rfl rfl)
theorem dX3_mosts_120 : decode cX3_mosts 120 = .ok (.iconst 4, 1) := dk_7 (dk_at dksX3_mosts_4 22 rfl rfl)
theorem dX3_mosts_121 : decode cX3_mosts 121 = .ok (.bipush 60, 2) := dk_16 60 (dk_at dksX3_mosts_5 0 rfl rfl)
theorem dX3_mosts_123 : decode cX3_mosts 123 = .ok (.iastore, 1) := dk_79 (dk_at dksX3_mosts_5 2 rfl rfl)
theorem dX3_mosts_124 : decode cX3_mosts 124 = .ok (.areturn, 1) := dk_176 (dk_at dksX3_mosts_5 3 rfl rfl)
theorem dX3_mosts_125 : decode cX3_mosts 125 = .ok (.iconst 2, 1) := dk_5 (dk_at dksX3_mosts_5 4 rfl rfl)
theorem dX3_mosts_126 : decode cX3_mosts 126 = .ok (.newarray .int, 2) := dk_188_10 (dk_at dksX3_mosts_5 5 rfl rfl)
theorem dX3_mosts_128 : decode cX3_mosts 128 = .ok (.dup, 1) := dk_89 (dk_at dksX3_mosts_5 7 rfl rfl)
theorem dX3_mosts_129 : decode cX3_mosts 129 = .ok (.iconst 0, 1) := dk_3 (dk_at dksX3_mosts_5 8 rfl rfl)
theorem dX3_mosts_130 : decode cX3_mosts 130 = .ok (.sipush 500, 3) := dk_17 1 244 (dk_at dksX3_mosts_5 9 rfl rfl)
theorem dX3_mosts_133 : decode cX3_mosts 133 = .ok (.iastore, 1) := dk_79 (dk_at dksX3_mosts_5 12 rfl rfl)
theorem dX3_mosts_134 : decode cX3_mosts 134 = .ok (.dup, 1) := dk_89 (dk_at dksX3_mosts_5 13 rfl rfl)
theorem dX3_mosts_135 : decode cX3_mosts 135 = .ok (.iconst 1, 1) := dk_4 (dk_at dksX3_mosts_5 14 rfl rfl)
theorem dX3_mosts_136 : decode cX3_mosts 136 = .ok (.bipush 50, 2) := dk_16 50 (dk_at dksX3_mosts_5 15 rfl rfl)
theorem dX3_mosts_138 : decode cX3_mosts 138 = .ok (.iastore, 1) := dk_79 (dk_at dksX3_mosts_5 17 rfl rfl)
theorem dX3_mosts_139 : decode cX3_mosts 139 = .ok (.areturn, 1) := dk_176 (dk_at dksX3_mosts_5 18 rfl rfl)
theorem dX3_mosts_140 : decode cX3_mosts 140 = .ok (.iconst 1, 1) := dk_4 (dk_at dksX3_mosts_5 19 rfl rfl)
theorem dX3_mosts_141 : decode cX3_mosts 141 = .ok (.newarray .int, 2) := dk_188_10 (dk_at dksX3_mosts_5 20 rfl rfl)
theorem dX3_mosts_143 : decode cX3_mosts 143 = .ok (.dup, 1) := dk_89 (dk_at dksX3_mosts_5 22 rfl rfl)
theorem dX3_mosts_144 : decode cX3_mosts 144 = .ok (.iconst 0, 1) := dk_3 (dk_at dksX3_mosts_5 23 rfl rfl)
theorem dX3_mosts_145 : decode cX3_mosts 145 = .ok (.sipush 500, 3) := dk_17 1 244 (dk_at dksX3_mosts_6 0 rfl rfl)
theorem dX3_mosts_148 : decode cX3_mosts 148 = .ok (.iastore, 1) := dk_79 (dk_at dksX3_mosts_6 3 rfl rfl)
theorem dX3_mosts_149 : decode cX3_mosts 149 = .ok (.areturn, 1) := dk_176 (dk_at dksX3_mosts_6 4 rfl rfl)
theorem dX3_mosts_150 : decode cX3_mosts 150 = .ok (.iconst 3, 1) := dk_6 (dk_at dksX3_mosts_6 5 rfl rfl)
theorem dX3_mosts_151 : decode cX3_mosts 151 = .ok (.newarray .int, 2) := dk_188_10 (dk_at dksX3_mosts_6 6 rfl rfl)
theorem dX3_mosts_153 : decode cX3_mosts 153 = .ok (.dup, 1) := dk_89 (dk_at dksX3_mosts_6 8 rfl rfl)
theorem dX3_mosts_154 : decode cX3_mosts 154 = .ok (.iconst 0, 1) := dk_3 (dk_at dksX3_mosts_6 9 rfl rfl)
theorem dX3_mosts_155 : decode cX3_mosts 155 = .ok (.sipush 500, 3) := dk_17 1 244 (dk_at dksX3_mosts_6 10 rfl rfl)
theorem dX3_mosts_158 : decode cX3_mosts 158 = .ok (.iastore, 1) := dk_79 (dk_at dksX3_mosts_6 13 rfl rfl)
theorem dX3_mosts_159 : decode cX3_mosts 159 = .ok (.dup, 1) := dk_89 (dk_at dksX3_mosts_6 14 rfl rfl)
theorem dX3_mosts_160 : decode cX3_mosts 160 = .ok (.iconst 1, 1) := dk_4 (dk_at dksX3_mosts_6 15 rfl rfl)
theorem dX3_mosts_161 : decode cX3_mosts 161 = .ok (.sipush 200, 3) := dk_17 0 200 (dk_at dksX3_mosts_6 16 rfl rfl)
theorem dX3_mosts_164 : decode cX3_mosts 164 = .ok (.iastore, 1) := dk_79 (dk_at dksX3_mosts_6 19 rfl rfl)
theorem dX3_mosts_165 : decode cX3_mosts 165 = .ok (.dup, 1) := dk_89 (dk_at dksX3_mosts_6 20 rfl rfl)
theorem dX3_mosts_166 : decode cX3_mosts 166 = .ok (.iconst 2, 1) := dk_5 (dk_at dksX3_mosts_6 21 rfl rfl)
theorem dX3_mosts_167 : decode cX3_mosts 167 = .ok (.sipush 500, 3) := dk_17 1 244 (dk_at dksX3_mosts_7 0 rfl rfl)
theorem dX3_mosts_170 : decode cX3_mosts 170 = .ok (.iastore, 1) := dk_79 (dk_at dksX3_mosts_7 3 rfl rfl)
theorem dX3_mosts_171 : decode cX3_mosts 171 = .ok (.areturn, 1) := dk_176 (dk_at dksX3_mosts_7 4 rfl rfl)
theorem dX3_mosts_172 : decode cX3_mosts 172 = .ok (.iconst 2, 1) := dk_5 (dk_at dksX3_mosts_7 5 rfl rfl)
theorem dX3_mosts_173 : decode cX3_mosts 173 = .ok (.newarray .int, 2) := dk_188_10 (dk_at dksX3_mosts_7 6 rfl rfl)
theorem dX3_mosts_175 : decode cX3_mosts 175 = .ok (.dup, 1) := dk_89 (dk_at dksX3_mosts_7 8 rfl rfl)
theorem dX3_mosts_176 : decode cX3_mosts 176 = .ok (.iconst 0, 1) := dk_3 (dk_at dksX3_mosts_7 9 rfl rfl)
theorem dX3_mosts_177 : decode cX3_mosts 177 = .ok (.bipush 60, 2) := dk_16 60 (dk_at dksX3_mosts_7 10 rfl rfl)
theorem dX3_mosts_179 : decode cX3_mosts 179 = .ok (.iastore, 1) := dk_79 (dk_at dksX3_mosts_7 12 rfl rfl)
theorem dX3_mosts_180 : decode cX3_mosts 180 = .ok (.dup, 1) := dk_89 (dk_at dksX3_mosts_7 13 rfl rfl)
theorem dX3_mosts_181 : decode cX3_mosts 181 = .ok (.iconst 1, 1) := dk_4 (dk_at dksX3_mosts_7 14 rfl rfl)
theorem dX3_mosts_182 : decode cX3_mosts 182 = .ok (.sipush 500, 3) := dk_17 1 244 (dk_at dksX3_mosts_7 15 rfl rfl)
theorem dX3_mosts_185 : decode cX3_mosts 185 = .ok (.iastore, 1) := dk_79 (dk_at dksX3_mosts_7 18 rfl rfl)
theorem dX3_mosts_186 : decode cX3_mosts 186 = .ok (.areturn, 1) := dk_176 (dk_at dksX3_mosts_7 19 rfl rfl)
theorem dX3_mosts_187 : decode cX3_mosts 187 = .ok (.bipush 6, 2) := dk_16 6 (dk_at dksX3_mosts_7 20 rfl rfl)
theorem dX3_mosts_189 : decode cX3_mosts 189 = .ok (.newarray .int, 2) := dk_188_10 (dk_at dksX3_mosts_7 22 rfl rfl)
theorem dX3_mosts_191 : decode cX3_mosts 191 = .ok (.dup, 1) := dk_89 (dk_at dksX3_mosts_8 0 rfl rfl)
theorem dX3_mosts_192 : decode cX3_mosts 192 = .ok (.iconst 0, 1) := dk_3 (dk_at dksX3_mosts_8 1 rfl rfl)
theorem dX3_mosts_193 : decode cX3_mosts 193 = .ok (.sipush 500, 3) := dk_17 1 244 (dk_at dksX3_mosts_8 2 rfl rfl)
theorem dX3_mosts_196 : decode cX3_mosts 196 = .ok (.iastore, 1) := dk_79 (dk_at dksX3_mosts_8 5 rfl rfl)
theorem dX3_mosts_197 : decode cX3_mosts 197 = .ok (.dup, 1) := dk_89 (dk_at dksX3_mosts_8 6 rfl rfl)
theorem dX3_mosts_198 : decode cX3_mosts 198 = .ok (.iconst 1, 1) := dk_4 (dk_at dksX3_mosts_8 7 rfl rfl)
theorem dX3_mosts_199 : decode cX3_mosts 199 = .ok (.bipush 50, 2) := dk_16 50 (dk_at dksX3_mosts_8 8 rfl rfl)
theorem dX3_mosts_201 : decode cX3_mosts 201 = .ok (.iastore, 1) := dk_79 (dk_at dksX3_mosts_8 10 rfl rfl)
theorem dX3_mosts_202 : decode cX3_mosts 202 = .ok (.dup, 1) := dk_89 (dk_at dksX3_mosts_8 11 rfl rfl)
theorem dX3_mosts_203 : decode cX3_mosts 203 = .ok (.iconst 2, 1) := dk_5 (dk_at dksX3_mosts_8 12 rfl rfl)
theorem dX3_mosts_204 : decode cX3_mosts 204 = .ok (.sipush 500, 3) := dk_17 1 244 (dk_at dksX3_mosts_8 13 rfl rfl)
theorem dX3_mosts_207 : decode cX3_mosts 207 = .ok (.iastore, 1) := dk_79 (dk_at dksX3_mosts_8 16 rfl rfl)
theorem dX3_mosts_208 : decode cX3_mosts 208 = .ok (.dup, 1) := dk_89 (dk_at dksX3_mosts_8 17 rfl rfl)
theorem dX3_mosts_209 : decode cX3_mosts 209 = .ok (.iconst 3, 1) := dk_6 (dk_at dksX3_mosts_8 18 rfl rfl)
theorem dX3_mosts_210 : decode cX3_mosts 210 = .ok (.sipush 200, 3) := dk_17 0 200 (dk_at dksX3_mosts_8 19 rfl rfl)
theorem dX3_mosts_213 : decode cX3_mosts 213 = .ok (.iastore, 1) := dk_79 (dk_at dksX3_mosts_8 22 rfl rfl)
theorem dX3_mosts_214 : decode cX3_mosts 214 = .ok (.dup, 1) := dk_89 (dk_at dksX3_mosts_8 23 rfl rfl)
theorem dX3_mosts_215 : decode cX3_mosts 215 = .ok (.iconst 4, 1) := dk_7 (dk_at dksX3_mosts_9 0 rfl rfl)
theorem dX3_mosts_216 : decode cX3_mosts 216 = .ok (.bipush 60, 2) := dk_16 60 (dk_at dksX3_mosts_9 1 rfl rfl)
theorem dX3_mosts_218 : decode cX3_mosts 218 = .ok (.iastore, 1) := dk_79 (dk_at dksX3_mosts_9 3 rfl rfl)
theorem dX3_mosts_219 : decode cX3_mosts 219 = .ok (.dup, 1) := dk_89 (dk_at dksX3_mosts_9 4 rfl rfl)
theorem dX3_mosts_220 : decode cX3_mosts 220 = .ok (.iconst 5, 1) := dk_8 (dk_at dksX3_mosts_9 5 rfl rfl)
theorem dX3_mosts_221 : decode cX3_mosts 221 = .ok (.sipush 500, 3) := dk_17 1 244 (dk_at dksX3_mosts_9 6 rfl rfl)
theorem dX3_mosts_224 : decode cX3_mosts 224 = .ok (.iastore, 1) := dk_79 (dk_at dksX3_mosts_9 9 rfl rfl)
theorem dX3_mosts_225 : decode cX3_mosts 225 = .ok (.areturn, 1) := dk_176 (dk_at dksX3_mosts_9 10 rfl rfl)
def dkwX3_made_5 : List UInt8 := [183, 1, 10, 176, 187, 1, 11, 89, 44, 42, 182, 1, 13, 183, 1, 17, 176]
abbrev dktX3_made_5 : List UInt8 := dkwX3_made_5 ++ []
def dkwX3_made_4 : List UInt8 := [187, 1, 2, 89, 44, 183, 1, 4, 176, 187, 1, 5, 89, 44, 183, 1, 7, 176, 187, 1, 8, 89, 44]
abbrev dktX3_made_4 : List UInt8 := dkwX3_made_4 ++ dktX3_made_5
def dkwX3_made_3 : List UInt8 := [183, 0, 251, 176, 187, 0, 252, 89, 44, 183, 0, 254, 176, 187, 0, 255, 89, 44, 183, 1, 1, 176]
abbrev dktX3_made_3 : List UInt8 := dkwX3_made_3 ++ dktX3_made_4
def dkwX3_made_2 : List UInt8 := [187, 0, 241, 89, 44, 183, 0, 243, 176, 187, 0, 246, 89, 44, 183, 0, 248, 176, 187, 0, 249, 89, 44]
abbrev dktX3_made_2 : List UInt8 := dkwX3_made_2 ++ dktX3_made_3
def dkwX3_made_1 : List UInt8 := [170, 0, 0, 0, 0, 0, 119, 0, 0, 0, 0, 0, 0, 0, 7, 0, 0, 0, 47, 0, 0, 0, 56, 0, 0, 0, 65, 0, 0, 0, 74, 0, 0, 0, 83, 0, 0, 0, 92, 0, 0, 0, 101, 0, 0, 0, 110]
abbrev dktX3_made_1 : List UInt8 := dkwX3_made_1 ++ dktX3_made_2
def dkwX3_made_0 : List UInt8 := [27]
abbrev dktX3_made_0 : List UInt8 := dkwX3_made_0 ++ dktX3_made_1
theorem dksX3_made_0 : cX3_made.data.toList.drop 0 = dktX3_made_0 := by decide +kernel
theorem dksX3_made_1 : cX3_made.data.toList.drop 1 = dktX3_made_1 := dk_seg dksX3_made_0 1 rfl rfl
theorem dksX3_made_2 : cX3_made.data.toList.drop 48 = dktX3_made_2 := dk_seg dksX3_made_1 47 rfl rfl
theorem dksX3_made_3 : cX3_made.data.toList.drop 71 = dktX3_made_3 := dk_seg dksX3_made_2 23 rfl rfl
theorem dksX3_made_4 : cX3_made.data.toList.drop 93 = dktX3_made_4 := dk_seg dksX3_made_3 22 rfl rfl
theorem dksX3_made_5 : cX3_made.data.toList.drop 116 = dktX3_made_5 := dk_seg dksX3_made_4 23 rfl rfl
theorem dX3_made_0 : decode cX3_made 0 = .ok (.iload_n 1, 1) := dk_27 (dk_at dksX3_made_0 0 rfl rfl)
theorem dX3_made_1 : decode cX3_made 1 = .ok (.tableswitch 119 0 7 #[47, 56, 65, 74, 83, 92, 101, 110], 47) := by decide +kernel
theorem dX3_made_48 : decode cX3_made 48 = .ok (.new 241, 3) := dk_187 0 241 (dk_at dksX3_made_2 0 rfl rfl)
theorem dX3_made_51 : decode cX3_made 51 = .ok (.dup, 1) := dk_89 (dk_at dksX3_made_2 3 rfl rfl)
theorem dX3_made_52 : decode cX3_made 52 = .ok (.aload_n 2, 1) := dk_44 (dk_at dksX3_made_2 4 rfl rfl)
theorem dX3_made_53 : decode cX3_made 53 = .ok (.invokespecial 243, 3) := dk_183 0 243 (dk_at dksX3_made_2 5 rfl rfl)
theorem dX3_made_56 : decode cX3_made 56 = .ok (.areturn, 1) := dk_176 (dk_at dksX3_made_2 8 rfl rfl)
theorem dX3_made_57 : decode cX3_made 57 = .ok (.new 246, 3) := dk_187 0 246 (dk_at dksX3_made_2 9 rfl rfl)
theorem dX3_made_60 : decode cX3_made 60 = .ok (.dup, 1) := dk_89 (dk_at dksX3_made_2 12 rfl rfl)
theorem dX3_made_61 : decode cX3_made 61 = .ok (.aload_n 2, 1) := dk_44 (dk_at dksX3_made_2 13 rfl rfl)
theorem dX3_made_62 : decode cX3_made 62 = .ok (.invokespecial 248, 3) := dk_183 0 248 (dk_at dksX3_made_2 14 rfl rfl)
theorem dX3_made_65 : decode cX3_made 65 = .ok (.areturn, 1) := dk_176 (dk_at dksX3_made_2 17 rfl rfl)
theorem dX3_made_66 : decode cX3_made 66 = .ok (.new 249, 3) := dk_187 0 249 (dk_at dksX3_made_2 18 rfl rfl)
theorem dX3_made_69 : decode cX3_made 69 = .ok (.dup, 1) := dk_89 (dk_at dksX3_made_2 21 rfl rfl)
theorem dX3_made_70 : decode cX3_made 70 = .ok (.aload_n 2, 1) := dk_44 (dk_at dksX3_made_2 22 rfl rfl)
theorem dX3_made_71 : decode cX3_made 71 = .ok (.invokespecial 251, 3) := dk_183 0 251 (dk_at dksX3_made_3 0 rfl rfl)
theorem dX3_made_74 : decode cX3_made 74 = .ok (.areturn, 1) := dk_176 (dk_at dksX3_made_3 3 rfl rfl)
theorem dX3_made_75 : decode cX3_made 75 = .ok (.new 252, 3) := dk_187 0 252 (dk_at dksX3_made_3 4 rfl rfl)
theorem dX3_made_78 : decode cX3_made 78 = .ok (.dup, 1) := dk_89 (dk_at dksX3_made_3 7 rfl rfl)
theorem dX3_made_79 : decode cX3_made 79 = .ok (.aload_n 2, 1) := dk_44 (dk_at dksX3_made_3 8 rfl rfl)
theorem dX3_made_80 : decode cX3_made 80 = .ok (.invokespecial 254, 3) := dk_183 0 254 (dk_at dksX3_made_3 9 rfl rfl)
theorem dX3_made_83 : decode cX3_made 83 = .ok (.areturn, 1) := dk_176 (dk_at dksX3_made_3 12 rfl rfl)
theorem dX3_made_84 : decode cX3_made 84 = .ok (.new 255, 3) := dk_187 0 255 (dk_at dksX3_made_3 13 rfl rfl)
theorem dX3_made_87 : decode cX3_made 87 = .ok (.dup, 1) := dk_89 (dk_at dksX3_made_3 16 rfl rfl)
theorem dX3_made_88 : decode cX3_made 88 = .ok (.aload_n 2, 1) := dk_44 (dk_at dksX3_made_3 17 rfl rfl)
theorem dX3_made_89 : decode cX3_made 89 = .ok (.invokespecial 257, 3) := dk_183 1 1 (dk_at dksX3_made_3 18 rfl rfl)
theorem dX3_made_92 : decode cX3_made 92 = .ok (.areturn, 1) := dk_176 (dk_at dksX3_made_3 21 rfl rfl)
theorem dX3_made_93 : decode cX3_made 93 = .ok (.new 258, 3) := dk_187 1 2 (dk_at dksX3_made_4 0 rfl rfl)
theorem dX3_made_96 : decode cX3_made 96 = .ok (.dup, 1) := dk_89 (dk_at dksX3_made_4 3 rfl rfl)
theorem dX3_made_97 : decode cX3_made 97 = .ok (.aload_n 2, 1) := dk_44 (dk_at dksX3_made_4 4 rfl rfl)
theorem dX3_made_98 : decode cX3_made 98 = .ok (.invokespecial 260, 3) := dk_183 1 4 (dk_at dksX3_made_4 5 rfl rfl)
theorem dX3_made_101 : decode cX3_made 101 = .ok (.areturn, 1) := dk_176 (dk_at dksX3_made_4 8 rfl rfl)
theorem dX3_made_102 : decode cX3_made 102 = .ok (.new 261, 3) := dk_187 1 5 (dk_at dksX3_made_4 9 rfl rfl)
theorem dX3_made_105 : decode cX3_made 105 = .ok (.dup, 1) := dk_89 (dk_at dksX3_made_4 12 rfl rfl)
theorem dX3_made_106 : decode cX3_made 106 = .ok (.aload_n 2, 1) := dk_44 (dk_at dksX3_made_4 13 rfl rfl)
theorem dX3_made_107 : decode cX3_made 107 = .ok (.invokespecial 263, 3) := dk_183 1 7 (dk_at dksX3_made_4 14 rfl rfl)
theorem dX3_made_110 : decode cX3_made 110 = .ok (.areturn, 1) := dk_176 (dk_at dksX3_made_4 17 rfl rfl)
theorem dX3_made_111 : decode cX3_made 111 = .ok (.new 264, 3) := dk_187 1 8 (dk_at dksX3_made_4 18 rfl rfl)
theorem dX3_made_114 : decode cX3_made 114 = .ok (.dup, 1) := dk_89 (dk_at dksX3_made_4 21 rfl rfl)
theorem dX3_made_115 : decode cX3_made 115 = .ok (.aload_n 2, 1) := dk_44 (dk_at dksX3_made_4 22 rfl rfl)
theorem dX3_made_116 : decode cX3_made 116 = .ok (.invokespecial 266, 3) := dk_183 1 10 (dk_at dksX3_made_5 0 rfl rfl)
theorem dX3_made_119 : decode cX3_made 119 = .ok (.areturn, 1) := dk_176 (dk_at dksX3_made_5 3 rfl rfl)
theorem dX3_made_120 : decode cX3_made 120 = .ok (.new 267, 3) := dk_187 1 11 (dk_at dksX3_made_5 4 rfl rfl)
theorem dX3_made_123 : decode cX3_made 123 = .ok (.dup, 1) := dk_89 (dk_at dksX3_made_5 7 rfl rfl)
theorem dX3_made_124 : decode cX3_made 124 = .ok (.aload_n 2, 1) := dk_44 (dk_at dksX3_made_5 8 rfl rfl)
theorem dX3_made_125 : decode cX3_made 125 = .ok (.aload_n 0, 1) := dk_42 (dk_at dksX3_made_5 9 rfl rfl)
theorem dX3_made_126 : decode cX3_made 126 = .ok (.invokevirtual 269, 3) := dk_182 1 13 (dk_at dksX3_made_5 10 rfl rfl)
theorem dX3_made_129 : decode cX3_made 129 = .ok (.invokespecial 273, 3) := dk_183 1 17 (dk_at dksX3_made_5 13 rfl rfl)
theorem dX3_made_132 : decode cX3_made 132 = .ok (.areturn, 1) := dk_176 (dk_at dksX3_made_5 16 rfl rfl)
def dkwX3_leader_4 : List UInt8 := [185, 1, 24, 1, 0, 176]
abbrev dktX3_leader_4 : List UInt8 := dkwX3_leader_4 ++ []
def dkwX3_leader_3 : List UInt8 := [193, 1, 22, 153, 0, 9, 42, 8, 182, 0, 124, 191, 44, 192, 1, 20, 78, 42, 182, 0, 118, 45]
abbrev dktX3_leader_3 : List UInt8 := dkwX3_leader_3 ++ dktX3_leader_4
def dkwX3_leader_2 : List UInt8 := [180, 0, 24, 43, 182, 0, 160, 182, 0, 131, 192, 0, 197, 77, 44, 193, 1, 20, 153, 0, 10, 44]
abbrev dktX3_leader_2 : List UInt8 := dkwX3_leader_2 ++ dktX3_leader_3
def dkwX3_leader_1 : List UInt8 := [160, 0, 17, 43, 182, 0, 160, 42, 180, 0, 24, 182, 0, 128, 160, 0, 9, 42, 6, 182, 0, 124, 191, 42]
abbrev dktX3_leader_1 : List UInt8 := dkwX3_leader_1 ++ dktX3_leader_2
def dkwX3_leader_0 : List UInt8 := [42, 182, 0, 140, 42, 42, 180, 0, 77, 182, 0, 147, 76, 43, 198, 0, 25, 43, 182, 0, 158, 5]
abbrev dktX3_leader_0 : List UInt8 := dkwX3_leader_0 ++ dktX3_leader_1
theorem dksX3_leader_0 : cX3_leader.data.toList.drop 0 = dktX3_leader_0 := by decide +kernel
theorem dksX3_leader_1 : cX3_leader.data.toList.drop 22 = dktX3_leader_1 := dk_seg dksX3_leader_0 22 rfl rfl
theorem dksX3_leader_2 : cX3_leader.data.toList.drop 46 = dktX3_leader_2 := dk_seg dksX3_leader_1 24 rfl rfl
theorem dksX3_leader_3 : cX3_leader.data.toList.drop 68 = dktX3_leader_3 := dk_seg dksX3_leader_2 22 rfl rfl
theorem dksX3_leader_4 : cX3_leader.data.toList.drop 90 = dktX3_leader_4 := dk_seg dksX3_leader_3 22 rfl rfl
theorem dX3_leader_0 : decode cX3_leader 0 = .ok (.aload_n 0, 1) := dk_42 (dk_at dksX3_leader_0 0 rfl rfl)
theorem dX3_leader_1 : decode cX3_leader 1 = .ok (.invokevirtual 140, 3) := dk_182 0 140 (dk_at dksX3_leader_0 1 rfl rfl)
theorem dX3_leader_4 : decode cX3_leader 4 = .ok (.aload_n 0, 1) := dk_42 (dk_at dksX3_leader_0 4 rfl rfl)
theorem dX3_leader_5 : decode cX3_leader 5 = .ok (.aload_n 0, 1) := dk_42 (dk_at dksX3_leader_0 5 rfl rfl)
theorem dX3_leader_6 : decode cX3_leader 6 = .ok (.getfield 77, 3) := dk_180 0 77 (dk_at dksX3_leader_0 6 rfl rfl)
theorem dX3_leader_9 : decode cX3_leader 9 = .ok (.invokevirtual 147, 3) := dk_182 0 147 (dk_at dksX3_leader_0 9 rfl rfl)
theorem dX3_leader_12 : decode cX3_leader 12 = .ok (.astore_n 1, 1) := dk_76 (dk_at dksX3_leader_0 12 rfl rfl)
theorem dX3_leader_13 : decode cX3_leader 13 = .ok (.aload_n 1, 1) := dk_43 (dk_at dksX3_leader_0 13 rfl rfl)
theorem dX3_leader_14 : decode cX3_leader 14 = .ok (.ifnull 25, 3) := dk_198 0 25 (dk_at dksX3_leader_0 14 rfl rfl)
theorem dX3_leader_17 : decode cX3_leader 17 = .ok (.aload_n 1, 1) := dk_43 (dk_at dksX3_leader_0 17 rfl rfl)
theorem dX3_leader_18 : decode cX3_leader 18 = .ok (.invokevirtual 158, 3) := dk_182 0 158 (dk_at dksX3_leader_0 18 rfl rfl)
theorem dX3_leader_21 : decode cX3_leader 21 = .ok (.iconst 2, 1) := dk_5 (dk_at dksX3_leader_0 21 rfl rfl)
theorem dX3_leader_22 : decode cX3_leader 22 = .ok (.if_icmp .ne 17, 3) := dk_160 0 17 (dk_at dksX3_leader_1 0 rfl rfl)
theorem dX3_leader_25 : decode cX3_leader 25 = .ok (.aload_n 1, 1) := dk_43 (dk_at dksX3_leader_1 3 rfl rfl)
theorem dX3_leader_26 : decode cX3_leader 26 = .ok (.invokevirtual 160, 3) := dk_182 0 160 (dk_at dksX3_leader_1 4 rfl rfl)
theorem dX3_leader_29 : decode cX3_leader 29 = .ok (.aload_n 0, 1) := dk_42 (dk_at dksX3_leader_1 7 rfl rfl)
theorem dX3_leader_30 : decode cX3_leader 30 = .ok (.getfield 24, 3) := dk_180 0 24 (dk_at dksX3_leader_1 8 rfl rfl)
theorem dX3_leader_33 : decode cX3_leader 33 = .ok (.invokevirtual 128, 3) := dk_182 0 128 (dk_at dksX3_leader_1 11 rfl rfl)
theorem dX3_leader_36 : decode cX3_leader 36 = .ok (.if_icmp .ne 9, 3) := dk_160 0 9 (dk_at dksX3_leader_1 14 rfl rfl)
theorem dX3_leader_39 : decode cX3_leader 39 = .ok (.aload_n 0, 1) := dk_42 (dk_at dksX3_leader_1 17 rfl rfl)
theorem dX3_leader_40 : decode cX3_leader 40 = .ok (.iconst 3, 1) := dk_6 (dk_at dksX3_leader_1 18 rfl rfl)
theorem dX3_leader_41 : decode cX3_leader 41 = .ok (.invokevirtual 124, 3) := dk_182 0 124 (dk_at dksX3_leader_1 19 rfl rfl)
theorem dX3_leader_44 : decode cX3_leader 44 = .ok (.athrow, 1) := dk_191 (dk_at dksX3_leader_1 22 rfl rfl)
theorem dX3_leader_45 : decode cX3_leader 45 = .ok (.aload_n 0, 1) := dk_42 (dk_at dksX3_leader_1 23 rfl rfl)
theorem dX3_leader_46 : decode cX3_leader 46 = .ok (.getfield 24, 3) := dk_180 0 24 (dk_at dksX3_leader_2 0 rfl rfl)
theorem dX3_leader_49 : decode cX3_leader 49 = .ok (.aload_n 1, 1) := dk_43 (dk_at dksX3_leader_2 3 rfl rfl)
theorem dX3_leader_50 : decode cX3_leader 50 = .ok (.invokevirtual 160, 3) := dk_182 0 160 (dk_at dksX3_leader_2 4 rfl rfl)
theorem dX3_leader_53 : decode cX3_leader 53 = .ok (.invokevirtual 131, 3) := dk_182 0 131 (dk_at dksX3_leader_2 7 rfl rfl)
theorem dX3_leader_56 : decode cX3_leader 56 = .ok (.checkcast 197, 3) := dk_192 0 197 (dk_at dksX3_leader_2 10 rfl rfl)
theorem dX3_leader_59 : decode cX3_leader 59 = .ok (.astore_n 2, 1) := dk_77 (dk_at dksX3_leader_2 13 rfl rfl)
theorem dX3_leader_60 : decode cX3_leader 60 = .ok (.aload_n 2, 1) := dk_44 (dk_at dksX3_leader_2 14 rfl rfl)
theorem dX3_leader_61 : decode cX3_leader 61 = .ok (.instanceof 276, 3) := dk_193 1 20 (dk_at dksX3_leader_2 15 rfl rfl)
theorem dX3_leader_64 : decode cX3_leader 64 = .ok (.ifCond .eq 10, 3) := dk_153 0 10 (dk_at dksX3_leader_2 18 rfl rfl)
theorem dX3_leader_67 : decode cX3_leader 67 = .ok (.aload_n 2, 1) := dk_44 (dk_at dksX3_leader_2 21 rfl rfl)
theorem dX3_leader_68 : decode cX3_leader 68 = .ok (.instanceof 278, 3) := dk_193 1 22 (dk_at dksX3_leader_3 0 rfl rfl)
theorem dX3_leader_71 : decode cX3_leader 71 = .ok (.ifCond .eq 9, 3) := dk_153 0 9 (dk_at dksX3_leader_3 3 rfl rfl)
theorem dX3_leader_74 : decode cX3_leader 74 = .ok (.aload_n 0, 1) := dk_42 (dk_at dksX3_leader_3 6 rfl rfl)
theorem dX3_leader_75 : decode cX3_leader 75 = .ok (.iconst 5, 1) := dk_8 (dk_at dksX3_leader_3 7 rfl rfl)
theorem dX3_leader_76 : decode cX3_leader 76 = .ok (.invokevirtual 124, 3) := dk_182 0 124 (dk_at dksX3_leader_3 8 rfl rfl)
theorem dX3_leader_79 : decode cX3_leader 79 = .ok (.athrow, 1) := dk_191 (dk_at dksX3_leader_3 11 rfl rfl)
theorem dX3_leader_80 : decode cX3_leader 80 = .ok (.aload_n 2, 1) := dk_44 (dk_at dksX3_leader_3 12 rfl rfl)
theorem dX3_leader_81 : decode cX3_leader 81 = .ok (.checkcast 276, 3) := dk_192 1 20 (dk_at dksX3_leader_3 13 rfl rfl)
theorem dX3_leader_84 : decode cX3_leader 84 = .ok (.astore_n 3, 1) := dk_78 (dk_at dksX3_leader_3 16 rfl rfl)
theorem dX3_leader_85 : decode cX3_leader 85 = .ok (.aload_n 0, 1) := dk_42 (dk_at dksX3_leader_3 17 rfl rfl)
theorem dX3_leader_86 : decode cX3_leader 86 = .ok (.invokevirtual 118, 3) := dk_182 0 118 (dk_at dksX3_leader_3 18 rfl rfl)
theorem dX3_leader_89 : decode cX3_leader 89 = .ok (.aload_n 3, 1) := dk_45 (dk_at dksX3_leader_3 21 rfl rfl)
theorem dX3_leader_90 : decode cX3_leader 90 = .ok (.invokeinterface 280 1, 5) := by decide +kernel
theorem dX3_leader_95 : decode cX3_leader 95 = .ok (.areturn, 1) := dk_176 (dk_at dksX3_leader_4 5 rfl rfl)
def dkwX3_block_3 : List UInt8 := [181, 0, 220, 177]
abbrev dktX3_block_3 : List UInt8 := dkwX3_block_3 ++ []
def dkwX3_block_2 : List UInt8 := [182, 0, 121, 154, 0, 10, 42, 182, 1, 27, 167, 255, 243, 42, 182, 0, 118, 42, 89, 180, 0, 220, 4, 100]
abbrev dktX3_block_2 : List UInt8 := dkwX3_block_2 ++ dktX3_block_3
def dkwX3_block_1 : List UInt8 := [42, 7, 182, 0, 124, 191, 42, 89, 180, 0, 220, 4, 96, 181, 0, 220, 42, 182, 0, 118, 42, 16, 125]
abbrev dktX3_block_1 : List UInt8 := dkwX3_block_1 ++ dktX3_block_2
def dkwX3_block_0 : List UInt8 := [42, 16, 123, 182, 0, 121, 154, 0, 9, 42, 4, 182, 0, 124, 191, 42, 180, 0, 220, 16, 10, 160, 0, 9]
abbrev dktX3_block_0 : List UInt8 := dkwX3_block_0 ++ dktX3_block_1
theorem dksX3_block_0 : cX3_block.data.toList.drop 0 = dktX3_block_0 := by decide +kernel
theorem dksX3_block_1 : cX3_block.data.toList.drop 24 = dktX3_block_1 := dk_seg dksX3_block_0 24 rfl rfl
theorem dksX3_block_2 : cX3_block.data.toList.drop 47 = dktX3_block_2 := dk_seg dksX3_block_1 23 rfl rfl
theorem dksX3_block_3 : cX3_block.data.toList.drop 71 = dktX3_block_3 := dk_seg dksX3_block_2 24 rfl rfl
theorem dX3_block_0 : decode cX3_block 0 = .ok (.aload_n 0, 1) := dk_42 (dk_at dksX3_block_0 0 rfl rfl)
theorem dX3_block_1 : decode cX3_block 1 = .ok (.bipush 123, 2) := dk_16 123 (dk_at dksX3_block_0 1 rfl rfl)
theorem dX3_block_3 : decode cX3_block 3 = .ok (.invokevirtual 121, 3) := dk_182 0 121 (dk_at dksX3_block_0 3 rfl rfl)
theorem dX3_block_6 : decode cX3_block 6 = .ok (.ifCond .ne 9, 3) := dk_154 0 9 (dk_at dksX3_block_0 6 rfl rfl)
theorem dX3_block_9 : decode cX3_block 9 = .ok (.aload_n 0, 1) := dk_42 (dk_at dksX3_block_0 9 rfl rfl)
theorem dX3_block_10 : decode cX3_block 10 = .ok (.iconst 1, 1) := dk_4 (dk_at dksX3_block_0 10 rfl rfl)
theorem dX3_block_11 : decode cX3_block 11 = .ok (.invokevirtual 124, 3) := dk_182 0 124 (dk_at dksX3_block_0 11 rfl rfl)
theorem dX3_block_14 : decode cX3_block 14 = .ok (.athrow, 1) := dk_191 (dk_at dksX3_block_0 14 rfl rfl)
theorem dX3_block_15 : decode cX3_block 15 = .ok (.aload_n 0, 1) := dk_42 (dk_at dksX3_block_0 15 rfl rfl)
theorem dX3_block_16 : decode cX3_block 16 = .ok (.getfield 220, 3) := dk_180 0 220 (dk_at dksX3_block_0 16 rfl rfl)
theorem dX3_block_19 : decode cX3_block 19 = .ok (.bipush 10, 2) := dk_16 10 (dk_at dksX3_block_0 19 rfl rfl)
theorem dX3_block_21 : decode cX3_block 21 = .ok (.if_icmp .ne 9, 3) := dk_160 0 9 (dk_at dksX3_block_0 21 rfl rfl)
theorem dX3_block_24 : decode cX3_block 24 = .ok (.aload_n 0, 1) := dk_42 (dk_at dksX3_block_1 0 rfl rfl)
theorem dX3_block_25 : decode cX3_block 25 = .ok (.iconst 4, 1) := dk_7 (dk_at dksX3_block_1 1 rfl rfl)
theorem dX3_block_26 : decode cX3_block 26 = .ok (.invokevirtual 124, 3) := dk_182 0 124 (dk_at dksX3_block_1 2 rfl rfl)
theorem dX3_block_29 : decode cX3_block 29 = .ok (.athrow, 1) := dk_191 (dk_at dksX3_block_1 5 rfl rfl)
theorem dX3_block_30 : decode cX3_block 30 = .ok (.aload_n 0, 1) := dk_42 (dk_at dksX3_block_1 6 rfl rfl)
theorem dX3_block_31 : decode cX3_block 31 = .ok (.dup, 1) := dk_89 (dk_at dksX3_block_1 7 rfl rfl)
theorem dX3_block_32 : decode cX3_block 32 = .ok (.getfield 220, 3) := dk_180 0 220 (dk_at dksX3_block_1 8 rfl rfl)
theorem dX3_block_35 : decode cX3_block 35 = .ok (.iconst 1, 1) := dk_4 (dk_at dksX3_block_1 11 rfl rfl)
theorem dX3_block_36 : decode cX3_block 36 = .ok (.iadd, 1) := dk_96 (dk_at dksX3_block_1 12 rfl rfl)
theorem dX3_block_37 : decode cX3_block 37 = .ok (.putfield 220, 3) := dk_181 0 220 (dk_at dksX3_block_1 13 rfl rfl)
theorem dX3_block_40 : decode cX3_block 40 = .ok (.aload_n 0, 1) := dk_42 (dk_at dksX3_block_1 16 rfl rfl)
theorem dX3_block_41 : decode cX3_block 41 = .ok (.invokevirtual 118, 3) := dk_182 0 118 (dk_at dksX3_block_1 17 rfl rfl)
theorem dX3_block_44 : decode cX3_block 44 = .ok (.aload_n 0, 1) := dk_42 (dk_at dksX3_block_1 20 rfl rfl)
theorem dX3_block_45 : decode cX3_block 45 = .ok (.bipush 125, 2) := dk_16 125 (dk_at dksX3_block_1 21 rfl rfl)
theorem dX3_block_47 : decode cX3_block 47 = .ok (.invokevirtual 121, 3) := dk_182 0 121 (dk_at dksX3_block_2 0 rfl rfl)
theorem dX3_block_50 : decode cX3_block 50 = .ok (.ifCond .ne 10, 3) := dk_154 0 10 (dk_at dksX3_block_2 3 rfl rfl)
theorem dX3_block_53 : decode cX3_block 53 = .ok (.aload_n 0, 1) := dk_42 (dk_at dksX3_block_2 6 rfl rfl)
theorem dX3_block_54 : decode cX3_block 54 = .ok (.invokevirtual 283, 3) := dk_182 1 27 (dk_at dksX3_block_2 7 rfl rfl)
theorem dX3_block_57 : decode cX3_block 57 = .ok (.goto (-13), 3) := dk_167 255 243 (dk_at dksX3_block_2 10 rfl rfl)
theorem dX3_block_60 : decode cX3_block 60 = .ok (.aload_n 0, 1) := dk_42 (dk_at dksX3_block_2 13 rfl rfl)
theorem dX3_block_61 : decode cX3_block 61 = .ok (.invokevirtual 118, 3) := dk_182 0 118 (dk_at dksX3_block_2 14 rfl rfl)
theorem dX3_block_64 : decode cX3_block 64 = .ok (.aload_n 0, 1) := dk_42 (dk_at dksX3_block_2 17 rfl rfl)
theorem dX3_block_65 : decode cX3_block 65 = .ok (.dup, 1) := dk_89 (dk_at dksX3_block_2 18 rfl rfl)
theorem dX3_block_66 : decode cX3_block 66 = .ok (.getfield 220, 3) := dk_180 0 220 (dk_at dksX3_block_2 19 rfl rfl)
theorem dX3_block_69 : decode cX3_block 69 = .ok (.iconst 1, 1) := dk_4 (dk_at dksX3_block_2 22 rfl rfl)
theorem dX3_block_70 : decode cX3_block 70 = .ok (.isub, 1) := dk_100 (dk_at dksX3_block_2 23 rfl rfl)
theorem dX3_block_71 : decode cX3_block 71 = .ok (.putfield 220, 3) := dk_181 0 220 (dk_at dksX3_block_3 0 rfl rfl)
theorem dX3_block_74 : decode cX3_block 74 = .ok (.return_, 1) := dk_177 (dk_at dksX3_block_3 3 rfl rfl)
def dkwX3_step_12 : List UInt8 := [167, 0, 9, 42, 16, 59, 182, 0, 171, 177]
abbrev dktX3_step_12 : List UInt8 := dkwX3_step_12 ++ []
def dkwX3_step_11 : List UInt8 := [167, 0, 33, 42, 45, 182, 1, 73, 167, 0, 25, 42, 45, 182, 1, 77, 167, 0, 17, 42, 45, 182, 1, 80]
abbrev dktX3_step_11 : List UInt8 := dkwX3_step_11 ++ dktX3_step_12
def dkwX3_step_10 : List UInt8 := [42, 16, 59, 182, 0, 171, 167, 0, 51, 45, 42, 4, 182, 1, 70, 181, 1, 62, 42, 16, 59, 182, 0, 171]
abbrev dktX3_step_10 : List UInt8 := dkwX3_step_10 ++ dktX3_step_11
def dkwX3_step_9 : List UInt8 := [182, 1, 63, 181, 1, 67, 42, 16, 59, 182, 0, 171, 167, 0, 69, 45, 42, 3, 182, 1, 70, 181, 1, 62]
abbrev dktX3_step_9 : List UInt8 := dkwX3_step_9 ++ dktX3_step_10
def dkwX3_step_8 : List UInt8 := [16, 61, 182, 0, 171, 45, 42, 182, 1, 54, 181, 1, 58, 42, 16, 59, 182, 0, 171, 167, 0, 86, 45, 42]
abbrev dktX3_step_8 : List UInt8 := dkwX3_step_8 ++ dktX3_step_9
def dkwX3_step_7 : List UInt8 := [45, 42, 182, 1, 54, 181, 1, 58, 42, 16, 59, 182, 0, 171, 167, 0, 114, 45, 27, 181, 1, 62, 42]
abbrev dktX3_step_7 : List UInt8 := dkwX3_step_7 ++ dktX3_step_8
def dkwX3_step_6 : List UInt8 := [170, 0, 0, 0, 0, 0, 209, 0, 0, 0, 0, 0, 0, 0, 17, 0, 0, 0, 87, 0, 0, 0, 87, 0, 0, 0, 87, 0, 0, 0, 87, 0, 0, 0, 87, 0, 0, 0, 209, 0, 0, 0, 87, 0, 0, 0, 87, 0, 0, 0, 132, 0, 0, 0, 149, 0, 0, 0, 149, 0, 0, 0, 167, 0, 0, 0, 167, 0, 0, 0, 104, 0, 0, 0, 185, 0, 0, 0, 185, 0, 0, 0, 193, 0, 0, 0, 201]
abbrev dktX3_step_6 : List UInt8 := dkwX3_step_6 ++ dktX3_step_7
def dkwX3_step_5 : List UInt8 := [182, 0, 118, 28]
abbrev dktX3_step_5 : List UInt8 := dkwX3_step_5 ++ dktX3_step_6
def dkwX3_step_4 : List UInt8 := [191, 42, 89, 180, 0, 217, 4, 96, 181, 0, 217, 42, 28, 42, 180, 0, 45, 182, 1, 50, 78, 42]
abbrev dktX3_step_4 : List UInt8 := dkwX3_step_4 ++ dktX3_step_5
def dkwX3_step_3 : List UInt8 := [182, 1, 47, 153, 0, 16, 28, 16, 18, 160, 0, 16, 42, 180, 0, 223, 154, 0, 9, 42, 8, 182, 0, 124]
abbrev dktX3_step_3 : List UInt8 := dkwX3_step_3 ++ dktX3_step_4
def dkwX3_step_2 : List UInt8 := [4, 182, 0, 124, 191, 42, 180, 0, 217, 17, 0, 150, 160, 0, 9, 42, 7, 182, 0, 124, 191, 42, 28]
abbrev dktX3_step_2 : List UInt8 := dkwX3_step_2 ++ dktX3_step_3
def dkwX3_step_1 : List UInt8 := [42, 180, 0, 77, 184, 0, 204, 61, 28, 2, 159, 0, 13, 27, 156, 0, 15, 28, 16, 13, 160, 0, 9, 42]
abbrev dktX3_step_1 : List UInt8 := dkwX3_step_1 ++ dktX3_step_2
def dkwX3_step_0 : List UInt8 := [42, 182, 0, 140, 42, 180, 0, 77, 184, 1, 41, 60, 27, 155, 0, 8, 16, 13, 167, 0, 13, 19, 1, 45]
abbrev dktX3_step_0 : List UInt8 := dkwX3_step_0 ++ dktX3_step_1
theorem dksX3_step_0 : cX3_step.data.toList.drop 0 = dktX3_step_0 := by decide +kernel
theorem dksX3_step_1 : cX3_step.data.toList.drop 24 = dktX3_step_1 := dk_seg dksX3_step_0 24 rfl rfl
theorem dksX3_step_2 : cX3_step.data.toList.drop 48 = dktX3_step_2 := dk_seg dksX3_step_1 24 rfl rfl
theorem dksX3_step_3 : cX3_step.data.toList.drop 71 = dktX3_step_3 := dk_seg dksX3_step_2 23 rfl rfl
theorem dksX3_step_4 : cX3_step.data.toList.drop 95 = dktX3_step_4 := dk_seg dksX3_step_3 24 rfl rfl
theorem dksX3_step_5 : cX3_step.data.toList.drop 117 = dktX3_step_5 := dk_seg dksX3_step_4 22 rfl rfl
theorem dksX3_step_6 : cX3_step.data.toList.drop 121 = dktX3_step_6 := dk_seg dksX3_step_5 4 rfl rfl
theorem dksX3_step_7 : cX3_step.data.toList.drop 208 = dktX3_step_7 := dk_seg dksX3_step_6 87 rfl rfl
theorem dksX3_step_8 : cX3_step.data.toList.drop 231 = dktX3_step_8 := dk_seg dksX3_step_7 23 rfl rfl
theorem dksX3_step_9 : cX3_step.data.toList.drop 255 = dktX3_step_9 := dk_seg dksX3_step_8 24 rfl rfl
theorem dksX3_step_10 : cX3_step.data.toList.drop 279 = dktX3_step_10 := dk_seg dksX3_step_9 24 rfl rfl
theorem dksX3_step_11 : cX3_step.data.toList.drop 303 = dktX3_step_11 := dk_seg dksX3_step_10 24 rfl rfl
theorem dksX3_step_12 : cX3_step.data.toList.drop 327 = dktX3_step_12 := dk_seg dksX3_step_11 24 rfl rfl
theorem dX3_step_0 : decode cX3_step 0 = .ok (.aload_n 0, 1) := dk_42 (dk_at dksX3_step_0 0 rfl rfl)
theorem dX3_step_1 : decode cX3_step 1 = .ok (.invokevirtual 140, 3) := dk_182 0 140 (dk_at dksX3_step_0 1 rfl rfl)
theorem dX3_step_4 : decode cX3_step 4 = .ok (.aload_n 0, 1) := dk_42 (dk_at dksX3_step_0 4 rfl rfl)
theorem dX3_step_5 : decode cX3_step 5 = .ok (.getfield 77, 3) := dk_180 0 77 (dk_at dksX3_step_0 5 rfl rfl)
theorem dX3_step_8 : decode cX3_step 8 = .ok (.invokestatic 297, 3) := dk_184 1 41 (dk_at dksX3_step_0 8 rfl rfl)
theorem dX3_step_11 : decode cX3_step 11 = .ok (.istore_n 1, 1) := dk_60 (dk_at dksX3_step_0 11 rfl rfl)
theorem dX3_step_12 : decode cX3_step 12 = .ok (.iload_n 1, 1) := dk_27 (dk_at dksX3_step_0 12 rfl rfl)
theorem dX3_step_13 : decode cX3_step 13 = .ok (.ifCond .lt 8, 3) := dk_155 0 8 (dk_at dksX3_step_0 13 rfl rfl)
theorem dX3_step_16 : decode cX3_step 16 = .ok (.bipush 13, 2) := dk_16 13 (dk_at dksX3_step_0 16 rfl rfl)
theorem dX3_step_18 : decode cX3_step 18 = .ok (.goto 13, 3) := dk_167 0 13 (dk_at dksX3_step_0 18 rfl rfl)
theorem dX3_step_21 : decode cX3_step 21 = .ok (.ldc_w 301, 3) := dk_19 1 45 (dk_at dksX3_step_0 21 rfl rfl)
theorem dX3_step_24 : decode cX3_step 24 = .ok (.aload_n 0, 1) := dk_42 (dk_at dksX3_step_1 0 rfl rfl)
theorem dX3_step_25 : decode cX3_step 25 = .ok (.getfield 77, 3) := dk_180 0 77 (dk_at dksX3_step_1 1 rfl rfl)
theorem dX3_step_28 : decode cX3_step 28 = .ok (.invokestatic 204, 3) := dk_184 0 204 (dk_at dksX3_step_1 4 rfl rfl)
theorem dX3_step_31 : decode cX3_step 31 = .ok (.istore_n 2, 1) := dk_61 (dk_at dksX3_step_1 7 rfl rfl)
theorem dX3_step_32 : decode cX3_step 32 = .ok (.iload_n 2, 1) := dk_28 (dk_at dksX3_step_1 8 rfl rfl)
theorem dX3_step_33 : decode cX3_step 33 = .ok (.iconst (-1), 1) := dk_2 (dk_at dksX3_step_1 9 rfl rfl)
theorem dX3_step_34 : decode cX3_step 34 = .ok (.if_icmp .eq 13, 3) := dk_159 0 13 (dk_at dksX3_step_1 10 rfl rfl)
theorem dX3_step_37 : decode cX3_step 37 = .ok (.iload_n 1, 1) := dk_27 (dk_at dksX3_step_1 13 rfl rfl)
theorem dX3_step_38 : decode cX3_step 38 = .ok (.ifCond .ge 15, 3) := dk_156 0 15 (dk_at dksX3_step_1 14 rfl rfl)
theorem dX3_step_41 : decode cX3_step 41 = .ok (.iload_n 2, 1) := dk_28 (dk_at dksX3_step_1 17 rfl rfl)
theorem dX3_step_42 : decode cX3_step 42 = .ok (.bipush 13, 2) := dk_16 13 (dk_at dksX3_step_1 18 rfl rfl)
theorem dX3_step_44 : decode cX3_step 44 = .ok (.if_icmp .ne 9, 3) := dk_160 0 9 (dk_at dksX3_step_1 20 rfl rfl)
theorem dX3_step_47 : decode cX3_step 47 = .ok (.aload_n 0, 1) := dk_42 (dk_at dksX3_step_1 23 rfl rfl)
theorem dX3_step_48 : decode cX3_step 48 = .ok (.iconst 1, 1) := dk_4 (dk_at dksX3_step_2 0 rfl rfl)
theorem dX3_step_49 : decode cX3_step 49 = .ok (.invokevirtual 124, 3) := dk_182 0 124 (dk_at dksX3_step_2 1 rfl rfl)
theorem dX3_step_52 : decode cX3_step 52 = .ok (.athrow, 1) := dk_191 (dk_at dksX3_step_2 4 rfl rfl)
theorem dX3_step_53 : decode cX3_step 53 = .ok (.aload_n 0, 1) := dk_42 (dk_at dksX3_step_2 5 rfl rfl)
theorem dX3_step_54 : decode cX3_step 54 = .ok (.getfield 217, 3) := dk_180 0 217 (dk_at dksX3_step_2 6 rfl rfl)
theorem dX3_step_57 : decode cX3_step 57 = .ok (.sipush 150, 3) := dk_17 0 150 (dk_at dksX3_step_2 9 rfl rfl)
theorem dX3_step_60 : decode cX3_step 60 = .ok (.if_icmp .ne 9, 3) := dk_160 0 9 (dk_at dksX3_step_2 12 rfl rfl)
theorem dX3_step_63 : decode cX3_step 63 = .ok (.aload_n 0, 1) := dk_42 (dk_at dksX3_step_2 15 rfl rfl)
theorem dX3_step_64 : decode cX3_step 64 = .ok (.iconst 4, 1) := dk_7 (dk_at dksX3_step_2 16 rfl rfl)
theorem dX3_step_65 : decode cX3_step 65 = .ok (.invokevirtual 124, 3) := dk_182 0 124 (dk_at dksX3_step_2 17 rfl rfl)
theorem dX3_step_68 : decode cX3_step 68 = .ok (.athrow, 1) := dk_191 (dk_at dksX3_step_2 20 rfl rfl)
theorem dX3_step_69 : decode cX3_step 69 = .ok (.aload_n 0, 1) := dk_42 (dk_at dksX3_step_2 21 rfl rfl)
theorem dX3_step_70 : decode cX3_step 70 = .ok (.iload_n 2, 1) := dk_28 (dk_at dksX3_step_2 22 rfl rfl)
theorem dX3_step_71 : decode cX3_step 71 = .ok (.invokevirtual 303, 3) := dk_182 1 47 (dk_at dksX3_step_3 0 rfl rfl)
theorem dX3_step_74 : decode cX3_step 74 = .ok (.ifCond .eq 16, 3) := dk_153 0 16 (dk_at dksX3_step_3 3 rfl rfl)
theorem dX3_step_77 : decode cX3_step 77 = .ok (.iload_n 2, 1) := dk_28 (dk_at dksX3_step_3 6 rfl rfl)
theorem dX3_step_78 : decode cX3_step 78 = .ok (.bipush 18, 2) := dk_16 18 (dk_at dksX3_step_3 7 rfl rfl)
theorem dX3_step_80 : decode cX3_step 80 = .ok (.if_icmp .ne 16, 3) := dk_160 0 16 (dk_at dksX3_step_3 9 rfl rfl)
theorem dX3_step_83 : decode cX3_step 83 = .ok (.aload_n 0, 1) := dk_42 (dk_at dksX3_step_3 12 rfl rfl)
theorem dX3_step_84 : decode cX3_step 84 = .ok (.getfield 223, 3) := dk_180 0 223 (dk_at dksX3_step_3 13 rfl rfl)
theorem dX3_step_87 : decode cX3_step 87 = .ok (.ifCond .ne 9, 3) := dk_154 0 9 (dk_at dksX3_step_3 16 rfl rfl)
theorem dX3_step_90 : decode cX3_step 90 = .ok (.aload_n 0, 1) := dk_42 (dk_at dksX3_step_3 19 rfl rfl)
theorem dX3_step_91 : decode cX3_step 91 = .ok (.iconst 5, 1) := dk_8 (dk_at dksX3_step_3 20 rfl rfl)
theorem dX3_step_92 : decode cX3_step 92 = .ok (.invokevirtual 124, 3) := dk_182 0 124 (dk_at dksX3_step_3 21 rfl rfl)
theorem dX3_step_95 : decode cX3_step 95 = .ok (.athrow, 1) := dk_191 (dk_at dksX3_step_4 0 rfl rfl)
theorem dX3_step_96 : decode cX3_step 96 = .ok (.aload_n 0, 1) := dk_42 (dk_at dksX3_step_4 1 rfl rfl)
theorem dX3_step_97 : decode cX3_step 97 = .ok (.dup, 1) := dk_89 (dk_at dksX3_step_4 2 rfl rfl)
theorem dX3_step_98 : decode cX3_step 98 = .ok (.getfield 217, 3) := dk_180 0 217 (dk_at dksX3_step_4 3 rfl rfl)
theorem dX3_step_101 : decode cX3_step 101 = .ok (.iconst 1, 1) := dk_4 (dk_at dksX3_step_4 6 rfl rfl)
theorem dX3_step_102 : decode cX3_step 102 = .ok (.iadd, 1) := dk_96 (dk_at dksX3_step_4 7 rfl rfl)
theorem dX3_step_103 : decode cX3_step 103 = .ok (.putfield 217, 3) := dk_181 0 217 (dk_at dksX3_step_4 8 rfl rfl)
theorem dX3_step_106 : decode cX3_step 106 = .ok (.aload_n 0, 1) := dk_42 (dk_at dksX3_step_4 11 rfl rfl)
theorem dX3_step_107 : decode cX3_step 107 = .ok (.iload_n 2, 1) := dk_28 (dk_at dksX3_step_4 12 rfl rfl)
theorem dX3_step_108 : decode cX3_step 108 = .ok (.aload_n 0, 1) := dk_42 (dk_at dksX3_step_4 13 rfl rfl)
theorem dX3_step_109 : decode cX3_step 109 = .ok (.getfield 45, 3) := dk_180 0 45 (dk_at dksX3_step_4 14 rfl rfl)
theorem dX3_step_112 : decode cX3_step 112 = .ok (.invokevirtual 306, 3) := dk_182 1 50 (dk_at dksX3_step_4 17 rfl rfl)
theorem dX3_step_115 : decode cX3_step 115 = .ok (.astore_n 3, 1) := dk_78 (dk_at dksX3_step_4 20 rfl rfl)
theorem dX3_step_116 : decode cX3_step 116 = .ok (.aload_n 0, 1) := dk_42 (dk_at dksX3_step_4 21 rfl rfl)
theorem dX3_step_117 : decode cX3_step 117 = .ok (.invokevirtual 118, 3) := dk_182 0 118 (dk_at dksX3_step_5 0 rfl rfl)
theorem dX3_step_120 : decode cX3_step 120 = .ok (.iload_n 2, 1) := dk_28 (dk_at dksX3_step_5 3 rfl rfl)
theorem dX3_step_121 : decode cX3_step 121 = .ok (.tableswitch 209 0 17 #[87, 87, 87, 87, 87, 209, 87, 87, 132, 149, 149, 167, 167, 104, 185, 185, 193, 201], 87) := by decide +kernel
theorem dX3_step_208 : decode cX3_step 208 = .ok (.aload_n 3, 1) := dk_45 (dk_at dksX3_step_7 0 rfl rfl)
theorem dX3_step_209 : decode cX3_step 209 = .ok (.aload_n 0, 1) := dk_42 (dk_at dksX3_step_7 1 rfl rfl)
theorem dX3_step_210 : decode cX3_step 210 = .ok (.invokevirtual 310, 3) := dk_182 1 54 (dk_at dksX3_step_7 2 rfl rfl)
theorem dX3_step_213 : decode cX3_step 213 = .ok (.putfield 314, 3) := dk_181 1 58 (dk_at dksX3_step_7 5 rfl rfl)
theorem dX3_step_216 : decode cX3_step 216 = .ok (.aload_n 0, 1) := dk_42 (dk_at dksX3_step_7 8 rfl rfl)
theorem dX3_step_217 : decode cX3_step 217 = .ok (.bipush 59, 2) := dk_16 59 (dk_at dksX3_step_7 9 rfl rfl)
theorem dX3_step_219 : decode cX3_step 219 = .ok (.invokevirtual 171, 3) := dk_182 0 171 (dk_at dksX3_step_7 11 rfl rfl)
theorem dX3_step_222 : decode cX3_step 222 = .ok (.goto 114, 3) := dk_167 0 114 (dk_at dksX3_step_7 14 rfl rfl)
theorem dX3_step_225 : decode cX3_step 225 = .ok (.aload_n 3, 1) := dk_45 (dk_at dksX3_step_7 17 rfl rfl)
theorem dX3_step_226 : decode cX3_step 226 = .ok (.iload_n 1, 1) := dk_27 (dk_at dksX3_step_7 18 rfl rfl)
theorem dX3_step_227 : decode cX3_step 227 = .ok (.putfield 318, 3) := dk_181 1 62 (dk_at dksX3_step_7 19 rfl rfl)
theorem dX3_step_230 : decode cX3_step 230 = .ok (.aload_n 0, 1) := dk_42 (dk_at dksX3_step_7 22 rfl rfl)
theorem dX3_step_231 : decode cX3_step 231 = .ok (.bipush 61, 2) := dk_16 61 (dk_at dksX3_step_8 0 rfl rfl)
theorem dX3_step_233 : decode cX3_step 233 = .ok (.invokevirtual 171, 3) := dk_182 0 171 (dk_at dksX3_step_8 2 rfl rfl)
theorem dX3_step_236 : decode cX3_step 236 = .ok (.aload_n 3, 1) := dk_45 (dk_at dksX3_step_8 5 rfl rfl)
theorem dX3_step_237 : decode cX3_step 237 = .ok (.aload_n 0, 1) := dk_42 (dk_at dksX3_step_8 6 rfl rfl)
theorem dX3_step_238 : decode cX3_step 238 = .ok (.invokevirtual 310, 3) := dk_182 1 54 (dk_at dksX3_step_8 7 rfl rfl)
theorem dX3_step_241 : decode cX3_step 241 = .ok (.putfield 314, 3) := dk_181 1 58 (dk_at dksX3_step_8 10 rfl rfl)
theorem dX3_step_244 : decode cX3_step 244 = .ok (.aload_n 0, 1) := dk_42 (dk_at dksX3_step_8 13 rfl rfl)
theorem dX3_step_245 : decode cX3_step 245 = .ok (.bipush 59, 2) := dk_16 59 (dk_at dksX3_step_8 14 rfl rfl)
theorem dX3_step_247 : decode cX3_step 247 = .ok (.invokevirtual 171, 3) := dk_182 0 171 (dk_at dksX3_step_8 16 rfl rfl)
theorem dX3_step_250 : decode cX3_step 250 = .ok (.goto 86, 3) := dk_167 0 86 (dk_at dksX3_step_8 19 rfl rfl)
theorem dX3_step_253 : decode cX3_step 253 = .ok (.aload_n 3, 1) := dk_45 (dk_at dksX3_step_8 22 rfl rfl)
theorem dX3_step_254 : decode cX3_step 254 = .ok (.aload_n 0, 1) := dk_42 (dk_at dksX3_step_8 23 rfl rfl)
theorem dX3_step_255 : decode cX3_step 255 = .ok (.invokevirtual 319, 3) := dk_182 1 63 (dk_at dksX3_step_9 0 rfl rfl)
theorem dX3_step_258 : decode cX3_step 258 = .ok (.putfield 323, 3) := dk_181 1 67 (dk_at dksX3_step_9 3 rfl rfl)
theorem dX3_step_261 : decode cX3_step 261 = .ok (.aload_n 0, 1) := dk_42 (dk_at dksX3_step_9 6 rfl rfl)
theorem dX3_step_262 : decode cX3_step 262 = .ok (.bipush 59, 2) := dk_16 59 (dk_at dksX3_step_9 7 rfl rfl)
theorem dX3_step_264 : decode cX3_step 264 = .ok (.invokevirtual 171, 3) := dk_182 0 171 (dk_at dksX3_step_9 9 rfl rfl)
theorem dX3_step_267 : decode cX3_step 267 = .ok (.goto 69, 3) := dk_167 0 69 (dk_at dksX3_step_9 12 rfl rfl)
theorem dX3_step_270 : decode cX3_step 270 = .ok (.aload_n 3, 1) := dk_45 (dk_at dksX3_step_9 15 rfl rfl)
theorem dX3_step_271 : decode cX3_step 271 = .ok (.aload_n 0, 1) := dk_42 (dk_at dksX3_step_9 16 rfl rfl)
theorem dX3_step_272 : decode cX3_step 272 = .ok (.iconst 0, 1) := dk_3 (dk_at dksX3_step_9 17 rfl rfl)
theorem dX3_step_273 : decode cX3_step 273 = .ok (.invokevirtual 326, 3) := dk_182 1 70 (dk_at dksX3_step_9 18 rfl rfl)
theorem dX3_step_276 : decode cX3_step 276 = .ok (.putfield 318, 3) := dk_181 1 62 (dk_at dksX3_step_9 21 rfl rfl)
theorem dX3_step_279 : decode cX3_step 279 = .ok (.aload_n 0, 1) := dk_42 (dk_at dksX3_step_10 0 rfl rfl)
theorem dX3_step_280 : decode cX3_step 280 = .ok (.bipush 59, 2) := dk_16 59 (dk_at dksX3_step_10 1 rfl rfl)
theorem dX3_step_282 : decode cX3_step 282 = .ok (.invokevirtual 171, 3) := dk_182 0 171 (dk_at dksX3_step_10 3 rfl rfl)
theorem dX3_step_285 : decode cX3_step 285 = .ok (.goto 51, 3) := dk_167 0 51 (dk_at dksX3_step_10 6 rfl rfl)
theorem dX3_step_288 : decode cX3_step 288 = .ok (.aload_n 3, 1) := dk_45 (dk_at dksX3_step_10 9 rfl rfl)
theorem dX3_step_289 : decode cX3_step 289 = .ok (.aload_n 0, 1) := dk_42 (dk_at dksX3_step_10 10 rfl rfl)
theorem dX3_step_290 : decode cX3_step 290 = .ok (.iconst 1, 1) := dk_4 (dk_at dksX3_step_10 11 rfl rfl)
theorem dX3_step_291 : decode cX3_step 291 = .ok (.invokevirtual 326, 3) := dk_182 1 70 (dk_at dksX3_step_10 12 rfl rfl)
theorem dX3_step_294 : decode cX3_step 294 = .ok (.putfield 318, 3) := dk_181 1 62 (dk_at dksX3_step_10 15 rfl rfl)
theorem dX3_step_297 : decode cX3_step 297 = .ok (.aload_n 0, 1) := dk_42 (dk_at dksX3_step_10 18 rfl rfl)
theorem dX3_step_298 : decode cX3_step 298 = .ok (.bipush 59, 2) := dk_16 59 (dk_at dksX3_step_10 19 rfl rfl)
theorem dX3_step_300 : decode cX3_step 300 = .ok (.invokevirtual 171, 3) := dk_182 0 171 (dk_at dksX3_step_10 21 rfl rfl)
theorem dX3_step_303 : decode cX3_step 303 = .ok (.goto 33, 3) := dk_167 0 33 (dk_at dksX3_step_11 0 rfl rfl)
theorem dX3_step_306 : decode cX3_step 306 = .ok (.aload_n 0, 1) := dk_42 (dk_at dksX3_step_11 3 rfl rfl)
theorem dX3_step_307 : decode cX3_step 307 = .ok (.aload_n 3, 1) := dk_45 (dk_at dksX3_step_11 4 rfl rfl)
theorem dX3_step_308 : decode cX3_step 308 = .ok (.invokevirtual 329, 3) := dk_182 1 73 (dk_at dksX3_step_11 5 rfl rfl)
theorem dX3_step_311 : decode cX3_step 311 = .ok (.goto 25, 3) := dk_167 0 25 (dk_at dksX3_step_11 8 rfl rfl)
theorem dX3_step_314 : decode cX3_step 314 = .ok (.aload_n 0, 1) := dk_42 (dk_at dksX3_step_11 11 rfl rfl)
theorem dX3_step_315 : decode cX3_step 315 = .ok (.aload_n 3, 1) := dk_45 (dk_at dksX3_step_11 12 rfl rfl)
theorem dX3_step_316 : decode cX3_step 316 = .ok (.invokevirtual 333, 3) := dk_182 1 77 (dk_at dksX3_step_11 13 rfl rfl)
theorem dX3_step_319 : decode cX3_step 319 = .ok (.goto 17, 3) := dk_167 0 17 (dk_at dksX3_step_11 16 rfl rfl)
theorem dX3_step_322 : decode cX3_step 322 = .ok (.aload_n 0, 1) := dk_42 (dk_at dksX3_step_11 19 rfl rfl)
theorem dX3_step_323 : decode cX3_step 323 = .ok (.aload_n 3, 1) := dk_45 (dk_at dksX3_step_11 20 rfl rfl)
theorem dX3_step_324 : decode cX3_step 324 = .ok (.invokevirtual 336, 3) := dk_182 1 80 (dk_at dksX3_step_11 21 rfl rfl)
theorem dX3_step_327 : decode cX3_step 327 = .ok (.goto 9, 3) := dk_167 0 9 (dk_at dksX3_step_12 0 rfl rfl)
theorem dX3_step_330 : decode cX3_step 330 = .ok (.aload_n 0, 1) := dk_42 (dk_at dksX3_step_12 3 rfl rfl)
theorem dX3_step_331 : decode cX3_step 331 = .ok (.bipush 59, 2) := dk_16 59 (dk_at dksX3_step_12 4 rfl rfl)
theorem dX3_step_333 : decode cX3_step 333 = .ok (.invokevirtual 171, 3) := dk_182 0 171 (dk_at dksX3_step_12 6 rfl rfl)
theorem dX3_step_336 : decode cX3_step 336 = .ok (.return_, 1) := dk_177 (dk_at dksX3_step_12 9 rfl rfl)
def dkwX3_registerOf_0 : List UInt8 := [19, 1, 100, 30, 184, 0, 204, 16, 13, 100, 61, 28, 155, 0, 7, 28, 167, 0, 4, 2, 172]
abbrev dktX3_registerOf_0 : List UInt8 := dkwX3_registerOf_0 ++ []
theorem dksX3_registerOf_0 : cX3_registerOf.data.toList.drop 0 = dktX3_registerOf_0 := by decide +kernel
theorem dX3_registerOf_0 : decode cX3_registerOf 0 = .ok (.ldc_w 356, 3) := dk_19 1 100 (dk_at dksX3_registerOf_0 0 rfl rfl)
theorem dX3_registerOf_3 : decode cX3_registerOf 3 = .ok (.lload_n 0, 1) := dk_30 (dk_at dksX3_registerOf_0 3 rfl rfl)
theorem dX3_registerOf_4 : decode cX3_registerOf 4 = .ok (.invokestatic 204, 3) := dk_184 0 204 (dk_at dksX3_registerOf_0 4 rfl rfl)
theorem dX3_registerOf_7 : decode cX3_registerOf 7 = .ok (.bipush 13, 2) := dk_16 13 (dk_at dksX3_registerOf_0 7 rfl rfl)
theorem dX3_registerOf_9 : decode cX3_registerOf 9 = .ok (.isub, 1) := dk_100 (dk_at dksX3_registerOf_0 9 rfl rfl)
theorem dX3_registerOf_10 : decode cX3_registerOf 10 = .ok (.istore_n 2, 1) := dk_61 (dk_at dksX3_registerOf_0 10 rfl rfl)
theorem dX3_registerOf_11 : decode cX3_registerOf 11 = .ok (.iload_n 2, 1) := dk_28 (dk_at dksX3_registerOf_0 11 rfl rfl)
theorem dX3_registerOf_12 : decode cX3_registerOf 12 = .ok (.ifCond .lt 7, 3) := dk_155 0 7 (dk_at dksX3_registerOf_0 12 rfl rfl)
theorem dX3_registerOf_15 : decode cX3_registerOf 15 = .ok (.iload_n 2, 1) := dk_28 (dk_at dksX3_registerOf_0 15 rfl rfl)
theorem dX3_registerOf_16 : decode cX3_registerOf 16 = .ok (.goto 4, 3) := dk_167 0 4 (dk_at dksX3_registerOf_0 16 rfl rfl)
theorem dX3_registerOf_19 : decode cX3_registerOf 19 = .ok (.iconst (-1), 1) := dk_2 (dk_at dksX3_registerOf_0 19 rfl rfl)
theorem dX3_registerOf_20 : decode cX3_registerOf 20 = .ok (.ireturn, 1) := dk_172 (dk_at dksX3_registerOf_0 20 rfl rfl)
def dkwX3_canDo_4 : List UInt8 := [193, 1, 37, 172, 42, 180, 0, 216, 193, 1, 39, 172, 4, 172]
abbrev dktX3_canDo_4 : List UInt8 := dkwX3_canDo_4 ++ []
def dkwX3_canDo_3 : List UInt8 := [3, 172, 42, 180, 0, 216, 193, 1, 33, 172, 42, 180, 0, 216, 193, 1, 35, 172, 42, 180, 0, 216]
abbrev dktX3_canDo_3 : List UInt8 := dkwX3_canDo_3 ++ dktX3_canDo_4
def dkwX3_canDo_2 : List UInt8 := [42, 180, 0, 216, 193, 1, 20, 153, 0, 17, 42, 180, 0, 216, 193, 1, 22, 154, 0, 7, 4, 167, 0, 4]
abbrev dktX3_canDo_2 : List UInt8 := dkwX3_canDo_2 ++ dktX3_canDo_3
def dkwX3_canDo_1 : List UInt8 := [170, 0, 0, 0, 0, 0, 97, 0, 0, 0, 0, 0, 0, 0, 5, 0, 0, 0, 39, 0, 0, 0, 65, 0, 0, 0, 73, 0, 0, 0, 81, 0, 0, 0, 89, 0, 0, 0, 89]
abbrev dktX3_canDo_1 : List UInt8 := dkwX3_canDo_1 ++ dktX3_canDo_2
def dkwX3_canDo_0 : List UInt8 := [27]
abbrev dktX3_canDo_0 : List UInt8 := dkwX3_canDo_0 ++ dktX3_canDo_1
theorem dksX3_canDo_0 : cX3_canDo.data.toList.drop 0 = dktX3_canDo_0 := by decide +kernel
theorem dksX3_canDo_1 : cX3_canDo.data.toList.drop 1 = dktX3_canDo_1 := dk_seg dksX3_canDo_0 1 rfl rfl
theorem dksX3_canDo_2 : cX3_canDo.data.toList.drop 40 = dktX3_canDo_2 := dk_seg dksX3_canDo_1 39 rfl rfl
theorem dksX3_canDo_3 : cX3_canDo.data.toList.drop 64 = dktX3_canDo_3 := dk_seg dksX3_canDo_2 24 rfl rfl
theorem dksX3_canDo_4 : cX3_canDo.data.toList.drop 86 = dktX3_canDo_4 := dk_seg dksX3_canDo_3 22 rfl rfl
theorem dX3_canDo_0 : decode cX3_canDo 0 = .ok (.iload_n 1, 1) := dk_27 (dk_at dksX3_canDo_0 0 rfl rfl)
theorem dX3_canDo_1 : decode cX3_canDo 1 = .ok (.tableswitch 97 0 5 #[39, 65, 73, 81, 89, 89], 39) := by decide +kernel
theorem dX3_canDo_40 : decode cX3_canDo 40 = .ok (.aload_n 0, 1) := dk_42 (dk_at dksX3_canDo_2 0 rfl rfl)
theorem dX3_canDo_41 : decode cX3_canDo 41 = .ok (.getfield 216, 3) := dk_180 0 216 (dk_at dksX3_canDo_2 1 rfl rfl)
theorem dX3_canDo_44 : decode cX3_canDo 44 = .ok (.instanceof 276, 3) := dk_193 1 20 (dk_at dksX3_canDo_2 4 rfl rfl)
theorem dX3_canDo_47 : decode cX3_canDo 47 = .ok (.ifCond .eq 17, 3) := dk_153 0 17 (dk_at dksX3_canDo_2 7 rfl rfl)
theorem dX3_canDo_50 : decode cX3_canDo 50 = .ok (.aload_n 0, 1) := dk_42 (dk_at dksX3_canDo_2 10 rfl rfl)
theorem dX3_canDo_51 : decode cX3_canDo 51 = .ok (.getfield 216, 3) := dk_180 0 216 (dk_at dksX3_canDo_2 11 rfl rfl)
theorem dX3_canDo_54 : decode cX3_canDo 54 = .ok (.instanceof 278, 3) := dk_193 1 22 (dk_at dksX3_canDo_2 14 rfl rfl)
theorem dX3_canDo_57 : decode cX3_canDo 57 = .ok (.ifCond .ne 7, 3) := dk_154 0 7 (dk_at dksX3_canDo_2 17 rfl rfl)
theorem dX3_canDo_60 : decode cX3_canDo 60 = .ok (.iconst 1, 1) := dk_4 (dk_at dksX3_canDo_2 20 rfl rfl)
theorem dX3_canDo_61 : decode cX3_canDo 61 = .ok (.goto 4, 3) := dk_167 0 4 (dk_at dksX3_canDo_2 21 rfl rfl)
theorem dX3_canDo_64 : decode cX3_canDo 64 = .ok (.iconst 0, 1) := dk_3 (dk_at dksX3_canDo_3 0 rfl rfl)
theorem dX3_canDo_65 : decode cX3_canDo 65 = .ok (.ireturn, 1) := dk_172 (dk_at dksX3_canDo_3 1 rfl rfl)
theorem dX3_canDo_66 : decode cX3_canDo 66 = .ok (.aload_n 0, 1) := dk_42 (dk_at dksX3_canDo_3 2 rfl rfl)
theorem dX3_canDo_67 : decode cX3_canDo 67 = .ok (.getfield 216, 3) := dk_180 0 216 (dk_at dksX3_canDo_3 3 rfl rfl)
theorem dX3_canDo_70 : decode cX3_canDo 70 = .ok (.instanceof 289, 3) := dk_193 1 33 (dk_at dksX3_canDo_3 6 rfl rfl)
theorem dX3_canDo_73 : decode cX3_canDo 73 = .ok (.ireturn, 1) := dk_172 (dk_at dksX3_canDo_3 9 rfl rfl)
theorem dX3_canDo_74 : decode cX3_canDo 74 = .ok (.aload_n 0, 1) := dk_42 (dk_at dksX3_canDo_3 10 rfl rfl)
theorem dX3_canDo_75 : decode cX3_canDo 75 = .ok (.getfield 216, 3) := dk_180 0 216 (dk_at dksX3_canDo_3 11 rfl rfl)
theorem dX3_canDo_78 : decode cX3_canDo 78 = .ok (.instanceof 291, 3) := dk_193 1 35 (dk_at dksX3_canDo_3 14 rfl rfl)
theorem dX3_canDo_81 : decode cX3_canDo 81 = .ok (.ireturn, 1) := dk_172 (dk_at dksX3_canDo_3 17 rfl rfl)
theorem dX3_canDo_82 : decode cX3_canDo 82 = .ok (.aload_n 0, 1) := dk_42 (dk_at dksX3_canDo_3 18 rfl rfl)
theorem dX3_canDo_83 : decode cX3_canDo 83 = .ok (.getfield 216, 3) := dk_180 0 216 (dk_at dksX3_canDo_3 19 rfl rfl)
theorem dX3_canDo_86 : decode cX3_canDo 86 = .ok (.instanceof 293, 3) := dk_193 1 37 (dk_at dksX3_canDo_4 0 rfl rfl)
theorem dX3_canDo_89 : decode cX3_canDo 89 = .ok (.ireturn, 1) := dk_172 (dk_at dksX3_canDo_4 3 rfl rfl)
theorem dX3_canDo_90 : decode cX3_canDo 90 = .ok (.aload_n 0, 1) := dk_42 (dk_at dksX3_canDo_4 4 rfl rfl)
theorem dX3_canDo_91 : decode cX3_canDo 91 = .ok (.getfield 216, 3) := dk_180 0 216 (dk_at dksX3_canDo_4 5 rfl rfl)
theorem dX3_canDo_94 : decode cX3_canDo 94 = .ok (.instanceof 295, 3) := dk_193 1 39 (dk_at dksX3_canDo_4 8 rfl rfl)
theorem dX3_canDo_97 : decode cX3_canDo 97 = .ok (.ireturn, 1) := dk_172 (dk_at dksX3_canDo_4 11 rfl rfl)
theorem dX3_canDo_98 : decode cX3_canDo 98 = .ok (.iconst 1, 1) := dk_4 (dk_at dksX3_canDo_4 12 rfl rfl)
theorem dX3_canDo_99 : decode cX3_canDo 99 = .ok (.ireturn, 1) := dk_172 (dk_at dksX3_canDo_4 13 rfl rfl)
def dkwX3_act_0 : List UInt8 := [187, 0, 233, 89, 27, 28, 183, 0, 235, 78, 42, 180, 0, 216, 180, 0, 229, 45, 182, 0, 236, 87, 45, 176]
abbrev dktX3_act_0 : List UInt8 := dkwX3_act_0 ++ []
theorem dksX3_act_0 : cX3_act.data.toList.drop 0 = dktX3_act_0 := by decide +kernel
theorem dX3_act_0 : decode cX3_act 0 = .ok (.new 233, 3) := dk_187 0 233 (dk_at dksX3_act_0 0 rfl rfl)
theorem dX3_act_3 : decode cX3_act 3 = .ok (.dup, 1) := dk_89 (dk_at dksX3_act_0 3 rfl rfl)
theorem dX3_act_4 : decode cX3_act 4 = .ok (.iload_n 1, 1) := dk_27 (dk_at dksX3_act_0 4 rfl rfl)
theorem dX3_act_5 : decode cX3_act 5 = .ok (.iload_n 2, 1) := dk_28 (dk_at dksX3_act_0 5 rfl rfl)
theorem dX3_act_6 : decode cX3_act 6 = .ok (.invokespecial 235, 3) := dk_183 0 235 (dk_at dksX3_act_0 6 rfl rfl)
theorem dX3_act_9 : decode cX3_act 9 = .ok (.astore_n 3, 1) := dk_78 (dk_at dksX3_act_0 9 rfl rfl)
theorem dX3_act_10 : decode cX3_act 10 = .ok (.aload_n 0, 1) := dk_42 (dk_at dksX3_act_0 10 rfl rfl)
theorem dX3_act_11 : decode cX3_act 11 = .ok (.getfield 216, 3) := dk_180 0 216 (dk_at dksX3_act_0 11 rfl rfl)
theorem dX3_act_14 : decode cX3_act 14 = .ok (.getfield 229, 3) := dk_180 0 229 (dk_at dksX3_act_0 14 rfl rfl)
theorem dX3_act_17 : decode cX3_act 17 = .ok (.aload_n 3, 1) := dk_45 (dk_at dksX3_act_0 17 rfl rfl)
theorem dX3_act_18 : decode cX3_act 18 = .ok (.invokevirtual 236, 3) := dk_182 0 236 (dk_at dksX3_act_0 18 rfl rfl)
theorem dX3_act_21 : decode cX3_act 21 = .ok (.pop, 1) := dk_87 (dk_at dksX3_act_0 21 rfl rfl)
theorem dX3_act_22 : decode cX3_act 22 = .ok (.aload_n 3, 1) := dk_45 (dk_at dksX3_act_0 22 rfl rfl)
theorem dX3_act_23 : decode cX3_act 23 = .ok (.areturn, 1) := dk_176 (dk_at dksX3_act_0 23 rfl rfl)
def dkwX3_whole_0 : List UInt8 := [42, 180, 1, 102, 60, 42, 3, 181, 1, 102, 42, 182, 1, 105, 77, 42, 27, 181, 1, 102, 44, 176]
abbrev dktX3_whole_0 : List UInt8 := dkwX3_whole_0 ++ []
theorem dksX3_whole_0 : cX3_whole.data.toList.drop 0 = dktX3_whole_0 := by decide +kernel
theorem dX3_whole_0 : decode cX3_whole 0 = .ok (.aload_n 0, 1) := dk_42 (dk_at dksX3_whole_0 0 rfl rfl)
theorem dX3_whole_1 : decode cX3_whole 1 = .ok (.getfield 358, 3) := dk_180 1 102 (dk_at dksX3_whole_0 1 rfl rfl)
theorem dX3_whole_4 : decode cX3_whole 4 = .ok (.istore_n 1, 1) := dk_60 (dk_at dksX3_whole_0 4 rfl rfl)
theorem dX3_whole_5 : decode cX3_whole 5 = .ok (.aload_n 0, 1) := dk_42 (dk_at dksX3_whole_0 5 rfl rfl)
theorem dX3_whole_6 : decode cX3_whole 6 = .ok (.iconst 0, 1) := dk_3 (dk_at dksX3_whole_0 6 rfl rfl)
theorem dX3_whole_7 : decode cX3_whole 7 = .ok (.putfield 358, 3) := dk_181 1 102 (dk_at dksX3_whole_0 7 rfl rfl)
theorem dX3_whole_10 : decode cX3_whole 10 = .ok (.aload_n 0, 1) := dk_42 (dk_at dksX3_whole_0 10 rfl rfl)
theorem dX3_whole_11 : decode cX3_whole 11 = .ok (.invokevirtual 361, 3) := dk_182 1 105 (dk_at dksX3_whole_0 11 rfl rfl)
theorem dX3_whole_14 : decode cX3_whole 14 = .ok (.astore_n 2, 1) := dk_77 (dk_at dksX3_whole_0 14 rfl rfl)
theorem dX3_whole_15 : decode cX3_whole 15 = .ok (.aload_n 0, 1) := dk_42 (dk_at dksX3_whole_0 15 rfl rfl)
theorem dX3_whole_16 : decode cX3_whole 16 = .ok (.iload_n 1, 1) := dk_27 (dk_at dksX3_whole_0 16 rfl rfl)
theorem dX3_whole_17 : decode cX3_whole 17 = .ok (.putfield 358, 3) := dk_181 1 102 (dk_at dksX3_whole_0 17 rfl rfl)
theorem dX3_whole_20 : decode cX3_whole 20 = .ok (.aload_n 2, 1) := dk_44 (dk_at dksX3_whole_0 20 rfl rfl)
theorem dX3_whole_21 : decode cX3_whole 21 = .ok (.areturn, 1) := dk_176 (dk_at dksX3_whole_0 21 rfl rfl)
def dkwX3_sum_3 : List UInt8 := [176]
abbrev dktX3_sum_3 : List UInt8 := dkwX3_sum_3 ++ []
def dkwX3_sum_2 : List UInt8 := [182, 0, 118, 44, 29, 42, 182, 1, 108, 182, 1, 116, 167, 255, 207, 44, 199, 0, 7, 43, 167, 0, 4, 44]
abbrev dktX3_sum_2 : List UInt8 := dkwX3_sum_2 ++ dktX3_sum_3
def dkwX3_sum_1 : List UInt8 := [153, 0, 37, 44, 199, 0, 12, 187, 1, 111, 89, 43, 183, 1, 113, 77, 42, 180, 0, 96, 62, 42]
abbrev dktX3_sum_1 : List UInt8 := dkwX3_sum_1 ++ dktX3_sum_2
def dkwX3_sum_0 : List UInt8 := [42, 182, 1, 108, 76, 1, 77, 42, 16, 43, 182, 0, 121, 154, 0, 12, 42, 16, 45, 182, 0, 121]
abbrev dktX3_sum_0 : List UInt8 := dkwX3_sum_0 ++ dktX3_sum_1
theorem dksX3_sum_0 : cX3_sum.data.toList.drop 0 = dktX3_sum_0 := by decide +kernel
theorem dksX3_sum_1 : cX3_sum.data.toList.drop 22 = dktX3_sum_1 := dk_seg dksX3_sum_0 22 rfl rfl
theorem dksX3_sum_2 : cX3_sum.data.toList.drop 44 = dktX3_sum_2 := dk_seg dksX3_sum_1 22 rfl rfl
theorem dksX3_sum_3 : cX3_sum.data.toList.drop 68 = dktX3_sum_3 := dk_seg dksX3_sum_2 24 rfl rfl
theorem dX3_sum_0 : decode cX3_sum 0 = .ok (.aload_n 0, 1) := dk_42 (dk_at dksX3_sum_0 0 rfl rfl)
theorem dX3_sum_1 : decode cX3_sum 1 = .ok (.invokevirtual 364, 3) := dk_182 1 108 (dk_at dksX3_sum_0 1 rfl rfl)
theorem dX3_sum_4 : decode cX3_sum 4 = .ok (.astore_n 1, 1) := dk_76 (dk_at dksX3_sum_0 4 rfl rfl)
theorem dX3_sum_5 : decode cX3_sum 5 = .ok (.aconst_null, 1) := dk_1 (dk_at dksX3_sum_0 5 rfl rfl)
theorem dX3_sum_6 : decode cX3_sum 6 = .ok (.astore_n 2, 1) := dk_77 (dk_at dksX3_sum_0 6 rfl rfl)
theorem dX3_sum_7 : decode cX3_sum 7 = .ok (.aload_n 0, 1) := dk_42 (dk_at dksX3_sum_0 7 rfl rfl)
theorem dX3_sum_8 : decode cX3_sum 8 = .ok (.bipush 43, 2) := dk_16 43 (dk_at dksX3_sum_0 8 rfl rfl)
theorem dX3_sum_10 : decode cX3_sum 10 = .ok (.invokevirtual 121, 3) := dk_182 0 121 (dk_at dksX3_sum_0 10 rfl rfl)
theorem dX3_sum_13 : decode cX3_sum 13 = .ok (.ifCond .ne 12, 3) := dk_154 0 12 (dk_at dksX3_sum_0 13 rfl rfl)
theorem dX3_sum_16 : decode cX3_sum 16 = .ok (.aload_n 0, 1) := dk_42 (dk_at dksX3_sum_0 16 rfl rfl)
theorem dX3_sum_17 : decode cX3_sum 17 = .ok (.bipush 45, 2) := dk_16 45 (dk_at dksX3_sum_0 17 rfl rfl)
theorem dX3_sum_19 : decode cX3_sum 19 = .ok (.invokevirtual 121, 3) := dk_182 0 121 (dk_at dksX3_sum_0 19 rfl rfl)
theorem dX3_sum_22 : decode cX3_sum 22 = .ok (.ifCond .eq 37, 3) := dk_153 0 37 (dk_at dksX3_sum_1 0 rfl rfl)
theorem dX3_sum_25 : decode cX3_sum 25 = .ok (.aload_n 2, 1) := dk_44 (dk_at dksX3_sum_1 3 rfl rfl)
theorem dX3_sum_26 : decode cX3_sum 26 = .ok (.ifnonnull 12, 3) := dk_199 0 12 (dk_at dksX3_sum_1 4 rfl rfl)
theorem dX3_sum_29 : decode cX3_sum 29 = .ok (.new 367, 3) := dk_187 1 111 (dk_at dksX3_sum_1 7 rfl rfl)
theorem dX3_sum_32 : decode cX3_sum 32 = .ok (.dup, 1) := dk_89 (dk_at dksX3_sum_1 10 rfl rfl)
theorem dX3_sum_33 : decode cX3_sum 33 = .ok (.aload_n 1, 1) := dk_43 (dk_at dksX3_sum_1 11 rfl rfl)
theorem dX3_sum_34 : decode cX3_sum 34 = .ok (.invokespecial 369, 3) := dk_183 1 113 (dk_at dksX3_sum_1 12 rfl rfl)
theorem dX3_sum_37 : decode cX3_sum 37 = .ok (.astore_n 2, 1) := dk_77 (dk_at dksX3_sum_1 15 rfl rfl)
theorem dX3_sum_38 : decode cX3_sum 38 = .ok (.aload_n 0, 1) := dk_42 (dk_at dksX3_sum_1 16 rfl rfl)
theorem dX3_sum_39 : decode cX3_sum 39 = .ok (.getfield 96, 3) := dk_180 0 96 (dk_at dksX3_sum_1 17 rfl rfl)
theorem dX3_sum_42 : decode cX3_sum 42 = .ok (.istore_n 3, 1) := dk_62 (dk_at dksX3_sum_1 20 rfl rfl)
theorem dX3_sum_43 : decode cX3_sum 43 = .ok (.aload_n 0, 1) := dk_42 (dk_at dksX3_sum_1 21 rfl rfl)
theorem dX3_sum_44 : decode cX3_sum 44 = .ok (.invokevirtual 118, 3) := dk_182 0 118 (dk_at dksX3_sum_2 0 rfl rfl)
theorem dX3_sum_47 : decode cX3_sum 47 = .ok (.aload_n 2, 1) := dk_44 (dk_at dksX3_sum_2 3 rfl rfl)
theorem dX3_sum_48 : decode cX3_sum 48 = .ok (.iload_n 3, 1) := dk_29 (dk_at dksX3_sum_2 4 rfl rfl)
theorem dX3_sum_49 : decode cX3_sum 49 = .ok (.aload_n 0, 1) := dk_42 (dk_at dksX3_sum_2 5 rfl rfl)
theorem dX3_sum_50 : decode cX3_sum 50 = .ok (.invokevirtual 364, 3) := dk_182 1 108 (dk_at dksX3_sum_2 6 rfl rfl)
theorem dX3_sum_53 : decode cX3_sum 53 = .ok (.invokevirtual 372, 3) := dk_182 1 116 (dk_at dksX3_sum_2 9 rfl rfl)
theorem dX3_sum_56 : decode cX3_sum 56 = .ok (.goto (-49), 3) := dk_167 255 207 (dk_at dksX3_sum_2 12 rfl rfl)
theorem dX3_sum_59 : decode cX3_sum 59 = .ok (.aload_n 2, 1) := dk_44 (dk_at dksX3_sum_2 15 rfl rfl)
theorem dX3_sum_60 : decode cX3_sum 60 = .ok (.ifnonnull 7, 3) := dk_199 0 7 (dk_at dksX3_sum_2 16 rfl rfl)
theorem dX3_sum_63 : decode cX3_sum 63 = .ok (.aload_n 1, 1) := dk_43 (dk_at dksX3_sum_2 19 rfl rfl)
theorem dX3_sum_64 : decode cX3_sum 64 = .ok (.goto 4, 3) := dk_167 0 4 (dk_at dksX3_sum_2 20 rfl rfl)
theorem dX3_sum_67 : decode cX3_sum 67 = .ok (.aload_n 2, 1) := dk_44 (dk_at dksX3_sum_2 23 rfl rfl)
theorem dX3_sum_68 : decode cX3_sum 68 = .ok (.areturn, 1) := dk_176 (dk_at dksX3_sum_3 0 rfl rfl)
def dkwX3_product_3 : List UInt8 := [176]
abbrev dktX3_product_3 : List UInt8 := dkwX3_product_3 ++ []
def dkwX3_product_2 : List UInt8 := [182, 0, 118, 44, 29, 42, 182, 1, 119, 182, 1, 116, 167, 255, 207, 44, 199, 0, 7, 43, 167, 0, 4, 44]
abbrev dktX3_product_2 : List UInt8 := dkwX3_product_2 ++ dktX3_product_3
def dkwX3_product_1 : List UInt8 := [153, 0, 37, 44, 199, 0, 12, 187, 1, 111, 89, 43, 183, 1, 113, 77, 42, 180, 0, 96, 62, 42]
abbrev dktX3_product_1 : List UInt8 := dkwX3_product_1 ++ dktX3_product_2
def dkwX3_product_0 : List UInt8 := [42, 182, 1, 119, 76, 1, 77, 42, 16, 42, 182, 0, 121, 154, 0, 12, 42, 16, 47, 182, 0, 121]
abbrev dktX3_product_0 : List UInt8 := dkwX3_product_0 ++ dktX3_product_1
theorem dksX3_product_0 : cX3_product.data.toList.drop 0 = dktX3_product_0 := by decide +kernel
theorem dksX3_product_1 : cX3_product.data.toList.drop 22 = dktX3_product_1 := dk_seg dksX3_product_0 22 rfl rfl
theorem dksX3_product_2 : cX3_product.data.toList.drop 44 = dktX3_product_2 := dk_seg dksX3_product_1 22 rfl rfl
theorem dksX3_product_3 : cX3_product.data.toList.drop 68 = dktX3_product_3 := dk_seg dksX3_product_2 24 rfl rfl
theorem dX3_product_0 : decode cX3_product 0 = .ok (.aload_n 0, 1) := dk_42 (dk_at dksX3_product_0 0 rfl rfl)
theorem dX3_product_1 : decode cX3_product 1 = .ok (.invokevirtual 375, 3) := dk_182 1 119 (dk_at dksX3_product_0 1 rfl rfl)
theorem dX3_product_4 : decode cX3_product 4 = .ok (.astore_n 1, 1) := dk_76 (dk_at dksX3_product_0 4 rfl rfl)
theorem dX3_product_5 : decode cX3_product 5 = .ok (.aconst_null, 1) := dk_1 (dk_at dksX3_product_0 5 rfl rfl)
theorem dX3_product_6 : decode cX3_product 6 = .ok (.astore_n 2, 1) := dk_77 (dk_at dksX3_product_0 6 rfl rfl)
theorem dX3_product_7 : decode cX3_product 7 = .ok (.aload_n 0, 1) := dk_42 (dk_at dksX3_product_0 7 rfl rfl)
theorem dX3_product_8 : decode cX3_product 8 = .ok (.bipush 42, 2) := dk_16 42 (dk_at dksX3_product_0 8 rfl rfl)
theorem dX3_product_10 : decode cX3_product 10 = .ok (.invokevirtual 121, 3) := dk_182 0 121 (dk_at dksX3_product_0 10 rfl rfl)
theorem dX3_product_13 : decode cX3_product 13 = .ok (.ifCond .ne 12, 3) := dk_154 0 12 (dk_at dksX3_product_0 13 rfl rfl)
theorem dX3_product_16 : decode cX3_product 16 = .ok (.aload_n 0, 1) := dk_42 (dk_at dksX3_product_0 16 rfl rfl)
theorem dX3_product_17 : decode cX3_product 17 = .ok (.bipush 47, 2) := dk_16 47 (dk_at dksX3_product_0 17 rfl rfl)
theorem dX3_product_19 : decode cX3_product 19 = .ok (.invokevirtual 121, 3) := dk_182 0 121 (dk_at dksX3_product_0 19 rfl rfl)
theorem dX3_product_22 : decode cX3_product 22 = .ok (.ifCond .eq 37, 3) := dk_153 0 37 (dk_at dksX3_product_1 0 rfl rfl)
theorem dX3_product_25 : decode cX3_product 25 = .ok (.aload_n 2, 1) := dk_44 (dk_at dksX3_product_1 3 rfl rfl)
theorem dX3_product_26 : decode cX3_product 26 = .ok (.ifnonnull 12, 3) := dk_199 0 12 (dk_at dksX3_product_1 4 rfl rfl)
theorem dX3_product_29 : decode cX3_product 29 = .ok (.new 367, 3) := dk_187 1 111 (dk_at dksX3_product_1 7 rfl rfl)
theorem dX3_product_32 : decode cX3_product 32 = .ok (.dup, 1) := dk_89 (dk_at dksX3_product_1 10 rfl rfl)
theorem dX3_product_33 : decode cX3_product 33 = .ok (.aload_n 1, 1) := dk_43 (dk_at dksX3_product_1 11 rfl rfl)
theorem dX3_product_34 : decode cX3_product 34 = .ok (.invokespecial 369, 3) := dk_183 1 113 (dk_at dksX3_product_1 12 rfl rfl)
theorem dX3_product_37 : decode cX3_product 37 = .ok (.astore_n 2, 1) := dk_77 (dk_at dksX3_product_1 15 rfl rfl)
theorem dX3_product_38 : decode cX3_product 38 = .ok (.aload_n 0, 1) := dk_42 (dk_at dksX3_product_1 16 rfl rfl)
theorem dX3_product_39 : decode cX3_product 39 = .ok (.getfield 96, 3) := dk_180 0 96 (dk_at dksX3_product_1 17 rfl rfl)
theorem dX3_product_42 : decode cX3_product 42 = .ok (.istore_n 3, 1) := dk_62 (dk_at dksX3_product_1 20 rfl rfl)
theorem dX3_product_43 : decode cX3_product 43 = .ok (.aload_n 0, 1) := dk_42 (dk_at dksX3_product_1 21 rfl rfl)
theorem dX3_product_44 : decode cX3_product 44 = .ok (.invokevirtual 118, 3) := dk_182 0 118 (dk_at dksX3_product_2 0 rfl rfl)
theorem dX3_product_47 : decode cX3_product 47 = .ok (.aload_n 2, 1) := dk_44 (dk_at dksX3_product_2 3 rfl rfl)
theorem dX3_product_48 : decode cX3_product 48 = .ok (.iload_n 3, 1) := dk_29 (dk_at dksX3_product_2 4 rfl rfl)
theorem dX3_product_49 : decode cX3_product 49 = .ok (.aload_n 0, 1) := dk_42 (dk_at dksX3_product_2 5 rfl rfl)
theorem dX3_product_50 : decode cX3_product 50 = .ok (.invokevirtual 375, 3) := dk_182 1 119 (dk_at dksX3_product_2 6 rfl rfl)
theorem dX3_product_53 : decode cX3_product 53 = .ok (.invokevirtual 372, 3) := dk_182 1 116 (dk_at dksX3_product_2 9 rfl rfl)
theorem dX3_product_56 : decode cX3_product 56 = .ok (.goto (-49), 3) := dk_167 255 207 (dk_at dksX3_product_2 12 rfl rfl)
theorem dX3_product_59 : decode cX3_product 59 = .ok (.aload_n 2, 1) := dk_44 (dk_at dksX3_product_2 15 rfl rfl)
theorem dX3_product_60 : decode cX3_product 60 = .ok (.ifnonnull 7, 3) := dk_199 0 7 (dk_at dksX3_product_2 16 rfl rfl)
theorem dX3_product_63 : decode cX3_product 63 = .ok (.aload_n 1, 1) := dk_43 (dk_at dksX3_product_2 19 rfl rfl)
theorem dX3_product_64 : decode cX3_product 64 = .ok (.goto 4, 3) := dk_167 0 4 (dk_at dksX3_product_2 20 rfl rfl)
theorem dX3_product_67 : decode cX3_product 67 = .ok (.aload_n 2, 1) := dk_44 (dk_at dksX3_product_2 23 rfl rfl)
theorem dX3_product_68 : decode cX3_product 68 = .ok (.areturn, 1) := dk_176 (dk_at dksX3_product_3 0 rfl rfl)
def dkwX3_factor_6 : List UInt8 := [182, 1, 128, 176]
abbrev dktX3_factor_6 : List UInt8 := dkwX3_factor_6 ++ []
def dkwX3_factor_5 : List UInt8 := [187, 1, 125, 89, 42, 180, 0, 87, 183, 1, 127, 76, 42, 182, 0, 118, 43, 176, 42, 182, 0, 140, 42]
abbrev dktX3_factor_5 : List UInt8 := dkwX3_factor_5 ++ dktX3_factor_6
def dkwX3_factor_4 : List UInt8 := [42, 89, 180, 1, 102, 4, 100, 181, 1, 102, 44, 176, 42, 180, 0, 58, 178, 0, 90, 166, 0, 21]
abbrev dktX3_factor_4 : List UInt8 := dkwX3_factor_4 ++ dktX3_factor_5
def dkwX3_factor_3 : List UInt8 := [182, 1, 119, 183, 1, 124, 167, 0, 7, 42, 182, 1, 105, 77, 27, 154, 0, 9, 42, 16, 41, 182, 0, 171]
abbrev dktX3_factor_3 : List UInt8 := dkwX3_factor_3 ++ dktX3_factor_4
def dkwX3_factor_2 : List UInt8 := [42, 89, 180, 1, 102, 4, 96, 181, 1, 102, 42, 182, 0, 118, 27, 153, 0, 17, 187, 1, 122, 89, 42]
abbrev dktX3_factor_2 : List UInt8 := dkwX3_factor_2 ++ dktX3_factor_3
def dkwX3_factor_1 : List UInt8 := [160, 0, 7, 4, 167, 0, 4, 3, 60, 42, 180, 1, 102, 16, 12, 160, 0, 9, 42, 7, 182, 0, 124, 191]
abbrev dktX3_factor_1 : List UInt8 := dkwX3_factor_1 ++ dktX3_factor_2
def dkwX3_factor_0 : List UInt8 := [42, 16, 45, 182, 0, 121, 154, 0, 12, 42, 16, 40, 182, 0, 121, 153, 0, 92, 42, 180, 0, 96, 16, 45]
abbrev dktX3_factor_0 : List UInt8 := dkwX3_factor_0 ++ dktX3_factor_1
theorem dksX3_factor_0 : cX3_factor.data.toList.drop 0 = dktX3_factor_0 := by decide +kernel
theorem dksX3_factor_1 : cX3_factor.data.toList.drop 24 = dktX3_factor_1 := dk_seg dksX3_factor_0 24 rfl rfl
theorem dksX3_factor_2 : cX3_factor.data.toList.drop 48 = dktX3_factor_2 := dk_seg dksX3_factor_1 24 rfl rfl
theorem dksX3_factor_3 : cX3_factor.data.toList.drop 71 = dktX3_factor_3 := dk_seg dksX3_factor_2 23 rfl rfl
theorem dksX3_factor_4 : cX3_factor.data.toList.drop 95 = dktX3_factor_4 := dk_seg dksX3_factor_3 24 rfl rfl
theorem dksX3_factor_5 : cX3_factor.data.toList.drop 117 = dktX3_factor_5 := dk_seg dksX3_factor_4 22 rfl rfl
theorem dksX3_factor_6 : cX3_factor.data.toList.drop 140 = dktX3_factor_6 := dk_seg dksX3_factor_5 23 rfl rfl
theorem dX3_factor_0 : decode cX3_factor 0 = .ok (.aload_n 0, 1) := dk_42 (dk_at dksX3_factor_0 0 rfl rfl)
theorem dX3_factor_1 : decode cX3_factor 1 = .ok (.bipush 45, 2) := dk_16 45 (dk_at dksX3_factor_0 1 rfl rfl)
theorem dX3_factor_3 : decode cX3_factor 3 = .ok (.invokevirtual 121, 3) := dk_182 0 121 (dk_at dksX3_factor_0 3 rfl rfl)
theorem dX3_factor_6 : decode cX3_factor 6 = .ok (.ifCond .ne 12, 3) := dk_154 0 12 (dk_at dksX3_factor_0 6 rfl rfl)
theorem dX3_factor_9 : decode cX3_factor 9 = .ok (.aload_n 0, 1) := dk_42 (dk_at dksX3_factor_0 9 rfl rfl)
theorem dX3_factor_10 : decode cX3_factor 10 = .ok (.bipush 40, 2) := dk_16 40 (dk_at dksX3_factor_0 10 rfl rfl)
theorem dX3_factor_12 : decode cX3_factor 12 = .ok (.invokevirtual 121, 3) := dk_182 0 121 (dk_at dksX3_factor_0 12 rfl rfl)
theorem dX3_factor_15 : decode cX3_factor 15 = .ok (.ifCond .eq 92, 3) := dk_153 0 92 (dk_at dksX3_factor_0 15 rfl rfl)
theorem dX3_factor_18 : decode cX3_factor 18 = .ok (.aload_n 0, 1) := dk_42 (dk_at dksX3_factor_0 18 rfl rfl)
theorem dX3_factor_19 : decode cX3_factor 19 = .ok (.getfield 96, 3) := dk_180 0 96 (dk_at dksX3_factor_0 19 rfl rfl)
theorem dX3_factor_22 : decode cX3_factor 22 = .ok (.bipush 45, 2) := dk_16 45 (dk_at dksX3_factor_0 22 rfl rfl)
theorem dX3_factor_24 : decode cX3_factor 24 = .ok (.if_icmp .ne 7, 3) := dk_160 0 7 (dk_at dksX3_factor_1 0 rfl rfl)
theorem dX3_factor_27 : decode cX3_factor 27 = .ok (.iconst 1, 1) := dk_4 (dk_at dksX3_factor_1 3 rfl rfl)
theorem dX3_factor_28 : decode cX3_factor 28 = .ok (.goto 4, 3) := dk_167 0 4 (dk_at dksX3_factor_1 4 rfl rfl)
theorem dX3_factor_31 : decode cX3_factor 31 = .ok (.iconst 0, 1) := dk_3 (dk_at dksX3_factor_1 7 rfl rfl)
theorem dX3_factor_32 : decode cX3_factor 32 = .ok (.istore_n 1, 1) := dk_60 (dk_at dksX3_factor_1 8 rfl rfl)
theorem dX3_factor_33 : decode cX3_factor 33 = .ok (.aload_n 0, 1) := dk_42 (dk_at dksX3_factor_1 9 rfl rfl)
theorem dX3_factor_34 : decode cX3_factor 34 = .ok (.getfield 358, 3) := dk_180 1 102 (dk_at dksX3_factor_1 10 rfl rfl)
theorem dX3_factor_37 : decode cX3_factor 37 = .ok (.bipush 12, 2) := dk_16 12 (dk_at dksX3_factor_1 13 rfl rfl)
theorem dX3_factor_39 : decode cX3_factor 39 = .ok (.if_icmp .ne 9, 3) := dk_160 0 9 (dk_at dksX3_factor_1 15 rfl rfl)
theorem dX3_factor_42 : decode cX3_factor 42 = .ok (.aload_n 0, 1) := dk_42 (dk_at dksX3_factor_1 18 rfl rfl)
theorem dX3_factor_43 : decode cX3_factor 43 = .ok (.iconst 4, 1) := dk_7 (dk_at dksX3_factor_1 19 rfl rfl)
theorem dX3_factor_44 : decode cX3_factor 44 = .ok (.invokevirtual 124, 3) := dk_182 0 124 (dk_at dksX3_factor_1 20 rfl rfl)
theorem dX3_factor_47 : decode cX3_factor 47 = .ok (.athrow, 1) := dk_191 (dk_at dksX3_factor_1 23 rfl rfl)
theorem dX3_factor_48 : decode cX3_factor 48 = .ok (.aload_n 0, 1) := dk_42 (dk_at dksX3_factor_2 0 rfl rfl)
theorem dX3_factor_49 : decode cX3_factor 49 = .ok (.dup, 1) := dk_89 (dk_at dksX3_factor_2 1 rfl rfl)
theorem dX3_factor_50 : decode cX3_factor 50 = .ok (.getfield 358, 3) := dk_180 1 102 (dk_at dksX3_factor_2 2 rfl rfl)
theorem dX3_factor_53 : decode cX3_factor 53 = .ok (.iconst 1, 1) := dk_4 (dk_at dksX3_factor_2 5 rfl rfl)
theorem dX3_factor_54 : decode cX3_factor 54 = .ok (.iadd, 1) := dk_96 (dk_at dksX3_factor_2 6 rfl rfl)
theorem dX3_factor_55 : decode cX3_factor 55 = .ok (.putfield 358, 3) := dk_181 1 102 (dk_at dksX3_factor_2 7 rfl rfl)
theorem dX3_factor_58 : decode cX3_factor 58 = .ok (.aload_n 0, 1) := dk_42 (dk_at dksX3_factor_2 10 rfl rfl)
theorem dX3_factor_59 : decode cX3_factor 59 = .ok (.invokevirtual 118, 3) := dk_182 0 118 (dk_at dksX3_factor_2 11 rfl rfl)
theorem dX3_factor_62 : decode cX3_factor 62 = .ok (.iload_n 1, 1) := dk_27 (dk_at dksX3_factor_2 14 rfl rfl)
theorem dX3_factor_63 : decode cX3_factor 63 = .ok (.ifCond .eq 17, 3) := dk_153 0 17 (dk_at dksX3_factor_2 15 rfl rfl)
theorem dX3_factor_66 : decode cX3_factor 66 = .ok (.new 378, 3) := dk_187 1 122 (dk_at dksX3_factor_2 18 rfl rfl)
theorem dX3_factor_69 : decode cX3_factor 69 = .ok (.dup, 1) := dk_89 (dk_at dksX3_factor_2 21 rfl rfl)
theorem dX3_factor_70 : decode cX3_factor 70 = .ok (.aload_n 0, 1) := dk_42 (dk_at dksX3_factor_2 22 rfl rfl)
theorem dX3_factor_71 : decode cX3_factor 71 = .ok (.invokevirtual 375, 3) := dk_182 1 119 (dk_at dksX3_factor_3 0 rfl rfl)
theorem dX3_factor_74 : decode cX3_factor 74 = .ok (.invokespecial 380, 3) := dk_183 1 124 (dk_at dksX3_factor_3 3 rfl rfl)
theorem dX3_factor_77 : decode cX3_factor 77 = .ok (.goto 7, 3) := dk_167 0 7 (dk_at dksX3_factor_3 6 rfl rfl)
theorem dX3_factor_80 : decode cX3_factor 80 = .ok (.aload_n 0, 1) := dk_42 (dk_at dksX3_factor_3 9 rfl rfl)
theorem dX3_factor_81 : decode cX3_factor 81 = .ok (.invokevirtual 361, 3) := dk_182 1 105 (dk_at dksX3_factor_3 10 rfl rfl)
theorem dX3_factor_84 : decode cX3_factor 84 = .ok (.astore_n 2, 1) := dk_77 (dk_at dksX3_factor_3 13 rfl rfl)
theorem dX3_factor_85 : decode cX3_factor 85 = .ok (.iload_n 1, 1) := dk_27 (dk_at dksX3_factor_3 14 rfl rfl)
theorem dX3_factor_86 : decode cX3_factor 86 = .ok (.ifCond .ne 9, 3) := dk_154 0 9 (dk_at dksX3_factor_3 15 rfl rfl)
theorem dX3_factor_89 : decode cX3_factor 89 = .ok (.aload_n 0, 1) := dk_42 (dk_at dksX3_factor_3 18 rfl rfl)
theorem dX3_factor_90 : decode cX3_factor 90 = .ok (.bipush 41, 2) := dk_16 41 (dk_at dksX3_factor_3 19 rfl rfl)
theorem dX3_factor_92 : decode cX3_factor 92 = .ok (.invokevirtual 171, 3) := dk_182 0 171 (dk_at dksX3_factor_3 21 rfl rfl)
theorem dX3_factor_95 : decode cX3_factor 95 = .ok (.aload_n 0, 1) := dk_42 (dk_at dksX3_factor_4 0 rfl rfl)
theorem dX3_factor_96 : decode cX3_factor 96 = .ok (.dup, 1) := dk_89 (dk_at dksX3_factor_4 1 rfl rfl)
theorem dX3_factor_97 : decode cX3_factor 97 = .ok (.getfield 358, 3) := dk_180 1 102 (dk_at dksX3_factor_4 2 rfl rfl)
theorem dX3_factor_100 : decode cX3_factor 100 = .ok (.iconst 1, 1) := dk_4 (dk_at dksX3_factor_4 5 rfl rfl)
theorem dX3_factor_101 : decode cX3_factor 101 = .ok (.isub, 1) := dk_100 (dk_at dksX3_factor_4 6 rfl rfl)
theorem dX3_factor_102 : decode cX3_factor 102 = .ok (.putfield 358, 3) := dk_181 1 102 (dk_at dksX3_factor_4 7 rfl rfl)
theorem dX3_factor_105 : decode cX3_factor 105 = .ok (.aload_n 2, 1) := dk_44 (dk_at dksX3_factor_4 10 rfl rfl)
theorem dX3_factor_106 : decode cX3_factor 106 = .ok (.areturn, 1) := dk_176 (dk_at dksX3_factor_4 11 rfl rfl)
theorem dX3_factor_107 : decode cX3_factor 107 = .ok (.aload_n 0, 1) := dk_42 (dk_at dksX3_factor_4 12 rfl rfl)
theorem dX3_factor_108 : decode cX3_factor 108 = .ok (.getfield 58, 3) := dk_180 0 58 (dk_at dksX3_factor_4 13 rfl rfl)
theorem dX3_factor_111 : decode cX3_factor 111 = .ok (.getstatic 90, 3) := dk_178 0 90 (dk_at dksX3_factor_4 16 rfl rfl)
theorem dX3_factor_114 : decode cX3_factor 114 = .ok (.if_acmp .ne 21, 3) := dk_166 0 21 (dk_at dksX3_factor_4 19 rfl rfl)
theorem dX3_factor_117 : decode cX3_factor 117 = .ok (.new 381, 3) := dk_187 1 125 (dk_at dksX3_factor_5 0 rfl rfl)
theorem dX3_factor_120 : decode cX3_factor 120 = .ok (.dup, 1) := dk_89 (dk_at dksX3_factor_5 3 rfl rfl)
theorem dX3_factor_121 : decode cX3_factor 121 = .ok (.aload_n 0, 1) := dk_42 (dk_at dksX3_factor_5 4 rfl rfl)
theorem dX3_factor_122 : decode cX3_factor 122 = .ok (.getfield 87, 3) := dk_180 0 87 (dk_at dksX3_factor_5 5 rfl rfl)
theorem dX3_factor_125 : decode cX3_factor 125 = .ok (.invokespecial 383, 3) := dk_183 1 127 (dk_at dksX3_factor_5 8 rfl rfl)
theorem dX3_factor_128 : decode cX3_factor 128 = .ok (.astore_n 1, 1) := dk_76 (dk_at dksX3_factor_5 11 rfl rfl)
theorem dX3_factor_129 : decode cX3_factor 129 = .ok (.aload_n 0, 1) := dk_42 (dk_at dksX3_factor_5 12 rfl rfl)
theorem dX3_factor_130 : decode cX3_factor 130 = .ok (.invokevirtual 118, 3) := dk_182 0 118 (dk_at dksX3_factor_5 13 rfl rfl)
theorem dX3_factor_133 : decode cX3_factor 133 = .ok (.aload_n 1, 1) := dk_43 (dk_at dksX3_factor_5 16 rfl rfl)
theorem dX3_factor_134 : decode cX3_factor 134 = .ok (.areturn, 1) := dk_176 (dk_at dksX3_factor_5 17 rfl rfl)
theorem dX3_factor_135 : decode cX3_factor 135 = .ok (.aload_n 0, 1) := dk_42 (dk_at dksX3_factor_5 18 rfl rfl)
theorem dX3_factor_136 : decode cX3_factor 136 = .ok (.invokevirtual 140, 3) := dk_182 0 140 (dk_at dksX3_factor_5 19 rfl rfl)
theorem dX3_factor_139 : decode cX3_factor 139 = .ok (.aload_n 0, 1) := dk_42 (dk_at dksX3_factor_5 22 rfl rfl)
theorem dX3_factor_140 : decode cX3_factor 140 = .ok (.invokevirtual 384, 3) := dk_182 1 128 (dk_at dksX3_factor_6 0 rfl rfl)
theorem dX3_factor_143 : decode cX3_factor 143 = .ok (.areturn, 1) := dk_176 (dk_at dksX3_factor_6 3 rfl rfl)
def dkwX3_told_11 : List UInt8 := [182, 0, 154, 87, 25, 8, 176]
abbrev dktX3_told_11 : List UInt8 := dkwX3_told_11 ++ []
def dkwX3_told_10 : List UInt8 := [182, 0, 118, 187, 0, 190, 89, 21, 4, 31, 29, 183, 1, 139, 58, 8, 42, 180, 0, 18, 25, 8]
abbrev dktX3_told_10 : List UInt8 := dkwX3_told_10 ++ dktX3_told_11
def dkwX3_told_9 : List UInt8 := [184, 0, 204, 167, 0, 4, 2, 54, 4, 21, 4, 2, 160, 0, 9, 42, 4, 182, 0, 124, 191, 42]
abbrev dktX3_told_9 : List UInt8 := dkwX3_told_9 ++ dktX3_told_10
def dkwX3_told_8 : List UInt8 := [16, 46, 182, 0, 171, 42, 180, 0, 58, 178, 0, 84, 166, 0, 16, 19, 1, 131, 42, 180, 0, 77]
abbrev dktX3_told_8 : List UInt8 := dkwX3_told_8 ++ dktX3_told_9
def dkwX3_told_7 : List UInt8 := [198, 0, 18, 25, 7, 182, 0, 158, 5, 159, 0, 9, 42, 6, 182, 0, 124, 191, 42, 182, 0, 118, 42]
abbrev dktX3_told_7 : List UInt8 := dkwX3_told_7 ++ dktX3_told_8
def dkwX3_told_6 : List UInt8 := [176, 31, 184, 0, 143, 153, 0, 9, 42, 4, 182, 0, 124, 191, 42, 31, 182, 0, 147, 58, 7, 25, 7]
abbrev dktX3_told_6 : List UInt8 := dkwX3_told_6 ++ dktX3_told_7
def dkwX3_told_5 : List UInt8 := [159, 0, 15, 187, 1, 142, 89, 21, 5, 183, 1, 144, 167, 0, 12, 187, 1, 145, 89, 21, 6, 183, 1, 147]
abbrev dktX3_told_5 : List UInt8 := dkwX3_told_5 ++ dktX3_told_6
def dkwX3_told_4 : List UInt8 := [21, 4, 2, 159, 0, 17, 187, 0, 190, 89, 21, 4, 9, 29, 183, 1, 139, 167, 0, 30, 21, 5, 2]
abbrev dktX3_told_4 : List UInt8 := dkwX3_told_4 ++ dktX3_told_5
def dkwX3_told_3 : List UInt8 := [54, 6, 21, 4, 2, 160, 0, 15, 21, 5, 2, 160, 0, 9, 21, 6, 2, 159, 0, 55, 42, 182, 0, 118]
abbrev dktX3_told_3 : List UInt8 := dkwX3_told_3 ++ dktX3_told_4
def dkwX3_told_2 : List UInt8 := [148, 154, 0, 7, 4, 167, 0, 19, 31, 19, 1, 137, 184, 0, 111, 148, 154, 0, 7, 5, 167, 0, 4, 2]
abbrev dktX3_told_2 : List UInt8 := dkwX3_told_2 ++ dktX3_told_3
def dkwX3_told_1 : List UInt8 := [54, 5, 31, 19, 1, 133, 184, 0, 111, 148, 154, 0, 7, 3, 167, 0, 34, 31, 19, 1, 135, 184, 0, 111]
abbrev dktX3_told_1 : List UInt8 := dkwX3_told_1 ++ dktX3_told_2
def dkwX3_told_0 : List UInt8 := [42, 180, 0, 77, 64, 42, 180, 0, 45, 62, 19, 1, 131, 31, 184, 0, 204, 54, 4, 31, 184, 1, 41]
abbrev dktX3_told_0 : List UInt8 := dkwX3_told_0 ++ dktX3_told_1
theorem dksX3_told_0 : cX3_told.data.toList.drop 0 = dktX3_told_0 := by decide +kernel
theorem dksX3_told_1 : cX3_told.data.toList.drop 23 = dktX3_told_1 := dk_seg dksX3_told_0 23 rfl rfl
theorem dksX3_told_2 : cX3_told.data.toList.drop 47 = dktX3_told_2 := dk_seg dksX3_told_1 24 rfl rfl
theorem dksX3_told_3 : cX3_told.data.toList.drop 71 = dktX3_told_3 := dk_seg dksX3_told_2 24 rfl rfl
theorem dksX3_told_4 : cX3_told.data.toList.drop 95 = dktX3_told_4 := dk_seg dksX3_told_3 24 rfl rfl
theorem dksX3_told_5 : cX3_told.data.toList.drop 118 = dktX3_told_5 := dk_seg dksX3_told_4 23 rfl rfl
theorem dksX3_told_6 : cX3_told.data.toList.drop 142 = dktX3_told_6 := dk_seg dksX3_told_5 24 rfl rfl
theorem dksX3_told_7 : cX3_told.data.toList.drop 165 = dktX3_told_7 := dk_seg dksX3_told_6 23 rfl rfl
theorem dksX3_told_8 : cX3_told.data.toList.drop 188 = dktX3_told_8 := dk_seg dksX3_told_7 23 rfl rfl
theorem dksX3_told_9 : cX3_told.data.toList.drop 210 = dktX3_told_9 := dk_seg dksX3_told_8 22 rfl rfl
theorem dksX3_told_10 : cX3_told.data.toList.drop 232 = dktX3_told_10 := dk_seg dksX3_told_9 22 rfl rfl
theorem dksX3_told_11 : cX3_told.data.toList.drop 254 = dktX3_told_11 := dk_seg dksX3_told_10 22 rfl rfl
theorem dX3_told_0 : decode cX3_told 0 = .ok (.aload_n 0, 1) := dk_42 (dk_at dksX3_told_0 0 rfl rfl)
theorem dX3_told_1 : decode cX3_told 1 = .ok (.getfield 77, 3) := dk_180 0 77 (dk_at dksX3_told_0 1 rfl rfl)
theorem dX3_told_4 : decode cX3_told 4 = .ok (.lstore_n 1, 1) := dk_64 (dk_at dksX3_told_0 4 rfl rfl)
theorem dX3_told_5 : decode cX3_told 5 = .ok (.aload_n 0, 1) := dk_42 (dk_at dksX3_told_0 5 rfl rfl)
theorem dX3_told_6 : decode cX3_told 6 = .ok (.getfield 45, 3) := dk_180 0 45 (dk_at dksX3_told_0 6 rfl rfl)
theorem dX3_told_9 : decode cX3_told 9 = .ok (.istore_n 3, 1) := dk_62 (dk_at dksX3_told_0 9 rfl rfl)
theorem dX3_told_10 : decode cX3_told 10 = .ok (.ldc_w 387, 3) := dk_19 1 131 (dk_at dksX3_told_0 10 rfl rfl)
theorem dX3_told_13 : decode cX3_told 13 = .ok (.lload_n 1, 1) := dk_31 (dk_at dksX3_told_0 13 rfl rfl)
theorem dX3_told_14 : decode cX3_told 14 = .ok (.invokestatic 204, 3) := dk_184 0 204 (dk_at dksX3_told_0 14 rfl rfl)
theorem dX3_told_17 : decode cX3_told 17 = .ok (.istore 4, 2) := dk_54 4 (dk_at dksX3_told_0 17 rfl rfl)
theorem dX3_told_19 : decode cX3_told 19 = .ok (.lload_n 1, 1) := dk_31 (dk_at dksX3_told_0 19 rfl rfl)
theorem dX3_told_20 : decode cX3_told 20 = .ok (.invokestatic 297, 3) := dk_184 1 41 (dk_at dksX3_told_0 20 rfl rfl)
theorem dX3_told_23 : decode cX3_told 23 = .ok (.istore 5, 2) := dk_54 5 (dk_at dksX3_told_1 0 rfl rfl)
theorem dX3_told_25 : decode cX3_told 25 = .ok (.lload_n 1, 1) := dk_31 (dk_at dksX3_told_1 2 rfl rfl)
theorem dX3_told_26 : decode cX3_told 26 = .ok (.ldc_w 389, 3) := dk_19 1 133 (dk_at dksX3_told_1 3 rfl rfl)
theorem dX3_told_29 : decode cX3_told 29 = .ok (.invokestatic 111, 3) := dk_184 0 111 (dk_at dksX3_told_1 6 rfl rfl)
theorem dX3_told_32 : decode cX3_told 32 = .ok (.lcmp, 1) := dk_148 (dk_at dksX3_told_1 9 rfl rfl)
theorem dX3_told_33 : decode cX3_told 33 = .ok (.ifCond .ne 7, 3) := dk_154 0 7 (dk_at dksX3_told_1 10 rfl rfl)
theorem dX3_told_36 : decode cX3_told 36 = .ok (.iconst 0, 1) := dk_3 (dk_at dksX3_told_1 13 rfl rfl)
theorem dX3_told_37 : decode cX3_told 37 = .ok (.goto 34, 3) := dk_167 0 34 (dk_at dksX3_told_1 14 rfl rfl)
theorem dX3_told_40 : decode cX3_told 40 = .ok (.lload_n 1, 1) := dk_31 (dk_at dksX3_told_1 17 rfl rfl)
theorem dX3_told_41 : decode cX3_told 41 = .ok (.ldc_w 391, 3) := dk_19 1 135 (dk_at dksX3_told_1 18 rfl rfl)
theorem dX3_told_44 : decode cX3_told 44 = .ok (.invokestatic 111, 3) := dk_184 0 111 (dk_at dksX3_told_1 21 rfl rfl)
theorem dX3_told_47 : decode cX3_told 47 = .ok (.lcmp, 1) := dk_148 (dk_at dksX3_told_2 0 rfl rfl)
theorem dX3_told_48 : decode cX3_told 48 = .ok (.ifCond .ne 7, 3) := dk_154 0 7 (dk_at dksX3_told_2 1 rfl rfl)
theorem dX3_told_51 : decode cX3_told 51 = .ok (.iconst 1, 1) := dk_4 (dk_at dksX3_told_2 4 rfl rfl)
theorem dX3_told_52 : decode cX3_told 52 = .ok (.goto 19, 3) := dk_167 0 19 (dk_at dksX3_told_2 5 rfl rfl)
theorem dX3_told_55 : decode cX3_told 55 = .ok (.lload_n 1, 1) := dk_31 (dk_at dksX3_told_2 8 rfl rfl)
theorem dX3_told_56 : decode cX3_told 56 = .ok (.ldc_w 393, 3) := dk_19 1 137 (dk_at dksX3_told_2 9 rfl rfl)
theorem dX3_told_59 : decode cX3_told 59 = .ok (.invokestatic 111, 3) := dk_184 0 111 (dk_at dksX3_told_2 12 rfl rfl)
theorem dX3_told_62 : decode cX3_told 62 = .ok (.lcmp, 1) := dk_148 (dk_at dksX3_told_2 15 rfl rfl)
theorem dX3_told_63 : decode cX3_told 63 = .ok (.ifCond .ne 7, 3) := dk_154 0 7 (dk_at dksX3_told_2 16 rfl rfl)
theorem dX3_told_66 : decode cX3_told 66 = .ok (.iconst 2, 1) := dk_5 (dk_at dksX3_told_2 19 rfl rfl)
theorem dX3_told_67 : decode cX3_told 67 = .ok (.goto 4, 3) := dk_167 0 4 (dk_at dksX3_told_2 20 rfl rfl)
theorem dX3_told_70 : decode cX3_told 70 = .ok (.iconst (-1), 1) := dk_2 (dk_at dksX3_told_2 23 rfl rfl)
theorem dX3_told_71 : decode cX3_told 71 = .ok (.istore 6, 2) := dk_54 6 (dk_at dksX3_told_3 0 rfl rfl)
theorem dX3_told_73 : decode cX3_told 73 = .ok (.iload 4, 2) := dk_21 4 (dk_at dksX3_told_3 2 rfl rfl)
theorem dX3_told_75 : decode cX3_told 75 = .ok (.iconst (-1), 1) := dk_2 (dk_at dksX3_told_3 4 rfl rfl)
theorem dX3_told_76 : decode cX3_told 76 = .ok (.if_icmp .ne 15, 3) := dk_160 0 15 (dk_at dksX3_told_3 5 rfl rfl)
theorem dX3_told_79 : decode cX3_told 79 = .ok (.iload 5, 2) := dk_21 5 (dk_at dksX3_told_3 8 rfl rfl)
theorem dX3_told_81 : decode cX3_told 81 = .ok (.iconst (-1), 1) := dk_2 (dk_at dksX3_told_3 10 rfl rfl)
theorem dX3_told_82 : decode cX3_told 82 = .ok (.if_icmp .ne 9, 3) := dk_160 0 9 (dk_at dksX3_told_3 11 rfl rfl)
theorem dX3_told_85 : decode cX3_told 85 = .ok (.iload 6, 2) := dk_21 6 (dk_at dksX3_told_3 14 rfl rfl)
theorem dX3_told_87 : decode cX3_told 87 = .ok (.iconst (-1), 1) := dk_2 (dk_at dksX3_told_3 16 rfl rfl)
theorem dX3_told_88 : decode cX3_told 88 = .ok (.if_icmp .eq 55, 3) := dk_159 0 55 (dk_at dksX3_told_3 17 rfl rfl)
theorem dX3_told_91 : decode cX3_told 91 = .ok (.aload_n 0, 1) := dk_42 (dk_at dksX3_told_3 20 rfl rfl)
theorem dX3_told_92 : decode cX3_told 92 = .ok (.invokevirtual 118, 3) := dk_182 0 118 (dk_at dksX3_told_3 21 rfl rfl)
theorem dX3_told_95 : decode cX3_told 95 = .ok (.iload 4, 2) := dk_21 4 (dk_at dksX3_told_4 0 rfl rfl)
theorem dX3_told_97 : decode cX3_told 97 = .ok (.iconst (-1), 1) := dk_2 (dk_at dksX3_told_4 2 rfl rfl)
theorem dX3_told_98 : decode cX3_told 98 = .ok (.if_icmp .eq 17, 3) := dk_159 0 17 (dk_at dksX3_told_4 3 rfl rfl)
theorem dX3_told_101 : decode cX3_told 101 = .ok (.new 190, 3) := dk_187 0 190 (dk_at dksX3_told_4 6 rfl rfl)
theorem dX3_told_104 : decode cX3_told 104 = .ok (.dup, 1) := dk_89 (dk_at dksX3_told_4 9 rfl rfl)
theorem dX3_told_105 : decode cX3_told 105 = .ok (.iload 4, 2) := dk_21 4 (dk_at dksX3_told_4 10 rfl rfl)
theorem dX3_told_107 : decode cX3_told 107 = .ok (.lconst 0, 1) := dk_9 (dk_at dksX3_told_4 12 rfl rfl)
theorem dX3_told_108 : decode cX3_told 108 = .ok (.iload_n 3, 1) := dk_29 (dk_at dksX3_told_4 13 rfl rfl)
theorem dX3_told_109 : decode cX3_told 109 = .ok (.invokespecial 395, 3) := dk_183 1 139 (dk_at dksX3_told_4 14 rfl rfl)
theorem dX3_told_112 : decode cX3_told 112 = .ok (.goto 30, 3) := dk_167 0 30 (dk_at dksX3_told_4 17 rfl rfl)
theorem dX3_told_115 : decode cX3_told 115 = .ok (.iload 5, 2) := dk_21 5 (dk_at dksX3_told_4 20 rfl rfl)
theorem dX3_told_117 : decode cX3_told 117 = .ok (.iconst (-1), 1) := dk_2 (dk_at dksX3_told_4 22 rfl rfl)
theorem dX3_told_118 : decode cX3_told 118 = .ok (.if_icmp .eq 15, 3) := dk_159 0 15 (dk_at dksX3_told_5 0 rfl rfl)
theorem dX3_told_121 : decode cX3_told 121 = .ok (.new 398, 3) := dk_187 1 142 (dk_at dksX3_told_5 3 rfl rfl)
theorem dX3_told_124 : decode cX3_told 124 = .ok (.dup, 1) := dk_89 (dk_at dksX3_told_5 6 rfl rfl)
theorem dX3_told_125 : decode cX3_told 125 = .ok (.iload 5, 2) := dk_21 5 (dk_at dksX3_told_5 7 rfl rfl)
theorem dX3_told_127 : decode cX3_told 127 = .ok (.invokespecial 400, 3) := dk_183 1 144 (dk_at dksX3_told_5 9 rfl rfl)
theorem dX3_told_130 : decode cX3_told 130 = .ok (.goto 12, 3) := dk_167 0 12 (dk_at dksX3_told_5 12 rfl rfl)
theorem dX3_told_133 : decode cX3_told 133 = .ok (.new 401, 3) := dk_187 1 145 (dk_at dksX3_told_5 15 rfl rfl)
theorem dX3_told_136 : decode cX3_told 136 = .ok (.dup, 1) := dk_89 (dk_at dksX3_told_5 18 rfl rfl)
theorem dX3_told_137 : decode cX3_told 137 = .ok (.iload 6, 2) := dk_21 6 (dk_at dksX3_told_5 19 rfl rfl)
theorem dX3_told_139 : decode cX3_told 139 = .ok (.invokespecial 403, 3) := dk_183 1 147 (dk_at dksX3_told_5 21 rfl rfl)
theorem dX3_told_142 : decode cX3_told 142 = .ok (.areturn, 1) := dk_176 (dk_at dksX3_told_6 0 rfl rfl)
theorem dX3_told_143 : decode cX3_told 143 = .ok (.lload_n 1, 1) := dk_31 (dk_at dksX3_told_6 1 rfl rfl)
theorem dX3_told_144 : decode cX3_told 144 = .ok (.invokestatic 143, 3) := dk_184 0 143 (dk_at dksX3_told_6 2 rfl rfl)
theorem dX3_told_147 : decode cX3_told 147 = .ok (.ifCond .eq 9, 3) := dk_153 0 9 (dk_at dksX3_told_6 5 rfl rfl)
theorem dX3_told_150 : decode cX3_told 150 = .ok (.aload_n 0, 1) := dk_42 (dk_at dksX3_told_6 8 rfl rfl)
theorem dX3_told_151 : decode cX3_told 151 = .ok (.iconst 1, 1) := dk_4 (dk_at dksX3_told_6 9 rfl rfl)
theorem dX3_told_152 : decode cX3_told 152 = .ok (.invokevirtual 124, 3) := dk_182 0 124 (dk_at dksX3_told_6 10 rfl rfl)
theorem dX3_told_155 : decode cX3_told 155 = .ok (.athrow, 1) := dk_191 (dk_at dksX3_told_6 13 rfl rfl)
theorem dX3_told_156 : decode cX3_told 156 = .ok (.aload_n 0, 1) := dk_42 (dk_at dksX3_told_6 14 rfl rfl)
theorem dX3_told_157 : decode cX3_told 157 = .ok (.lload_n 1, 1) := dk_31 (dk_at dksX3_told_6 15 rfl rfl)
theorem dX3_told_158 : decode cX3_told 158 = .ok (.invokevirtual 147, 3) := dk_182 0 147 (dk_at dksX3_told_6 16 rfl rfl)
theorem dX3_told_161 : decode cX3_told 161 = .ok (.astore 7, 2) := dk_58 7 (dk_at dksX3_told_6 19 rfl rfl)
theorem dX3_told_163 : decode cX3_told 163 = .ok (.aload 7, 2) := dk_25 7 (dk_at dksX3_told_6 21 rfl rfl)
theorem dX3_told_165 : decode cX3_told 165 = .ok (.ifnull 18, 3) := dk_198 0 18 (dk_at dksX3_told_7 0 rfl rfl)
theorem dX3_told_168 : decode cX3_told 168 = .ok (.aload 7, 2) := dk_25 7 (dk_at dksX3_told_7 3 rfl rfl)
theorem dX3_told_170 : decode cX3_told 170 = .ok (.invokevirtual 158, 3) := dk_182 0 158 (dk_at dksX3_told_7 5 rfl rfl)
theorem dX3_told_173 : decode cX3_told 173 = .ok (.iconst 2, 1) := dk_5 (dk_at dksX3_told_7 8 rfl rfl)
theorem dX3_told_174 : decode cX3_told 174 = .ok (.if_icmp .eq 9, 3) := dk_159 0 9 (dk_at dksX3_told_7 9 rfl rfl)
theorem dX3_told_177 : decode cX3_told 177 = .ok (.aload_n 0, 1) := dk_42 (dk_at dksX3_told_7 12 rfl rfl)
theorem dX3_told_178 : decode cX3_told 178 = .ok (.iconst 3, 1) := dk_6 (dk_at dksX3_told_7 13 rfl rfl)
theorem dX3_told_179 : decode cX3_told 179 = .ok (.invokevirtual 124, 3) := dk_182 0 124 (dk_at dksX3_told_7 14 rfl rfl)
theorem dX3_told_182 : decode cX3_told 182 = .ok (.athrow, 1) := dk_191 (dk_at dksX3_told_7 17 rfl rfl)
theorem dX3_told_183 : decode cX3_told 183 = .ok (.aload_n 0, 1) := dk_42 (dk_at dksX3_told_7 18 rfl rfl)
theorem dX3_told_184 : decode cX3_told 184 = .ok (.invokevirtual 118, 3) := dk_182 0 118 (dk_at dksX3_told_7 19 rfl rfl)
theorem dX3_told_187 : decode cX3_told 187 = .ok (.aload_n 0, 1) := dk_42 (dk_at dksX3_told_7 22 rfl rfl)
theorem dX3_told_188 : decode cX3_told 188 = .ok (.bipush 46, 2) := dk_16 46 (dk_at dksX3_told_8 0 rfl rfl)
theorem dX3_told_190 : decode cX3_told 190 = .ok (.invokevirtual 171, 3) := dk_182 0 171 (dk_at dksX3_told_8 2 rfl rfl)
theorem dX3_told_193 : decode cX3_told 193 = .ok (.aload_n 0, 1) := dk_42 (dk_at dksX3_told_8 5 rfl rfl)
theorem dX3_told_194 : decode cX3_told 194 = .ok (.getfield 58, 3) := dk_180 0 58 (dk_at dksX3_told_8 6 rfl rfl)
theorem dX3_told_197 : decode cX3_told 197 = .ok (.getstatic 84, 3) := dk_178 0 84 (dk_at dksX3_told_8 9 rfl rfl)
theorem dX3_told_200 : decode cX3_told 200 = .ok (.if_acmp .ne 16, 3) := dk_166 0 16 (dk_at dksX3_told_8 12 rfl rfl)
theorem dX3_told_203 : decode cX3_told 203 = .ok (.ldc_w 387, 3) := dk_19 1 131 (dk_at dksX3_told_8 15 rfl rfl)
theorem dX3_told_206 : decode cX3_told 206 = .ok (.aload_n 0, 1) := dk_42 (dk_at dksX3_told_8 18 rfl rfl)
theorem dX3_told_207 : decode cX3_told 207 = .ok (.getfield 77, 3) := dk_180 0 77 (dk_at dksX3_told_8 19 rfl rfl)
theorem dX3_told_210 : decode cX3_told 210 = .ok (.invokestatic 204, 3) := dk_184 0 204 (dk_at dksX3_told_9 0 rfl rfl)
theorem dX3_told_213 : decode cX3_told 213 = .ok (.goto 4, 3) := dk_167 0 4 (dk_at dksX3_told_9 3 rfl rfl)
theorem dX3_told_216 : decode cX3_told 216 = .ok (.iconst (-1), 1) := dk_2 (dk_at dksX3_told_9 6 rfl rfl)
theorem dX3_told_217 : decode cX3_told 217 = .ok (.istore 4, 2) := dk_54 4 (dk_at dksX3_told_9 7 rfl rfl)
theorem dX3_told_219 : decode cX3_told 219 = .ok (.iload 4, 2) := dk_21 4 (dk_at dksX3_told_9 9 rfl rfl)
theorem dX3_told_221 : decode cX3_told 221 = .ok (.iconst (-1), 1) := dk_2 (dk_at dksX3_told_9 11 rfl rfl)
theorem dX3_told_222 : decode cX3_told 222 = .ok (.if_icmp .ne 9, 3) := dk_160 0 9 (dk_at dksX3_told_9 12 rfl rfl)
theorem dX3_told_225 : decode cX3_told 225 = .ok (.aload_n 0, 1) := dk_42 (dk_at dksX3_told_9 15 rfl rfl)
theorem dX3_told_226 : decode cX3_told 226 = .ok (.iconst 1, 1) := dk_4 (dk_at dksX3_told_9 16 rfl rfl)
theorem dX3_told_227 : decode cX3_told 227 = .ok (.invokevirtual 124, 3) := dk_182 0 124 (dk_at dksX3_told_9 17 rfl rfl)
theorem dX3_told_230 : decode cX3_told 230 = .ok (.athrow, 1) := dk_191 (dk_at dksX3_told_9 20 rfl rfl)
theorem dX3_told_231 : decode cX3_told 231 = .ok (.aload_n 0, 1) := dk_42 (dk_at dksX3_told_9 21 rfl rfl)
theorem dX3_told_232 : decode cX3_told 232 = .ok (.invokevirtual 118, 3) := dk_182 0 118 (dk_at dksX3_told_10 0 rfl rfl)
theorem dX3_told_235 : decode cX3_told 235 = .ok (.new 190, 3) := dk_187 0 190 (dk_at dksX3_told_10 3 rfl rfl)
theorem dX3_told_238 : decode cX3_told 238 = .ok (.dup, 1) := dk_89 (dk_at dksX3_told_10 6 rfl rfl)
theorem dX3_told_239 : decode cX3_told 239 = .ok (.iload 4, 2) := dk_21 4 (dk_at dksX3_told_10 7 rfl rfl)
theorem dX3_told_241 : decode cX3_told 241 = .ok (.lload_n 1, 1) := dk_31 (dk_at dksX3_told_10 9 rfl rfl)
theorem dX3_told_242 : decode cX3_told 242 = .ok (.iload_n 3, 1) := dk_29 (dk_at dksX3_told_10 10 rfl rfl)
theorem dX3_told_243 : decode cX3_told 243 = .ok (.invokespecial 395, 3) := dk_183 1 139 (dk_at dksX3_told_10 11 rfl rfl)
theorem dX3_told_246 : decode cX3_told 246 = .ok (.astore 8, 2) := dk_58 8 (dk_at dksX3_told_10 14 rfl rfl)
theorem dX3_told_248 : decode cX3_told 248 = .ok (.aload_n 0, 1) := dk_42 (dk_at dksX3_told_10 16 rfl rfl)
theorem dX3_told_249 : decode cX3_told 249 = .ok (.getfield 18, 3) := dk_180 0 18 (dk_at dksX3_told_10 17 rfl rfl)
theorem dX3_told_252 : decode cX3_told 252 = .ok (.aload 8, 2) := dk_25 8 (dk_at dksX3_told_10 20 rfl rfl)
theorem dX3_told_254 : decode cX3_told 254 = .ok (.invokevirtual 154, 3) := dk_182 0 154 (dk_at dksX3_told_11 0 rfl rfl)
theorem dX3_told_257 : decode cX3_told 257 = .ok (.pop, 1) := dk_87 (dk_at dksX3_told_11 3 rfl rfl)
theorem dX3_told_258 : decode cX3_told 258 = .ok (.aload 8, 2) := dk_25 8 (dk_at dksX3_told_11 4 rfl rfl)
theorem dX3_told_260 : decode cX3_told 260 = .ok (.areturn, 1) := dk_176 (dk_at dksX3_told_11 6 rfl rfl)
def dkwX3_cond_3 : List UInt8 := [182, 1, 97, 153, 0, 18, 44, 180, 1, 160, 42, 182, 1, 148, 182, 0, 154, 87, 167, 255, 221, 44, 176]
abbrev dktX3_cond_3 : List UInt8 := dkwX3_cond_3 ++ []
def dkwX3_cond_2 : List UInt8 := [43, 182, 0, 154, 87, 42, 44, 180, 1, 163, 153, 0, 9, 19, 1, 151, 167, 0, 6, 19, 1, 153]
abbrev dktX3_cond_2 : List UInt8 := dkwX3_cond_2 ++ dktX3_cond_3
def dkwX3_cond_1 : List UInt8 := [154, 0, 5, 43, 176, 187, 1, 155, 89, 42, 19, 1, 151, 182, 0, 114, 183, 1, 157, 77, 44, 180, 1, 160]
abbrev dktX3_cond_1 : List UInt8 := dkwX3_cond_1 ++ dktX3_cond_2
def dkwX3_cond_0 : List UInt8 := [42, 182, 1, 148, 76, 42, 19, 1, 151, 182, 0, 114, 154, 0, 15, 42, 19, 1, 153, 182, 0, 114]
abbrev dktX3_cond_0 : List UInt8 := dkwX3_cond_0 ++ dktX3_cond_1
theorem dksX3_cond_0 : cX3_cond.data.toList.drop 0 = dktX3_cond_0 := by decide +kernel
theorem dksX3_cond_1 : cX3_cond.data.toList.drop 22 = dktX3_cond_1 := dk_seg dksX3_cond_0 22 rfl rfl
theorem dksX3_cond_2 : cX3_cond.data.toList.drop 46 = dktX3_cond_2 := dk_seg dksX3_cond_1 24 rfl rfl
theorem dksX3_cond_3 : cX3_cond.data.toList.drop 68 = dktX3_cond_3 := dk_seg dksX3_cond_2 22 rfl rfl
theorem dX3_cond_0 : decode cX3_cond 0 = .ok (.aload_n 0, 1) := dk_42 (dk_at dksX3_cond_0 0 rfl rfl)
theorem dX3_cond_1 : decode cX3_cond 1 = .ok (.invokevirtual 404, 3) := dk_182 1 148 (dk_at dksX3_cond_0 1 rfl rfl)
theorem dX3_cond_4 : decode cX3_cond 4 = .ok (.astore_n 1, 1) := dk_76 (dk_at dksX3_cond_0 4 rfl rfl)
theorem dX3_cond_5 : decode cX3_cond 5 = .ok (.aload_n 0, 1) := dk_42 (dk_at dksX3_cond_0 5 rfl rfl)
theorem dX3_cond_6 : decode cX3_cond 6 = .ok (.ldc_w 407, 3) := dk_19 1 151 (dk_at dksX3_cond_0 6 rfl rfl)
theorem dX3_cond_9 : decode cX3_cond 9 = .ok (.invokevirtual 114, 3) := dk_182 0 114 (dk_at dksX3_cond_0 9 rfl rfl)
theorem dX3_cond_12 : decode cX3_cond 12 = .ok (.ifCond .ne 15, 3) := dk_154 0 15 (dk_at dksX3_cond_0 12 rfl rfl)
theorem dX3_cond_15 : decode cX3_cond 15 = .ok (.aload_n 0, 1) := dk_42 (dk_at dksX3_cond_0 15 rfl rfl)
theorem dX3_cond_16 : decode cX3_cond 16 = .ok (.ldc_w 409, 3) := dk_19 1 153 (dk_at dksX3_cond_0 16 rfl rfl)
theorem dX3_cond_19 : decode cX3_cond 19 = .ok (.invokevirtual 114, 3) := dk_182 0 114 (dk_at dksX3_cond_0 19 rfl rfl)
theorem dX3_cond_22 : decode cX3_cond 22 = .ok (.ifCond .ne 5, 3) := dk_154 0 5 (dk_at dksX3_cond_1 0 rfl rfl)
theorem dX3_cond_25 : decode cX3_cond 25 = .ok (.aload_n 1, 1) := dk_43 (dk_at dksX3_cond_1 3 rfl rfl)
theorem dX3_cond_26 : decode cX3_cond 26 = .ok (.areturn, 1) := dk_176 (dk_at dksX3_cond_1 4 rfl rfl)
theorem dX3_cond_27 : decode cX3_cond 27 = .ok (.new 411, 3) := dk_187 1 155 (dk_at dksX3_cond_1 5 rfl rfl)
theorem dX3_cond_30 : decode cX3_cond 30 = .ok (.dup, 1) := dk_89 (dk_at dksX3_cond_1 8 rfl rfl)
theorem dX3_cond_31 : decode cX3_cond 31 = .ok (.aload_n 0, 1) := dk_42 (dk_at dksX3_cond_1 9 rfl rfl)
theorem dX3_cond_32 : decode cX3_cond 32 = .ok (.ldc_w 407, 3) := dk_19 1 151 (dk_at dksX3_cond_1 10 rfl rfl)
theorem dX3_cond_35 : decode cX3_cond 35 = .ok (.invokevirtual 114, 3) := dk_182 0 114 (dk_at dksX3_cond_1 13 rfl rfl)
theorem dX3_cond_38 : decode cX3_cond 38 = .ok (.invokespecial 413, 3) := dk_183 1 157 (dk_at dksX3_cond_1 16 rfl rfl)
theorem dX3_cond_41 : decode cX3_cond 41 = .ok (.astore_n 2, 1) := dk_77 (dk_at dksX3_cond_1 19 rfl rfl)
theorem dX3_cond_42 : decode cX3_cond 42 = .ok (.aload_n 2, 1) := dk_44 (dk_at dksX3_cond_1 20 rfl rfl)
theorem dX3_cond_43 : decode cX3_cond 43 = .ok (.getfield 416, 3) := dk_180 1 160 (dk_at dksX3_cond_1 21 rfl rfl)
theorem dX3_cond_46 : decode cX3_cond 46 = .ok (.aload_n 1, 1) := dk_43 (dk_at dksX3_cond_2 0 rfl rfl)
theorem dX3_cond_47 : decode cX3_cond 47 = .ok (.invokevirtual 154, 3) := dk_182 0 154 (dk_at dksX3_cond_2 1 rfl rfl)
theorem dX3_cond_50 : decode cX3_cond 50 = .ok (.pop, 1) := dk_87 (dk_at dksX3_cond_2 4 rfl rfl)
theorem dX3_cond_51 : decode cX3_cond 51 = .ok (.aload_n 0, 1) := dk_42 (dk_at dksX3_cond_2 5 rfl rfl)
theorem dX3_cond_52 : decode cX3_cond 52 = .ok (.aload_n 2, 1) := dk_44 (dk_at dksX3_cond_2 6 rfl rfl)
theorem dX3_cond_53 : decode cX3_cond 53 = .ok (.getfield 419, 3) := dk_180 1 163 (dk_at dksX3_cond_2 7 rfl rfl)
theorem dX3_cond_56 : decode cX3_cond 56 = .ok (.ifCond .eq 9, 3) := dk_153 0 9 (dk_at dksX3_cond_2 10 rfl rfl)
theorem dX3_cond_59 : decode cX3_cond 59 = .ok (.ldc_w 407, 3) := dk_19 1 151 (dk_at dksX3_cond_2 13 rfl rfl)
theorem dX3_cond_62 : decode cX3_cond 62 = .ok (.goto 6, 3) := dk_167 0 6 (dk_at dksX3_cond_2 16 rfl rfl)
theorem dX3_cond_65 : decode cX3_cond 65 = .ok (.ldc_w 409, 3) := dk_19 1 153 (dk_at dksX3_cond_2 19 rfl rfl)
theorem dX3_cond_68 : decode cX3_cond 68 = .ok (.invokevirtual 353, 3) := dk_182 1 97 (dk_at dksX3_cond_3 0 rfl rfl)
theorem dX3_cond_71 : decode cX3_cond 71 = .ok (.ifCond .eq 18, 3) := dk_153 0 18 (dk_at dksX3_cond_3 3 rfl rfl)
theorem dX3_cond_74 : decode cX3_cond 74 = .ok (.aload_n 2, 1) := dk_44 (dk_at dksX3_cond_3 6 rfl rfl)
theorem dX3_cond_75 : decode cX3_cond 75 = .ok (.getfield 416, 3) := dk_180 1 160 (dk_at dksX3_cond_3 7 rfl rfl)
theorem dX3_cond_78 : decode cX3_cond 78 = .ok (.aload_n 0, 1) := dk_42 (dk_at dksX3_cond_3 10 rfl rfl)
theorem dX3_cond_79 : decode cX3_cond 79 = .ok (.invokevirtual 404, 3) := dk_182 1 148 (dk_at dksX3_cond_3 11 rfl rfl)
theorem dX3_cond_82 : decode cX3_cond 82 = .ok (.invokevirtual 154, 3) := dk_182 0 154 (dk_at dksX3_cond_3 14 rfl rfl)
theorem dX3_cond_85 : decode cX3_cond 85 = .ok (.pop, 1) := dk_87 (dk_at dksX3_cond_3 17 rfl rfl)
theorem dX3_cond_86 : decode cX3_cond 86 = .ok (.goto (-35), 3) := dk_167 255 221 (dk_at dksX3_cond_3 18 rfl rfl)
theorem dX3_cond_89 : decode cX3_cond 89 = .ok (.aload_n 2, 1) := dk_44 (dk_at dksX3_cond_3 21 rfl rfl)
theorem dX3_cond_90 : decode cX3_cond 90 = .ok (.areturn, 1) := dk_176 (dk_at dksX3_cond_3 22 rfl rfl)
def dkwX3_one_5 : List UInt8 := [182, 0, 124, 191, 42, 182, 0, 118, 187, 1, 175, 89, 21, 4, 45, 42, 182, 1, 54, 28, 183, 1, 177, 176]
abbrev dktX3_one_5 : List UInt8 := dkwX3_one_5 ++ []
def dkwX3_one_4 : List UInt8 := [21, 4, 16, 60, 159, 0, 24, 21, 4, 16, 62, 159, 0, 17, 21, 4, 17, 1, 0, 162, 0, 9, 42, 4]
abbrev dktX3_one_4 : List UInt8 := dkwX3_one_4 ++ dktX3_one_5
def dkwX3_one_3 : List UInt8 := [182, 1, 54, 78, 42, 180, 0, 58, 178, 0, 93, 166, 0, 10, 42, 180, 0, 96, 167, 0, 4, 3, 54, 4]
abbrev dktX3_one_3 : List UInt8 := dkwX3_one_3 ++ dktX3_one_4
def dkwX3_one_2 : List UInt8 := [19, 1, 168, 182, 1, 97, 153, 0, 17, 187, 1, 170, 89, 42, 4, 182, 1, 70, 28, 183, 1, 172, 176, 42]
abbrev dktX3_one_2 : List UInt8 := dkwX3_one_2 ++ dktX3_one_3
def dkwX3_one_1 : List UInt8 := [132, 1, 1, 42, 182, 0, 118, 167, 255, 227, 27, 5, 112, 4, 160, 0, 7, 4, 167, 0, 4, 3, 61, 42]
abbrev dktX3_one_1 : List UInt8 := dkwX3_one_1 ++ dktX3_one_2
def dkwX3_one_0 : List UInt8 := [3, 60, 42, 19, 1, 166, 182, 0, 114, 153, 0, 25, 27, 16, 12, 160, 0, 9, 42, 7, 182, 0, 124, 191]
abbrev dktX3_one_0 : List UInt8 := dkwX3_one_0 ++ dktX3_one_1
theorem dksX3_one_0 : cX3_one.data.toList.drop 0 = dktX3_one_0 := by decide +kernel
theorem dksX3_one_1 : cX3_one.data.toList.drop 24 = dktX3_one_1 := dk_seg dksX3_one_0 24 rfl rfl
theorem dksX3_one_2 : cX3_one.data.toList.drop 48 = dktX3_one_2 := dk_seg dksX3_one_1 24 rfl rfl
theorem dksX3_one_3 : cX3_one.data.toList.drop 72 = dktX3_one_3 := dk_seg dksX3_one_2 24 rfl rfl
theorem dksX3_one_4 : cX3_one.data.toList.drop 96 = dktX3_one_4 := dk_seg dksX3_one_3 24 rfl rfl
theorem dksX3_one_5 : cX3_one.data.toList.drop 120 = dktX3_one_5 := dk_seg dksX3_one_4 24 rfl rfl
theorem dX3_one_0 : decode cX3_one 0 = .ok (.iconst 0, 1) := dk_3 (dk_at dksX3_one_0 0 rfl rfl)
theorem dX3_one_1 : decode cX3_one 1 = .ok (.istore_n 1, 1) := dk_60 (dk_at dksX3_one_0 1 rfl rfl)
theorem dX3_one_2 : decode cX3_one 2 = .ok (.aload_n 0, 1) := dk_42 (dk_at dksX3_one_0 2 rfl rfl)
theorem dX3_one_3 : decode cX3_one 3 = .ok (.ldc_w 422, 3) := dk_19 1 166 (dk_at dksX3_one_0 3 rfl rfl)
theorem dX3_one_6 : decode cX3_one 6 = .ok (.invokevirtual 114, 3) := dk_182 0 114 (dk_at dksX3_one_0 6 rfl rfl)
theorem dX3_one_9 : decode cX3_one 9 = .ok (.ifCond .eq 25, 3) := dk_153 0 25 (dk_at dksX3_one_0 9 rfl rfl)
theorem dX3_one_12 : decode cX3_one 12 = .ok (.iload_n 1, 1) := dk_27 (dk_at dksX3_one_0 12 rfl rfl)
theorem dX3_one_13 : decode cX3_one 13 = .ok (.bipush 12, 2) := dk_16 12 (dk_at dksX3_one_0 13 rfl rfl)
theorem dX3_one_15 : decode cX3_one 15 = .ok (.if_icmp .ne 9, 3) := dk_160 0 9 (dk_at dksX3_one_0 15 rfl rfl)
theorem dX3_one_18 : decode cX3_one 18 = .ok (.aload_n 0, 1) := dk_42 (dk_at dksX3_one_0 18 rfl rfl)
theorem dX3_one_19 : decode cX3_one 19 = .ok (.iconst 4, 1) := dk_7 (dk_at dksX3_one_0 19 rfl rfl)
theorem dX3_one_20 : decode cX3_one 20 = .ok (.invokevirtual 124, 3) := dk_182 0 124 (dk_at dksX3_one_0 20 rfl rfl)
theorem dX3_one_23 : decode cX3_one 23 = .ok (.athrow, 1) := dk_191 (dk_at dksX3_one_0 23 rfl rfl)
theorem dX3_one_24 : decode cX3_one 24 = .ok (.iinc 1 1, 3) := dk_132 1 1 (dk_at dksX3_one_1 0 rfl rfl)
theorem dX3_one_27 : decode cX3_one 27 = .ok (.aload_n 0, 1) := dk_42 (dk_at dksX3_one_1 3 rfl rfl)
theorem dX3_one_28 : decode cX3_one 28 = .ok (.invokevirtual 118, 3) := dk_182 0 118 (dk_at dksX3_one_1 4 rfl rfl)
theorem dX3_one_31 : decode cX3_one 31 = .ok (.goto (-29), 3) := dk_167 255 227 (dk_at dksX3_one_1 7 rfl rfl)
theorem dX3_one_34 : decode cX3_one 34 = .ok (.iload_n 1, 1) := dk_27 (dk_at dksX3_one_1 10 rfl rfl)
theorem dX3_one_35 : decode cX3_one 35 = .ok (.iconst 2, 1) := dk_5 (dk_at dksX3_one_1 11 rfl rfl)
theorem dX3_one_36 : decode cX3_one 36 = .ok (.irem, 1) := dk_112 (dk_at dksX3_one_1 12 rfl rfl)
theorem dX3_one_37 : decode cX3_one 37 = .ok (.iconst 1, 1) := dk_4 (dk_at dksX3_one_1 13 rfl rfl)
theorem dX3_one_38 : decode cX3_one 38 = .ok (.if_icmp .ne 7, 3) := dk_160 0 7 (dk_at dksX3_one_1 14 rfl rfl)
theorem dX3_one_41 : decode cX3_one 41 = .ok (.iconst 1, 1) := dk_4 (dk_at dksX3_one_1 17 rfl rfl)
theorem dX3_one_42 : decode cX3_one 42 = .ok (.goto 4, 3) := dk_167 0 4 (dk_at dksX3_one_1 18 rfl rfl)
theorem dX3_one_45 : decode cX3_one 45 = .ok (.iconst 0, 1) := dk_3 (dk_at dksX3_one_1 21 rfl rfl)
theorem dX3_one_46 : decode cX3_one 46 = .ok (.istore_n 2, 1) := dk_61 (dk_at dksX3_one_1 22 rfl rfl)
theorem dX3_one_47 : decode cX3_one 47 = .ok (.aload_n 0, 1) := dk_42 (dk_at dksX3_one_1 23 rfl rfl)
theorem dX3_one_48 : decode cX3_one 48 = .ok (.ldc_w 424, 3) := dk_19 1 168 (dk_at dksX3_one_2 0 rfl rfl)
theorem dX3_one_51 : decode cX3_one 51 = .ok (.invokevirtual 353, 3) := dk_182 1 97 (dk_at dksX3_one_2 3 rfl rfl)
theorem dX3_one_54 : decode cX3_one 54 = .ok (.ifCond .eq 17, 3) := dk_153 0 17 (dk_at dksX3_one_2 6 rfl rfl)
theorem dX3_one_57 : decode cX3_one 57 = .ok (.new 426, 3) := dk_187 1 170 (dk_at dksX3_one_2 9 rfl rfl)
theorem dX3_one_60 : decode cX3_one 60 = .ok (.dup, 1) := dk_89 (dk_at dksX3_one_2 12 rfl rfl)
theorem dX3_one_61 : decode cX3_one 61 = .ok (.aload_n 0, 1) := dk_42 (dk_at dksX3_one_2 13 rfl rfl)
theorem dX3_one_62 : decode cX3_one 62 = .ok (.iconst 1, 1) := dk_4 (dk_at dksX3_one_2 14 rfl rfl)
theorem dX3_one_63 : decode cX3_one 63 = .ok (.invokevirtual 326, 3) := dk_182 1 70 (dk_at dksX3_one_2 15 rfl rfl)
theorem dX3_one_66 : decode cX3_one 66 = .ok (.iload_n 2, 1) := dk_28 (dk_at dksX3_one_2 18 rfl rfl)
theorem dX3_one_67 : decode cX3_one 67 = .ok (.invokespecial 428, 3) := dk_183 1 172 (dk_at dksX3_one_2 19 rfl rfl)
theorem dX3_one_70 : decode cX3_one 70 = .ok (.areturn, 1) := dk_176 (dk_at dksX3_one_2 22 rfl rfl)
theorem dX3_one_71 : decode cX3_one 71 = .ok (.aload_n 0, 1) := dk_42 (dk_at dksX3_one_2 23 rfl rfl)
theorem dX3_one_72 : decode cX3_one 72 = .ok (.invokevirtual 310, 3) := dk_182 1 54 (dk_at dksX3_one_3 0 rfl rfl)
theorem dX3_one_75 : decode cX3_one 75 = .ok (.astore_n 3, 1) := dk_78 (dk_at dksX3_one_3 3 rfl rfl)
theorem dX3_one_76 : decode cX3_one 76 = .ok (.aload_n 0, 1) := dk_42 (dk_at dksX3_one_3 4 rfl rfl)
theorem dX3_one_77 : decode cX3_one 77 = .ok (.getfield 58, 3) := dk_180 0 58 (dk_at dksX3_one_3 5 rfl rfl)
theorem dX3_one_80 : decode cX3_one 80 = .ok (.getstatic 93, 3) := dk_178 0 93 (dk_at dksX3_one_3 8 rfl rfl)
theorem dX3_one_83 : decode cX3_one 83 = .ok (.if_acmp .ne 10, 3) := dk_166 0 10 (dk_at dksX3_one_3 11 rfl rfl)
theorem dX3_one_86 : decode cX3_one 86 = .ok (.aload_n 0, 1) := dk_42 (dk_at dksX3_one_3 14 rfl rfl)
theorem dX3_one_87 : decode cX3_one 87 = .ok (.getfield 96, 3) := dk_180 0 96 (dk_at dksX3_one_3 15 rfl rfl)
theorem dX3_one_90 : decode cX3_one 90 = .ok (.goto 4, 3) := dk_167 0 4 (dk_at dksX3_one_3 18 rfl rfl)
theorem dX3_one_93 : decode cX3_one 93 = .ok (.iconst 0, 1) := dk_3 (dk_at dksX3_one_3 21 rfl rfl)
theorem dX3_one_94 : decode cX3_one 94 = .ok (.istore 4, 2) := dk_54 4 (dk_at dksX3_one_3 22 rfl rfl)
theorem dX3_one_96 : decode cX3_one 96 = .ok (.iload 4, 2) := dk_21 4 (dk_at dksX3_one_4 0 rfl rfl)
theorem dX3_one_98 : decode cX3_one 98 = .ok (.bipush 60, 2) := dk_16 60 (dk_at dksX3_one_4 2 rfl rfl)
theorem dX3_one_100 : decode cX3_one 100 = .ok (.if_icmp .eq 24, 3) := dk_159 0 24 (dk_at dksX3_one_4 4 rfl rfl)
theorem dX3_one_103 : decode cX3_one 103 = .ok (.iload 4, 2) := dk_21 4 (dk_at dksX3_one_4 7 rfl rfl)
theorem dX3_one_105 : decode cX3_one 105 = .ok (.bipush 62, 2) := dk_16 62 (dk_at dksX3_one_4 9 rfl rfl)
theorem dX3_one_107 : decode cX3_one 107 = .ok (.if_icmp .eq 17, 3) := dk_159 0 17 (dk_at dksX3_one_4 11 rfl rfl)
theorem dX3_one_110 : decode cX3_one 110 = .ok (.iload 4, 2) := dk_21 4 (dk_at dksX3_one_4 14 rfl rfl)
theorem dX3_one_112 : decode cX3_one 112 = .ok (.sipush 256, 3) := dk_17 1 0 (dk_at dksX3_one_4 16 rfl rfl)
theorem dX3_one_115 : decode cX3_one 115 = .ok (.if_icmp .ge 9, 3) := dk_162 0 9 (dk_at dksX3_one_4 19 rfl rfl)
theorem dX3_one_118 : decode cX3_one 118 = .ok (.aload_n 0, 1) := dk_42 (dk_at dksX3_one_4 22 rfl rfl)
theorem dX3_one_119 : decode cX3_one 119 = .ok (.iconst 1, 1) := dk_4 (dk_at dksX3_one_4 23 rfl rfl)
theorem dX3_one_120 : decode cX3_one 120 = .ok (.invokevirtual 124, 3) := dk_182 0 124 (dk_at dksX3_one_5 0 rfl rfl)
theorem dX3_one_123 : decode cX3_one 123 = .ok (.athrow, 1) := dk_191 (dk_at dksX3_one_5 3 rfl rfl)
theorem dX3_one_124 : decode cX3_one 124 = .ok (.aload_n 0, 1) := dk_42 (dk_at dksX3_one_5 4 rfl rfl)
theorem dX3_one_125 : decode cX3_one 125 = .ok (.invokevirtual 118, 3) := dk_182 0 118 (dk_at dksX3_one_5 5 rfl rfl)
theorem dX3_one_128 : decode cX3_one 128 = .ok (.new 431, 3) := dk_187 1 175 (dk_at dksX3_one_5 8 rfl rfl)
theorem dX3_one_131 : decode cX3_one 131 = .ok (.dup, 1) := dk_89 (dk_at dksX3_one_5 11 rfl rfl)
theorem dX3_one_132 : decode cX3_one 132 = .ok (.iload 4, 2) := dk_21 4 (dk_at dksX3_one_5 12 rfl rfl)
theorem dX3_one_134 : decode cX3_one 134 = .ok (.aload_n 3, 1) := dk_45 (dk_at dksX3_one_5 14 rfl rfl)
theorem dX3_one_135 : decode cX3_one 135 = .ok (.aload_n 0, 1) := dk_42 (dk_at dksX3_one_5 15 rfl rfl)
theorem dX3_one_136 : decode cX3_one 136 = .ok (.invokevirtual 310, 3) := dk_182 1 54 (dk_at dksX3_one_5 16 rfl rfl)
theorem dX3_one_139 : decode cX3_one 139 = .ok (.iload_n 2, 1) := dk_28 (dk_at dksX3_one_5 19 rfl rfl)
theorem dX3_one_140 : decode cX3_one 140 = .ok (.invokespecial 433, 3) := dk_183 1 177 (dk_at dksX3_one_5 20 rfl rfl)
theorem dX3_one_143 : decode cX3_one 143 = .ok (.areturn, 1) := dk_176 (dk_at dksX3_one_5 23 rfl rfl)
def dkwX3_takes_0 : List UInt8 := [42, 43, 182, 0, 114, 154, 0, 5, 3, 172, 42, 182, 0, 118, 4, 172]
abbrev dktX3_takes_0 : List UInt8 := dkwX3_takes_0 ++ []
theorem dksX3_takes_0 : cX3_takes.data.toList.drop 0 = dktX3_takes_0 := by decide +kernel
theorem dX3_takes_0 : decode cX3_takes 0 = .ok (.aload_n 0, 1) := dk_42 (dk_at dksX3_takes_0 0 rfl rfl)
theorem dX3_takes_1 : decode cX3_takes 1 = .ok (.aload_n 1, 1) := dk_43 (dk_at dksX3_takes_0 1 rfl rfl)
theorem dX3_takes_2 : decode cX3_takes 2 = .ok (.invokevirtual 114, 3) := dk_182 0 114 (dk_at dksX3_takes_0 2 rfl rfl)
theorem dX3_takes_5 : decode cX3_takes 5 = .ok (.ifCond .ne 5, 3) := dk_154 0 5 (dk_at dksX3_takes_0 5 rfl rfl)
theorem dX3_takes_8 : decode cX3_takes 8 = .ok (.iconst 0, 1) := dk_3 (dk_at dksX3_takes_0 8 rfl rfl)
theorem dX3_takes_9 : decode cX3_takes 9 = .ok (.ireturn, 1) := dk_172 (dk_at dksX3_takes_0 9 rfl rfl)
theorem dX3_takes_10 : decode cX3_takes 10 = .ok (.aload_n 0, 1) := dk_42 (dk_at dksX3_takes_0 10 rfl rfl)
theorem dX3_takes_11 : decode cX3_takes 11 = .ok (.invokevirtual 118, 3) := dk_182 0 118 (dk_at dksX3_takes_0 11 rfl rfl)
theorem dX3_takes_14 : decode cX3_takes 14 = .ok (.iconst 1, 1) := dk_4 (dk_at dksX3_takes_0 14 rfl rfl)
theorem dX3_takes_15 : decode cX3_takes 15 = .ok (.ireturn, 1) := dk_172 (dk_at dksX3_takes_0 15 rfl rfl)
def dkwX3_old_1 : List UInt8 := [159, 0, 9, 42, 6, 182, 0, 124, 191, 42, 182, 0, 118, 44, 182, 0, 160, 172]
abbrev dktX3_old_1 : List UInt8 := dkwX3_old_1 ++ []
def dkwX3_old_0 : List UInt8 := [42, 182, 0, 140, 42, 42, 180, 0, 77, 182, 0, 147, 77, 44, 198, 0, 11, 44, 182, 0, 158, 27]
abbrev dktX3_old_0 : List UInt8 := dkwX3_old_0 ++ dktX3_old_1
theorem dksX3_old_0 : cX3_old.data.toList.drop 0 = dktX3_old_0 := by decide +kernel
theorem dksX3_old_1 : cX3_old.data.toList.drop 22 = dktX3_old_1 := dk_seg dksX3_old_0 22 rfl rfl
theorem dX3_old_0 : decode cX3_old 0 = .ok (.aload_n 0, 1) := dk_42 (dk_at dksX3_old_0 0 rfl rfl)
theorem dX3_old_1 : decode cX3_old 1 = .ok (.invokevirtual 140, 3) := dk_182 0 140 (dk_at dksX3_old_0 1 rfl rfl)
theorem dX3_old_4 : decode cX3_old 4 = .ok (.aload_n 0, 1) := dk_42 (dk_at dksX3_old_0 4 rfl rfl)
theorem dX3_old_5 : decode cX3_old 5 = .ok (.aload_n 0, 1) := dk_42 (dk_at dksX3_old_0 5 rfl rfl)
theorem dX3_old_6 : decode cX3_old 6 = .ok (.getfield 77, 3) := dk_180 0 77 (dk_at dksX3_old_0 6 rfl rfl)
theorem dX3_old_9 : decode cX3_old 9 = .ok (.invokevirtual 147, 3) := dk_182 0 147 (dk_at dksX3_old_0 9 rfl rfl)
theorem dX3_old_12 : decode cX3_old 12 = .ok (.astore_n 2, 1) := dk_77 (dk_at dksX3_old_0 12 rfl rfl)
theorem dX3_old_13 : decode cX3_old 13 = .ok (.aload_n 2, 1) := dk_44 (dk_at dksX3_old_0 13 rfl rfl)
theorem dX3_old_14 : decode cX3_old 14 = .ok (.ifnull 11, 3) := dk_198 0 11 (dk_at dksX3_old_0 14 rfl rfl)
theorem dX3_old_17 : decode cX3_old 17 = .ok (.aload_n 2, 1) := dk_44 (dk_at dksX3_old_0 17 rfl rfl)
theorem dX3_old_18 : decode cX3_old 18 = .ok (.invokevirtual 158, 3) := dk_182 0 158 (dk_at dksX3_old_0 18 rfl rfl)
theorem dX3_old_21 : decode cX3_old 21 = .ok (.iload_n 1, 1) := dk_27 (dk_at dksX3_old_0 21 rfl rfl)
theorem dX3_old_22 : decode cX3_old 22 = .ok (.if_icmp .eq 9, 3) := dk_159 0 9 (dk_at dksX3_old_1 0 rfl rfl)
theorem dX3_old_25 : decode cX3_old 25 = .ok (.aload_n 0, 1) := dk_42 (dk_at dksX3_old_1 3 rfl rfl)
theorem dX3_old_26 : decode cX3_old 26 = .ok (.iconst 3, 1) := dk_6 (dk_at dksX3_old_1 4 rfl rfl)
theorem dX3_old_27 : decode cX3_old 27 = .ok (.invokevirtual 124, 3) := dk_182 0 124 (dk_at dksX3_old_1 5 rfl rfl)
theorem dX3_old_30 : decode cX3_old 30 = .ok (.athrow, 1) := dk_191 (dk_at dksX3_old_1 8 rfl rfl)
theorem dX3_old_31 : decode cX3_old 31 = .ok (.aload_n 0, 1) := dk_42 (dk_at dksX3_old_1 9 rfl rfl)
theorem dX3_old_32 : decode cX3_old 32 = .ok (.invokevirtual 118, 3) := dk_182 0 118 (dk_at dksX3_old_1 10 rfl rfl)
theorem dX3_old_35 : decode cX3_old 35 = .ok (.aload_n 2, 1) := dk_44 (dk_at dksX3_old_1 13 rfl rfl)
theorem dX3_old_36 : decode cX3_old 36 = .ok (.invokevirtual 160, 3) := dk_182 0 160 (dk_at dksX3_old_1 14 rfl rfl)
theorem dX3_old_39 : decode cX3_old 39 = .ok (.ireturn, 1) := dk_172 (dk_at dksX3_old_1 17 rfl rfl)
def dkwX3_loop_2 : List UInt8 := [16, 20, 43, 180, 1, 89, 182, 1, 50, 78, 45, 28, 181, 1, 90, 43, 42, 182, 1, 86, 181, 1, 90, 177]
abbrev dktX3_loop_2 : List UInt8 := dkwX3_loop_2 ++ []
def dkwX3_loop_1 : List UInt8 := [180, 0, 223, 4, 96, 181, 0, 223, 42, 182, 0, 226, 42, 89, 180, 0, 223, 4, 100, 181, 0, 223, 42]
abbrev dktX3_loop_1 : List UInt8 := dkwX3_loop_1 ++ dktX3_loop_2
def dkwX3_loop_0 : List UInt8 := [43, 180, 1, 83, 16, 14, 160, 0, 11, 43, 42, 182, 1, 54, 181, 1, 58, 42, 182, 1, 86, 61, 42, 89]
abbrev dktX3_loop_0 : List UInt8 := dkwX3_loop_0 ++ dktX3_loop_1
theorem dksX3_loop_0 : cX3_loop.data.toList.drop 0 = dktX3_loop_0 := by decide +kernel
theorem dksX3_loop_1 : cX3_loop.data.toList.drop 24 = dktX3_loop_1 := dk_seg dksX3_loop_0 24 rfl rfl
theorem dksX3_loop_2 : cX3_loop.data.toList.drop 47 = dktX3_loop_2 := dk_seg dksX3_loop_1 23 rfl rfl
theorem dX3_loop_0 : decode cX3_loop 0 = .ok (.aload_n 1, 1) := dk_43 (dk_at dksX3_loop_0 0 rfl rfl)
theorem dX3_loop_1 : decode cX3_loop 1 = .ok (.getfield 339, 3) := dk_180 1 83 (dk_at dksX3_loop_0 1 rfl rfl)
theorem dX3_loop_4 : decode cX3_loop 4 = .ok (.bipush 14, 2) := dk_16 14 (dk_at dksX3_loop_0 4 rfl rfl)
theorem dX3_loop_6 : decode cX3_loop 6 = .ok (.if_icmp .ne 11, 3) := dk_160 0 11 (dk_at dksX3_loop_0 6 rfl rfl)
theorem dX3_loop_9 : decode cX3_loop 9 = .ok (.aload_n 1, 1) := dk_43 (dk_at dksX3_loop_0 9 rfl rfl)
theorem dX3_loop_10 : decode cX3_loop 10 = .ok (.aload_n 0, 1) := dk_42 (dk_at dksX3_loop_0 10 rfl rfl)
theorem dX3_loop_11 : decode cX3_loop 11 = .ok (.invokevirtual 310, 3) := dk_182 1 54 (dk_at dksX3_loop_0 11 rfl rfl)
theorem dX3_loop_14 : decode cX3_loop 14 = .ok (.putfield 314, 3) := dk_181 1 58 (dk_at dksX3_loop_0 14 rfl rfl)
theorem dX3_loop_17 : decode cX3_loop 17 = .ok (.aload_n 0, 1) := dk_42 (dk_at dksX3_loop_0 17 rfl rfl)
theorem dX3_loop_18 : decode cX3_loop 18 = .ok (.invokevirtual 342, 3) := dk_182 1 86 (dk_at dksX3_loop_0 18 rfl rfl)
theorem dX3_loop_21 : decode cX3_loop 21 = .ok (.istore_n 2, 1) := dk_61 (dk_at dksX3_loop_0 21 rfl rfl)
theorem dX3_loop_22 : decode cX3_loop 22 = .ok (.aload_n 0, 1) := dk_42 (dk_at dksX3_loop_0 22 rfl rfl)
theorem dX3_loop_23 : decode cX3_loop 23 = .ok (.dup, 1) := dk_89 (dk_at dksX3_loop_0 23 rfl rfl)
theorem dX3_loop_24 : decode cX3_loop 24 = .ok (.getfield 223, 3) := dk_180 0 223 (dk_at dksX3_loop_1 0 rfl rfl)
theorem dX3_loop_27 : decode cX3_loop 27 = .ok (.iconst 1, 1) := dk_4 (dk_at dksX3_loop_1 3 rfl rfl)
theorem dX3_loop_28 : decode cX3_loop 28 = .ok (.iadd, 1) := dk_96 (dk_at dksX3_loop_1 4 rfl rfl)
theorem dX3_loop_29 : decode cX3_loop 29 = .ok (.putfield 223, 3) := dk_181 0 223 (dk_at dksX3_loop_1 5 rfl rfl)
theorem dX3_loop_32 : decode cX3_loop 32 = .ok (.aload_n 0, 1) := dk_42 (dk_at dksX3_loop_1 8 rfl rfl)
theorem dX3_loop_33 : decode cX3_loop 33 = .ok (.invokevirtual 226, 3) := dk_182 0 226 (dk_at dksX3_loop_1 9 rfl rfl)
theorem dX3_loop_36 : decode cX3_loop 36 = .ok (.aload_n 0, 1) := dk_42 (dk_at dksX3_loop_1 12 rfl rfl)
theorem dX3_loop_37 : decode cX3_loop 37 = .ok (.dup, 1) := dk_89 (dk_at dksX3_loop_1 13 rfl rfl)
theorem dX3_loop_38 : decode cX3_loop 38 = .ok (.getfield 223, 3) := dk_180 0 223 (dk_at dksX3_loop_1 14 rfl rfl)
theorem dX3_loop_41 : decode cX3_loop 41 = .ok (.iconst 1, 1) := dk_4 (dk_at dksX3_loop_1 17 rfl rfl)
theorem dX3_loop_42 : decode cX3_loop 42 = .ok (.isub, 1) := dk_100 (dk_at dksX3_loop_1 18 rfl rfl)
theorem dX3_loop_43 : decode cX3_loop 43 = .ok (.putfield 223, 3) := dk_181 0 223 (dk_at dksX3_loop_1 19 rfl rfl)
theorem dX3_loop_46 : decode cX3_loop 46 = .ok (.aload_n 0, 1) := dk_42 (dk_at dksX3_loop_1 22 rfl rfl)
theorem dX3_loop_47 : decode cX3_loop 47 = .ok (.bipush 20, 2) := dk_16 20 (dk_at dksX3_loop_2 0 rfl rfl)
theorem dX3_loop_49 : decode cX3_loop 49 = .ok (.aload_n 1, 1) := dk_43 (dk_at dksX3_loop_2 2 rfl rfl)
theorem dX3_loop_50 : decode cX3_loop 50 = .ok (.getfield 345, 3) := dk_180 1 89 (dk_at dksX3_loop_2 3 rfl rfl)
theorem dX3_loop_53 : decode cX3_loop 53 = .ok (.invokevirtual 306, 3) := dk_182 1 50 (dk_at dksX3_loop_2 6 rfl rfl)
theorem dX3_loop_56 : decode cX3_loop 56 = .ok (.astore_n 3, 1) := dk_78 (dk_at dksX3_loop_2 9 rfl rfl)
theorem dX3_loop_57 : decode cX3_loop 57 = .ok (.aload_n 3, 1) := dk_45 (dk_at dksX3_loop_2 10 rfl rfl)
theorem dX3_loop_58 : decode cX3_loop 58 = .ok (.iload_n 2, 1) := dk_28 (dk_at dksX3_loop_2 11 rfl rfl)
theorem dX3_loop_59 : decode cX3_loop 59 = .ok (.putfield 346, 3) := dk_181 1 90 (dk_at dksX3_loop_2 12 rfl rfl)
theorem dX3_loop_62 : decode cX3_loop 62 = .ok (.aload_n 1, 1) := dk_43 (dk_at dksX3_loop_2 15 rfl rfl)
theorem dX3_loop_63 : decode cX3_loop 63 = .ok (.aload_n 0, 1) := dk_42 (dk_at dksX3_loop_2 16 rfl rfl)
theorem dX3_loop_64 : decode cX3_loop 64 = .ok (.invokevirtual 342, 3) := dk_182 1 86 (dk_at dksX3_loop_2 17 rfl rfl)
theorem dX3_loop_67 : decode cX3_loop 67 = .ok (.putfield 346, 3) := dk_181 1 90 (dk_at dksX3_loop_2 20 rfl rfl)
theorem dX3_loop_70 : decode cX3_loop 70 = .ok (.return_, 1) := dk_177 (dk_at dksX3_loop_2 23 rfl rfl)
def dkwX3_end_0 : List UInt8 := [42, 180, 0, 216, 180, 0, 229, 180, 1, 30, 182, 0, 128, 172]
abbrev dktX3_end_0 : List UInt8 := dkwX3_end_0 ++ []
theorem dksX3_end_0 : cX3_end.data.toList.drop 0 = dktX3_end_0 := by decide +kernel
theorem dX3_end_0 : decode cX3_end 0 = .ok (.aload_n 0, 1) := dk_42 (dk_at dksX3_end_0 0 rfl rfl)
theorem dX3_end_1 : decode cX3_end 1 = .ok (.getfield 216, 3) := dk_180 0 216 (dk_at dksX3_end_0 1 rfl rfl)
theorem dX3_end_4 : decode cX3_end 4 = .ok (.getfield 229, 3) := dk_180 0 229 (dk_at dksX3_end_0 4 rfl rfl)
theorem dX3_end_7 : decode cX3_end 7 = .ok (.getfield 286, 3) := dk_180 1 30 (dk_at dksX3_end_0 7 rfl rfl)
theorem dX3_end_10 : decode cX3_end 10 = .ok (.invokevirtual 128, 3) := dk_182 0 128 (dk_at dksX3_end_0 10 rfl rfl)
theorem dX3_end_13 : decode cX3_end 13 = .ok (.ireturn, 1) := dk_172 (dk_at dksX3_end_0 13 rfl rfl)
def dkwX3_whether_2 : List UInt8 := [182, 0, 118, 42, 182, 0, 226, 44, 42, 182, 1, 86, 181, 1, 90, 177]
abbrev dktX3_whether_2 : List UInt8 := dkwX3_whether_2 ++ []
def dkwX3_whether_1 : List UInt8 := [182, 1, 86, 181, 1, 90, 177, 42, 16, 21, 2, 182, 1, 50, 77, 43, 42, 182, 1, 86, 181, 1, 90, 42]
abbrev dktX3_whether_1 : List UInt8 := dkwX3_whether_1 ++ dktX3_whether_2
def dkwX3_whether_0 : List UInt8 := [43, 42, 182, 1, 63, 181, 1, 67, 42, 182, 0, 226, 42, 19, 1, 93, 182, 0, 114, 154, 0, 12, 43, 42]
abbrev dktX3_whether_0 : List UInt8 := dkwX3_whether_0 ++ dktX3_whether_1
theorem dksX3_whether_0 : cX3_whether.data.toList.drop 0 = dktX3_whether_0 := by decide +kernel
theorem dksX3_whether_1 : cX3_whether.data.toList.drop 24 = dktX3_whether_1 := dk_seg dksX3_whether_0 24 rfl rfl
theorem dksX3_whether_2 : cX3_whether.data.toList.drop 48 = dktX3_whether_2 := dk_seg dksX3_whether_1 24 rfl rfl
theorem dX3_whether_0 : decode cX3_whether 0 = .ok (.aload_n 1, 1) := dk_43 (dk_at dksX3_whether_0 0 rfl rfl)
theorem dX3_whether_1 : decode cX3_whether 1 = .ok (.aload_n 0, 1) := dk_42 (dk_at dksX3_whether_0 1 rfl rfl)
theorem dX3_whether_2 : decode cX3_whether 2 = .ok (.invokevirtual 319, 3) := dk_182 1 63 (dk_at dksX3_whether_0 2 rfl rfl)
theorem dX3_whether_5 : decode cX3_whether 5 = .ok (.putfield 323, 3) := dk_181 1 67 (dk_at dksX3_whether_0 5 rfl rfl)
theorem dX3_whether_8 : decode cX3_whether 8 = .ok (.aload_n 0, 1) := dk_42 (dk_at dksX3_whether_0 8 rfl rfl)
theorem dX3_whether_9 : decode cX3_whether 9 = .ok (.invokevirtual 226, 3) := dk_182 0 226 (dk_at dksX3_whether_0 9 rfl rfl)
theorem dX3_whether_12 : decode cX3_whether 12 = .ok (.aload_n 0, 1) := dk_42 (dk_at dksX3_whether_0 12 rfl rfl)
theorem dX3_whether_13 : decode cX3_whether 13 = .ok (.ldc_w 349, 3) := dk_19 1 93 (dk_at dksX3_whether_0 13 rfl rfl)
theorem dX3_whether_16 : decode cX3_whether 16 = .ok (.invokevirtual 114, 3) := dk_182 0 114 (dk_at dksX3_whether_0 16 rfl rfl)
theorem dX3_whether_19 : decode cX3_whether 19 = .ok (.ifCond .ne 12, 3) := dk_154 0 12 (dk_at dksX3_whether_0 19 rfl rfl)
theorem dX3_whether_22 : decode cX3_whether 22 = .ok (.aload_n 1, 1) := dk_43 (dk_at dksX3_whether_0 22 rfl rfl)
theorem dX3_whether_23 : decode cX3_whether 23 = .ok (.aload_n 0, 1) := dk_42 (dk_at dksX3_whether_0 23 rfl rfl)
theorem dX3_whether_24 : decode cX3_whether 24 = .ok (.invokevirtual 342, 3) := dk_182 1 86 (dk_at dksX3_whether_1 0 rfl rfl)
theorem dX3_whether_27 : decode cX3_whether 27 = .ok (.putfield 346, 3) := dk_181 1 90 (dk_at dksX3_whether_1 3 rfl rfl)
theorem dX3_whether_30 : decode cX3_whether 30 = .ok (.return_, 1) := dk_177 (dk_at dksX3_whether_1 6 rfl rfl)
theorem dX3_whether_31 : decode cX3_whether 31 = .ok (.aload_n 0, 1) := dk_42 (dk_at dksX3_whether_1 7 rfl rfl)
theorem dX3_whether_32 : decode cX3_whether 32 = .ok (.bipush 21, 2) := dk_16 21 (dk_at dksX3_whether_1 8 rfl rfl)
theorem dX3_whether_34 : decode cX3_whether 34 = .ok (.iconst (-1), 1) := dk_2 (dk_at dksX3_whether_1 10 rfl rfl)
theorem dX3_whether_35 : decode cX3_whether 35 = .ok (.invokevirtual 306, 3) := dk_182 1 50 (dk_at dksX3_whether_1 11 rfl rfl)
theorem dX3_whether_38 : decode cX3_whether 38 = .ok (.astore_n 2, 1) := dk_77 (dk_at dksX3_whether_1 14 rfl rfl)
theorem dX3_whether_39 : decode cX3_whether 39 = .ok (.aload_n 1, 1) := dk_43 (dk_at dksX3_whether_1 15 rfl rfl)
theorem dX3_whether_40 : decode cX3_whether 40 = .ok (.aload_n 0, 1) := dk_42 (dk_at dksX3_whether_1 16 rfl rfl)
theorem dX3_whether_41 : decode cX3_whether 41 = .ok (.invokevirtual 342, 3) := dk_182 1 86 (dk_at dksX3_whether_1 17 rfl rfl)
theorem dX3_whether_44 : decode cX3_whether 44 = .ok (.putfield 346, 3) := dk_181 1 90 (dk_at dksX3_whether_1 20 rfl rfl)
theorem dX3_whether_47 : decode cX3_whether 47 = .ok (.aload_n 0, 1) := dk_42 (dk_at dksX3_whether_1 23 rfl rfl)
theorem dX3_whether_48 : decode cX3_whether 48 = .ok (.invokevirtual 118, 3) := dk_182 0 118 (dk_at dksX3_whether_2 0 rfl rfl)
theorem dX3_whether_51 : decode cX3_whether 51 = .ok (.aload_n 0, 1) := dk_42 (dk_at dksX3_whether_2 3 rfl rfl)
theorem dX3_whether_52 : decode cX3_whether 52 = .ok (.invokevirtual 226, 3) := dk_182 0 226 (dk_at dksX3_whether_2 4 rfl rfl)
theorem dX3_whether_55 : decode cX3_whether 55 = .ok (.aload_n 2, 1) := dk_44 (dk_at dksX3_whether_2 7 rfl rfl)
theorem dX3_whether_56 : decode cX3_whether 56 = .ok (.aload_n 0, 1) := dk_42 (dk_at dksX3_whether_2 8 rfl rfl)
theorem dX3_whether_57 : decode cX3_whether 57 = .ok (.invokevirtual 342, 3) := dk_182 1 86 (dk_at dksX3_whether_2 9 rfl rfl)
theorem dX3_whether_60 : decode cX3_whether 60 = .ok (.putfield 346, 3) := dk_181 1 90 (dk_at dksX3_whether_2 12 rfl rfl)
theorem dX3_whether_63 : decode cX3_whether 63 = .ok (.return_, 1) := dk_177 (dk_at dksX3_whether_2 15 rfl rfl)
def dkwX3_guard_2 : List UInt8 := [177]
abbrev dktX3_guard_2 : List UInt8 := dkwX3_guard_2 ++ []
def dkwX3_guard_1 : List UInt8 := [182, 1, 97, 154, 0, 9, 42, 4, 182, 0, 124, 191, 42, 182, 0, 226, 44, 42, 182, 1, 86, 181, 1, 90]
abbrev dktX3_guard_1 : List UInt8 := dkwX3_guard_1 ++ dktX3_guard_2
def dkwX3_guard_0 : List UInt8 := [42, 182, 0, 226, 42, 16, 22, 2, 182, 1, 50, 77, 43, 42, 182, 1, 86, 181, 1, 90, 42, 19, 1, 95]
abbrev dktX3_guard_0 : List UInt8 := dkwX3_guard_0 ++ dktX3_guard_1
theorem dksX3_guard_0 : cX3_guard.data.toList.drop 0 = dktX3_guard_0 := by decide +kernel
theorem dksX3_guard_1 : cX3_guard.data.toList.drop 24 = dktX3_guard_1 := dk_seg dksX3_guard_0 24 rfl rfl
theorem dksX3_guard_2 : cX3_guard.data.toList.drop 48 = dktX3_guard_2 := dk_seg dksX3_guard_1 24 rfl rfl
theorem dX3_guard_0 : decode cX3_guard 0 = .ok (.aload_n 0, 1) := dk_42 (dk_at dksX3_guard_0 0 rfl rfl)
theorem dX3_guard_1 : decode cX3_guard 1 = .ok (.invokevirtual 226, 3) := dk_182 0 226 (dk_at dksX3_guard_0 1 rfl rfl)
theorem dX3_guard_4 : decode cX3_guard 4 = .ok (.aload_n 0, 1) := dk_42 (dk_at dksX3_guard_0 4 rfl rfl)
theorem dX3_guard_5 : decode cX3_guard 5 = .ok (.bipush 22, 2) := dk_16 22 (dk_at dksX3_guard_0 5 rfl rfl)
theorem dX3_guard_7 : decode cX3_guard 7 = .ok (.iconst (-1), 1) := dk_2 (dk_at dksX3_guard_0 7 rfl rfl)
theorem dX3_guard_8 : decode cX3_guard 8 = .ok (.invokevirtual 306, 3) := dk_182 1 50 (dk_at dksX3_guard_0 8 rfl rfl)
theorem dX3_guard_11 : decode cX3_guard 11 = .ok (.astore_n 2, 1) := dk_77 (dk_at dksX3_guard_0 11 rfl rfl)
theorem dX3_guard_12 : decode cX3_guard 12 = .ok (.aload_n 1, 1) := dk_43 (dk_at dksX3_guard_0 12 rfl rfl)
theorem dX3_guard_13 : decode cX3_guard 13 = .ok (.aload_n 0, 1) := dk_42 (dk_at dksX3_guard_0 13 rfl rfl)
theorem dX3_guard_14 : decode cX3_guard 14 = .ok (.invokevirtual 342, 3) := dk_182 1 86 (dk_at dksX3_guard_0 14 rfl rfl)
theorem dX3_guard_17 : decode cX3_guard 17 = .ok (.putfield 346, 3) := dk_181 1 90 (dk_at dksX3_guard_0 17 rfl rfl)
theorem dX3_guard_20 : decode cX3_guard 20 = .ok (.aload_n 0, 1) := dk_42 (dk_at dksX3_guard_0 20 rfl rfl)
theorem dX3_guard_21 : decode cX3_guard 21 = .ok (.ldc_w 351, 3) := dk_19 1 95 (dk_at dksX3_guard_0 21 rfl rfl)
theorem dX3_guard_24 : decode cX3_guard 24 = .ok (.invokevirtual 353, 3) := dk_182 1 97 (dk_at dksX3_guard_1 0 rfl rfl)
theorem dX3_guard_27 : decode cX3_guard 27 = .ok (.ifCond .ne 9, 3) := dk_154 0 9 (dk_at dksX3_guard_1 3 rfl rfl)
theorem dX3_guard_30 : decode cX3_guard 30 = .ok (.aload_n 0, 1) := dk_42 (dk_at dksX3_guard_1 6 rfl rfl)
theorem dX3_guard_31 : decode cX3_guard 31 = .ok (.iconst 1, 1) := dk_4 (dk_at dksX3_guard_1 7 rfl rfl)
theorem dX3_guard_32 : decode cX3_guard 32 = .ok (.invokevirtual 124, 3) := dk_182 0 124 (dk_at dksX3_guard_1 8 rfl rfl)
theorem dX3_guard_35 : decode cX3_guard 35 = .ok (.athrow, 1) := dk_191 (dk_at dksX3_guard_1 11 rfl rfl)
theorem dX3_guard_36 : decode cX3_guard 36 = .ok (.aload_n 0, 1) := dk_42 (dk_at dksX3_guard_1 12 rfl rfl)
theorem dX3_guard_37 : decode cX3_guard 37 = .ok (.invokevirtual 226, 3) := dk_182 0 226 (dk_at dksX3_guard_1 13 rfl rfl)
theorem dX3_guard_40 : decode cX3_guard 40 = .ok (.aload_n 2, 1) := dk_44 (dk_at dksX3_guard_1 16 rfl rfl)
theorem dX3_guard_41 : decode cX3_guard 41 = .ok (.aload_n 0, 1) := dk_42 (dk_at dksX3_guard_1 17 rfl rfl)
theorem dX3_guard_42 : decode cX3_guard 42 = .ok (.invokevirtual 342, 3) := dk_182 1 86 (dk_at dksX3_guard_1 18 rfl rfl)
theorem dX3_guard_45 : decode cX3_guard 45 = .ok (.putfield 346, 3) := dk_181 1 90 (dk_at dksX3_guard_1 21 rfl rfl)
theorem dX3_guard_48 : decode cX3_guard 48 = .ok (.return_, 1) := dk_177 (dk_at dksX3_guard_2 0 rfl rfl)
theorem dX5_word_0 : decode cX5_word 0 = .ok (.aload_n 0, 1) := by decide +kernel
theorem dX5_word_1 : decode cX5_word 1 = .ok (.getfield 7, 3) := by decide +kernel
theorem dX5_word_4 : decode cX5_word 4 = .ok (.lreturn, 1) := by decide +kernel
def dkwX5_init_0 : List UInt8 := [42, 183, 0, 1, 42, 31, 181, 0, 7, 42, 29, 181, 0, 13, 42, 21, 4, 181, 0, 17, 177]
abbrev dktX5_init_0 : List UInt8 := dkwX5_init_0 ++ []
theorem dksX5_init_0 : cX5_init.data.toList.drop 0 = dktX5_init_0 := by decide +kernel
theorem dX5_init_0 : decode cX5_init 0 = .ok (.aload_n 0, 1) := dk_42 (dk_at dksX5_init_0 0 rfl rfl)
theorem dX5_init_1 : decode cX5_init 1 = .ok (.invokespecial 1, 3) := dk_183 0 1 (dk_at dksX5_init_0 1 rfl rfl)
theorem dX5_init_4 : decode cX5_init 4 = .ok (.aload_n 0, 1) := dk_42 (dk_at dksX5_init_0 4 rfl rfl)
theorem dX5_init_5 : decode cX5_init 5 = .ok (.lload_n 1, 1) := dk_31 (dk_at dksX5_init_0 5 rfl rfl)
theorem dX5_init_6 : decode cX5_init 6 = .ok (.putfield 7, 3) := dk_181 0 7 (dk_at dksX5_init_0 6 rfl rfl)
theorem dX5_init_9 : decode cX5_init 9 = .ok (.aload_n 0, 1) := dk_42 (dk_at dksX5_init_0 9 rfl rfl)
theorem dX5_init_10 : decode cX5_init 10 = .ok (.iload_n 3, 1) := dk_29 (dk_at dksX5_init_0 10 rfl rfl)
theorem dX5_init_11 : decode cX5_init 11 = .ok (.putfield 13, 3) := dk_181 0 13 (dk_at dksX5_init_0 11 rfl rfl)
theorem dX5_init_14 : decode cX5_init 14 = .ok (.aload_n 0, 1) := dk_42 (dk_at dksX5_init_0 14 rfl rfl)
theorem dX5_init_15 : decode cX5_init 15 = .ok (.iload 4, 2) := dk_21 4 (dk_at dksX5_init_0 15 rfl rfl)
theorem dX5_init_17 : decode cX5_init 17 = .ok (.putfield 17, 3) := dk_181 0 17 (dk_at dksX5_init_0 17 rfl rfl)
theorem dX5_init_20 : decode cX5_init 20 = .ok (.return_, 1) := dk_177 (dk_at dksX5_init_0 20 rfl rfl)
theorem dX5_sort_0 : decode cX5_sort 0 = .ok (.aload_n 0, 1) := by decide +kernel
theorem dX5_sort_1 : decode cX5_sort 1 = .ok (.getfield 13, 3) := by decide +kernel
theorem dX5_sort_4 : decode cX5_sort 4 = .ok (.ireturn, 1) := by decide +kernel
theorem dX5_number_0 : decode cX5_number 0 = .ok (.aload_n 0, 1) := by decide +kernel
theorem dX5_number_1 : decode cX5_number 1 = .ok (.getfield 17, 3) := by decide +kernel
theorem dX5_number_4 : decode cX5_number 4 = .ok (.ireturn, 1) := by decide +kernel
def dkwX6_init_0 : List UInt8 := [42, 183, 0, 1, 42, 187, 0, 7, 89, 183, 0, 9, 181, 0, 10, 42, 27, 181, 0, 16, 177]
abbrev dktX6_init_0 : List UInt8 := dkwX6_init_0 ++ []
theorem dksX6_init_0 : cX6_init.data.toList.drop 0 = dktX6_init_0 := by decide +kernel
theorem dX6_init_0 : decode cX6_init 0 = .ok (.aload_n 0, 1) := dk_42 (dk_at dksX6_init_0 0 rfl rfl)
theorem dX6_init_1 : decode cX6_init 1 = .ok (.invokespecial 1, 3) := dk_183 0 1 (dk_at dksX6_init_0 1 rfl rfl)
theorem dX6_init_4 : decode cX6_init 4 = .ok (.aload_n 0, 1) := dk_42 (dk_at dksX6_init_0 4 rfl rfl)
theorem dX6_init_5 : decode cX6_init 5 = .ok (.new 7, 3) := dk_187 0 7 (dk_at dksX6_init_0 5 rfl rfl)
theorem dX6_init_8 : decode cX6_init 8 = .ok (.dup, 1) := dk_89 (dk_at dksX6_init_0 8 rfl rfl)
theorem dX6_init_9 : decode cX6_init 9 = .ok (.invokespecial 9, 3) := dk_183 0 9 (dk_at dksX6_init_0 9 rfl rfl)
theorem dX6_init_12 : decode cX6_init 12 = .ok (.putfield 10, 3) := dk_181 0 10 (dk_at dksX6_init_0 12 rfl rfl)
theorem dX6_init_15 : decode cX6_init 15 = .ok (.aload_n 0, 1) := dk_42 (dk_at dksX6_init_0 15 rfl rfl)
theorem dX6_init_16 : decode cX6_init 16 = .ok (.iload_n 1, 1) := dk_27 (dk_at dksX6_init_0 16 rfl rfl)
theorem dX6_init_17 : decode cX6_init 17 = .ok (.putfield 16, 3) := dk_181 0 16 (dk_at dksX6_init_0 17 rfl rfl)
theorem dX6_init_20 : decode cX6_init 20 = .ok (.return_, 1) := dk_177 (dk_at dksX6_init_0 20 rfl rfl)
def dkwX7_init_1 : List UInt8 := [187, 0, 18, 89, 43, 5, 46, 183, 0, 20, 181, 0, 21, 177]
abbrev dktX7_init_1 : List UInt8 := dkwX7_init_1 ++ []
def dkwX7_init_0 : List UInt8 := [42, 3, 183, 0, 1, 42, 187, 0, 7, 89, 43, 3, 46, 43, 4, 46, 183, 0, 9, 181, 0, 12, 42]
abbrev dktX7_init_0 : List UInt8 := dkwX7_init_0 ++ dktX7_init_1
theorem dksX7_init_0 : cX7_init.data.toList.drop 0 = dktX7_init_0 := by decide +kernel
theorem dksX7_init_1 : cX7_init.data.toList.drop 23 = dktX7_init_1 := dk_seg dksX7_init_0 23 rfl rfl
theorem dX7_init_0 : decode cX7_init 0 = .ok (.aload_n 0, 1) := dk_42 (dk_at dksX7_init_0 0 rfl rfl)
theorem dX7_init_1 : decode cX7_init 1 = .ok (.iconst 0, 1) := dk_3 (dk_at dksX7_init_0 1 rfl rfl)
theorem dX7_init_2 : decode cX7_init 2 = .ok (.invokespecial 1, 3) := dk_183 0 1 (dk_at dksX7_init_0 2 rfl rfl)
theorem dX7_init_5 : decode cX7_init 5 = .ok (.aload_n 0, 1) := dk_42 (dk_at dksX7_init_0 5 rfl rfl)
theorem dX7_init_6 : decode cX7_init 6 = .ok (.new 7, 3) := dk_187 0 7 (dk_at dksX7_init_0 6 rfl rfl)
theorem dX7_init_9 : decode cX7_init 9 = .ok (.dup, 1) := dk_89 (dk_at dksX7_init_0 9 rfl rfl)
theorem dX7_init_10 : decode cX7_init 10 = .ok (.aload_n 1, 1) := dk_43 (dk_at dksX7_init_0 10 rfl rfl)
theorem dX7_init_11 : decode cX7_init 11 = .ok (.iconst 0, 1) := dk_3 (dk_at dksX7_init_0 11 rfl rfl)
theorem dX7_init_12 : decode cX7_init 12 = .ok (.iaload, 1) := dk_46 (dk_at dksX7_init_0 12 rfl rfl)
theorem dX7_init_13 : decode cX7_init 13 = .ok (.aload_n 1, 1) := dk_43 (dk_at dksX7_init_0 13 rfl rfl)
theorem dX7_init_14 : decode cX7_init 14 = .ok (.iconst 1, 1) := dk_4 (dk_at dksX7_init_0 14 rfl rfl)
theorem dX7_init_15 : decode cX7_init 15 = .ok (.iaload, 1) := dk_46 (dk_at dksX7_init_0 15 rfl rfl)
theorem dX7_init_16 : decode cX7_init 16 = .ok (.invokespecial 9, 3) := dk_183 0 9 (dk_at dksX7_init_0 16 rfl rfl)
theorem dX7_init_19 : decode cX7_init 19 = .ok (.putfield 12, 3) := dk_181 0 12 (dk_at dksX7_init_0 19 rfl rfl)
theorem dX7_init_22 : decode cX7_init 22 = .ok (.aload_n 0, 1) := dk_42 (dk_at dksX7_init_0 22 rfl rfl)
theorem dX7_init_23 : decode cX7_init 23 = .ok (.new 18, 3) := dk_187 0 18 (dk_at dksX7_init_1 0 rfl rfl)
theorem dX7_init_26 : decode cX7_init 26 = .ok (.dup, 1) := dk_89 (dk_at dksX7_init_1 3 rfl rfl)
theorem dX7_init_27 : decode cX7_init 27 = .ok (.aload_n 1, 1) := dk_43 (dk_at dksX7_init_1 4 rfl rfl)
theorem dX7_init_28 : decode cX7_init 28 = .ok (.iconst 2, 1) := dk_5 (dk_at dksX7_init_1 5 rfl rfl)
theorem dX7_init_29 : decode cX7_init 29 = .ok (.iaload, 1) := dk_46 (dk_at dksX7_init_1 6 rfl rfl)
theorem dX7_init_30 : decode cX7_init 30 = .ok (.invokespecial 20, 3) := dk_183 0 20 (dk_at dksX7_init_1 7 rfl rfl)
theorem dX7_init_33 : decode cX7_init 33 = .ok (.putfield 21, 3) := dk_181 0 21 (dk_at dksX7_init_1 10 rfl rfl)
theorem dX7_init_36 : decode cX7_init 36 = .ok (.return_, 1) := dk_177 (dk_at dksX7_init_1 13 rfl rfl)
theorem dX7_spin_0 : decode cX7_spin 0 = .ok (.aload_n 0, 1) := by decide +kernel
theorem dX7_spin_1 : decode cX7_spin 1 = .ok (.getfield 12, 3) := by decide +kernel
theorem dX7_spin_4 : decode cX7_spin 4 = .ok (.areturn, 1) := by decide +kernel
theorem dX7_bench_0 : decode cX7_bench 0 = .ok (.aload_n 0, 1) := by decide +kernel
theorem dX7_bench_1 : decode cX7_bench 1 = .ok (.getfield 21, 3) := by decide +kernel
theorem dX7_bench_4 : decode cX7_bench 4 = .ok (.areturn, 1) := by decide +kernel
def dkwX8_init_2 : List UInt8 := [16, 11, 188, 4, 181, 0, 31, 177]
abbrev dktX8_init_2 : List UInt8 := dkwX8_init_2 ++ []
def dkwX8_init_1 : List UInt8 := [16, 6, 188, 10, 181, 0, 22, 42, 16, 11, 188, 10, 181, 0, 25, 42, 16, 11, 188, 10, 181, 0, 28, 42]
abbrev dktX8_init_1 : List UInt8 := dkwX8_init_1 ++ dktX8_init_2
def dkwX8_init_0 : List UInt8 := [42, 183, 0, 3, 42, 187, 0, 9, 89, 183, 0, 11, 181, 0, 12, 42, 7, 188, 10, 181, 0, 18, 42]
abbrev dktX8_init_0 : List UInt8 := dkwX8_init_0 ++ dktX8_init_1
theorem dksX8_init_0 : cX8_init.data.toList.drop 0 = dktX8_init_0 := by decide +kernel
theorem dksX8_init_1 : cX8_init.data.toList.drop 23 = dktX8_init_1 := dk_seg dksX8_init_0 23 rfl rfl
theorem dksX8_init_2 : cX8_init.data.toList.drop 47 = dktX8_init_2 := dk_seg dksX8_init_1 24 rfl rfl
theorem dX8_init_0 : decode cX8_init 0 = .ok (.aload_n 0, 1) := dk_42 (dk_at dksX8_init_0 0 rfl rfl)
theorem dX8_init_1 : decode cX8_init 1 = .ok (.invokespecial 3, 3) := dk_183 0 3 (dk_at dksX8_init_0 1 rfl rfl)
theorem dX8_init_4 : decode cX8_init 4 = .ok (.aload_n 0, 1) := dk_42 (dk_at dksX8_init_0 4 rfl rfl)
theorem dX8_init_5 : decode cX8_init 5 = .ok (.new 9, 3) := dk_187 0 9 (dk_at dksX8_init_0 5 rfl rfl)
theorem dX8_init_8 : decode cX8_init 8 = .ok (.dup, 1) := dk_89 (dk_at dksX8_init_0 8 rfl rfl)
theorem dX8_init_9 : decode cX8_init 9 = .ok (.invokespecial 11, 3) := dk_183 0 11 (dk_at dksX8_init_0 9 rfl rfl)
theorem dX8_init_12 : decode cX8_init 12 = .ok (.putfield 12, 3) := dk_181 0 12 (dk_at dksX8_init_0 12 rfl rfl)
theorem dX8_init_15 : decode cX8_init 15 = .ok (.aload_n 0, 1) := dk_42 (dk_at dksX8_init_0 15 rfl rfl)
theorem dX8_init_16 : decode cX8_init 16 = .ok (.iconst 4, 1) := dk_7 (dk_at dksX8_init_0 16 rfl rfl)
theorem dX8_init_17 : decode cX8_init 17 = .ok (.newarray .int, 2) := dk_188_10 (dk_at dksX8_init_0 17 rfl rfl)
theorem dX8_init_19 : decode cX8_init 19 = .ok (.putfield 18, 3) := dk_181 0 18 (dk_at dksX8_init_0 19 rfl rfl)
theorem dX8_init_22 : decode cX8_init 22 = .ok (.aload_n 0, 1) := dk_42 (dk_at dksX8_init_0 22 rfl rfl)
theorem dX8_init_23 : decode cX8_init 23 = .ok (.bipush 6, 2) := dk_16 6 (dk_at dksX8_init_1 0 rfl rfl)
theorem dX8_init_25 : decode cX8_init 25 = .ok (.newarray .int, 2) := dk_188_10 (dk_at dksX8_init_1 2 rfl rfl)
theorem dX8_init_27 : decode cX8_init 27 = .ok (.putfield 22, 3) := dk_181 0 22 (dk_at dksX8_init_1 4 rfl rfl)
theorem dX8_init_30 : decode cX8_init 30 = .ok (.aload_n 0, 1) := dk_42 (dk_at dksX8_init_1 7 rfl rfl)
theorem dX8_init_31 : decode cX8_init 31 = .ok (.bipush 11, 2) := dk_16 11 (dk_at dksX8_init_1 8 rfl rfl)
theorem dX8_init_33 : decode cX8_init 33 = .ok (.newarray .int, 2) := dk_188_10 (dk_at dksX8_init_1 10 rfl rfl)
theorem dX8_init_35 : decode cX8_init 35 = .ok (.putfield 25, 3) := dk_181 0 25 (dk_at dksX8_init_1 12 rfl rfl)
theorem dX8_init_38 : decode cX8_init 38 = .ok (.aload_n 0, 1) := dk_42 (dk_at dksX8_init_1 15 rfl rfl)
theorem dX8_init_39 : decode cX8_init 39 = .ok (.bipush 11, 2) := dk_16 11 (dk_at dksX8_init_1 16 rfl rfl)
theorem dX8_init_41 : decode cX8_init 41 = .ok (.newarray .int, 2) := dk_188_10 (dk_at dksX8_init_1 18 rfl rfl)
theorem dX8_init_43 : decode cX8_init 43 = .ok (.putfield 28, 3) := dk_181 0 28 (dk_at dksX8_init_1 20 rfl rfl)
theorem dX8_init_46 : decode cX8_init 46 = .ok (.aload_n 0, 1) := dk_42 (dk_at dksX8_init_1 23 rfl rfl)
theorem dX8_init_47 : decode cX8_init 47 = .ok (.bipush 11, 2) := dk_16 11 (dk_at dksX8_init_2 0 rfl rfl)
theorem dX8_init_49 : decode cX8_init 49 = .ok (.newarray .boolean, 2) := dk_188_4 (dk_at dksX8_init_2 2 rfl rfl)
theorem dX8_init_51 : decode cX8_init 51 = .ok (.putfield 31, 3) := dk_181 0 31 (dk_at dksX8_init_2 4 rfl rfl)
theorem dX8_init_54 : decode cX8_init 54 = .ok (.return_, 1) := dk_177 (dk_at dksX8_init_2 7 rfl rfl)
def dkwX8_add_0 : List UInt8 := [42, 180, 0, 12, 43, 182, 0, 35, 87, 42, 180, 0, 12, 182, 0, 39, 4, 100, 172]
abbrev dktX8_add_0 : List UInt8 := dkwX8_add_0 ++ []
theorem dksX8_add_0 : cX8_add.data.toList.drop 0 = dktX8_add_0 := by decide +kernel
theorem dX8_add_0 : decode cX8_add 0 = .ok (.aload_n 0, 1) := dk_42 (dk_at dksX8_add_0 0 rfl rfl)
theorem dX8_add_1 : decode cX8_add 1 = .ok (.getfield 12, 3) := dk_180 0 12 (dk_at dksX8_add_0 1 rfl rfl)
theorem dX8_add_4 : decode cX8_add 4 = .ok (.aload_n 1, 1) := dk_43 (dk_at dksX8_add_0 4 rfl rfl)
theorem dX8_add_5 : decode cX8_add 5 = .ok (.invokevirtual 35, 3) := dk_182 0 35 (dk_at dksX8_add_0 5 rfl rfl)
theorem dX8_add_8 : decode cX8_add 8 = .ok (.pop, 1) := dk_87 (dk_at dksX8_add_0 8 rfl rfl)
theorem dX8_add_9 : decode cX8_add 9 = .ok (.aload_n 0, 1) := dk_42 (dk_at dksX8_add_0 9 rfl rfl)
theorem dX8_add_10 : decode cX8_add 10 = .ok (.getfield 12, 3) := dk_180 0 12 (dk_at dksX8_add_0 10 rfl rfl)
theorem dX8_add_13 : decode cX8_add 13 = .ok (.invokevirtual 39, 3) := dk_182 0 39 (dk_at dksX8_add_0 13 rfl rfl)
theorem dX8_add_16 : decode cX8_add 16 = .ok (.iconst 1, 1) := dk_4 (dk_at dksX8_add_0 16 rfl rfl)
theorem dX8_add_17 : decode cX8_add 17 = .ok (.isub, 1) := dk_100 (dk_at dksX8_add_0 17 rfl rfl)
theorem dX8_add_18 : decode cX8_add 18 = .ok (.ireturn, 1) := dk_172 (dk_at dksX8_add_0 18 rfl rfl)
def dkwX8_clear_3 : List UInt8 := [177]
abbrev dktX8_clear_3 : List UInt8 := dkwX8_clear_3 ++ []
def dkwX8_clear_2 : List UInt8 := [3, 181, 0, 43, 42, 3, 181, 0, 56, 42, 3, 181, 0, 60, 42, 3, 181, 0, 63, 42, 3, 181, 0, 66]
abbrev dktX8_clear_2 : List UInt8 := dkwX8_clear_2 ++ dktX8_clear_3
def dkwX8_clear_1 : List UInt8 := [16, 6, 162, 0, 16, 42, 180, 0, 22, 27, 3, 79, 132, 1, 1, 167, 255, 240, 42, 3, 181, 0, 53, 42]
abbrev dktX8_clear_1 : List UInt8 := dkwX8_clear_1 ++ dktX8_clear_2
def dkwX8_clear_0 : List UInt8 := [3, 60, 27, 7, 162, 0, 16, 42, 180, 0, 18, 27, 3, 79, 132, 1, 1, 167, 255, 241, 3, 60, 27]
abbrev dktX8_clear_0 : List UInt8 := dkwX8_clear_0 ++ dktX8_clear_1
theorem dksX8_clear_0 : cX8_clear.data.toList.drop 0 = dktX8_clear_0 := by decide +kernel
theorem dksX8_clear_1 : cX8_clear.data.toList.drop 23 = dktX8_clear_1 := dk_seg dksX8_clear_0 23 rfl rfl
theorem dksX8_clear_2 : cX8_clear.data.toList.drop 47 = dktX8_clear_2 := dk_seg dksX8_clear_1 24 rfl rfl
theorem dksX8_clear_3 : cX8_clear.data.toList.drop 71 = dktX8_clear_3 := dk_seg dksX8_clear_2 24 rfl rfl
theorem dX8_clear_0 : decode cX8_clear 0 = .ok (.iconst 0, 1) := dk_3 (dk_at dksX8_clear_0 0 rfl rfl)
theorem dX8_clear_1 : decode cX8_clear 1 = .ok (.istore_n 1, 1) := dk_60 (dk_at dksX8_clear_0 1 rfl rfl)
theorem dX8_clear_2 : decode cX8_clear 2 = .ok (.iload_n 1, 1) := dk_27 (dk_at dksX8_clear_0 2 rfl rfl)
theorem dX8_clear_3 : decode cX8_clear 3 = .ok (.iconst 4, 1) := dk_7 (dk_at dksX8_clear_0 3 rfl rfl)
theorem dX8_clear_4 : decode cX8_clear 4 = .ok (.if_icmp .ge 16, 3) := dk_162 0 16 (dk_at dksX8_clear_0 4 rfl rfl)
theorem dX8_clear_7 : decode cX8_clear 7 = .ok (.aload_n 0, 1) := dk_42 (dk_at dksX8_clear_0 7 rfl rfl)
theorem dX8_clear_8 : decode cX8_clear 8 = .ok (.getfield 18, 3) := dk_180 0 18 (dk_at dksX8_clear_0 8 rfl rfl)
theorem dX8_clear_11 : decode cX8_clear 11 = .ok (.iload_n 1, 1) := dk_27 (dk_at dksX8_clear_0 11 rfl rfl)
theorem dX8_clear_12 : decode cX8_clear 12 = .ok (.iconst 0, 1) := dk_3 (dk_at dksX8_clear_0 12 rfl rfl)
theorem dX8_clear_13 : decode cX8_clear 13 = .ok (.iastore, 1) := dk_79 (dk_at dksX8_clear_0 13 rfl rfl)
theorem dX8_clear_14 : decode cX8_clear 14 = .ok (.iinc 1 1, 3) := dk_132 1 1 (dk_at dksX8_clear_0 14 rfl rfl)
theorem dX8_clear_17 : decode cX8_clear 17 = .ok (.goto (-15), 3) := dk_167 255 241 (dk_at dksX8_clear_0 17 rfl rfl)
theorem dX8_clear_20 : decode cX8_clear 20 = .ok (.iconst 0, 1) := dk_3 (dk_at dksX8_clear_0 20 rfl rfl)
theorem dX8_clear_21 : decode cX8_clear 21 = .ok (.istore_n 1, 1) := dk_60 (dk_at dksX8_clear_0 21 rfl rfl)
theorem dX8_clear_22 : decode cX8_clear 22 = .ok (.iload_n 1, 1) := dk_27 (dk_at dksX8_clear_0 22 rfl rfl)
theorem dX8_clear_23 : decode cX8_clear 23 = .ok (.bipush 6, 2) := dk_16 6 (dk_at dksX8_clear_1 0 rfl rfl)
theorem dX8_clear_25 : decode cX8_clear 25 = .ok (.if_icmp .ge 16, 3) := dk_162 0 16 (dk_at dksX8_clear_1 2 rfl rfl)
theorem dX8_clear_28 : decode cX8_clear 28 = .ok (.aload_n 0, 1) := dk_42 (dk_at dksX8_clear_1 5 rfl rfl)
theorem dX8_clear_29 : decode cX8_clear 29 = .ok (.getfield 22, 3) := dk_180 0 22 (dk_at dksX8_clear_1 6 rfl rfl)
theorem dX8_clear_32 : decode cX8_clear 32 = .ok (.iload_n 1, 1) := dk_27 (dk_at dksX8_clear_1 9 rfl rfl)
theorem dX8_clear_33 : decode cX8_clear 33 = .ok (.iconst 0, 1) := dk_3 (dk_at dksX8_clear_1 10 rfl rfl)
theorem dX8_clear_34 : decode cX8_clear 34 = .ok (.iastore, 1) := dk_79 (dk_at dksX8_clear_1 11 rfl rfl)
theorem dX8_clear_35 : decode cX8_clear 35 = .ok (.iinc 1 1, 3) := dk_132 1 1 (dk_at dksX8_clear_1 12 rfl rfl)
theorem dX8_clear_38 : decode cX8_clear 38 = .ok (.goto (-16), 3) := dk_167 255 240 (dk_at dksX8_clear_1 15 rfl rfl)
theorem dX8_clear_41 : decode cX8_clear 41 = .ok (.aload_n 0, 1) := dk_42 (dk_at dksX8_clear_1 18 rfl rfl)
theorem dX8_clear_42 : decode cX8_clear 42 = .ok (.iconst 0, 1) := dk_3 (dk_at dksX8_clear_1 19 rfl rfl)
theorem dX8_clear_43 : decode cX8_clear 43 = .ok (.putfield 53, 3) := dk_181 0 53 (dk_at dksX8_clear_1 20 rfl rfl)
theorem dX8_clear_46 : decode cX8_clear 46 = .ok (.aload_n 0, 1) := dk_42 (dk_at dksX8_clear_1 23 rfl rfl)
theorem dX8_clear_47 : decode cX8_clear 47 = .ok (.iconst 0, 1) := dk_3 (dk_at dksX8_clear_2 0 rfl rfl)
theorem dX8_clear_48 : decode cX8_clear 48 = .ok (.putfield 43, 3) := dk_181 0 43 (dk_at dksX8_clear_2 1 rfl rfl)
theorem dX8_clear_51 : decode cX8_clear 51 = .ok (.aload_n 0, 1) := dk_42 (dk_at dksX8_clear_2 4 rfl rfl)
theorem dX8_clear_52 : decode cX8_clear 52 = .ok (.iconst 0, 1) := dk_3 (dk_at dksX8_clear_2 5 rfl rfl)
theorem dX8_clear_53 : decode cX8_clear 53 = .ok (.putfield 56, 3) := dk_181 0 56 (dk_at dksX8_clear_2 6 rfl rfl)
theorem dX8_clear_56 : decode cX8_clear 56 = .ok (.aload_n 0, 1) := dk_42 (dk_at dksX8_clear_2 9 rfl rfl)
theorem dX8_clear_57 : decode cX8_clear 57 = .ok (.iconst 0, 1) := dk_3 (dk_at dksX8_clear_2 10 rfl rfl)
theorem dX8_clear_58 : decode cX8_clear 58 = .ok (.putfield 60, 3) := dk_181 0 60 (dk_at dksX8_clear_2 11 rfl rfl)
theorem dX8_clear_61 : decode cX8_clear 61 = .ok (.aload_n 0, 1) := dk_42 (dk_at dksX8_clear_2 14 rfl rfl)
theorem dX8_clear_62 : decode cX8_clear 62 = .ok (.iconst 0, 1) := dk_3 (dk_at dksX8_clear_2 15 rfl rfl)
theorem dX8_clear_63 : decode cX8_clear 63 = .ok (.putfield 63, 3) := dk_181 0 63 (dk_at dksX8_clear_2 16 rfl rfl)
theorem dX8_clear_66 : decode cX8_clear 66 = .ok (.aload_n 0, 1) := dk_42 (dk_at dksX8_clear_2 19 rfl rfl)
theorem dX8_clear_67 : decode cX8_clear 67 = .ok (.iconst 0, 1) := dk_3 (dk_at dksX8_clear_2 20 rfl rfl)
theorem dX8_clear_68 : decode cX8_clear 68 = .ok (.putfield 66, 3) := dk_181 0 66 (dk_at dksX8_clear_2 21 rfl rfl)
theorem dX8_clear_71 : decode cX8_clear 71 = .ok (.return_, 1) := dk_177 (dk_at dksX8_clear_3 0 rfl rfl)
def dkwX8_now_0 : List UInt8 := [42, 180, 0, 12, 42, 180, 0, 43, 182, 0, 47, 192, 0, 51, 176]
abbrev dktX8_now_0 : List UInt8 := dkwX8_now_0 ++ []
theorem dksX8_now_0 : cX8_now.data.toList.drop 0 = dktX8_now_0 := by decide +kernel
theorem dX8_now_0 : decode cX8_now 0 = .ok (.aload_n 0, 1) := dk_42 (dk_at dksX8_now_0 0 rfl rfl)
theorem dX8_now_1 : decode cX8_now 1 = .ok (.getfield 12, 3) := dk_180 0 12 (dk_at dksX8_now_0 1 rfl rfl)
theorem dX8_now_4 : decode cX8_now 4 = .ok (.aload_n 0, 1) := dk_42 (dk_at dksX8_now_0 4 rfl rfl)
theorem dX8_now_5 : decode cX8_now 5 = .ok (.getfield 43, 3) := dk_180 0 43 (dk_at dksX8_now_0 5 rfl rfl)
theorem dX8_now_8 : decode cX8_now 8 = .ok (.invokevirtual 47, 3) := dk_182 0 47 (dk_at dksX8_now_0 8 rfl rfl)
theorem dX8_now_11 : decode cX8_now 11 = .ok (.checkcast 51, 3) := dk_192 0 51 (dk_at dksX8_now_0 11 rfl rfl)
theorem dX8_now_14 : decode cX8_now 14 = .ok (.areturn, 1) := dk_176 (dk_at dksX8_now_0 14 rfl rfl)
def dkwX8_settles_5 : List UInt8 := [167, 255, 141]
abbrev dktX8_settles_5 : List UInt8 := dkwX8_settles_5 ++ []
def dkwX8_settles_4 : List UInt8 := [180, 0, 53, 4, 100, 181, 0, 53, 42, 89, 180, 0, 43, 4, 96, 181, 0, 43, 167, 0, 5, 3, 172]
abbrev dktX8_settles_4 : List UInt8 := dkwX8_settles_4 ++ dktX8_settles_5
def dkwX8_settles_3 : List UInt8 := [16, 20, 160, 0, 41, 42, 180, 0, 25, 42, 180, 0, 53, 4, 100, 46, 4, 160, 0, 26, 42, 89]
abbrev dktX8_settles_3 : List UInt8 := dkwX8_settles_3 ++ dktX8_settles_4
def dkwX8_settles_2 : List UInt8 := [89, 180, 0, 53, 4, 100, 181, 0, 53, 42, 43, 180, 0, 76, 181, 0, 43, 167, 0, 52, 43, 180, 0, 73]
abbrev dktX8_settles_2 : List UInt8 := dkwX8_settles_2 ++ dktX8_settles_3
def dkwX8_settles_1 : List UInt8 := [160, 0, 14, 42, 43, 180, 0, 76, 181, 0, 43, 167, 0, 82, 43, 180, 0, 73, 16, 22, 160, 0, 24, 42]
abbrev dktX8_settles_1 : List UInt8 := dkwX8_settles_1 ++ dktX8_settles_2
def dkwX8_settles_0 : List UInt8 := [42, 182, 0, 69, 76, 43, 180, 0, 73, 16, 23, 160, 0, 5, 4, 172, 43, 180, 0, 73, 16, 21]
abbrev dktX8_settles_0 : List UInt8 := dkwX8_settles_0 ++ dktX8_settles_1
theorem dksX8_settles_0 : cX8_settles.data.toList.drop 0 = dktX8_settles_0 := by decide +kernel
theorem dksX8_settles_1 : cX8_settles.data.toList.drop 22 = dktX8_settles_1 := dk_seg dksX8_settles_0 22 rfl rfl
theorem dksX8_settles_2 : cX8_settles.data.toList.drop 46 = dktX8_settles_2 := dk_seg dksX8_settles_1 24 rfl rfl
theorem dksX8_settles_3 : cX8_settles.data.toList.drop 70 = dktX8_settles_3 := dk_seg dksX8_settles_2 24 rfl rfl
theorem dksX8_settles_4 : cX8_settles.data.toList.drop 92 = dktX8_settles_4 := dk_seg dksX8_settles_3 22 rfl rfl
theorem dksX8_settles_5 : cX8_settles.data.toList.drop 115 = dktX8_settles_5 := dk_seg dksX8_settles_4 23 rfl rfl
theorem dX8_settles_0 : decode cX8_settles 0 = .ok (.aload_n 0, 1) := dk_42 (dk_at dksX8_settles_0 0 rfl rfl)
theorem dX8_settles_1 : decode cX8_settles 1 = .ok (.invokevirtual 69, 3) := dk_182 0 69 (dk_at dksX8_settles_0 1 rfl rfl)
theorem dX8_settles_4 : decode cX8_settles 4 = .ok (.astore_n 1, 1) := dk_76 (dk_at dksX8_settles_0 4 rfl rfl)
theorem dX8_settles_5 : decode cX8_settles 5 = .ok (.aload_n 1, 1) := dk_43 (dk_at dksX8_settles_0 5 rfl rfl)
theorem dX8_settles_6 : decode cX8_settles 6 = .ok (.getfield 73, 3) := dk_180 0 73 (dk_at dksX8_settles_0 6 rfl rfl)
theorem dX8_settles_9 : decode cX8_settles 9 = .ok (.bipush 23, 2) := dk_16 23 (dk_at dksX8_settles_0 9 rfl rfl)
theorem dX8_settles_11 : decode cX8_settles 11 = .ok (.if_icmp .ne 5, 3) := dk_160 0 5 (dk_at dksX8_settles_0 11 rfl rfl)
theorem dX8_settles_14 : decode cX8_settles 14 = .ok (.iconst 1, 1) := dk_4 (dk_at dksX8_settles_0 14 rfl rfl)
theorem dX8_settles_15 : decode cX8_settles 15 = .ok (.ireturn, 1) := dk_172 (dk_at dksX8_settles_0 15 rfl rfl)
theorem dX8_settles_16 : decode cX8_settles 16 = .ok (.aload_n 1, 1) := dk_43 (dk_at dksX8_settles_0 16 rfl rfl)
theorem dX8_settles_17 : decode cX8_settles 17 = .ok (.getfield 73, 3) := dk_180 0 73 (dk_at dksX8_settles_0 17 rfl rfl)
theorem dX8_settles_20 : decode cX8_settles 20 = .ok (.bipush 21, 2) := dk_16 21 (dk_at dksX8_settles_0 20 rfl rfl)
theorem dX8_settles_22 : decode cX8_settles 22 = .ok (.if_icmp .ne 14, 3) := dk_160 0 14 (dk_at dksX8_settles_1 0 rfl rfl)
theorem dX8_settles_25 : decode cX8_settles 25 = .ok (.aload_n 0, 1) := dk_42 (dk_at dksX8_settles_1 3 rfl rfl)
theorem dX8_settles_26 : decode cX8_settles 26 = .ok (.aload_n 1, 1) := dk_43 (dk_at dksX8_settles_1 4 rfl rfl)
theorem dX8_settles_27 : decode cX8_settles 27 = .ok (.getfield 76, 3) := dk_180 0 76 (dk_at dksX8_settles_1 5 rfl rfl)
theorem dX8_settles_30 : decode cX8_settles 30 = .ok (.putfield 43, 3) := dk_181 0 43 (dk_at dksX8_settles_1 8 rfl rfl)
theorem dX8_settles_33 : decode cX8_settles 33 = .ok (.goto 82, 3) := dk_167 0 82 (dk_at dksX8_settles_1 11 rfl rfl)
theorem dX8_settles_36 : decode cX8_settles 36 = .ok (.aload_n 1, 1) := dk_43 (dk_at dksX8_settles_1 14 rfl rfl)
theorem dX8_settles_37 : decode cX8_settles 37 = .ok (.getfield 73, 3) := dk_180 0 73 (dk_at dksX8_settles_1 15 rfl rfl)
theorem dX8_settles_40 : decode cX8_settles 40 = .ok (.bipush 22, 2) := dk_16 22 (dk_at dksX8_settles_1 18 rfl rfl)
theorem dX8_settles_42 : decode cX8_settles 42 = .ok (.if_icmp .ne 24, 3) := dk_160 0 24 (dk_at dksX8_settles_1 20 rfl rfl)
theorem dX8_settles_45 : decode cX8_settles 45 = .ok (.aload_n 0, 1) := dk_42 (dk_at dksX8_settles_1 23 rfl rfl)
theorem dX8_settles_46 : decode cX8_settles 46 = .ok (.dup, 1) := dk_89 (dk_at dksX8_settles_2 0 rfl rfl)
theorem dX8_settles_47 : decode cX8_settles 47 = .ok (.getfield 53, 3) := dk_180 0 53 (dk_at dksX8_settles_2 1 rfl rfl)
theorem dX8_settles_50 : decode cX8_settles 50 = .ok (.iconst 1, 1) := dk_4 (dk_at dksX8_settles_2 4 rfl rfl)
theorem dX8_settles_51 : decode cX8_settles 51 = .ok (.isub, 1) := dk_100 (dk_at dksX8_settles_2 5 rfl rfl)
theorem dX8_settles_52 : decode cX8_settles 52 = .ok (.putfield 53, 3) := dk_181 0 53 (dk_at dksX8_settles_2 6 rfl rfl)
theorem dX8_settles_55 : decode cX8_settles 55 = .ok (.aload_n 0, 1) := dk_42 (dk_at dksX8_settles_2 9 rfl rfl)
theorem dX8_settles_56 : decode cX8_settles 56 = .ok (.aload_n 1, 1) := dk_43 (dk_at dksX8_settles_2 10 rfl rfl)
theorem dX8_settles_57 : decode cX8_settles 57 = .ok (.getfield 76, 3) := dk_180 0 76 (dk_at dksX8_settles_2 11 rfl rfl)
theorem dX8_settles_60 : decode cX8_settles 60 = .ok (.putfield 43, 3) := dk_181 0 43 (dk_at dksX8_settles_2 14 rfl rfl)
theorem dX8_settles_63 : decode cX8_settles 63 = .ok (.goto 52, 3) := dk_167 0 52 (dk_at dksX8_settles_2 17 rfl rfl)
theorem dX8_settles_66 : decode cX8_settles 66 = .ok (.aload_n 1, 1) := dk_43 (dk_at dksX8_settles_2 20 rfl rfl)
theorem dX8_settles_67 : decode cX8_settles 67 = .ok (.getfield 73, 3) := dk_180 0 73 (dk_at dksX8_settles_2 21 rfl rfl)
theorem dX8_settles_70 : decode cX8_settles 70 = .ok (.bipush 20, 2) := dk_16 20 (dk_at dksX8_settles_3 0 rfl rfl)
theorem dX8_settles_72 : decode cX8_settles 72 = .ok (.if_icmp .ne 41, 3) := dk_160 0 41 (dk_at dksX8_settles_3 2 rfl rfl)
theorem dX8_settles_75 : decode cX8_settles 75 = .ok (.aload_n 0, 1) := dk_42 (dk_at dksX8_settles_3 5 rfl rfl)
theorem dX8_settles_76 : decode cX8_settles 76 = .ok (.getfield 25, 3) := dk_180 0 25 (dk_at dksX8_settles_3 6 rfl rfl)
theorem dX8_settles_79 : decode cX8_settles 79 = .ok (.aload_n 0, 1) := dk_42 (dk_at dksX8_settles_3 9 rfl rfl)
theorem dX8_settles_80 : decode cX8_settles 80 = .ok (.getfield 53, 3) := dk_180 0 53 (dk_at dksX8_settles_3 10 rfl rfl)
theorem dX8_settles_83 : decode cX8_settles 83 = .ok (.iconst 1, 1) := dk_4 (dk_at dksX8_settles_3 13 rfl rfl)
theorem dX8_settles_84 : decode cX8_settles 84 = .ok (.isub, 1) := dk_100 (dk_at dksX8_settles_3 14 rfl rfl)
theorem dX8_settles_85 : decode cX8_settles 85 = .ok (.iaload, 1) := dk_46 (dk_at dksX8_settles_3 15 rfl rfl)
theorem dX8_settles_86 : decode cX8_settles 86 = .ok (.iconst 1, 1) := dk_4 (dk_at dksX8_settles_3 16 rfl rfl)
theorem dX8_settles_87 : decode cX8_settles 87 = .ok (.if_icmp .ne 26, 3) := dk_160 0 26 (dk_at dksX8_settles_3 17 rfl rfl)
theorem dX8_settles_90 : decode cX8_settles 90 = .ok (.aload_n 0, 1) := dk_42 (dk_at dksX8_settles_3 20 rfl rfl)
theorem dX8_settles_91 : decode cX8_settles 91 = .ok (.dup, 1) := dk_89 (dk_at dksX8_settles_3 21 rfl rfl)
theorem dX8_settles_92 : decode cX8_settles 92 = .ok (.getfield 53, 3) := dk_180 0 53 (dk_at dksX8_settles_4 0 rfl rfl)
theorem dX8_settles_95 : decode cX8_settles 95 = .ok (.iconst 1, 1) := dk_4 (dk_at dksX8_settles_4 3 rfl rfl)
theorem dX8_settles_96 : decode cX8_settles 96 = .ok (.isub, 1) := dk_100 (dk_at dksX8_settles_4 4 rfl rfl)
theorem dX8_settles_97 : decode cX8_settles 97 = .ok (.putfield 53, 3) := dk_181 0 53 (dk_at dksX8_settles_4 5 rfl rfl)
theorem dX8_settles_100 : decode cX8_settles 100 = .ok (.aload_n 0, 1) := dk_42 (dk_at dksX8_settles_4 8 rfl rfl)
theorem dX8_settles_101 : decode cX8_settles 101 = .ok (.dup, 1) := dk_89 (dk_at dksX8_settles_4 9 rfl rfl)
theorem dX8_settles_102 : decode cX8_settles 102 = .ok (.getfield 43, 3) := dk_180 0 43 (dk_at dksX8_settles_4 10 rfl rfl)
theorem dX8_settles_105 : decode cX8_settles 105 = .ok (.iconst 1, 1) := dk_4 (dk_at dksX8_settles_4 13 rfl rfl)
theorem dX8_settles_106 : decode cX8_settles 106 = .ok (.iadd, 1) := dk_96 (dk_at dksX8_settles_4 14 rfl rfl)
theorem dX8_settles_107 : decode cX8_settles 107 = .ok (.putfield 43, 3) := dk_181 0 43 (dk_at dksX8_settles_4 15 rfl rfl)
theorem dX8_settles_110 : decode cX8_settles 110 = .ok (.goto 5, 3) := dk_167 0 5 (dk_at dksX8_settles_4 18 rfl rfl)
theorem dX8_settles_113 : decode cX8_settles 113 = .ok (.iconst 0, 1) := dk_3 (dk_at dksX8_settles_4 21 rfl rfl)
theorem dX8_settles_114 : decode cX8_settles 114 = .ok (.ireturn, 1) := dk_172 (dk_at dksX8_settles_4 22 rfl rfl)
theorem dX8_settles_115 : decode cX8_settles 115 = .ok (.goto (-115), 3) := dk_167 255 141 (dk_at dksX8_settles_5 0 rfl rfl)
def dkwX8_enter_1 : List UInt8 := [42, 180, 0, 53, 29, 79, 42, 89, 180, 0, 53, 4, 96, 181, 0, 53, 177]
abbrev dktX8_enter_1 : List UInt8 := dkwX8_enter_1 ++ []
def dkwX8_enter_0 : List UInt8 := [42, 180, 0, 31, 42, 180, 0, 53, 27, 84, 42, 180, 0, 25, 42, 180, 0, 53, 28, 79, 42, 180, 0, 28]
abbrev dktX8_enter_0 : List UInt8 := dkwX8_enter_0 ++ dktX8_enter_1
theorem dksX8_enter_0 : cX8_enter.data.toList.drop 0 = dktX8_enter_0 := by decide +kernel
theorem dksX8_enter_1 : cX8_enter.data.toList.drop 24 = dktX8_enter_1 := dk_seg dksX8_enter_0 24 rfl rfl
theorem dX8_enter_0 : decode cX8_enter 0 = .ok (.aload_n 0, 1) := dk_42 (dk_at dksX8_enter_0 0 rfl rfl)
theorem dX8_enter_1 : decode cX8_enter 1 = .ok (.getfield 31, 3) := dk_180 0 31 (dk_at dksX8_enter_0 1 rfl rfl)
theorem dX8_enter_4 : decode cX8_enter 4 = .ok (.aload_n 0, 1) := dk_42 (dk_at dksX8_enter_0 4 rfl rfl)
theorem dX8_enter_5 : decode cX8_enter 5 = .ok (.getfield 53, 3) := dk_180 0 53 (dk_at dksX8_enter_0 5 rfl rfl)
theorem dX8_enter_8 : decode cX8_enter 8 = .ok (.iload_n 1, 1) := dk_27 (dk_at dksX8_enter_0 8 rfl rfl)
theorem dX8_enter_9 : decode cX8_enter 9 = .ok (.bastore, 1) := dk_84 (dk_at dksX8_enter_0 9 rfl rfl)
theorem dX8_enter_10 : decode cX8_enter 10 = .ok (.aload_n 0, 1) := dk_42 (dk_at dksX8_enter_0 10 rfl rfl)
theorem dX8_enter_11 : decode cX8_enter 11 = .ok (.getfield 25, 3) := dk_180 0 25 (dk_at dksX8_enter_0 11 rfl rfl)
theorem dX8_enter_14 : decode cX8_enter 14 = .ok (.aload_n 0, 1) := dk_42 (dk_at dksX8_enter_0 14 rfl rfl)
theorem dX8_enter_15 : decode cX8_enter 15 = .ok (.getfield 53, 3) := dk_180 0 53 (dk_at dksX8_enter_0 15 rfl rfl)
theorem dX8_enter_18 : decode cX8_enter 18 = .ok (.iload_n 2, 1) := dk_28 (dk_at dksX8_enter_0 18 rfl rfl)
theorem dX8_enter_19 : decode cX8_enter 19 = .ok (.iastore, 1) := dk_79 (dk_at dksX8_enter_0 19 rfl rfl)
theorem dX8_enter_20 : decode cX8_enter 20 = .ok (.aload_n 0, 1) := dk_42 (dk_at dksX8_enter_0 20 rfl rfl)
theorem dX8_enter_21 : decode cX8_enter 21 = .ok (.getfield 28, 3) := dk_180 0 28 (dk_at dksX8_enter_0 21 rfl rfl)
theorem dX8_enter_24 : decode cX8_enter 24 = .ok (.aload_n 0, 1) := dk_42 (dk_at dksX8_enter_1 0 rfl rfl)
theorem dX8_enter_25 : decode cX8_enter 25 = .ok (.getfield 53, 3) := dk_180 0 53 (dk_at dksX8_enter_1 1 rfl rfl)
theorem dX8_enter_28 : decode cX8_enter 28 = .ok (.iload_n 3, 1) := dk_29 (dk_at dksX8_enter_1 4 rfl rfl)
theorem dX8_enter_29 : decode cX8_enter 29 = .ok (.iastore, 1) := dk_79 (dk_at dksX8_enter_1 5 rfl rfl)
theorem dX8_enter_30 : decode cX8_enter 30 = .ok (.aload_n 0, 1) := dk_42 (dk_at dksX8_enter_1 6 rfl rfl)
theorem dX8_enter_31 : decode cX8_enter 31 = .ok (.dup, 1) := dk_89 (dk_at dksX8_enter_1 7 rfl rfl)
theorem dX8_enter_32 : decode cX8_enter 32 = .ok (.getfield 53, 3) := dk_180 0 53 (dk_at dksX8_enter_1 8 rfl rfl)
theorem dX8_enter_35 : decode cX8_enter 35 = .ok (.iconst 1, 1) := dk_4 (dk_at dksX8_enter_1 11 rfl rfl)
theorem dX8_enter_36 : decode cX8_enter 36 = .ok (.iadd, 1) := dk_96 (dk_at dksX8_enter_1 12 rfl rfl)
theorem dX8_enter_37 : decode cX8_enter 37 = .ok (.putfield 53, 3) := dk_181 0 53 (dk_at dksX8_enter_1 13 rfl rfl)
theorem dX8_enter_40 : decode cX8_enter 40 = .ok (.return_, 1) := dk_177 (dk_at dksX8_enter_1 16 rfl rfl)
def dkwX8_leave_1 : List UInt8 := [180, 0, 28, 42, 180, 0, 53, 46, 181, 0, 43, 177]
abbrev dktX8_leave_1 : List UInt8 := dkwX8_leave_1 ++ []
def dkwX8_leave_0 : List UInt8 := [42, 89, 180, 0, 53, 4, 100, 181, 0, 53, 42, 180, 0, 31, 42, 180, 0, 53, 51, 154, 255, 237, 42, 42]
abbrev dktX8_leave_0 : List UInt8 := dkwX8_leave_0 ++ dktX8_leave_1
theorem dksX8_leave_0 : cX8_leave.data.toList.drop 0 = dktX8_leave_0 := by decide +kernel
theorem dksX8_leave_1 : cX8_leave.data.toList.drop 24 = dktX8_leave_1 := dk_seg dksX8_leave_0 24 rfl rfl
theorem dX8_leave_0 : decode cX8_leave 0 = .ok (.aload_n 0, 1) := dk_42 (dk_at dksX8_leave_0 0 rfl rfl)
theorem dX8_leave_1 : decode cX8_leave 1 = .ok (.dup, 1) := dk_89 (dk_at dksX8_leave_0 1 rfl rfl)
theorem dX8_leave_2 : decode cX8_leave 2 = .ok (.getfield 53, 3) := dk_180 0 53 (dk_at dksX8_leave_0 2 rfl rfl)
theorem dX8_leave_5 : decode cX8_leave 5 = .ok (.iconst 1, 1) := dk_4 (dk_at dksX8_leave_0 5 rfl rfl)
theorem dX8_leave_6 : decode cX8_leave 6 = .ok (.isub, 1) := dk_100 (dk_at dksX8_leave_0 6 rfl rfl)
theorem dX8_leave_7 : decode cX8_leave 7 = .ok (.putfield 53, 3) := dk_181 0 53 (dk_at dksX8_leave_0 7 rfl rfl)
theorem dX8_leave_10 : decode cX8_leave 10 = .ok (.aload_n 0, 1) := dk_42 (dk_at dksX8_leave_0 10 rfl rfl)
theorem dX8_leave_11 : decode cX8_leave 11 = .ok (.getfield 31, 3) := dk_180 0 31 (dk_at dksX8_leave_0 11 rfl rfl)
theorem dX8_leave_14 : decode cX8_leave 14 = .ok (.aload_n 0, 1) := dk_42 (dk_at dksX8_leave_0 14 rfl rfl)
theorem dX8_leave_15 : decode cX8_leave 15 = .ok (.getfield 53, 3) := dk_180 0 53 (dk_at dksX8_leave_0 15 rfl rfl)
theorem dX8_leave_18 : decode cX8_leave 18 = .ok (.baload, 1) := dk_51 (dk_at dksX8_leave_0 18 rfl rfl)
theorem dX8_leave_19 : decode cX8_leave 19 = .ok (.ifCond .ne (-19), 3) := dk_154 255 237 (dk_at dksX8_leave_0 19 rfl rfl)
theorem dX8_leave_22 : decode cX8_leave 22 = .ok (.aload_n 0, 1) := dk_42 (dk_at dksX8_leave_0 22 rfl rfl)
theorem dX8_leave_23 : decode cX8_leave 23 = .ok (.aload_n 0, 1) := dk_42 (dk_at dksX8_leave_0 23 rfl rfl)
theorem dX8_leave_24 : decode cX8_leave 24 = .ok (.getfield 28, 3) := dk_180 0 28 (dk_at dksX8_leave_1 0 rfl rfl)
theorem dX8_leave_27 : decode cX8_leave 27 = .ok (.aload_n 0, 1) := dk_42 (dk_at dksX8_leave_1 3 rfl rfl)
theorem dX8_leave_28 : decode cX8_leave 28 = .ok (.getfield 53, 3) := dk_180 0 53 (dk_at dksX8_leave_1 4 rfl rfl)
theorem dX8_leave_31 : decode cX8_leave 31 = .ok (.iaload, 1) := dk_46 (dk_at dksX8_leave_1 7 rfl rfl)
theorem dX8_leave_32 : decode cX8_leave 32 = .ok (.putfield 43, 3) := dk_181 0 43 (dk_at dksX8_leave_1 8 rfl rfl)
theorem dX8_leave_35 : decode cX8_leave 35 = .ok (.return_, 1) := dk_177 (dk_at dksX8_leave_1 11 rfl rfl)
def dkwX8_again_1 : List UInt8 := [100, 92, 46, 4, 100, 79, 42, 42, 182, 0, 69, 180, 0, 76, 181, 0, 43, 177]
abbrev dktX8_again_1 : List UInt8 := dkwX8_again_1 ++ []
def dkwX8_again_0 : List UInt8 := [42, 180, 0, 25, 42, 180, 0, 53, 4, 100, 46, 4, 164, 0, 18, 42, 180, 0, 25, 42, 180, 0, 53, 4]
abbrev dktX8_again_0 : List UInt8 := dkwX8_again_0 ++ dktX8_again_1
theorem dksX8_again_0 : cX8_again.data.toList.drop 0 = dktX8_again_0 := by decide +kernel
theorem dksX8_again_1 : cX8_again.data.toList.drop 24 = dktX8_again_1 := dk_seg dksX8_again_0 24 rfl rfl
theorem dX8_again_0 : decode cX8_again 0 = .ok (.aload_n 0, 1) := dk_42 (dk_at dksX8_again_0 0 rfl rfl)
theorem dX8_again_1 : decode cX8_again 1 = .ok (.getfield 25, 3) := dk_180 0 25 (dk_at dksX8_again_0 1 rfl rfl)
theorem dX8_again_4 : decode cX8_again 4 = .ok (.aload_n 0, 1) := dk_42 (dk_at dksX8_again_0 4 rfl rfl)
theorem dX8_again_5 : decode cX8_again 5 = .ok (.getfield 53, 3) := dk_180 0 53 (dk_at dksX8_again_0 5 rfl rfl)
theorem dX8_again_8 : decode cX8_again 8 = .ok (.iconst 1, 1) := dk_4 (dk_at dksX8_again_0 8 rfl rfl)
theorem dX8_again_9 : decode cX8_again 9 = .ok (.isub, 1) := dk_100 (dk_at dksX8_again_0 9 rfl rfl)
theorem dX8_again_10 : decode cX8_again 10 = .ok (.iaload, 1) := dk_46 (dk_at dksX8_again_0 10 rfl rfl)
theorem dX8_again_11 : decode cX8_again 11 = .ok (.iconst 1, 1) := dk_4 (dk_at dksX8_again_0 11 rfl rfl)
theorem dX8_again_12 : decode cX8_again 12 = .ok (.if_icmp .le 18, 3) := dk_164 0 18 (dk_at dksX8_again_0 12 rfl rfl)
theorem dX8_again_15 : decode cX8_again 15 = .ok (.aload_n 0, 1) := dk_42 (dk_at dksX8_again_0 15 rfl rfl)
theorem dX8_again_16 : decode cX8_again 16 = .ok (.getfield 25, 3) := dk_180 0 25 (dk_at dksX8_again_0 16 rfl rfl)
theorem dX8_again_19 : decode cX8_again 19 = .ok (.aload_n 0, 1) := dk_42 (dk_at dksX8_again_0 19 rfl rfl)
theorem dX8_again_20 : decode cX8_again 20 = .ok (.getfield 53, 3) := dk_180 0 53 (dk_at dksX8_again_0 20 rfl rfl)
theorem dX8_again_23 : decode cX8_again 23 = .ok (.iconst 1, 1) := dk_4 (dk_at dksX8_again_0 23 rfl rfl)
theorem dX8_again_24 : decode cX8_again 24 = .ok (.isub, 1) := dk_100 (dk_at dksX8_again_1 0 rfl rfl)
theorem dX8_again_25 : decode cX8_again 25 = .ok (.dup2, 1) := dk_92 (dk_at dksX8_again_1 1 rfl rfl)
theorem dX8_again_26 : decode cX8_again 26 = .ok (.iaload, 1) := dk_46 (dk_at dksX8_again_1 2 rfl rfl)
theorem dX8_again_27 : decode cX8_again 27 = .ok (.iconst 1, 1) := dk_4 (dk_at dksX8_again_1 3 rfl rfl)
theorem dX8_again_28 : decode cX8_again 28 = .ok (.isub, 1) := dk_100 (dk_at dksX8_again_1 4 rfl rfl)
theorem dX8_again_29 : decode cX8_again 29 = .ok (.iastore, 1) := dk_79 (dk_at dksX8_again_1 5 rfl rfl)
theorem dX8_again_30 : decode cX8_again 30 = .ok (.aload_n 0, 1) := dk_42 (dk_at dksX8_again_1 6 rfl rfl)
theorem dX8_again_31 : decode cX8_again 31 = .ok (.aload_n 0, 1) := dk_42 (dk_at dksX8_again_1 7 rfl rfl)
theorem dX8_again_32 : decode cX8_again 32 = .ok (.invokevirtual 69, 3) := dk_182 0 69 (dk_at dksX8_again_1 8 rfl rfl)
theorem dX8_again_35 : decode cX8_again 35 = .ok (.getfield 76, 3) := dk_180 0 76 (dk_at dksX8_again_1 11 rfl rfl)
theorem dX8_again_38 : decode cX8_again 38 = .ok (.putfield 43, 3) := dk_181 0 43 (dk_at dksX8_again_1 14 rfl rfl)
theorem dX8_again_41 : decode cX8_again 41 = .ok (.return_, 1) := dk_177 (dk_at dksX8_again_1 17 rfl rfl)
def dkwX8_falls_2 : List UInt8 := [3, 181, 0, 56, 4, 172, 3, 172]
abbrev dktX8_falls_2 : List UInt8 := dkwX8_falls_2 ++ []
def dkwX8_falls_1 : List UInt8 := [180, 0, 53, 51, 154, 0, 6, 167, 255, 227, 42, 42, 180, 0, 28, 42, 180, 0, 53, 46, 181, 0, 43, 42]
abbrev dktX8_falls_1 : List UInt8 := dkwX8_falls_1 ++ dktX8_falls_2
def dkwX8_falls_0 : List UInt8 := [42, 180, 0, 53, 158, 0, 48, 42, 89, 180, 0, 53, 4, 100, 181, 0, 53, 42, 180, 0, 31, 42]
abbrev dktX8_falls_0 : List UInt8 := dkwX8_falls_0 ++ dktX8_falls_1
theorem dksX8_falls_0 : cX8_falls.data.toList.drop 0 = dktX8_falls_0 := by decide +kernel
theorem dksX8_falls_1 : cX8_falls.data.toList.drop 22 = dktX8_falls_1 := dk_seg dksX8_falls_0 22 rfl rfl
theorem dksX8_falls_2 : cX8_falls.data.toList.drop 46 = dktX8_falls_2 := dk_seg dksX8_falls_1 24 rfl rfl
theorem dX8_falls_0 : decode cX8_falls 0 = .ok (.aload_n 0, 1) := dk_42 (dk_at dksX8_falls_0 0 rfl rfl)
theorem dX8_falls_1 : decode cX8_falls 1 = .ok (.getfield 53, 3) := dk_180 0 53 (dk_at dksX8_falls_0 1 rfl rfl)
theorem dX8_falls_4 : decode cX8_falls 4 = .ok (.ifCond .le 48, 3) := dk_158 0 48 (dk_at dksX8_falls_0 4 rfl rfl)
theorem dX8_falls_7 : decode cX8_falls 7 = .ok (.aload_n 0, 1) := dk_42 (dk_at dksX8_falls_0 7 rfl rfl)
theorem dX8_falls_8 : decode cX8_falls 8 = .ok (.dup, 1) := dk_89 (dk_at dksX8_falls_0 8 rfl rfl)
theorem dX8_falls_9 : decode cX8_falls 9 = .ok (.getfield 53, 3) := dk_180 0 53 (dk_at dksX8_falls_0 9 rfl rfl)
theorem dX8_falls_12 : decode cX8_falls 12 = .ok (.iconst 1, 1) := dk_4 (dk_at dksX8_falls_0 12 rfl rfl)
theorem dX8_falls_13 : decode cX8_falls 13 = .ok (.isub, 1) := dk_100 (dk_at dksX8_falls_0 13 rfl rfl)
theorem dX8_falls_14 : decode cX8_falls 14 = .ok (.putfield 53, 3) := dk_181 0 53 (dk_at dksX8_falls_0 14 rfl rfl)
theorem dX8_falls_17 : decode cX8_falls 17 = .ok (.aload_n 0, 1) := dk_42 (dk_at dksX8_falls_0 17 rfl rfl)
theorem dX8_falls_18 : decode cX8_falls 18 = .ok (.getfield 31, 3) := dk_180 0 31 (dk_at dksX8_falls_0 18 rfl rfl)
theorem dX8_falls_21 : decode cX8_falls 21 = .ok (.aload_n 0, 1) := dk_42 (dk_at dksX8_falls_0 21 rfl rfl)
theorem dX8_falls_22 : decode cX8_falls 22 = .ok (.getfield 53, 3) := dk_180 0 53 (dk_at dksX8_falls_1 0 rfl rfl)
theorem dX8_falls_25 : decode cX8_falls 25 = .ok (.baload, 1) := dk_51 (dk_at dksX8_falls_1 3 rfl rfl)
theorem dX8_falls_26 : decode cX8_falls 26 = .ok (.ifCond .ne 6, 3) := dk_154 0 6 (dk_at dksX8_falls_1 4 rfl rfl)
theorem dX8_falls_29 : decode cX8_falls 29 = .ok (.goto (-29), 3) := dk_167 255 227 (dk_at dksX8_falls_1 7 rfl rfl)
theorem dX8_falls_32 : decode cX8_falls 32 = .ok (.aload_n 0, 1) := dk_42 (dk_at dksX8_falls_1 10 rfl rfl)
theorem dX8_falls_33 : decode cX8_falls 33 = .ok (.aload_n 0, 1) := dk_42 (dk_at dksX8_falls_1 11 rfl rfl)
theorem dX8_falls_34 : decode cX8_falls 34 = .ok (.getfield 28, 3) := dk_180 0 28 (dk_at dksX8_falls_1 12 rfl rfl)
theorem dX8_falls_37 : decode cX8_falls 37 = .ok (.aload_n 0, 1) := dk_42 (dk_at dksX8_falls_1 15 rfl rfl)
theorem dX8_falls_38 : decode cX8_falls 38 = .ok (.getfield 53, 3) := dk_180 0 53 (dk_at dksX8_falls_1 16 rfl rfl)
theorem dX8_falls_41 : decode cX8_falls 41 = .ok (.iaload, 1) := dk_46 (dk_at dksX8_falls_1 19 rfl rfl)
theorem dX8_falls_42 : decode cX8_falls 42 = .ok (.putfield 43, 3) := dk_181 0 43 (dk_at dksX8_falls_1 20 rfl rfl)
theorem dX8_falls_45 : decode cX8_falls 45 = .ok (.aload_n 0, 1) := dk_42 (dk_at dksX8_falls_1 23 rfl rfl)
theorem dX8_falls_46 : decode cX8_falls 46 = .ok (.iconst 0, 1) := dk_3 (dk_at dksX8_falls_2 0 rfl rfl)
theorem dX8_falls_47 : decode cX8_falls 47 = .ok (.putfield 56, 3) := dk_181 0 56 (dk_at dksX8_falls_2 1 rfl rfl)
theorem dX8_falls_50 : decode cX8_falls 50 = .ok (.iconst 1, 1) := dk_4 (dk_at dksX8_falls_2 4 rfl rfl)
theorem dX8_falls_51 : decode cX8_falls 51 = .ok (.ireturn, 1) := dk_172 (dk_at dksX8_falls_2 5 rfl rfl)
theorem dX8_falls_52 : decode cX8_falls 52 = .ok (.iconst 0, 1) := dk_3 (dk_at dksX8_falls_2 6 rfl rfl)
theorem dX8_falls_53 : decode cX8_falls 53 = .ok (.ireturn, 1) := dk_172 (dk_at dksX8_falls_2 7 rfl rfl)
def dkwX8_place_1 : List UInt8 := [182, 0, 69, 180, 0, 79, 172]
abbrev dktX8_place_1 : List UInt8 := dkwX8_place_1 ++ []
def dkwX8_place_0 : List UInt8 := [42, 180, 0, 63, 154, 0, 15, 42, 182, 0, 69, 180, 0, 73, 16, 23, 160, 0, 7, 2, 167, 0, 10, 42]
abbrev dktX8_place_0 : List UInt8 := dkwX8_place_0 ++ dktX8_place_1
theorem dksX8_place_0 : cX8_place.data.toList.drop 0 = dktX8_place_0 := by decide +kernel
theorem dksX8_place_1 : cX8_place.data.toList.drop 24 = dktX8_place_1 := dk_seg dksX8_place_0 24 rfl rfl
theorem dX8_place_0 : decode cX8_place 0 = .ok (.aload_n 0, 1) := dk_42 (dk_at dksX8_place_0 0 rfl rfl)
theorem dX8_place_1 : decode cX8_place 1 = .ok (.getfield 63, 3) := dk_180 0 63 (dk_at dksX8_place_0 1 rfl rfl)
theorem dX8_place_4 : decode cX8_place 4 = .ok (.ifCond .ne 15, 3) := dk_154 0 15 (dk_at dksX8_place_0 4 rfl rfl)
theorem dX8_place_7 : decode cX8_place 7 = .ok (.aload_n 0, 1) := dk_42 (dk_at dksX8_place_0 7 rfl rfl)
theorem dX8_place_8 : decode cX8_place 8 = .ok (.invokevirtual 69, 3) := dk_182 0 69 (dk_at dksX8_place_0 8 rfl rfl)
theorem dX8_place_11 : decode cX8_place 11 = .ok (.getfield 73, 3) := dk_180 0 73 (dk_at dksX8_place_0 11 rfl rfl)
theorem dX8_place_14 : decode cX8_place 14 = .ok (.bipush 23, 2) := dk_16 23 (dk_at dksX8_place_0 14 rfl rfl)
theorem dX8_place_16 : decode cX8_place 16 = .ok (.if_icmp .ne 7, 3) := dk_160 0 7 (dk_at dksX8_place_0 16 rfl rfl)
theorem dX8_place_19 : decode cX8_place 19 = .ok (.iconst (-1), 1) := dk_2 (dk_at dksX8_place_0 19 rfl rfl)
theorem dX8_place_20 : decode cX8_place 20 = .ok (.goto 10, 3) := dk_167 0 10 (dk_at dksX8_place_0 20 rfl rfl)
theorem dX8_place_23 : decode cX8_place 23 = .ok (.aload_n 0, 1) := dk_42 (dk_at dksX8_place_0 23 rfl rfl)
theorem dX8_place_24 : decode cX8_place 24 = .ok (.invokevirtual 69, 3) := dk_182 0 69 (dk_at dksX8_place_1 0 rfl rfl)
theorem dX8_place_27 : decode cX8_place 27 = .ok (.getfield 79, 3) := dk_180 0 79 (dk_at dksX8_place_1 3 rfl rfl)
theorem dX8_place_30 : decode cX8_place 30 = .ok (.ireturn, 1) := dk_172 (dk_at dksX8_place_1 6 rfl rfl)
def dkwX9_init_0 : List UInt8 := [42, 183, 0, 1, 42, 27, 181, 0, 7, 42, 28, 181, 0, 13, 177]
abbrev dktX9_init_0 : List UInt8 := dkwX9_init_0 ++ []
theorem dksX9_init_0 : cX9_init.data.toList.drop 0 = dktX9_init_0 := by decide +kernel
theorem dX9_init_0 : decode cX9_init 0 = .ok (.aload_n 0, 1) := dk_42 (dk_at dksX9_init_0 0 rfl rfl)
theorem dX9_init_1 : decode cX9_init 1 = .ok (.invokespecial 1, 3) := dk_183 0 1 (dk_at dksX9_init_0 1 rfl rfl)
theorem dX9_init_4 : decode cX9_init 4 = .ok (.aload_n 0, 1) := dk_42 (dk_at dksX9_init_0 4 rfl rfl)
theorem dX9_init_5 : decode cX9_init 5 = .ok (.iload_n 1, 1) := dk_27 (dk_at dksX9_init_0 5 rfl rfl)
theorem dX9_init_6 : decode cX9_init 6 = .ok (.putfield 7, 3) := dk_181 0 7 (dk_at dksX9_init_0 6 rfl rfl)
theorem dX9_init_9 : decode cX9_init 9 = .ok (.aload_n 0, 1) := dk_42 (dk_at dksX9_init_0 9 rfl rfl)
theorem dX9_init_10 : decode cX9_init 10 = .ok (.iload_n 2, 1) := dk_28 (dk_at dksX9_init_0 10 rfl rfl)
theorem dX9_init_11 : decode cX9_init 11 = .ok (.putfield 13, 3) := dk_181 0 13 (dk_at dksX9_init_0 11 rfl rfl)
theorem dX9_init_14 : decode cX9_init 14 = .ok (.return_, 1) := dk_177 (dk_at dksX9_init_0 14 rfl rfl)
def dkwX9_near_3 : List UInt8 := [100, 181, 0, 16, 177]
abbrev dktX9_near_3 : List UInt8 := dkwX9_near_3 ++ []
def dkwX9_near_2 : List UInt8 := [180, 0, 16, 42, 180, 0, 19, 100, 27, 162, 0, 10, 42, 180, 0, 19, 167, 0, 9, 42, 180, 0, 16, 27]
abbrev dktX9_near_2 : List UInt8 := dkwX9_near_2 ++ dktX9_near_3
def dkwX9_near_1 : List UInt8 := [162, 0, 10, 42, 180, 0, 19, 167, 0, 9, 42, 180, 0, 16, 27, 96, 181, 0, 16, 167, 0, 33, 42, 42]
abbrev dktX9_near_1 : List UInt8 := dkwX9_near_1 ++ dktX9_near_2
def dkwX9_near_0 : List UInt8 := [42, 180, 0, 16, 42, 180, 0, 19, 162, 0, 36, 42, 42, 180, 0, 19, 42, 180, 0, 16, 100, 27]
abbrev dktX9_near_0 : List UInt8 := dkwX9_near_0 ++ dktX9_near_1
theorem dksX9_near_0 : cX9_near.data.toList.drop 0 = dktX9_near_0 := by decide +kernel
theorem dksX9_near_1 : cX9_near.data.toList.drop 22 = dktX9_near_1 := dk_seg dksX9_near_0 22 rfl rfl
theorem dksX9_near_2 : cX9_near.data.toList.drop 46 = dktX9_near_2 := dk_seg dksX9_near_1 24 rfl rfl
theorem dksX9_near_3 : cX9_near.data.toList.drop 70 = dktX9_near_3 := dk_seg dksX9_near_2 24 rfl rfl
theorem dX9_near_0 : decode cX9_near 0 = .ok (.aload_n 0, 1) := dk_42 (dk_at dksX9_near_0 0 rfl rfl)
theorem dX9_near_1 : decode cX9_near 1 = .ok (.getfield 16, 3) := dk_180 0 16 (dk_at dksX9_near_0 1 rfl rfl)
theorem dX9_near_4 : decode cX9_near 4 = .ok (.aload_n 0, 1) := dk_42 (dk_at dksX9_near_0 4 rfl rfl)
theorem dX9_near_5 : decode cX9_near 5 = .ok (.getfield 19, 3) := dk_180 0 19 (dk_at dksX9_near_0 5 rfl rfl)
theorem dX9_near_8 : decode cX9_near 8 = .ok (.if_icmp .ge 36, 3) := dk_162 0 36 (dk_at dksX9_near_0 8 rfl rfl)
theorem dX9_near_11 : decode cX9_near 11 = .ok (.aload_n 0, 1) := dk_42 (dk_at dksX9_near_0 11 rfl rfl)
theorem dX9_near_12 : decode cX9_near 12 = .ok (.aload_n 0, 1) := dk_42 (dk_at dksX9_near_0 12 rfl rfl)
theorem dX9_near_13 : decode cX9_near 13 = .ok (.getfield 19, 3) := dk_180 0 19 (dk_at dksX9_near_0 13 rfl rfl)
theorem dX9_near_16 : decode cX9_near 16 = .ok (.aload_n 0, 1) := dk_42 (dk_at dksX9_near_0 16 rfl rfl)
theorem dX9_near_17 : decode cX9_near 17 = .ok (.getfield 16, 3) := dk_180 0 16 (dk_at dksX9_near_0 17 rfl rfl)
theorem dX9_near_20 : decode cX9_near 20 = .ok (.isub, 1) := dk_100 (dk_at dksX9_near_0 20 rfl rfl)
theorem dX9_near_21 : decode cX9_near 21 = .ok (.iload_n 1, 1) := dk_27 (dk_at dksX9_near_0 21 rfl rfl)
theorem dX9_near_22 : decode cX9_near 22 = .ok (.if_icmp .ge 10, 3) := dk_162 0 10 (dk_at dksX9_near_1 0 rfl rfl)
theorem dX9_near_25 : decode cX9_near 25 = .ok (.aload_n 0, 1) := dk_42 (dk_at dksX9_near_1 3 rfl rfl)
theorem dX9_near_26 : decode cX9_near 26 = .ok (.getfield 19, 3) := dk_180 0 19 (dk_at dksX9_near_1 4 rfl rfl)
theorem dX9_near_29 : decode cX9_near 29 = .ok (.goto 9, 3) := dk_167 0 9 (dk_at dksX9_near_1 7 rfl rfl)
theorem dX9_near_32 : decode cX9_near 32 = .ok (.aload_n 0, 1) := dk_42 (dk_at dksX9_near_1 10 rfl rfl)
theorem dX9_near_33 : decode cX9_near 33 = .ok (.getfield 16, 3) := dk_180 0 16 (dk_at dksX9_near_1 11 rfl rfl)
theorem dX9_near_36 : decode cX9_near 36 = .ok (.iload_n 1, 1) := dk_27 (dk_at dksX9_near_1 14 rfl rfl)
theorem dX9_near_37 : decode cX9_near 37 = .ok (.iadd, 1) := dk_96 (dk_at dksX9_near_1 15 rfl rfl)
theorem dX9_near_38 : decode cX9_near 38 = .ok (.putfield 16, 3) := dk_181 0 16 (dk_at dksX9_near_1 16 rfl rfl)
theorem dX9_near_41 : decode cX9_near 41 = .ok (.goto 33, 3) := dk_167 0 33 (dk_at dksX9_near_1 19 rfl rfl)
theorem dX9_near_44 : decode cX9_near 44 = .ok (.aload_n 0, 1) := dk_42 (dk_at dksX9_near_1 22 rfl rfl)
theorem dX9_near_45 : decode cX9_near 45 = .ok (.aload_n 0, 1) := dk_42 (dk_at dksX9_near_1 23 rfl rfl)
theorem dX9_near_46 : decode cX9_near 46 = .ok (.getfield 16, 3) := dk_180 0 16 (dk_at dksX9_near_2 0 rfl rfl)
theorem dX9_near_49 : decode cX9_near 49 = .ok (.aload_n 0, 1) := dk_42 (dk_at dksX9_near_2 3 rfl rfl)
theorem dX9_near_50 : decode cX9_near 50 = .ok (.getfield 19, 3) := dk_180 0 19 (dk_at dksX9_near_2 4 rfl rfl)
theorem dX9_near_53 : decode cX9_near 53 = .ok (.isub, 1) := dk_100 (dk_at dksX9_near_2 7 rfl rfl)
theorem dX9_near_54 : decode cX9_near 54 = .ok (.iload_n 1, 1) := dk_27 (dk_at dksX9_near_2 8 rfl rfl)
theorem dX9_near_55 : decode cX9_near 55 = .ok (.if_icmp .ge 10, 3) := dk_162 0 10 (dk_at dksX9_near_2 9 rfl rfl)
theorem dX9_near_58 : decode cX9_near 58 = .ok (.aload_n 0, 1) := dk_42 (dk_at dksX9_near_2 12 rfl rfl)
theorem dX9_near_59 : decode cX9_near 59 = .ok (.getfield 19, 3) := dk_180 0 19 (dk_at dksX9_near_2 13 rfl rfl)
theorem dX9_near_62 : decode cX9_near 62 = .ok (.goto 9, 3) := dk_167 0 9 (dk_at dksX9_near_2 16 rfl rfl)
theorem dX9_near_65 : decode cX9_near 65 = .ok (.aload_n 0, 1) := dk_42 (dk_at dksX9_near_2 19 rfl rfl)
theorem dX9_near_66 : decode cX9_near 66 = .ok (.getfield 16, 3) := dk_180 0 16 (dk_at dksX9_near_2 20 rfl rfl)
theorem dX9_near_69 : decode cX9_near 69 = .ok (.iload_n 1, 1) := dk_27 (dk_at dksX9_near_2 23 rfl rfl)
theorem dX9_near_70 : decode cX9_near 70 = .ok (.isub, 1) := dk_100 (dk_at dksX9_near_3 0 rfl rfl)
theorem dX9_near_71 : decode cX9_near 71 = .ok (.putfield 16, 3) := dk_181 0 16 (dk_at dksX9_near_3 1 rfl rfl)
theorem dX9_near_74 : decode cX9_near 74 = .ok (.return_, 1) := dk_177 (dk_at dksX9_near_3 4 rfl rfl)
def dkwX9_size_0 : List UInt8 := [42, 180, 0, 16, 156, 0, 11, 42, 180, 0, 16, 116, 167, 0, 7, 42, 180, 0, 16, 172]
abbrev dktX9_size_0 : List UInt8 := dkwX9_size_0 ++ []
theorem dksX9_size_0 : cX9_size.data.toList.drop 0 = dktX9_size_0 := by decide +kernel
theorem dX9_size_0 : decode cX9_size 0 = .ok (.aload_n 0, 1) := dk_42 (dk_at dksX9_size_0 0 rfl rfl)
theorem dX9_size_1 : decode cX9_size 1 = .ok (.getfield 16, 3) := dk_180 0 16 (dk_at dksX9_size_0 1 rfl rfl)
theorem dX9_size_4 : decode cX9_size 4 = .ok (.ifCond .ge 11, 3) := dk_156 0 11 (dk_at dksX9_size_0 4 rfl rfl)
theorem dX9_size_7 : decode cX9_size 7 = .ok (.aload_n 0, 1) := dk_42 (dk_at dksX9_size_0 7 rfl rfl)
theorem dX9_size_8 : decode cX9_size 8 = .ok (.getfield 16, 3) := dk_180 0 16 (dk_at dksX9_size_0 8 rfl rfl)
theorem dX9_size_11 : decode cX9_size 11 = .ok (.ineg, 1) := dk_116 (dk_at dksX9_size_0 11 rfl rfl)
theorem dX9_size_12 : decode cX9_size 12 = .ok (.goto 7, 3) := dk_167 0 7 (dk_at dksX9_size_0 12 rfl rfl)
theorem dX9_size_15 : decode cX9_size 15 = .ok (.aload_n 0, 1) := dk_42 (dk_at dksX9_size_0 15 rfl rfl)
theorem dX9_size_16 : decode cX9_size 16 = .ok (.getfield 16, 3) := dk_180 0 16 (dk_at dksX9_size_0 16 rfl rfl)
theorem dX9_size_19 : decode cX9_size 19 = .ok (.ireturn, 1) := dk_172 (dk_at dksX9_size_0 19 rfl rfl)
def dkwX10_init_1 : List UInt8 := [181, 0, 18, 177]
abbrev dktX10_init_1 : List UInt8 := dkwX10_init_1 ++ []
def dkwX10_init_0 : List UInt8 := [42, 183, 0, 3, 42, 16, 30, 188, 10, 181, 0, 9, 42, 16, 30, 188, 10, 181, 0, 15, 42, 27]
abbrev dktX10_init_0 : List UInt8 := dkwX10_init_0 ++ dktX10_init_1
theorem dksX10_init_0 : cX10_init.data.toList.drop 0 = dktX10_init_0 := by decide +kernel
theorem dksX10_init_1 : cX10_init.data.toList.drop 22 = dktX10_init_1 := dk_seg dksX10_init_0 22 rfl rfl
theorem dX10_init_0 : decode cX10_init 0 = .ok (.aload_n 0, 1) := dk_42 (dk_at dksX10_init_0 0 rfl rfl)
theorem dX10_init_1 : decode cX10_init 1 = .ok (.invokespecial 3, 3) := dk_183 0 3 (dk_at dksX10_init_0 1 rfl rfl)
theorem dX10_init_4 : decode cX10_init 4 = .ok (.aload_n 0, 1) := dk_42 (dk_at dksX10_init_0 4 rfl rfl)
theorem dX10_init_5 : decode cX10_init 5 = .ok (.bipush 30, 2) := dk_16 30 (dk_at dksX10_init_0 5 rfl rfl)
theorem dX10_init_7 : decode cX10_init 7 = .ok (.newarray .int, 2) := dk_188_10 (dk_at dksX10_init_0 7 rfl rfl)
theorem dX10_init_9 : decode cX10_init 9 = .ok (.putfield 9, 3) := dk_181 0 9 (dk_at dksX10_init_0 9 rfl rfl)
theorem dX10_init_12 : decode cX10_init 12 = .ok (.aload_n 0, 1) := dk_42 (dk_at dksX10_init_0 12 rfl rfl)
theorem dX10_init_13 : decode cX10_init 13 = .ok (.bipush 30, 2) := dk_16 30 (dk_at dksX10_init_0 13 rfl rfl)
theorem dX10_init_15 : decode cX10_init 15 = .ok (.newarray .int, 2) := dk_188_10 (dk_at dksX10_init_0 15 rfl rfl)
theorem dX10_init_17 : decode cX10_init 17 = .ok (.putfield 15, 3) := dk_181 0 15 (dk_at dksX10_init_0 17 rfl rfl)
theorem dX10_init_20 : decode cX10_init 20 = .ok (.aload_n 0, 1) := dk_42 (dk_at dksX10_init_0 20 rfl rfl)
theorem dX10_init_21 : decode cX10_init 21 = .ok (.iload_n 1, 1) := dk_27 (dk_at dksX10_init_0 21 rfl rfl)
theorem dX10_init_22 : decode cX10_init 22 = .ok (.putfield 18, 3) := dk_181 0 18 (dk_at dksX10_init_1 0 rfl rfl)
theorem dX10_init_25 : decode cX10_init 25 = .ok (.return_, 1) := dk_177 (dk_at dksX10_init_1 3 rfl rfl)
def dkwX10_clear_1 : List UInt8 := [181, 0, 34, 177]
abbrev dktX10_clear_1 : List UInt8 := dkwX10_clear_1 ++ []
def dkwX10_clear_0 : List UInt8 := [42, 3, 181, 0, 22, 42, 3, 181, 0, 25, 42, 3, 181, 0, 28, 42, 3, 181, 0, 31, 42, 3]
abbrev dktX10_clear_0 : List UInt8 := dkwX10_clear_0 ++ dktX10_clear_1
theorem dksX10_clear_0 : cX10_clear.data.toList.drop 0 = dktX10_clear_0 := by decide +kernel
theorem dksX10_clear_1 : cX10_clear.data.toList.drop 22 = dktX10_clear_1 := dk_seg dksX10_clear_0 22 rfl rfl
theorem dX10_clear_0 : decode cX10_clear 0 = .ok (.aload_n 0, 1) := dk_42 (dk_at dksX10_clear_0 0 rfl rfl)
theorem dX10_clear_1 : decode cX10_clear 1 = .ok (.iconst 0, 1) := dk_3 (dk_at dksX10_clear_0 1 rfl rfl)
theorem dX10_clear_2 : decode cX10_clear 2 = .ok (.putfield 22, 3) := dk_181 0 22 (dk_at dksX10_clear_0 2 rfl rfl)
theorem dX10_clear_5 : decode cX10_clear 5 = .ok (.aload_n 0, 1) := dk_42 (dk_at dksX10_clear_0 5 rfl rfl)
theorem dX10_clear_6 : decode cX10_clear 6 = .ok (.iconst 0, 1) := dk_3 (dk_at dksX10_clear_0 6 rfl rfl)
theorem dX10_clear_7 : decode cX10_clear 7 = .ok (.putfield 25, 3) := dk_181 0 25 (dk_at dksX10_clear_0 7 rfl rfl)
theorem dX10_clear_10 : decode cX10_clear 10 = .ok (.aload_n 0, 1) := dk_42 (dk_at dksX10_clear_0 10 rfl rfl)
theorem dX10_clear_11 : decode cX10_clear 11 = .ok (.iconst 0, 1) := dk_3 (dk_at dksX10_clear_0 11 rfl rfl)
theorem dX10_clear_12 : decode cX10_clear 12 = .ok (.putfield 28, 3) := dk_181 0 28 (dk_at dksX10_clear_0 12 rfl rfl)
theorem dX10_clear_15 : decode cX10_clear 15 = .ok (.aload_n 0, 1) := dk_42 (dk_at dksX10_clear_0 15 rfl rfl)
theorem dX10_clear_16 : decode cX10_clear 16 = .ok (.iconst 0, 1) := dk_3 (dk_at dksX10_clear_0 16 rfl rfl)
theorem dX10_clear_17 : decode cX10_clear 17 = .ok (.putfield 31, 3) := dk_181 0 31 (dk_at dksX10_clear_0 17 rfl rfl)
theorem dX10_clear_20 : decode cX10_clear 20 = .ok (.aload_n 0, 1) := dk_42 (dk_at dksX10_clear_0 20 rfl rfl)
theorem dX10_clear_21 : decode cX10_clear 21 = .ok (.iconst 0, 1) := dk_3 (dk_at dksX10_clear_0 21 rfl rfl)
theorem dX10_clear_22 : decode cX10_clear 22 = .ok (.putfield 34, 3) := dk_181 0 34 (dk_at dksX10_clear_1 0 rfl rfl)
theorem dX10_clear_25 : decode cX10_clear 25 = .ok (.return_, 1) := dk_177 (dk_at dksX10_clear_1 3 rfl rfl)
def dkwX10_come_2 : List UInt8 := [42, 89, 180, 0, 31, 28, 96, 181, 0, 31, 4, 172]
abbrev dktX10_come_2 : List UInt8 := dkwX10_come_2 ++ []
def dkwX10_come_1 : List UInt8 := [42, 180, 0, 9, 29, 27, 79, 42, 180, 0, 15, 29, 28, 79, 42, 89, 180, 0, 28, 4, 96, 181, 0, 28]
abbrev dktX10_come_1 : List UInt8 := dkwX10_come_1 ++ dktX10_come_2
def dkwX10_come_0 : List UInt8 := [42, 180, 0, 28, 16, 30, 160, 0, 5, 3, 172, 42, 180, 0, 25, 42, 180, 0, 28, 96, 16, 30, 112, 62]
abbrev dktX10_come_0 : List UInt8 := dkwX10_come_0 ++ dktX10_come_1
theorem dksX10_come_0 : cX10_come.data.toList.drop 0 = dktX10_come_0 := by decide +kernel
theorem dksX10_come_1 : cX10_come.data.toList.drop 24 = dktX10_come_1 := dk_seg dksX10_come_0 24 rfl rfl
theorem dksX10_come_2 : cX10_come.data.toList.drop 48 = dktX10_come_2 := dk_seg dksX10_come_1 24 rfl rfl
theorem dX10_come_0 : decode cX10_come 0 = .ok (.aload_n 0, 1) := dk_42 (dk_at dksX10_come_0 0 rfl rfl)
theorem dX10_come_1 : decode cX10_come 1 = .ok (.getfield 28, 3) := dk_180 0 28 (dk_at dksX10_come_0 1 rfl rfl)
theorem dX10_come_4 : decode cX10_come 4 = .ok (.bipush 30, 2) := dk_16 30 (dk_at dksX10_come_0 4 rfl rfl)
theorem dX10_come_6 : decode cX10_come 6 = .ok (.if_icmp .ne 5, 3) := dk_160 0 5 (dk_at dksX10_come_0 6 rfl rfl)
theorem dX10_come_9 : decode cX10_come 9 = .ok (.iconst 0, 1) := dk_3 (dk_at dksX10_come_0 9 rfl rfl)
theorem dX10_come_10 : decode cX10_come 10 = .ok (.ireturn, 1) := dk_172 (dk_at dksX10_come_0 10 rfl rfl)
theorem dX10_come_11 : decode cX10_come 11 = .ok (.aload_n 0, 1) := dk_42 (dk_at dksX10_come_0 11 rfl rfl)
theorem dX10_come_12 : decode cX10_come 12 = .ok (.getfield 25, 3) := dk_180 0 25 (dk_at dksX10_come_0 12 rfl rfl)
theorem dX10_come_15 : decode cX10_come 15 = .ok (.aload_n 0, 1) := dk_42 (dk_at dksX10_come_0 15 rfl rfl)
theorem dX10_come_16 : decode cX10_come 16 = .ok (.getfield 28, 3) := dk_180 0 28 (dk_at dksX10_come_0 16 rfl rfl)
theorem dX10_come_19 : decode cX10_come 19 = .ok (.iadd, 1) := dk_96 (dk_at dksX10_come_0 19 rfl rfl)
theorem dX10_come_20 : decode cX10_come 20 = .ok (.bipush 30, 2) := dk_16 30 (dk_at dksX10_come_0 20 rfl rfl)
theorem dX10_come_22 : decode cX10_come 22 = .ok (.irem, 1) := dk_112 (dk_at dksX10_come_0 22 rfl rfl)
theorem dX10_come_23 : decode cX10_come 23 = .ok (.istore_n 3, 1) := dk_62 (dk_at dksX10_come_0 23 rfl rfl)
theorem dX10_come_24 : decode cX10_come 24 = .ok (.aload_n 0, 1) := dk_42 (dk_at dksX10_come_1 0 rfl rfl)
theorem dX10_come_25 : decode cX10_come 25 = .ok (.getfield 9, 3) := dk_180 0 9 (dk_at dksX10_come_1 1 rfl rfl)
theorem dX10_come_28 : decode cX10_come 28 = .ok (.iload_n 3, 1) := dk_29 (dk_at dksX10_come_1 4 rfl rfl)
theorem dX10_come_29 : decode cX10_come 29 = .ok (.iload_n 1, 1) := dk_27 (dk_at dksX10_come_1 5 rfl rfl)
theorem dX10_come_30 : decode cX10_come 30 = .ok (.iastore, 1) := dk_79 (dk_at dksX10_come_1 6 rfl rfl)
theorem dX10_come_31 : decode cX10_come 31 = .ok (.aload_n 0, 1) := dk_42 (dk_at dksX10_come_1 7 rfl rfl)
theorem dX10_come_32 : decode cX10_come 32 = .ok (.getfield 15, 3) := dk_180 0 15 (dk_at dksX10_come_1 8 rfl rfl)
theorem dX10_come_35 : decode cX10_come 35 = .ok (.iload_n 3, 1) := dk_29 (dk_at dksX10_come_1 11 rfl rfl)
theorem dX10_come_36 : decode cX10_come 36 = .ok (.iload_n 2, 1) := dk_28 (dk_at dksX10_come_1 12 rfl rfl)
theorem dX10_come_37 : decode cX10_come 37 = .ok (.iastore, 1) := dk_79 (dk_at dksX10_come_1 13 rfl rfl)
theorem dX10_come_38 : decode cX10_come 38 = .ok (.aload_n 0, 1) := dk_42 (dk_at dksX10_come_1 14 rfl rfl)
theorem dX10_come_39 : decode cX10_come 39 = .ok (.dup, 1) := dk_89 (dk_at dksX10_come_1 15 rfl rfl)
theorem dX10_come_40 : decode cX10_come 40 = .ok (.getfield 28, 3) := dk_180 0 28 (dk_at dksX10_come_1 16 rfl rfl)
theorem dX10_come_43 : decode cX10_come 43 = .ok (.iconst 1, 1) := dk_4 (dk_at dksX10_come_1 19 rfl rfl)
theorem dX10_come_44 : decode cX10_come 44 = .ok (.iadd, 1) := dk_96 (dk_at dksX10_come_1 20 rfl rfl)
theorem dX10_come_45 : decode cX10_come 45 = .ok (.putfield 28, 3) := dk_181 0 28 (dk_at dksX10_come_1 21 rfl rfl)
theorem dX10_come_48 : decode cX10_come 48 = .ok (.aload_n 0, 1) := dk_42 (dk_at dksX10_come_2 0 rfl rfl)
theorem dX10_come_49 : decode cX10_come 49 = .ok (.dup, 1) := dk_89 (dk_at dksX10_come_2 1 rfl rfl)
theorem dX10_come_50 : decode cX10_come 50 = .ok (.getfield 31, 3) := dk_180 0 31 (dk_at dksX10_come_2 2 rfl rfl)
theorem dX10_come_53 : decode cX10_come 53 = .ok (.iload_n 2, 1) := dk_28 (dk_at dksX10_come_2 5 rfl rfl)
theorem dX10_come_54 : decode cX10_come 54 = .ok (.iadd, 1) := dk_96 (dk_at dksX10_come_2 6 rfl rfl)
theorem dX10_come_55 : decode cX10_come 55 = .ok (.putfield 31, 3) := dk_181 0 31 (dk_at dksX10_come_2 7 rfl rfl)
theorem dX10_come_58 : decode cX10_come 58 = .ok (.iconst 1, 1) := dk_4 (dk_at dksX10_come_2 10 rfl rfl)
theorem dX10_come_59 : decode cX10_come 59 = .ok (.ireturn, 1) := dk_172 (dk_at dksX10_come_2 11 rfl rfl)
def dkwX10_tire_2 : List UInt8 := [180, 0, 31, 28, 100, 181, 0, 31, 28, 172]
abbrev dktX10_tire_2 : List UInt8 := dkwX10_tire_2 ++ []
def dkwX10_tire_1 : List UInt8 := [164, 0, 22, 28, 42, 180, 0, 15, 42, 180, 0, 25, 46, 96, 61, 42, 182, 0, 37, 167, 255, 217, 42, 89]
abbrev dktX10_tire_1 : List UInt8 := dkwX10_tire_1 ++ dktX10_tire_2
def dkwX10_tire_0 : List UInt8 := [3, 61, 42, 180, 0, 28, 158, 0, 38, 27, 42, 180, 0, 9, 42, 180, 0, 25, 46, 100, 16, 60]
abbrev dktX10_tire_0 : List UInt8 := dkwX10_tire_0 ++ dktX10_tire_1
theorem dksX10_tire_0 : cX10_tire.data.toList.drop 0 = dktX10_tire_0 := by decide +kernel
theorem dksX10_tire_1 : cX10_tire.data.toList.drop 22 = dktX10_tire_1 := dk_seg dksX10_tire_0 22 rfl rfl
theorem dksX10_tire_2 : cX10_tire.data.toList.drop 46 = dktX10_tire_2 := dk_seg dksX10_tire_1 24 rfl rfl
theorem dX10_tire_0 : decode cX10_tire 0 = .ok (.iconst 0, 1) := dk_3 (dk_at dksX10_tire_0 0 rfl rfl)
theorem dX10_tire_1 : decode cX10_tire 1 = .ok (.istore_n 2, 1) := dk_61 (dk_at dksX10_tire_0 1 rfl rfl)
theorem dX10_tire_2 : decode cX10_tire 2 = .ok (.aload_n 0, 1) := dk_42 (dk_at dksX10_tire_0 2 rfl rfl)
theorem dX10_tire_3 : decode cX10_tire 3 = .ok (.getfield 28, 3) := dk_180 0 28 (dk_at dksX10_tire_0 3 rfl rfl)
theorem dX10_tire_6 : decode cX10_tire 6 = .ok (.ifCond .le 38, 3) := dk_158 0 38 (dk_at dksX10_tire_0 6 rfl rfl)
theorem dX10_tire_9 : decode cX10_tire 9 = .ok (.iload_n 1, 1) := dk_27 (dk_at dksX10_tire_0 9 rfl rfl)
theorem dX10_tire_10 : decode cX10_tire 10 = .ok (.aload_n 0, 1) := dk_42 (dk_at dksX10_tire_0 10 rfl rfl)
theorem dX10_tire_11 : decode cX10_tire 11 = .ok (.getfield 9, 3) := dk_180 0 9 (dk_at dksX10_tire_0 11 rfl rfl)
theorem dX10_tire_14 : decode cX10_tire 14 = .ok (.aload_n 0, 1) := dk_42 (dk_at dksX10_tire_0 14 rfl rfl)
theorem dX10_tire_15 : decode cX10_tire 15 = .ok (.getfield 25, 3) := dk_180 0 25 (dk_at dksX10_tire_0 15 rfl rfl)
theorem dX10_tire_18 : decode cX10_tire 18 = .ok (.iaload, 1) := dk_46 (dk_at dksX10_tire_0 18 rfl rfl)
theorem dX10_tire_19 : decode cX10_tire 19 = .ok (.isub, 1) := dk_100 (dk_at dksX10_tire_0 19 rfl rfl)
theorem dX10_tire_20 : decode cX10_tire 20 = .ok (.bipush 60, 2) := dk_16 60 (dk_at dksX10_tire_0 20 rfl rfl)
theorem dX10_tire_22 : decode cX10_tire 22 = .ok (.if_icmp .le 22, 3) := dk_164 0 22 (dk_at dksX10_tire_1 0 rfl rfl)
theorem dX10_tire_25 : decode cX10_tire 25 = .ok (.iload_n 2, 1) := dk_28 (dk_at dksX10_tire_1 3 rfl rfl)
theorem dX10_tire_26 : decode cX10_tire 26 = .ok (.aload_n 0, 1) := dk_42 (dk_at dksX10_tire_1 4 rfl rfl)
theorem dX10_tire_27 : decode cX10_tire 27 = .ok (.getfield 15, 3) := dk_180 0 15 (dk_at dksX10_tire_1 5 rfl rfl)
theorem dX10_tire_30 : decode cX10_tire 30 = .ok (.aload_n 0, 1) := dk_42 (dk_at dksX10_tire_1 8 rfl rfl)
theorem dX10_tire_31 : decode cX10_tire 31 = .ok (.getfield 25, 3) := dk_180 0 25 (dk_at dksX10_tire_1 9 rfl rfl)
theorem dX10_tire_34 : decode cX10_tire 34 = .ok (.iaload, 1) := dk_46 (dk_at dksX10_tire_1 12 rfl rfl)
theorem dX10_tire_35 : decode cX10_tire 35 = .ok (.iadd, 1) := dk_96 (dk_at dksX10_tire_1 13 rfl rfl)
theorem dX10_tire_36 : decode cX10_tire 36 = .ok (.istore_n 2, 1) := dk_61 (dk_at dksX10_tire_1 14 rfl rfl)
theorem dX10_tire_37 : decode cX10_tire 37 = .ok (.aload_n 0, 1) := dk_42 (dk_at dksX10_tire_1 15 rfl rfl)
theorem dX10_tire_38 : decode cX10_tire 38 = .ok (.invokevirtual 37, 3) := dk_182 0 37 (dk_at dksX10_tire_1 16 rfl rfl)
theorem dX10_tire_41 : decode cX10_tire 41 = .ok (.goto (-39), 3) := dk_167 255 217 (dk_at dksX10_tire_1 19 rfl rfl)
theorem dX10_tire_44 : decode cX10_tire 44 = .ok (.aload_n 0, 1) := dk_42 (dk_at dksX10_tire_1 22 rfl rfl)
theorem dX10_tire_45 : decode cX10_tire 45 = .ok (.dup, 1) := dk_89 (dk_at dksX10_tire_1 23 rfl rfl)
theorem dX10_tire_46 : decode cX10_tire 46 = .ok (.getfield 31, 3) := dk_180 0 31 (dk_at dksX10_tire_2 0 rfl rfl)
theorem dX10_tire_49 : decode cX10_tire 49 = .ok (.iload_n 2, 1) := dk_28 (dk_at dksX10_tire_2 3 rfl rfl)
theorem dX10_tire_50 : decode cX10_tire 50 = .ok (.isub, 1) := dk_100 (dk_at dksX10_tire_2 4 rfl rfl)
theorem dX10_tire_51 : decode cX10_tire 51 = .ok (.putfield 31, 3) := dk_181 0 31 (dk_at dksX10_tire_2 5 rfl rfl)
theorem dX10_tire_54 : decode cX10_tire 54 = .ok (.iload_n 2, 1) := dk_28 (dk_at dksX10_tire_2 8 rfl rfl)
theorem dX10_tire_55 : decode cX10_tire 55 = .ok (.ireturn, 1) := dk_172 (dk_at dksX10_tire_2 9 rfl rfl)
def dkwX10_shift_0 : List UInt8 := [42, 42, 180, 0, 25, 4, 96, 16, 30, 112, 181, 0, 25, 42, 89, 180, 0, 28, 4, 100, 181, 0, 28, 177]
abbrev dktX10_shift_0 : List UInt8 := dkwX10_shift_0 ++ []
theorem dksX10_shift_0 : cX10_shift.data.toList.drop 0 = dktX10_shift_0 := by decide +kernel
theorem dX10_shift_0 : decode cX10_shift 0 = .ok (.aload_n 0, 1) := dk_42 (dk_at dksX10_shift_0 0 rfl rfl)
theorem dX10_shift_1 : decode cX10_shift 1 = .ok (.aload_n 0, 1) := dk_42 (dk_at dksX10_shift_0 1 rfl rfl)
theorem dX10_shift_2 : decode cX10_shift 2 = .ok (.getfield 25, 3) := dk_180 0 25 (dk_at dksX10_shift_0 2 rfl rfl)
theorem dX10_shift_5 : decode cX10_shift 5 = .ok (.iconst 1, 1) := dk_4 (dk_at dksX10_shift_0 5 rfl rfl)
theorem dX10_shift_6 : decode cX10_shift 6 = .ok (.iadd, 1) := dk_96 (dk_at dksX10_shift_0 6 rfl rfl)
theorem dX10_shift_7 : decode cX10_shift 7 = .ok (.bipush 30, 2) := dk_16 30 (dk_at dksX10_shift_0 7 rfl rfl)
theorem dX10_shift_9 : decode cX10_shift 9 = .ok (.irem, 1) := dk_112 (dk_at dksX10_shift_0 9 rfl rfl)
theorem dX10_shift_10 : decode cX10_shift 10 = .ok (.putfield 25, 3) := dk_181 0 25 (dk_at dksX10_shift_0 10 rfl rfl)
theorem dX10_shift_13 : decode cX10_shift 13 = .ok (.aload_n 0, 1) := dk_42 (dk_at dksX10_shift_0 13 rfl rfl)
theorem dX10_shift_14 : decode cX10_shift 14 = .ok (.dup, 1) := dk_89 (dk_at dksX10_shift_0 14 rfl rfl)
theorem dX10_shift_15 : decode cX10_shift 15 = .ok (.getfield 28, 3) := dk_180 0 28 (dk_at dksX10_shift_0 15 rfl rfl)
theorem dX10_shift_18 : decode cX10_shift 18 = .ok (.iconst 1, 1) := dk_4 (dk_at dksX10_shift_0 18 rfl rfl)
theorem dX10_shift_19 : decode cX10_shift 19 = .ok (.isub, 1) := dk_100 (dk_at dksX10_shift_0 19 rfl rfl)
theorem dX10_shift_20 : decode cX10_shift 20 = .ok (.putfield 28, 3) := dk_181 0 28 (dk_at dksX10_shift_0 20 rfl rfl)
theorem dX10_shift_23 : decode cX10_shift 23 = .ok (.return_, 1) := dk_177 (dk_at dksX10_shift_0 23 rfl rfl)
def dkwX10_board_6 : List UInt8 := [42, 89, 180, 0, 31, 28, 100, 181, 0, 31, 42, 89, 180, 0, 22, 28, 96, 181, 0, 22, 28, 172]
abbrev dktX10_board_6 : List UInt8 := dkwX10_board_6 ++ []
def dkwX10_board_5 : List UInt8 := [29, 21, 4, 100, 62, 42, 180, 0, 15, 42, 180, 0, 25, 46, 154, 0, 7, 42, 182, 0, 37, 167, 255, 166]
abbrev dktX10_board_5 : List UInt8 := dkwX10_board_5 ++ dktX10_board_6
def dkwX10_board_4 : List UInt8 := [180, 0, 25, 46, 100, 104, 96, 181, 0, 34, 42, 180, 0, 15, 42, 180, 0, 25, 92, 46, 21, 4, 100, 79]
abbrev dktX10_board_4 : List UInt8 := dkwX10_board_4 ++ dktX10_board_5
def dkwX10_board_3 : List UInt8 := [180, 0, 25, 46, 167, 0, 4, 29, 54, 4, 42, 89, 180, 0, 34, 21, 4, 27, 42, 180, 0, 9, 42]
abbrev dktX10_board_3 : List UInt8 := dkwX10_board_3 ++ dktX10_board_4
def dkwX10_board_2 : List UInt8 := [29, 158, 0, 92, 42, 180, 0, 15, 42, 180, 0, 25, 46, 29, 162, 0, 15, 42, 180, 0, 15, 42]
abbrev dktX10_board_2 : List UInt8 := dkwX10_board_2 ++ dktX10_board_3
def dkwX10_board_1 : List UInt8 := [180, 0, 22, 100, 28, 162, 0, 15, 42, 180, 0, 18, 42, 180, 0, 22, 100, 167, 0, 4, 28, 61, 28, 62]
abbrev dktX10_board_1 : List UInt8 := dkwX10_board_1 ++ dktX10_board_2
def dkwX10_board_0 : List UInt8 := [42, 180, 0, 31, 8, 162, 0, 10, 42, 180, 0, 31, 167, 0, 4, 8, 61, 42, 180, 0, 18, 42]
abbrev dktX10_board_0 : List UInt8 := dkwX10_board_0 ++ dktX10_board_1
theorem dksX10_board_0 : cX10_board.data.toList.drop 0 = dktX10_board_0 := by decide +kernel
theorem dksX10_board_1 : cX10_board.data.toList.drop 22 = dktX10_board_1 := dk_seg dksX10_board_0 22 rfl rfl
theorem dksX10_board_2 : cX10_board.data.toList.drop 46 = dktX10_board_2 := dk_seg dksX10_board_1 24 rfl rfl
theorem dksX10_board_3 : cX10_board.data.toList.drop 68 = dktX10_board_3 := dk_seg dksX10_board_2 22 rfl rfl
theorem dksX10_board_4 : cX10_board.data.toList.drop 91 = dktX10_board_4 := dk_seg dksX10_board_3 23 rfl rfl
theorem dksX10_board_5 : cX10_board.data.toList.drop 115 = dktX10_board_5 := dk_seg dksX10_board_4 24 rfl rfl
theorem dksX10_board_6 : cX10_board.data.toList.drop 139 = dktX10_board_6 := dk_seg dksX10_board_5 24 rfl rfl
theorem dX10_board_0 : decode cX10_board 0 = .ok (.aload_n 0, 1) := dk_42 (dk_at dksX10_board_0 0 rfl rfl)
theorem dX10_board_1 : decode cX10_board 1 = .ok (.getfield 31, 3) := dk_180 0 31 (dk_at dksX10_board_0 1 rfl rfl)
theorem dX10_board_4 : decode cX10_board 4 = .ok (.iconst 5, 1) := dk_8 (dk_at dksX10_board_0 4 rfl rfl)
theorem dX10_board_5 : decode cX10_board 5 = .ok (.if_icmp .ge 10, 3) := dk_162 0 10 (dk_at dksX10_board_0 5 rfl rfl)
theorem dX10_board_8 : decode cX10_board 8 = .ok (.aload_n 0, 1) := dk_42 (dk_at dksX10_board_0 8 rfl rfl)
theorem dX10_board_9 : decode cX10_board 9 = .ok (.getfield 31, 3) := dk_180 0 31 (dk_at dksX10_board_0 9 rfl rfl)
theorem dX10_board_12 : decode cX10_board 12 = .ok (.goto 4, 3) := dk_167 0 4 (dk_at dksX10_board_0 12 rfl rfl)
theorem dX10_board_15 : decode cX10_board 15 = .ok (.iconst 5, 1) := dk_8 (dk_at dksX10_board_0 15 rfl rfl)
theorem dX10_board_16 : decode cX10_board 16 = .ok (.istore_n 2, 1) := dk_61 (dk_at dksX10_board_0 16 rfl rfl)
theorem dX10_board_17 : decode cX10_board 17 = .ok (.aload_n 0, 1) := dk_42 (dk_at dksX10_board_0 17 rfl rfl)
theorem dX10_board_18 : decode cX10_board 18 = .ok (.getfield 18, 3) := dk_180 0 18 (dk_at dksX10_board_0 18 rfl rfl)
theorem dX10_board_21 : decode cX10_board 21 = .ok (.aload_n 0, 1) := dk_42 (dk_at dksX10_board_0 21 rfl rfl)
theorem dX10_board_22 : decode cX10_board 22 = .ok (.getfield 22, 3) := dk_180 0 22 (dk_at dksX10_board_1 0 rfl rfl)
theorem dX10_board_25 : decode cX10_board 25 = .ok (.isub, 1) := dk_100 (dk_at dksX10_board_1 3 rfl rfl)
theorem dX10_board_26 : decode cX10_board 26 = .ok (.iload_n 2, 1) := dk_28 (dk_at dksX10_board_1 4 rfl rfl)
theorem dX10_board_27 : decode cX10_board 27 = .ok (.if_icmp .ge 15, 3) := dk_162 0 15 (dk_at dksX10_board_1 5 rfl rfl)
theorem dX10_board_30 : decode cX10_board 30 = .ok (.aload_n 0, 1) := dk_42 (dk_at dksX10_board_1 8 rfl rfl)
theorem dX10_board_31 : decode cX10_board 31 = .ok (.getfield 18, 3) := dk_180 0 18 (dk_at dksX10_board_1 9 rfl rfl)
theorem dX10_board_34 : decode cX10_board 34 = .ok (.aload_n 0, 1) := dk_42 (dk_at dksX10_board_1 12 rfl rfl)
theorem dX10_board_35 : decode cX10_board 35 = .ok (.getfield 22, 3) := dk_180 0 22 (dk_at dksX10_board_1 13 rfl rfl)
theorem dX10_board_38 : decode cX10_board 38 = .ok (.isub, 1) := dk_100 (dk_at dksX10_board_1 16 rfl rfl)
theorem dX10_board_39 : decode cX10_board 39 = .ok (.goto 4, 3) := dk_167 0 4 (dk_at dksX10_board_1 17 rfl rfl)
theorem dX10_board_42 : decode cX10_board 42 = .ok (.iload_n 2, 1) := dk_28 (dk_at dksX10_board_1 20 rfl rfl)
theorem dX10_board_43 : decode cX10_board 43 = .ok (.istore_n 2, 1) := dk_61 (dk_at dksX10_board_1 21 rfl rfl)
theorem dX10_board_44 : decode cX10_board 44 = .ok (.iload_n 2, 1) := dk_28 (dk_at dksX10_board_1 22 rfl rfl)
theorem dX10_board_45 : decode cX10_board 45 = .ok (.istore_n 3, 1) := dk_62 (dk_at dksX10_board_1 23 rfl rfl)
theorem dX10_board_46 : decode cX10_board 46 = .ok (.iload_n 3, 1) := dk_29 (dk_at dksX10_board_2 0 rfl rfl)
theorem dX10_board_47 : decode cX10_board 47 = .ok (.ifCond .le 92, 3) := dk_158 0 92 (dk_at dksX10_board_2 1 rfl rfl)
theorem dX10_board_50 : decode cX10_board 50 = .ok (.aload_n 0, 1) := dk_42 (dk_at dksX10_board_2 4 rfl rfl)
theorem dX10_board_51 : decode cX10_board 51 = .ok (.getfield 15, 3) := dk_180 0 15 (dk_at dksX10_board_2 5 rfl rfl)
theorem dX10_board_54 : decode cX10_board 54 = .ok (.aload_n 0, 1) := dk_42 (dk_at dksX10_board_2 8 rfl rfl)
theorem dX10_board_55 : decode cX10_board 55 = .ok (.getfield 25, 3) := dk_180 0 25 (dk_at dksX10_board_2 9 rfl rfl)
theorem dX10_board_58 : decode cX10_board 58 = .ok (.iaload, 1) := dk_46 (dk_at dksX10_board_2 12 rfl rfl)
theorem dX10_board_59 : decode cX10_board 59 = .ok (.iload_n 3, 1) := dk_29 (dk_at dksX10_board_2 13 rfl rfl)
theorem dX10_board_60 : decode cX10_board 60 = .ok (.if_icmp .ge 15, 3) := dk_162 0 15 (dk_at dksX10_board_2 14 rfl rfl)
theorem dX10_board_63 : decode cX10_board 63 = .ok (.aload_n 0, 1) := dk_42 (dk_at dksX10_board_2 17 rfl rfl)
theorem dX10_board_64 : decode cX10_board 64 = .ok (.getfield 15, 3) := dk_180 0 15 (dk_at dksX10_board_2 18 rfl rfl)
theorem dX10_board_67 : decode cX10_board 67 = .ok (.aload_n 0, 1) := dk_42 (dk_at dksX10_board_2 21 rfl rfl)
theorem dX10_board_68 : decode cX10_board 68 = .ok (.getfield 25, 3) := dk_180 0 25 (dk_at dksX10_board_3 0 rfl rfl)
theorem dX10_board_71 : decode cX10_board 71 = .ok (.iaload, 1) := dk_46 (dk_at dksX10_board_3 3 rfl rfl)
theorem dX10_board_72 : decode cX10_board 72 = .ok (.goto 4, 3) := dk_167 0 4 (dk_at dksX10_board_3 4 rfl rfl)
theorem dX10_board_75 : decode cX10_board 75 = .ok (.iload_n 3, 1) := dk_29 (dk_at dksX10_board_3 7 rfl rfl)
theorem dX10_board_76 : decode cX10_board 76 = .ok (.istore 4, 2) := dk_54 4 (dk_at dksX10_board_3 8 rfl rfl)
theorem dX10_board_78 : decode cX10_board 78 = .ok (.aload_n 0, 1) := dk_42 (dk_at dksX10_board_3 10 rfl rfl)
theorem dX10_board_79 : decode cX10_board 79 = .ok (.dup, 1) := dk_89 (dk_at dksX10_board_3 11 rfl rfl)
theorem dX10_board_80 : decode cX10_board 80 = .ok (.getfield 34, 3) := dk_180 0 34 (dk_at dksX10_board_3 12 rfl rfl)
theorem dX10_board_83 : decode cX10_board 83 = .ok (.iload 4, 2) := dk_21 4 (dk_at dksX10_board_3 15 rfl rfl)
theorem dX10_board_85 : decode cX10_board 85 = .ok (.iload_n 1, 1) := dk_27 (dk_at dksX10_board_3 17 rfl rfl)
theorem dX10_board_86 : decode cX10_board 86 = .ok (.aload_n 0, 1) := dk_42 (dk_at dksX10_board_3 18 rfl rfl)
theorem dX10_board_87 : decode cX10_board 87 = .ok (.getfield 9, 3) := dk_180 0 9 (dk_at dksX10_board_3 19 rfl rfl)
theorem dX10_board_90 : decode cX10_board 90 = .ok (.aload_n 0, 1) := dk_42 (dk_at dksX10_board_3 22 rfl rfl)
theorem dX10_board_91 : decode cX10_board 91 = .ok (.getfield 25, 3) := dk_180 0 25 (dk_at dksX10_board_4 0 rfl rfl)
theorem dX10_board_94 : decode cX10_board 94 = .ok (.iaload, 1) := dk_46 (dk_at dksX10_board_4 3 rfl rfl)
theorem dX10_board_95 : decode cX10_board 95 = .ok (.isub, 1) := dk_100 (dk_at dksX10_board_4 4 rfl rfl)
theorem dX10_board_96 : decode cX10_board 96 = .ok (.imul, 1) := dk_104 (dk_at dksX10_board_4 5 rfl rfl)
theorem dX10_board_97 : decode cX10_board 97 = .ok (.iadd, 1) := dk_96 (dk_at dksX10_board_4 6 rfl rfl)
theorem dX10_board_98 : decode cX10_board 98 = .ok (.putfield 34, 3) := dk_181 0 34 (dk_at dksX10_board_4 7 rfl rfl)
theorem dX10_board_101 : decode cX10_board 101 = .ok (.aload_n 0, 1) := dk_42 (dk_at dksX10_board_4 10 rfl rfl)
theorem dX10_board_102 : decode cX10_board 102 = .ok (.getfield 15, 3) := dk_180 0 15 (dk_at dksX10_board_4 11 rfl rfl)
theorem dX10_board_105 : decode cX10_board 105 = .ok (.aload_n 0, 1) := dk_42 (dk_at dksX10_board_4 14 rfl rfl)
theorem dX10_board_106 : decode cX10_board 106 = .ok (.getfield 25, 3) := dk_180 0 25 (dk_at dksX10_board_4 15 rfl rfl)
theorem dX10_board_109 : decode cX10_board 109 = .ok (.dup2, 1) := dk_92 (dk_at dksX10_board_4 18 rfl rfl)
theorem dX10_board_110 : decode cX10_board 110 = .ok (.iaload, 1) := dk_46 (dk_at dksX10_board_4 19 rfl rfl)
theorem dX10_board_111 : decode cX10_board 111 = .ok (.iload 4, 2) := dk_21 4 (dk_at dksX10_board_4 20 rfl rfl)
theorem dX10_board_113 : decode cX10_board 113 = .ok (.isub, 1) := dk_100 (dk_at dksX10_board_4 22 rfl rfl)
theorem dX10_board_114 : decode cX10_board 114 = .ok (.iastore, 1) := dk_79 (dk_at dksX10_board_4 23 rfl rfl)
theorem dX10_board_115 : decode cX10_board 115 = .ok (.iload_n 3, 1) := dk_29 (dk_at dksX10_board_5 0 rfl rfl)
theorem dX10_board_116 : decode cX10_board 116 = .ok (.iload 4, 2) := dk_21 4 (dk_at dksX10_board_5 1 rfl rfl)
theorem dX10_board_118 : decode cX10_board 118 = .ok (.isub, 1) := dk_100 (dk_at dksX10_board_5 3 rfl rfl)
theorem dX10_board_119 : decode cX10_board 119 = .ok (.istore_n 3, 1) := dk_62 (dk_at dksX10_board_5 4 rfl rfl)
theorem dX10_board_120 : decode cX10_board 120 = .ok (.aload_n 0, 1) := dk_42 (dk_at dksX10_board_5 5 rfl rfl)
theorem dX10_board_121 : decode cX10_board 121 = .ok (.getfield 15, 3) := dk_180 0 15 (dk_at dksX10_board_5 6 rfl rfl)
theorem dX10_board_124 : decode cX10_board 124 = .ok (.aload_n 0, 1) := dk_42 (dk_at dksX10_board_5 9 rfl rfl)
theorem dX10_board_125 : decode cX10_board 125 = .ok (.getfield 25, 3) := dk_180 0 25 (dk_at dksX10_board_5 10 rfl rfl)
theorem dX10_board_128 : decode cX10_board 128 = .ok (.iaload, 1) := dk_46 (dk_at dksX10_board_5 13 rfl rfl)
theorem dX10_board_129 : decode cX10_board 129 = .ok (.ifCond .ne 7, 3) := dk_154 0 7 (dk_at dksX10_board_5 14 rfl rfl)
theorem dX10_board_132 : decode cX10_board 132 = .ok (.aload_n 0, 1) := dk_42 (dk_at dksX10_board_5 17 rfl rfl)
theorem dX10_board_133 : decode cX10_board 133 = .ok (.invokevirtual 37, 3) := dk_182 0 37 (dk_at dksX10_board_5 18 rfl rfl)
theorem dX10_board_136 : decode cX10_board 136 = .ok (.goto (-90), 3) := dk_167 255 166 (dk_at dksX10_board_5 21 rfl rfl)
theorem dX10_board_139 : decode cX10_board 139 = .ok (.aload_n 0, 1) := dk_42 (dk_at dksX10_board_6 0 rfl rfl)
theorem dX10_board_140 : decode cX10_board 140 = .ok (.dup, 1) := dk_89 (dk_at dksX10_board_6 1 rfl rfl)
theorem dX10_board_141 : decode cX10_board 141 = .ok (.getfield 31, 3) := dk_180 0 31 (dk_at dksX10_board_6 2 rfl rfl)
theorem dX10_board_144 : decode cX10_board 144 = .ok (.iload_n 2, 1) := dk_28 (dk_at dksX10_board_6 5 rfl rfl)
theorem dX10_board_145 : decode cX10_board 145 = .ok (.isub, 1) := dk_100 (dk_at dksX10_board_6 6 rfl rfl)
theorem dX10_board_146 : decode cX10_board 146 = .ok (.putfield 31, 3) := dk_181 0 31 (dk_at dksX10_board_6 7 rfl rfl)
theorem dX10_board_149 : decode cX10_board 149 = .ok (.aload_n 0, 1) := dk_42 (dk_at dksX10_board_6 10 rfl rfl)
theorem dX10_board_150 : decode cX10_board 150 = .ok (.dup, 1) := dk_89 (dk_at dksX10_board_6 11 rfl rfl)
theorem dX10_board_151 : decode cX10_board 151 = .ok (.getfield 22, 3) := dk_180 0 22 (dk_at dksX10_board_6 12 rfl rfl)
theorem dX10_board_154 : decode cX10_board 154 = .ok (.iload_n 2, 1) := dk_28 (dk_at dksX10_board_6 15 rfl rfl)
theorem dX10_board_155 : decode cX10_board 155 = .ok (.iadd, 1) := dk_96 (dk_at dksX10_board_6 16 rfl rfl)
theorem dX10_board_156 : decode cX10_board 156 = .ok (.putfield 22, 3) := dk_181 0 22 (dk_at dksX10_board_6 17 rfl rfl)
theorem dX10_board_159 : decode cX10_board 159 = .ok (.iload_n 2, 1) := dk_28 (dk_at dksX10_board_6 20 rfl rfl)
theorem dX10_board_160 : decode cX10_board 160 = .ok (.ireturn, 1) := dk_172 (dk_at dksX10_board_6 21 rfl rfl)
def dkwX11_init_1 : List UInt8 := [187, 0, 18, 89, 43, 5, 46, 183, 0, 20, 181, 0, 21, 177]
abbrev dktX11_init_1 : List UInt8 := dkwX11_init_1 ++ []
def dkwX11_init_0 : List UInt8 := [42, 4, 183, 0, 1, 42, 187, 0, 7, 89, 43, 3, 46, 43, 4, 46, 183, 0, 9, 181, 0, 12, 42]
abbrev dktX11_init_0 : List UInt8 := dkwX11_init_0 ++ dktX11_init_1
theorem dksX11_init_0 : cX11_init.data.toList.drop 0 = dktX11_init_0 := by decide +kernel
theorem dksX11_init_1 : cX11_init.data.toList.drop 23 = dktX11_init_1 := dk_seg dksX11_init_0 23 rfl rfl
theorem dX11_init_0 : decode cX11_init 0 = .ok (.aload_n 0, 1) := dk_42 (dk_at dksX11_init_0 0 rfl rfl)
theorem dX11_init_1 : decode cX11_init 1 = .ok (.iconst 1, 1) := dk_4 (dk_at dksX11_init_0 1 rfl rfl)
theorem dX11_init_2 : decode cX11_init 2 = .ok (.invokespecial 1, 3) := dk_183 0 1 (dk_at dksX11_init_0 2 rfl rfl)
theorem dX11_init_5 : decode cX11_init 5 = .ok (.aload_n 0, 1) := dk_42 (dk_at dksX11_init_0 5 rfl rfl)
theorem dX11_init_6 : decode cX11_init 6 = .ok (.new 7, 3) := dk_187 0 7 (dk_at dksX11_init_0 6 rfl rfl)
theorem dX11_init_9 : decode cX11_init 9 = .ok (.dup, 1) := dk_89 (dk_at dksX11_init_0 9 rfl rfl)
theorem dX11_init_10 : decode cX11_init 10 = .ok (.aload_n 1, 1) := dk_43 (dk_at dksX11_init_0 10 rfl rfl)
theorem dX11_init_11 : decode cX11_init 11 = .ok (.iconst 0, 1) := dk_3 (dk_at dksX11_init_0 11 rfl rfl)
theorem dX11_init_12 : decode cX11_init 12 = .ok (.iaload, 1) := dk_46 (dk_at dksX11_init_0 12 rfl rfl)
theorem dX11_init_13 : decode cX11_init 13 = .ok (.aload_n 1, 1) := dk_43 (dk_at dksX11_init_0 13 rfl rfl)
theorem dX11_init_14 : decode cX11_init 14 = .ok (.iconst 1, 1) := dk_4 (dk_at dksX11_init_0 14 rfl rfl)
theorem dX11_init_15 : decode cX11_init 15 = .ok (.iaload, 1) := dk_46 (dk_at dksX11_init_0 15 rfl rfl)
theorem dX11_init_16 : decode cX11_init 16 = .ok (.invokespecial 9, 3) := dk_183 0 9 (dk_at dksX11_init_0 16 rfl rfl)
theorem dX11_init_19 : decode cX11_init 19 = .ok (.putfield 12, 3) := dk_181 0 12 (dk_at dksX11_init_0 19 rfl rfl)
theorem dX11_init_22 : decode cX11_init 22 = .ok (.aload_n 0, 1) := dk_42 (dk_at dksX11_init_0 22 rfl rfl)
theorem dX11_init_23 : decode cX11_init 23 = .ok (.new 18, 3) := dk_187 0 18 (dk_at dksX11_init_1 0 rfl rfl)
theorem dX11_init_26 : decode cX11_init 26 = .ok (.dup, 1) := dk_89 (dk_at dksX11_init_1 3 rfl rfl)
theorem dX11_init_27 : decode cX11_init 27 = .ok (.aload_n 1, 1) := dk_43 (dk_at dksX11_init_1 4 rfl rfl)
theorem dX11_init_28 : decode cX11_init 28 = .ok (.iconst 2, 1) := dk_5 (dk_at dksX11_init_1 5 rfl rfl)
theorem dX11_init_29 : decode cX11_init 29 = .ok (.iaload, 1) := dk_46 (dk_at dksX11_init_1 6 rfl rfl)
theorem dX11_init_30 : decode cX11_init 30 = .ok (.invokespecial 20, 3) := dk_183 0 20 (dk_at dksX11_init_1 7 rfl rfl)
theorem dX11_init_33 : decode cX11_init 33 = .ok (.putfield 21, 3) := dk_181 0 21 (dk_at dksX11_init_1 10 rfl rfl)
theorem dX11_init_36 : decode cX11_init 36 = .ok (.return_, 1) := dk_177 (dk_at dksX11_init_1 13 rfl rfl)
theorem dX11_hoist_0 : decode cX11_hoist 0 = .ok (.aload_n 0, 1) := by decide +kernel
theorem dX11_hoist_1 : decode cX11_hoist 1 = .ok (.getfield 12, 3) := by decide +kernel
theorem dX11_hoist_4 : decode cX11_hoist 4 = .ok (.areturn, 1) := by decide +kernel
theorem dX11_bench_0 : decode cX11_bench 0 = .ok (.aload_n 0, 1) := by decide +kernel
theorem dX11_bench_1 : decode cX11_bench 1 = .ok (.getfield 21, 3) := by decide +kernel
theorem dX11_bench_4 : decode cX11_bench 4 = .ok (.areturn, 1) := by decide +kernel
def dkwX12_init_0 : List UInt8 := [42, 183, 0, 1, 42, 27, 181, 0, 7, 42, 28, 181, 0, 13, 177]
abbrev dktX12_init_0 : List UInt8 := dkwX12_init_0 ++ []
theorem dksX12_init_0 : cX12_init.data.toList.drop 0 = dktX12_init_0 := by decide +kernel
theorem dX12_init_0 : decode cX12_init 0 = .ok (.aload_n 0, 1) := dk_42 (dk_at dksX12_init_0 0 rfl rfl)
theorem dX12_init_1 : decode cX12_init 1 = .ok (.invokespecial 1, 3) := dk_183 0 1 (dk_at dksX12_init_0 1 rfl rfl)
theorem dX12_init_4 : decode cX12_init 4 = .ok (.aload_n 0, 1) := dk_42 (dk_at dksX12_init_0 4 rfl rfl)
theorem dX12_init_5 : decode cX12_init 5 = .ok (.iload_n 1, 1) := dk_27 (dk_at dksX12_init_0 5 rfl rfl)
theorem dX12_init_6 : decode cX12_init 6 = .ok (.putfield 7, 3) := dk_181 0 7 (dk_at dksX12_init_0 6 rfl rfl)
theorem dX12_init_9 : decode cX12_init 9 = .ok (.aload_n 0, 1) := dk_42 (dk_at dksX12_init_0 9 rfl rfl)
theorem dX12_init_10 : decode cX12_init 10 = .ok (.iload_n 2, 1) := dk_28 (dk_at dksX12_init_0 10 rfl rfl)
theorem dX12_init_11 : decode cX12_init 11 = .ok (.putfield 13, 3) := dk_181 0 13 (dk_at dksX12_init_0 11 rfl rfl)
theorem dX12_init_14 : decode cX12_init 14 = .ok (.return_, 1) := dk_177 (dk_at dksX12_init_0 14 rfl rfl)
def dkwX12_near_3 : List UInt8 := [42, 180, 0, 16, 28, 100, 181, 0, 16, 42, 42, 180, 0, 16, 29, 100, 181, 0, 22, 177]
abbrev dktX12_near_3 : List UInt8 := dkwX12_near_3 ++ []
def dkwX12_near_2 : List UInt8 := [167, 0, 33, 42, 42, 180, 0, 16, 42, 180, 0, 19, 100, 28, 162, 0, 10, 42, 180, 0, 19, 167, 0, 9]
abbrev dktX12_near_2 : List UInt8 := dkwX12_near_2 ++ dktX12_near_3
def dkwX12_near_1 : List UInt8 := [180, 0, 16, 100, 27, 162, 0, 10, 42, 180, 0, 19, 167, 0, 9, 42, 180, 0, 16, 27, 96, 181, 0, 16]
abbrev dktX12_near_1 : List UInt8 := dkwX12_near_1 ++ dktX12_near_2
def dkwX12_near_0 : List UInt8 := [42, 180, 0, 16, 62, 42, 180, 0, 16, 42, 180, 0, 19, 162, 0, 36, 42, 42, 180, 0, 19, 42]
abbrev dktX12_near_0 : List UInt8 := dkwX12_near_0 ++ dktX12_near_1
theorem dksX12_near_0 : cX12_near.data.toList.drop 0 = dktX12_near_0 := by decide +kernel
theorem dksX12_near_1 : cX12_near.data.toList.drop 22 = dktX12_near_1 := dk_seg dksX12_near_0 22 rfl rfl
theorem dksX12_near_2 : cX12_near.data.toList.drop 46 = dktX12_near_2 := dk_seg dksX12_near_1 24 rfl rfl
theorem dksX12_near_3 : cX12_near.data.toList.drop 70 = dktX12_near_3 := dk_seg dksX12_near_2 24 rfl rfl
theorem dX12_near_0 : decode cX12_near 0 = .ok (.aload_n 0, 1) := dk_42 (dk_at dksX12_near_0 0 rfl rfl)
theorem dX12_near_1 : decode cX12_near 1 = .ok (.getfield 16, 3) := dk_180 0 16 (dk_at dksX12_near_0 1 rfl rfl)
theorem dX12_near_4 : decode cX12_near 4 = .ok (.istore_n 3, 1) := dk_62 (dk_at dksX12_near_0 4 rfl rfl)
theorem dX12_near_5 : decode cX12_near 5 = .ok (.aload_n 0, 1) := dk_42 (dk_at dksX12_near_0 5 rfl rfl)
theorem dX12_near_6 : decode cX12_near 6 = .ok (.getfield 16, 3) := dk_180 0 16 (dk_at dksX12_near_0 6 rfl rfl)
theorem dX12_near_9 : decode cX12_near 9 = .ok (.aload_n 0, 1) := dk_42 (dk_at dksX12_near_0 9 rfl rfl)
theorem dX12_near_10 : decode cX12_near 10 = .ok (.getfield 19, 3) := dk_180 0 19 (dk_at dksX12_near_0 10 rfl rfl)
theorem dX12_near_13 : decode cX12_near 13 = .ok (.if_icmp .ge 36, 3) := dk_162 0 36 (dk_at dksX12_near_0 13 rfl rfl)
theorem dX12_near_16 : decode cX12_near 16 = .ok (.aload_n 0, 1) := dk_42 (dk_at dksX12_near_0 16 rfl rfl)
theorem dX12_near_17 : decode cX12_near 17 = .ok (.aload_n 0, 1) := dk_42 (dk_at dksX12_near_0 17 rfl rfl)
theorem dX12_near_18 : decode cX12_near 18 = .ok (.getfield 19, 3) := dk_180 0 19 (dk_at dksX12_near_0 18 rfl rfl)
theorem dX12_near_21 : decode cX12_near 21 = .ok (.aload_n 0, 1) := dk_42 (dk_at dksX12_near_0 21 rfl rfl)
theorem dX12_near_22 : decode cX12_near 22 = .ok (.getfield 16, 3) := dk_180 0 16 (dk_at dksX12_near_1 0 rfl rfl)
theorem dX12_near_25 : decode cX12_near 25 = .ok (.isub, 1) := dk_100 (dk_at dksX12_near_1 3 rfl rfl)
theorem dX12_near_26 : decode cX12_near 26 = .ok (.iload_n 1, 1) := dk_27 (dk_at dksX12_near_1 4 rfl rfl)
theorem dX12_near_27 : decode cX12_near 27 = .ok (.if_icmp .ge 10, 3) := dk_162 0 10 (dk_at dksX12_near_1 5 rfl rfl)
theorem dX12_near_30 : decode cX12_near 30 = .ok (.aload_n 0, 1) := dk_42 (dk_at dksX12_near_1 8 rfl rfl)
theorem dX12_near_31 : decode cX12_near 31 = .ok (.getfield 19, 3) := dk_180 0 19 (dk_at dksX12_near_1 9 rfl rfl)
theorem dX12_near_34 : decode cX12_near 34 = .ok (.goto 9, 3) := dk_167 0 9 (dk_at dksX12_near_1 12 rfl rfl)
theorem dX12_near_37 : decode cX12_near 37 = .ok (.aload_n 0, 1) := dk_42 (dk_at dksX12_near_1 15 rfl rfl)
theorem dX12_near_38 : decode cX12_near 38 = .ok (.getfield 16, 3) := dk_180 0 16 (dk_at dksX12_near_1 16 rfl rfl)
theorem dX12_near_41 : decode cX12_near 41 = .ok (.iload_n 1, 1) := dk_27 (dk_at dksX12_near_1 19 rfl rfl)
theorem dX12_near_42 : decode cX12_near 42 = .ok (.iadd, 1) := dk_96 (dk_at dksX12_near_1 20 rfl rfl)
theorem dX12_near_43 : decode cX12_near 43 = .ok (.putfield 16, 3) := dk_181 0 16 (dk_at dksX12_near_1 21 rfl rfl)
theorem dX12_near_46 : decode cX12_near 46 = .ok (.goto 33, 3) := dk_167 0 33 (dk_at dksX12_near_2 0 rfl rfl)
theorem dX12_near_49 : decode cX12_near 49 = .ok (.aload_n 0, 1) := dk_42 (dk_at dksX12_near_2 3 rfl rfl)
theorem dX12_near_50 : decode cX12_near 50 = .ok (.aload_n 0, 1) := dk_42 (dk_at dksX12_near_2 4 rfl rfl)
theorem dX12_near_51 : decode cX12_near 51 = .ok (.getfield 16, 3) := dk_180 0 16 (dk_at dksX12_near_2 5 rfl rfl)
theorem dX12_near_54 : decode cX12_near 54 = .ok (.aload_n 0, 1) := dk_42 (dk_at dksX12_near_2 8 rfl rfl)
theorem dX12_near_55 : decode cX12_near 55 = .ok (.getfield 19, 3) := dk_180 0 19 (dk_at dksX12_near_2 9 rfl rfl)
theorem dX12_near_58 : decode cX12_near 58 = .ok (.isub, 1) := dk_100 (dk_at dksX12_near_2 12 rfl rfl)
theorem dX12_near_59 : decode cX12_near 59 = .ok (.iload_n 2, 1) := dk_28 (dk_at dksX12_near_2 13 rfl rfl)
theorem dX12_near_60 : decode cX12_near 60 = .ok (.if_icmp .ge 10, 3) := dk_162 0 10 (dk_at dksX12_near_2 14 rfl rfl)
theorem dX12_near_63 : decode cX12_near 63 = .ok (.aload_n 0, 1) := dk_42 (dk_at dksX12_near_2 17 rfl rfl)
theorem dX12_near_64 : decode cX12_near 64 = .ok (.getfield 19, 3) := dk_180 0 19 (dk_at dksX12_near_2 18 rfl rfl)
theorem dX12_near_67 : decode cX12_near 67 = .ok (.goto 9, 3) := dk_167 0 9 (dk_at dksX12_near_2 21 rfl rfl)
theorem dX12_near_70 : decode cX12_near 70 = .ok (.aload_n 0, 1) := dk_42 (dk_at dksX12_near_3 0 rfl rfl)
theorem dX12_near_71 : decode cX12_near 71 = .ok (.getfield 16, 3) := dk_180 0 16 (dk_at dksX12_near_3 1 rfl rfl)
theorem dX12_near_74 : decode cX12_near 74 = .ok (.iload_n 2, 1) := dk_28 (dk_at dksX12_near_3 4 rfl rfl)
theorem dX12_near_75 : decode cX12_near 75 = .ok (.isub, 1) := dk_100 (dk_at dksX12_near_3 5 rfl rfl)
theorem dX12_near_76 : decode cX12_near 76 = .ok (.putfield 16, 3) := dk_181 0 16 (dk_at dksX12_near_3 6 rfl rfl)
theorem dX12_near_79 : decode cX12_near 79 = .ok (.aload_n 0, 1) := dk_42 (dk_at dksX12_near_3 9 rfl rfl)
theorem dX12_near_80 : decode cX12_near 80 = .ok (.aload_n 0, 1) := dk_42 (dk_at dksX12_near_3 10 rfl rfl)
theorem dX12_near_81 : decode cX12_near 81 = .ok (.getfield 16, 3) := dk_180 0 16 (dk_at dksX12_near_3 11 rfl rfl)
theorem dX12_near_84 : decode cX12_near 84 = .ok (.iload_n 3, 1) := dk_29 (dk_at dksX12_near_3 14 rfl rfl)
theorem dX12_near_85 : decode cX12_near 85 = .ok (.isub, 1) := dk_100 (dk_at dksX12_near_3 15 rfl rfl)
theorem dX12_near_86 : decode cX12_near 86 = .ok (.putfield 22, 3) := dk_181 0 22 (dk_at dksX12_near_3 16 rfl rfl)
theorem dX12_near_89 : decode cX12_near 89 = .ok (.return_, 1) := dk_177 (dk_at dksX12_near_3 19 rfl rfl)
def dkwX13_init_2 : List UInt8 := [183, 0, 27, 181, 0, 28, 177]
abbrev dktX13_init_2 : List UInt8 := dkwX13_init_2 ++ []
def dkwX13_init_1 : List UInt8 := [187, 0, 18, 89, 43, 5, 46, 43, 6, 46, 183, 0, 20, 181, 0, 21, 42, 187, 0, 25, 89, 43, 7, 46]
abbrev dktX13_init_1 : List UInt8 := dkwX13_init_1 ++ dktX13_init_2
def dkwX13_init_0 : List UInt8 := [42, 5, 183, 0, 1, 42, 187, 0, 7, 89, 43, 3, 46, 43, 4, 46, 183, 0, 9, 181, 0, 12, 42]
abbrev dktX13_init_0 : List UInt8 := dkwX13_init_0 ++ dktX13_init_1
theorem dksX13_init_0 : cX13_init.data.toList.drop 0 = dktX13_init_0 := by decide +kernel
theorem dksX13_init_1 : cX13_init.data.toList.drop 23 = dktX13_init_1 := dk_seg dksX13_init_0 23 rfl rfl
theorem dksX13_init_2 : cX13_init.data.toList.drop 47 = dktX13_init_2 := dk_seg dksX13_init_1 24 rfl rfl
theorem dX13_init_0 : decode cX13_init 0 = .ok (.aload_n 0, 1) := dk_42 (dk_at dksX13_init_0 0 rfl rfl)
theorem dX13_init_1 : decode cX13_init 1 = .ok (.iconst 2, 1) := dk_5 (dk_at dksX13_init_0 1 rfl rfl)
theorem dX13_init_2 : decode cX13_init 2 = .ok (.invokespecial 1, 3) := dk_183 0 1 (dk_at dksX13_init_0 2 rfl rfl)
theorem dX13_init_5 : decode cX13_init 5 = .ok (.aload_n 0, 1) := dk_42 (dk_at dksX13_init_0 5 rfl rfl)
theorem dX13_init_6 : decode cX13_init 6 = .ok (.new 7, 3) := dk_187 0 7 (dk_at dksX13_init_0 6 rfl rfl)
theorem dX13_init_9 : decode cX13_init 9 = .ok (.dup, 1) := dk_89 (dk_at dksX13_init_0 9 rfl rfl)
theorem dX13_init_10 : decode cX13_init 10 = .ok (.aload_n 1, 1) := dk_43 (dk_at dksX13_init_0 10 rfl rfl)
theorem dX13_init_11 : decode cX13_init 11 = .ok (.iconst 0, 1) := dk_3 (dk_at dksX13_init_0 11 rfl rfl)
theorem dX13_init_12 : decode cX13_init 12 = .ok (.iaload, 1) := dk_46 (dk_at dksX13_init_0 12 rfl rfl)
theorem dX13_init_13 : decode cX13_init 13 = .ok (.aload_n 1, 1) := dk_43 (dk_at dksX13_init_0 13 rfl rfl)
theorem dX13_init_14 : decode cX13_init 14 = .ok (.iconst 1, 1) := dk_4 (dk_at dksX13_init_0 14 rfl rfl)
theorem dX13_init_15 : decode cX13_init 15 = .ok (.iaload, 1) := dk_46 (dk_at dksX13_init_0 15 rfl rfl)
theorem dX13_init_16 : decode cX13_init 16 = .ok (.invokespecial 9, 3) := dk_183 0 9 (dk_at dksX13_init_0 16 rfl rfl)
theorem dX13_init_19 : decode cX13_init 19 = .ok (.putfield 12, 3) := dk_181 0 12 (dk_at dksX13_init_0 19 rfl rfl)
theorem dX13_init_22 : decode cX13_init 22 = .ok (.aload_n 0, 1) := dk_42 (dk_at dksX13_init_0 22 rfl rfl)
theorem dX13_init_23 : decode cX13_init 23 = .ok (.new 18, 3) := dk_187 0 18 (dk_at dksX13_init_1 0 rfl rfl)
theorem dX13_init_26 : decode cX13_init 26 = .ok (.dup, 1) := dk_89 (dk_at dksX13_init_1 3 rfl rfl)
theorem dX13_init_27 : decode cX13_init 27 = .ok (.aload_n 1, 1) := dk_43 (dk_at dksX13_init_1 4 rfl rfl)
theorem dX13_init_28 : decode cX13_init 28 = .ok (.iconst 2, 1) := dk_5 (dk_at dksX13_init_1 5 rfl rfl)
theorem dX13_init_29 : decode cX13_init 29 = .ok (.iaload, 1) := dk_46 (dk_at dksX13_init_1 6 rfl rfl)
theorem dX13_init_30 : decode cX13_init 30 = .ok (.aload_n 1, 1) := dk_43 (dk_at dksX13_init_1 7 rfl rfl)
theorem dX13_init_31 : decode cX13_init 31 = .ok (.iconst 3, 1) := dk_6 (dk_at dksX13_init_1 8 rfl rfl)
theorem dX13_init_32 : decode cX13_init 32 = .ok (.iaload, 1) := dk_46 (dk_at dksX13_init_1 9 rfl rfl)
theorem dX13_init_33 : decode cX13_init 33 = .ok (.invokespecial 20, 3) := dk_183 0 20 (dk_at dksX13_init_1 10 rfl rfl)
theorem dX13_init_36 : decode cX13_init 36 = .ok (.putfield 21, 3) := dk_181 0 21 (dk_at dksX13_init_1 13 rfl rfl)
theorem dX13_init_39 : decode cX13_init 39 = .ok (.aload_n 0, 1) := dk_42 (dk_at dksX13_init_1 16 rfl rfl)
theorem dX13_init_40 : decode cX13_init 40 = .ok (.new 25, 3) := dk_187 0 25 (dk_at dksX13_init_1 17 rfl rfl)
theorem dX13_init_43 : decode cX13_init 43 = .ok (.dup, 1) := dk_89 (dk_at dksX13_init_1 20 rfl rfl)
theorem dX13_init_44 : decode cX13_init 44 = .ok (.aload_n 1, 1) := dk_43 (dk_at dksX13_init_1 21 rfl rfl)
theorem dX13_init_45 : decode cX13_init 45 = .ok (.iconst 4, 1) := dk_7 (dk_at dksX13_init_1 22 rfl rfl)
theorem dX13_init_46 : decode cX13_init 46 = .ok (.iaload, 1) := dk_46 (dk_at dksX13_init_1 23 rfl rfl)
theorem dX13_init_47 : decode cX13_init 47 = .ok (.invokespecial 27, 3) := dk_183 0 27 (dk_at dksX13_init_2 0 rfl rfl)
theorem dX13_init_50 : decode cX13_init 50 = .ok (.putfield 28, 3) := dk_181 0 28 (dk_at dksX13_init_2 3 rfl rfl)
theorem dX13_init_53 : decode cX13_init 53 = .ok (.return_, 1) := dk_177 (dk_at dksX13_init_2 6 rfl rfl)
theorem dX13_spin_0 : decode cX13_spin 0 = .ok (.aload_n 0, 1) := by decide +kernel
theorem dX13_spin_1 : decode cX13_spin 1 = .ok (.getfield 12, 3) := by decide +kernel
theorem dX13_spin_4 : decode cX13_spin 4 = .ok (.areturn, 1) := by decide +kernel
theorem dX13_hoist_0 : decode cX13_hoist 0 = .ok (.aload_n 0, 1) := by decide +kernel
theorem dX13_hoist_1 : decode cX13_hoist 1 = .ok (.getfield 21, 3) := by decide +kernel
theorem dX13_hoist_4 : decode cX13_hoist 4 = .ok (.areturn, 1) := by decide +kernel
theorem dX13_bench_0 : decode cX13_bench 0 = .ok (.aload_n 0, 1) := by decide +kernel
theorem dX13_bench_1 : decode cX13_bench 1 = .ok (.getfield 28, 3) := by decide +kernel
theorem dX13_bench_4 : decode cX13_bench 4 = .ok (.areturn, 1) := by decide +kernel
def dkwX13_isCalm_1 : List UInt8 := [167, 0, 4, 3, 172]
abbrev dktX13_isCalm_1 : List UInt8 := dkwX13_isCalm_1 ++ []
def dkwX13_isCalm_0 : List UInt8 := [42, 76, 42, 77, 43, 185, 0, 61, 1, 0, 153, 0, 16, 44, 185, 0, 65, 1, 0, 153, 0, 7, 4]
abbrev dktX13_isCalm_0 : List UInt8 := dkwX13_isCalm_0 ++ dktX13_isCalm_1
theorem dksX13_isCalm_0 : cX13_isCalm.data.toList.drop 0 = dktX13_isCalm_0 := by decide +kernel
theorem dksX13_isCalm_1 : cX13_isCalm.data.toList.drop 23 = dktX13_isCalm_1 := dk_seg dksX13_isCalm_0 23 rfl rfl
theorem dX13_isCalm_0 : decode cX13_isCalm 0 = .ok (.aload_n 0, 1) := dk_42 (dk_at dksX13_isCalm_0 0 rfl rfl)
theorem dX13_isCalm_1 : decode cX13_isCalm 1 = .ok (.astore_n 1, 1) := dk_76 (dk_at dksX13_isCalm_0 1 rfl rfl)
theorem dX13_isCalm_2 : decode cX13_isCalm 2 = .ok (.aload_n 0, 1) := dk_42 (dk_at dksX13_isCalm_0 2 rfl rfl)
theorem dX13_isCalm_3 : decode cX13_isCalm 3 = .ok (.astore_n 2, 1) := dk_77 (dk_at dksX13_isCalm_0 3 rfl rfl)
theorem dX13_isCalm_4 : decode cX13_isCalm 4 = .ok (.aload_n 1, 1) := dk_43 (dk_at dksX13_isCalm_0 4 rfl rfl)
theorem dX13_isCalm_5 : decode cX13_isCalm 5 = .ok (.invokeinterface 61 1, 5) := by decide +kernel
theorem dX13_isCalm_10 : decode cX13_isCalm 10 = .ok (.ifCond .eq 16, 3) := dk_153 0 16 (dk_at dksX13_isCalm_0 10 rfl rfl)
theorem dX13_isCalm_13 : decode cX13_isCalm 13 = .ok (.aload_n 2, 1) := dk_44 (dk_at dksX13_isCalm_0 13 rfl rfl)
theorem dX13_isCalm_14 : decode cX13_isCalm 14 = .ok (.invokeinterface 65 1, 5) := by decide +kernel
theorem dX13_isCalm_19 : decode cX13_isCalm 19 = .ok (.ifCond .eq 7, 3) := dk_153 0 7 (dk_at dksX13_isCalm_0 19 rfl rfl)
theorem dX13_isCalm_22 : decode cX13_isCalm 22 = .ok (.iconst 1, 1) := dk_4 (dk_at dksX13_isCalm_0 22 rfl rfl)
theorem dX13_isCalm_23 : decode cX13_isCalm 23 = .ok (.goto 4, 3) := dk_167 0 4 (dk_at dksX13_isCalm_1 0 rfl rfl)
theorem dX13_isCalm_26 : decode cX13_isCalm 26 = .ok (.iconst 0, 1) := dk_3 (dk_at dksX13_isCalm_1 3 rfl rfl)
theorem dX13_isCalm_27 : decode cX13_isCalm 27 = .ok (.ireturn, 1) := dk_172 (dk_at dksX13_isCalm_1 4 rfl rfl)
def dkwX13_ease_1 : List UInt8 := [182, 0, 55, 16, 30, 164, 0, 7, 3, 167, 0, 10, 42, 180, 0, 21, 180, 0, 72, 182, 0, 76, 177]
abbrev dktX13_ease_1 : List UInt8 := dkwX13_ease_1 ++ []
def dkwX13_ease_0 : List UInt8 := [42, 76, 43, 185, 0, 68, 1, 0, 42, 180, 0, 21, 42, 180, 0, 21, 180, 0, 72, 42, 180, 0, 12]
abbrev dktX13_ease_0 : List UInt8 := dkwX13_ease_0 ++ dktX13_ease_1
theorem dksX13_ease_0 : cX13_ease.data.toList.drop 0 = dktX13_ease_0 := by decide +kernel
theorem dksX13_ease_1 : cX13_ease.data.toList.drop 23 = dktX13_ease_1 := dk_seg dksX13_ease_0 23 rfl rfl
theorem dX13_ease_0 : decode cX13_ease 0 = .ok (.aload_n 0, 1) := dk_42 (dk_at dksX13_ease_0 0 rfl rfl)
theorem dX13_ease_1 : decode cX13_ease 1 = .ok (.astore_n 1, 1) := dk_76 (dk_at dksX13_ease_0 1 rfl rfl)
theorem dX13_ease_2 : decode cX13_ease 2 = .ok (.aload_n 1, 1) := dk_43 (dk_at dksX13_ease_0 2 rfl rfl)
theorem dX13_ease_3 : decode cX13_ease 3 = .ok (.invokeinterface 68 1, 5) := by decide +kernel
theorem dX13_ease_8 : decode cX13_ease 8 = .ok (.aload_n 0, 1) := dk_42 (dk_at dksX13_ease_0 8 rfl rfl)
theorem dX13_ease_9 : decode cX13_ease 9 = .ok (.getfield 21, 3) := dk_180 0 21 (dk_at dksX13_ease_0 9 rfl rfl)
theorem dX13_ease_12 : decode cX13_ease 12 = .ok (.aload_n 0, 1) := dk_42 (dk_at dksX13_ease_0 12 rfl rfl)
theorem dX13_ease_13 : decode cX13_ease 13 = .ok (.getfield 21, 3) := dk_180 0 21 (dk_at dksX13_ease_0 13 rfl rfl)
theorem dX13_ease_16 : decode cX13_ease 16 = .ok (.getfield 72, 3) := dk_180 0 72 (dk_at dksX13_ease_0 16 rfl rfl)
theorem dX13_ease_19 : decode cX13_ease 19 = .ok (.aload_n 0, 1) := dk_42 (dk_at dksX13_ease_0 19 rfl rfl)
theorem dX13_ease_20 : decode cX13_ease 20 = .ok (.getfield 12, 3) := dk_180 0 12 (dk_at dksX13_ease_0 20 rfl rfl)
theorem dX13_ease_23 : decode cX13_ease 23 = .ok (.invokevirtual 55, 3) := dk_182 0 55 (dk_at dksX13_ease_1 0 rfl rfl)
theorem dX13_ease_26 : decode cX13_ease 26 = .ok (.bipush 30, 2) := dk_16 30 (dk_at dksX13_ease_1 3 rfl rfl)
theorem dX13_ease_28 : decode cX13_ease 28 = .ok (.if_icmp .le 7, 3) := dk_164 0 7 (dk_at dksX13_ease_1 5 rfl rfl)
theorem dX13_ease_31 : decode cX13_ease 31 = .ok (.iconst 0, 1) := dk_3 (dk_at dksX13_ease_1 8 rfl rfl)
theorem dX13_ease_32 : decode cX13_ease 32 = .ok (.goto 10, 3) := dk_167 0 10 (dk_at dksX13_ease_1 9 rfl rfl)
theorem dX13_ease_35 : decode cX13_ease 35 = .ok (.aload_n 0, 1) := dk_42 (dk_at dksX13_ease_1 12 rfl rfl)
theorem dX13_ease_36 : decode cX13_ease 36 = .ok (.getfield 21, 3) := dk_180 0 21 (dk_at dksX13_ease_1 13 rfl rfl)
theorem dX13_ease_39 : decode cX13_ease 39 = .ok (.getfield 72, 3) := dk_180 0 72 (dk_at dksX13_ease_1 16 rfl rfl)
theorem dX13_ease_42 : decode cX13_ease 42 = .ok (.invokevirtual 76, 3) := dk_182 0 76 (dk_at dksX13_ease_1 19 rfl rfl)
theorem dX13_ease_45 : decode cX13_ease 45 = .ok (.return_, 1) := dk_177 (dk_at dksX13_ease_1 22 rfl rfl)
def dkwX13_draw_0 : List UInt8 := [42, 76, 42, 77, 43, 185, 0, 32, 1, 0, 44, 185, 0, 38, 1, 0, 184, 0, 43, 172]
abbrev dktX13_draw_0 : List UInt8 := dkwX13_draw_0 ++ []
theorem dksX13_draw_0 : cX13_draw.data.toList.drop 0 = dktX13_draw_0 := by decide +kernel
theorem dX13_draw_0 : decode cX13_draw 0 = .ok (.aload_n 0, 1) := dk_42 (dk_at dksX13_draw_0 0 rfl rfl)
theorem dX13_draw_1 : decode cX13_draw 1 = .ok (.astore_n 1, 1) := dk_76 (dk_at dksX13_draw_0 1 rfl rfl)
theorem dX13_draw_2 : decode cX13_draw 2 = .ok (.aload_n 0, 1) := dk_42 (dk_at dksX13_draw_0 2 rfl rfl)
theorem dX13_draw_3 : decode cX13_draw 3 = .ok (.astore_n 2, 1) := dk_77 (dk_at dksX13_draw_0 3 rfl rfl)
theorem dX13_draw_4 : decode cX13_draw 4 = .ok (.aload_n 1, 1) := dk_43 (dk_at dksX13_draw_0 4 rfl rfl)
theorem dX13_draw_5 : decode cX13_draw 5 = .ok (.invokeinterface 32 1, 5) := by decide +kernel
theorem dX13_draw_10 : decode cX13_draw 10 = .ok (.aload_n 2, 1) := dk_44 (dk_at dksX13_draw_0 10 rfl rfl)
theorem dX13_draw_11 : decode cX13_draw 11 = .ok (.invokeinterface 38 1, 5) := by decide +kernel
theorem dX13_draw_16 : decode cX13_draw 16 = .ok (.invokestatic 43, 3) := dk_184 0 43 (dk_at dksX13_draw_0 16 rfl rfl)
theorem dX13_draw_19 : decode cX13_draw 19 = .ok (.ireturn, 1) := dk_172 (dk_at dksX13_draw_0 19 rfl rfl)
theorem dX13_limit_0 : decode cX13_limit 0 = .ok (.bipush 50, 2) := by decide +kernel
theorem dX13_limit_2 : decode cX13_limit 2 = .ok (.ireturn, 1) := by decide +kernel
def dkwX13_tear_0 : List UInt8 := [42, 76, 42, 180, 0, 12, 182, 0, 55, 43, 185, 0, 58, 1, 0, 96, 172]
abbrev dktX13_tear_0 : List UInt8 := dkwX13_tear_0 ++ []
theorem dksX13_tear_0 : cX13_tear.data.toList.drop 0 = dktX13_tear_0 := by decide +kernel
theorem dX13_tear_0 : decode cX13_tear 0 = .ok (.aload_n 0, 1) := dk_42 (dk_at dksX13_tear_0 0 rfl rfl)
theorem dX13_tear_1 : decode cX13_tear 1 = .ok (.astore_n 1, 1) := dk_76 (dk_at dksX13_tear_0 1 rfl rfl)
theorem dX13_tear_2 : decode cX13_tear 2 = .ok (.aload_n 0, 1) := dk_42 (dk_at dksX13_tear_0 2 rfl rfl)
theorem dX13_tear_3 : decode cX13_tear 3 = .ok (.getfield 12, 3) := dk_180 0 12 (dk_at dksX13_tear_0 3 rfl rfl)
theorem dX13_tear_6 : decode cX13_tear 6 = .ok (.invokevirtual 55, 3) := dk_182 0 55 (dk_at dksX13_tear_0 6 rfl rfl)
theorem dX13_tear_9 : decode cX13_tear 9 = .ok (.aload_n 1, 1) := dk_43 (dk_at dksX13_tear_0 9 rfl rfl)
theorem dX13_tear_10 : decode cX13_tear 10 = .ok (.invokeinterface 58 1, 5) := by decide +kernel
theorem dX13_tear_15 : decode cX13_tear 15 = .ok (.iadd, 1) := dk_96 (dk_at dksX13_tear_0 15 rfl rfl)
theorem dX13_tear_16 : decode cX13_tear 16 = .ok (.ireturn, 1) := dk_172 (dk_at dksX13_tear_0 16 rfl rfl)
def dkwX13_noise_0 : List UInt8 := [42, 76, 42, 77, 43, 185, 0, 49, 1, 0, 44, 185, 0, 52, 1, 0, 184, 0, 43, 172]
abbrev dktX13_noise_0 : List UInt8 := dkwX13_noise_0 ++ []
theorem dksX13_noise_0 : cX13_noise.data.toList.drop 0 = dktX13_noise_0 := by decide +kernel
theorem dX13_noise_0 : decode cX13_noise 0 = .ok (.aload_n 0, 1) := dk_42 (dk_at dksX13_noise_0 0 rfl rfl)
theorem dX13_noise_1 : decode cX13_noise 1 = .ok (.astore_n 1, 1) := dk_76 (dk_at dksX13_noise_0 1 rfl rfl)
theorem dX13_noise_2 : decode cX13_noise 2 = .ok (.aload_n 0, 1) := dk_42 (dk_at dksX13_noise_0 2 rfl rfl)
theorem dX13_noise_3 : decode cX13_noise 3 = .ok (.astore_n 2, 1) := dk_77 (dk_at dksX13_noise_0 3 rfl rfl)
theorem dX13_noise_4 : decode cX13_noise 4 = .ok (.aload_n 1, 1) := dk_43 (dk_at dksX13_noise_0 4 rfl rfl)
theorem dX13_noise_5 : decode cX13_noise 5 = .ok (.invokeinterface 49 1, 5) := by decide +kernel
theorem dX13_noise_10 : decode cX13_noise 10 = .ok (.aload_n 2, 1) := dk_44 (dk_at dksX13_noise_0 10 rfl rfl)
theorem dX13_noise_11 : decode cX13_noise 11 = .ok (.invokeinterface 52 1, 5) := by decide +kernel
theorem dX13_noise_16 : decode cX13_noise 16 = .ok (.invokestatic 43, 3) := dk_184 0 43 (dk_at dksX13_noise_0 16 rfl rfl)
theorem dX13_noise_19 : decode cX13_noise 19 = .ok (.ireturn, 1) := dk_172 (dk_at dksX13_noise_0 19 rfl rfl)
def dkwX14_init_1 : List UInt8 := [43, 4, 46, 183, 0, 20, 181, 0, 23, 177]
abbrev dktX14_init_1 : List UInt8 := dkwX14_init_1 ++ []
def dkwX14_init_0 : List UInt8 := [42, 6, 183, 0, 1, 42, 187, 0, 7, 89, 183, 0, 9, 181, 0, 12, 42, 187, 0, 18, 89, 43, 3, 46]
abbrev dktX14_init_0 : List UInt8 := dkwX14_init_0 ++ dktX14_init_1
theorem dksX14_init_0 : cX14_init.data.toList.drop 0 = dktX14_init_0 := by decide +kernel
theorem dksX14_init_1 : cX14_init.data.toList.drop 24 = dktX14_init_1 := dk_seg dksX14_init_0 24 rfl rfl
theorem dX14_init_0 : decode cX14_init 0 = .ok (.aload_n 0, 1) := dk_42 (dk_at dksX14_init_0 0 rfl rfl)
theorem dX14_init_1 : decode cX14_init 1 = .ok (.iconst 3, 1) := dk_6 (dk_at dksX14_init_0 1 rfl rfl)
theorem dX14_init_2 : decode cX14_init 2 = .ok (.invokespecial 1, 3) := dk_183 0 1 (dk_at dksX14_init_0 2 rfl rfl)
theorem dX14_init_5 : decode cX14_init 5 = .ok (.aload_n 0, 1) := dk_42 (dk_at dksX14_init_0 5 rfl rfl)
theorem dX14_init_6 : decode cX14_init 6 = .ok (.new 7, 3) := dk_187 0 7 (dk_at dksX14_init_0 6 rfl rfl)
theorem dX14_init_9 : decode cX14_init 9 = .ok (.dup, 1) := dk_89 (dk_at dksX14_init_0 9 rfl rfl)
theorem dX14_init_10 : decode cX14_init 10 = .ok (.invokespecial 9, 3) := dk_183 0 9 (dk_at dksX14_init_0 10 rfl rfl)
theorem dX14_init_13 : decode cX14_init 13 = .ok (.putfield 12, 3) := dk_181 0 12 (dk_at dksX14_init_0 13 rfl rfl)
theorem dX14_init_16 : decode cX14_init 16 = .ok (.aload_n 0, 1) := dk_42 (dk_at dksX14_init_0 16 rfl rfl)
theorem dX14_init_17 : decode cX14_init 17 = .ok (.new 18, 3) := dk_187 0 18 (dk_at dksX14_init_0 17 rfl rfl)
theorem dX14_init_20 : decode cX14_init 20 = .ok (.dup, 1) := dk_89 (dk_at dksX14_init_0 20 rfl rfl)
theorem dX14_init_21 : decode cX14_init 21 = .ok (.aload_n 1, 1) := dk_43 (dk_at dksX14_init_0 21 rfl rfl)
theorem dX14_init_22 : decode cX14_init 22 = .ok (.iconst 0, 1) := dk_3 (dk_at dksX14_init_0 22 rfl rfl)
theorem dX14_init_23 : decode cX14_init 23 = .ok (.iaload, 1) := dk_46 (dk_at dksX14_init_0 23 rfl rfl)
theorem dX14_init_24 : decode cX14_init 24 = .ok (.aload_n 1, 1) := dk_43 (dk_at dksX14_init_1 0 rfl rfl)
theorem dX14_init_25 : decode cX14_init 25 = .ok (.iconst 1, 1) := dk_4 (dk_at dksX14_init_1 1 rfl rfl)
theorem dX14_init_26 : decode cX14_init 26 = .ok (.iaload, 1) := dk_46 (dk_at dksX14_init_1 2 rfl rfl)
theorem dX14_init_27 : decode cX14_init 27 = .ok (.invokespecial 20, 3) := dk_183 0 20 (dk_at dksX14_init_1 3 rfl rfl)
theorem dX14_init_30 : decode cX14_init 30 = .ok (.putfield 23, 3) := dk_181 0 23 (dk_at dksX14_init_1 6 rfl rfl)
theorem dX14_init_33 : decode cX14_init 33 = .ok (.return_, 1) := dk_177 (dk_at dksX14_init_1 9 rfl rfl)
theorem dX14_spin_0 : decode cX14_spin 0 = .ok (.aload_n 0, 1) := by decide +kernel
theorem dX14_spin_1 : decode cX14_spin 1 = .ok (.getfield 23, 3) := by decide +kernel
theorem dX14_spin_4 : decode cX14_spin 4 = .ok (.areturn, 1) := by decide +kernel
theorem dX14_voice_0 : decode cX14_voice 0 = .ok (.aload_n 0, 1) := by decide +kernel
theorem dX14_voice_1 : decode cX14_voice 1 = .ok (.getfield 12, 3) := by decide +kernel
theorem dX14_voice_4 : decode cX14_voice 4 = .ok (.areturn, 1) := by decide +kernel
theorem dX14_isCalm_0 : decode cX14_isCalm 0 = .ok (.iconst 1, 1) := by decide +kernel
theorem dX14_isCalm_1 : decode cX14_isCalm 1 = .ok (.ireturn, 1) := by decide +kernel
def dkwX14_ease_1 : List UInt8 := [182, 0, 48, 184, 0, 51, 181, 0, 42, 177]
abbrev dktX14_ease_1 : List UInt8 := dkwX14_ease_1 ++ []
def dkwX14_ease_0 : List UInt8 := [42, 76, 43, 185, 0, 45, 1, 0, 42, 180, 0, 12, 42, 180, 0, 12, 180, 0, 42, 42, 180, 0, 23]
abbrev dktX14_ease_0 : List UInt8 := dkwX14_ease_0 ++ dktX14_ease_1
theorem dksX14_ease_0 : cX14_ease.data.toList.drop 0 = dktX14_ease_0 := by decide +kernel
theorem dksX14_ease_1 : cX14_ease.data.toList.drop 23 = dktX14_ease_1 := dk_seg dksX14_ease_0 23 rfl rfl
theorem dX14_ease_0 : decode cX14_ease 0 = .ok (.aload_n 0, 1) := dk_42 (dk_at dksX14_ease_0 0 rfl rfl)
theorem dX14_ease_1 : decode cX14_ease 1 = .ok (.astore_n 1, 1) := dk_76 (dk_at dksX14_ease_0 1 rfl rfl)
theorem dX14_ease_2 : decode cX14_ease 2 = .ok (.aload_n 1, 1) := dk_43 (dk_at dksX14_ease_0 2 rfl rfl)
theorem dX14_ease_3 : decode cX14_ease 3 = .ok (.invokeinterface 45 1, 5) := by decide +kernel
theorem dX14_ease_8 : decode cX14_ease 8 = .ok (.aload_n 0, 1) := dk_42 (dk_at dksX14_ease_0 8 rfl rfl)
theorem dX14_ease_9 : decode cX14_ease 9 = .ok (.getfield 12, 3) := dk_180 0 12 (dk_at dksX14_ease_0 9 rfl rfl)
theorem dX14_ease_12 : decode cX14_ease 12 = .ok (.aload_n 0, 1) := dk_42 (dk_at dksX14_ease_0 12 rfl rfl)
theorem dX14_ease_13 : decode cX14_ease 13 = .ok (.getfield 12, 3) := dk_180 0 12 (dk_at dksX14_ease_0 13 rfl rfl)
theorem dX14_ease_16 : decode cX14_ease 16 = .ok (.getfield 42, 3) := dk_180 0 42 (dk_at dksX14_ease_0 16 rfl rfl)
theorem dX14_ease_19 : decode cX14_ease 19 = .ok (.aload_n 0, 1) := dk_42 (dk_at dksX14_ease_0 19 rfl rfl)
theorem dX14_ease_20 : decode cX14_ease 20 = .ok (.getfield 23, 3) := dk_180 0 23 (dk_at dksX14_ease_0 20 rfl rfl)
theorem dX14_ease_23 : decode cX14_ease 23 = .ok (.invokevirtual 48, 3) := dk_182 0 48 (dk_at dksX14_ease_1 0 rfl rfl)
theorem dX14_ease_26 : decode cX14_ease 26 = .ok (.invokestatic 51, 3) := dk_184 0 51 (dk_at dksX14_ease_1 3 rfl rfl)
theorem dX14_ease_29 : decode cX14_ease 29 = .ok (.putfield 42, 3) := dk_181 0 42 (dk_at dksX14_ease_1 6 rfl rfl)
theorem dX14_ease_32 : decode cX14_ease 32 = .ok (.return_, 1) := dk_177 (dk_at dksX14_ease_1 9 rfl rfl)
def dkwX14_draw_0 : List UInt8 := [42, 76, 42, 77, 43, 185, 0, 27, 1, 0, 44, 185, 0, 33, 1, 0, 96, 172]
abbrev dktX14_draw_0 : List UInt8 := dkwX14_draw_0 ++ []
theorem dksX14_draw_0 : cX14_draw.data.toList.drop 0 = dktX14_draw_0 := by decide +kernel
theorem dX14_draw_0 : decode cX14_draw 0 = .ok (.aload_n 0, 1) := dk_42 (dk_at dksX14_draw_0 0 rfl rfl)
theorem dX14_draw_1 : decode cX14_draw 1 = .ok (.astore_n 1, 1) := dk_76 (dk_at dksX14_draw_0 1 rfl rfl)
theorem dX14_draw_2 : decode cX14_draw 2 = .ok (.aload_n 0, 1) := dk_42 (dk_at dksX14_draw_0 2 rfl rfl)
theorem dX14_draw_3 : decode cX14_draw 3 = .ok (.astore_n 2, 1) := dk_77 (dk_at dksX14_draw_0 3 rfl rfl)
theorem dX14_draw_4 : decode cX14_draw 4 = .ok (.aload_n 1, 1) := dk_43 (dk_at dksX14_draw_0 4 rfl rfl)
theorem dX14_draw_5 : decode cX14_draw 5 = .ok (.invokeinterface 27 1, 5) := by decide +kernel
theorem dX14_draw_10 : decode cX14_draw 10 = .ok (.aload_n 2, 1) := dk_44 (dk_at dksX14_draw_0 10 rfl rfl)
theorem dX14_draw_11 : decode cX14_draw 11 = .ok (.invokeinterface 33 1, 5) := by decide +kernel
theorem dX14_draw_16 : decode cX14_draw 16 = .ok (.iadd, 1) := dk_96 (dk_at dksX14_draw_0 16 rfl rfl)
theorem dX14_draw_17 : decode cX14_draw 17 = .ok (.ireturn, 1) := dk_172 (dk_at dksX14_draw_0 17 rfl rfl)
def dkwX14_noise_1 : List UInt8 := [180, 0, 42, 16, 10, 96, 172]
abbrev dktX14_noise_1 : List UInt8 := dkwX14_noise_1 ++ []
def dkwX14_noise_0 : List UInt8 := [42, 180, 0, 23, 180, 0, 38, 154, 0, 13, 42, 180, 0, 12, 180, 0, 42, 167, 0, 13, 42, 180, 0, 12]
abbrev dktX14_noise_0 : List UInt8 := dkwX14_noise_0 ++ dktX14_noise_1
theorem dksX14_noise_0 : cX14_noise.data.toList.drop 0 = dktX14_noise_0 := by decide +kernel
theorem dksX14_noise_1 : cX14_noise.data.toList.drop 24 = dktX14_noise_1 := dk_seg dksX14_noise_0 24 rfl rfl
theorem dX14_noise_0 : decode cX14_noise 0 = .ok (.aload_n 0, 1) := dk_42 (dk_at dksX14_noise_0 0 rfl rfl)
theorem dX14_noise_1 : decode cX14_noise 1 = .ok (.getfield 23, 3) := dk_180 0 23 (dk_at dksX14_noise_0 1 rfl rfl)
theorem dX14_noise_4 : decode cX14_noise 4 = .ok (.getfield 38, 3) := dk_180 0 38 (dk_at dksX14_noise_0 4 rfl rfl)
theorem dX14_noise_7 : decode cX14_noise 7 = .ok (.ifCond .ne 13, 3) := dk_154 0 13 (dk_at dksX14_noise_0 7 rfl rfl)
theorem dX14_noise_10 : decode cX14_noise 10 = .ok (.aload_n 0, 1) := dk_42 (dk_at dksX14_noise_0 10 rfl rfl)
theorem dX14_noise_11 : decode cX14_noise 11 = .ok (.getfield 12, 3) := dk_180 0 12 (dk_at dksX14_noise_0 11 rfl rfl)
theorem dX14_noise_14 : decode cX14_noise 14 = .ok (.getfield 42, 3) := dk_180 0 42 (dk_at dksX14_noise_0 14 rfl rfl)
theorem dX14_noise_17 : decode cX14_noise 17 = .ok (.goto 13, 3) := dk_167 0 13 (dk_at dksX14_noise_0 17 rfl rfl)
theorem dX14_noise_20 : decode cX14_noise 20 = .ok (.aload_n 0, 1) := dk_42 (dk_at dksX14_noise_0 20 rfl rfl)
theorem dX14_noise_21 : decode cX14_noise 21 = .ok (.getfield 12, 3) := dk_180 0 12 (dk_at dksX14_noise_0 21 rfl rfl)
theorem dX14_noise_24 : decode cX14_noise 24 = .ok (.getfield 42, 3) := dk_180 0 42 (dk_at dksX14_noise_1 0 rfl rfl)
theorem dX14_noise_27 : decode cX14_noise 27 = .ok (.bipush 10, 2) := dk_16 10 (dk_at dksX14_noise_1 3 rfl rfl)
theorem dX14_noise_29 : decode cX14_noise 29 = .ok (.iadd, 1) := dk_96 (dk_at dksX14_noise_1 5 rfl rfl)
theorem dX14_noise_30 : decode cX14_noise 30 = .ok (.ireturn, 1) := dk_172 (dk_at dksX14_noise_1 6 rfl rfl)
theorem dX15_init_0 : decode cX15_init 0 = .ok (.aload_n 0, 1) := by decide +kernel
theorem dX15_init_1 : decode cX15_init 1 = .ok (.invokespecial 1, 3) := by decide +kernel
theorem dX15_init_4 : decode cX15_init 4 = .ok (.return_, 1) := by decide +kernel
def dkwX16_init_0 : List UInt8 := [42, 7, 183, 0, 1, 42, 187, 0, 7, 89, 43, 3, 46, 183, 0, 9, 181, 0, 10, 177]
abbrev dktX16_init_0 : List UInt8 := dkwX16_init_0 ++ []
theorem dksX16_init_0 : cX16_init.data.toList.drop 0 = dktX16_init_0 := by decide +kernel
theorem dX16_init_0 : decode cX16_init 0 = .ok (.aload_n 0, 1) := dk_42 (dk_at dksX16_init_0 0 rfl rfl)
theorem dX16_init_1 : decode cX16_init 1 = .ok (.iconst 4, 1) := dk_7 (dk_at dksX16_init_0 1 rfl rfl)
theorem dX16_init_2 : decode cX16_init 2 = .ok (.invokespecial 1, 3) := dk_183 0 1 (dk_at dksX16_init_0 2 rfl rfl)
theorem dX16_init_5 : decode cX16_init 5 = .ok (.aload_n 0, 1) := dk_42 (dk_at dksX16_init_0 5 rfl rfl)
theorem dX16_init_6 : decode cX16_init 6 = .ok (.new 7, 3) := dk_187 0 7 (dk_at dksX16_init_0 6 rfl rfl)
theorem dX16_init_9 : decode cX16_init 9 = .ok (.dup, 1) := dk_89 (dk_at dksX16_init_0 9 rfl rfl)
theorem dX16_init_10 : decode cX16_init 10 = .ok (.aload_n 1, 1) := dk_43 (dk_at dksX16_init_0 10 rfl rfl)
theorem dX16_init_11 : decode cX16_init 11 = .ok (.iconst 0, 1) := dk_3 (dk_at dksX16_init_0 11 rfl rfl)
theorem dX16_init_12 : decode cX16_init 12 = .ok (.iaload, 1) := dk_46 (dk_at dksX16_init_0 12 rfl rfl)
theorem dX16_init_13 : decode cX16_init 13 = .ok (.invokespecial 9, 3) := dk_183 0 9 (dk_at dksX16_init_0 13 rfl rfl)
theorem dX16_init_16 : decode cX16_init 16 = .ok (.putfield 10, 3) := dk_181 0 10 (dk_at dksX16_init_0 16 rfl rfl)
theorem dX16_init_19 : decode cX16_init 19 = .ok (.return_, 1) := dk_177 (dk_at dksX16_init_0 19 rfl rfl)
theorem dX16_light_0 : decode cX16_light 0 = .ok (.aload_n 0, 1) := by decide +kernel
theorem dX16_light_1 : decode cX16_light 1 = .ok (.getfield 10, 3) := by decide +kernel
theorem dX16_light_4 : decode cX16_light 4 = .ok (.areturn, 1) := by decide +kernel
def dkwX17_init_0 : List UInt8 := [42, 183, 0, 1, 42, 27, 181, 0, 7, 177]
abbrev dktX17_init_0 : List UInt8 := dkwX17_init_0 ++ []
theorem dksX17_init_0 : cX17_init.data.toList.drop 0 = dktX17_init_0 := by decide +kernel
theorem dX17_init_0 : decode cX17_init 0 = .ok (.aload_n 0, 1) := dk_42 (dk_at dksX17_init_0 0 rfl rfl)
theorem dX17_init_1 : decode cX17_init 1 = .ok (.invokespecial 1, 3) := dk_183 0 1 (dk_at dksX17_init_0 1 rfl rfl)
theorem dX17_init_4 : decode cX17_init 4 = .ok (.aload_n 0, 1) := dk_42 (dk_at dksX17_init_0 4 rfl rfl)
theorem dX17_init_5 : decode cX17_init 5 = .ok (.iload_n 1, 1) := dk_27 (dk_at dksX17_init_0 5 rfl rfl)
theorem dX17_init_6 : decode cX17_init 6 = .ok (.putfield 7, 3) := dk_181 0 7 (dk_at dksX17_init_0 6 rfl rfl)
theorem dX17_init_9 : decode cX17_init 9 = .ok (.return_, 1) := dk_177 (dk_at dksX17_init_0 9 rfl rfl)
def dkwX18_init_1 : List UInt8 := [43, 4, 46, 183, 0, 20, 181, 0, 23, 42, 187, 0, 27, 89, 43, 5, 46, 183, 0, 29, 181, 0, 30, 177]
abbrev dktX18_init_1 : List UInt8 := dkwX18_init_1 ++ []
def dkwX18_init_0 : List UInt8 := [42, 8, 183, 0, 1, 42, 187, 0, 7, 89, 183, 0, 9, 181, 0, 12, 42, 187, 0, 18, 89, 43, 3, 46]
abbrev dktX18_init_0 : List UInt8 := dkwX18_init_0 ++ dktX18_init_1
theorem dksX18_init_0 : cX18_init.data.toList.drop 0 = dktX18_init_0 := by decide +kernel
theorem dksX18_init_1 : cX18_init.data.toList.drop 24 = dktX18_init_1 := dk_seg dksX18_init_0 24 rfl rfl
theorem dX18_init_0 : decode cX18_init 0 = .ok (.aload_n 0, 1) := dk_42 (dk_at dksX18_init_0 0 rfl rfl)
theorem dX18_init_1 : decode cX18_init 1 = .ok (.iconst 5, 1) := dk_8 (dk_at dksX18_init_0 1 rfl rfl)
theorem dX18_init_2 : decode cX18_init 2 = .ok (.invokespecial 1, 3) := dk_183 0 1 (dk_at dksX18_init_0 2 rfl rfl)
theorem dX18_init_5 : decode cX18_init 5 = .ok (.aload_n 0, 1) := dk_42 (dk_at dksX18_init_0 5 rfl rfl)
theorem dX18_init_6 : decode cX18_init 6 = .ok (.new 7, 3) := dk_187 0 7 (dk_at dksX18_init_0 6 rfl rfl)
theorem dX18_init_9 : decode cX18_init 9 = .ok (.dup, 1) := dk_89 (dk_at dksX18_init_0 9 rfl rfl)
theorem dX18_init_10 : decode cX18_init 10 = .ok (.invokespecial 9, 3) := dk_183 0 9 (dk_at dksX18_init_0 10 rfl rfl)
theorem dX18_init_13 : decode cX18_init 13 = .ok (.putfield 12, 3) := dk_181 0 12 (dk_at dksX18_init_0 13 rfl rfl)
theorem dX18_init_16 : decode cX18_init 16 = .ok (.aload_n 0, 1) := dk_42 (dk_at dksX18_init_0 16 rfl rfl)
theorem dX18_init_17 : decode cX18_init 17 = .ok (.new 18, 3) := dk_187 0 18 (dk_at dksX18_init_0 17 rfl rfl)
theorem dX18_init_20 : decode cX18_init 20 = .ok (.dup, 1) := dk_89 (dk_at dksX18_init_0 20 rfl rfl)
theorem dX18_init_21 : decode cX18_init 21 = .ok (.aload_n 1, 1) := dk_43 (dk_at dksX18_init_0 21 rfl rfl)
theorem dX18_init_22 : decode cX18_init 22 = .ok (.iconst 0, 1) := dk_3 (dk_at dksX18_init_0 22 rfl rfl)
theorem dX18_init_23 : decode cX18_init 23 = .ok (.iaload, 1) := dk_46 (dk_at dksX18_init_0 23 rfl rfl)
theorem dX18_init_24 : decode cX18_init 24 = .ok (.aload_n 1, 1) := dk_43 (dk_at dksX18_init_1 0 rfl rfl)
theorem dX18_init_25 : decode cX18_init 25 = .ok (.iconst 1, 1) := dk_4 (dk_at dksX18_init_1 1 rfl rfl)
theorem dX18_init_26 : decode cX18_init 26 = .ok (.iaload, 1) := dk_46 (dk_at dksX18_init_1 2 rfl rfl)
theorem dX18_init_27 : decode cX18_init 27 = .ok (.invokespecial 20, 3) := dk_183 0 20 (dk_at dksX18_init_1 3 rfl rfl)
theorem dX18_init_30 : decode cX18_init 30 = .ok (.putfield 23, 3) := dk_181 0 23 (dk_at dksX18_init_1 6 rfl rfl)
theorem dX18_init_33 : decode cX18_init 33 = .ok (.aload_n 0, 1) := dk_42 (dk_at dksX18_init_1 9 rfl rfl)
theorem dX18_init_34 : decode cX18_init 34 = .ok (.new 27, 3) := dk_187 0 27 (dk_at dksX18_init_1 10 rfl rfl)
theorem dX18_init_37 : decode cX18_init 37 = .ok (.dup, 1) := dk_89 (dk_at dksX18_init_1 13 rfl rfl)
theorem dX18_init_38 : decode cX18_init 38 = .ok (.aload_n 1, 1) := dk_43 (dk_at dksX18_init_1 14 rfl rfl)
theorem dX18_init_39 : decode cX18_init 39 = .ok (.iconst 2, 1) := dk_5 (dk_at dksX18_init_1 15 rfl rfl)
theorem dX18_init_40 : decode cX18_init 40 = .ok (.iaload, 1) := dk_46 (dk_at dksX18_init_1 16 rfl rfl)
theorem dX18_init_41 : decode cX18_init 41 = .ok (.invokespecial 29, 3) := dk_183 0 29 (dk_at dksX18_init_1 17 rfl rfl)
theorem dX18_init_44 : decode cX18_init 44 = .ok (.putfield 30, 3) := dk_181 0 30 (dk_at dksX18_init_1 20 rfl rfl)
theorem dX18_init_47 : decode cX18_init 47 = .ok (.return_, 1) := dk_177 (dk_at dksX18_init_1 23 rfl rfl)
theorem dX18_hoist_0 : decode cX18_hoist 0 = .ok (.aload_n 0, 1) := by decide +kernel
theorem dX18_hoist_1 : decode cX18_hoist 1 = .ok (.getfield 23, 3) := by decide +kernel
theorem dX18_hoist_4 : decode cX18_hoist 4 = .ok (.areturn, 1) := by decide +kernel
theorem dX18_light_0 : decode cX18_light 0 = .ok (.aload_n 0, 1) := by decide +kernel
theorem dX18_light_1 : decode cX18_light 1 = .ok (.getfield 30, 3) := by decide +kernel
theorem dX18_light_4 : decode cX18_light 4 = .ok (.areturn, 1) := by decide +kernel
theorem dX18_voice_0 : decode cX18_voice 0 = .ok (.aload_n 0, 1) := by decide +kernel
theorem dX18_voice_1 : decode cX18_voice 1 = .ok (.getfield 12, 3) := by decide +kernel
theorem dX18_voice_4 : decode cX18_voice 4 = .ok (.areturn, 1) := by decide +kernel
def dkwX18_isCalm_0 : List UInt8 := [42, 76, 43, 185, 0, 66, 1, 0, 172]
abbrev dktX18_isCalm_0 : List UInt8 := dkwX18_isCalm_0 ++ []
theorem dksX18_isCalm_0 : cX18_isCalm.data.toList.drop 0 = dktX18_isCalm_0 := by decide +kernel
theorem dX18_isCalm_0 : decode cX18_isCalm 0 = .ok (.aload_n 0, 1) := dk_42 (dk_at dksX18_isCalm_0 0 rfl rfl)
theorem dX18_isCalm_1 : decode cX18_isCalm 1 = .ok (.astore_n 1, 1) := dk_76 (dk_at dksX18_isCalm_0 1 rfl rfl)
theorem dX18_isCalm_2 : decode cX18_isCalm 2 = .ok (.aload_n 1, 1) := dk_43 (dk_at dksX18_isCalm_0 2 rfl rfl)
theorem dX18_isCalm_3 : decode cX18_isCalm 3 = .ok (.invokeinterface 66 1, 5) := by decide +kernel
theorem dX18_isCalm_8 : decode cX18_isCalm 8 = .ok (.ireturn, 1) := dk_172 (dk_at dksX18_isCalm_0 8 rfl rfl)
def dkwX18_ease_0 : List UInt8 := [42, 180, 0, 23, 42, 180, 0, 23, 180, 0, 70, 5, 42, 180, 0, 23, 180, 0, 70, 104, 182, 0, 73, 177]
abbrev dktX18_ease_0 : List UInt8 := dkwX18_ease_0 ++ []
theorem dksX18_ease_0 : cX18_ease.data.toList.drop 0 = dktX18_ease_0 := by decide +kernel
theorem dX18_ease_0 : decode cX18_ease 0 = .ok (.aload_n 0, 1) := dk_42 (dk_at dksX18_ease_0 0 rfl rfl)
theorem dX18_ease_1 : decode cX18_ease 1 = .ok (.getfield 23, 3) := dk_180 0 23 (dk_at dksX18_ease_0 1 rfl rfl)
theorem dX18_ease_4 : decode cX18_ease 4 = .ok (.aload_n 0, 1) := dk_42 (dk_at dksX18_ease_0 4 rfl rfl)
theorem dX18_ease_5 : decode cX18_ease 5 = .ok (.getfield 23, 3) := dk_180 0 23 (dk_at dksX18_ease_0 5 rfl rfl)
theorem dX18_ease_8 : decode cX18_ease 8 = .ok (.getfield 70, 3) := dk_180 0 70 (dk_at dksX18_ease_0 8 rfl rfl)
theorem dX18_ease_11 : decode cX18_ease 11 = .ok (.iconst 2, 1) := dk_5 (dk_at dksX18_ease_0 11 rfl rfl)
theorem dX18_ease_12 : decode cX18_ease 12 = .ok (.aload_n 0, 1) := dk_42 (dk_at dksX18_ease_0 12 rfl rfl)
theorem dX18_ease_13 : decode cX18_ease 13 = .ok (.getfield 23, 3) := dk_180 0 23 (dk_at dksX18_ease_0 13 rfl rfl)
theorem dX18_ease_16 : decode cX18_ease 16 = .ok (.getfield 70, 3) := dk_180 0 70 (dk_at dksX18_ease_0 16 rfl rfl)
theorem dX18_ease_19 : decode cX18_ease 19 = .ok (.imul, 1) := dk_104 (dk_at dksX18_ease_0 19 rfl rfl)
theorem dX18_ease_20 : decode cX18_ease 20 = .ok (.invokevirtual 73, 3) := dk_182 0 73 (dk_at dksX18_ease_0 20 rfl rfl)
theorem dX18_ease_23 : decode cX18_ease 23 = .ok (.return_, 1) := dk_177 (dk_at dksX18_ease_0 23 rfl rfl)
def dkwX18_draw_1 : List UInt8 := [185, 0, 45, 1, 0, 96, 172]
abbrev dktX18_draw_1 : List UInt8 := dkwX18_draw_1 ++ []
def dkwX18_draw_0 : List UInt8 := [42, 76, 42, 77, 42, 78, 43, 185, 0, 34, 1, 0, 44, 185, 0, 40, 1, 0, 96, 45]
abbrev dktX18_draw_0 : List UInt8 := dkwX18_draw_0 ++ dktX18_draw_1
theorem dksX18_draw_0 : cX18_draw.data.toList.drop 0 = dktX18_draw_0 := by decide +kernel
theorem dksX18_draw_1 : cX18_draw.data.toList.drop 20 = dktX18_draw_1 := dk_seg dksX18_draw_0 20 rfl rfl
theorem dX18_draw_0 : decode cX18_draw 0 = .ok (.aload_n 0, 1) := dk_42 (dk_at dksX18_draw_0 0 rfl rfl)
theorem dX18_draw_1 : decode cX18_draw 1 = .ok (.astore_n 1, 1) := dk_76 (dk_at dksX18_draw_0 1 rfl rfl)
theorem dX18_draw_2 : decode cX18_draw 2 = .ok (.aload_n 0, 1) := dk_42 (dk_at dksX18_draw_0 2 rfl rfl)
theorem dX18_draw_3 : decode cX18_draw 3 = .ok (.astore_n 2, 1) := dk_77 (dk_at dksX18_draw_0 3 rfl rfl)
theorem dX18_draw_4 : decode cX18_draw 4 = .ok (.aload_n 0, 1) := dk_42 (dk_at dksX18_draw_0 4 rfl rfl)
theorem dX18_draw_5 : decode cX18_draw 5 = .ok (.astore_n 3, 1) := dk_78 (dk_at dksX18_draw_0 5 rfl rfl)
theorem dX18_draw_6 : decode cX18_draw 6 = .ok (.aload_n 1, 1) := dk_43 (dk_at dksX18_draw_0 6 rfl rfl)
theorem dX18_draw_7 : decode cX18_draw 7 = .ok (.invokeinterface 34 1, 5) := by decide +kernel
theorem dX18_draw_12 : decode cX18_draw 12 = .ok (.aload_n 2, 1) := dk_44 (dk_at dksX18_draw_0 12 rfl rfl)
theorem dX18_draw_13 : decode cX18_draw 13 = .ok (.invokeinterface 40 1, 5) := by decide +kernel
theorem dX18_draw_18 : decode cX18_draw 18 = .ok (.iadd, 1) := dk_96 (dk_at dksX18_draw_0 18 rfl rfl)
theorem dX18_draw_19 : decode cX18_draw 19 = .ok (.aload_n 3, 1) := dk_45 (dk_at dksX18_draw_0 19 rfl rfl)
theorem dX18_draw_20 : decode cX18_draw 20 = .ok (.invokeinterface 45 1, 5) := by decide +kernel
theorem dX18_draw_25 : decode cX18_draw 25 = .ok (.iadd, 1) := dk_96 (dk_at dksX18_draw_1 5 rfl rfl)
theorem dX18_draw_26 : decode cX18_draw 26 = .ok (.ireturn, 1) := dk_172 (dk_at dksX18_draw_1 6 rfl rfl)
def dkwX18_tear_0 : List UInt8 := [42, 76, 5, 43, 185, 0, 63, 1, 0, 104, 172]
abbrev dktX18_tear_0 : List UInt8 := dkwX18_tear_0 ++ []
theorem dksX18_tear_0 : cX18_tear.data.toList.drop 0 = dktX18_tear_0 := by decide +kernel
theorem dX18_tear_0 : decode cX18_tear 0 = .ok (.aload_n 0, 1) := dk_42 (dk_at dksX18_tear_0 0 rfl rfl)
theorem dX18_tear_1 : decode cX18_tear 1 = .ok (.astore_n 1, 1) := dk_76 (dk_at dksX18_tear_0 1 rfl rfl)
theorem dX18_tear_2 : decode cX18_tear 2 = .ok (.iconst 2, 1) := dk_5 (dk_at dksX18_tear_0 2 rfl rfl)
theorem dX18_tear_3 : decode cX18_tear 3 = .ok (.aload_n 1, 1) := dk_43 (dk_at dksX18_tear_0 3 rfl rfl)
theorem dX18_tear_4 : decode cX18_tear 4 = .ok (.invokeinterface 63 1, 5) := by decide +kernel
theorem dX18_tear_9 : decode cX18_tear 9 = .ok (.imul, 1) := dk_104 (dk_at dksX18_tear_0 9 rfl rfl)
theorem dX18_tear_10 : decode cX18_tear 10 = .ok (.ireturn, 1) := dk_172 (dk_at dksX18_tear_0 10 rfl rfl)
def dkwX18_noise_0 : List UInt8 := [42, 76, 43, 185, 0, 50, 1, 0, 42, 180, 0, 12, 180, 0, 53, 184, 0, 57, 172]
abbrev dktX18_noise_0 : List UInt8 := dkwX18_noise_0 ++ []
theorem dksX18_noise_0 : cX18_noise.data.toList.drop 0 = dktX18_noise_0 := by decide +kernel
theorem dX18_noise_0 : decode cX18_noise 0 = .ok (.aload_n 0, 1) := dk_42 (dk_at dksX18_noise_0 0 rfl rfl)
theorem dX18_noise_1 : decode cX18_noise 1 = .ok (.astore_n 1, 1) := dk_76 (dk_at dksX18_noise_0 1 rfl rfl)
theorem dX18_noise_2 : decode cX18_noise 2 = .ok (.aload_n 1, 1) := dk_43 (dk_at dksX18_noise_0 2 rfl rfl)
theorem dX18_noise_3 : decode cX18_noise 3 = .ok (.invokeinterface 50 1, 5) := by decide +kernel
theorem dX18_noise_8 : decode cX18_noise 8 = .ok (.aload_n 0, 1) := dk_42 (dk_at dksX18_noise_0 8 rfl rfl)
theorem dX18_noise_9 : decode cX18_noise 9 = .ok (.getfield 12, 3) := dk_180 0 12 (dk_at dksX18_noise_0 9 rfl rfl)
theorem dX18_noise_12 : decode cX18_noise 12 = .ok (.getfield 53, 3) := dk_180 0 53 (dk_at dksX18_noise_0 12 rfl rfl)
theorem dX18_noise_15 : decode cX18_noise 15 = .ok (.invokestatic 57, 3) := dk_184 0 57 (dk_at dksX18_noise_0 15 rfl rfl)
theorem dX18_noise_18 : decode cX18_noise 18 = .ok (.ireturn, 1) := dk_172 (dk_at dksX18_noise_0 18 rfl rfl)
def dkwX19_init_1 : List UInt8 := [46, 183, 0, 20, 181, 0, 21, 42, 187, 0, 25, 89, 43, 4, 46, 183, 0, 27, 181, 0, 28, 177]
abbrev dktX19_init_1 : List UInt8 := dkwX19_init_1 ++ []
def dkwX19_init_0 : List UInt8 := [42, 16, 6, 183, 0, 1, 42, 187, 0, 7, 89, 183, 0, 9, 181, 0, 12, 42, 187, 0, 18, 89, 43, 3]
abbrev dktX19_init_0 : List UInt8 := dkwX19_init_0 ++ dktX19_init_1
theorem dksX19_init_0 : cX19_init.data.toList.drop 0 = dktX19_init_0 := by decide +kernel
theorem dksX19_init_1 : cX19_init.data.toList.drop 24 = dktX19_init_1 := dk_seg dksX19_init_0 24 rfl rfl
theorem dX19_init_0 : decode cX19_init 0 = .ok (.aload_n 0, 1) := dk_42 (dk_at dksX19_init_0 0 rfl rfl)
theorem dX19_init_1 : decode cX19_init 1 = .ok (.bipush 6, 2) := dk_16 6 (dk_at dksX19_init_0 1 rfl rfl)
theorem dX19_init_3 : decode cX19_init 3 = .ok (.invokespecial 1, 3) := dk_183 0 1 (dk_at dksX19_init_0 3 rfl rfl)
theorem dX19_init_6 : decode cX19_init 6 = .ok (.aload_n 0, 1) := dk_42 (dk_at dksX19_init_0 6 rfl rfl)
theorem dX19_init_7 : decode cX19_init 7 = .ok (.new 7, 3) := dk_187 0 7 (dk_at dksX19_init_0 7 rfl rfl)
theorem dX19_init_10 : decode cX19_init 10 = .ok (.dup, 1) := dk_89 (dk_at dksX19_init_0 10 rfl rfl)
theorem dX19_init_11 : decode cX19_init 11 = .ok (.invokespecial 9, 3) := dk_183 0 9 (dk_at dksX19_init_0 11 rfl rfl)
theorem dX19_init_14 : decode cX19_init 14 = .ok (.putfield 12, 3) := dk_181 0 12 (dk_at dksX19_init_0 14 rfl rfl)
theorem dX19_init_17 : decode cX19_init 17 = .ok (.aload_n 0, 1) := dk_42 (dk_at dksX19_init_0 17 rfl rfl)
theorem dX19_init_18 : decode cX19_init 18 = .ok (.new 18, 3) := dk_187 0 18 (dk_at dksX19_init_0 18 rfl rfl)
theorem dX19_init_21 : decode cX19_init 21 = .ok (.dup, 1) := dk_89 (dk_at dksX19_init_0 21 rfl rfl)
theorem dX19_init_22 : decode cX19_init 22 = .ok (.aload_n 1, 1) := dk_43 (dk_at dksX19_init_0 22 rfl rfl)
theorem dX19_init_23 : decode cX19_init 23 = .ok (.iconst 0, 1) := dk_3 (dk_at dksX19_init_0 23 rfl rfl)
theorem dX19_init_24 : decode cX19_init 24 = .ok (.iaload, 1) := dk_46 (dk_at dksX19_init_1 0 rfl rfl)
theorem dX19_init_25 : decode cX19_init 25 = .ok (.invokespecial 20, 3) := dk_183 0 20 (dk_at dksX19_init_1 1 rfl rfl)
theorem dX19_init_28 : decode cX19_init 28 = .ok (.putfield 21, 3) := dk_181 0 21 (dk_at dksX19_init_1 4 rfl rfl)
theorem dX19_init_31 : decode cX19_init 31 = .ok (.aload_n 0, 1) := dk_42 (dk_at dksX19_init_1 7 rfl rfl)
theorem dX19_init_32 : decode cX19_init 32 = .ok (.new 25, 3) := dk_187 0 25 (dk_at dksX19_init_1 8 rfl rfl)
theorem dX19_init_35 : decode cX19_init 35 = .ok (.dup, 1) := dk_89 (dk_at dksX19_init_1 11 rfl rfl)
theorem dX19_init_36 : decode cX19_init 36 = .ok (.aload_n 1, 1) := dk_43 (dk_at dksX19_init_1 12 rfl rfl)
theorem dX19_init_37 : decode cX19_init 37 = .ok (.iconst 1, 1) := dk_4 (dk_at dksX19_init_1 13 rfl rfl)
theorem dX19_init_38 : decode cX19_init 38 = .ok (.iaload, 1) := dk_46 (dk_at dksX19_init_1 14 rfl rfl)
theorem dX19_init_39 : decode cX19_init 39 = .ok (.invokespecial 27, 3) := dk_183 0 27 (dk_at dksX19_init_1 15 rfl rfl)
theorem dX19_init_42 : decode cX19_init 42 = .ok (.putfield 28, 3) := dk_181 0 28 (dk_at dksX19_init_1 18 rfl rfl)
theorem dX19_init_45 : decode cX19_init 45 = .ok (.return_, 1) := dk_177 (dk_at dksX19_init_1 21 rfl rfl)
theorem dX19_light_0 : decode cX19_light 0 = .ok (.aload_n 0, 1) := by decide +kernel
theorem dX19_light_1 : decode cX19_light 1 = .ok (.getfield 28, 3) := by decide +kernel
theorem dX19_light_4 : decode cX19_light 4 = .ok (.areturn, 1) := by decide +kernel
theorem dX19_voice_0 : decode cX19_voice 0 = .ok (.aload_n 0, 1) := by decide +kernel
theorem dX19_voice_1 : decode cX19_voice 1 = .ok (.getfield 12, 3) := by decide +kernel
theorem dX19_voice_4 : decode cX19_voice 4 = .ok (.areturn, 1) := by decide +kernel
theorem dX19_bench_0 : decode cX19_bench 0 = .ok (.aload_n 0, 1) := by decide +kernel
theorem dX19_bench_1 : decode cX19_bench 1 = .ok (.getfield 21, 3) := by decide +kernel
theorem dX19_bench_4 : decode cX19_bench 4 = .ok (.areturn, 1) := by decide +kernel
def dkwX19_isCalm_1 : List UInt8 := [167, 0, 4, 3, 172]
abbrev dktX19_isCalm_1 : List UInt8 := dkwX19_isCalm_1 ++ []
def dkwX19_isCalm_0 : List UInt8 := [42, 76, 42, 180, 0, 28, 180, 0, 47, 16, 50, 161, 0, 16, 43, 185, 0, 50, 1, 0, 153, 0, 7, 4]
abbrev dktX19_isCalm_0 : List UInt8 := dkwX19_isCalm_0 ++ dktX19_isCalm_1
theorem dksX19_isCalm_0 : cX19_isCalm.data.toList.drop 0 = dktX19_isCalm_0 := by decide +kernel
theorem dksX19_isCalm_1 : cX19_isCalm.data.toList.drop 24 = dktX19_isCalm_1 := dk_seg dksX19_isCalm_0 24 rfl rfl
theorem dX19_isCalm_0 : decode cX19_isCalm 0 = .ok (.aload_n 0, 1) := dk_42 (dk_at dksX19_isCalm_0 0 rfl rfl)
theorem dX19_isCalm_1 : decode cX19_isCalm 1 = .ok (.astore_n 1, 1) := dk_76 (dk_at dksX19_isCalm_0 1 rfl rfl)
theorem dX19_isCalm_2 : decode cX19_isCalm 2 = .ok (.aload_n 0, 1) := dk_42 (dk_at dksX19_isCalm_0 2 rfl rfl)
theorem dX19_isCalm_3 : decode cX19_isCalm 3 = .ok (.getfield 28, 3) := dk_180 0 28 (dk_at dksX19_isCalm_0 3 rfl rfl)
theorem dX19_isCalm_6 : decode cX19_isCalm 6 = .ok (.getfield 47, 3) := dk_180 0 47 (dk_at dksX19_isCalm_0 6 rfl rfl)
theorem dX19_isCalm_9 : decode cX19_isCalm 9 = .ok (.bipush 50, 2) := dk_16 50 (dk_at dksX19_isCalm_0 9 rfl rfl)
theorem dX19_isCalm_11 : decode cX19_isCalm 11 = .ok (.if_icmp .lt 16, 3) := dk_161 0 16 (dk_at dksX19_isCalm_0 11 rfl rfl)
theorem dX19_isCalm_14 : decode cX19_isCalm 14 = .ok (.aload_n 1, 1) := dk_43 (dk_at dksX19_isCalm_0 14 rfl rfl)
theorem dX19_isCalm_15 : decode cX19_isCalm 15 = .ok (.invokeinterface 50 1, 5) := by decide +kernel
theorem dX19_isCalm_20 : decode cX19_isCalm 20 = .ok (.ifCond .eq 7, 3) := dk_153 0 7 (dk_at dksX19_isCalm_0 20 rfl rfl)
theorem dX19_isCalm_23 : decode cX19_isCalm 23 = .ok (.iconst 1, 1) := dk_4 (dk_at dksX19_isCalm_0 23 rfl rfl)
theorem dX19_isCalm_24 : decode cX19_isCalm 24 = .ok (.goto 4, 3) := dk_167 0 4 (dk_at dksX19_isCalm_1 0 rfl rfl)
theorem dX19_isCalm_27 : decode cX19_isCalm 27 = .ok (.iconst 0, 1) := dk_3 (dk_at dksX19_isCalm_1 3 rfl rfl)
theorem dX19_isCalm_28 : decode cX19_isCalm 28 = .ok (.ireturn, 1) := dk_172 (dk_at dksX19_isCalm_1 4 rfl rfl)
def dkwX19_draw_0 : List UInt8 := [42, 76, 42, 77, 43, 185, 0, 32, 1, 0, 44, 185, 0, 38, 1, 0, 96, 172]
abbrev dktX19_draw_0 : List UInt8 := dkwX19_draw_0 ++ []
theorem dksX19_draw_0 : cX19_draw.data.toList.drop 0 = dktX19_draw_0 := by decide +kernel
theorem dX19_draw_0 : decode cX19_draw 0 = .ok (.aload_n 0, 1) := dk_42 (dk_at dksX19_draw_0 0 rfl rfl)
theorem dX19_draw_1 : decode cX19_draw 1 = .ok (.astore_n 1, 1) := dk_76 (dk_at dksX19_draw_0 1 rfl rfl)
theorem dX19_draw_2 : decode cX19_draw 2 = .ok (.aload_n 0, 1) := dk_42 (dk_at dksX19_draw_0 2 rfl rfl)
theorem dX19_draw_3 : decode cX19_draw 3 = .ok (.astore_n 2, 1) := dk_77 (dk_at dksX19_draw_0 3 rfl rfl)
theorem dX19_draw_4 : decode cX19_draw 4 = .ok (.aload_n 1, 1) := dk_43 (dk_at dksX19_draw_0 4 rfl rfl)
theorem dX19_draw_5 : decode cX19_draw 5 = .ok (.invokeinterface 32 1, 5) := by decide +kernel
theorem dX19_draw_10 : decode cX19_draw 10 = .ok (.aload_n 2, 1) := dk_44 (dk_at dksX19_draw_0 10 rfl rfl)
theorem dX19_draw_11 : decode cX19_draw 11 = .ok (.invokeinterface 38 1, 5) := by decide +kernel
theorem dX19_draw_16 : decode cX19_draw 16 = .ok (.iadd, 1) := dk_96 (dk_at dksX19_draw_0 16 rfl rfl)
theorem dX19_draw_17 : decode cX19_draw 17 = .ok (.ireturn, 1) := dk_172 (dk_at dksX19_draw_0 17 rfl rfl)
def dkwX19_noise_0 : List UInt8 := [42, 180, 0, 12, 180, 0, 43, 5, 108, 172]
abbrev dktX19_noise_0 : List UInt8 := dkwX19_noise_0 ++ []
theorem dksX19_noise_0 : cX19_noise.data.toList.drop 0 = dktX19_noise_0 := by decide +kernel
theorem dX19_noise_0 : decode cX19_noise 0 = .ok (.aload_n 0, 1) := dk_42 (dk_at dksX19_noise_0 0 rfl rfl)
theorem dX19_noise_1 : decode cX19_noise 1 = .ok (.getfield 12, 3) := dk_180 0 12 (dk_at dksX19_noise_0 1 rfl rfl)
theorem dX19_noise_4 : decode cX19_noise 4 = .ok (.getfield 43, 3) := dk_180 0 43 (dk_at dksX19_noise_0 4 rfl rfl)
theorem dX19_noise_7 : decode cX19_noise 7 = .ok (.iconst 2, 1) := dk_5 (dk_at dksX19_noise_0 7 rfl rfl)
theorem dX19_noise_8 : decode cX19_noise 8 = .ok (.idiv, 1) := dk_108 (dk_at dksX19_noise_0 8 rfl rfl)
theorem dX19_noise_9 : decode cX19_noise 9 = .ok (.ireturn, 1) := dk_172 (dk_at dksX19_noise_0 9 rfl rfl)
def dkwX20_init_3 : List UInt8 := [46, 183, 0, 43, 181, 0, 44, 177]
abbrev dktX20_init_3 : List UInt8 := dkwX20_init_3 ++ []
def dkwX20_init_2 : List UInt8 := [181, 0, 30, 42, 187, 0, 34, 89, 43, 7, 46, 183, 0, 36, 181, 0, 37, 42, 187, 0, 41, 89, 43, 8]
abbrev dktX20_init_2 : List UInt8 := dkwX20_init_2 ++ dktX20_init_3
def dkwX20_init_1 : List UInt8 := [46, 43, 4, 46, 183, 0, 20, 181, 0, 23, 42, 187, 0, 27, 89, 43, 5, 46, 43, 6, 46, 183, 0, 29]
abbrev dktX20_init_1 : List UInt8 := dkwX20_init_1 ++ dktX20_init_2
def dkwX20_init_0 : List UInt8 := [42, 16, 7, 183, 0, 1, 42, 187, 0, 7, 89, 183, 0, 9, 181, 0, 12, 42, 187, 0, 18, 89, 43, 3]
abbrev dktX20_init_0 : List UInt8 := dkwX20_init_0 ++ dktX20_init_1
theorem dksX20_init_0 : cX20_init.data.toList.drop 0 = dktX20_init_0 := by decide +kernel
theorem dksX20_init_1 : cX20_init.data.toList.drop 24 = dktX20_init_1 := dk_seg dksX20_init_0 24 rfl rfl
theorem dksX20_init_2 : cX20_init.data.toList.drop 48 = dktX20_init_2 := dk_seg dksX20_init_1 24 rfl rfl
theorem dksX20_init_3 : cX20_init.data.toList.drop 72 = dktX20_init_3 := dk_seg dksX20_init_2 24 rfl rfl
theorem dX20_init_0 : decode cX20_init 0 = .ok (.aload_n 0, 1) := dk_42 (dk_at dksX20_init_0 0 rfl rfl)
theorem dX20_init_1 : decode cX20_init 1 = .ok (.bipush 7, 2) := dk_16 7 (dk_at dksX20_init_0 1 rfl rfl)
theorem dX20_init_3 : decode cX20_init 3 = .ok (.invokespecial 1, 3) := dk_183 0 1 (dk_at dksX20_init_0 3 rfl rfl)
theorem dX20_init_6 : decode cX20_init 6 = .ok (.aload_n 0, 1) := dk_42 (dk_at dksX20_init_0 6 rfl rfl)
theorem dX20_init_7 : decode cX20_init 7 = .ok (.new 7, 3) := dk_187 0 7 (dk_at dksX20_init_0 7 rfl rfl)
theorem dX20_init_10 : decode cX20_init 10 = .ok (.dup, 1) := dk_89 (dk_at dksX20_init_0 10 rfl rfl)
theorem dX20_init_11 : decode cX20_init 11 = .ok (.invokespecial 9, 3) := dk_183 0 9 (dk_at dksX20_init_0 11 rfl rfl)
theorem dX20_init_14 : decode cX20_init 14 = .ok (.putfield 12, 3) := dk_181 0 12 (dk_at dksX20_init_0 14 rfl rfl)
theorem dX20_init_17 : decode cX20_init 17 = .ok (.aload_n 0, 1) := dk_42 (dk_at dksX20_init_0 17 rfl rfl)
theorem dX20_init_18 : decode cX20_init 18 = .ok (.new 18, 3) := dk_187 0 18 (dk_at dksX20_init_0 18 rfl rfl)
theorem dX20_init_21 : decode cX20_init 21 = .ok (.dup, 1) := dk_89 (dk_at dksX20_init_0 21 rfl rfl)
theorem dX20_init_22 : decode cX20_init 22 = .ok (.aload_n 1, 1) := dk_43 (dk_at dksX20_init_0 22 rfl rfl)
theorem dX20_init_23 : decode cX20_init 23 = .ok (.iconst 0, 1) := dk_3 (dk_at dksX20_init_0 23 rfl rfl)
theorem dX20_init_24 : decode cX20_init 24 = .ok (.iaload, 1) := dk_46 (dk_at dksX20_init_1 0 rfl rfl)
theorem dX20_init_25 : decode cX20_init 25 = .ok (.aload_n 1, 1) := dk_43 (dk_at dksX20_init_1 1 rfl rfl)
theorem dX20_init_26 : decode cX20_init 26 = .ok (.iconst 1, 1) := dk_4 (dk_at dksX20_init_1 2 rfl rfl)
theorem dX20_init_27 : decode cX20_init 27 = .ok (.iaload, 1) := dk_46 (dk_at dksX20_init_1 3 rfl rfl)
theorem dX20_init_28 : decode cX20_init 28 = .ok (.invokespecial 20, 3) := dk_183 0 20 (dk_at dksX20_init_1 4 rfl rfl)
theorem dX20_init_31 : decode cX20_init 31 = .ok (.putfield 23, 3) := dk_181 0 23 (dk_at dksX20_init_1 7 rfl rfl)
theorem dX20_init_34 : decode cX20_init 34 = .ok (.aload_n 0, 1) := dk_42 (dk_at dksX20_init_1 10 rfl rfl)
theorem dX20_init_35 : decode cX20_init 35 = .ok (.new 27, 3) := dk_187 0 27 (dk_at dksX20_init_1 11 rfl rfl)
theorem dX20_init_38 : decode cX20_init 38 = .ok (.dup, 1) := dk_89 (dk_at dksX20_init_1 14 rfl rfl)
theorem dX20_init_39 : decode cX20_init 39 = .ok (.aload_n 1, 1) := dk_43 (dk_at dksX20_init_1 15 rfl rfl)
theorem dX20_init_40 : decode cX20_init 40 = .ok (.iconst 2, 1) := dk_5 (dk_at dksX20_init_1 16 rfl rfl)
theorem dX20_init_41 : decode cX20_init 41 = .ok (.iaload, 1) := dk_46 (dk_at dksX20_init_1 17 rfl rfl)
theorem dX20_init_42 : decode cX20_init 42 = .ok (.aload_n 1, 1) := dk_43 (dk_at dksX20_init_1 18 rfl rfl)
theorem dX20_init_43 : decode cX20_init 43 = .ok (.iconst 3, 1) := dk_6 (dk_at dksX20_init_1 19 rfl rfl)
theorem dX20_init_44 : decode cX20_init 44 = .ok (.iaload, 1) := dk_46 (dk_at dksX20_init_1 20 rfl rfl)
theorem dX20_init_45 : decode cX20_init 45 = .ok (.invokespecial 29, 3) := dk_183 0 29 (dk_at dksX20_init_1 21 rfl rfl)
theorem dX20_init_48 : decode cX20_init 48 = .ok (.putfield 30, 3) := dk_181 0 30 (dk_at dksX20_init_2 0 rfl rfl)
theorem dX20_init_51 : decode cX20_init 51 = .ok (.aload_n 0, 1) := dk_42 (dk_at dksX20_init_2 3 rfl rfl)
theorem dX20_init_52 : decode cX20_init 52 = .ok (.new 34, 3) := dk_187 0 34 (dk_at dksX20_init_2 4 rfl rfl)
theorem dX20_init_55 : decode cX20_init 55 = .ok (.dup, 1) := dk_89 (dk_at dksX20_init_2 7 rfl rfl)
theorem dX20_init_56 : decode cX20_init 56 = .ok (.aload_n 1, 1) := dk_43 (dk_at dksX20_init_2 8 rfl rfl)
theorem dX20_init_57 : decode cX20_init 57 = .ok (.iconst 4, 1) := dk_7 (dk_at dksX20_init_2 9 rfl rfl)
theorem dX20_init_58 : decode cX20_init 58 = .ok (.iaload, 1) := dk_46 (dk_at dksX20_init_2 10 rfl rfl)
theorem dX20_init_59 : decode cX20_init 59 = .ok (.invokespecial 36, 3) := dk_183 0 36 (dk_at dksX20_init_2 11 rfl rfl)
theorem dX20_init_62 : decode cX20_init 62 = .ok (.putfield 37, 3) := dk_181 0 37 (dk_at dksX20_init_2 14 rfl rfl)
theorem dX20_init_65 : decode cX20_init 65 = .ok (.aload_n 0, 1) := dk_42 (dk_at dksX20_init_2 17 rfl rfl)
theorem dX20_init_66 : decode cX20_init 66 = .ok (.new 41, 3) := dk_187 0 41 (dk_at dksX20_init_2 18 rfl rfl)
theorem dX20_init_69 : decode cX20_init 69 = .ok (.dup, 1) := dk_89 (dk_at dksX20_init_2 21 rfl rfl)
theorem dX20_init_70 : decode cX20_init 70 = .ok (.aload_n 1, 1) := dk_43 (dk_at dksX20_init_2 22 rfl rfl)
theorem dX20_init_71 : decode cX20_init 71 = .ok (.iconst 5, 1) := dk_8 (dk_at dksX20_init_2 23 rfl rfl)
theorem dX20_init_72 : decode cX20_init 72 = .ok (.iaload, 1) := dk_46 (dk_at dksX20_init_3 0 rfl rfl)
theorem dX20_init_73 : decode cX20_init 73 = .ok (.invokespecial 43, 3) := dk_183 0 43 (dk_at dksX20_init_3 1 rfl rfl)
theorem dX20_init_76 : decode cX20_init 76 = .ok (.putfield 44, 3) := dk_181 0 44 (dk_at dksX20_init_3 4 rfl rfl)
theorem dX20_init_79 : decode cX20_init 79 = .ok (.return_, 1) := dk_177 (dk_at dksX20_init_3 7 rfl rfl)
theorem dX20_spin_0 : decode cX20_spin 0 = .ok (.aload_n 0, 1) := by decide +kernel
theorem dX20_spin_1 : decode cX20_spin 1 = .ok (.getfield 23, 3) := by decide +kernel
theorem dX20_spin_4 : decode cX20_spin 4 = .ok (.areturn, 1) := by decide +kernel
theorem dX20_hoist_0 : decode cX20_hoist 0 = .ok (.aload_n 0, 1) := by decide +kernel
theorem dX20_hoist_1 : decode cX20_hoist 1 = .ok (.getfield 30, 3) := by decide +kernel
theorem dX20_hoist_4 : decode cX20_hoist 4 = .ok (.areturn, 1) := by decide +kernel
theorem dX20_light_0 : decode cX20_light 0 = .ok (.aload_n 0, 1) := by decide +kernel
theorem dX20_light_1 : decode cX20_light 1 = .ok (.getfield 44, 3) := by decide +kernel
theorem dX20_light_4 : decode cX20_light 4 = .ok (.areturn, 1) := by decide +kernel
theorem dX20_voice_0 : decode cX20_voice 0 = .ok (.aload_n 0, 1) := by decide +kernel
theorem dX20_voice_1 : decode cX20_voice 1 = .ok (.getfield 12, 3) := by decide +kernel
theorem dX20_voice_4 : decode cX20_voice 4 = .ok (.areturn, 1) := by decide +kernel
theorem dX20_bench_0 : decode cX20_bench 0 = .ok (.aload_n 0, 1) := by decide +kernel
theorem dX20_bench_1 : decode cX20_bench 1 = .ok (.getfield 37, 3) := by decide +kernel
theorem dX20_bench_4 : decode cX20_bench 4 = .ok (.areturn, 1) := by decide +kernel
def dkwX20_isCalm_2 : List UInt8 := [167, 0, 4, 3, 172]
abbrev dktX20_isCalm_2 : List UInt8 := dkwX20_isCalm_2 ++ []
def dkwX20_isCalm_1 : List UInt8 := [45, 185, 0, 98, 1, 0, 153, 0, 19, 42, 180, 0, 44, 180, 0, 101, 16, 20, 161, 0, 7, 4]
abbrev dktX20_isCalm_1 : List UInt8 := dkwX20_isCalm_1 ++ dktX20_isCalm_2
def dkwX20_isCalm_0 : List UInt8 := [42, 76, 42, 77, 42, 78, 43, 185, 0, 91, 1, 0, 153, 0, 37, 44, 185, 0, 95, 1, 0, 153, 0, 28]
abbrev dktX20_isCalm_0 : List UInt8 := dkwX20_isCalm_0 ++ dktX20_isCalm_1
theorem dksX20_isCalm_0 : cX20_isCalm.data.toList.drop 0 = dktX20_isCalm_0 := by decide +kernel
theorem dksX20_isCalm_1 : cX20_isCalm.data.toList.drop 24 = dktX20_isCalm_1 := dk_seg dksX20_isCalm_0 24 rfl rfl
theorem dksX20_isCalm_2 : cX20_isCalm.data.toList.drop 46 = dktX20_isCalm_2 := dk_seg dksX20_isCalm_1 22 rfl rfl
theorem dX20_isCalm_0 : decode cX20_isCalm 0 = .ok (.aload_n 0, 1) := dk_42 (dk_at dksX20_isCalm_0 0 rfl rfl)
theorem dX20_isCalm_1 : decode cX20_isCalm 1 = .ok (.astore_n 1, 1) := dk_76 (dk_at dksX20_isCalm_0 1 rfl rfl)
theorem dX20_isCalm_2 : decode cX20_isCalm 2 = .ok (.aload_n 0, 1) := dk_42 (dk_at dksX20_isCalm_0 2 rfl rfl)
theorem dX20_isCalm_3 : decode cX20_isCalm 3 = .ok (.astore_n 2, 1) := dk_77 (dk_at dksX20_isCalm_0 3 rfl rfl)
theorem dX20_isCalm_4 : decode cX20_isCalm 4 = .ok (.aload_n 0, 1) := dk_42 (dk_at dksX20_isCalm_0 4 rfl rfl)
theorem dX20_isCalm_5 : decode cX20_isCalm 5 = .ok (.astore_n 3, 1) := dk_78 (dk_at dksX20_isCalm_0 5 rfl rfl)
theorem dX20_isCalm_6 : decode cX20_isCalm 6 = .ok (.aload_n 1, 1) := dk_43 (dk_at dksX20_isCalm_0 6 rfl rfl)
theorem dX20_isCalm_7 : decode cX20_isCalm 7 = .ok (.invokeinterface 91 1, 5) := by decide +kernel
theorem dX20_isCalm_12 : decode cX20_isCalm 12 = .ok (.ifCond .eq 37, 3) := dk_153 0 37 (dk_at dksX20_isCalm_0 12 rfl rfl)
theorem dX20_isCalm_15 : decode cX20_isCalm 15 = .ok (.aload_n 2, 1) := dk_44 (dk_at dksX20_isCalm_0 15 rfl rfl)
theorem dX20_isCalm_16 : decode cX20_isCalm 16 = .ok (.invokeinterface 95 1, 5) := by decide +kernel
theorem dX20_isCalm_21 : decode cX20_isCalm 21 = .ok (.ifCond .eq 28, 3) := dk_153 0 28 (dk_at dksX20_isCalm_0 21 rfl rfl)
theorem dX20_isCalm_24 : decode cX20_isCalm 24 = .ok (.aload_n 3, 1) := dk_45 (dk_at dksX20_isCalm_1 0 rfl rfl)
theorem dX20_isCalm_25 : decode cX20_isCalm 25 = .ok (.invokeinterface 98 1, 5) := by decide +kernel
theorem dX20_isCalm_30 : decode cX20_isCalm 30 = .ok (.ifCond .eq 19, 3) := dk_153 0 19 (dk_at dksX20_isCalm_1 6 rfl rfl)
theorem dX20_isCalm_33 : decode cX20_isCalm 33 = .ok (.aload_n 0, 1) := dk_42 (dk_at dksX20_isCalm_1 9 rfl rfl)
theorem dX20_isCalm_34 : decode cX20_isCalm 34 = .ok (.getfield 44, 3) := dk_180 0 44 (dk_at dksX20_isCalm_1 10 rfl rfl)
theorem dX20_isCalm_37 : decode cX20_isCalm 37 = .ok (.getfield 101, 3) := dk_180 0 101 (dk_at dksX20_isCalm_1 13 rfl rfl)
theorem dX20_isCalm_40 : decode cX20_isCalm 40 = .ok (.bipush 20, 2) := dk_16 20 (dk_at dksX20_isCalm_1 16 rfl rfl)
theorem dX20_isCalm_42 : decode cX20_isCalm 42 = .ok (.if_icmp .lt 7, 3) := dk_161 0 7 (dk_at dksX20_isCalm_1 18 rfl rfl)
theorem dX20_isCalm_45 : decode cX20_isCalm 45 = .ok (.iconst 1, 1) := dk_4 (dk_at dksX20_isCalm_1 21 rfl rfl)
theorem dX20_isCalm_46 : decode cX20_isCalm 46 = .ok (.goto 4, 3) := dk_167 0 4 (dk_at dksX20_isCalm_2 0 rfl rfl)
theorem dX20_isCalm_49 : decode cX20_isCalm 49 = .ok (.iconst 0, 1) := dk_3 (dk_at dksX20_isCalm_2 3 rfl rfl)
theorem dX20_isCalm_50 : decode cX20_isCalm 50 = .ok (.ireturn, 1) := dk_172 (dk_at dksX20_isCalm_2 4 rfl rfl)
def dkwX20_ease_2 : List UInt8 := [177]
abbrev dktX20_ease_2 : List UInt8 := dkwX20_ease_2 ++ []
def dkwX20_ease_1 : List UInt8 := [5, 108, 184, 0, 69, 167, 0, 10, 42, 180, 0, 23, 180, 0, 107, 182, 0, 110, 43, 185, 0, 113, 1, 0]
abbrev dktX20_ease_1 : List UInt8 := dkwX20_ease_1 ++ dktX20_ease_2
def dkwX20_ease_0 : List UInt8 := [42, 76, 42, 180, 0, 23, 42, 180, 0, 30, 180, 0, 104, 158, 0, 19, 4, 42, 180, 0, 23, 180, 0, 107]
abbrev dktX20_ease_0 : List UInt8 := dkwX20_ease_0 ++ dktX20_ease_1
theorem dksX20_ease_0 : cX20_ease.data.toList.drop 0 = dktX20_ease_0 := by decide +kernel
theorem dksX20_ease_1 : cX20_ease.data.toList.drop 24 = dktX20_ease_1 := dk_seg dksX20_ease_0 24 rfl rfl
theorem dksX20_ease_2 : cX20_ease.data.toList.drop 48 = dktX20_ease_2 := dk_seg dksX20_ease_1 24 rfl rfl
theorem dX20_ease_0 : decode cX20_ease 0 = .ok (.aload_n 0, 1) := dk_42 (dk_at dksX20_ease_0 0 rfl rfl)
theorem dX20_ease_1 : decode cX20_ease 1 = .ok (.astore_n 1, 1) := dk_76 (dk_at dksX20_ease_0 1 rfl rfl)
theorem dX20_ease_2 : decode cX20_ease 2 = .ok (.aload_n 0, 1) := dk_42 (dk_at dksX20_ease_0 2 rfl rfl)
theorem dX20_ease_3 : decode cX20_ease 3 = .ok (.getfield 23, 3) := dk_180 0 23 (dk_at dksX20_ease_0 3 rfl rfl)
theorem dX20_ease_6 : decode cX20_ease 6 = .ok (.aload_n 0, 1) := dk_42 (dk_at dksX20_ease_0 6 rfl rfl)
theorem dX20_ease_7 : decode cX20_ease 7 = .ok (.getfield 30, 3) := dk_180 0 30 (dk_at dksX20_ease_0 7 rfl rfl)
theorem dX20_ease_10 : decode cX20_ease 10 = .ok (.getfield 104, 3) := dk_180 0 104 (dk_at dksX20_ease_0 10 rfl rfl)
theorem dX20_ease_13 : decode cX20_ease 13 = .ok (.ifCond .le 19, 3) := dk_158 0 19 (dk_at dksX20_ease_0 13 rfl rfl)
theorem dX20_ease_16 : decode cX20_ease 16 = .ok (.iconst 1, 1) := dk_4 (dk_at dksX20_ease_0 16 rfl rfl)
theorem dX20_ease_17 : decode cX20_ease 17 = .ok (.aload_n 0, 1) := dk_42 (dk_at dksX20_ease_0 17 rfl rfl)
theorem dX20_ease_18 : decode cX20_ease 18 = .ok (.getfield 23, 3) := dk_180 0 23 (dk_at dksX20_ease_0 18 rfl rfl)
theorem dX20_ease_21 : decode cX20_ease 21 = .ok (.getfield 107, 3) := dk_180 0 107 (dk_at dksX20_ease_0 21 rfl rfl)
theorem dX20_ease_24 : decode cX20_ease 24 = .ok (.iconst 2, 1) := dk_5 (dk_at dksX20_ease_1 0 rfl rfl)
theorem dX20_ease_25 : decode cX20_ease 25 = .ok (.idiv, 1) := dk_108 (dk_at dksX20_ease_1 1 rfl rfl)
theorem dX20_ease_26 : decode cX20_ease 26 = .ok (.invokestatic 69, 3) := dk_184 0 69 (dk_at dksX20_ease_1 2 rfl rfl)
theorem dX20_ease_29 : decode cX20_ease 29 = .ok (.goto 10, 3) := dk_167 0 10 (dk_at dksX20_ease_1 5 rfl rfl)
theorem dX20_ease_32 : decode cX20_ease 32 = .ok (.aload_n 0, 1) := dk_42 (dk_at dksX20_ease_1 8 rfl rfl)
theorem dX20_ease_33 : decode cX20_ease 33 = .ok (.getfield 23, 3) := dk_180 0 23 (dk_at dksX20_ease_1 9 rfl rfl)
theorem dX20_ease_36 : decode cX20_ease 36 = .ok (.getfield 107, 3) := dk_180 0 107 (dk_at dksX20_ease_1 12 rfl rfl)
theorem dX20_ease_39 : decode cX20_ease 39 = .ok (.invokevirtual 110, 3) := dk_182 0 110 (dk_at dksX20_ease_1 15 rfl rfl)
theorem dX20_ease_42 : decode cX20_ease 42 = .ok (.aload_n 1, 1) := dk_43 (dk_at dksX20_ease_1 18 rfl rfl)
theorem dX20_ease_43 : decode cX20_ease 43 = .ok (.invokeinterface 113 1, 5) := by decide +kernel
theorem dX20_ease_48 : decode cX20_ease 48 = .ok (.return_, 1) := dk_177 (dk_at dksX20_ease_2 0 rfl rfl)
def dkwX20_draw_1 : List UInt8 := [185, 0, 59, 1, 0, 25, 4, 185, 0, 64, 1, 0, 184, 0, 69, 96, 172]
abbrev dktX20_draw_1 : List UInt8 := dkwX20_draw_1 ++ []
def dkwX20_draw_0 : List UInt8 := [42, 76, 42, 77, 42, 78, 42, 58, 4, 43, 185, 0, 48, 1, 0, 44, 185, 0, 54, 1, 0, 96, 45]
abbrev dktX20_draw_0 : List UInt8 := dkwX20_draw_0 ++ dktX20_draw_1
theorem dksX20_draw_0 : cX20_draw.data.toList.drop 0 = dktX20_draw_0 := by decide +kernel
theorem dksX20_draw_1 : cX20_draw.data.toList.drop 23 = dktX20_draw_1 := dk_seg dksX20_draw_0 23 rfl rfl
theorem dX20_draw_0 : decode cX20_draw 0 = .ok (.aload_n 0, 1) := dk_42 (dk_at dksX20_draw_0 0 rfl rfl)
theorem dX20_draw_1 : decode cX20_draw 1 = .ok (.astore_n 1, 1) := dk_76 (dk_at dksX20_draw_0 1 rfl rfl)
theorem dX20_draw_2 : decode cX20_draw 2 = .ok (.aload_n 0, 1) := dk_42 (dk_at dksX20_draw_0 2 rfl rfl)
theorem dX20_draw_3 : decode cX20_draw 3 = .ok (.astore_n 2, 1) := dk_77 (dk_at dksX20_draw_0 3 rfl rfl)
theorem dX20_draw_4 : decode cX20_draw 4 = .ok (.aload_n 0, 1) := dk_42 (dk_at dksX20_draw_0 4 rfl rfl)
theorem dX20_draw_5 : decode cX20_draw 5 = .ok (.astore_n 3, 1) := dk_78 (dk_at dksX20_draw_0 5 rfl rfl)
theorem dX20_draw_6 : decode cX20_draw 6 = .ok (.aload_n 0, 1) := dk_42 (dk_at dksX20_draw_0 6 rfl rfl)
theorem dX20_draw_7 : decode cX20_draw 7 = .ok (.astore 4, 2) := dk_58 4 (dk_at dksX20_draw_0 7 rfl rfl)
theorem dX20_draw_9 : decode cX20_draw 9 = .ok (.aload_n 1, 1) := dk_43 (dk_at dksX20_draw_0 9 rfl rfl)
theorem dX20_draw_10 : decode cX20_draw 10 = .ok (.invokeinterface 48 1, 5) := by decide +kernel
theorem dX20_draw_15 : decode cX20_draw 15 = .ok (.aload_n 2, 1) := dk_44 (dk_at dksX20_draw_0 15 rfl rfl)
theorem dX20_draw_16 : decode cX20_draw 16 = .ok (.invokeinterface 54 1, 5) := by decide +kernel
theorem dX20_draw_21 : decode cX20_draw 21 = .ok (.iadd, 1) := dk_96 (dk_at dksX20_draw_0 21 rfl rfl)
theorem dX20_draw_22 : decode cX20_draw 22 = .ok (.aload_n 3, 1) := dk_45 (dk_at dksX20_draw_0 22 rfl rfl)
theorem dX20_draw_23 : decode cX20_draw 23 = .ok (.invokeinterface 59 1, 5) := by decide +kernel
theorem dX20_draw_28 : decode cX20_draw 28 = .ok (.aload 4, 2) := dk_25 4 (dk_at dksX20_draw_1 5 rfl rfl)
theorem dX20_draw_30 : decode cX20_draw 30 = .ok (.invokeinterface 64 1, 5) := by decide +kernel
theorem dX20_draw_35 : decode cX20_draw 35 = .ok (.invokestatic 69, 3) := dk_184 0 69 (dk_at dksX20_draw_1 12 rfl rfl)
theorem dX20_draw_38 : decode cX20_draw 38 = .ok (.iadd, 1) := dk_96 (dk_at dksX20_draw_1 15 rfl rfl)
theorem dX20_draw_39 : decode cX20_draw 39 = .ok (.ireturn, 1) := dk_172 (dk_at dksX20_draw_1 16 rfl rfl)
theorem dX20_limit_0 : decode cX20_limit 0 = .ok (.bipush 40, 2) := by decide +kernel
theorem dX20_limit_2 : decode cX20_limit 2 = .ok (.ireturn, 1) := by decide +kernel
def dkwX20_tear_0 : List UInt8 := [42, 76, 42, 180, 0, 23, 182, 0, 85, 43, 185, 0, 88, 1, 0, 96, 172]
abbrev dktX20_tear_0 : List UInt8 := dkwX20_tear_0 ++ []
theorem dksX20_tear_0 : cX20_tear.data.toList.drop 0 = dktX20_tear_0 := by decide +kernel
theorem dX20_tear_0 : decode cX20_tear 0 = .ok (.aload_n 0, 1) := dk_42 (dk_at dksX20_tear_0 0 rfl rfl)
theorem dX20_tear_1 : decode cX20_tear 1 = .ok (.astore_n 1, 1) := dk_76 (dk_at dksX20_tear_0 1 rfl rfl)
theorem dX20_tear_2 : decode cX20_tear 2 = .ok (.aload_n 0, 1) := dk_42 (dk_at dksX20_tear_0 2 rfl rfl)
theorem dX20_tear_3 : decode cX20_tear 3 = .ok (.getfield 23, 3) := dk_180 0 23 (dk_at dksX20_tear_0 3 rfl rfl)
theorem dX20_tear_6 : decode cX20_tear 6 = .ok (.invokevirtual 85, 3) := dk_182 0 85 (dk_at dksX20_tear_0 6 rfl rfl)
theorem dX20_tear_9 : decode cX20_tear 9 = .ok (.aload_n 1, 1) := dk_43 (dk_at dksX20_tear_0 9 rfl rfl)
theorem dX20_tear_10 : decode cX20_tear 10 = .ok (.invokeinterface 88 1, 5) := by decide +kernel
theorem dX20_tear_15 : decode cX20_tear 15 = .ok (.iadd, 1) := dk_96 (dk_at dksX20_tear_0 15 rfl rfl)
theorem dX20_tear_16 : decode cX20_tear 16 = .ok (.ireturn, 1) := dk_172 (dk_at dksX20_tear_0 16 rfl rfl)
def dkwX20_noise_1 : List UInt8 := [180, 0, 81, 184, 0, 69, 172]
abbrev dktX20_noise_1 : List UInt8 := dkwX20_noise_1 ++ []
def dkwX20_noise_0 : List UInt8 := [42, 76, 42, 77, 43, 185, 0, 75, 1, 0, 44, 185, 0, 78, 1, 0, 184, 0, 69, 42, 180, 0, 12]
abbrev dktX20_noise_0 : List UInt8 := dkwX20_noise_0 ++ dktX20_noise_1
theorem dksX20_noise_0 : cX20_noise.data.toList.drop 0 = dktX20_noise_0 := by decide +kernel
theorem dksX20_noise_1 : cX20_noise.data.toList.drop 23 = dktX20_noise_1 := dk_seg dksX20_noise_0 23 rfl rfl
theorem dX20_noise_0 : decode cX20_noise 0 = .ok (.aload_n 0, 1) := dk_42 (dk_at dksX20_noise_0 0 rfl rfl)
theorem dX20_noise_1 : decode cX20_noise 1 = .ok (.astore_n 1, 1) := dk_76 (dk_at dksX20_noise_0 1 rfl rfl)
theorem dX20_noise_2 : decode cX20_noise 2 = .ok (.aload_n 0, 1) := dk_42 (dk_at dksX20_noise_0 2 rfl rfl)
theorem dX20_noise_3 : decode cX20_noise 3 = .ok (.astore_n 2, 1) := dk_77 (dk_at dksX20_noise_0 3 rfl rfl)
theorem dX20_noise_4 : decode cX20_noise 4 = .ok (.aload_n 1, 1) := dk_43 (dk_at dksX20_noise_0 4 rfl rfl)
theorem dX20_noise_5 : decode cX20_noise 5 = .ok (.invokeinterface 75 1, 5) := by decide +kernel
theorem dX20_noise_10 : decode cX20_noise 10 = .ok (.aload_n 2, 1) := dk_44 (dk_at dksX20_noise_0 10 rfl rfl)
theorem dX20_noise_11 : decode cX20_noise 11 = .ok (.invokeinterface 78 1, 5) := by decide +kernel
theorem dX20_noise_16 : decode cX20_noise 16 = .ok (.invokestatic 69, 3) := dk_184 0 69 (dk_at dksX20_noise_0 16 rfl rfl)
theorem dX20_noise_19 : decode cX20_noise 19 = .ok (.aload_n 0, 1) := dk_42 (dk_at dksX20_noise_0 19 rfl rfl)
theorem dX20_noise_20 : decode cX20_noise 20 = .ok (.getfield 12, 3) := dk_180 0 12 (dk_at dksX20_noise_0 20 rfl rfl)
theorem dX20_noise_23 : decode cX20_noise 23 = .ok (.getfield 81, 3) := dk_180 0 81 (dk_at dksX20_noise_1 0 rfl rfl)
theorem dX20_noise_26 : decode cX20_noise 26 = .ok (.invokestatic 69, 3) := dk_184 0 69 (dk_at dksX20_noise_1 3 rfl rfl)
theorem dX20_noise_29 : decode cX20_noise 29 = .ok (.ireturn, 1) := dk_172 (dk_at dksX20_noise_1 6 rfl rfl)
theorem dX21_spin_0 : decode cX21_spin 0 = .ok (.aload_n 0, 1) := by decide +kernel
theorem dX21_spin_1 : decode cX21_spin 1 = .ok (.getfield 12, 3) := by decide +kernel
theorem dX21_spin_4 : decode cX21_spin 4 = .ok (.areturn, 1) := by decide +kernel
def dkwX21_init_1 : List UInt8 := [187, 0, 18, 89, 43, 5, 46, 183, 0, 20, 181, 0, 21, 42, 44, 181, 0, 25, 177]
abbrev dktX21_init_1 : List UInt8 := dkwX21_init_1 ++ []
def dkwX21_init_0 : List UInt8 := [42, 16, 8, 183, 0, 1, 42, 187, 0, 7, 89, 43, 3, 46, 43, 4, 46, 183, 0, 9, 181, 0, 12, 42]
abbrev dktX21_init_0 : List UInt8 := dkwX21_init_0 ++ dktX21_init_1
theorem dksX21_init_0 : cX21_init.data.toList.drop 0 = dktX21_init_0 := by decide +kernel
theorem dksX21_init_1 : cX21_init.data.toList.drop 24 = dktX21_init_1 := dk_seg dksX21_init_0 24 rfl rfl
theorem dX21_init_0 : decode cX21_init 0 = .ok (.aload_n 0, 1) := dk_42 (dk_at dksX21_init_0 0 rfl rfl)
theorem dX21_init_1 : decode cX21_init 1 = .ok (.bipush 8, 2) := dk_16 8 (dk_at dksX21_init_0 1 rfl rfl)
theorem dX21_init_3 : decode cX21_init 3 = .ok (.invokespecial 1, 3) := dk_183 0 1 (dk_at dksX21_init_0 3 rfl rfl)
theorem dX21_init_6 : decode cX21_init 6 = .ok (.aload_n 0, 1) := dk_42 (dk_at dksX21_init_0 6 rfl rfl)
theorem dX21_init_7 : decode cX21_init 7 = .ok (.new 7, 3) := dk_187 0 7 (dk_at dksX21_init_0 7 rfl rfl)
theorem dX21_init_10 : decode cX21_init 10 = .ok (.dup, 1) := dk_89 (dk_at dksX21_init_0 10 rfl rfl)
theorem dX21_init_11 : decode cX21_init 11 = .ok (.aload_n 1, 1) := dk_43 (dk_at dksX21_init_0 11 rfl rfl)
theorem dX21_init_12 : decode cX21_init 12 = .ok (.iconst 0, 1) := dk_3 (dk_at dksX21_init_0 12 rfl rfl)
theorem dX21_init_13 : decode cX21_init 13 = .ok (.iaload, 1) := dk_46 (dk_at dksX21_init_0 13 rfl rfl)
theorem dX21_init_14 : decode cX21_init 14 = .ok (.aload_n 1, 1) := dk_43 (dk_at dksX21_init_0 14 rfl rfl)
theorem dX21_init_15 : decode cX21_init 15 = .ok (.iconst 1, 1) := dk_4 (dk_at dksX21_init_0 15 rfl rfl)
theorem dX21_init_16 : decode cX21_init 16 = .ok (.iaload, 1) := dk_46 (dk_at dksX21_init_0 16 rfl rfl)
theorem dX21_init_17 : decode cX21_init 17 = .ok (.invokespecial 9, 3) := dk_183 0 9 (dk_at dksX21_init_0 17 rfl rfl)
theorem dX21_init_20 : decode cX21_init 20 = .ok (.putfield 12, 3) := dk_181 0 12 (dk_at dksX21_init_0 20 rfl rfl)
theorem dX21_init_23 : decode cX21_init 23 = .ok (.aload_n 0, 1) := dk_42 (dk_at dksX21_init_0 23 rfl rfl)
theorem dX21_init_24 : decode cX21_init 24 = .ok (.new 18, 3) := dk_187 0 18 (dk_at dksX21_init_1 0 rfl rfl)
theorem dX21_init_27 : decode cX21_init 27 = .ok (.dup, 1) := dk_89 (dk_at dksX21_init_1 3 rfl rfl)
theorem dX21_init_28 : decode cX21_init 28 = .ok (.aload_n 1, 1) := dk_43 (dk_at dksX21_init_1 4 rfl rfl)
theorem dX21_init_29 : decode cX21_init 29 = .ok (.iconst 2, 1) := dk_5 (dk_at dksX21_init_1 5 rfl rfl)
theorem dX21_init_30 : decode cX21_init 30 = .ok (.iaload, 1) := dk_46 (dk_at dksX21_init_1 6 rfl rfl)
theorem dX21_init_31 : decode cX21_init 31 = .ok (.invokespecial 20, 3) := dk_183 0 20 (dk_at dksX21_init_1 7 rfl rfl)
theorem dX21_init_34 : decode cX21_init 34 = .ok (.putfield 21, 3) := dk_181 0 21 (dk_at dksX21_init_1 10 rfl rfl)
theorem dX21_init_37 : decode cX21_init 37 = .ok (.aload_n 0, 1) := dk_42 (dk_at dksX21_init_1 13 rfl rfl)
theorem dX21_init_38 : decode cX21_init 38 = .ok (.aload_n 2, 1) := dk_44 (dk_at dksX21_init_1 14 rfl rfl)
theorem dX21_init_39 : decode cX21_init 39 = .ok (.putfield 25, 3) := dk_181 0 25 (dk_at dksX21_init_1 15 rfl rfl)
theorem dX21_init_42 : decode cX21_init 42 = .ok (.return_, 1) := dk_177 (dk_at dksX21_init_1 18 rfl rfl)
theorem dX21_bench_0 : decode cX21_bench 0 = .ok (.aload_n 0, 1) := by decide +kernel
theorem dX21_bench_1 : decode cX21_bench 1 = .ok (.getfield 21, 3) := by decide +kernel
theorem dX21_bench_4 : decode cX21_bench 4 = .ok (.areturn, 1) := by decide +kernel
theorem dX21_leader_0 : decode cX21_leader 0 = .ok (.aload_n 0, 1) := by decide +kernel
theorem dX21_leader_1 : decode cX21_leader 1 = .ok (.getfield 25, 3) := by decide +kernel
theorem dX21_leader_4 : decode cX21_leader 4 = .ok (.areturn, 1) := by decide +kernel
def dkwX22_init_0 : List UInt8 := [42, 183, 0, 3, 42, 27, 181, 0, 9, 42, 28, 181, 0, 15, 177]
abbrev dktX22_init_0 : List UInt8 := dkwX22_init_0 ++ []
theorem dksX22_init_0 : cX22_init.data.toList.drop 0 = dktX22_init_0 := by decide +kernel
theorem dX22_init_0 : decode cX22_init 0 = .ok (.aload_n 0, 1) := dk_42 (dk_at dksX22_init_0 0 rfl rfl)
theorem dX22_init_1 : decode cX22_init 1 = .ok (.invokespecial 3, 3) := dk_183 0 3 (dk_at dksX22_init_0 1 rfl rfl)
theorem dX22_init_4 : decode cX22_init 4 = .ok (.aload_n 0, 1) := dk_42 (dk_at dksX22_init_0 4 rfl rfl)
theorem dX22_init_5 : decode cX22_init 5 = .ok (.iload_n 1, 1) := dk_27 (dk_at dksX22_init_0 5 rfl rfl)
theorem dX22_init_6 : decode cX22_init 6 = .ok (.putfield 9, 3) := dk_181 0 9 (dk_at dksX22_init_0 6 rfl rfl)
theorem dX22_init_9 : decode cX22_init 9 = .ok (.aload_n 0, 1) := dk_42 (dk_at dksX22_init_0 9 rfl rfl)
theorem dX22_init_10 : decode cX22_init 10 = .ok (.iload_n 2, 1) := dk_28 (dk_at dksX22_init_0 10 rfl rfl)
theorem dX22_init_11 : decode cX22_init 11 = .ok (.putfield 15, 3) := dk_181 0 15 (dk_at dksX22_init_0 11 rfl rfl)
theorem dX22_init_14 : decode cX22_init 14 = .ok (.return_, 1) := dk_177 (dk_at dksX22_init_0 14 rfl rfl)
theorem dX23_init_0 : decode cX23_init 0 = .ok (.aload_n 0, 1) := by decide +kernel
theorem dX23_init_1 : decode cX23_init 1 = .ok (.invokespecial 1, 3) := by decide +kernel
theorem dX23_init_4 : decode cX23_init 4 = .ok (.return_, 1) := by decide +kernel
def dkwX24_init_0 : List UInt8 := [42, 183, 0, 1, 42, 43, 181, 0, 7, 177]
abbrev dktX24_init_0 : List UInt8 := dkwX24_init_0 ++ []
theorem dksX24_init_0 : cX24_init.data.toList.drop 0 = dktX24_init_0 := by decide +kernel
theorem dX24_init_0 : decode cX24_init 0 = .ok (.aload_n 0, 1) := dk_42 (dk_at dksX24_init_0 0 rfl rfl)
theorem dX24_init_1 : decode cX24_init 1 = .ok (.invokespecial 1, 3) := dk_183 0 1 (dk_at dksX24_init_0 1 rfl rfl)
theorem dX24_init_4 : decode cX24_init 4 = .ok (.aload_n 0, 1) := dk_42 (dk_at dksX24_init_0 4 rfl rfl)
theorem dX24_init_5 : decode cX24_init 5 = .ok (.aload_n 1, 1) := dk_43 (dk_at dksX24_init_0 5 rfl rfl)
theorem dX24_init_6 : decode cX24_init 6 = .ok (.putfield 7, 3) := dk_181 0 7 (dk_at dksX24_init_0 6 rfl rfl)
theorem dX24_init_9 : decode cX24_init 9 = .ok (.return_, 1) := dk_177 (dk_at dksX24_init_0 9 rfl rfl)
def dkwX24_of_0 : List UInt8 := [42, 180, 0, 7, 43, 44, 182, 0, 13, 116, 172]
abbrev dktX24_of_0 : List UInt8 := dkwX24_of_0 ++ []
theorem dksX24_of_0 : cX24_of.data.toList.drop 0 = dktX24_of_0 := by decide +kernel
theorem dX24_of_0 : decode cX24_of 0 = .ok (.aload_n 0, 1) := dk_42 (dk_at dksX24_of_0 0 rfl rfl)
theorem dX24_of_1 : decode cX24_of 1 = .ok (.getfield 7, 3) := dk_180 0 7 (dk_at dksX24_of_0 1 rfl rfl)
theorem dX24_of_4 : decode cX24_of 4 = .ok (.aload_n 1, 1) := dk_43 (dk_at dksX24_of_0 4 rfl rfl)
theorem dX24_of_5 : decode cX24_of 5 = .ok (.aload_n 2, 1) := dk_44 (dk_at dksX24_of_0 5 rfl rfl)
theorem dX24_of_6 : decode cX24_of 6 = .ok (.invokevirtual 13, 3) := dk_182 0 13 (dk_at dksX24_of_0 6 rfl rfl)
theorem dX24_of_9 : decode cX24_of 9 = .ok (.ineg, 1) := dk_116 (dk_at dksX24_of_0 9 rfl rfl)
theorem dX24_of_10 : decode cX24_of 10 = .ok (.ireturn, 1) := dk_172 (dk_at dksX24_of_0 10 rfl rfl)
def dkwX25_init_0 : List UInt8 := [42, 183, 0, 1, 42, 27, 181, 0, 7, 177]
abbrev dktX25_init_0 : List UInt8 := dkwX25_init_0 ++ []
theorem dksX25_init_0 : cX25_init.data.toList.drop 0 = dktX25_init_0 := by decide +kernel
theorem dX25_init_0 : decode cX25_init 0 = .ok (.aload_n 0, 1) := dk_42 (dk_at dksX25_init_0 0 rfl rfl)
theorem dX25_init_1 : decode cX25_init 1 = .ok (.invokespecial 1, 3) := dk_183 0 1 (dk_at dksX25_init_0 1 rfl rfl)
theorem dX25_init_4 : decode cX25_init 4 = .ok (.aload_n 0, 1) := dk_42 (dk_at dksX25_init_0 4 rfl rfl)
theorem dX25_init_5 : decode cX25_init 5 = .ok (.iload_n 1, 1) := dk_27 (dk_at dksX25_init_0 5 rfl rfl)
theorem dX25_init_6 : decode cX25_init 6 = .ok (.putfield 7, 3) := dk_181 0 7 (dk_at dksX25_init_0 6 rfl rfl)
theorem dX25_init_9 : decode cX25_init 9 = .ok (.return_, 1) := dk_177 (dk_at dksX25_init_0 9 rfl rfl)
theorem dX25_of_0 : decode cX25_of 0 = .ok (.aload_n 0, 1) := by decide +kernel
theorem dX25_of_1 : decode cX25_of 1 = .ok (.getfield 7, 3) := by decide +kernel
theorem dX25_of_4 : decode cX25_of 4 = .ok (.ireturn, 1) := by decide +kernel
def dkwX26_init_0 : List UInt8 := [42, 183, 0, 1, 42, 27, 181, 0, 7, 42, 32, 181, 0, 13, 42, 21, 4, 181, 0, 17, 177]
abbrev dktX26_init_0 : List UInt8 := dkwX26_init_0 ++ []
theorem dksX26_init_0 : cX26_init.data.toList.drop 0 = dktX26_init_0 := by decide +kernel
theorem dX26_init_0 : decode cX26_init 0 = .ok (.aload_n 0, 1) := dk_42 (dk_at dksX26_init_0 0 rfl rfl)
theorem dX26_init_1 : decode cX26_init 1 = .ok (.invokespecial 1, 3) := dk_183 0 1 (dk_at dksX26_init_0 1 rfl rfl)
theorem dX26_init_4 : decode cX26_init 4 = .ok (.aload_n 0, 1) := dk_42 (dk_at dksX26_init_0 4 rfl rfl)
theorem dX26_init_5 : decode cX26_init 5 = .ok (.iload_n 1, 1) := dk_27 (dk_at dksX26_init_0 5 rfl rfl)
theorem dX26_init_6 : decode cX26_init 6 = .ok (.putfield 7, 3) := dk_181 0 7 (dk_at dksX26_init_0 6 rfl rfl)
theorem dX26_init_9 : decode cX26_init 9 = .ok (.aload_n 0, 1) := dk_42 (dk_at dksX26_init_0 9 rfl rfl)
theorem dX26_init_10 : decode cX26_init 10 = .ok (.lload_n 2, 1) := dk_32 (dk_at dksX26_init_0 10 rfl rfl)
theorem dX26_init_11 : decode cX26_init 11 = .ok (.putfield 13, 3) := dk_181 0 13 (dk_at dksX26_init_0 11 rfl rfl)
theorem dX26_init_14 : decode cX26_init 14 = .ok (.aload_n 0, 1) := dk_42 (dk_at dksX26_init_0 14 rfl rfl)
theorem dX26_init_15 : decode cX26_init 15 = .ok (.iload 4, 2) := dk_21 4 (dk_at dksX26_init_0 15 rfl rfl)
theorem dX26_init_17 : decode cX26_init 17 = .ok (.putfield 17, 3) := dk_181 0 17 (dk_at dksX26_init_0 17 rfl rfl)
theorem dX26_init_20 : decode cX26_init 20 = .ok (.return_, 1) := dk_177 (dk_at dksX26_init_0 20 rfl rfl)
def dkwX26_of_0 : List UInt8 := [42, 180, 0, 20, 199, 0, 7, 44, 167, 0, 7, 42, 180, 0, 20, 42, 180, 0, 7, 184, 0, 24, 172]
abbrev dktX26_of_0 : List UInt8 := dkwX26_of_0 ++ []
theorem dksX26_of_0 : cX26_of.data.toList.drop 0 = dktX26_of_0 := by decide +kernel
theorem dX26_of_0 : decode cX26_of 0 = .ok (.aload_n 0, 1) := dk_42 (dk_at dksX26_of_0 0 rfl rfl)
theorem dX26_of_1 : decode cX26_of 1 = .ok (.getfield 20, 3) := dk_180 0 20 (dk_at dksX26_of_0 1 rfl rfl)
theorem dX26_of_4 : decode cX26_of 4 = .ok (.ifnonnull 7, 3) := dk_199 0 7 (dk_at dksX26_of_0 4 rfl rfl)
theorem dX26_of_7 : decode cX26_of 7 = .ok (.aload_n 2, 1) := dk_44 (dk_at dksX26_of_0 7 rfl rfl)
theorem dX26_of_8 : decode cX26_of 8 = .ok (.goto 7, 3) := dk_167 0 7 (dk_at dksX26_of_0 8 rfl rfl)
theorem dX26_of_11 : decode cX26_of 11 = .ok (.aload_n 0, 1) := dk_42 (dk_at dksX26_of_0 11 rfl rfl)
theorem dX26_of_12 : decode cX26_of 12 = .ok (.getfield 20, 3) := dk_180 0 20 (dk_at dksX26_of_0 12 rfl rfl)
theorem dX26_of_15 : decode cX26_of 15 = .ok (.aload_n 0, 1) := dk_42 (dk_at dksX26_of_0 15 rfl rfl)
theorem dX26_of_16 : decode cX26_of 16 = .ok (.getfield 7, 3) := dk_180 0 7 (dk_at dksX26_of_0 16 rfl rfl)
theorem dX26_of_19 : decode cX26_of 19 = .ok (.invokestatic 24, 3) := dk_184 0 24 (dk_at dksX26_of_0 19 rfl rfl)
theorem dX26_of_22 : decode cX26_of 22 = .ok (.ireturn, 1) := dk_172 (dk_at dksX26_of_0 22 rfl rfl)
def dkwX27_init_0 : List UInt8 := [42, 183, 0, 1, 42, 27, 181, 0, 7, 177]
abbrev dktX27_init_0 : List UInt8 := dkwX27_init_0 ++ []
theorem dksX27_init_0 : cX27_init.data.toList.drop 0 = dktX27_init_0 := by decide +kernel
theorem dX27_init_0 : decode cX27_init 0 = .ok (.aload_n 0, 1) := dk_42 (dk_at dksX27_init_0 0 rfl rfl)
theorem dX27_init_1 : decode cX27_init 1 = .ok (.invokespecial 1, 3) := dk_183 0 1 (dk_at dksX27_init_0 1 rfl rfl)
theorem dX27_init_4 : decode cX27_init 4 = .ok (.aload_n 0, 1) := dk_42 (dk_at dksX27_init_0 4 rfl rfl)
theorem dX27_init_5 : decode cX27_init 5 = .ok (.iload_n 1, 1) := dk_27 (dk_at dksX27_init_0 5 rfl rfl)
theorem dX27_init_6 : decode cX27_init 6 = .ok (.putfield 7, 3) := dk_181 0 7 (dk_at dksX27_init_0 6 rfl rfl)
theorem dX27_init_9 : decode cX27_init 9 = .ok (.return_, 1) := dk_177 (dk_at dksX27_init_0 9 rfl rfl)
def dkwX27_of_0 : List UInt8 := [44, 180, 0, 13, 180, 0, 19, 42, 180, 0, 7, 46, 172]
abbrev dktX27_of_0 : List UInt8 := dkwX27_of_0 ++ []
theorem dksX27_of_0 : cX27_of.data.toList.drop 0 = dktX27_of_0 := by decide +kernel
theorem dX27_of_0 : decode cX27_of 0 = .ok (.aload_n 2, 1) := dk_44 (dk_at dksX27_of_0 0 rfl rfl)
theorem dX27_of_1 : decode cX27_of 1 = .ok (.getfield 13, 3) := dk_180 0 13 (dk_at dksX27_of_0 1 rfl rfl)
theorem dX27_of_4 : decode cX27_of 4 = .ok (.getfield 19, 3) := dk_180 0 19 (dk_at dksX27_of_0 4 rfl rfl)
theorem dX27_of_7 : decode cX27_of 7 = .ok (.aload_n 0, 1) := dk_42 (dk_at dksX27_of_0 7 rfl rfl)
theorem dX27_of_8 : decode cX27_of 8 = .ok (.getfield 7, 3) := dk_180 0 7 (dk_at dksX27_of_0 8 rfl rfl)
theorem dX27_of_11 : decode cX27_of 11 = .ok (.iaload, 1) := dk_46 (dk_at dksX27_of_0 11 rfl rfl)
theorem dX27_of_12 : decode cX27_of 12 = .ok (.ireturn, 1) := dk_172 (dk_at dksX27_of_0 12 rfl rfl)
def dkwX28_init_0 : List UInt8 := [42, 183, 0, 1, 42, 27, 181, 0, 7, 177]
abbrev dktX28_init_0 : List UInt8 := dkwX28_init_0 ++ []
theorem dksX28_init_0 : cX28_init.data.toList.drop 0 = dktX28_init_0 := by decide +kernel
theorem dX28_init_0 : decode cX28_init 0 = .ok (.aload_n 0, 1) := dk_42 (dk_at dksX28_init_0 0 rfl rfl)
theorem dX28_init_1 : decode cX28_init 1 = .ok (.invokespecial 1, 3) := dk_183 0 1 (dk_at dksX28_init_0 1 rfl rfl)
theorem dX28_init_4 : decode cX28_init 4 = .ok (.aload_n 0, 1) := dk_42 (dk_at dksX28_init_0 4 rfl rfl)
theorem dX28_init_5 : decode cX28_init 5 = .ok (.iload_n 1, 1) := dk_27 (dk_at dksX28_init_0 5 rfl rfl)
theorem dX28_init_6 : decode cX28_init 6 = .ok (.putfield 7, 3) := dk_181 0 7 (dk_at dksX28_init_0 6 rfl rfl)
theorem dX28_init_9 : decode cX28_init 9 = .ok (.return_, 1) := dk_177 (dk_at dksX28_init_0 9 rfl rfl)
def dkwX28_of_1 : List UInt8 := [160, 0, 10, 43, 180, 0, 24, 167, 0, 7, 43, 180, 0, 29, 172]
abbrev dktX28_of_1 : List UInt8 := dkwX28_of_1 ++ []
def dkwX28_of_0 : List UInt8 := [42, 180, 0, 7, 154, 0, 13, 44, 180, 0, 13, 180, 0, 19, 167, 0, 22, 42, 180, 0, 7, 4]
abbrev dktX28_of_0 : List UInt8 := dkwX28_of_0 ++ dktX28_of_1
theorem dksX28_of_0 : cX28_of.data.toList.drop 0 = dktX28_of_0 := by decide +kernel
theorem dksX28_of_1 : cX28_of.data.toList.drop 22 = dktX28_of_1 := dk_seg dksX28_of_0 22 rfl rfl
theorem dX28_of_0 : decode cX28_of 0 = .ok (.aload_n 0, 1) := dk_42 (dk_at dksX28_of_0 0 rfl rfl)
theorem dX28_of_1 : decode cX28_of 1 = .ok (.getfield 7, 3) := dk_180 0 7 (dk_at dksX28_of_0 1 rfl rfl)
theorem dX28_of_4 : decode cX28_of 4 = .ok (.ifCond .ne 13, 3) := dk_154 0 13 (dk_at dksX28_of_0 4 rfl rfl)
theorem dX28_of_7 : decode cX28_of 7 = .ok (.aload_n 2, 1) := dk_44 (dk_at dksX28_of_0 7 rfl rfl)
theorem dX28_of_8 : decode cX28_of 8 = .ok (.getfield 13, 3) := dk_180 0 13 (dk_at dksX28_of_0 8 rfl rfl)
theorem dX28_of_11 : decode cX28_of 11 = .ok (.getfield 19, 3) := dk_180 0 19 (dk_at dksX28_of_0 11 rfl rfl)
theorem dX28_of_14 : decode cX28_of 14 = .ok (.goto 22, 3) := dk_167 0 22 (dk_at dksX28_of_0 14 rfl rfl)
theorem dX28_of_17 : decode cX28_of 17 = .ok (.aload_n 0, 1) := dk_42 (dk_at dksX28_of_0 17 rfl rfl)
theorem dX28_of_18 : decode cX28_of 18 = .ok (.getfield 7, 3) := dk_180 0 7 (dk_at dksX28_of_0 18 rfl rfl)
theorem dX28_of_21 : decode cX28_of 21 = .ok (.iconst 1, 1) := dk_4 (dk_at dksX28_of_0 21 rfl rfl)
theorem dX28_of_22 : decode cX28_of 22 = .ok (.if_icmp .ne 10, 3) := dk_160 0 10 (dk_at dksX28_of_1 0 rfl rfl)
theorem dX28_of_25 : decode cX28_of 25 = .ok (.aload_n 1, 1) := dk_43 (dk_at dksX28_of_1 3 rfl rfl)
theorem dX28_of_26 : decode cX28_of 26 = .ok (.getfield 24, 3) := dk_180 0 24 (dk_at dksX28_of_1 4 rfl rfl)
theorem dX28_of_29 : decode cX28_of 29 = .ok (.goto 7, 3) := dk_167 0 7 (dk_at dksX28_of_1 7 rfl rfl)
theorem dX28_of_32 : decode cX28_of 32 = .ok (.aload_n 1, 1) := dk_43 (dk_at dksX28_of_1 10 rfl rfl)
theorem dX28_of_33 : decode cX28_of 33 = .ok (.getfield 29, 3) := dk_180 0 29 (dk_at dksX28_of_1 11 rfl rfl)
theorem dX28_of_36 : decode cX28_of 36 = .ok (.ireturn, 1) := dk_172 (dk_at dksX28_of_1 14 rfl rfl)
def dkwX29_init_1 : List UInt8 := [43, 181, 0, 24, 177]
abbrev dktX29_init_1 : List UInt8 := dkwX29_init_1 ++ []
def dkwX29_init_0 : List UInt8 := [42, 183, 0, 3, 42, 187, 0, 9, 89, 5, 183, 0, 11, 181, 0, 14, 42, 5, 188, 8, 181, 0, 20, 42]
abbrev dktX29_init_0 : List UInt8 := dkwX29_init_0 ++ dktX29_init_1
theorem dksX29_init_0 : cX29_init.data.toList.drop 0 = dktX29_init_0 := by decide +kernel
theorem dksX29_init_1 : cX29_init.data.toList.drop 24 = dktX29_init_1 := dk_seg dksX29_init_0 24 rfl rfl
theorem dX29_init_0 : decode cX29_init 0 = .ok (.aload_n 0, 1) := dk_42 (dk_at dksX29_init_0 0 rfl rfl)
theorem dX29_init_1 : decode cX29_init 1 = .ok (.invokespecial 3, 3) := dk_183 0 3 (dk_at dksX29_init_0 1 rfl rfl)
theorem dX29_init_4 : decode cX29_init 4 = .ok (.aload_n 0, 1) := dk_42 (dk_at dksX29_init_0 4 rfl rfl)
theorem dX29_init_5 : decode cX29_init 5 = .ok (.new 9, 3) := dk_187 0 9 (dk_at dksX29_init_0 5 rfl rfl)
theorem dX29_init_8 : decode cX29_init 8 = .ok (.dup, 1) := dk_89 (dk_at dksX29_init_0 8 rfl rfl)
theorem dX29_init_9 : decode cX29_init 9 = .ok (.iconst 2, 1) := dk_5 (dk_at dksX29_init_0 9 rfl rfl)
theorem dX29_init_10 : decode cX29_init 10 = .ok (.invokespecial 11, 3) := dk_183 0 11 (dk_at dksX29_init_0 10 rfl rfl)
theorem dX29_init_13 : decode cX29_init 13 = .ok (.putfield 14, 3) := dk_181 0 14 (dk_at dksX29_init_0 13 rfl rfl)
theorem dX29_init_16 : decode cX29_init 16 = .ok (.aload_n 0, 1) := dk_42 (dk_at dksX29_init_0 16 rfl rfl)
theorem dX29_init_17 : decode cX29_init 17 = .ok (.iconst 2, 1) := dk_5 (dk_at dksX29_init_0 17 rfl rfl)
theorem dX29_init_18 : decode cX29_init 18 = .ok (.newarray .byte, 2) := dk_188_8 (dk_at dksX29_init_0 18 rfl rfl)
theorem dX29_init_20 : decode cX29_init 20 = .ok (.putfield 20, 3) := dk_181 0 20 (dk_at dksX29_init_0 20 rfl rfl)
theorem dX29_init_23 : decode cX29_init 23 = .ok (.aload_n 0, 1) := dk_42 (dk_at dksX29_init_0 23 rfl rfl)
theorem dX29_init_24 : decode cX29_init 24 = .ok (.aload_n 1, 1) := dk_43 (dk_at dksX29_init_1 0 rfl rfl)
theorem dX29_init_25 : decode cX29_init 25 = .ok (.putfield 24, 3) := dk_181 0 24 (dk_at dksX29_init_1 1 rfl rfl)
theorem dX29_init_28 : decode cX29_init 28 = .ok (.return_, 1) := dk_177 (dk_at dksX29_init_1 4 rfl rfl)
def dkwX29_add_2 : List UInt8 := [145, 84, 42, 180, 0, 14, 44, 182, 0, 38, 87, 177]
abbrev dktX29_add_2 : List UInt8 := dkwX29_add_2 ++ []
def dkwX29_add_1 : List UInt8 := [42, 180, 0, 20, 3, 25, 4, 3, 29, 184, 0, 32, 42, 25, 4, 181, 0, 20, 42, 180, 0, 20, 29, 27]
abbrev dktX29_add_1 : List UInt8 := dkwX29_add_1 ++ dktX29_add_2
def dkwX29_add_0 : List UInt8 := [42, 180, 0, 14, 182, 0, 28, 62, 29, 42, 180, 0, 20, 190, 160, 0, 28, 5, 29, 104, 188, 8, 58, 4]
abbrev dktX29_add_0 : List UInt8 := dkwX29_add_0 ++ dktX29_add_1
theorem dksX29_add_0 : cX29_add.data.toList.drop 0 = dktX29_add_0 := by decide +kernel
theorem dksX29_add_1 : cX29_add.data.toList.drop 24 = dktX29_add_1 := dk_seg dksX29_add_0 24 rfl rfl
theorem dksX29_add_2 : cX29_add.data.toList.drop 48 = dktX29_add_2 := dk_seg dksX29_add_1 24 rfl rfl
theorem dX29_add_0 : decode cX29_add 0 = .ok (.aload_n 0, 1) := dk_42 (dk_at dksX29_add_0 0 rfl rfl)
theorem dX29_add_1 : decode cX29_add 1 = .ok (.getfield 14, 3) := dk_180 0 14 (dk_at dksX29_add_0 1 rfl rfl)
theorem dX29_add_4 : decode cX29_add 4 = .ok (.invokevirtual 28, 3) := dk_182 0 28 (dk_at dksX29_add_0 4 rfl rfl)
theorem dX29_add_7 : decode cX29_add 7 = .ok (.istore_n 3, 1) := dk_62 (dk_at dksX29_add_0 7 rfl rfl)
theorem dX29_add_8 : decode cX29_add 8 = .ok (.iload_n 3, 1) := dk_29 (dk_at dksX29_add_0 8 rfl rfl)
theorem dX29_add_9 : decode cX29_add 9 = .ok (.aload_n 0, 1) := dk_42 (dk_at dksX29_add_0 9 rfl rfl)
theorem dX29_add_10 : decode cX29_add 10 = .ok (.getfield 20, 3) := dk_180 0 20 (dk_at dksX29_add_0 10 rfl rfl)
theorem dX29_add_13 : decode cX29_add 13 = .ok (.arraylength, 1) := dk_190 (dk_at dksX29_add_0 13 rfl rfl)
theorem dX29_add_14 : decode cX29_add 14 = .ok (.if_icmp .ne 28, 3) := dk_160 0 28 (dk_at dksX29_add_0 14 rfl rfl)
theorem dX29_add_17 : decode cX29_add 17 = .ok (.iconst 2, 1) := dk_5 (dk_at dksX29_add_0 17 rfl rfl)
theorem dX29_add_18 : decode cX29_add 18 = .ok (.iload_n 3, 1) := dk_29 (dk_at dksX29_add_0 18 rfl rfl)
theorem dX29_add_19 : decode cX29_add 19 = .ok (.imul, 1) := dk_104 (dk_at dksX29_add_0 19 rfl rfl)
theorem dX29_add_20 : decode cX29_add 20 = .ok (.newarray .byte, 2) := dk_188_8 (dk_at dksX29_add_0 20 rfl rfl)
theorem dX29_add_22 : decode cX29_add 22 = .ok (.astore 4, 2) := dk_58 4 (dk_at dksX29_add_0 22 rfl rfl)
theorem dX29_add_24 : decode cX29_add 24 = .ok (.aload_n 0, 1) := dk_42 (dk_at dksX29_add_1 0 rfl rfl)
theorem dX29_add_25 : decode cX29_add 25 = .ok (.getfield 20, 3) := dk_180 0 20 (dk_at dksX29_add_1 1 rfl rfl)
theorem dX29_add_28 : decode cX29_add 28 = .ok (.iconst 0, 1) := dk_3 (dk_at dksX29_add_1 4 rfl rfl)
theorem dX29_add_29 : decode cX29_add 29 = .ok (.aload 4, 2) := dk_25 4 (dk_at dksX29_add_1 5 rfl rfl)
theorem dX29_add_31 : decode cX29_add 31 = .ok (.iconst 0, 1) := dk_3 (dk_at dksX29_add_1 7 rfl rfl)
theorem dX29_add_32 : decode cX29_add 32 = .ok (.iload_n 3, 1) := dk_29 (dk_at dksX29_add_1 8 rfl rfl)
theorem dX29_add_33 : decode cX29_add 33 = .ok (.invokestatic 32, 3) := dk_184 0 32 (dk_at dksX29_add_1 9 rfl rfl)
theorem dX29_add_36 : decode cX29_add 36 = .ok (.aload_n 0, 1) := dk_42 (dk_at dksX29_add_1 12 rfl rfl)
theorem dX29_add_37 : decode cX29_add 37 = .ok (.aload 4, 2) := dk_25 4 (dk_at dksX29_add_1 13 rfl rfl)
theorem dX29_add_39 : decode cX29_add 39 = .ok (.putfield 20, 3) := dk_181 0 20 (dk_at dksX29_add_1 15 rfl rfl)
theorem dX29_add_42 : decode cX29_add 42 = .ok (.aload_n 0, 1) := dk_42 (dk_at dksX29_add_1 18 rfl rfl)
theorem dX29_add_43 : decode cX29_add 43 = .ok (.getfield 20, 3) := dk_180 0 20 (dk_at dksX29_add_1 19 rfl rfl)
theorem dX29_add_46 : decode cX29_add 46 = .ok (.iload_n 3, 1) := dk_29 (dk_at dksX29_add_1 22 rfl rfl)
theorem dX29_add_47 : decode cX29_add 47 = .ok (.iload_n 1, 1) := dk_27 (dk_at dksX29_add_1 23 rfl rfl)
theorem dX29_add_48 : decode cX29_add 48 = .ok (.i2b, 1) := dk_145 (dk_at dksX29_add_2 0 rfl rfl)
theorem dX29_add_49 : decode cX29_add 49 = .ok (.bastore, 1) := dk_84 (dk_at dksX29_add_2 1 rfl rfl)
theorem dX29_add_50 : decode cX29_add 50 = .ok (.aload_n 0, 1) := dk_42 (dk_at dksX29_add_2 2 rfl rfl)
theorem dX29_add_51 : decode cX29_add 51 = .ok (.getfield 14, 3) := dk_180 0 14 (dk_at dksX29_add_2 3 rfl rfl)
theorem dX29_add_54 : decode cX29_add 54 = .ok (.aload_n 2, 1) := dk_44 (dk_at dksX29_add_2 6 rfl rfl)
theorem dX29_add_55 : decode cX29_add 55 = .ok (.invokevirtual 38, 3) := dk_182 0 38 (dk_at dksX29_add_2 7 rfl rfl)
theorem dX29_add_58 : decode cX29_add 58 = .ok (.pop, 1) := dk_87 (dk_at dksX29_add_2 10 rfl rfl)
theorem dX29_add_59 : decode cX29_add 59 = .ok (.return_, 1) := dk_177 (dk_at dksX29_add_2 11 rfl rfl)
def dkwX29_of_6 : List UInt8 := [132, 4, 1, 167, 255, 128, 29, 172]
abbrev dktX29_of_6 : List UInt8 := dkwX29_of_6 ++ []
def dkwX29_of_5 : List UInt8 := [167, 0, 21, 21, 6, 16, 42, 160, 0, 10, 29, 21, 5, 104, 167, 0, 7, 29, 21, 5, 108, 62]
abbrev dktX29_of_5 : List UInt8 := dkwX29_of_5 ++ dktX29_of_6
def dkwX29_of_4 : List UInt8 := [16, 43, 160, 0, 10, 29, 21, 5, 96, 167, 0, 35, 21, 6, 16, 45, 160, 0, 10, 29, 21, 5, 100]
abbrev dktX29_of_4 : List UInt8 := dkwX29_of_4 ++ dktX29_of_5
def dkwX29_of_3 : List UInt8 := [21, 6, 16, 47, 160, 0, 17, 21, 5, 154, 0, 12, 43, 16, 6, 181, 0, 46, 167, 0, 50, 21, 6]
abbrev dktX29_of_3 : List UInt8 := dkwX29_of_3 ++ dktX29_of_4
def dkwX29_of_2 : List UInt8 := [182, 0, 42, 54, 5, 43, 180, 0, 46, 153, 0, 6, 167, 0, 86, 42, 180, 0, 20, 21, 4, 51, 54, 6]
abbrev dktX29_of_2 : List UInt8 := dkwX29_of_2 ++ dktX29_of_3
def dkwX29_of_1 : List UInt8 := [162, 0, 122, 43, 180, 0, 46, 154, 0, 115, 42, 180, 0, 14, 21, 4, 182, 0, 50, 192, 0, 4, 43, 44]
abbrev dktX29_of_1 : List UInt8 := dkwX29_of_1 ++ dktX29_of_2
def dkwX29_of_0 : List UInt8 := [42, 180, 0, 24, 43, 44, 182, 0, 42, 62, 3, 54, 4, 21, 4, 42, 180, 0, 14, 182, 0, 28]
abbrev dktX29_of_0 : List UInt8 := dkwX29_of_0 ++ dktX29_of_1
theorem dksX29_of_0 : cX29_of.data.toList.drop 0 = dktX29_of_0 := by decide +kernel
theorem dksX29_of_1 : cX29_of.data.toList.drop 22 = dktX29_of_1 := dk_seg dksX29_of_0 22 rfl rfl
theorem dksX29_of_2 : cX29_of.data.toList.drop 46 = dktX29_of_2 := dk_seg dksX29_of_1 24 rfl rfl
theorem dksX29_of_3 : cX29_of.data.toList.drop 70 = dktX29_of_3 := dk_seg dksX29_of_2 24 rfl rfl
theorem dksX29_of_4 : cX29_of.data.toList.drop 93 = dktX29_of_4 := dk_seg dksX29_of_3 23 rfl rfl
theorem dksX29_of_5 : cX29_of.data.toList.drop 116 = dktX29_of_5 := dk_seg dksX29_of_4 23 rfl rfl
theorem dksX29_of_6 : cX29_of.data.toList.drop 138 = dktX29_of_6 := dk_seg dksX29_of_5 22 rfl rfl
theorem dX29_of_0 : decode cX29_of 0 = .ok (.aload_n 0, 1) := dk_42 (dk_at dksX29_of_0 0 rfl rfl)
theorem dX29_of_1 : decode cX29_of 1 = .ok (.getfield 24, 3) := dk_180 0 24 (dk_at dksX29_of_0 1 rfl rfl)
theorem dX29_of_4 : decode cX29_of 4 = .ok (.aload_n 1, 1) := dk_43 (dk_at dksX29_of_0 4 rfl rfl)
theorem dX29_of_5 : decode cX29_of 5 = .ok (.aload_n 2, 1) := dk_44 (dk_at dksX29_of_0 5 rfl rfl)
theorem dX29_of_6 : decode cX29_of 6 = .ok (.invokevirtual 42, 3) := dk_182 0 42 (dk_at dksX29_of_0 6 rfl rfl)
theorem dX29_of_9 : decode cX29_of 9 = .ok (.istore_n 3, 1) := dk_62 (dk_at dksX29_of_0 9 rfl rfl)
theorem dX29_of_10 : decode cX29_of 10 = .ok (.iconst 0, 1) := dk_3 (dk_at dksX29_of_0 10 rfl rfl)
theorem dX29_of_11 : decode cX29_of 11 = .ok (.istore 4, 2) := dk_54 4 (dk_at dksX29_of_0 11 rfl rfl)
theorem dX29_of_13 : decode cX29_of 13 = .ok (.iload 4, 2) := dk_21 4 (dk_at dksX29_of_0 13 rfl rfl)
theorem dX29_of_15 : decode cX29_of 15 = .ok (.aload_n 0, 1) := dk_42 (dk_at dksX29_of_0 15 rfl rfl)
theorem dX29_of_16 : decode cX29_of 16 = .ok (.getfield 14, 3) := dk_180 0 14 (dk_at dksX29_of_0 16 rfl rfl)
theorem dX29_of_19 : decode cX29_of 19 = .ok (.invokevirtual 28, 3) := dk_182 0 28 (dk_at dksX29_of_0 19 rfl rfl)
theorem dX29_of_22 : decode cX29_of 22 = .ok (.if_icmp .ge 122, 3) := dk_162 0 122 (dk_at dksX29_of_1 0 rfl rfl)
theorem dX29_of_25 : decode cX29_of 25 = .ok (.aload_n 1, 1) := dk_43 (dk_at dksX29_of_1 3 rfl rfl)
theorem dX29_of_26 : decode cX29_of 26 = .ok (.getfield 46, 3) := dk_180 0 46 (dk_at dksX29_of_1 4 rfl rfl)
theorem dX29_of_29 : decode cX29_of 29 = .ok (.ifCond .ne 115, 3) := dk_154 0 115 (dk_at dksX29_of_1 7 rfl rfl)
theorem dX29_of_32 : decode cX29_of 32 = .ok (.aload_n 0, 1) := dk_42 (dk_at dksX29_of_1 10 rfl rfl)
theorem dX29_of_33 : decode cX29_of 33 = .ok (.getfield 14, 3) := dk_180 0 14 (dk_at dksX29_of_1 11 rfl rfl)
theorem dX29_of_36 : decode cX29_of 36 = .ok (.iload 4, 2) := dk_21 4 (dk_at dksX29_of_1 14 rfl rfl)
theorem dX29_of_38 : decode cX29_of 38 = .ok (.invokevirtual 50, 3) := dk_182 0 50 (dk_at dksX29_of_1 16 rfl rfl)
theorem dX29_of_41 : decode cX29_of 41 = .ok (.checkcast 4, 3) := dk_192 0 4 (dk_at dksX29_of_1 19 rfl rfl)
theorem dX29_of_44 : decode cX29_of 44 = .ok (.aload_n 1, 1) := dk_43 (dk_at dksX29_of_1 22 rfl rfl)
theorem dX29_of_45 : decode cX29_of 45 = .ok (.aload_n 2, 1) := dk_44 (dk_at dksX29_of_1 23 rfl rfl)
theorem dX29_of_46 : decode cX29_of 46 = .ok (.invokevirtual 42, 3) := dk_182 0 42 (dk_at dksX29_of_2 0 rfl rfl)
theorem dX29_of_49 : decode cX29_of 49 = .ok (.istore 5, 2) := dk_54 5 (dk_at dksX29_of_2 3 rfl rfl)
theorem dX29_of_51 : decode cX29_of 51 = .ok (.aload_n 1, 1) := dk_43 (dk_at dksX29_of_2 5 rfl rfl)
theorem dX29_of_52 : decode cX29_of 52 = .ok (.getfield 46, 3) := dk_180 0 46 (dk_at dksX29_of_2 6 rfl rfl)
theorem dX29_of_55 : decode cX29_of 55 = .ok (.ifCond .eq 6, 3) := dk_153 0 6 (dk_at dksX29_of_2 9 rfl rfl)
theorem dX29_of_58 : decode cX29_of 58 = .ok (.goto 86, 3) := dk_167 0 86 (dk_at dksX29_of_2 12 rfl rfl)
theorem dX29_of_61 : decode cX29_of 61 = .ok (.aload_n 0, 1) := dk_42 (dk_at dksX29_of_2 15 rfl rfl)
theorem dX29_of_62 : decode cX29_of 62 = .ok (.getfield 20, 3) := dk_180 0 20 (dk_at dksX29_of_2 16 rfl rfl)
theorem dX29_of_65 : decode cX29_of 65 = .ok (.iload 4, 2) := dk_21 4 (dk_at dksX29_of_2 19 rfl rfl)
theorem dX29_of_67 : decode cX29_of 67 = .ok (.baload, 1) := dk_51 (dk_at dksX29_of_2 21 rfl rfl)
theorem dX29_of_68 : decode cX29_of 68 = .ok (.istore 6, 2) := dk_54 6 (dk_at dksX29_of_2 22 rfl rfl)
theorem dX29_of_70 : decode cX29_of 70 = .ok (.iload 6, 2) := dk_21 6 (dk_at dksX29_of_3 0 rfl rfl)
theorem dX29_of_72 : decode cX29_of 72 = .ok (.bipush 47, 2) := dk_16 47 (dk_at dksX29_of_3 2 rfl rfl)
theorem dX29_of_74 : decode cX29_of 74 = .ok (.if_icmp .ne 17, 3) := dk_160 0 17 (dk_at dksX29_of_3 4 rfl rfl)
theorem dX29_of_77 : decode cX29_of 77 = .ok (.iload 5, 2) := dk_21 5 (dk_at dksX29_of_3 7 rfl rfl)
theorem dX29_of_79 : decode cX29_of 79 = .ok (.ifCond .ne 12, 3) := dk_154 0 12 (dk_at dksX29_of_3 9 rfl rfl)
theorem dX29_of_82 : decode cX29_of 82 = .ok (.aload_n 1, 1) := dk_43 (dk_at dksX29_of_3 12 rfl rfl)
theorem dX29_of_83 : decode cX29_of 83 = .ok (.bipush 6, 2) := dk_16 6 (dk_at dksX29_of_3 13 rfl rfl)
theorem dX29_of_85 : decode cX29_of 85 = .ok (.putfield 46, 3) := dk_181 0 46 (dk_at dksX29_of_3 15 rfl rfl)
theorem dX29_of_88 : decode cX29_of 88 = .ok (.goto 50, 3) := dk_167 0 50 (dk_at dksX29_of_3 18 rfl rfl)
theorem dX29_of_91 : decode cX29_of 91 = .ok (.iload 6, 2) := dk_21 6 (dk_at dksX29_of_3 21 rfl rfl)
theorem dX29_of_93 : decode cX29_of 93 = .ok (.bipush 43, 2) := dk_16 43 (dk_at dksX29_of_4 0 rfl rfl)
theorem dX29_of_95 : decode cX29_of 95 = .ok (.if_icmp .ne 10, 3) := dk_160 0 10 (dk_at dksX29_of_4 2 rfl rfl)
theorem dX29_of_98 : decode cX29_of 98 = .ok (.iload_n 3, 1) := dk_29 (dk_at dksX29_of_4 5 rfl rfl)
theorem dX29_of_99 : decode cX29_of 99 = .ok (.iload 5, 2) := dk_21 5 (dk_at dksX29_of_4 6 rfl rfl)
theorem dX29_of_101 : decode cX29_of 101 = .ok (.iadd, 1) := dk_96 (dk_at dksX29_of_4 8 rfl rfl)
theorem dX29_of_102 : decode cX29_of 102 = .ok (.goto 35, 3) := dk_167 0 35 (dk_at dksX29_of_4 9 rfl rfl)
theorem dX29_of_105 : decode cX29_of 105 = .ok (.iload 6, 2) := dk_21 6 (dk_at dksX29_of_4 12 rfl rfl)
theorem dX29_of_107 : decode cX29_of 107 = .ok (.bipush 45, 2) := dk_16 45 (dk_at dksX29_of_4 14 rfl rfl)
theorem dX29_of_109 : decode cX29_of 109 = .ok (.if_icmp .ne 10, 3) := dk_160 0 10 (dk_at dksX29_of_4 16 rfl rfl)
theorem dX29_of_112 : decode cX29_of 112 = .ok (.iload_n 3, 1) := dk_29 (dk_at dksX29_of_4 19 rfl rfl)
theorem dX29_of_113 : decode cX29_of 113 = .ok (.iload 5, 2) := dk_21 5 (dk_at dksX29_of_4 20 rfl rfl)
theorem dX29_of_115 : decode cX29_of 115 = .ok (.isub, 1) := dk_100 (dk_at dksX29_of_4 22 rfl rfl)
theorem dX29_of_116 : decode cX29_of 116 = .ok (.goto 21, 3) := dk_167 0 21 (dk_at dksX29_of_5 0 rfl rfl)
theorem dX29_of_119 : decode cX29_of 119 = .ok (.iload 6, 2) := dk_21 6 (dk_at dksX29_of_5 3 rfl rfl)
theorem dX29_of_121 : decode cX29_of 121 = .ok (.bipush 42, 2) := dk_16 42 (dk_at dksX29_of_5 5 rfl rfl)
theorem dX29_of_123 : decode cX29_of 123 = .ok (.if_icmp .ne 10, 3) := dk_160 0 10 (dk_at dksX29_of_5 7 rfl rfl)
theorem dX29_of_126 : decode cX29_of 126 = .ok (.iload_n 3, 1) := dk_29 (dk_at dksX29_of_5 10 rfl rfl)
theorem dX29_of_127 : decode cX29_of 127 = .ok (.iload 5, 2) := dk_21 5 (dk_at dksX29_of_5 11 rfl rfl)
theorem dX29_of_129 : decode cX29_of 129 = .ok (.imul, 1) := dk_104 (dk_at dksX29_of_5 13 rfl rfl)
theorem dX29_of_130 : decode cX29_of 130 = .ok (.goto 7, 3) := dk_167 0 7 (dk_at dksX29_of_5 14 rfl rfl)
theorem dX29_of_133 : decode cX29_of 133 = .ok (.iload_n 3, 1) := dk_29 (dk_at dksX29_of_5 17 rfl rfl)
theorem dX29_of_134 : decode cX29_of 134 = .ok (.iload 5, 2) := dk_21 5 (dk_at dksX29_of_5 18 rfl rfl)
theorem dX29_of_136 : decode cX29_of 136 = .ok (.idiv, 1) := dk_108 (dk_at dksX29_of_5 20 rfl rfl)
theorem dX29_of_137 : decode cX29_of 137 = .ok (.istore_n 3, 1) := dk_62 (dk_at dksX29_of_5 21 rfl rfl)
theorem dX29_of_138 : decode cX29_of 138 = .ok (.iinc 4 1, 3) := dk_132 4 1 (dk_at dksX29_of_6 0 rfl rfl)
theorem dX29_of_141 : decode cX29_of 141 = .ok (.goto (-128), 3) := dk_167 255 128 (dk_at dksX29_of_6 3 rfl rfl)
theorem dX29_of_144 : decode cX29_of 144 = .ok (.iload_n 3, 1) := dk_29 (dk_at dksX29_of_6 6 rfl rfl)
theorem dX29_of_145 : decode cX29_of 145 = .ok (.ireturn, 1) := dk_172 (dk_at dksX29_of_6 7 rfl rfl)
theorem dX30_init_0 : decode cX30_init 0 = .ok (.aload_n 0, 1) := by decide +kernel
theorem dX30_init_1 : decode cX30_init 1 = .ok (.invokespecial 1, 3) := by decide +kernel
theorem dX30_init_4 : decode cX30_init 4 = .ok (.return_, 1) := by decide +kernel
def dkwX31_init_0 : List UInt8 := [42, 183, 0, 1, 42, 27, 181, 0, 7, 42, 28, 181, 0, 13, 177]
abbrev dktX31_init_0 : List UInt8 := dkwX31_init_0 ++ []
theorem dksX31_init_0 : cX31_init.data.toList.drop 0 = dktX31_init_0 := by decide +kernel
theorem dX31_init_0 : decode cX31_init 0 = .ok (.aload_n 0, 1) := dk_42 (dk_at dksX31_init_0 0 rfl rfl)
theorem dX31_init_1 : decode cX31_init 1 = .ok (.invokespecial 1, 3) := dk_183 0 1 (dk_at dksX31_init_0 1 rfl rfl)
theorem dX31_init_4 : decode cX31_init 4 = .ok (.aload_n 0, 1) := dk_42 (dk_at dksX31_init_0 4 rfl rfl)
theorem dX31_init_5 : decode cX31_init 5 = .ok (.iload_n 1, 1) := dk_27 (dk_at dksX31_init_0 5 rfl rfl)
theorem dX31_init_6 : decode cX31_init 6 = .ok (.putfield 7, 3) := dk_181 0 7 (dk_at dksX31_init_0 6 rfl rfl)
theorem dX31_init_9 : decode cX31_init 9 = .ok (.aload_n 0, 1) := dk_42 (dk_at dksX31_init_0 9 rfl rfl)
theorem dX31_init_10 : decode cX31_init 10 = .ok (.iload_n 2, 1) := dk_28 (dk_at dksX31_init_0 10 rfl rfl)
theorem dX31_init_11 : decode cX31_init 11 = .ok (.putfield 13, 3) := dk_181 0 13 (dk_at dksX31_init_0 11 rfl rfl)
theorem dX31_init_14 : decode cX31_init 14 = .ok (.return_, 1) := dk_177 (dk_at dksX31_init_0 14 rfl rfl)
def dkwX31_holds_0 : List UInt8 := [43, 180, 0, 17, 42, 180, 0, 7, 51, 42, 180, 0, 13, 159, 0, 7, 4, 167, 0, 4, 3, 172]
abbrev dktX31_holds_0 : List UInt8 := dkwX31_holds_0 ++ []
theorem dksX31_holds_0 : cX31_holds.data.toList.drop 0 = dktX31_holds_0 := by decide +kernel
theorem dX31_holds_0 : decode cX31_holds 0 = .ok (.aload_n 1, 1) := dk_43 (dk_at dksX31_holds_0 0 rfl rfl)
theorem dX31_holds_1 : decode cX31_holds 1 = .ok (.getfield 17, 3) := dk_180 0 17 (dk_at dksX31_holds_0 1 rfl rfl)
theorem dX31_holds_4 : decode cX31_holds 4 = .ok (.aload_n 0, 1) := dk_42 (dk_at dksX31_holds_0 4 rfl rfl)
theorem dX31_holds_5 : decode cX31_holds 5 = .ok (.getfield 7, 3) := dk_180 0 7 (dk_at dksX31_holds_0 5 rfl rfl)
theorem dX31_holds_8 : decode cX31_holds 8 = .ok (.baload, 1) := dk_51 (dk_at dksX31_holds_0 8 rfl rfl)
theorem dX31_holds_9 : decode cX31_holds 9 = .ok (.aload_n 0, 1) := dk_42 (dk_at dksX31_holds_0 9 rfl rfl)
theorem dX31_holds_10 : decode cX31_holds 10 = .ok (.getfield 13, 3) := dk_180 0 13 (dk_at dksX31_holds_0 10 rfl rfl)
theorem dX31_holds_13 : decode cX31_holds 13 = .ok (.if_icmp .eq 7, 3) := dk_159 0 7 (dk_at dksX31_holds_0 13 rfl rfl)
theorem dX31_holds_16 : decode cX31_holds 16 = .ok (.iconst 1, 1) := dk_4 (dk_at dksX31_holds_0 16 rfl rfl)
theorem dX31_holds_17 : decode cX31_holds 17 = .ok (.goto 4, 3) := dk_167 0 4 (dk_at dksX31_holds_0 17 rfl rfl)
theorem dX31_holds_20 : decode cX31_holds 20 = .ok (.iconst 0, 1) := dk_3 (dk_at dksX31_holds_0 20 rfl rfl)
theorem dX31_holds_21 : decode cX31_holds 21 = .ok (.ireturn, 1) := dk_172 (dk_at dksX31_holds_0 21 rfl rfl)
def dkwX32_init_1 : List UInt8 := [181, 0, 22, 177]
abbrev dktX32_init_1 : List UInt8 := dkwX32_init_1 ++ []
def dkwX32_init_0 : List UInt8 := [42, 183, 0, 3, 42, 27, 181, 0, 9, 42, 44, 181, 0, 15, 42, 45, 181, 0, 19, 42, 21, 4]
abbrev dktX32_init_0 : List UInt8 := dkwX32_init_0 ++ dktX32_init_1
theorem dksX32_init_0 : cX32_init.data.toList.drop 0 = dktX32_init_0 := by decide +kernel
theorem dksX32_init_1 : cX32_init.data.toList.drop 22 = dktX32_init_1 := dk_seg dksX32_init_0 22 rfl rfl
theorem dX32_init_0 : decode cX32_init 0 = .ok (.aload_n 0, 1) := dk_42 (dk_at dksX32_init_0 0 rfl rfl)
theorem dX32_init_1 : decode cX32_init 1 = .ok (.invokespecial 3, 3) := dk_183 0 3 (dk_at dksX32_init_0 1 rfl rfl)
theorem dX32_init_4 : decode cX32_init 4 = .ok (.aload_n 0, 1) := dk_42 (dk_at dksX32_init_0 4 rfl rfl)
theorem dX32_init_5 : decode cX32_init 5 = .ok (.iload_n 1, 1) := dk_27 (dk_at dksX32_init_0 5 rfl rfl)
theorem dX32_init_6 : decode cX32_init 6 = .ok (.putfield 9, 3) := dk_181 0 9 (dk_at dksX32_init_0 6 rfl rfl)
theorem dX32_init_9 : decode cX32_init 9 = .ok (.aload_n 0, 1) := dk_42 (dk_at dksX32_init_0 9 rfl rfl)
theorem dX32_init_10 : decode cX32_init 10 = .ok (.aload_n 2, 1) := dk_44 (dk_at dksX32_init_0 10 rfl rfl)
theorem dX32_init_11 : decode cX32_init 11 = .ok (.putfield 15, 3) := dk_181 0 15 (dk_at dksX32_init_0 11 rfl rfl)
theorem dX32_init_14 : decode cX32_init 14 = .ok (.aload_n 0, 1) := dk_42 (dk_at dksX32_init_0 14 rfl rfl)
theorem dX32_init_15 : decode cX32_init 15 = .ok (.aload_n 3, 1) := dk_45 (dk_at dksX32_init_0 15 rfl rfl)
theorem dX32_init_16 : decode cX32_init 16 = .ok (.putfield 19, 3) := dk_181 0 19 (dk_at dksX32_init_0 16 rfl rfl)
theorem dX32_init_19 : decode cX32_init 19 = .ok (.aload_n 0, 1) := dk_42 (dk_at dksX32_init_0 19 rfl rfl)
theorem dX32_init_20 : decode cX32_init 20 = .ok (.iload 4, 2) := dk_21 4 (dk_at dksX32_init_0 20 rfl rfl)
theorem dX32_init_22 : decode cX32_init 22 = .ok (.putfield 22, 3) := dk_181 0 22 (dk_at dksX32_init_1 0 rfl rfl)
theorem dX32_init_25 : decode cX32_init 25 = .ok (.return_, 1) := dk_177 (dk_at dksX32_init_1 3 rfl rfl)
def dkwX32_holds_7 : List UInt8 := [180, 0, 22, 159, 0, 7, 4, 167, 0, 4, 3, 172]
abbrev dktX32_holds_7 : List UInt8 := dkwX32_holds_7 ++ []
def dkwX32_holds_6 : List UInt8 := [167, 0, 18, 3, 167, 0, 14, 29, 21, 4, 159, 0, 7, 4, 167, 0, 4, 3, 54, 5, 21, 5, 42]
abbrev dktX32_holds_6 : List UInt8 := dkwX32_holds_6 ++ dktX32_holds_7
def dkwX32_holds_5 : List UInt8 := [167, 0, 42, 3, 167, 0, 38, 42, 180, 0, 9, 17, 1, 2, 160, 0, 17, 29, 21, 4, 160, 0, 7, 4]
abbrev dktX32_holds_5 : List UInt8 := dkwX32_holds_5 ++ dktX32_holds_6
def dkwX32_holds_4 : List UInt8 := [167, 0, 66, 3, 167, 0, 62, 42, 180, 0, 9, 17, 1, 1, 160, 0, 17, 29, 21, 4, 161, 0, 7, 4]
abbrev dktX32_holds_4 : List UInt8 := dkwX32_holds_4 ++ dktX32_holds_5
def dkwX32_holds_3 : List UInt8 := [167, 0, 90, 3, 167, 0, 86, 42, 180, 0, 9, 17, 1, 0, 160, 0, 17, 29, 21, 4, 163, 0, 7, 4]
abbrev dktX32_holds_3 : List UInt8 := dkwX32_holds_3 ++ dktX32_holds_4
def dkwX32_holds_2 : List UInt8 := [167, 0, 113, 3, 167, 0, 109, 42, 180, 0, 9, 16, 62, 160, 0, 17, 29, 21, 4, 164, 0, 7, 4]
abbrev dktX32_holds_2 : List UInt8 := dkwX32_holds_2 ++ dktX32_holds_3
def dkwX32_holds_1 : List UInt8 := [44, 182, 0, 26, 54, 4, 42, 180, 0, 9, 16, 60, 160, 0, 17, 29, 21, 4, 162, 0, 7, 4]
abbrev dktX32_holds_1 : List UInt8 := dkwX32_holds_1 ++ dktX32_holds_2
def dkwX32_holds_0 : List UInt8 := [42, 180, 0, 15, 43, 44, 182, 0, 26, 62, 43, 180, 0, 32, 153, 0, 5, 3, 172, 42, 180, 0, 19, 43]
abbrev dktX32_holds_0 : List UInt8 := dkwX32_holds_0 ++ dktX32_holds_1
theorem dksX32_holds_0 : cX32_holds.data.toList.drop 0 = dktX32_holds_0 := by decide +kernel
theorem dksX32_holds_1 : cX32_holds.data.toList.drop 24 = dktX32_holds_1 := dk_seg dksX32_holds_0 24 rfl rfl
theorem dksX32_holds_2 : cX32_holds.data.toList.drop 46 = dktX32_holds_2 := dk_seg dksX32_holds_1 22 rfl rfl
theorem dksX32_holds_3 : cX32_holds.data.toList.drop 69 = dktX32_holds_3 := dk_seg dksX32_holds_2 23 rfl rfl
theorem dksX32_holds_4 : cX32_holds.data.toList.drop 93 = dktX32_holds_4 := dk_seg dksX32_holds_3 24 rfl rfl
theorem dksX32_holds_5 : cX32_holds.data.toList.drop 117 = dktX32_holds_5 := dk_seg dksX32_holds_4 24 rfl rfl
theorem dksX32_holds_6 : cX32_holds.data.toList.drop 141 = dktX32_holds_6 := dk_seg dksX32_holds_5 24 rfl rfl
theorem dksX32_holds_7 : cX32_holds.data.toList.drop 164 = dktX32_holds_7 := dk_seg dksX32_holds_6 23 rfl rfl
theorem dX32_holds_0 : decode cX32_holds 0 = .ok (.aload_n 0, 1) := dk_42 (dk_at dksX32_holds_0 0 rfl rfl)
theorem dX32_holds_1 : decode cX32_holds 1 = .ok (.getfield 15, 3) := dk_180 0 15 (dk_at dksX32_holds_0 1 rfl rfl)
theorem dX32_holds_4 : decode cX32_holds 4 = .ok (.aload_n 1, 1) := dk_43 (dk_at dksX32_holds_0 4 rfl rfl)
theorem dX32_holds_5 : decode cX32_holds 5 = .ok (.aload_n 2, 1) := dk_44 (dk_at dksX32_holds_0 5 rfl rfl)
theorem dX32_holds_6 : decode cX32_holds 6 = .ok (.invokevirtual 26, 3) := dk_182 0 26 (dk_at dksX32_holds_0 6 rfl rfl)
theorem dX32_holds_9 : decode cX32_holds 9 = .ok (.istore_n 3, 1) := dk_62 (dk_at dksX32_holds_0 9 rfl rfl)
theorem dX32_holds_10 : decode cX32_holds 10 = .ok (.aload_n 1, 1) := dk_43 (dk_at dksX32_holds_0 10 rfl rfl)
theorem dX32_holds_11 : decode cX32_holds 11 = .ok (.getfield 32, 3) := dk_180 0 32 (dk_at dksX32_holds_0 11 rfl rfl)
theorem dX32_holds_14 : decode cX32_holds 14 = .ok (.ifCond .eq 5, 3) := dk_153 0 5 (dk_at dksX32_holds_0 14 rfl rfl)
theorem dX32_holds_17 : decode cX32_holds 17 = .ok (.iconst 0, 1) := dk_3 (dk_at dksX32_holds_0 17 rfl rfl)
theorem dX32_holds_18 : decode cX32_holds 18 = .ok (.ireturn, 1) := dk_172 (dk_at dksX32_holds_0 18 rfl rfl)
theorem dX32_holds_19 : decode cX32_holds 19 = .ok (.aload_n 0, 1) := dk_42 (dk_at dksX32_holds_0 19 rfl rfl)
theorem dX32_holds_20 : decode cX32_holds 20 = .ok (.getfield 19, 3) := dk_180 0 19 (dk_at dksX32_holds_0 20 rfl rfl)
theorem dX32_holds_23 : decode cX32_holds 23 = .ok (.aload_n 1, 1) := dk_43 (dk_at dksX32_holds_0 23 rfl rfl)
theorem dX32_holds_24 : decode cX32_holds 24 = .ok (.aload_n 2, 1) := dk_44 (dk_at dksX32_holds_1 0 rfl rfl)
theorem dX32_holds_25 : decode cX32_holds 25 = .ok (.invokevirtual 26, 3) := dk_182 0 26 (dk_at dksX32_holds_1 1 rfl rfl)
theorem dX32_holds_28 : decode cX32_holds 28 = .ok (.istore 4, 2) := dk_54 4 (dk_at dksX32_holds_1 4 rfl rfl)
theorem dX32_holds_30 : decode cX32_holds 30 = .ok (.aload_n 0, 1) := dk_42 (dk_at dksX32_holds_1 6 rfl rfl)
theorem dX32_holds_31 : decode cX32_holds 31 = .ok (.getfield 9, 3) := dk_180 0 9 (dk_at dksX32_holds_1 7 rfl rfl)
theorem dX32_holds_34 : decode cX32_holds 34 = .ok (.bipush 60, 2) := dk_16 60 (dk_at dksX32_holds_1 10 rfl rfl)
theorem dX32_holds_36 : decode cX32_holds 36 = .ok (.if_icmp .ne 17, 3) := dk_160 0 17 (dk_at dksX32_holds_1 12 rfl rfl)
theorem dX32_holds_39 : decode cX32_holds 39 = .ok (.iload_n 3, 1) := dk_29 (dk_at dksX32_holds_1 15 rfl rfl)
theorem dX32_holds_40 : decode cX32_holds 40 = .ok (.iload 4, 2) := dk_21 4 (dk_at dksX32_holds_1 16 rfl rfl)
theorem dX32_holds_42 : decode cX32_holds 42 = .ok (.if_icmp .ge 7, 3) := dk_162 0 7 (dk_at dksX32_holds_1 18 rfl rfl)
theorem dX32_holds_45 : decode cX32_holds 45 = .ok (.iconst 1, 1) := dk_4 (dk_at dksX32_holds_1 21 rfl rfl)
theorem dX32_holds_46 : decode cX32_holds 46 = .ok (.goto 113, 3) := dk_167 0 113 (dk_at dksX32_holds_2 0 rfl rfl)
theorem dX32_holds_49 : decode cX32_holds 49 = .ok (.iconst 0, 1) := dk_3 (dk_at dksX32_holds_2 3 rfl rfl)
theorem dX32_holds_50 : decode cX32_holds 50 = .ok (.goto 109, 3) := dk_167 0 109 (dk_at dksX32_holds_2 4 rfl rfl)
theorem dX32_holds_53 : decode cX32_holds 53 = .ok (.aload_n 0, 1) := dk_42 (dk_at dksX32_holds_2 7 rfl rfl)
theorem dX32_holds_54 : decode cX32_holds 54 = .ok (.getfield 9, 3) := dk_180 0 9 (dk_at dksX32_holds_2 8 rfl rfl)
theorem dX32_holds_57 : decode cX32_holds 57 = .ok (.bipush 62, 2) := dk_16 62 (dk_at dksX32_holds_2 11 rfl rfl)
theorem dX32_holds_59 : decode cX32_holds 59 = .ok (.if_icmp .ne 17, 3) := dk_160 0 17 (dk_at dksX32_holds_2 13 rfl rfl)
theorem dX32_holds_62 : decode cX32_holds 62 = .ok (.iload_n 3, 1) := dk_29 (dk_at dksX32_holds_2 16 rfl rfl)
theorem dX32_holds_63 : decode cX32_holds 63 = .ok (.iload 4, 2) := dk_21 4 (dk_at dksX32_holds_2 17 rfl rfl)
theorem dX32_holds_65 : decode cX32_holds 65 = .ok (.if_icmp .le 7, 3) := dk_164 0 7 (dk_at dksX32_holds_2 19 rfl rfl)
theorem dX32_holds_68 : decode cX32_holds 68 = .ok (.iconst 1, 1) := dk_4 (dk_at dksX32_holds_2 22 rfl rfl)
theorem dX32_holds_69 : decode cX32_holds 69 = .ok (.goto 90, 3) := dk_167 0 90 (dk_at dksX32_holds_3 0 rfl rfl)
theorem dX32_holds_72 : decode cX32_holds 72 = .ok (.iconst 0, 1) := dk_3 (dk_at dksX32_holds_3 3 rfl rfl)
theorem dX32_holds_73 : decode cX32_holds 73 = .ok (.goto 86, 3) := dk_167 0 86 (dk_at dksX32_holds_3 4 rfl rfl)
theorem dX32_holds_76 : decode cX32_holds 76 = .ok (.aload_n 0, 1) := dk_42 (dk_at dksX32_holds_3 7 rfl rfl)
theorem dX32_holds_77 : decode cX32_holds 77 = .ok (.getfield 9, 3) := dk_180 0 9 (dk_at dksX32_holds_3 8 rfl rfl)
theorem dX32_holds_80 : decode cX32_holds 80 = .ok (.sipush 256, 3) := dk_17 1 0 (dk_at dksX32_holds_3 11 rfl rfl)
theorem dX32_holds_83 : decode cX32_holds 83 = .ok (.if_icmp .ne 17, 3) := dk_160 0 17 (dk_at dksX32_holds_3 14 rfl rfl)
theorem dX32_holds_86 : decode cX32_holds 86 = .ok (.iload_n 3, 1) := dk_29 (dk_at dksX32_holds_3 17 rfl rfl)
theorem dX32_holds_87 : decode cX32_holds 87 = .ok (.iload 4, 2) := dk_21 4 (dk_at dksX32_holds_3 18 rfl rfl)
theorem dX32_holds_89 : decode cX32_holds 89 = .ok (.if_icmp .gt 7, 3) := dk_163 0 7 (dk_at dksX32_holds_3 20 rfl rfl)
theorem dX32_holds_92 : decode cX32_holds 92 = .ok (.iconst 1, 1) := dk_4 (dk_at dksX32_holds_3 23 rfl rfl)
theorem dX32_holds_93 : decode cX32_holds 93 = .ok (.goto 66, 3) := dk_167 0 66 (dk_at dksX32_holds_4 0 rfl rfl)
theorem dX32_holds_96 : decode cX32_holds 96 = .ok (.iconst 0, 1) := dk_3 (dk_at dksX32_holds_4 3 rfl rfl)
theorem dX32_holds_97 : decode cX32_holds 97 = .ok (.goto 62, 3) := dk_167 0 62 (dk_at dksX32_holds_4 4 rfl rfl)
theorem dX32_holds_100 : decode cX32_holds 100 = .ok (.aload_n 0, 1) := dk_42 (dk_at dksX32_holds_4 7 rfl rfl)
theorem dX32_holds_101 : decode cX32_holds 101 = .ok (.getfield 9, 3) := dk_180 0 9 (dk_at dksX32_holds_4 8 rfl rfl)
theorem dX32_holds_104 : decode cX32_holds 104 = .ok (.sipush 257, 3) := dk_17 1 1 (dk_at dksX32_holds_4 11 rfl rfl)
theorem dX32_holds_107 : decode cX32_holds 107 = .ok (.if_icmp .ne 17, 3) := dk_160 0 17 (dk_at dksX32_holds_4 14 rfl rfl)
theorem dX32_holds_110 : decode cX32_holds 110 = .ok (.iload_n 3, 1) := dk_29 (dk_at dksX32_holds_4 17 rfl rfl)
theorem dX32_holds_111 : decode cX32_holds 111 = .ok (.iload 4, 2) := dk_21 4 (dk_at dksX32_holds_4 18 rfl rfl)
theorem dX32_holds_113 : decode cX32_holds 113 = .ok (.if_icmp .lt 7, 3) := dk_161 0 7 (dk_at dksX32_holds_4 20 rfl rfl)
theorem dX32_holds_116 : decode cX32_holds 116 = .ok (.iconst 1, 1) := dk_4 (dk_at dksX32_holds_4 23 rfl rfl)
theorem dX32_holds_117 : decode cX32_holds 117 = .ok (.goto 42, 3) := dk_167 0 42 (dk_at dksX32_holds_5 0 rfl rfl)
theorem dX32_holds_120 : decode cX32_holds 120 = .ok (.iconst 0, 1) := dk_3 (dk_at dksX32_holds_5 3 rfl rfl)
theorem dX32_holds_121 : decode cX32_holds 121 = .ok (.goto 38, 3) := dk_167 0 38 (dk_at dksX32_holds_5 4 rfl rfl)
theorem dX32_holds_124 : decode cX32_holds 124 = .ok (.aload_n 0, 1) := dk_42 (dk_at dksX32_holds_5 7 rfl rfl)
theorem dX32_holds_125 : decode cX32_holds 125 = .ok (.getfield 9, 3) := dk_180 0 9 (dk_at dksX32_holds_5 8 rfl rfl)
theorem dX32_holds_128 : decode cX32_holds 128 = .ok (.sipush 258, 3) := dk_17 1 2 (dk_at dksX32_holds_5 11 rfl rfl)
theorem dX32_holds_131 : decode cX32_holds 131 = .ok (.if_icmp .ne 17, 3) := dk_160 0 17 (dk_at dksX32_holds_5 14 rfl rfl)
theorem dX32_holds_134 : decode cX32_holds 134 = .ok (.iload_n 3, 1) := dk_29 (dk_at dksX32_holds_5 17 rfl rfl)
theorem dX32_holds_135 : decode cX32_holds 135 = .ok (.iload 4, 2) := dk_21 4 (dk_at dksX32_holds_5 18 rfl rfl)
theorem dX32_holds_137 : decode cX32_holds 137 = .ok (.if_icmp .ne 7, 3) := dk_160 0 7 (dk_at dksX32_holds_5 20 rfl rfl)
theorem dX32_holds_140 : decode cX32_holds 140 = .ok (.iconst 1, 1) := dk_4 (dk_at dksX32_holds_5 23 rfl rfl)
theorem dX32_holds_141 : decode cX32_holds 141 = .ok (.goto 18, 3) := dk_167 0 18 (dk_at dksX32_holds_6 0 rfl rfl)
theorem dX32_holds_144 : decode cX32_holds 144 = .ok (.iconst 0, 1) := dk_3 (dk_at dksX32_holds_6 3 rfl rfl)
theorem dX32_holds_145 : decode cX32_holds 145 = .ok (.goto 14, 3) := dk_167 0 14 (dk_at dksX32_holds_6 4 rfl rfl)
theorem dX32_holds_148 : decode cX32_holds 148 = .ok (.iload_n 3, 1) := dk_29 (dk_at dksX32_holds_6 7 rfl rfl)
theorem dX32_holds_149 : decode cX32_holds 149 = .ok (.iload 4, 2) := dk_21 4 (dk_at dksX32_holds_6 8 rfl rfl)
theorem dX32_holds_151 : decode cX32_holds 151 = .ok (.if_icmp .eq 7, 3) := dk_159 0 7 (dk_at dksX32_holds_6 10 rfl rfl)
theorem dX32_holds_154 : decode cX32_holds 154 = .ok (.iconst 1, 1) := dk_4 (dk_at dksX32_holds_6 13 rfl rfl)
theorem dX32_holds_155 : decode cX32_holds 155 = .ok (.goto 4, 3) := dk_167 0 4 (dk_at dksX32_holds_6 14 rfl rfl)
theorem dX32_holds_158 : decode cX32_holds 158 = .ok (.iconst 0, 1) := dk_3 (dk_at dksX32_holds_6 17 rfl rfl)
theorem dX32_holds_159 : decode cX32_holds 159 = .ok (.istore 5, 2) := dk_54 5 (dk_at dksX32_holds_6 18 rfl rfl)
theorem dX32_holds_161 : decode cX32_holds 161 = .ok (.iload 5, 2) := dk_21 5 (dk_at dksX32_holds_6 20 rfl rfl)
theorem dX32_holds_163 : decode cX32_holds 163 = .ok (.aload_n 0, 1) := dk_42 (dk_at dksX32_holds_6 22 rfl rfl)
theorem dX32_holds_164 : decode cX32_holds 164 = .ok (.getfield 22, 3) := dk_180 0 22 (dk_at dksX32_holds_7 0 rfl rfl)
theorem dX32_holds_167 : decode cX32_holds 167 = .ok (.if_icmp .eq 7, 3) := dk_159 0 7 (dk_at dksX32_holds_7 3 rfl rfl)
theorem dX32_holds_170 : decode cX32_holds 170 = .ok (.iconst 1, 1) := dk_4 (dk_at dksX32_holds_7 6 rfl rfl)
theorem dX32_holds_171 : decode cX32_holds 171 = .ok (.goto 4, 3) := dk_167 0 4 (dk_at dksX32_holds_7 7 rfl rfl)
theorem dX32_holds_174 : decode cX32_holds 174 = .ok (.iconst 0, 1) := dk_3 (dk_at dksX32_holds_7 10 rfl rfl)
theorem dX32_holds_175 : decode cX32_holds 175 = .ok (.ireturn, 1) := dk_172 (dk_at dksX32_holds_7 11 rfl rfl)
def dkwX33_init_0 : List UInt8 := [42, 183, 0, 1, 42, 187, 0, 7, 89, 5, 183, 0, 9, 181, 0, 12, 42, 27, 181, 0, 18, 177]
abbrev dktX33_init_0 : List UInt8 := dkwX33_init_0 ++ []
theorem dksX33_init_0 : cX33_init.data.toList.drop 0 = dktX33_init_0 := by decide +kernel
theorem dX33_init_0 : decode cX33_init 0 = .ok (.aload_n 0, 1) := dk_42 (dk_at dksX33_init_0 0 rfl rfl)
theorem dX33_init_1 : decode cX33_init 1 = .ok (.invokespecial 1, 3) := dk_183 0 1 (dk_at dksX33_init_0 1 rfl rfl)
theorem dX33_init_4 : decode cX33_init 4 = .ok (.aload_n 0, 1) := dk_42 (dk_at dksX33_init_0 4 rfl rfl)
theorem dX33_init_5 : decode cX33_init 5 = .ok (.new 7, 3) := dk_187 0 7 (dk_at dksX33_init_0 5 rfl rfl)
theorem dX33_init_8 : decode cX33_init 8 = .ok (.dup, 1) := dk_89 (dk_at dksX33_init_0 8 rfl rfl)
theorem dX33_init_9 : decode cX33_init 9 = .ok (.iconst 2, 1) := dk_5 (dk_at dksX33_init_0 9 rfl rfl)
theorem dX33_init_10 : decode cX33_init 10 = .ok (.invokespecial 9, 3) := dk_183 0 9 (dk_at dksX33_init_0 10 rfl rfl)
theorem dX33_init_13 : decode cX33_init 13 = .ok (.putfield 12, 3) := dk_181 0 12 (dk_at dksX33_init_0 13 rfl rfl)
theorem dX33_init_16 : decode cX33_init 16 = .ok (.aload_n 0, 1) := dk_42 (dk_at dksX33_init_0 16 rfl rfl)
theorem dX33_init_17 : decode cX33_init 17 = .ok (.iload_n 1, 1) := dk_27 (dk_at dksX33_init_0 17 rfl rfl)
theorem dX33_init_18 : decode cX33_init 18 = .ok (.putfield 18, 3) := dk_181 0 18 (dk_at dksX33_init_0 18 rfl rfl)
theorem dX33_init_21 : decode cX33_init 21 = .ok (.return_, 1) := dk_177 (dk_at dksX33_init_0 21 rfl rfl)
def dkwX33_holds_2 : List UInt8 := [159, 0, 6, 21, 4, 172, 132, 3, 1, 167, 255, 203, 42, 180, 0, 18, 172]
abbrev dktX33_holds_2 : List UInt8 := dkwX33_holds_2 ++ []
def dkwX33_holds_1 : List UInt8 := [43, 44, 182, 0, 30, 54, 4, 43, 180, 0, 34, 153, 0, 5, 3, 172, 21, 4, 42, 180, 0, 18]
abbrev dktX33_holds_1 : List UInt8 := dkwX33_holds_1 ++ dktX33_holds_2
def dkwX33_holds_0 : List UInt8 := [3, 62, 29, 42, 180, 0, 12, 182, 0, 22, 162, 0, 48, 42, 180, 0, 12, 29, 182, 0, 26, 192, 0, 2]
abbrev dktX33_holds_0 : List UInt8 := dkwX33_holds_0 ++ dktX33_holds_1
theorem dksX33_holds_0 : cX33_holds.data.toList.drop 0 = dktX33_holds_0 := by decide +kernel
theorem dksX33_holds_1 : cX33_holds.data.toList.drop 24 = dktX33_holds_1 := dk_seg dksX33_holds_0 24 rfl rfl
theorem dksX33_holds_2 : cX33_holds.data.toList.drop 46 = dktX33_holds_2 := dk_seg dksX33_holds_1 22 rfl rfl
theorem dX33_holds_0 : decode cX33_holds 0 = .ok (.iconst 0, 1) := dk_3 (dk_at dksX33_holds_0 0 rfl rfl)
theorem dX33_holds_1 : decode cX33_holds 1 = .ok (.istore_n 3, 1) := dk_62 (dk_at dksX33_holds_0 1 rfl rfl)
theorem dX33_holds_2 : decode cX33_holds 2 = .ok (.iload_n 3, 1) := dk_29 (dk_at dksX33_holds_0 2 rfl rfl)
theorem dX33_holds_3 : decode cX33_holds 3 = .ok (.aload_n 0, 1) := dk_42 (dk_at dksX33_holds_0 3 rfl rfl)
theorem dX33_holds_4 : decode cX33_holds 4 = .ok (.getfield 12, 3) := dk_180 0 12 (dk_at dksX33_holds_0 4 rfl rfl)
theorem dX33_holds_7 : decode cX33_holds 7 = .ok (.invokevirtual 22, 3) := dk_182 0 22 (dk_at dksX33_holds_0 7 rfl rfl)
theorem dX33_holds_10 : decode cX33_holds 10 = .ok (.if_icmp .ge 48, 3) := dk_162 0 48 (dk_at dksX33_holds_0 10 rfl rfl)
theorem dX33_holds_13 : decode cX33_holds 13 = .ok (.aload_n 0, 1) := dk_42 (dk_at dksX33_holds_0 13 rfl rfl)
theorem dX33_holds_14 : decode cX33_holds 14 = .ok (.getfield 12, 3) := dk_180 0 12 (dk_at dksX33_holds_0 14 rfl rfl)
theorem dX33_holds_17 : decode cX33_holds 17 = .ok (.iload_n 3, 1) := dk_29 (dk_at dksX33_holds_0 17 rfl rfl)
theorem dX33_holds_18 : decode cX33_holds 18 = .ok (.invokevirtual 26, 3) := dk_182 0 26 (dk_at dksX33_holds_0 18 rfl rfl)
theorem dX33_holds_21 : decode cX33_holds 21 = .ok (.checkcast 2, 3) := dk_192 0 2 (dk_at dksX33_holds_0 21 rfl rfl)
theorem dX33_holds_24 : decode cX33_holds 24 = .ok (.aload_n 1, 1) := dk_43 (dk_at dksX33_holds_1 0 rfl rfl)
theorem dX33_holds_25 : decode cX33_holds 25 = .ok (.aload_n 2, 1) := dk_44 (dk_at dksX33_holds_1 1 rfl rfl)
theorem dX33_holds_26 : decode cX33_holds 26 = .ok (.invokevirtual 30, 3) := dk_182 0 30 (dk_at dksX33_holds_1 2 rfl rfl)
theorem dX33_holds_29 : decode cX33_holds 29 = .ok (.istore 4, 2) := dk_54 4 (dk_at dksX33_holds_1 5 rfl rfl)
theorem dX33_holds_31 : decode cX33_holds 31 = .ok (.aload_n 1, 1) := dk_43 (dk_at dksX33_holds_1 7 rfl rfl)
theorem dX33_holds_32 : decode cX33_holds 32 = .ok (.getfield 34, 3) := dk_180 0 34 (dk_at dksX33_holds_1 8 rfl rfl)
theorem dX33_holds_35 : decode cX33_holds 35 = .ok (.ifCond .eq 5, 3) := dk_153 0 5 (dk_at dksX33_holds_1 11 rfl rfl)
theorem dX33_holds_38 : decode cX33_holds 38 = .ok (.iconst 0, 1) := dk_3 (dk_at dksX33_holds_1 14 rfl rfl)
theorem dX33_holds_39 : decode cX33_holds 39 = .ok (.ireturn, 1) := dk_172 (dk_at dksX33_holds_1 15 rfl rfl)
theorem dX33_holds_40 : decode cX33_holds 40 = .ok (.iload 4, 2) := dk_21 4 (dk_at dksX33_holds_1 16 rfl rfl)
theorem dX33_holds_42 : decode cX33_holds 42 = .ok (.aload_n 0, 1) := dk_42 (dk_at dksX33_holds_1 18 rfl rfl)
theorem dX33_holds_43 : decode cX33_holds 43 = .ok (.getfield 18, 3) := dk_180 0 18 (dk_at dksX33_holds_1 19 rfl rfl)
theorem dX33_holds_46 : decode cX33_holds 46 = .ok (.if_icmp .eq 6, 3) := dk_159 0 6 (dk_at dksX33_holds_2 0 rfl rfl)
theorem dX33_holds_49 : decode cX33_holds 49 = .ok (.iload 4, 2) := dk_21 4 (dk_at dksX33_holds_2 3 rfl rfl)
theorem dX33_holds_51 : decode cX33_holds 51 = .ok (.ireturn, 1) := dk_172 (dk_at dksX33_holds_2 5 rfl rfl)
theorem dX33_holds_52 : decode cX33_holds 52 = .ok (.iinc 3 1, 3) := dk_132 3 1 (dk_at dksX33_holds_2 6 rfl rfl)
theorem dX33_holds_55 : decode cX33_holds 55 = .ok (.goto (-53), 3) := dk_167 255 203 (dk_at dksX33_holds_2 9 rfl rfl)
theorem dX33_holds_58 : decode cX33_holds 58 = .ok (.aload_n 0, 1) := dk_42 (dk_at dksX33_holds_2 12 rfl rfl)
theorem dX33_holds_59 : decode cX33_holds 59 = .ok (.getfield 18, 3) := dk_180 0 18 (dk_at dksX33_holds_2 13 rfl rfl)
theorem dX33_holds_62 : decode cX33_holds 62 = .ok (.ireturn, 1) := dk_172 (dk_at dksX33_holds_2 16 rfl rfl)
def dkwX34_isStill_0 : List UInt8 := [42, 185, 0, 1, 1, 0, 180, 0, 17, 154, 0, 7, 4, 167, 0, 4, 3, 172]
abbrev dktX34_isStill_0 : List UInt8 := dkwX34_isStill_0 ++ []
theorem dksX34_isStill_0 : cX34_isStill.data.toList.drop 0 = dktX34_isStill_0 := by decide +kernel
theorem dX34_isStill_0 : decode cX34_isStill 0 = .ok (.aload_n 0, 1) := dk_42 (dk_at dksX34_isStill_0 0 rfl rfl)
theorem dX34_isStill_1 : decode cX34_isStill 1 = .ok (.invokeinterface 1 1, 5) := by decide +kernel
theorem dX34_isStill_6 : decode cX34_isStill 6 = .ok (.getfield 17, 3) := dk_180 0 17 (dk_at dksX34_isStill_0 6 rfl rfl)
theorem dX34_isStill_9 : decode cX34_isStill 9 = .ok (.ifCond .ne 7, 3) := dk_154 0 7 (dk_at dksX34_isStill_0 9 rfl rfl)
theorem dX34_isStill_12 : decode cX34_isStill 12 = .ok (.iconst 1, 1) := dk_4 (dk_at dksX34_isStill_0 12 rfl rfl)
theorem dX34_isStill_13 : decode cX34_isStill 13 = .ok (.goto 4, 3) := dk_167 0 4 (dk_at dksX34_isStill_0 13 rfl rfl)
theorem dX34_isStill_16 : decode cX34_isStill 16 = .ok (.iconst 0, 1) := dk_3 (dk_at dksX34_isStill_0 16 rfl rfl)
theorem dX34_isStill_17 : decode cX34_isStill 17 = .ok (.ireturn, 1) := dk_172 (dk_at dksX34_isStill_0 17 rfl rfl)
theorem dX34_isCalm_0 : decode cX34_isCalm 0 = .ok (.aload_n 0, 1) := by decide +kernel
theorem dX34_isCalm_1 : decode cX34_isCalm 1 = .ok (.invokeinterface 33 1, 5) := by decide +kernel
theorem dX34_isCalm_6 : decode cX34_isCalm 6 = .ok (.ireturn, 1) := by decide +kernel
def dkwX34_turn_0 : List UInt8 := [42, 185, 0, 1, 1, 0, 42, 185, 0, 1, 1, 0, 180, 0, 20, 182, 0, 23, 177]
abbrev dktX34_turn_0 : List UInt8 := dkwX34_turn_0 ++ []
theorem dksX34_turn_0 : cX34_turn.data.toList.drop 0 = dktX34_turn_0 := by decide +kernel
theorem dX34_turn_0 : decode cX34_turn 0 = .ok (.aload_n 0, 1) := dk_42 (dk_at dksX34_turn_0 0 rfl rfl)
theorem dX34_turn_1 : decode cX34_turn 1 = .ok (.invokeinterface 1 1, 5) := by decide +kernel
theorem dX34_turn_6 : decode cX34_turn 6 = .ok (.aload_n 0, 1) := dk_42 (dk_at dksX34_turn_0 6 rfl rfl)
theorem dX34_turn_7 : decode cX34_turn 7 = .ok (.invokeinterface 1 1, 5) := by decide +kernel
theorem dX34_turn_12 : decode cX34_turn 12 = .ok (.getfield 20, 3) := dk_180 0 20 (dk_at dksX34_turn_0 12 rfl rfl)
theorem dX34_turn_15 : decode cX34_turn 15 = .ok (.invokevirtual 23, 3) := dk_182 0 23 (dk_at dksX34_turn_0 15 rfl rfl)
theorem dX34_turn_18 : decode cX34_turn 18 = .ok (.return_, 1) := dk_177 (dk_at dksX34_turn_0 18 rfl rfl)
theorem dX34_ease_0 : decode cX34_ease 0 = .ok (.aload_n 0, 1) := by decide +kernel
theorem dX34_ease_1 : decode cX34_ease 1 = .ok (.invokeinterface 37 1, 5) := by decide +kernel
theorem dX34_ease_6 : decode cX34_ease 6 = .ok (.return_, 1) := by decide +kernel
def dkwX34_pull_0 : List UInt8 := [42, 185, 0, 1, 1, 0, 182, 0, 7, 42, 185, 0, 1, 1, 0, 180, 0, 13, 104, 16, 100, 108, 172]
abbrev dktX34_pull_0 : List UInt8 := dkwX34_pull_0 ++ []
theorem dksX34_pull_0 : cX34_pull.data.toList.drop 0 = dktX34_pull_0 := by decide +kernel
theorem dX34_pull_0 : decode cX34_pull 0 = .ok (.aload_n 0, 1) := dk_42 (dk_at dksX34_pull_0 0 rfl rfl)
theorem dX34_pull_1 : decode cX34_pull 1 = .ok (.invokeinterface 1 1, 5) := by decide +kernel
theorem dX34_pull_6 : decode cX34_pull 6 = .ok (.invokevirtual 7, 3) := dk_182 0 7 (dk_at dksX34_pull_0 6 rfl rfl)
theorem dX34_pull_9 : decode cX34_pull 9 = .ok (.aload_n 0, 1) := dk_42 (dk_at dksX34_pull_0 9 rfl rfl)
theorem dX34_pull_10 : decode cX34_pull 10 = .ok (.invokeinterface 1 1, 5) := by decide +kernel
theorem dX34_pull_15 : decode cX34_pull 15 = .ok (.getfield 13, 3) := dk_180 0 13 (dk_at dksX34_pull_0 15 rfl rfl)
theorem dX34_pull_18 : decode cX34_pull 18 = .ok (.imul, 1) := dk_104 (dk_at dksX34_pull_0 18 rfl rfl)
theorem dX34_pull_19 : decode cX34_pull 19 = .ok (.bipush 100, 2) := dk_16 100 (dk_at dksX34_pull_0 19 rfl rfl)
theorem dX34_pull_21 : decode cX34_pull 21 = .ok (.idiv, 1) := dk_108 (dk_at dksX34_pull_0 21 rfl rfl)
theorem dX34_pull_22 : decode cX34_pull 22 = .ok (.ireturn, 1) := dk_172 (dk_at dksX34_pull_0 22 rfl rfl)
theorem dX34_draw_0 : decode cX34_draw 0 = .ok (.aload_n 0, 1) := by decide +kernel
theorem dX34_draw_1 : decode cX34_draw 1 = .ok (.invokeinterface 27 1, 5) := by decide +kernel
theorem dX34_draw_6 : decode cX34_draw 6 = .ok (.ireturn, 1) := by decide +kernel
theorem dX34_limit_0 : decode cX34_limit 0 = .ok (.bipush 80, 2) := by decide +kernel
theorem dX34_limit_2 : decode cX34_limit 2 = .ok (.ireturn, 1) := by decide +kernel
def dkwX34_tear_0 : List UInt8 := [42, 185, 0, 1, 1, 0, 182, 0, 7, 172]
abbrev dktX34_tear_0 : List UInt8 := dkwX34_tear_0 ++ []
theorem dksX34_tear_0 : cX34_tear.data.toList.drop 0 = dktX34_tear_0 := by decide +kernel
theorem dX34_tear_0 : decode cX34_tear 0 = .ok (.aload_n 0, 1) := dk_42 (dk_at dksX34_tear_0 0 rfl rfl)
theorem dX34_tear_1 : decode cX34_tear 1 = .ok (.invokeinterface 1 1, 5) := by decide +kernel
theorem dX34_tear_6 : decode cX34_tear 6 = .ok (.invokevirtual 7, 3) := dk_182 0 7 (dk_at dksX34_tear_0 6 rfl rfl)
theorem dX34_tear_9 : decode cX34_tear 9 = .ok (.ireturn, 1) := dk_172 (dk_at dksX34_tear_0 9 rfl rfl)
def dkwX34_hum_0 : List UInt8 := [42, 185, 0, 1, 1, 0, 182, 0, 7, 5, 108, 172]
abbrev dktX34_hum_0 : List UInt8 := dkwX34_hum_0 ++ []
theorem dksX34_hum_0 : cX34_hum.data.toList.drop 0 = dktX34_hum_0 := by decide +kernel
theorem dX34_hum_0 : decode cX34_hum 0 = .ok (.aload_n 0, 1) := dk_42 (dk_at dksX34_hum_0 0 rfl rfl)
theorem dX34_hum_1 : decode cX34_hum 1 = .ok (.invokeinterface 1 1, 5) := by decide +kernel
theorem dX34_hum_6 : decode cX34_hum 6 = .ok (.invokevirtual 7, 3) := dk_182 0 7 (dk_at dksX34_hum_0 6 rfl rfl)
theorem dX34_hum_9 : decode cX34_hum 9 = .ok (.iconst 2, 1) := dk_5 (dk_at dksX34_hum_0 9 rfl rfl)
theorem dX34_hum_10 : decode cX34_hum 10 = .ok (.idiv, 1) := dk_108 (dk_at dksX34_hum_0 10 rfl rfl)
theorem dX34_hum_11 : decode cX34_hum 11 = .ok (.ireturn, 1) := dk_172 (dk_at dksX34_hum_0 11 rfl rfl)
theorem dX34_noise_0 : decode cX34_noise 0 = .ok (.aload_n 0, 1) := by decide +kernel
theorem dX34_noise_1 : decode cX34_noise 1 = .ok (.invokeinterface 30 1, 5) := by decide +kernel
theorem dX34_noise_6 : decode cX34_noise 6 = .ok (.ireturn, 1) := by decide +kernel
def dkwX35_ease_0 : List UInt8 := [42, 185, 0, 7, 1, 0, 42, 185, 0, 11, 1, 0, 180, 0, 14, 181, 0, 14, 177]
abbrev dktX35_ease_0 : List UInt8 := dkwX35_ease_0 ++ []
theorem dksX35_ease_0 : cX35_ease.data.toList.drop 0 = dktX35_ease_0 := by decide +kernel
theorem dX35_ease_0 : decode cX35_ease 0 = .ok (.aload_n 0, 1) := dk_42 (dk_at dksX35_ease_0 0 rfl rfl)
theorem dX35_ease_1 : decode cX35_ease 1 = .ok (.invokeinterface 7 1, 5) := by decide +kernel
theorem dX35_ease_6 : decode cX35_ease 6 = .ok (.aload_n 0, 1) := dk_42 (dk_at dksX35_ease_0 6 rfl rfl)
theorem dX35_ease_7 : decode cX35_ease 7 = .ok (.invokeinterface 11 1, 5) := by decide +kernel
theorem dX35_ease_12 : decode cX35_ease 12 = .ok (.getfield 14, 3) := dk_180 0 14 (dk_at dksX35_ease_0 12 rfl rfl)
theorem dX35_ease_15 : decode cX35_ease 15 = .ok (.putfield 14, 3) := dk_181 0 14 (dk_at dksX35_ease_0 15 rfl rfl)
theorem dX35_ease_18 : decode cX35_ease 18 = .ok (.return_, 1) := dk_177 (dk_at dksX35_ease_0 18 rfl rfl)
def dkwX35_draw_0 : List UInt8 := [42, 185, 0, 1, 1, 0, 5, 108, 172]
abbrev dktX35_draw_0 : List UInt8 := dkwX35_draw_0 ++ []
theorem dksX35_draw_0 : cX35_draw.data.toList.drop 0 = dktX35_draw_0 := by decide +kernel
theorem dX35_draw_0 : decode cX35_draw 0 = .ok (.aload_n 0, 1) := dk_42 (dk_at dksX35_draw_0 0 rfl rfl)
theorem dX35_draw_1 : decode cX35_draw 1 = .ok (.invokeinterface 1 1, 5) := by decide +kernel
theorem dX35_draw_6 : decode cX35_draw 6 = .ok (.iconst 2, 1) := dk_5 (dk_at dksX35_draw_0 6 rfl rfl)
theorem dX35_draw_7 : decode cX35_draw 7 = .ok (.idiv, 1) := dk_108 (dk_at dksX35_draw_0 7 rfl rfl)
theorem dX35_draw_8 : decode cX35_draw 8 = .ok (.ireturn, 1) := dk_172 (dk_at dksX35_draw_0 8 rfl rfl)
theorem dX35_noise_0 : decode cX35_noise 0 = .ok (.iconst 0, 1) := by decide +kernel
theorem dX35_noise_1 : decode cX35_noise 1 = .ok (.ireturn, 1) := by decide +kernel
def dkwX36_isDown_0 : List UInt8 := [42, 185, 0, 1, 1, 0, 180, 0, 16, 154, 0, 7, 4, 167, 0, 4, 3, 172]
abbrev dktX36_isDown_0 : List UInt8 := dkwX36_isDown_0 ++ []
theorem dksX36_isDown_0 : cX36_isDown.data.toList.drop 0 = dktX36_isDown_0 := by decide +kernel
theorem dX36_isDown_0 : decode cX36_isDown 0 = .ok (.aload_n 0, 1) := dk_42 (dk_at dksX36_isDown_0 0 rfl rfl)
theorem dX36_isDown_1 : decode cX36_isDown 1 = .ok (.invokeinterface 1 1, 5) := by decide +kernel
theorem dX36_isDown_6 : decode cX36_isDown 6 = .ok (.getfield 16, 3) := dk_180 0 16 (dk_at dksX36_isDown_0 6 rfl rfl)
theorem dX36_isDown_9 : decode cX36_isDown 9 = .ok (.ifCond .ne 7, 3) := dk_154 0 7 (dk_at dksX36_isDown_0 9 rfl rfl)
theorem dX36_isDown_12 : decode cX36_isDown 12 = .ok (.iconst 1, 1) := dk_4 (dk_at dksX36_isDown_0 12 rfl rfl)
theorem dX36_isDown_13 : decode cX36_isDown 13 = .ok (.goto 4, 3) := dk_167 0 4 (dk_at dksX36_isDown_0 13 rfl rfl)
theorem dX36_isDown_16 : decode cX36_isDown 16 = .ok (.iconst 0, 1) := dk_3 (dk_at dksX36_isDown_0 16 rfl rfl)
theorem dX36_isDown_17 : decode cX36_isDown 17 = .ok (.ireturn, 1) := dk_172 (dk_at dksX36_isDown_0 17 rfl rfl)
theorem dX36_isCalm_0 : decode cX36_isCalm 0 = .ok (.aload_n 0, 1) := by decide +kernel
theorem dX36_isCalm_1 : decode cX36_isCalm 1 = .ok (.invokeinterface 36 1, 5) := by decide +kernel
theorem dX36_isCalm_6 : decode cX36_isCalm 6 = .ok (.ireturn, 1) := by decide +kernel
def dkwX36_rise_1 : List UInt8 := [182, 0, 22, 177]
abbrev dktX36_rise_1 : List UInt8 := dkwX36_rise_1 ++ []
def dkwX36_rise_0 : List UInt8 := [42, 185, 0, 1, 1, 0, 42, 185, 0, 1, 1, 0, 180, 0, 19, 42, 185, 0, 1, 1, 0, 180, 0, 19]
abbrev dktX36_rise_0 : List UInt8 := dkwX36_rise_0 ++ dktX36_rise_1
theorem dksX36_rise_0 : cX36_rise.data.toList.drop 0 = dktX36_rise_0 := by decide +kernel
theorem dksX36_rise_1 : cX36_rise.data.toList.drop 24 = dktX36_rise_1 := dk_seg dksX36_rise_0 24 rfl rfl
theorem dX36_rise_0 : decode cX36_rise 0 = .ok (.aload_n 0, 1) := dk_42 (dk_at dksX36_rise_0 0 rfl rfl)
theorem dX36_rise_1 : decode cX36_rise 1 = .ok (.invokeinterface 1 1, 5) := by decide +kernel
theorem dX36_rise_6 : decode cX36_rise 6 = .ok (.aload_n 0, 1) := dk_42 (dk_at dksX36_rise_0 6 rfl rfl)
theorem dX36_rise_7 : decode cX36_rise 7 = .ok (.invokeinterface 1 1, 5) := by decide +kernel
theorem dX36_rise_12 : decode cX36_rise 12 = .ok (.getfield 19, 3) := dk_180 0 19 (dk_at dksX36_rise_0 12 rfl rfl)
theorem dX36_rise_15 : decode cX36_rise 15 = .ok (.aload_n 0, 1) := dk_42 (dk_at dksX36_rise_0 15 rfl rfl)
theorem dX36_rise_16 : decode cX36_rise 16 = .ok (.invokeinterface 1 1, 5) := by decide +kernel
theorem dX36_rise_21 : decode cX36_rise 21 = .ok (.getfield 19, 3) := dk_180 0 19 (dk_at dksX36_rise_0 21 rfl rfl)
theorem dX36_rise_24 : decode cX36_rise 24 = .ok (.invokevirtual 22, 3) := dk_182 0 22 (dk_at dksX36_rise_1 0 rfl rfl)
theorem dX36_rise_27 : decode cX36_rise 27 = .ok (.return_, 1) := dk_177 (dk_at dksX36_rise_1 3 rfl rfl)
theorem dX36_ease_0 : decode cX36_ease 0 = .ok (.aload_n 0, 1) := by decide +kernel
theorem dX36_ease_1 : decode cX36_ease 1 = .ok (.invokeinterface 40 1, 5) := by decide +kernel
theorem dX36_ease_6 : decode cX36_ease 6 = .ok (.return_, 1) := by decide +kernel
def dkwX36_heave_1 : List UInt8 := [3, 172]
abbrev dktX36_heave_1 : List UInt8 := dkwX36_heave_1 ++ []
def dkwX36_heave_0 : List UInt8 := [42, 185, 0, 1, 1, 0, 180, 0, 7, 158, 0, 15, 42, 185, 0, 1, 1, 0, 180, 0, 13, 167, 0, 4]
abbrev dktX36_heave_0 : List UInt8 := dkwX36_heave_0 ++ dktX36_heave_1
theorem dksX36_heave_0 : cX36_heave.data.toList.drop 0 = dktX36_heave_0 := by decide +kernel
theorem dksX36_heave_1 : cX36_heave.data.toList.drop 24 = dktX36_heave_1 := dk_seg dksX36_heave_0 24 rfl rfl
theorem dX36_heave_0 : decode cX36_heave 0 = .ok (.aload_n 0, 1) := dk_42 (dk_at dksX36_heave_0 0 rfl rfl)
theorem dX36_heave_1 : decode cX36_heave 1 = .ok (.invokeinterface 1 1, 5) := by decide +kernel
theorem dX36_heave_6 : decode cX36_heave 6 = .ok (.getfield 7, 3) := dk_180 0 7 (dk_at dksX36_heave_0 6 rfl rfl)
theorem dX36_heave_9 : decode cX36_heave 9 = .ok (.ifCond .le 15, 3) := dk_158 0 15 (dk_at dksX36_heave_0 9 rfl rfl)
theorem dX36_heave_12 : decode cX36_heave 12 = .ok (.aload_n 0, 1) := dk_42 (dk_at dksX36_heave_0 12 rfl rfl)
theorem dX36_heave_13 : decode cX36_heave 13 = .ok (.invokeinterface 1 1, 5) := by decide +kernel
theorem dX36_heave_18 : decode cX36_heave 18 = .ok (.getfield 13, 3) := dk_180 0 13 (dk_at dksX36_heave_0 18 rfl rfl)
theorem dX36_heave_21 : decode cX36_heave 21 = .ok (.goto 4, 3) := dk_167 0 4 (dk_at dksX36_heave_0 21 rfl rfl)
theorem dX36_heave_24 : decode cX36_heave 24 = .ok (.iconst 0, 1) := dk_3 (dk_at dksX36_heave_1 0 rfl rfl)
theorem dX36_heave_25 : decode cX36_heave 25 = .ok (.ireturn, 1) := dk_172 (dk_at dksX36_heave_1 1 rfl rfl)
theorem dX36_draw_0 : decode cX36_draw 0 = .ok (.aload_n 0, 1) := by decide +kernel
theorem dX36_draw_1 : decode cX36_draw 1 = .ok (.invokeinterface 26 1, 5) := by decide +kernel
theorem dX36_draw_6 : decode cX36_draw 6 = .ok (.ireturn, 1) := by decide +kernel
theorem dX36_limit_0 : decode cX36_limit 0 = .ok (.bipush 60, 2) := by decide +kernel
theorem dX36_limit_2 : decode cX36_limit 2 = .ok (.ireturn, 1) := by decide +kernel
def dkwX36_rub_0 : List UInt8 := [42, 185, 0, 1, 1, 0, 180, 0, 7, 153, 0, 8, 16, 10, 167, 0, 4, 3, 172]
abbrev dktX36_rub_0 : List UInt8 := dkwX36_rub_0 ++ []
theorem dksX36_rub_0 : cX36_rub.data.toList.drop 0 = dktX36_rub_0 := by decide +kernel
theorem dX36_rub_0 : decode cX36_rub 0 = .ok (.aload_n 0, 1) := dk_42 (dk_at dksX36_rub_0 0 rfl rfl)
theorem dX36_rub_1 : decode cX36_rub 1 = .ok (.invokeinterface 1 1, 5) := by decide +kernel
theorem dX36_rub_6 : decode cX36_rub 6 = .ok (.getfield 7, 3) := dk_180 0 7 (dk_at dksX36_rub_0 6 rfl rfl)
theorem dX36_rub_9 : decode cX36_rub 9 = .ok (.ifCond .eq 8, 3) := dk_153 0 8 (dk_at dksX36_rub_0 9 rfl rfl)
theorem dX36_rub_12 : decode cX36_rub 12 = .ok (.bipush 10, 2) := dk_16 10 (dk_at dksX36_rub_0 12 rfl rfl)
theorem dX36_rub_14 : decode cX36_rub 14 = .ok (.goto 4, 3) := dk_167 0 4 (dk_at dksX36_rub_0 14 rfl rfl)
theorem dX36_rub_17 : decode cX36_rub 17 = .ok (.iconst 0, 1) := dk_3 (dk_at dksX36_rub_0 17 rfl rfl)
theorem dX36_rub_18 : decode cX36_rub 18 = .ok (.ireturn, 1) := dk_172 (dk_at dksX36_rub_0 18 rfl rfl)
theorem dX36_tear_0 : decode cX36_tear 0 = .ok (.aload_n 0, 1) := by decide +kernel
theorem dX36_tear_1 : decode cX36_tear 1 = .ok (.invokeinterface 33 1, 5) := by decide +kernel
theorem dX36_tear_6 : decode cX36_tear 6 = .ok (.ireturn, 1) := by decide +kernel
def dkwX36_creak_0 : List UInt8 := [42, 185, 0, 1, 1, 0, 180, 0, 7, 153, 0, 7, 8, 167, 0, 4, 3, 172]
abbrev dktX36_creak_0 : List UInt8 := dkwX36_creak_0 ++ []
theorem dksX36_creak_0 : cX36_creak.data.toList.drop 0 = dktX36_creak_0 := by decide +kernel
theorem dX36_creak_0 : decode cX36_creak 0 = .ok (.aload_n 0, 1) := dk_42 (dk_at dksX36_creak_0 0 rfl rfl)
theorem dX36_creak_1 : decode cX36_creak 1 = .ok (.invokeinterface 1 1, 5) := by decide +kernel
theorem dX36_creak_6 : decode cX36_creak 6 = .ok (.getfield 7, 3) := dk_180 0 7 (dk_at dksX36_creak_0 6 rfl rfl)
theorem dX36_creak_9 : decode cX36_creak 9 = .ok (.ifCond .eq 7, 3) := dk_153 0 7 (dk_at dksX36_creak_0 9 rfl rfl)
theorem dX36_creak_12 : decode cX36_creak 12 = .ok (.iconst 5, 1) := dk_8 (dk_at dksX36_creak_0 12 rfl rfl)
theorem dX36_creak_13 : decode cX36_creak 13 = .ok (.goto 4, 3) := dk_167 0 4 (dk_at dksX36_creak_0 13 rfl rfl)
theorem dX36_creak_16 : decode cX36_creak 16 = .ok (.iconst 0, 1) := dk_3 (dk_at dksX36_creak_0 16 rfl rfl)
theorem dX36_creak_17 : decode cX36_creak 17 = .ok (.ireturn, 1) := dk_172 (dk_at dksX36_creak_0 17 rfl rfl)
theorem dX36_noise_0 : decode cX36_noise 0 = .ok (.aload_n 0, 1) := by decide +kernel
theorem dX36_noise_1 : decode cX36_noise 1 = .ok (.invokeinterface 30 1, 5) := by decide +kernel
theorem dX36_noise_6 : decode cX36_noise 6 = .ok (.ireturn, 1) := by decide +kernel
def dkwX37_isSoft_0 : List UInt8 := [42, 185, 0, 1, 1, 0, 180, 0, 7, 16, 50, 163, 0, 7, 4, 167, 0, 4, 3, 172]
abbrev dktX37_isSoft_0 : List UInt8 := dkwX37_isSoft_0 ++ []
theorem dksX37_isSoft_0 : cX37_isSoft.data.toList.drop 0 = dktX37_isSoft_0 := by decide +kernel
theorem dX37_isSoft_0 : decode cX37_isSoft 0 = .ok (.aload_n 0, 1) := dk_42 (dk_at dksX37_isSoft_0 0 rfl rfl)
theorem dX37_isSoft_1 : decode cX37_isSoft 1 = .ok (.invokeinterface 1 1, 5) := by decide +kernel
theorem dX37_isSoft_6 : decode cX37_isSoft 6 = .ok (.getfield 7, 3) := dk_180 0 7 (dk_at dksX37_isSoft_0 6 rfl rfl)
theorem dX37_isSoft_9 : decode cX37_isSoft 9 = .ok (.bipush 50, 2) := dk_16 50 (dk_at dksX37_isSoft_0 9 rfl rfl)
theorem dX37_isSoft_11 : decode cX37_isSoft 11 = .ok (.if_icmp .gt 7, 3) := dk_163 0 7 (dk_at dksX37_isSoft_0 11 rfl rfl)
theorem dX37_isSoft_14 : decode cX37_isSoft 14 = .ok (.iconst 1, 1) := dk_4 (dk_at dksX37_isSoft_0 14 rfl rfl)
theorem dX37_isSoft_15 : decode cX37_isSoft 15 = .ok (.goto 4, 3) := dk_167 0 4 (dk_at dksX37_isSoft_0 15 rfl rfl)
theorem dX37_isSoft_18 : decode cX37_isSoft 18 = .ok (.iconst 0, 1) := dk_3 (dk_at dksX37_isSoft_0 18 rfl rfl)
theorem dX37_isSoft_19 : decode cX37_isSoft 19 = .ok (.ireturn, 1) := dk_172 (dk_at dksX37_isSoft_0 19 rfl rfl)
def dkwX37_hiss_0 : List UInt8 := [42, 185, 0, 1, 1, 0, 180, 0, 7, 5, 108, 172]
abbrev dktX37_hiss_0 : List UInt8 := dkwX37_hiss_0 ++ []
theorem dksX37_hiss_0 : cX37_hiss.data.toList.drop 0 = dktX37_hiss_0 := by decide +kernel
theorem dX37_hiss_0 : decode cX37_hiss 0 = .ok (.aload_n 0, 1) := dk_42 (dk_at dksX37_hiss_0 0 rfl rfl)
theorem dX37_hiss_1 : decode cX37_hiss 1 = .ok (.invokeinterface 1 1, 5) := by decide +kernel
theorem dX37_hiss_6 : decode cX37_hiss 6 = .ok (.getfield 7, 3) := dk_180 0 7 (dk_at dksX37_hiss_0 6 rfl rfl)
theorem dX37_hiss_9 : decode cX37_hiss 9 = .ok (.iconst 2, 1) := dk_5 (dk_at dksX37_hiss_0 9 rfl rfl)
theorem dX37_hiss_10 : decode cX37_hiss 10 = .ok (.idiv, 1) := dk_108 (dk_at dksX37_hiss_0 10 rfl rfl)
theorem dX37_hiss_11 : decode cX37_hiss 11 = .ok (.ireturn, 1) := dk_172 (dk_at dksX37_hiss_0 11 rfl rfl)
theorem dX38_draw_0 : decode cX38_draw 0 = .ok (.aload_n 0, 1) := by decide +kernel
theorem dX38_draw_1 : decode cX38_draw 1 = .ok (.invokeinterface 16 1, 5) := by decide +kernel
theorem dX38_draw_6 : decode cX38_draw 6 = .ok (.ireturn, 1) := by decide +kernel
def dkwX38_burn_0 : List UInt8 := [42, 185, 0, 1, 1, 0, 180, 0, 7, 42, 185, 0, 1, 1, 0, 180, 0, 13, 104, 16, 100, 108, 172]
abbrev dktX38_burn_0 : List UInt8 := dkwX38_burn_0 ++ []
theorem dksX38_burn_0 : cX38_burn.data.toList.drop 0 = dktX38_burn_0 := by decide +kernel
theorem dX38_burn_0 : decode cX38_burn 0 = .ok (.aload_n 0, 1) := dk_42 (dk_at dksX38_burn_0 0 rfl rfl)
theorem dX38_burn_1 : decode cX38_burn 1 = .ok (.invokeinterface 1 1, 5) := by decide +kernel
theorem dX38_burn_6 : decode cX38_burn 6 = .ok (.getfield 7, 3) := dk_180 0 7 (dk_at dksX38_burn_0 6 rfl rfl)
theorem dX38_burn_9 : decode cX38_burn 9 = .ok (.aload_n 0, 1) := dk_42 (dk_at dksX38_burn_0 9 rfl rfl)
theorem dX38_burn_10 : decode cX38_burn 10 = .ok (.invokeinterface 1 1, 5) := by decide +kernel
theorem dX38_burn_15 : decode cX38_burn 15 = .ok (.getfield 13, 3) := dk_180 0 13 (dk_at dksX38_burn_0 15 rfl rfl)
theorem dX38_burn_18 : decode cX38_burn 18 = .ok (.imul, 1) := dk_104 (dk_at dksX38_burn_0 18 rfl rfl)
theorem dX38_burn_19 : decode cX38_burn 19 = .ok (.bipush 100, 2) := dk_16 100 (dk_at dksX38_burn_0 19 rfl rfl)
theorem dX38_burn_21 : decode cX38_burn 21 = .ok (.idiv, 1) := dk_108 (dk_at dksX38_burn_0 21 rfl rfl)
theorem dX38_burn_22 : decode cX38_burn 22 = .ok (.ireturn, 1) := dk_172 (dk_at dksX38_burn_0 22 rfl rfl)
def dkwX39_board_0 : List UInt8 := [42, 185, 0, 1, 1, 0, 27, 182, 0, 7, 172]
abbrev dktX39_board_0 : List UInt8 := dkwX39_board_0 ++ []
theorem dksX39_board_0 : cX39_board.data.toList.drop 0 = dktX39_board_0 := by decide +kernel
theorem dX39_board_0 : decode cX39_board 0 = .ok (.aload_n 0, 1) := dk_42 (dk_at dksX39_board_0 0 rfl rfl)
theorem dX39_board_1 : decode cX39_board 1 = .ok (.invokeinterface 1 1, 5) := by decide +kernel
theorem dX39_board_6 : decode cX39_board 6 = .ok (.iload_n 1, 1) := dk_27 (dk_at dksX39_board_0 6 rfl rfl)
theorem dX39_board_7 : decode cX39_board 7 = .ok (.invokevirtual 7, 3) := dk_182 0 7 (dk_at dksX39_board_0 7 rfl rfl)
theorem dX39_board_10 : decode cX39_board 10 = .ok (.ireturn, 1) := dk_172 (dk_at dksX39_board_0 10 rfl rfl)
theorem dX40_isCalm_0 : decode cX40_isCalm 0 = .ok (.iconst 1, 1) := by decide +kernel
theorem dX40_isCalm_1 : decode cX40_isCalm 1 = .ok (.ireturn, 1) := by decide +kernel
theorem dX40_ease_0 : decode cX40_ease 0 = .ok (.return_, 1) := by decide +kernel
theorem dX40_limit_0 : decode cX40_limit 0 = .ok (.sipush 200, 3) := by decide +kernel
theorem dX40_limit_3 : decode cX40_limit 3 = .ok (.ireturn, 1) := by decide +kernel
theorem dX40_tear_0 : decode cX40_tear 0 = .ok (.iconst 0, 1) := by decide +kernel
theorem dX40_tear_1 : decode cX40_tear 1 = .ok (.ireturn, 1) := by decide +kernel
theorem dX40_noise_0 : decode cX40_noise 0 = .ok (.iconst 0, 1) := by decide +kernel
theorem dX40_noise_1 : decode cX40_noise 1 = .ok (.ireturn, 1) := by decide +kernel
