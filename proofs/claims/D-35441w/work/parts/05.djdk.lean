set_option maxRecDepth 100000
def dkwJ2_init_0 : List UInt8 := [42, 183, 0, 1, 42, 178, 0, 39, 181, 0, 9, 177]
abbrev dktJ2_init_0 : List UInt8 := dkwJ2_init_0 ++ []
theorem dksJ2_init_0 : cJ2_init.data.toList.drop 0 = dktJ2_init_0 := by decide +kernel
theorem dJ2_init_0 : decode cJ2_init 0 = .ok (.aload_n 0, 1) := dk_42 (dk_at dksJ2_init_0 0 rfl rfl)
theorem dJ2_init_1 : decode cJ2_init 1 = .ok (.invokespecial 1, 3) := dk_183 0 1 (dk_at dksJ2_init_0 1 rfl rfl)
theorem dJ2_init_4 : decode cJ2_init 4 = .ok (.aload_n 0, 1) := dk_42 (dk_at dksJ2_init_0 4 rfl rfl)
theorem dJ2_init_5 : decode cJ2_init 5 = .ok (.getstatic 39, 3) := dk_178 0 39 (dk_at dksJ2_init_0 5 rfl rfl)
theorem dJ2_init_8 : decode cJ2_init 8 = .ok (.putfield 9, 3) := dk_181 0 9 (dk_at dksJ2_init_0 8 rfl rfl)
theorem dJ2_init_11 : decode cJ2_init 11 = .ok (.return_, 1) := dk_177 (dk_at dksJ2_init_0 11 rfl rfl)
def dkwJ2_add_1 : List UInt8 := [172]
abbrev dktJ2_add_1 : List UInt8 := dkwJ2_add_1 ++ []
def dkwJ2_add_0 : List UInt8 := [42, 89, 180, 0, 63, 4, 96, 181, 0, 63, 42, 43, 42, 180, 0, 9, 42, 180, 0, 48, 182, 0, 131, 4]
abbrev dktJ2_add_0 : List UInt8 := dkwJ2_add_0 ++ dktJ2_add_1
theorem dksJ2_add_0 : cJ2_add.data.toList.drop 0 = dktJ2_add_0 := by decide +kernel
theorem dksJ2_add_1 : cJ2_add.data.toList.drop 24 = dktJ2_add_1 := dk_seg dksJ2_add_0 24 rfl rfl
theorem dJ2_add_0 : decode cJ2_add 0 = .ok (.aload_n 0, 1) := dk_42 (dk_at dksJ2_add_0 0 rfl rfl)
theorem dJ2_add_1 : decode cJ2_add 1 = .ok (.dup, 1) := dk_89 (dk_at dksJ2_add_0 1 rfl rfl)
theorem dJ2_add_2 : decode cJ2_add 2 = .ok (.getfield 63, 3) := dk_180 0 63 (dk_at dksJ2_add_0 2 rfl rfl)
theorem dJ2_add_5 : decode cJ2_add 5 = .ok (.iconst 1, 1) := dk_4 (dk_at dksJ2_add_0 5 rfl rfl)
theorem dJ2_add_6 : decode cJ2_add 6 = .ok (.iadd, 1) := dk_96 (dk_at dksJ2_add_0 6 rfl rfl)
theorem dJ2_add_7 : decode cJ2_add 7 = .ok (.putfield 63, 3) := dk_181 0 63 (dk_at dksJ2_add_0 7 rfl rfl)
theorem dJ2_add_10 : decode cJ2_add 10 = .ok (.aload_n 0, 1) := dk_42 (dk_at dksJ2_add_0 10 rfl rfl)
theorem dJ2_add_11 : decode cJ2_add 11 = .ok (.aload_n 1, 1) := dk_43 (dk_at dksJ2_add_0 11 rfl rfl)
theorem dJ2_add_12 : decode cJ2_add 12 = .ok (.aload_n 0, 1) := dk_42 (dk_at dksJ2_add_0 12 rfl rfl)
theorem dJ2_add_13 : decode cJ2_add 13 = .ok (.getfield 9, 3) := dk_180 0 9 (dk_at dksJ2_add_0 13 rfl rfl)
theorem dJ2_add_16 : decode cJ2_add 16 = .ok (.aload_n 0, 1) := dk_42 (dk_at dksJ2_add_0 16 rfl rfl)
theorem dJ2_add_17 : decode cJ2_add 17 = .ok (.getfield 48, 3) := dk_180 0 48 (dk_at dksJ2_add_0 17 rfl rfl)
theorem dJ2_add_20 : decode cJ2_add 20 = .ok (.invokevirtual 131, 3) := dk_182 0 131 (dk_at dksJ2_add_0 20 rfl rfl)
theorem dJ2_add_23 : decode cJ2_add 23 = .ok (.iconst 1, 1) := dk_4 (dk_at dksJ2_add_0 23 rfl rfl)
theorem dJ2_add_24 : decode cJ2_add 24 = .ok (.ireturn, 1) := dk_172 (dk_at dksJ2_add_1 0 rfl rfl)
def dkwJ2_add_2_0 : List UInt8 := [29, 44, 190, 160, 0, 8, 42, 182, 0, 129, 77, 44, 29, 43, 83, 42, 29, 4, 96, 181, 0, 48, 177]
abbrev dktJ2_add_2_0 : List UInt8 := dkwJ2_add_2_0 ++ []
theorem dksJ2_add_2_0 : cJ2_add_2.data.toList.drop 0 = dktJ2_add_2_0 := by decide +kernel
theorem dJ2_add_2_0 : decode cJ2_add_2 0 = .ok (.iload_n 3, 1) := dk_29 (dk_at dksJ2_add_2_0 0 rfl rfl)
theorem dJ2_add_2_1 : decode cJ2_add_2 1 = .ok (.aload_n 2, 1) := dk_44 (dk_at dksJ2_add_2_0 1 rfl rfl)
theorem dJ2_add_2_2 : decode cJ2_add_2 2 = .ok (.arraylength, 1) := dk_190 (dk_at dksJ2_add_2_0 2 rfl rfl)
theorem dJ2_add_2_3 : decode cJ2_add_2 3 = .ok (.if_icmp .ne 8, 3) := dk_160 0 8 (dk_at dksJ2_add_2_0 3 rfl rfl)
theorem dJ2_add_2_6 : decode cJ2_add_2 6 = .ok (.aload_n 0, 1) := dk_42 (dk_at dksJ2_add_2_0 6 rfl rfl)
theorem dJ2_add_2_7 : decode cJ2_add_2 7 = .ok (.invokevirtual 129, 3) := dk_182 0 129 (dk_at dksJ2_add_2_0 7 rfl rfl)
theorem dJ2_add_2_10 : decode cJ2_add_2 10 = .ok (.astore_n 2, 1) := dk_77 (dk_at dksJ2_add_2_0 10 rfl rfl)
theorem dJ2_add_2_11 : decode cJ2_add_2 11 = .ok (.aload_n 2, 1) := dk_44 (dk_at dksJ2_add_2_0 11 rfl rfl)
theorem dJ2_add_2_12 : decode cJ2_add_2 12 = .ok (.iload_n 3, 1) := dk_29 (dk_at dksJ2_add_2_0 12 rfl rfl)
theorem dJ2_add_2_13 : decode cJ2_add_2 13 = .ok (.aload_n 1, 1) := dk_43 (dk_at dksJ2_add_2_0 13 rfl rfl)
theorem dJ2_add_2_14 : decode cJ2_add_2 14 = .ok (.aastore, 1) := dk_83 (dk_at dksJ2_add_2_0 14 rfl rfl)
theorem dJ2_add_2_15 : decode cJ2_add_2 15 = .ok (.aload_n 0, 1) := dk_42 (dk_at dksJ2_add_2_0 15 rfl rfl)
theorem dJ2_add_2_16 : decode cJ2_add_2 16 = .ok (.iload_n 3, 1) := dk_29 (dk_at dksJ2_add_2_0 16 rfl rfl)
theorem dJ2_add_2_17 : decode cJ2_add_2 17 = .ok (.iconst 1, 1) := dk_4 (dk_at dksJ2_add_2_0 17 rfl rfl)
theorem dJ2_add_2_18 : decode cJ2_add_2 18 = .ok (.iadd, 1) := dk_96 (dk_at dksJ2_add_2_0 18 rfl rfl)
theorem dJ2_add_2_19 : decode cJ2_add_2 19 = .ok (.putfield 48, 3) := dk_181 0 48 (dk_at dksJ2_add_2_0 19 rfl rfl)
theorem dJ2_add_2_22 : decode cJ2_add_2 22 = .ok (.return_, 1) := dk_177 (dk_at dksJ2_add_2_0 22 rfl rfl)
def dkwJ2_grow_0 : List UInt8 := [42, 42, 180, 0, 48, 4, 96, 182, 0, 69, 176]
abbrev dktJ2_grow_0 : List UInt8 := dkwJ2_grow_0 ++ []
theorem dksJ2_grow_0 : cJ2_grow.data.toList.drop 0 = dktJ2_grow_0 := by decide +kernel
theorem dJ2_grow_0 : decode cJ2_grow 0 = .ok (.aload_n 0, 1) := dk_42 (dk_at dksJ2_grow_0 0 rfl rfl)
theorem dJ2_grow_1 : decode cJ2_grow 1 = .ok (.aload_n 0, 1) := dk_42 (dk_at dksJ2_grow_0 1 rfl rfl)
theorem dJ2_grow_2 : decode cJ2_grow 2 = .ok (.getfield 48, 3) := dk_180 0 48 (dk_at dksJ2_grow_0 2 rfl rfl)
theorem dJ2_grow_5 : decode cJ2_grow 5 = .ok (.iconst 1, 1) := dk_4 (dk_at dksJ2_grow_0 5 rfl rfl)
theorem dJ2_grow_6 : decode cJ2_grow 6 = .ok (.iadd, 1) := dk_96 (dk_at dksJ2_grow_0 6 rfl rfl)
theorem dJ2_grow_7 : decode cJ2_grow 7 = .ok (.invokevirtual 69, 3) := dk_182 0 69 (dk_at dksJ2_grow_0 7 rfl rfl)
theorem dJ2_grow_10 : decode cJ2_grow 10 = .ok (.areturn, 1) := dk_176 (dk_at dksJ2_grow_0 10 rfl rfl)
def dkwJ2_grow_2_2 : List UInt8 := [27, 184, 0, 79, 189, 0, 7, 90, 181, 0, 9, 176]
abbrev dktJ2_grow_2_2 : List UInt8 := dkwJ2_grow_2_2 ++ []
def dkwJ2_grow_2_1 : List UInt8 := [28, 4, 122, 184, 0, 73, 62, 42, 42, 180, 0, 9, 29, 184, 0, 66, 90, 181, 0, 9, 176, 42, 16, 10]
abbrev dktJ2_grow_2_1 : List UInt8 := dkwJ2_grow_2_1 ++ dktJ2_grow_2_2
def dkwJ2_grow_2_0 : List UInt8 := [42, 180, 0, 9, 190, 61, 28, 157, 0, 13, 42, 180, 0, 9, 178, 0, 39, 165, 0, 28, 28, 27, 28, 100]
abbrev dktJ2_grow_2_0 : List UInt8 := dkwJ2_grow_2_0 ++ dktJ2_grow_2_1
theorem dksJ2_grow_2_0 : cJ2_grow_2.data.toList.drop 0 = dktJ2_grow_2_0 := by decide +kernel
theorem dksJ2_grow_2_1 : cJ2_grow_2.data.toList.drop 24 = dktJ2_grow_2_1 := dk_seg dksJ2_grow_2_0 24 rfl rfl
theorem dksJ2_grow_2_2 : cJ2_grow_2.data.toList.drop 48 = dktJ2_grow_2_2 := dk_seg dksJ2_grow_2_1 24 rfl rfl
theorem dJ2_grow_2_0 : decode cJ2_grow_2 0 = .ok (.aload_n 0, 1) := dk_42 (dk_at dksJ2_grow_2_0 0 rfl rfl)
theorem dJ2_grow_2_1 : decode cJ2_grow_2 1 = .ok (.getfield 9, 3) := dk_180 0 9 (dk_at dksJ2_grow_2_0 1 rfl rfl)
theorem dJ2_grow_2_4 : decode cJ2_grow_2 4 = .ok (.arraylength, 1) := dk_190 (dk_at dksJ2_grow_2_0 4 rfl rfl)
theorem dJ2_grow_2_5 : decode cJ2_grow_2 5 = .ok (.istore_n 2, 1) := dk_61 (dk_at dksJ2_grow_2_0 5 rfl rfl)
theorem dJ2_grow_2_6 : decode cJ2_grow_2 6 = .ok (.iload_n 2, 1) := dk_28 (dk_at dksJ2_grow_2_0 6 rfl rfl)
theorem dJ2_grow_2_7 : decode cJ2_grow_2 7 = .ok (.ifCond .gt 13, 3) := dk_157 0 13 (dk_at dksJ2_grow_2_0 7 rfl rfl)
theorem dJ2_grow_2_10 : decode cJ2_grow_2 10 = .ok (.aload_n 0, 1) := dk_42 (dk_at dksJ2_grow_2_0 10 rfl rfl)
theorem dJ2_grow_2_11 : decode cJ2_grow_2 11 = .ok (.getfield 9, 3) := dk_180 0 9 (dk_at dksJ2_grow_2_0 11 rfl rfl)
theorem dJ2_grow_2_14 : decode cJ2_grow_2 14 = .ok (.getstatic 39, 3) := dk_178 0 39 (dk_at dksJ2_grow_2_0 14 rfl rfl)
theorem dJ2_grow_2_17 : decode cJ2_grow_2 17 = .ok (.if_acmp .eq 28, 3) := dk_165 0 28 (dk_at dksJ2_grow_2_0 17 rfl rfl)
theorem dJ2_grow_2_20 : decode cJ2_grow_2 20 = .ok (.iload_n 2, 1) := dk_28 (dk_at dksJ2_grow_2_0 20 rfl rfl)
theorem dJ2_grow_2_21 : decode cJ2_grow_2 21 = .ok (.iload_n 1, 1) := dk_27 (dk_at dksJ2_grow_2_0 21 rfl rfl)
theorem dJ2_grow_2_22 : decode cJ2_grow_2 22 = .ok (.iload_n 2, 1) := dk_28 (dk_at dksJ2_grow_2_0 22 rfl rfl)
theorem dJ2_grow_2_23 : decode cJ2_grow_2 23 = .ok (.isub, 1) := dk_100 (dk_at dksJ2_grow_2_0 23 rfl rfl)
theorem dJ2_grow_2_24 : decode cJ2_grow_2 24 = .ok (.iload_n 2, 1) := dk_28 (dk_at dksJ2_grow_2_1 0 rfl rfl)
theorem dJ2_grow_2_25 : decode cJ2_grow_2 25 = .ok (.iconst 1, 1) := dk_4 (dk_at dksJ2_grow_2_1 1 rfl rfl)
theorem dJ2_grow_2_26 : decode cJ2_grow_2 26 = .ok (.ishr, 1) := dk_122 (dk_at dksJ2_grow_2_1 2 rfl rfl)
theorem dJ2_grow_2_27 : decode cJ2_grow_2 27 = .ok (.invokestatic 73, 3) := dk_184 0 73 (dk_at dksJ2_grow_2_1 3 rfl rfl)
theorem dJ2_grow_2_30 : decode cJ2_grow_2 30 = .ok (.istore_n 3, 1) := dk_62 (dk_at dksJ2_grow_2_1 6 rfl rfl)
theorem dJ2_grow_2_31 : decode cJ2_grow_2 31 = .ok (.aload_n 0, 1) := dk_42 (dk_at dksJ2_grow_2_1 7 rfl rfl)
theorem dJ2_grow_2_32 : decode cJ2_grow_2 32 = .ok (.aload_n 0, 1) := dk_42 (dk_at dksJ2_grow_2_1 8 rfl rfl)
theorem dJ2_grow_2_33 : decode cJ2_grow_2 33 = .ok (.getfield 9, 3) := dk_180 0 9 (dk_at dksJ2_grow_2_1 9 rfl rfl)
theorem dJ2_grow_2_36 : decode cJ2_grow_2 36 = .ok (.iload_n 3, 1) := dk_29 (dk_at dksJ2_grow_2_1 12 rfl rfl)
theorem dJ2_grow_2_37 : decode cJ2_grow_2 37 = .ok (.invokestatic 66, 3) := dk_184 0 66 (dk_at dksJ2_grow_2_1 13 rfl rfl)
theorem dJ2_grow_2_40 : decode cJ2_grow_2 40 = .ok (.dup_x1, 1) := dk_90 (dk_at dksJ2_grow_2_1 16 rfl rfl)
theorem dJ2_grow_2_41 : decode cJ2_grow_2 41 = .ok (.putfield 9, 3) := dk_181 0 9 (dk_at dksJ2_grow_2_1 17 rfl rfl)
theorem dJ2_grow_2_44 : decode cJ2_grow_2 44 = .ok (.areturn, 1) := dk_176 (dk_at dksJ2_grow_2_1 20 rfl rfl)
theorem dJ2_grow_2_45 : decode cJ2_grow_2 45 = .ok (.aload_n 0, 1) := dk_42 (dk_at dksJ2_grow_2_1 21 rfl rfl)
theorem dJ2_grow_2_46 : decode cJ2_grow_2 46 = .ok (.bipush 10, 2) := dk_16 10 (dk_at dksJ2_grow_2_1 22 rfl rfl)
theorem dJ2_grow_2_48 : decode cJ2_grow_2 48 = .ok (.iload_n 1, 1) := dk_27 (dk_at dksJ2_grow_2_2 0 rfl rfl)
theorem dJ2_grow_2_49 : decode cJ2_grow_2 49 = .ok (.invokestatic 79, 3) := dk_184 0 79 (dk_at dksJ2_grow_2_2 1 rfl rfl)
theorem dJ2_grow_2_52 : decode cJ2_grow_2 52 = .ok (.anewarray 7, 3) := dk_189 0 7 (dk_at dksJ2_grow_2_2 4 rfl rfl)
theorem dJ2_grow_2_55 : decode cJ2_grow_2 55 = .ok (.dup_x1, 1) := dk_90 (dk_at dksJ2_grow_2_2 7 rfl rfl)
theorem dJ2_grow_2_56 : decode cJ2_grow_2 56 = .ok (.putfield 9, 3) := dk_181 0 9 (dk_at dksJ2_grow_2_2 8 rfl rfl)
theorem dJ2_grow_2_59 : decode cJ2_grow_2 59 = .ok (.areturn, 1) := dk_176 (dk_at dksJ2_grow_2_2 11 rfl rfl)
theorem dJ2_size_0 : decode cJ2_size 0 = .ok (.aload_n 0, 1) := by decide +kernel
theorem dJ2_size_1 : decode cJ2_size 1 = .ok (.getfield 48, 3) := by decide +kernel
theorem dJ2_size_4 : decode cJ2_size 4 = .ok (.ireturn, 1) := by decide +kernel
def dkwJ2_get_0 : List UInt8 := [27, 42, 180, 0, 48, 184, 0, 118, 87, 42, 27, 182, 0, 123, 176]
abbrev dktJ2_get_0 : List UInt8 := dkwJ2_get_0 ++ []
theorem dksJ2_get_0 : cJ2_get.data.toList.drop 0 = dktJ2_get_0 := by decide +kernel
theorem dJ2_get_0 : decode cJ2_get 0 = .ok (.iload_n 1, 1) := dk_27 (dk_at dksJ2_get_0 0 rfl rfl)
theorem dJ2_get_1 : decode cJ2_get 1 = .ok (.aload_n 0, 1) := dk_42 (dk_at dksJ2_get_0 1 rfl rfl)
theorem dJ2_get_2 : decode cJ2_get 2 = .ok (.getfield 48, 3) := dk_180 0 48 (dk_at dksJ2_get_0 2 rfl rfl)
theorem dJ2_get_5 : decode cJ2_get 5 = .ok (.invokestatic 118, 3) := dk_184 0 118 (dk_at dksJ2_get_0 5 rfl rfl)
theorem dJ2_get_8 : decode cJ2_get 8 = .ok (.pop, 1) := dk_87 (dk_at dksJ2_get_0 8 rfl rfl)
theorem dJ2_get_9 : decode cJ2_get 9 = .ok (.aload_n 0, 1) := dk_42 (dk_at dksJ2_get_0 9 rfl rfl)
theorem dJ2_get_10 : decode cJ2_get 10 = .ok (.iload_n 1, 1) := dk_27 (dk_at dksJ2_get_0 10 rfl rfl)
theorem dJ2_get_11 : decode cJ2_get 11 = .ok (.invokevirtual 123, 3) := dk_182 0 123 (dk_at dksJ2_get_0 11 rfl rfl)
theorem dJ2_get_14 : decode cJ2_get 14 = .ok (.areturn, 1) := dk_176 (dk_at dksJ2_get_0 14 rfl rfl)
def dkwJ2_elementData_0 : List UInt8 := [42, 180, 0, 9, 27, 50, 176]
abbrev dktJ2_elementData_0 : List UInt8 := dkwJ2_elementData_0 ++ []
theorem dksJ2_elementData_0 : cJ2_elementData.data.toList.drop 0 = dktJ2_elementData_0 := by decide +kernel
theorem dJ2_elementData_0 : decode cJ2_elementData 0 = .ok (.aload_n 0, 1) := dk_42 (dk_at dksJ2_elementData_0 0 rfl rfl)
theorem dJ2_elementData_1 : decode cJ2_elementData 1 = .ok (.getfield 9, 3) := dk_180 0 9 (dk_at dksJ2_elementData_0 1 rfl rfl)
theorem dJ2_elementData_4 : decode cJ2_elementData 4 = .ok (.iload_n 1, 1) := dk_27 (dk_at dksJ2_elementData_0 4 rfl rfl)
theorem dJ2_elementData_5 : decode cJ2_elementData 5 = .ok (.aaload, 1) := dk_50 (dk_at dksJ2_elementData_0 5 rfl rfl)
theorem dJ2_elementData_6 : decode cJ2_elementData 6 = .ok (.areturn, 1) := dk_176 (dk_at dksJ2_elementData_0 6 rfl rfl)
def dkwJ2_iterator_0 : List UInt8 := [187, 1, 11, 89, 42, 183, 1, 13, 176]
abbrev dktJ2_iterator_0 : List UInt8 := dkwJ2_iterator_0 ++ []
theorem dksJ2_iterator_0 : cJ2_iterator.data.toList.drop 0 = dktJ2_iterator_0 := by decide +kernel
theorem dJ2_iterator_0 : decode cJ2_iterator 0 = .ok (.new 267, 3) := dk_187 1 11 (dk_at dksJ2_iterator_0 0 rfl rfl)
theorem dJ2_iterator_3 : decode cJ2_iterator 3 = .ok (.dup, 1) := dk_89 (dk_at dksJ2_iterator_0 3 rfl rfl)
theorem dJ2_iterator_4 : decode cJ2_iterator 4 = .ok (.aload_n 0, 1) := dk_42 (dk_at dksJ2_iterator_0 4 rfl rfl)
theorem dJ2_iterator_5 : decode cJ2_iterator 5 = .ok (.invokespecial 269, 3) := dk_183 1 13 (dk_at dksJ2_iterator_0 5 rfl rfl)
theorem dJ2_iterator_8 : decode cJ2_iterator 8 = .ok (.areturn, 1) := dk_176 (dk_at dksJ2_iterator_0 8 rfl rfl)
def dkwJ2_addAll_3 : List UInt8 := [181, 0, 48, 4, 172]
abbrev dktJ2_addAll_3 : List UInt8 := dkwJ2_addAll_3 ++ []
def dkwJ2_addAll_2 : List UInt8 := [21, 5, 29, 96, 182, 0, 69, 58, 4, 44, 3, 25, 4, 21, 5, 29, 184, 0, 112, 42, 21, 5, 29, 96]
abbrev dktJ2_addAll_2 : List UInt8 := dkwJ2_addAll_2 ++ dktJ2_addAll_3
def dkwJ2_addAll_1 : List UInt8 := [3, 172, 29, 42, 180, 0, 9, 89, 58, 4, 190, 42, 180, 0, 48, 89, 54, 5, 100, 164, 0, 13, 42]
abbrev dktJ2_addAll_1 : List UInt8 := dkwJ2_addAll_1 ++ dktJ2_addAll_2
def dkwJ2_addAll_0 : List UInt8 := [43, 185, 0, 42, 1, 0, 77, 42, 89, 180, 0, 63, 4, 96, 181, 0, 63, 44, 190, 62, 29, 154, 0, 5]
abbrev dktJ2_addAll_0 : List UInt8 := dkwJ2_addAll_0 ++ dktJ2_addAll_1
theorem dksJ2_addAll_0 : cJ2_addAll.data.toList.drop 0 = dktJ2_addAll_0 := by decide +kernel
theorem dksJ2_addAll_1 : cJ2_addAll.data.toList.drop 24 = dktJ2_addAll_1 := dk_seg dksJ2_addAll_0 24 rfl rfl
theorem dksJ2_addAll_2 : cJ2_addAll.data.toList.drop 47 = dktJ2_addAll_2 := dk_seg dksJ2_addAll_1 23 rfl rfl
theorem dksJ2_addAll_3 : cJ2_addAll.data.toList.drop 71 = dktJ2_addAll_3 := dk_seg dksJ2_addAll_2 24 rfl rfl
theorem dJ2_addAll_0 : decode cJ2_addAll 0 = .ok (.aload_n 1, 1) := dk_43 (dk_at dksJ2_addAll_0 0 rfl rfl)
theorem dJ2_addAll_1 : decode cJ2_addAll 1 = .ok (.invokeinterface 42 1, 5) := by decide +kernel
theorem dJ2_addAll_6 : decode cJ2_addAll 6 = .ok (.astore_n 2, 1) := dk_77 (dk_at dksJ2_addAll_0 6 rfl rfl)
theorem dJ2_addAll_7 : decode cJ2_addAll 7 = .ok (.aload_n 0, 1) := dk_42 (dk_at dksJ2_addAll_0 7 rfl rfl)
theorem dJ2_addAll_8 : decode cJ2_addAll 8 = .ok (.dup, 1) := dk_89 (dk_at dksJ2_addAll_0 8 rfl rfl)
theorem dJ2_addAll_9 : decode cJ2_addAll 9 = .ok (.getfield 63, 3) := dk_180 0 63 (dk_at dksJ2_addAll_0 9 rfl rfl)
theorem dJ2_addAll_12 : decode cJ2_addAll 12 = .ok (.iconst 1, 1) := dk_4 (dk_at dksJ2_addAll_0 12 rfl rfl)
theorem dJ2_addAll_13 : decode cJ2_addAll 13 = .ok (.iadd, 1) := dk_96 (dk_at dksJ2_addAll_0 13 rfl rfl)
theorem dJ2_addAll_14 : decode cJ2_addAll 14 = .ok (.putfield 63, 3) := dk_181 0 63 (dk_at dksJ2_addAll_0 14 rfl rfl)
theorem dJ2_addAll_17 : decode cJ2_addAll 17 = .ok (.aload_n 2, 1) := dk_44 (dk_at dksJ2_addAll_0 17 rfl rfl)
theorem dJ2_addAll_18 : decode cJ2_addAll 18 = .ok (.arraylength, 1) := dk_190 (dk_at dksJ2_addAll_0 18 rfl rfl)
theorem dJ2_addAll_19 : decode cJ2_addAll 19 = .ok (.istore_n 3, 1) := dk_62 (dk_at dksJ2_addAll_0 19 rfl rfl)
theorem dJ2_addAll_20 : decode cJ2_addAll 20 = .ok (.iload_n 3, 1) := dk_29 (dk_at dksJ2_addAll_0 20 rfl rfl)
theorem dJ2_addAll_21 : decode cJ2_addAll 21 = .ok (.ifCond .ne 5, 3) := dk_154 0 5 (dk_at dksJ2_addAll_0 21 rfl rfl)
theorem dJ2_addAll_24 : decode cJ2_addAll 24 = .ok (.iconst 0, 1) := dk_3 (dk_at dksJ2_addAll_1 0 rfl rfl)
theorem dJ2_addAll_25 : decode cJ2_addAll 25 = .ok (.ireturn, 1) := dk_172 (dk_at dksJ2_addAll_1 1 rfl rfl)
theorem dJ2_addAll_26 : decode cJ2_addAll 26 = .ok (.iload_n 3, 1) := dk_29 (dk_at dksJ2_addAll_1 2 rfl rfl)
theorem dJ2_addAll_27 : decode cJ2_addAll 27 = .ok (.aload_n 0, 1) := dk_42 (dk_at dksJ2_addAll_1 3 rfl rfl)
theorem dJ2_addAll_28 : decode cJ2_addAll 28 = .ok (.getfield 9, 3) := dk_180 0 9 (dk_at dksJ2_addAll_1 4 rfl rfl)
theorem dJ2_addAll_31 : decode cJ2_addAll 31 = .ok (.dup, 1) := dk_89 (dk_at dksJ2_addAll_1 7 rfl rfl)
theorem dJ2_addAll_32 : decode cJ2_addAll 32 = .ok (.astore 4, 2) := dk_58 4 (dk_at dksJ2_addAll_1 8 rfl rfl)
theorem dJ2_addAll_34 : decode cJ2_addAll 34 = .ok (.arraylength, 1) := dk_190 (dk_at dksJ2_addAll_1 10 rfl rfl)
theorem dJ2_addAll_35 : decode cJ2_addAll 35 = .ok (.aload_n 0, 1) := dk_42 (dk_at dksJ2_addAll_1 11 rfl rfl)
theorem dJ2_addAll_36 : decode cJ2_addAll 36 = .ok (.getfield 48, 3) := dk_180 0 48 (dk_at dksJ2_addAll_1 12 rfl rfl)
theorem dJ2_addAll_39 : decode cJ2_addAll 39 = .ok (.dup, 1) := dk_89 (dk_at dksJ2_addAll_1 15 rfl rfl)
theorem dJ2_addAll_40 : decode cJ2_addAll 40 = .ok (.istore 5, 2) := dk_54 5 (dk_at dksJ2_addAll_1 16 rfl rfl)
theorem dJ2_addAll_42 : decode cJ2_addAll 42 = .ok (.isub, 1) := dk_100 (dk_at dksJ2_addAll_1 18 rfl rfl)
theorem dJ2_addAll_43 : decode cJ2_addAll 43 = .ok (.if_icmp .le 13, 3) := dk_164 0 13 (dk_at dksJ2_addAll_1 19 rfl rfl)
theorem dJ2_addAll_46 : decode cJ2_addAll 46 = .ok (.aload_n 0, 1) := dk_42 (dk_at dksJ2_addAll_1 22 rfl rfl)
theorem dJ2_addAll_47 : decode cJ2_addAll 47 = .ok (.iload 5, 2) := dk_21 5 (dk_at dksJ2_addAll_2 0 rfl rfl)
theorem dJ2_addAll_49 : decode cJ2_addAll 49 = .ok (.iload_n 3, 1) := dk_29 (dk_at dksJ2_addAll_2 2 rfl rfl)
theorem dJ2_addAll_50 : decode cJ2_addAll 50 = .ok (.iadd, 1) := dk_96 (dk_at dksJ2_addAll_2 3 rfl rfl)
theorem dJ2_addAll_51 : decode cJ2_addAll 51 = .ok (.invokevirtual 69, 3) := dk_182 0 69 (dk_at dksJ2_addAll_2 4 rfl rfl)
theorem dJ2_addAll_54 : decode cJ2_addAll 54 = .ok (.astore 4, 2) := dk_58 4 (dk_at dksJ2_addAll_2 7 rfl rfl)
theorem dJ2_addAll_56 : decode cJ2_addAll 56 = .ok (.aload_n 2, 1) := dk_44 (dk_at dksJ2_addAll_2 9 rfl rfl)
theorem dJ2_addAll_57 : decode cJ2_addAll 57 = .ok (.iconst 0, 1) := dk_3 (dk_at dksJ2_addAll_2 10 rfl rfl)
theorem dJ2_addAll_58 : decode cJ2_addAll 58 = .ok (.aload 4, 2) := dk_25 4 (dk_at dksJ2_addAll_2 11 rfl rfl)
theorem dJ2_addAll_60 : decode cJ2_addAll 60 = .ok (.iload 5, 2) := dk_21 5 (dk_at dksJ2_addAll_2 13 rfl rfl)
theorem dJ2_addAll_62 : decode cJ2_addAll 62 = .ok (.iload_n 3, 1) := dk_29 (dk_at dksJ2_addAll_2 15 rfl rfl)
theorem dJ2_addAll_63 : decode cJ2_addAll 63 = .ok (.invokestatic 112, 3) := dk_184 0 112 (dk_at dksJ2_addAll_2 16 rfl rfl)
theorem dJ2_addAll_66 : decode cJ2_addAll 66 = .ok (.aload_n 0, 1) := dk_42 (dk_at dksJ2_addAll_2 19 rfl rfl)
theorem dJ2_addAll_67 : decode cJ2_addAll 67 = .ok (.iload 5, 2) := dk_21 5 (dk_at dksJ2_addAll_2 20 rfl rfl)
theorem dJ2_addAll_69 : decode cJ2_addAll 69 = .ok (.iload_n 3, 1) := dk_29 (dk_at dksJ2_addAll_2 22 rfl rfl)
theorem dJ2_addAll_70 : decode cJ2_addAll 70 = .ok (.iadd, 1) := dk_96 (dk_at dksJ2_addAll_2 23 rfl rfl)
theorem dJ2_addAll_71 : decode cJ2_addAll 71 = .ok (.putfield 48, 3) := dk_181 0 48 (dk_at dksJ2_addAll_3 0 rfl rfl)
theorem dJ2_addAll_74 : decode cJ2_addAll 74 = .ok (.iconst 1, 1) := dk_4 (dk_at dksJ2_addAll_3 3 rfl rfl)
theorem dJ2_addAll_75 : decode cJ2_addAll 75 = .ok (.ireturn, 1) := dk_172 (dk_at dksJ2_addAll_3 4 rfl rfl)
def dkwJ2_toArray_0 : List UInt8 := [42, 180, 0, 9, 42, 180, 0, 48, 184, 0, 66, 176]
abbrev dktJ2_toArray_0 : List UInt8 := dkwJ2_toArray_0 ++ []
theorem dksJ2_toArray_0 : cJ2_toArray.data.toList.drop 0 = dktJ2_toArray_0 := by decide +kernel
theorem dJ2_toArray_0 : decode cJ2_toArray 0 = .ok (.aload_n 0, 1) := dk_42 (dk_at dksJ2_toArray_0 0 rfl rfl)
theorem dJ2_toArray_1 : decode cJ2_toArray 1 = .ok (.getfield 9, 3) := dk_180 0 9 (dk_at dksJ2_toArray_0 1 rfl rfl)
theorem dJ2_toArray_4 : decode cJ2_toArray 4 = .ok (.aload_n 0, 1) := dk_42 (dk_at dksJ2_toArray_0 4 rfl rfl)
theorem dJ2_toArray_5 : decode cJ2_toArray 5 = .ok (.getfield 48, 3) := dk_180 0 48 (dk_at dksJ2_toArray_0 5 rfl rfl)
theorem dJ2_toArray_8 : decode cJ2_toArray 8 = .ok (.invokestatic 66, 3) := dk_184 0 66 (dk_at dksJ2_toArray_0 8 rfl rfl)
theorem dJ2_toArray_11 : decode cJ2_toArray 11 = .ok (.areturn, 1) := dk_176 (dk_at dksJ2_toArray_0 11 rfl rfl)
def dkwJ2_set_0 : List UInt8 := [27, 42, 180, 0, 48, 184, 0, 118, 87, 42, 27, 182, 0, 123, 78, 42, 180, 0, 9, 27, 44, 83, 45, 176]
abbrev dktJ2_set_0 : List UInt8 := dkwJ2_set_0 ++ []
theorem dksJ2_set_0 : cJ2_set.data.toList.drop 0 = dktJ2_set_0 := by decide +kernel
theorem dJ2_set_0 : decode cJ2_set 0 = .ok (.iload_n 1, 1) := dk_27 (dk_at dksJ2_set_0 0 rfl rfl)
theorem dJ2_set_1 : decode cJ2_set 1 = .ok (.aload_n 0, 1) := dk_42 (dk_at dksJ2_set_0 1 rfl rfl)
theorem dJ2_set_2 : decode cJ2_set 2 = .ok (.getfield 48, 3) := dk_180 0 48 (dk_at dksJ2_set_0 2 rfl rfl)
theorem dJ2_set_5 : decode cJ2_set 5 = .ok (.invokestatic 118, 3) := dk_184 0 118 (dk_at dksJ2_set_0 5 rfl rfl)
theorem dJ2_set_8 : decode cJ2_set 8 = .ok (.pop, 1) := dk_87 (dk_at dksJ2_set_0 8 rfl rfl)
theorem dJ2_set_9 : decode cJ2_set 9 = .ok (.aload_n 0, 1) := dk_42 (dk_at dksJ2_set_0 9 rfl rfl)
theorem dJ2_set_10 : decode cJ2_set 10 = .ok (.iload_n 1, 1) := dk_27 (dk_at dksJ2_set_0 10 rfl rfl)
theorem dJ2_set_11 : decode cJ2_set 11 = .ok (.invokevirtual 123, 3) := dk_182 0 123 (dk_at dksJ2_set_0 11 rfl rfl)
theorem dJ2_set_14 : decode cJ2_set 14 = .ok (.astore_n 3, 1) := dk_78 (dk_at dksJ2_set_0 14 rfl rfl)
theorem dJ2_set_15 : decode cJ2_set 15 = .ok (.aload_n 0, 1) := dk_42 (dk_at dksJ2_set_0 15 rfl rfl)
theorem dJ2_set_16 : decode cJ2_set 16 = .ok (.getfield 9, 3) := dk_180 0 9 (dk_at dksJ2_set_0 16 rfl rfl)
theorem dJ2_set_19 : decode cJ2_set 19 = .ok (.iload_n 1, 1) := dk_27 (dk_at dksJ2_set_0 19 rfl rfl)
theorem dJ2_set_20 : decode cJ2_set 20 = .ok (.aload_n 2, 1) := dk_44 (dk_at dksJ2_set_0 20 rfl rfl)
theorem dJ2_set_21 : decode cJ2_set 21 = .ok (.aastore, 1) := dk_83 (dk_at dksJ2_set_0 21 rfl rfl)
theorem dJ2_set_22 : decode cJ2_set 22 = .ok (.aload_n 3, 1) := dk_45 (dk_at dksJ2_set_0 22 rfl rfl)
theorem dJ2_set_23 : decode cJ2_set 23 = .ok (.areturn, 1) := dk_176 (dk_at dksJ2_set_0 23 rfl rfl)
def dkwJ2_add_3_2 : List UInt8 := [29, 27, 100, 184, 0, 112, 25, 4, 27, 44, 83, 42, 29, 4, 96, 181, 0, 48, 177]
abbrev dktJ2_add_3_2 : List UInt8 := dkwJ2_add_3_2 ++ []
def dkwJ2_add_3_1 : List UInt8 := [180, 0, 9, 89, 58, 4, 190, 160, 0, 9, 42, 182, 0, 129, 58, 4, 25, 4, 27, 25, 4, 27, 4, 96]
abbrev dktJ2_add_3_1 : List UInt8 := dkwJ2_add_3_1 ++ dktJ2_add_3_2
def dkwJ2_add_3_0 : List UInt8 := [42, 27, 182, 0, 135, 42, 89, 180, 0, 63, 4, 96, 181, 0, 63, 42, 180, 0, 48, 89, 62, 42]
abbrev dktJ2_add_3_0 : List UInt8 := dkwJ2_add_3_0 ++ dktJ2_add_3_1
theorem dksJ2_add_3_0 : cJ2_add_3.data.toList.drop 0 = dktJ2_add_3_0 := by decide +kernel
theorem dksJ2_add_3_1 : cJ2_add_3.data.toList.drop 22 = dktJ2_add_3_1 := dk_seg dksJ2_add_3_0 22 rfl rfl
theorem dksJ2_add_3_2 : cJ2_add_3.data.toList.drop 46 = dktJ2_add_3_2 := dk_seg dksJ2_add_3_1 24 rfl rfl
theorem dJ2_add_3_0 : decode cJ2_add_3 0 = .ok (.aload_n 0, 1) := dk_42 (dk_at dksJ2_add_3_0 0 rfl rfl)
theorem dJ2_add_3_1 : decode cJ2_add_3 1 = .ok (.iload_n 1, 1) := dk_27 (dk_at dksJ2_add_3_0 1 rfl rfl)
theorem dJ2_add_3_2 : decode cJ2_add_3 2 = .ok (.invokevirtual 135, 3) := dk_182 0 135 (dk_at dksJ2_add_3_0 2 rfl rfl)
theorem dJ2_add_3_5 : decode cJ2_add_3 5 = .ok (.aload_n 0, 1) := dk_42 (dk_at dksJ2_add_3_0 5 rfl rfl)
theorem dJ2_add_3_6 : decode cJ2_add_3 6 = .ok (.dup, 1) := dk_89 (dk_at dksJ2_add_3_0 6 rfl rfl)
theorem dJ2_add_3_7 : decode cJ2_add_3 7 = .ok (.getfield 63, 3) := dk_180 0 63 (dk_at dksJ2_add_3_0 7 rfl rfl)
theorem dJ2_add_3_10 : decode cJ2_add_3 10 = .ok (.iconst 1, 1) := dk_4 (dk_at dksJ2_add_3_0 10 rfl rfl)
theorem dJ2_add_3_11 : decode cJ2_add_3 11 = .ok (.iadd, 1) := dk_96 (dk_at dksJ2_add_3_0 11 rfl rfl)
theorem dJ2_add_3_12 : decode cJ2_add_3 12 = .ok (.putfield 63, 3) := dk_181 0 63 (dk_at dksJ2_add_3_0 12 rfl rfl)
theorem dJ2_add_3_15 : decode cJ2_add_3 15 = .ok (.aload_n 0, 1) := dk_42 (dk_at dksJ2_add_3_0 15 rfl rfl)
theorem dJ2_add_3_16 : decode cJ2_add_3 16 = .ok (.getfield 48, 3) := dk_180 0 48 (dk_at dksJ2_add_3_0 16 rfl rfl)
theorem dJ2_add_3_19 : decode cJ2_add_3 19 = .ok (.dup, 1) := dk_89 (dk_at dksJ2_add_3_0 19 rfl rfl)
theorem dJ2_add_3_20 : decode cJ2_add_3 20 = .ok (.istore_n 3, 1) := dk_62 (dk_at dksJ2_add_3_0 20 rfl rfl)
theorem dJ2_add_3_21 : decode cJ2_add_3 21 = .ok (.aload_n 0, 1) := dk_42 (dk_at dksJ2_add_3_0 21 rfl rfl)
theorem dJ2_add_3_22 : decode cJ2_add_3 22 = .ok (.getfield 9, 3) := dk_180 0 9 (dk_at dksJ2_add_3_1 0 rfl rfl)
theorem dJ2_add_3_25 : decode cJ2_add_3 25 = .ok (.dup, 1) := dk_89 (dk_at dksJ2_add_3_1 3 rfl rfl)
theorem dJ2_add_3_26 : decode cJ2_add_3 26 = .ok (.astore 4, 2) := dk_58 4 (dk_at dksJ2_add_3_1 4 rfl rfl)
theorem dJ2_add_3_28 : decode cJ2_add_3 28 = .ok (.arraylength, 1) := dk_190 (dk_at dksJ2_add_3_1 6 rfl rfl)
theorem dJ2_add_3_29 : decode cJ2_add_3 29 = .ok (.if_icmp .ne 9, 3) := dk_160 0 9 (dk_at dksJ2_add_3_1 7 rfl rfl)
theorem dJ2_add_3_32 : decode cJ2_add_3 32 = .ok (.aload_n 0, 1) := dk_42 (dk_at dksJ2_add_3_1 10 rfl rfl)
theorem dJ2_add_3_33 : decode cJ2_add_3 33 = .ok (.invokevirtual 129, 3) := dk_182 0 129 (dk_at dksJ2_add_3_1 11 rfl rfl)
theorem dJ2_add_3_36 : decode cJ2_add_3 36 = .ok (.astore 4, 2) := dk_58 4 (dk_at dksJ2_add_3_1 14 rfl rfl)
theorem dJ2_add_3_38 : decode cJ2_add_3 38 = .ok (.aload 4, 2) := dk_25 4 (dk_at dksJ2_add_3_1 16 rfl rfl)
theorem dJ2_add_3_40 : decode cJ2_add_3 40 = .ok (.iload_n 1, 1) := dk_27 (dk_at dksJ2_add_3_1 18 rfl rfl)
theorem dJ2_add_3_41 : decode cJ2_add_3 41 = .ok (.aload 4, 2) := dk_25 4 (dk_at dksJ2_add_3_1 19 rfl rfl)
theorem dJ2_add_3_43 : decode cJ2_add_3 43 = .ok (.iload_n 1, 1) := dk_27 (dk_at dksJ2_add_3_1 21 rfl rfl)
theorem dJ2_add_3_44 : decode cJ2_add_3 44 = .ok (.iconst 1, 1) := dk_4 (dk_at dksJ2_add_3_1 22 rfl rfl)
theorem dJ2_add_3_45 : decode cJ2_add_3 45 = .ok (.iadd, 1) := dk_96 (dk_at dksJ2_add_3_1 23 rfl rfl)
theorem dJ2_add_3_46 : decode cJ2_add_3 46 = .ok (.iload_n 3, 1) := dk_29 (dk_at dksJ2_add_3_2 0 rfl rfl)
theorem dJ2_add_3_47 : decode cJ2_add_3 47 = .ok (.iload_n 1, 1) := dk_27 (dk_at dksJ2_add_3_2 1 rfl rfl)
theorem dJ2_add_3_48 : decode cJ2_add_3 48 = .ok (.isub, 1) := dk_100 (dk_at dksJ2_add_3_2 2 rfl rfl)
theorem dJ2_add_3_49 : decode cJ2_add_3 49 = .ok (.invokestatic 112, 3) := dk_184 0 112 (dk_at dksJ2_add_3_2 3 rfl rfl)
theorem dJ2_add_3_52 : decode cJ2_add_3 52 = .ok (.aload 4, 2) := dk_25 4 (dk_at dksJ2_add_3_2 6 rfl rfl)
theorem dJ2_add_3_54 : decode cJ2_add_3 54 = .ok (.iload_n 1, 1) := dk_27 (dk_at dksJ2_add_3_2 8 rfl rfl)
theorem dJ2_add_3_55 : decode cJ2_add_3 55 = .ok (.aload_n 2, 1) := dk_44 (dk_at dksJ2_add_3_2 9 rfl rfl)
theorem dJ2_add_3_56 : decode cJ2_add_3 56 = .ok (.aastore, 1) := dk_83 (dk_at dksJ2_add_3_2 10 rfl rfl)
theorem dJ2_add_3_57 : decode cJ2_add_3 57 = .ok (.aload_n 0, 1) := dk_42 (dk_at dksJ2_add_3_2 11 rfl rfl)
theorem dJ2_add_3_58 : decode cJ2_add_3 58 = .ok (.iload_n 3, 1) := dk_29 (dk_at dksJ2_add_3_2 12 rfl rfl)
theorem dJ2_add_3_59 : decode cJ2_add_3 59 = .ok (.iconst 1, 1) := dk_4 (dk_at dksJ2_add_3_2 13 rfl rfl)
theorem dJ2_add_3_60 : decode cJ2_add_3 60 = .ok (.iadd, 1) := dk_96 (dk_at dksJ2_add_3_2 14 rfl rfl)
theorem dJ2_add_3_61 : decode cJ2_add_3 61 = .ok (.putfield 48, 3) := dk_181 0 48 (dk_at dksJ2_add_3_2 15 rfl rfl)
theorem dJ2_add_3_64 : decode cJ2_add_3 64 = .ok (.return_, 1) := dk_177 (dk_at dksJ2_add_3_2 18 rfl rfl)
def dkwJ2_rangeCheckForAdd_1 : List UInt8 := [191, 177]
abbrev dktJ2_rangeCheckForAdd_1 : List UInt8 := dkwJ2_rangeCheckForAdd_1 ++ []
def dkwJ2_rangeCheckForAdd_0 : List UInt8 := [27, 42, 180, 0, 48, 163, 0, 7, 27, 156, 0, 16, 187, 0, 187, 89, 42, 27, 182, 0, 198, 183, 0, 193]
abbrev dktJ2_rangeCheckForAdd_0 : List UInt8 := dkwJ2_rangeCheckForAdd_0 ++ dktJ2_rangeCheckForAdd_1
theorem dksJ2_rangeCheckForAdd_0 : cJ2_rangeCheckForAdd.data.toList.drop 0 = dktJ2_rangeCheckForAdd_0 := by decide +kernel
theorem dksJ2_rangeCheckForAdd_1 : cJ2_rangeCheckForAdd.data.toList.drop 24 = dktJ2_rangeCheckForAdd_1 := dk_seg dksJ2_rangeCheckForAdd_0 24 rfl rfl
theorem dJ2_rangeCheckForAdd_0 : decode cJ2_rangeCheckForAdd 0 = .ok (.iload_n 1, 1) := dk_27 (dk_at dksJ2_rangeCheckForAdd_0 0 rfl rfl)
theorem dJ2_rangeCheckForAdd_1 : decode cJ2_rangeCheckForAdd 1 = .ok (.aload_n 0, 1) := dk_42 (dk_at dksJ2_rangeCheckForAdd_0 1 rfl rfl)
theorem dJ2_rangeCheckForAdd_2 : decode cJ2_rangeCheckForAdd 2 = .ok (.getfield 48, 3) := dk_180 0 48 (dk_at dksJ2_rangeCheckForAdd_0 2 rfl rfl)
theorem dJ2_rangeCheckForAdd_5 : decode cJ2_rangeCheckForAdd 5 = .ok (.if_icmp .gt 7, 3) := dk_163 0 7 (dk_at dksJ2_rangeCheckForAdd_0 5 rfl rfl)
theorem dJ2_rangeCheckForAdd_8 : decode cJ2_rangeCheckForAdd 8 = .ok (.iload_n 1, 1) := dk_27 (dk_at dksJ2_rangeCheckForAdd_0 8 rfl rfl)
theorem dJ2_rangeCheckForAdd_9 : decode cJ2_rangeCheckForAdd 9 = .ok (.ifCond .ge 16, 3) := dk_156 0 16 (dk_at dksJ2_rangeCheckForAdd_0 9 rfl rfl)
theorem dJ2_rangeCheckForAdd_12 : decode cJ2_rangeCheckForAdd 12 = .ok (.new 187, 3) := dk_187 0 187 (dk_at dksJ2_rangeCheckForAdd_0 12 rfl rfl)
theorem dJ2_rangeCheckForAdd_15 : decode cJ2_rangeCheckForAdd 15 = .ok (.dup, 1) := dk_89 (dk_at dksJ2_rangeCheckForAdd_0 15 rfl rfl)
theorem dJ2_rangeCheckForAdd_16 : decode cJ2_rangeCheckForAdd 16 = .ok (.aload_n 0, 1) := dk_42 (dk_at dksJ2_rangeCheckForAdd_0 16 rfl rfl)
theorem dJ2_rangeCheckForAdd_17 : decode cJ2_rangeCheckForAdd 17 = .ok (.iload_n 1, 1) := dk_27 (dk_at dksJ2_rangeCheckForAdd_0 17 rfl rfl)
theorem dJ2_rangeCheckForAdd_18 : decode cJ2_rangeCheckForAdd 18 = .ok (.invokevirtual 198, 3) := dk_182 0 198 (dk_at dksJ2_rangeCheckForAdd_0 18 rfl rfl)
theorem dJ2_rangeCheckForAdd_21 : decode cJ2_rangeCheckForAdd 21 = .ok (.invokespecial 193, 3) := dk_183 0 193 (dk_at dksJ2_rangeCheckForAdd_0 21 rfl rfl)
theorem dJ2_rangeCheckForAdd_24 : decode cJ2_rangeCheckForAdd 24 = .ok (.athrow, 1) := dk_191 (dk_at dksJ2_rangeCheckForAdd_1 0 rfl rfl)
theorem dJ2_rangeCheckForAdd_25 : decode cJ2_rangeCheckForAdd 25 = .ok (.return_, 1) := dk_177 (dk_at dksJ2_rangeCheckForAdd_1 1 rfl rfl)
def dkwJ2_outOfBoundsMsg_1 : List UInt8 := [180, 0, 48, 182, 0, 29, 182, 0, 32, 176]
abbrev dktJ2_outOfBoundsMsg_1 : List UInt8 := dkwJ2_outOfBoundsMsg_1 ++ []
def dkwJ2_outOfBoundsMsg_0 : List UInt8 := [187, 0, 20, 89, 183, 0, 22, 18, 201, 182, 0, 25, 27, 182, 0, 29, 18, 203, 182, 0, 25, 42]
abbrev dktJ2_outOfBoundsMsg_0 : List UInt8 := dkwJ2_outOfBoundsMsg_0 ++ dktJ2_outOfBoundsMsg_1
theorem dksJ2_outOfBoundsMsg_0 : cJ2_outOfBoundsMsg.data.toList.drop 0 = dktJ2_outOfBoundsMsg_0 := by decide +kernel
theorem dksJ2_outOfBoundsMsg_1 : cJ2_outOfBoundsMsg.data.toList.drop 22 = dktJ2_outOfBoundsMsg_1 := dk_seg dksJ2_outOfBoundsMsg_0 22 rfl rfl
theorem dJ2_outOfBoundsMsg_0 : decode cJ2_outOfBoundsMsg 0 = .ok (.new 20, 3) := dk_187 0 20 (dk_at dksJ2_outOfBoundsMsg_0 0 rfl rfl)
theorem dJ2_outOfBoundsMsg_3 : decode cJ2_outOfBoundsMsg 3 = .ok (.dup, 1) := dk_89 (dk_at dksJ2_outOfBoundsMsg_0 3 rfl rfl)
theorem dJ2_outOfBoundsMsg_4 : decode cJ2_outOfBoundsMsg 4 = .ok (.invokespecial 22, 3) := dk_183 0 22 (dk_at dksJ2_outOfBoundsMsg_0 4 rfl rfl)
theorem dJ2_outOfBoundsMsg_7 : decode cJ2_outOfBoundsMsg 7 = .ok (.ldc 201, 2) := dk_18 201 (dk_at dksJ2_outOfBoundsMsg_0 7 rfl rfl)
theorem dJ2_outOfBoundsMsg_9 : decode cJ2_outOfBoundsMsg 9 = .ok (.invokevirtual 25, 3) := dk_182 0 25 (dk_at dksJ2_outOfBoundsMsg_0 9 rfl rfl)
theorem dJ2_outOfBoundsMsg_12 : decode cJ2_outOfBoundsMsg 12 = .ok (.iload_n 1, 1) := dk_27 (dk_at dksJ2_outOfBoundsMsg_0 12 rfl rfl)
theorem dJ2_outOfBoundsMsg_13 : decode cJ2_outOfBoundsMsg 13 = .ok (.invokevirtual 29, 3) := dk_182 0 29 (dk_at dksJ2_outOfBoundsMsg_0 13 rfl rfl)
theorem dJ2_outOfBoundsMsg_16 : decode cJ2_outOfBoundsMsg 16 = .ok (.ldc 203, 2) := dk_18 203 (dk_at dksJ2_outOfBoundsMsg_0 16 rfl rfl)
theorem dJ2_outOfBoundsMsg_18 : decode cJ2_outOfBoundsMsg 18 = .ok (.invokevirtual 25, 3) := dk_182 0 25 (dk_at dksJ2_outOfBoundsMsg_0 18 rfl rfl)
theorem dJ2_outOfBoundsMsg_21 : decode cJ2_outOfBoundsMsg 21 = .ok (.aload_n 0, 1) := dk_42 (dk_at dksJ2_outOfBoundsMsg_0 21 rfl rfl)
theorem dJ2_outOfBoundsMsg_22 : decode cJ2_outOfBoundsMsg 22 = .ok (.getfield 48, 3) := dk_180 0 48 (dk_at dksJ2_outOfBoundsMsg_1 0 rfl rfl)
theorem dJ2_outOfBoundsMsg_25 : decode cJ2_outOfBoundsMsg 25 = .ok (.invokevirtual 29, 3) := dk_182 0 29 (dk_at dksJ2_outOfBoundsMsg_1 3 rfl rfl)
theorem dJ2_outOfBoundsMsg_28 : decode cJ2_outOfBoundsMsg 28 = .ok (.invokevirtual 32, 3) := dk_182 0 32 (dk_at dksJ2_outOfBoundsMsg_1 6 rfl rfl)
theorem dJ2_outOfBoundsMsg_31 : decode cJ2_outOfBoundsMsg 31 = .ok (.areturn, 1) := dk_176 (dk_at dksJ2_outOfBoundsMsg_1 9 rfl rfl)
def dkwJ5_init_0 : List UInt8 := [42, 183, 0, 1, 42, 3, 181, 0, 7, 42, 3, 181, 0, 13, 42, 1, 181, 0, 16, 177]
abbrev dktJ5_init_0 : List UInt8 := dkwJ5_init_0 ++ []
theorem dksJ5_init_0 : cJ5_init.data.toList.drop 0 = dktJ5_init_0 := by decide +kernel
theorem dJ5_init_0 : decode cJ5_init 0 = .ok (.aload_n 0, 1) := dk_42 (dk_at dksJ5_init_0 0 rfl rfl)
theorem dJ5_init_1 : decode cJ5_init 1 = .ok (.invokespecial 1, 3) := dk_183 0 1 (dk_at dksJ5_init_0 1 rfl rfl)
theorem dJ5_init_4 : decode cJ5_init 4 = .ok (.aload_n 0, 1) := dk_42 (dk_at dksJ5_init_0 4 rfl rfl)
theorem dJ5_init_5 : decode cJ5_init 5 = .ok (.iconst 0, 1) := dk_3 (dk_at dksJ5_init_0 5 rfl rfl)
theorem dJ5_init_6 : decode cJ5_init 6 = .ok (.putfield 7, 3) := dk_181 0 7 (dk_at dksJ5_init_0 6 rfl rfl)
theorem dJ5_init_9 : decode cJ5_init 9 = .ok (.aload_n 0, 1) := dk_42 (dk_at dksJ5_init_0 9 rfl rfl)
theorem dJ5_init_10 : decode cJ5_init 10 = .ok (.iconst 0, 1) := dk_3 (dk_at dksJ5_init_0 10 rfl rfl)
theorem dJ5_init_11 : decode cJ5_init 11 = .ok (.putfield 13, 3) := dk_181 0 13 (dk_at dksJ5_init_0 11 rfl rfl)
theorem dJ5_init_14 : decode cJ5_init 14 = .ok (.aload_n 0, 1) := dk_42 (dk_at dksJ5_init_0 14 rfl rfl)
theorem dJ5_init_15 : decode cJ5_init 15 = .ok (.aconst_null, 1) := dk_1 (dk_at dksJ5_init_0 15 rfl rfl)
theorem dJ5_init_16 : decode cJ5_init 16 = .ok (.putfield 16, 3) := dk_181 0 16 (dk_at dksJ5_init_0 16 rfl rfl)
theorem dJ5_init_19 : decode cJ5_init 19 = .ok (.return_, 1) := dk_177 (dk_at dksJ5_init_0 19 rfl rfl)
def dkwJ5_put_0 : List UInt8 := [42, 43, 44, 4, 182, 0, 127, 176]
abbrev dktJ5_put_0 : List UInt8 := dkwJ5_put_0 ++ []
theorem dksJ5_put_0 : cJ5_put.data.toList.drop 0 = dktJ5_put_0 := by decide +kernel
theorem dJ5_put_0 : decode cJ5_put 0 = .ok (.aload_n 0, 1) := dk_42 (dk_at dksJ5_put_0 0 rfl rfl)
theorem dJ5_put_1 : decode cJ5_put 1 = .ok (.aload_n 1, 1) := dk_43 (dk_at dksJ5_put_0 1 rfl rfl)
theorem dJ5_put_2 : decode cJ5_put 2 = .ok (.aload_n 2, 1) := dk_44 (dk_at dksJ5_put_0 2 rfl rfl)
theorem dJ5_put_3 : decode cJ5_put 3 = .ok (.iconst 1, 1) := dk_4 (dk_at dksJ5_put_0 3 rfl rfl)
theorem dJ5_put_4 : decode cJ5_put 4 = .ok (.invokevirtual 127, 3) := dk_182 0 127 (dk_at dksJ5_put_0 4 rfl rfl)
theorem dJ5_put_7 : decode cJ5_put 7 = .ok (.areturn, 1) := dk_176 (dk_at dksJ5_put_0 7 rfl rfl)
def dkwJ5_put_2_9 : List UInt8 := [4, 167, 0, 4, 3, 182, 0, 139, 1, 176]
abbrev dktJ5_put_2_9 : List UInt8 := dkwJ5_put_2_9 ++ []
def dkwJ5_put_2_8 : List UInt8 := [25, 4, 44, 181, 0, 58, 25, 9, 176, 25, 4, 199, 255, 181, 42, 43, 44, 25, 6, 21, 5, 156, 0, 7]
abbrev dktJ5_put_2_8 : List UInt8 := dkwJ5_put_2_8 ++ dktJ5_put_2_9
def dkwJ5_put_2_7 : List UInt8 := [180, 0, 114, 58, 4, 167, 0, 28, 25, 4, 180, 0, 58, 58, 9, 29, 154, 0, 8, 25, 9, 199, 0, 9]
abbrev dktJ5_put_2_7 : List UInt8 := dkwJ5_put_2_7 ++ dktJ5_put_2_8
def dkwJ5_put_2_6 : List UInt8 := [21, 5, 156, 0, 13, 25, 4, 180, 0, 111, 58, 4, 167, 0, 43, 21, 5, 158, 0, 13, 25, 4]
abbrev dktJ5_put_2_6 : List UInt8 := dkwJ5_put_2_6 ++ dktJ5_put_2_7
def dkwJ5_put_2_5 : List UInt8 := [192, 0, 99, 58, 8, 25, 4, 58, 6, 25, 8, 25, 4, 180, 0, 105, 185, 0, 107, 2, 0, 54, 5]
abbrev dktJ5_put_2_5 : List UInt8 := dkwJ5_put_2_5 ++ dktJ5_put_2_6
def dkwJ5_put_2_4 : List UInt8 := [25, 4, 44, 181, 0, 58, 25, 8, 176, 25, 4, 199, 255, 180, 167, 0, 92, 43, 184, 0, 95, 87, 43]
abbrev dktJ5_put_2_4 : List UInt8 := dkwJ5_put_2_4 ++ dktJ5_put_2_5
def dkwJ5_put_2_3 : List UInt8 := [180, 0, 114, 58, 4, 167, 0, 28, 25, 4, 180, 0, 58, 58, 8, 29, 154, 0, 8, 25, 8, 199, 0, 9]
abbrev dktJ5_put_2_3 : List UInt8 := dkwJ5_put_2_3 ++ dktJ5_put_2_4
def dkwJ5_put_2_2 : List UInt8 := [54, 5, 21, 5, 156, 0, 13, 25, 4, 180, 0, 111, 58, 4, 167, 0, 43, 21, 5, 158, 0, 13, 25, 4]
abbrev dktJ5_put_2_2 : List UInt8 := dkwJ5_put_2_2 ++ dktJ5_put_2_3
def dkwJ5_put_2_1 : List UInt8 := [58, 7, 25, 7, 198, 0, 85, 25, 4, 58, 6, 25, 7, 43, 25, 4, 180, 0, 105, 185, 0, 117, 3, 0]
abbrev dktJ5_put_2_1 : List UInt8 := dkwJ5_put_2_1 ++ dktJ5_put_2_2
def dkwJ5_put_2_0 : List UInt8 := [42, 180, 0, 101, 58, 4, 25, 4, 199, 0, 11, 42, 43, 44, 182, 0, 135, 1, 176, 42, 180, 0, 16]
abbrev dktJ5_put_2_0 : List UInt8 := dkwJ5_put_2_0 ++ dktJ5_put_2_1
theorem dksJ5_put_2_0 : cJ5_put_2.data.toList.drop 0 = dktJ5_put_2_0 := by decide +kernel
theorem dksJ5_put_2_1 : cJ5_put_2.data.toList.drop 23 = dktJ5_put_2_1 := dk_seg dksJ5_put_2_0 23 rfl rfl
theorem dksJ5_put_2_2 : cJ5_put_2.data.toList.drop 47 = dktJ5_put_2_2 := dk_seg dksJ5_put_2_1 24 rfl rfl
theorem dksJ5_put_2_3 : cJ5_put_2.data.toList.drop 71 = dktJ5_put_2_3 := dk_seg dksJ5_put_2_2 24 rfl rfl
theorem dksJ5_put_2_4 : cJ5_put_2.data.toList.drop 95 = dktJ5_put_2_4 := dk_seg dksJ5_put_2_3 24 rfl rfl
theorem dksJ5_put_2_5 : cJ5_put_2.data.toList.drop 118 = dktJ5_put_2_5 := dk_seg dksJ5_put_2_4 23 rfl rfl
theorem dksJ5_put_2_6 : cJ5_put_2.data.toList.drop 141 = dktJ5_put_2_6 := dk_seg dksJ5_put_2_5 23 rfl rfl
theorem dksJ5_put_2_7 : cJ5_put_2.data.toList.drop 163 = dktJ5_put_2_7 := dk_seg dksJ5_put_2_6 22 rfl rfl
theorem dksJ5_put_2_8 : cJ5_put_2.data.toList.drop 187 = dktJ5_put_2_8 := dk_seg dksJ5_put_2_7 24 rfl rfl
theorem dksJ5_put_2_9 : cJ5_put_2.data.toList.drop 211 = dktJ5_put_2_9 := dk_seg dksJ5_put_2_8 24 rfl rfl
theorem dJ5_put_2_0 : decode cJ5_put_2 0 = .ok (.aload_n 0, 1) := dk_42 (dk_at dksJ5_put_2_0 0 rfl rfl)
theorem dJ5_put_2_1 : decode cJ5_put_2 1 = .ok (.getfield 101, 3) := dk_180 0 101 (dk_at dksJ5_put_2_0 1 rfl rfl)
theorem dJ5_put_2_4 : decode cJ5_put_2 4 = .ok (.astore 4, 2) := dk_58 4 (dk_at dksJ5_put_2_0 4 rfl rfl)
theorem dJ5_put_2_6 : decode cJ5_put_2 6 = .ok (.aload 4, 2) := dk_25 4 (dk_at dksJ5_put_2_0 6 rfl rfl)
theorem dJ5_put_2_8 : decode cJ5_put_2 8 = .ok (.ifnonnull 11, 3) := dk_199 0 11 (dk_at dksJ5_put_2_0 8 rfl rfl)
theorem dJ5_put_2_11 : decode cJ5_put_2 11 = .ok (.aload_n 0, 1) := dk_42 (dk_at dksJ5_put_2_0 11 rfl rfl)
theorem dJ5_put_2_12 : decode cJ5_put_2 12 = .ok (.aload_n 1, 1) := dk_43 (dk_at dksJ5_put_2_0 12 rfl rfl)
theorem dJ5_put_2_13 : decode cJ5_put_2 13 = .ok (.aload_n 2, 1) := dk_44 (dk_at dksJ5_put_2_0 13 rfl rfl)
theorem dJ5_put_2_14 : decode cJ5_put_2 14 = .ok (.invokevirtual 135, 3) := dk_182 0 135 (dk_at dksJ5_put_2_0 14 rfl rfl)
theorem dJ5_put_2_17 : decode cJ5_put_2 17 = .ok (.aconst_null, 1) := dk_1 (dk_at dksJ5_put_2_0 17 rfl rfl)
theorem dJ5_put_2_18 : decode cJ5_put_2 18 = .ok (.areturn, 1) := dk_176 (dk_at dksJ5_put_2_0 18 rfl rfl)
theorem dJ5_put_2_19 : decode cJ5_put_2 19 = .ok (.aload_n 0, 1) := dk_42 (dk_at dksJ5_put_2_0 19 rfl rfl)
theorem dJ5_put_2_20 : decode cJ5_put_2 20 = .ok (.getfield 16, 3) := dk_180 0 16 (dk_at dksJ5_put_2_0 20 rfl rfl)
theorem dJ5_put_2_23 : decode cJ5_put_2 23 = .ok (.astore 7, 2) := dk_58 7 (dk_at dksJ5_put_2_1 0 rfl rfl)
theorem dJ5_put_2_25 : decode cJ5_put_2 25 = .ok (.aload 7, 2) := dk_25 7 (dk_at dksJ5_put_2_1 2 rfl rfl)
theorem dJ5_put_2_27 : decode cJ5_put_2 27 = .ok (.ifnull 85, 3) := dk_198 0 85 (dk_at dksJ5_put_2_1 4 rfl rfl)
theorem dJ5_put_2_30 : decode cJ5_put_2 30 = .ok (.aload 4, 2) := dk_25 4 (dk_at dksJ5_put_2_1 7 rfl rfl)
theorem dJ5_put_2_32 : decode cJ5_put_2 32 = .ok (.astore 6, 2) := dk_58 6 (dk_at dksJ5_put_2_1 9 rfl rfl)
theorem dJ5_put_2_34 : decode cJ5_put_2 34 = .ok (.aload 7, 2) := dk_25 7 (dk_at dksJ5_put_2_1 11 rfl rfl)
theorem dJ5_put_2_36 : decode cJ5_put_2 36 = .ok (.aload_n 1, 1) := dk_43 (dk_at dksJ5_put_2_1 13 rfl rfl)
theorem dJ5_put_2_37 : decode cJ5_put_2 37 = .ok (.aload 4, 2) := dk_25 4 (dk_at dksJ5_put_2_1 14 rfl rfl)
theorem dJ5_put_2_39 : decode cJ5_put_2 39 = .ok (.getfield 105, 3) := dk_180 0 105 (dk_at dksJ5_put_2_1 16 rfl rfl)
theorem dJ5_put_2_42 : decode cJ5_put_2 42 = .ok (.invokeinterface 117 3, 5) := by decide +kernel
theorem dJ5_put_2_47 : decode cJ5_put_2 47 = .ok (.istore 5, 2) := dk_54 5 (dk_at dksJ5_put_2_2 0 rfl rfl)
theorem dJ5_put_2_49 : decode cJ5_put_2 49 = .ok (.iload 5, 2) := dk_21 5 (dk_at dksJ5_put_2_2 2 rfl rfl)
theorem dJ5_put_2_51 : decode cJ5_put_2 51 = .ok (.ifCond .ge 13, 3) := dk_156 0 13 (dk_at dksJ5_put_2_2 4 rfl rfl)
theorem dJ5_put_2_54 : decode cJ5_put_2 54 = .ok (.aload 4, 2) := dk_25 4 (dk_at dksJ5_put_2_2 7 rfl rfl)
theorem dJ5_put_2_56 : decode cJ5_put_2 56 = .ok (.getfield 111, 3) := dk_180 0 111 (dk_at dksJ5_put_2_2 9 rfl rfl)
theorem dJ5_put_2_59 : decode cJ5_put_2 59 = .ok (.astore 4, 2) := dk_58 4 (dk_at dksJ5_put_2_2 12 rfl rfl)
theorem dJ5_put_2_61 : decode cJ5_put_2 61 = .ok (.goto 43, 3) := dk_167 0 43 (dk_at dksJ5_put_2_2 14 rfl rfl)
theorem dJ5_put_2_64 : decode cJ5_put_2 64 = .ok (.iload 5, 2) := dk_21 5 (dk_at dksJ5_put_2_2 17 rfl rfl)
theorem dJ5_put_2_66 : decode cJ5_put_2 66 = .ok (.ifCond .le 13, 3) := dk_158 0 13 (dk_at dksJ5_put_2_2 19 rfl rfl)
theorem dJ5_put_2_69 : decode cJ5_put_2 69 = .ok (.aload 4, 2) := dk_25 4 (dk_at dksJ5_put_2_2 22 rfl rfl)
theorem dJ5_put_2_71 : decode cJ5_put_2 71 = .ok (.getfield 114, 3) := dk_180 0 114 (dk_at dksJ5_put_2_3 0 rfl rfl)
theorem dJ5_put_2_74 : decode cJ5_put_2 74 = .ok (.astore 4, 2) := dk_58 4 (dk_at dksJ5_put_2_3 3 rfl rfl)
theorem dJ5_put_2_76 : decode cJ5_put_2 76 = .ok (.goto 28, 3) := dk_167 0 28 (dk_at dksJ5_put_2_3 5 rfl rfl)
theorem dJ5_put_2_79 : decode cJ5_put_2 79 = .ok (.aload 4, 2) := dk_25 4 (dk_at dksJ5_put_2_3 8 rfl rfl)
theorem dJ5_put_2_81 : decode cJ5_put_2 81 = .ok (.getfield 58, 3) := dk_180 0 58 (dk_at dksJ5_put_2_3 10 rfl rfl)
theorem dJ5_put_2_84 : decode cJ5_put_2 84 = .ok (.astore 8, 2) := dk_58 8 (dk_at dksJ5_put_2_3 13 rfl rfl)
theorem dJ5_put_2_86 : decode cJ5_put_2 86 = .ok (.iload_n 3, 1) := dk_29 (dk_at dksJ5_put_2_3 15 rfl rfl)
theorem dJ5_put_2_87 : decode cJ5_put_2 87 = .ok (.ifCond .ne 8, 3) := dk_154 0 8 (dk_at dksJ5_put_2_3 16 rfl rfl)
theorem dJ5_put_2_90 : decode cJ5_put_2 90 = .ok (.aload 8, 2) := dk_25 8 (dk_at dksJ5_put_2_3 19 rfl rfl)
theorem dJ5_put_2_92 : decode cJ5_put_2 92 = .ok (.ifnonnull 9, 3) := dk_199 0 9 (dk_at dksJ5_put_2_3 21 rfl rfl)
theorem dJ5_put_2_95 : decode cJ5_put_2 95 = .ok (.aload 4, 2) := dk_25 4 (dk_at dksJ5_put_2_4 0 rfl rfl)
theorem dJ5_put_2_97 : decode cJ5_put_2 97 = .ok (.aload_n 2, 1) := dk_44 (dk_at dksJ5_put_2_4 2 rfl rfl)
theorem dJ5_put_2_98 : decode cJ5_put_2 98 = .ok (.putfield 58, 3) := dk_181 0 58 (dk_at dksJ5_put_2_4 3 rfl rfl)
theorem dJ5_put_2_101 : decode cJ5_put_2 101 = .ok (.aload 8, 2) := dk_25 8 (dk_at dksJ5_put_2_4 6 rfl rfl)
theorem dJ5_put_2_103 : decode cJ5_put_2 103 = .ok (.areturn, 1) := dk_176 (dk_at dksJ5_put_2_4 8 rfl rfl)
theorem dJ5_put_2_104 : decode cJ5_put_2 104 = .ok (.aload 4, 2) := dk_25 4 (dk_at dksJ5_put_2_4 9 rfl rfl)
theorem dJ5_put_2_106 : decode cJ5_put_2 106 = .ok (.ifnonnull (-76), 3) := dk_199 255 180 (dk_at dksJ5_put_2_4 11 rfl rfl)
theorem dJ5_put_2_109 : decode cJ5_put_2 109 = .ok (.goto 92, 3) := dk_167 0 92 (dk_at dksJ5_put_2_4 14 rfl rfl)
theorem dJ5_put_2_112 : decode cJ5_put_2 112 = .ok (.aload_n 1, 1) := dk_43 (dk_at dksJ5_put_2_4 17 rfl rfl)
theorem dJ5_put_2_113 : decode cJ5_put_2 113 = .ok (.invokestatic 95, 3) := dk_184 0 95 (dk_at dksJ5_put_2_4 18 rfl rfl)
theorem dJ5_put_2_116 : decode cJ5_put_2 116 = .ok (.pop, 1) := dk_87 (dk_at dksJ5_put_2_4 21 rfl rfl)
theorem dJ5_put_2_117 : decode cJ5_put_2 117 = .ok (.aload_n 1, 1) := dk_43 (dk_at dksJ5_put_2_4 22 rfl rfl)
theorem dJ5_put_2_118 : decode cJ5_put_2 118 = .ok (.checkcast 99, 3) := dk_192 0 99 (dk_at dksJ5_put_2_5 0 rfl rfl)
theorem dJ5_put_2_121 : decode cJ5_put_2 121 = .ok (.astore 8, 2) := dk_58 8 (dk_at dksJ5_put_2_5 3 rfl rfl)
theorem dJ5_put_2_123 : decode cJ5_put_2 123 = .ok (.aload 4, 2) := dk_25 4 (dk_at dksJ5_put_2_5 5 rfl rfl)
theorem dJ5_put_2_125 : decode cJ5_put_2 125 = .ok (.astore 6, 2) := dk_58 6 (dk_at dksJ5_put_2_5 7 rfl rfl)
theorem dJ5_put_2_127 : decode cJ5_put_2 127 = .ok (.aload 8, 2) := dk_25 8 (dk_at dksJ5_put_2_5 9 rfl rfl)
theorem dJ5_put_2_129 : decode cJ5_put_2 129 = .ok (.aload 4, 2) := dk_25 4 (dk_at dksJ5_put_2_5 11 rfl rfl)
theorem dJ5_put_2_131 : decode cJ5_put_2 131 = .ok (.getfield 105, 3) := dk_180 0 105 (dk_at dksJ5_put_2_5 13 rfl rfl)
theorem dJ5_put_2_134 : decode cJ5_put_2 134 = .ok (.invokeinterface 107 2, 5) := by decide +kernel
theorem dJ5_put_2_139 : decode cJ5_put_2 139 = .ok (.istore 5, 2) := dk_54 5 (dk_at dksJ5_put_2_5 21 rfl rfl)
theorem dJ5_put_2_141 : decode cJ5_put_2 141 = .ok (.iload 5, 2) := dk_21 5 (dk_at dksJ5_put_2_6 0 rfl rfl)
theorem dJ5_put_2_143 : decode cJ5_put_2 143 = .ok (.ifCond .ge 13, 3) := dk_156 0 13 (dk_at dksJ5_put_2_6 2 rfl rfl)
theorem dJ5_put_2_146 : decode cJ5_put_2 146 = .ok (.aload 4, 2) := dk_25 4 (dk_at dksJ5_put_2_6 5 rfl rfl)
theorem dJ5_put_2_148 : decode cJ5_put_2 148 = .ok (.getfield 111, 3) := dk_180 0 111 (dk_at dksJ5_put_2_6 7 rfl rfl)
theorem dJ5_put_2_151 : decode cJ5_put_2 151 = .ok (.astore 4, 2) := dk_58 4 (dk_at dksJ5_put_2_6 10 rfl rfl)
theorem dJ5_put_2_153 : decode cJ5_put_2 153 = .ok (.goto 43, 3) := dk_167 0 43 (dk_at dksJ5_put_2_6 12 rfl rfl)
theorem dJ5_put_2_156 : decode cJ5_put_2 156 = .ok (.iload 5, 2) := dk_21 5 (dk_at dksJ5_put_2_6 15 rfl rfl)
theorem dJ5_put_2_158 : decode cJ5_put_2 158 = .ok (.ifCond .le 13, 3) := dk_158 0 13 (dk_at dksJ5_put_2_6 17 rfl rfl)
theorem dJ5_put_2_161 : decode cJ5_put_2 161 = .ok (.aload 4, 2) := dk_25 4 (dk_at dksJ5_put_2_6 20 rfl rfl)
theorem dJ5_put_2_163 : decode cJ5_put_2 163 = .ok (.getfield 114, 3) := dk_180 0 114 (dk_at dksJ5_put_2_7 0 rfl rfl)
theorem dJ5_put_2_166 : decode cJ5_put_2 166 = .ok (.astore 4, 2) := dk_58 4 (dk_at dksJ5_put_2_7 3 rfl rfl)
theorem dJ5_put_2_168 : decode cJ5_put_2 168 = .ok (.goto 28, 3) := dk_167 0 28 (dk_at dksJ5_put_2_7 5 rfl rfl)
theorem dJ5_put_2_171 : decode cJ5_put_2 171 = .ok (.aload 4, 2) := dk_25 4 (dk_at dksJ5_put_2_7 8 rfl rfl)
theorem dJ5_put_2_173 : decode cJ5_put_2 173 = .ok (.getfield 58, 3) := dk_180 0 58 (dk_at dksJ5_put_2_7 10 rfl rfl)
theorem dJ5_put_2_176 : decode cJ5_put_2 176 = .ok (.astore 9, 2) := dk_58 9 (dk_at dksJ5_put_2_7 13 rfl rfl)
theorem dJ5_put_2_178 : decode cJ5_put_2 178 = .ok (.iload_n 3, 1) := dk_29 (dk_at dksJ5_put_2_7 15 rfl rfl)
theorem dJ5_put_2_179 : decode cJ5_put_2 179 = .ok (.ifCond .ne 8, 3) := dk_154 0 8 (dk_at dksJ5_put_2_7 16 rfl rfl)
theorem dJ5_put_2_182 : decode cJ5_put_2 182 = .ok (.aload 9, 2) := dk_25 9 (dk_at dksJ5_put_2_7 19 rfl rfl)
theorem dJ5_put_2_184 : decode cJ5_put_2 184 = .ok (.ifnonnull 9, 3) := dk_199 0 9 (dk_at dksJ5_put_2_7 21 rfl rfl)
theorem dJ5_put_2_187 : decode cJ5_put_2 187 = .ok (.aload 4, 2) := dk_25 4 (dk_at dksJ5_put_2_8 0 rfl rfl)
theorem dJ5_put_2_189 : decode cJ5_put_2 189 = .ok (.aload_n 2, 1) := dk_44 (dk_at dksJ5_put_2_8 2 rfl rfl)
theorem dJ5_put_2_190 : decode cJ5_put_2 190 = .ok (.putfield 58, 3) := dk_181 0 58 (dk_at dksJ5_put_2_8 3 rfl rfl)
theorem dJ5_put_2_193 : decode cJ5_put_2 193 = .ok (.aload 9, 2) := dk_25 9 (dk_at dksJ5_put_2_8 6 rfl rfl)
theorem dJ5_put_2_195 : decode cJ5_put_2 195 = .ok (.areturn, 1) := dk_176 (dk_at dksJ5_put_2_8 8 rfl rfl)
theorem dJ5_put_2_196 : decode cJ5_put_2 196 = .ok (.aload 4, 2) := dk_25 4 (dk_at dksJ5_put_2_8 9 rfl rfl)
theorem dJ5_put_2_198 : decode cJ5_put_2 198 = .ok (.ifnonnull (-75), 3) := dk_199 255 181 (dk_at dksJ5_put_2_8 11 rfl rfl)
theorem dJ5_put_2_201 : decode cJ5_put_2 201 = .ok (.aload_n 0, 1) := dk_42 (dk_at dksJ5_put_2_8 14 rfl rfl)
theorem dJ5_put_2_202 : decode cJ5_put_2 202 = .ok (.aload_n 1, 1) := dk_43 (dk_at dksJ5_put_2_8 15 rfl rfl)
theorem dJ5_put_2_203 : decode cJ5_put_2 203 = .ok (.aload_n 2, 1) := dk_44 (dk_at dksJ5_put_2_8 16 rfl rfl)
theorem dJ5_put_2_204 : decode cJ5_put_2 204 = .ok (.aload 6, 2) := dk_25 6 (dk_at dksJ5_put_2_8 17 rfl rfl)
theorem dJ5_put_2_206 : decode cJ5_put_2 206 = .ok (.iload 5, 2) := dk_21 5 (dk_at dksJ5_put_2_8 19 rfl rfl)
theorem dJ5_put_2_208 : decode cJ5_put_2 208 = .ok (.ifCond .ge 7, 3) := dk_156 0 7 (dk_at dksJ5_put_2_8 21 rfl rfl)
theorem dJ5_put_2_211 : decode cJ5_put_2 211 = .ok (.iconst 1, 1) := dk_4 (dk_at dksJ5_put_2_9 0 rfl rfl)
theorem dJ5_put_2_212 : decode cJ5_put_2 212 = .ok (.goto 4, 3) := dk_167 0 4 (dk_at dksJ5_put_2_9 1 rfl rfl)
theorem dJ5_put_2_215 : decode cJ5_put_2 215 = .ok (.iconst 0, 1) := dk_3 (dk_at dksJ5_put_2_9 4 rfl rfl)
theorem dJ5_put_2_216 : decode cJ5_put_2 216 = .ok (.invokevirtual 139, 3) := dk_182 0 139 (dk_at dksJ5_put_2_9 5 rfl rfl)
theorem dJ5_put_2_219 : decode cJ5_put_2 219 = .ok (.aconst_null, 1) := dk_1 (dk_at dksJ5_put_2_9 8 rfl rfl)
theorem dJ5_put_2_220 : decode cJ5_put_2 220 = .ok (.areturn, 1) := dk_176 (dk_at dksJ5_put_2_9 9 rfl rfl)
def dkwJ5_addEntryToEmptyMap_1 : List UInt8 := [181, 0, 7, 42, 89, 180, 0, 13, 4, 96, 181, 0, 13, 177]
abbrev dktJ5_addEntryToEmptyMap_1 : List UInt8 := dkwJ5_addEntryToEmptyMap_1 ++ []
def dkwJ5_addEntryToEmptyMap_0 : List UInt8 := [42, 43, 43, 182, 0, 123, 87, 42, 187, 0, 59, 89, 43, 44, 1, 183, 0, 167, 181, 0, 101, 42, 4]
abbrev dktJ5_addEntryToEmptyMap_0 : List UInt8 := dkwJ5_addEntryToEmptyMap_0 ++ dktJ5_addEntryToEmptyMap_1
theorem dksJ5_addEntryToEmptyMap_0 : cJ5_addEntryToEmptyMap.data.toList.drop 0 = dktJ5_addEntryToEmptyMap_0 := by decide +kernel
theorem dksJ5_addEntryToEmptyMap_1 : cJ5_addEntryToEmptyMap.data.toList.drop 23 = dktJ5_addEntryToEmptyMap_1 := dk_seg dksJ5_addEntryToEmptyMap_0 23 rfl rfl
theorem dJ5_addEntryToEmptyMap_0 : decode cJ5_addEntryToEmptyMap 0 = .ok (.aload_n 0, 1) := dk_42 (dk_at dksJ5_addEntryToEmptyMap_0 0 rfl rfl)
theorem dJ5_addEntryToEmptyMap_1 : decode cJ5_addEntryToEmptyMap 1 = .ok (.aload_n 1, 1) := dk_43 (dk_at dksJ5_addEntryToEmptyMap_0 1 rfl rfl)
theorem dJ5_addEntryToEmptyMap_2 : decode cJ5_addEntryToEmptyMap 2 = .ok (.aload_n 1, 1) := dk_43 (dk_at dksJ5_addEntryToEmptyMap_0 2 rfl rfl)
theorem dJ5_addEntryToEmptyMap_3 : decode cJ5_addEntryToEmptyMap 3 = .ok (.invokevirtual 123, 3) := dk_182 0 123 (dk_at dksJ5_addEntryToEmptyMap_0 3 rfl rfl)
theorem dJ5_addEntryToEmptyMap_6 : decode cJ5_addEntryToEmptyMap 6 = .ok (.pop, 1) := dk_87 (dk_at dksJ5_addEntryToEmptyMap_0 6 rfl rfl)
theorem dJ5_addEntryToEmptyMap_7 : decode cJ5_addEntryToEmptyMap 7 = .ok (.aload_n 0, 1) := dk_42 (dk_at dksJ5_addEntryToEmptyMap_0 7 rfl rfl)
theorem dJ5_addEntryToEmptyMap_8 : decode cJ5_addEntryToEmptyMap 8 = .ok (.new 59, 3) := dk_187 0 59 (dk_at dksJ5_addEntryToEmptyMap_0 8 rfl rfl)
theorem dJ5_addEntryToEmptyMap_11 : decode cJ5_addEntryToEmptyMap 11 = .ok (.dup, 1) := dk_89 (dk_at dksJ5_addEntryToEmptyMap_0 11 rfl rfl)
theorem dJ5_addEntryToEmptyMap_12 : decode cJ5_addEntryToEmptyMap 12 = .ok (.aload_n 1, 1) := dk_43 (dk_at dksJ5_addEntryToEmptyMap_0 12 rfl rfl)
theorem dJ5_addEntryToEmptyMap_13 : decode cJ5_addEntryToEmptyMap 13 = .ok (.aload_n 2, 1) := dk_44 (dk_at dksJ5_addEntryToEmptyMap_0 13 rfl rfl)
theorem dJ5_addEntryToEmptyMap_14 : decode cJ5_addEntryToEmptyMap 14 = .ok (.aconst_null, 1) := dk_1 (dk_at dksJ5_addEntryToEmptyMap_0 14 rfl rfl)
theorem dJ5_addEntryToEmptyMap_15 : decode cJ5_addEntryToEmptyMap 15 = .ok (.invokespecial 167, 3) := dk_183 0 167 (dk_at dksJ5_addEntryToEmptyMap_0 15 rfl rfl)
theorem dJ5_addEntryToEmptyMap_18 : decode cJ5_addEntryToEmptyMap 18 = .ok (.putfield 101, 3) := dk_181 0 101 (dk_at dksJ5_addEntryToEmptyMap_0 18 rfl rfl)
theorem dJ5_addEntryToEmptyMap_21 : decode cJ5_addEntryToEmptyMap 21 = .ok (.aload_n 0, 1) := dk_42 (dk_at dksJ5_addEntryToEmptyMap_0 21 rfl rfl)
theorem dJ5_addEntryToEmptyMap_22 : decode cJ5_addEntryToEmptyMap 22 = .ok (.iconst 1, 1) := dk_4 (dk_at dksJ5_addEntryToEmptyMap_0 22 rfl rfl)
theorem dJ5_addEntryToEmptyMap_23 : decode cJ5_addEntryToEmptyMap 23 = .ok (.putfield 7, 3) := dk_181 0 7 (dk_at dksJ5_addEntryToEmptyMap_1 0 rfl rfl)
theorem dJ5_addEntryToEmptyMap_26 : decode cJ5_addEntryToEmptyMap 26 = .ok (.aload_n 0, 1) := dk_42 (dk_at dksJ5_addEntryToEmptyMap_1 3 rfl rfl)
theorem dJ5_addEntryToEmptyMap_27 : decode cJ5_addEntryToEmptyMap 27 = .ok (.dup, 1) := dk_89 (dk_at dksJ5_addEntryToEmptyMap_1 4 rfl rfl)
theorem dJ5_addEntryToEmptyMap_28 : decode cJ5_addEntryToEmptyMap 28 = .ok (.getfield 13, 3) := dk_180 0 13 (dk_at dksJ5_addEntryToEmptyMap_1 5 rfl rfl)
theorem dJ5_addEntryToEmptyMap_31 : decode cJ5_addEntryToEmptyMap 31 = .ok (.iconst 1, 1) := dk_4 (dk_at dksJ5_addEntryToEmptyMap_1 8 rfl rfl)
theorem dJ5_addEntryToEmptyMap_32 : decode cJ5_addEntryToEmptyMap 32 = .ok (.iadd, 1) := dk_96 (dk_at dksJ5_addEntryToEmptyMap_1 9 rfl rfl)
theorem dJ5_addEntryToEmptyMap_33 : decode cJ5_addEntryToEmptyMap 33 = .ok (.putfield 13, 3) := dk_181 0 13 (dk_at dksJ5_addEntryToEmptyMap_1 10 rfl rfl)
theorem dJ5_addEntryToEmptyMap_36 : decode cJ5_addEntryToEmptyMap 36 = .ok (.return_, 1) := dk_177 (dk_at dksJ5_addEntryToEmptyMap_1 13 rfl rfl)
def dkwJ5_compare_1 : List UInt8 := [43, 44, 185, 0, 117, 3, 0, 172]
abbrev dktJ5_compare_1 : List UInt8 := dkwJ5_compare_1 ++ []
def dkwJ5_compare_0 : List UInt8 := [42, 180, 0, 16, 199, 0, 16, 43, 192, 0, 99, 44, 185, 0, 107, 2, 0, 167, 0, 14, 42, 180, 0, 16]
abbrev dktJ5_compare_0 : List UInt8 := dkwJ5_compare_0 ++ dktJ5_compare_1
theorem dksJ5_compare_0 : cJ5_compare.data.toList.drop 0 = dktJ5_compare_0 := by decide +kernel
theorem dksJ5_compare_1 : cJ5_compare.data.toList.drop 24 = dktJ5_compare_1 := dk_seg dksJ5_compare_0 24 rfl rfl
theorem dJ5_compare_0 : decode cJ5_compare 0 = .ok (.aload_n 0, 1) := dk_42 (dk_at dksJ5_compare_0 0 rfl rfl)
theorem dJ5_compare_1 : decode cJ5_compare 1 = .ok (.getfield 16, 3) := dk_180 0 16 (dk_at dksJ5_compare_0 1 rfl rfl)
theorem dJ5_compare_4 : decode cJ5_compare 4 = .ok (.ifnonnull 16, 3) := dk_199 0 16 (dk_at dksJ5_compare_0 4 rfl rfl)
theorem dJ5_compare_7 : decode cJ5_compare 7 = .ok (.aload_n 1, 1) := dk_43 (dk_at dksJ5_compare_0 7 rfl rfl)
theorem dJ5_compare_8 : decode cJ5_compare 8 = .ok (.checkcast 99, 3) := dk_192 0 99 (dk_at dksJ5_compare_0 8 rfl rfl)
theorem dJ5_compare_11 : decode cJ5_compare 11 = .ok (.aload_n 2, 1) := dk_44 (dk_at dksJ5_compare_0 11 rfl rfl)
theorem dJ5_compare_12 : decode cJ5_compare 12 = .ok (.invokeinterface 107 2, 5) := by decide +kernel
theorem dJ5_compare_17 : decode cJ5_compare 17 = .ok (.goto 14, 3) := dk_167 0 14 (dk_at dksJ5_compare_0 17 rfl rfl)
theorem dJ5_compare_20 : decode cJ5_compare 20 = .ok (.aload_n 0, 1) := dk_42 (dk_at dksJ5_compare_0 20 rfl rfl)
theorem dJ5_compare_21 : decode cJ5_compare 21 = .ok (.getfield 16, 3) := dk_180 0 16 (dk_at dksJ5_compare_0 21 rfl rfl)
theorem dJ5_compare_24 : decode cJ5_compare 24 = .ok (.aload_n 1, 1) := dk_43 (dk_at dksJ5_compare_1 0 rfl rfl)
theorem dJ5_compare_25 : decode cJ5_compare 25 = .ok (.aload_n 2, 1) := dk_44 (dk_at dksJ5_compare_1 1 rfl rfl)
theorem dJ5_compare_26 : decode cJ5_compare 26 = .ok (.invokeinterface 117 3, 5) := by decide +kernel
theorem dJ5_compare_31 : decode cJ5_compare 31 = .ok (.ireturn, 1) := dk_172 (dk_at dksJ5_compare_1 7 rfl rfl)
def dkwJ5_addEntry_2 : List UInt8 := [181, 0, 7, 42, 89, 180, 0, 13, 4, 96, 181, 0, 13, 177]
abbrev dktJ5_addEntry_2 : List UInt8 := dkwJ5_addEntry_2 ++ []
def dkwJ5_addEntry_1 : List UInt8 := [167, 0, 9, 45, 25, 5, 181, 0, 114, 42, 25, 5, 182, 0, 170, 42, 89, 180, 0, 7, 4, 96]
abbrev dktJ5_addEntry_1 : List UInt8 := dkwJ5_addEntry_1 ++ dktJ5_addEntry_2
def dkwJ5_addEntry_0 : List UInt8 := [187, 0, 59, 89, 43, 44, 45, 183, 0, 167, 58, 5, 21, 4, 153, 0, 12, 45, 25, 5, 181, 0, 111]
abbrev dktJ5_addEntry_0 : List UInt8 := dkwJ5_addEntry_0 ++ dktJ5_addEntry_1
theorem dksJ5_addEntry_0 : cJ5_addEntry.data.toList.drop 0 = dktJ5_addEntry_0 := by decide +kernel
theorem dksJ5_addEntry_1 : cJ5_addEntry.data.toList.drop 23 = dktJ5_addEntry_1 := dk_seg dksJ5_addEntry_0 23 rfl rfl
theorem dksJ5_addEntry_2 : cJ5_addEntry.data.toList.drop 45 = dktJ5_addEntry_2 := dk_seg dksJ5_addEntry_1 22 rfl rfl
theorem dJ5_addEntry_0 : decode cJ5_addEntry 0 = .ok (.new 59, 3) := dk_187 0 59 (dk_at dksJ5_addEntry_0 0 rfl rfl)
theorem dJ5_addEntry_3 : decode cJ5_addEntry 3 = .ok (.dup, 1) := dk_89 (dk_at dksJ5_addEntry_0 3 rfl rfl)
theorem dJ5_addEntry_4 : decode cJ5_addEntry 4 = .ok (.aload_n 1, 1) := dk_43 (dk_at dksJ5_addEntry_0 4 rfl rfl)
theorem dJ5_addEntry_5 : decode cJ5_addEntry 5 = .ok (.aload_n 2, 1) := dk_44 (dk_at dksJ5_addEntry_0 5 rfl rfl)
theorem dJ5_addEntry_6 : decode cJ5_addEntry 6 = .ok (.aload_n 3, 1) := dk_45 (dk_at dksJ5_addEntry_0 6 rfl rfl)
theorem dJ5_addEntry_7 : decode cJ5_addEntry 7 = .ok (.invokespecial 167, 3) := dk_183 0 167 (dk_at dksJ5_addEntry_0 7 rfl rfl)
theorem dJ5_addEntry_10 : decode cJ5_addEntry 10 = .ok (.astore 5, 2) := dk_58 5 (dk_at dksJ5_addEntry_0 10 rfl rfl)
theorem dJ5_addEntry_12 : decode cJ5_addEntry 12 = .ok (.iload 4, 2) := dk_21 4 (dk_at dksJ5_addEntry_0 12 rfl rfl)
theorem dJ5_addEntry_14 : decode cJ5_addEntry 14 = .ok (.ifCond .eq 12, 3) := dk_153 0 12 (dk_at dksJ5_addEntry_0 14 rfl rfl)
theorem dJ5_addEntry_17 : decode cJ5_addEntry 17 = .ok (.aload_n 3, 1) := dk_45 (dk_at dksJ5_addEntry_0 17 rfl rfl)
theorem dJ5_addEntry_18 : decode cJ5_addEntry 18 = .ok (.aload 5, 2) := dk_25 5 (dk_at dksJ5_addEntry_0 18 rfl rfl)
theorem dJ5_addEntry_20 : decode cJ5_addEntry 20 = .ok (.putfield 111, 3) := dk_181 0 111 (dk_at dksJ5_addEntry_0 20 rfl rfl)
theorem dJ5_addEntry_23 : decode cJ5_addEntry 23 = .ok (.goto 9, 3) := dk_167 0 9 (dk_at dksJ5_addEntry_1 0 rfl rfl)
theorem dJ5_addEntry_26 : decode cJ5_addEntry 26 = .ok (.aload_n 3, 1) := dk_45 (dk_at dksJ5_addEntry_1 3 rfl rfl)
theorem dJ5_addEntry_27 : decode cJ5_addEntry 27 = .ok (.aload 5, 2) := dk_25 5 (dk_at dksJ5_addEntry_1 4 rfl rfl)
theorem dJ5_addEntry_29 : decode cJ5_addEntry 29 = .ok (.putfield 114, 3) := dk_181 0 114 (dk_at dksJ5_addEntry_1 6 rfl rfl)
theorem dJ5_addEntry_32 : decode cJ5_addEntry 32 = .ok (.aload_n 0, 1) := dk_42 (dk_at dksJ5_addEntry_1 9 rfl rfl)
theorem dJ5_addEntry_33 : decode cJ5_addEntry 33 = .ok (.aload 5, 2) := dk_25 5 (dk_at dksJ5_addEntry_1 10 rfl rfl)
theorem dJ5_addEntry_35 : decode cJ5_addEntry 35 = .ok (.invokevirtual 170, 3) := dk_182 0 170 (dk_at dksJ5_addEntry_1 12 rfl rfl)
theorem dJ5_addEntry_38 : decode cJ5_addEntry 38 = .ok (.aload_n 0, 1) := dk_42 (dk_at dksJ5_addEntry_1 15 rfl rfl)
theorem dJ5_addEntry_39 : decode cJ5_addEntry 39 = .ok (.dup, 1) := dk_89 (dk_at dksJ5_addEntry_1 16 rfl rfl)
theorem dJ5_addEntry_40 : decode cJ5_addEntry 40 = .ok (.getfield 7, 3) := dk_180 0 7 (dk_at dksJ5_addEntry_1 17 rfl rfl)
theorem dJ5_addEntry_43 : decode cJ5_addEntry 43 = .ok (.iconst 1, 1) := dk_4 (dk_at dksJ5_addEntry_1 20 rfl rfl)
theorem dJ5_addEntry_44 : decode cJ5_addEntry 44 = .ok (.iadd, 1) := dk_96 (dk_at dksJ5_addEntry_1 21 rfl rfl)
theorem dJ5_addEntry_45 : decode cJ5_addEntry 45 = .ok (.putfield 7, 3) := dk_181 0 7 (dk_at dksJ5_addEntry_2 0 rfl rfl)
theorem dJ5_addEntry_48 : decode cJ5_addEntry 48 = .ok (.aload_n 0, 1) := dk_42 (dk_at dksJ5_addEntry_2 3 rfl rfl)
theorem dJ5_addEntry_49 : decode cJ5_addEntry 49 = .ok (.dup, 1) := dk_89 (dk_at dksJ5_addEntry_2 4 rfl rfl)
theorem dJ5_addEntry_50 : decode cJ5_addEntry 50 = .ok (.getfield 13, 3) := dk_180 0 13 (dk_at dksJ5_addEntry_2 5 rfl rfl)
theorem dJ5_addEntry_53 : decode cJ5_addEntry 53 = .ok (.iconst 1, 1) := dk_4 (dk_at dksJ5_addEntry_2 8 rfl rfl)
theorem dJ5_addEntry_54 : decode cJ5_addEntry 54 = .ok (.iadd, 1) := dk_96 (dk_at dksJ5_addEntry_2 9 rfl rfl)
theorem dJ5_addEntry_55 : decode cJ5_addEntry 55 = .ok (.putfield 13, 3) := dk_181 0 13 (dk_at dksJ5_addEntry_2 10 rfl rfl)
theorem dJ5_addEntry_58 : decode cJ5_addEntry 58 = .ok (.return_, 1) := dk_177 (dk_at dksJ5_addEntry_2 13 rfl rfl)
def dkwJ5_fixAfterInsertion_11 : List UInt8 := [42, 180, 0, 101, 4, 181, 1, 34, 177]
abbrev dktJ5_fixAfterInsertion_11 : List UInt8 := dkwJ5_fixAfterInsertion_11 ++ []
def dkwJ5_fixAfterInsertion_10 : List UInt8 := [184, 1, 38, 184, 1, 38, 3, 184, 1, 51, 42, 43, 184, 1, 38, 184, 1, 38, 182, 1, 55, 167, 255, 6]
abbrev dktJ5_fixAfterInsertion_10 : List UInt8 := dkwJ5_fixAfterInsertion_10 ++ dktJ5_fixAfterInsertion_11
def dkwJ5_fixAfterInsertion_9 : List UInt8 := [166, 0, 13, 43, 184, 1, 38, 76, 42, 43, 182, 1, 58, 43, 184, 1, 38, 4, 184, 1, 51, 43]
abbrev dktJ5_fixAfterInsertion_9 : List UInt8 := dkwJ5_fixAfterInsertion_9 ++ dktJ5_fixAfterInsertion_10
def dkwJ5_fixAfterInsertion_8 : List UInt8 := [184, 1, 51, 43, 184, 1, 38, 184, 1, 38, 76, 167, 0, 54, 43, 43, 184, 1, 38, 184, 1, 41]
abbrev dktJ5_fixAfterInsertion_8 : List UInt8 := dkwJ5_fixAfterInsertion_8 ++ dktJ5_fixAfterInsertion_9
def dkwJ5_fixAfterInsertion_7 : List UInt8 := [154, 0, 38, 43, 184, 1, 38, 4, 184, 1, 51, 44, 4, 184, 1, 51, 43, 184, 1, 38, 184, 1, 38, 3]
abbrev dktJ5_fixAfterInsertion_7 : List UInt8 := dkwJ5_fixAfterInsertion_7 ++ dktJ5_fixAfterInsertion_8
def dkwJ5_fixAfterInsertion_6 : List UInt8 := [184, 1, 38, 182, 1, 58, 167, 255, 113, 43, 184, 1, 38, 184, 1, 38, 184, 1, 41, 77, 44, 184, 1, 47]
abbrev dktJ5_fixAfterInsertion_6 : List UInt8 := dkwJ5_fixAfterInsertion_6 ++ dktJ5_fixAfterInsertion_7
def dkwJ5_fixAfterInsertion_5 : List UInt8 := [43, 184, 1, 38, 4, 184, 1, 51, 43, 184, 1, 38, 184, 1, 38, 3, 184, 1, 51, 42, 43, 184, 1, 38]
abbrev dktJ5_fixAfterInsertion_5 : List UInt8 := dkwJ5_fixAfterInsertion_5 ++ dktJ5_fixAfterInsertion_6
def dkwJ5_fixAfterInsertion_4 : List UInt8 := [167, 0, 54, 43, 43, 184, 1, 38, 184, 1, 44, 166, 0, 13, 43, 184, 1, 38, 76, 42, 43, 182, 1, 55]
abbrev dktJ5_fixAfterInsertion_4 : List UInt8 := dkwJ5_fixAfterInsertion_4 ++ dktJ5_fixAfterInsertion_5
def dkwJ5_fixAfterInsertion_3 : List UInt8 := [184, 1, 51, 43, 184, 1, 38, 184, 1, 38, 3, 184, 1, 51, 43, 184, 1, 38, 184, 1, 38, 76]
abbrev dktJ5_fixAfterInsertion_3 : List UInt8 := dkwJ5_fixAfterInsertion_3 ++ dktJ5_fixAfterInsertion_4
def dkwJ5_fixAfterInsertion_2 : List UInt8 := [184, 1, 38, 184, 1, 44, 77, 44, 184, 1, 47, 154, 0, 38, 43, 184, 1, 38, 4, 184, 1, 51, 44, 4]
abbrev dktJ5_fixAfterInsertion_2 : List UInt8 := dkwJ5_fixAfterInsertion_2 ++ dktJ5_fixAfterInsertion_3
def dkwJ5_fixAfterInsertion_1 : List UInt8 := [154, 0, 234, 43, 184, 1, 38, 43, 184, 1, 38, 184, 1, 38, 184, 1, 41, 166, 0, 110, 43, 184, 1, 38]
abbrev dktJ5_fixAfterInsertion_1 : List UInt8 := dkwJ5_fixAfterInsertion_1 ++ dktJ5_fixAfterInsertion_2
def dkwJ5_fixAfterInsertion_0 : List UInt8 := [43, 3, 181, 1, 34, 43, 198, 0, 252, 43, 42, 180, 0, 101, 165, 0, 244, 43, 180, 0, 124, 180, 1, 34]
abbrev dktJ5_fixAfterInsertion_0 : List UInt8 := dkwJ5_fixAfterInsertion_0 ++ dktJ5_fixAfterInsertion_1
theorem dksJ5_fixAfterInsertion_0 : cJ5_fixAfterInsertion.data.toList.drop 0 = dktJ5_fixAfterInsertion_0 := by decide +kernel
theorem dksJ5_fixAfterInsertion_1 : cJ5_fixAfterInsertion.data.toList.drop 24 = dktJ5_fixAfterInsertion_1 := dk_seg dksJ5_fixAfterInsertion_0 24 rfl rfl
theorem dksJ5_fixAfterInsertion_2 : cJ5_fixAfterInsertion.data.toList.drop 48 = dktJ5_fixAfterInsertion_2 := dk_seg dksJ5_fixAfterInsertion_1 24 rfl rfl
theorem dksJ5_fixAfterInsertion_3 : cJ5_fixAfterInsertion.data.toList.drop 72 = dktJ5_fixAfterInsertion_3 := dk_seg dksJ5_fixAfterInsertion_2 24 rfl rfl
theorem dksJ5_fixAfterInsertion_4 : cJ5_fixAfterInsertion.data.toList.drop 94 = dktJ5_fixAfterInsertion_4 := dk_seg dksJ5_fixAfterInsertion_3 22 rfl rfl
theorem dksJ5_fixAfterInsertion_5 : cJ5_fixAfterInsertion.data.toList.drop 118 = dktJ5_fixAfterInsertion_5 := dk_seg dksJ5_fixAfterInsertion_4 24 rfl rfl
theorem dksJ5_fixAfterInsertion_6 : cJ5_fixAfterInsertion.data.toList.drop 142 = dktJ5_fixAfterInsertion_6 := dk_seg dksJ5_fixAfterInsertion_5 24 rfl rfl
theorem dksJ5_fixAfterInsertion_7 : cJ5_fixAfterInsertion.data.toList.drop 166 = dktJ5_fixAfterInsertion_7 := dk_seg dksJ5_fixAfterInsertion_6 24 rfl rfl
theorem dksJ5_fixAfterInsertion_8 : cJ5_fixAfterInsertion.data.toList.drop 190 = dktJ5_fixAfterInsertion_8 := dk_seg dksJ5_fixAfterInsertion_7 24 rfl rfl
theorem dksJ5_fixAfterInsertion_9 : cJ5_fixAfterInsertion.data.toList.drop 212 = dktJ5_fixAfterInsertion_9 := dk_seg dksJ5_fixAfterInsertion_8 22 rfl rfl
theorem dksJ5_fixAfterInsertion_10 : cJ5_fixAfterInsertion.data.toList.drop 234 = dktJ5_fixAfterInsertion_10 := dk_seg dksJ5_fixAfterInsertion_9 22 rfl rfl
theorem dksJ5_fixAfterInsertion_11 : cJ5_fixAfterInsertion.data.toList.drop 258 = dktJ5_fixAfterInsertion_11 := dk_seg dksJ5_fixAfterInsertion_10 24 rfl rfl
theorem dJ5_fixAfterInsertion_0 : decode cJ5_fixAfterInsertion 0 = .ok (.aload_n 1, 1) := dk_43 (dk_at dksJ5_fixAfterInsertion_0 0 rfl rfl)
theorem dJ5_fixAfterInsertion_1 : decode cJ5_fixAfterInsertion 1 = .ok (.iconst 0, 1) := dk_3 (dk_at dksJ5_fixAfterInsertion_0 1 rfl rfl)
theorem dJ5_fixAfterInsertion_2 : decode cJ5_fixAfterInsertion 2 = .ok (.putfield 290, 3) := dk_181 1 34 (dk_at dksJ5_fixAfterInsertion_0 2 rfl rfl)
theorem dJ5_fixAfterInsertion_5 : decode cJ5_fixAfterInsertion 5 = .ok (.aload_n 1, 1) := dk_43 (dk_at dksJ5_fixAfterInsertion_0 5 rfl rfl)
theorem dJ5_fixAfterInsertion_6 : decode cJ5_fixAfterInsertion 6 = .ok (.ifnull 252, 3) := dk_198 0 252 (dk_at dksJ5_fixAfterInsertion_0 6 rfl rfl)
theorem dJ5_fixAfterInsertion_9 : decode cJ5_fixAfterInsertion 9 = .ok (.aload_n 1, 1) := dk_43 (dk_at dksJ5_fixAfterInsertion_0 9 rfl rfl)
theorem dJ5_fixAfterInsertion_10 : decode cJ5_fixAfterInsertion 10 = .ok (.aload_n 0, 1) := dk_42 (dk_at dksJ5_fixAfterInsertion_0 10 rfl rfl)
theorem dJ5_fixAfterInsertion_11 : decode cJ5_fixAfterInsertion 11 = .ok (.getfield 101, 3) := dk_180 0 101 (dk_at dksJ5_fixAfterInsertion_0 11 rfl rfl)
theorem dJ5_fixAfterInsertion_14 : decode cJ5_fixAfterInsertion 14 = .ok (.if_acmp .eq 244, 3) := dk_165 0 244 (dk_at dksJ5_fixAfterInsertion_0 14 rfl rfl)
theorem dJ5_fixAfterInsertion_17 : decode cJ5_fixAfterInsertion 17 = .ok (.aload_n 1, 1) := dk_43 (dk_at dksJ5_fixAfterInsertion_0 17 rfl rfl)
theorem dJ5_fixAfterInsertion_18 : decode cJ5_fixAfterInsertion 18 = .ok (.getfield 124, 3) := dk_180 0 124 (dk_at dksJ5_fixAfterInsertion_0 18 rfl rfl)
theorem dJ5_fixAfterInsertion_21 : decode cJ5_fixAfterInsertion 21 = .ok (.getfield 290, 3) := dk_180 1 34 (dk_at dksJ5_fixAfterInsertion_0 21 rfl rfl)
theorem dJ5_fixAfterInsertion_24 : decode cJ5_fixAfterInsertion 24 = .ok (.ifCond .ne 234, 3) := dk_154 0 234 (dk_at dksJ5_fixAfterInsertion_1 0 rfl rfl)
theorem dJ5_fixAfterInsertion_27 : decode cJ5_fixAfterInsertion 27 = .ok (.aload_n 1, 1) := dk_43 (dk_at dksJ5_fixAfterInsertion_1 3 rfl rfl)
theorem dJ5_fixAfterInsertion_28 : decode cJ5_fixAfterInsertion 28 = .ok (.invokestatic 294, 3) := dk_184 1 38 (dk_at dksJ5_fixAfterInsertion_1 4 rfl rfl)
theorem dJ5_fixAfterInsertion_31 : decode cJ5_fixAfterInsertion 31 = .ok (.aload_n 1, 1) := dk_43 (dk_at dksJ5_fixAfterInsertion_1 7 rfl rfl)
theorem dJ5_fixAfterInsertion_32 : decode cJ5_fixAfterInsertion 32 = .ok (.invokestatic 294, 3) := dk_184 1 38 (dk_at dksJ5_fixAfterInsertion_1 8 rfl rfl)
theorem dJ5_fixAfterInsertion_35 : decode cJ5_fixAfterInsertion 35 = .ok (.invokestatic 294, 3) := dk_184 1 38 (dk_at dksJ5_fixAfterInsertion_1 11 rfl rfl)
theorem dJ5_fixAfterInsertion_38 : decode cJ5_fixAfterInsertion 38 = .ok (.invokestatic 297, 3) := dk_184 1 41 (dk_at dksJ5_fixAfterInsertion_1 14 rfl rfl)
theorem dJ5_fixAfterInsertion_41 : decode cJ5_fixAfterInsertion 41 = .ok (.if_acmp .ne 110, 3) := dk_166 0 110 (dk_at dksJ5_fixAfterInsertion_1 17 rfl rfl)
theorem dJ5_fixAfterInsertion_44 : decode cJ5_fixAfterInsertion 44 = .ok (.aload_n 1, 1) := dk_43 (dk_at dksJ5_fixAfterInsertion_1 20 rfl rfl)
theorem dJ5_fixAfterInsertion_45 : decode cJ5_fixAfterInsertion 45 = .ok (.invokestatic 294, 3) := dk_184 1 38 (dk_at dksJ5_fixAfterInsertion_1 21 rfl rfl)
theorem dJ5_fixAfterInsertion_48 : decode cJ5_fixAfterInsertion 48 = .ok (.invokestatic 294, 3) := dk_184 1 38 (dk_at dksJ5_fixAfterInsertion_2 0 rfl rfl)
theorem dJ5_fixAfterInsertion_51 : decode cJ5_fixAfterInsertion 51 = .ok (.invokestatic 300, 3) := dk_184 1 44 (dk_at dksJ5_fixAfterInsertion_2 3 rfl rfl)
theorem dJ5_fixAfterInsertion_54 : decode cJ5_fixAfterInsertion 54 = .ok (.astore_n 2, 1) := dk_77 (dk_at dksJ5_fixAfterInsertion_2 6 rfl rfl)
theorem dJ5_fixAfterInsertion_55 : decode cJ5_fixAfterInsertion 55 = .ok (.aload_n 2, 1) := dk_44 (dk_at dksJ5_fixAfterInsertion_2 7 rfl rfl)
theorem dJ5_fixAfterInsertion_56 : decode cJ5_fixAfterInsertion 56 = .ok (.invokestatic 303, 3) := dk_184 1 47 (dk_at dksJ5_fixAfterInsertion_2 8 rfl rfl)
theorem dJ5_fixAfterInsertion_59 : decode cJ5_fixAfterInsertion 59 = .ok (.ifCond .ne 38, 3) := dk_154 0 38 (dk_at dksJ5_fixAfterInsertion_2 11 rfl rfl)
theorem dJ5_fixAfterInsertion_62 : decode cJ5_fixAfterInsertion 62 = .ok (.aload_n 1, 1) := dk_43 (dk_at dksJ5_fixAfterInsertion_2 14 rfl rfl)
theorem dJ5_fixAfterInsertion_63 : decode cJ5_fixAfterInsertion 63 = .ok (.invokestatic 294, 3) := dk_184 1 38 (dk_at dksJ5_fixAfterInsertion_2 15 rfl rfl)
theorem dJ5_fixAfterInsertion_66 : decode cJ5_fixAfterInsertion 66 = .ok (.iconst 1, 1) := dk_4 (dk_at dksJ5_fixAfterInsertion_2 18 rfl rfl)
theorem dJ5_fixAfterInsertion_67 : decode cJ5_fixAfterInsertion 67 = .ok (.invokestatic 307, 3) := dk_184 1 51 (dk_at dksJ5_fixAfterInsertion_2 19 rfl rfl)
theorem dJ5_fixAfterInsertion_70 : decode cJ5_fixAfterInsertion 70 = .ok (.aload_n 2, 1) := dk_44 (dk_at dksJ5_fixAfterInsertion_2 22 rfl rfl)
theorem dJ5_fixAfterInsertion_71 : decode cJ5_fixAfterInsertion 71 = .ok (.iconst 1, 1) := dk_4 (dk_at dksJ5_fixAfterInsertion_2 23 rfl rfl)
theorem dJ5_fixAfterInsertion_72 : decode cJ5_fixAfterInsertion 72 = .ok (.invokestatic 307, 3) := dk_184 1 51 (dk_at dksJ5_fixAfterInsertion_3 0 rfl rfl)
theorem dJ5_fixAfterInsertion_75 : decode cJ5_fixAfterInsertion 75 = .ok (.aload_n 1, 1) := dk_43 (dk_at dksJ5_fixAfterInsertion_3 3 rfl rfl)
theorem dJ5_fixAfterInsertion_76 : decode cJ5_fixAfterInsertion 76 = .ok (.invokestatic 294, 3) := dk_184 1 38 (dk_at dksJ5_fixAfterInsertion_3 4 rfl rfl)
theorem dJ5_fixAfterInsertion_79 : decode cJ5_fixAfterInsertion 79 = .ok (.invokestatic 294, 3) := dk_184 1 38 (dk_at dksJ5_fixAfterInsertion_3 7 rfl rfl)
theorem dJ5_fixAfterInsertion_82 : decode cJ5_fixAfterInsertion 82 = .ok (.iconst 0, 1) := dk_3 (dk_at dksJ5_fixAfterInsertion_3 10 rfl rfl)
theorem dJ5_fixAfterInsertion_83 : decode cJ5_fixAfterInsertion 83 = .ok (.invokestatic 307, 3) := dk_184 1 51 (dk_at dksJ5_fixAfterInsertion_3 11 rfl rfl)
theorem dJ5_fixAfterInsertion_86 : decode cJ5_fixAfterInsertion 86 = .ok (.aload_n 1, 1) := dk_43 (dk_at dksJ5_fixAfterInsertion_3 14 rfl rfl)
theorem dJ5_fixAfterInsertion_87 : decode cJ5_fixAfterInsertion 87 = .ok (.invokestatic 294, 3) := dk_184 1 38 (dk_at dksJ5_fixAfterInsertion_3 15 rfl rfl)
theorem dJ5_fixAfterInsertion_90 : decode cJ5_fixAfterInsertion 90 = .ok (.invokestatic 294, 3) := dk_184 1 38 (dk_at dksJ5_fixAfterInsertion_3 18 rfl rfl)
theorem dJ5_fixAfterInsertion_93 : decode cJ5_fixAfterInsertion 93 = .ok (.astore_n 1, 1) := dk_76 (dk_at dksJ5_fixAfterInsertion_3 21 rfl rfl)
theorem dJ5_fixAfterInsertion_94 : decode cJ5_fixAfterInsertion 94 = .ok (.goto 54, 3) := dk_167 0 54 (dk_at dksJ5_fixAfterInsertion_4 0 rfl rfl)
theorem dJ5_fixAfterInsertion_97 : decode cJ5_fixAfterInsertion 97 = .ok (.aload_n 1, 1) := dk_43 (dk_at dksJ5_fixAfterInsertion_4 3 rfl rfl)
theorem dJ5_fixAfterInsertion_98 : decode cJ5_fixAfterInsertion 98 = .ok (.aload_n 1, 1) := dk_43 (dk_at dksJ5_fixAfterInsertion_4 4 rfl rfl)
theorem dJ5_fixAfterInsertion_99 : decode cJ5_fixAfterInsertion 99 = .ok (.invokestatic 294, 3) := dk_184 1 38 (dk_at dksJ5_fixAfterInsertion_4 5 rfl rfl)
theorem dJ5_fixAfterInsertion_102 : decode cJ5_fixAfterInsertion 102 = .ok (.invokestatic 300, 3) := dk_184 1 44 (dk_at dksJ5_fixAfterInsertion_4 8 rfl rfl)
theorem dJ5_fixAfterInsertion_105 : decode cJ5_fixAfterInsertion 105 = .ok (.if_acmp .ne 13, 3) := dk_166 0 13 (dk_at dksJ5_fixAfterInsertion_4 11 rfl rfl)
theorem dJ5_fixAfterInsertion_108 : decode cJ5_fixAfterInsertion 108 = .ok (.aload_n 1, 1) := dk_43 (dk_at dksJ5_fixAfterInsertion_4 14 rfl rfl)
theorem dJ5_fixAfterInsertion_109 : decode cJ5_fixAfterInsertion 109 = .ok (.invokestatic 294, 3) := dk_184 1 38 (dk_at dksJ5_fixAfterInsertion_4 15 rfl rfl)
theorem dJ5_fixAfterInsertion_112 : decode cJ5_fixAfterInsertion 112 = .ok (.astore_n 1, 1) := dk_76 (dk_at dksJ5_fixAfterInsertion_4 18 rfl rfl)
theorem dJ5_fixAfterInsertion_113 : decode cJ5_fixAfterInsertion 113 = .ok (.aload_n 0, 1) := dk_42 (dk_at dksJ5_fixAfterInsertion_4 19 rfl rfl)
theorem dJ5_fixAfterInsertion_114 : decode cJ5_fixAfterInsertion 114 = .ok (.aload_n 1, 1) := dk_43 (dk_at dksJ5_fixAfterInsertion_4 20 rfl rfl)
theorem dJ5_fixAfterInsertion_115 : decode cJ5_fixAfterInsertion 115 = .ok (.invokevirtual 311, 3) := dk_182 1 55 (dk_at dksJ5_fixAfterInsertion_4 21 rfl rfl)
theorem dJ5_fixAfterInsertion_118 : decode cJ5_fixAfterInsertion 118 = .ok (.aload_n 1, 1) := dk_43 (dk_at dksJ5_fixAfterInsertion_5 0 rfl rfl)
theorem dJ5_fixAfterInsertion_119 : decode cJ5_fixAfterInsertion 119 = .ok (.invokestatic 294, 3) := dk_184 1 38 (dk_at dksJ5_fixAfterInsertion_5 1 rfl rfl)
theorem dJ5_fixAfterInsertion_122 : decode cJ5_fixAfterInsertion 122 = .ok (.iconst 1, 1) := dk_4 (dk_at dksJ5_fixAfterInsertion_5 4 rfl rfl)
theorem dJ5_fixAfterInsertion_123 : decode cJ5_fixAfterInsertion 123 = .ok (.invokestatic 307, 3) := dk_184 1 51 (dk_at dksJ5_fixAfterInsertion_5 5 rfl rfl)
theorem dJ5_fixAfterInsertion_126 : decode cJ5_fixAfterInsertion 126 = .ok (.aload_n 1, 1) := dk_43 (dk_at dksJ5_fixAfterInsertion_5 8 rfl rfl)
theorem dJ5_fixAfterInsertion_127 : decode cJ5_fixAfterInsertion 127 = .ok (.invokestatic 294, 3) := dk_184 1 38 (dk_at dksJ5_fixAfterInsertion_5 9 rfl rfl)
theorem dJ5_fixAfterInsertion_130 : decode cJ5_fixAfterInsertion 130 = .ok (.invokestatic 294, 3) := dk_184 1 38 (dk_at dksJ5_fixAfterInsertion_5 12 rfl rfl)
theorem dJ5_fixAfterInsertion_133 : decode cJ5_fixAfterInsertion 133 = .ok (.iconst 0, 1) := dk_3 (dk_at dksJ5_fixAfterInsertion_5 15 rfl rfl)
theorem dJ5_fixAfterInsertion_134 : decode cJ5_fixAfterInsertion 134 = .ok (.invokestatic 307, 3) := dk_184 1 51 (dk_at dksJ5_fixAfterInsertion_5 16 rfl rfl)
theorem dJ5_fixAfterInsertion_137 : decode cJ5_fixAfterInsertion 137 = .ok (.aload_n 0, 1) := dk_42 (dk_at dksJ5_fixAfterInsertion_5 19 rfl rfl)
theorem dJ5_fixAfterInsertion_138 : decode cJ5_fixAfterInsertion 138 = .ok (.aload_n 1, 1) := dk_43 (dk_at dksJ5_fixAfterInsertion_5 20 rfl rfl)
theorem dJ5_fixAfterInsertion_139 : decode cJ5_fixAfterInsertion 139 = .ok (.invokestatic 294, 3) := dk_184 1 38 (dk_at dksJ5_fixAfterInsertion_5 21 rfl rfl)
theorem dJ5_fixAfterInsertion_142 : decode cJ5_fixAfterInsertion 142 = .ok (.invokestatic 294, 3) := dk_184 1 38 (dk_at dksJ5_fixAfterInsertion_6 0 rfl rfl)
theorem dJ5_fixAfterInsertion_145 : decode cJ5_fixAfterInsertion 145 = .ok (.invokevirtual 314, 3) := dk_182 1 58 (dk_at dksJ5_fixAfterInsertion_6 3 rfl rfl)
theorem dJ5_fixAfterInsertion_148 : decode cJ5_fixAfterInsertion 148 = .ok (.goto (-143), 3) := dk_167 255 113 (dk_at dksJ5_fixAfterInsertion_6 6 rfl rfl)
theorem dJ5_fixAfterInsertion_151 : decode cJ5_fixAfterInsertion 151 = .ok (.aload_n 1, 1) := dk_43 (dk_at dksJ5_fixAfterInsertion_6 9 rfl rfl)
theorem dJ5_fixAfterInsertion_152 : decode cJ5_fixAfterInsertion 152 = .ok (.invokestatic 294, 3) := dk_184 1 38 (dk_at dksJ5_fixAfterInsertion_6 10 rfl rfl)
theorem dJ5_fixAfterInsertion_155 : decode cJ5_fixAfterInsertion 155 = .ok (.invokestatic 294, 3) := dk_184 1 38 (dk_at dksJ5_fixAfterInsertion_6 13 rfl rfl)
theorem dJ5_fixAfterInsertion_158 : decode cJ5_fixAfterInsertion 158 = .ok (.invokestatic 297, 3) := dk_184 1 41 (dk_at dksJ5_fixAfterInsertion_6 16 rfl rfl)
theorem dJ5_fixAfterInsertion_161 : decode cJ5_fixAfterInsertion 161 = .ok (.astore_n 2, 1) := dk_77 (dk_at dksJ5_fixAfterInsertion_6 19 rfl rfl)
theorem dJ5_fixAfterInsertion_162 : decode cJ5_fixAfterInsertion 162 = .ok (.aload_n 2, 1) := dk_44 (dk_at dksJ5_fixAfterInsertion_6 20 rfl rfl)
theorem dJ5_fixAfterInsertion_163 : decode cJ5_fixAfterInsertion 163 = .ok (.invokestatic 303, 3) := dk_184 1 47 (dk_at dksJ5_fixAfterInsertion_6 21 rfl rfl)
theorem dJ5_fixAfterInsertion_166 : decode cJ5_fixAfterInsertion 166 = .ok (.ifCond .ne 38, 3) := dk_154 0 38 (dk_at dksJ5_fixAfterInsertion_7 0 rfl rfl)
theorem dJ5_fixAfterInsertion_169 : decode cJ5_fixAfterInsertion 169 = .ok (.aload_n 1, 1) := dk_43 (dk_at dksJ5_fixAfterInsertion_7 3 rfl rfl)
theorem dJ5_fixAfterInsertion_170 : decode cJ5_fixAfterInsertion 170 = .ok (.invokestatic 294, 3) := dk_184 1 38 (dk_at dksJ5_fixAfterInsertion_7 4 rfl rfl)
theorem dJ5_fixAfterInsertion_173 : decode cJ5_fixAfterInsertion 173 = .ok (.iconst 1, 1) := dk_4 (dk_at dksJ5_fixAfterInsertion_7 7 rfl rfl)
theorem dJ5_fixAfterInsertion_174 : decode cJ5_fixAfterInsertion 174 = .ok (.invokestatic 307, 3) := dk_184 1 51 (dk_at dksJ5_fixAfterInsertion_7 8 rfl rfl)
theorem dJ5_fixAfterInsertion_177 : decode cJ5_fixAfterInsertion 177 = .ok (.aload_n 2, 1) := dk_44 (dk_at dksJ5_fixAfterInsertion_7 11 rfl rfl)
theorem dJ5_fixAfterInsertion_178 : decode cJ5_fixAfterInsertion 178 = .ok (.iconst 1, 1) := dk_4 (dk_at dksJ5_fixAfterInsertion_7 12 rfl rfl)
theorem dJ5_fixAfterInsertion_179 : decode cJ5_fixAfterInsertion 179 = .ok (.invokestatic 307, 3) := dk_184 1 51 (dk_at dksJ5_fixAfterInsertion_7 13 rfl rfl)
theorem dJ5_fixAfterInsertion_182 : decode cJ5_fixAfterInsertion 182 = .ok (.aload_n 1, 1) := dk_43 (dk_at dksJ5_fixAfterInsertion_7 16 rfl rfl)
theorem dJ5_fixAfterInsertion_183 : decode cJ5_fixAfterInsertion 183 = .ok (.invokestatic 294, 3) := dk_184 1 38 (dk_at dksJ5_fixAfterInsertion_7 17 rfl rfl)
theorem dJ5_fixAfterInsertion_186 : decode cJ5_fixAfterInsertion 186 = .ok (.invokestatic 294, 3) := dk_184 1 38 (dk_at dksJ5_fixAfterInsertion_7 20 rfl rfl)
theorem dJ5_fixAfterInsertion_189 : decode cJ5_fixAfterInsertion 189 = .ok (.iconst 0, 1) := dk_3 (dk_at dksJ5_fixAfterInsertion_7 23 rfl rfl)
theorem dJ5_fixAfterInsertion_190 : decode cJ5_fixAfterInsertion 190 = .ok (.invokestatic 307, 3) := dk_184 1 51 (dk_at dksJ5_fixAfterInsertion_8 0 rfl rfl)
theorem dJ5_fixAfterInsertion_193 : decode cJ5_fixAfterInsertion 193 = .ok (.aload_n 1, 1) := dk_43 (dk_at dksJ5_fixAfterInsertion_8 3 rfl rfl)
theorem dJ5_fixAfterInsertion_194 : decode cJ5_fixAfterInsertion 194 = .ok (.invokestatic 294, 3) := dk_184 1 38 (dk_at dksJ5_fixAfterInsertion_8 4 rfl rfl)
theorem dJ5_fixAfterInsertion_197 : decode cJ5_fixAfterInsertion 197 = .ok (.invokestatic 294, 3) := dk_184 1 38 (dk_at dksJ5_fixAfterInsertion_8 7 rfl rfl)
theorem dJ5_fixAfterInsertion_200 : decode cJ5_fixAfterInsertion 200 = .ok (.astore_n 1, 1) := dk_76 (dk_at dksJ5_fixAfterInsertion_8 10 rfl rfl)
theorem dJ5_fixAfterInsertion_201 : decode cJ5_fixAfterInsertion 201 = .ok (.goto 54, 3) := dk_167 0 54 (dk_at dksJ5_fixAfterInsertion_8 11 rfl rfl)
theorem dJ5_fixAfterInsertion_204 : decode cJ5_fixAfterInsertion 204 = .ok (.aload_n 1, 1) := dk_43 (dk_at dksJ5_fixAfterInsertion_8 14 rfl rfl)
theorem dJ5_fixAfterInsertion_205 : decode cJ5_fixAfterInsertion 205 = .ok (.aload_n 1, 1) := dk_43 (dk_at dksJ5_fixAfterInsertion_8 15 rfl rfl)
theorem dJ5_fixAfterInsertion_206 : decode cJ5_fixAfterInsertion 206 = .ok (.invokestatic 294, 3) := dk_184 1 38 (dk_at dksJ5_fixAfterInsertion_8 16 rfl rfl)
theorem dJ5_fixAfterInsertion_209 : decode cJ5_fixAfterInsertion 209 = .ok (.invokestatic 297, 3) := dk_184 1 41 (dk_at dksJ5_fixAfterInsertion_8 19 rfl rfl)
theorem dJ5_fixAfterInsertion_212 : decode cJ5_fixAfterInsertion 212 = .ok (.if_acmp .ne 13, 3) := dk_166 0 13 (dk_at dksJ5_fixAfterInsertion_9 0 rfl rfl)
theorem dJ5_fixAfterInsertion_215 : decode cJ5_fixAfterInsertion 215 = .ok (.aload_n 1, 1) := dk_43 (dk_at dksJ5_fixAfterInsertion_9 3 rfl rfl)
theorem dJ5_fixAfterInsertion_216 : decode cJ5_fixAfterInsertion 216 = .ok (.invokestatic 294, 3) := dk_184 1 38 (dk_at dksJ5_fixAfterInsertion_9 4 rfl rfl)
theorem dJ5_fixAfterInsertion_219 : decode cJ5_fixAfterInsertion 219 = .ok (.astore_n 1, 1) := dk_76 (dk_at dksJ5_fixAfterInsertion_9 7 rfl rfl)
theorem dJ5_fixAfterInsertion_220 : decode cJ5_fixAfterInsertion 220 = .ok (.aload_n 0, 1) := dk_42 (dk_at dksJ5_fixAfterInsertion_9 8 rfl rfl)
theorem dJ5_fixAfterInsertion_221 : decode cJ5_fixAfterInsertion 221 = .ok (.aload_n 1, 1) := dk_43 (dk_at dksJ5_fixAfterInsertion_9 9 rfl rfl)
theorem dJ5_fixAfterInsertion_222 : decode cJ5_fixAfterInsertion 222 = .ok (.invokevirtual 314, 3) := dk_182 1 58 (dk_at dksJ5_fixAfterInsertion_9 10 rfl rfl)
theorem dJ5_fixAfterInsertion_225 : decode cJ5_fixAfterInsertion 225 = .ok (.aload_n 1, 1) := dk_43 (dk_at dksJ5_fixAfterInsertion_9 13 rfl rfl)
theorem dJ5_fixAfterInsertion_226 : decode cJ5_fixAfterInsertion 226 = .ok (.invokestatic 294, 3) := dk_184 1 38 (dk_at dksJ5_fixAfterInsertion_9 14 rfl rfl)
theorem dJ5_fixAfterInsertion_229 : decode cJ5_fixAfterInsertion 229 = .ok (.iconst 1, 1) := dk_4 (dk_at dksJ5_fixAfterInsertion_9 17 rfl rfl)
theorem dJ5_fixAfterInsertion_230 : decode cJ5_fixAfterInsertion 230 = .ok (.invokestatic 307, 3) := dk_184 1 51 (dk_at dksJ5_fixAfterInsertion_9 18 rfl rfl)
theorem dJ5_fixAfterInsertion_233 : decode cJ5_fixAfterInsertion 233 = .ok (.aload_n 1, 1) := dk_43 (dk_at dksJ5_fixAfterInsertion_9 21 rfl rfl)
theorem dJ5_fixAfterInsertion_234 : decode cJ5_fixAfterInsertion 234 = .ok (.invokestatic 294, 3) := dk_184 1 38 (dk_at dksJ5_fixAfterInsertion_10 0 rfl rfl)
theorem dJ5_fixAfterInsertion_237 : decode cJ5_fixAfterInsertion 237 = .ok (.invokestatic 294, 3) := dk_184 1 38 (dk_at dksJ5_fixAfterInsertion_10 3 rfl rfl)
theorem dJ5_fixAfterInsertion_240 : decode cJ5_fixAfterInsertion 240 = .ok (.iconst 0, 1) := dk_3 (dk_at dksJ5_fixAfterInsertion_10 6 rfl rfl)
theorem dJ5_fixAfterInsertion_241 : decode cJ5_fixAfterInsertion 241 = .ok (.invokestatic 307, 3) := dk_184 1 51 (dk_at dksJ5_fixAfterInsertion_10 7 rfl rfl)
theorem dJ5_fixAfterInsertion_244 : decode cJ5_fixAfterInsertion 244 = .ok (.aload_n 0, 1) := dk_42 (dk_at dksJ5_fixAfterInsertion_10 10 rfl rfl)
theorem dJ5_fixAfterInsertion_245 : decode cJ5_fixAfterInsertion 245 = .ok (.aload_n 1, 1) := dk_43 (dk_at dksJ5_fixAfterInsertion_10 11 rfl rfl)
theorem dJ5_fixAfterInsertion_246 : decode cJ5_fixAfterInsertion 246 = .ok (.invokestatic 294, 3) := dk_184 1 38 (dk_at dksJ5_fixAfterInsertion_10 12 rfl rfl)
theorem dJ5_fixAfterInsertion_249 : decode cJ5_fixAfterInsertion 249 = .ok (.invokestatic 294, 3) := dk_184 1 38 (dk_at dksJ5_fixAfterInsertion_10 15 rfl rfl)
theorem dJ5_fixAfterInsertion_252 : decode cJ5_fixAfterInsertion 252 = .ok (.invokevirtual 311, 3) := dk_182 1 55 (dk_at dksJ5_fixAfterInsertion_10 18 rfl rfl)
theorem dJ5_fixAfterInsertion_255 : decode cJ5_fixAfterInsertion 255 = .ok (.goto (-250), 3) := dk_167 255 6 (dk_at dksJ5_fixAfterInsertion_10 21 rfl rfl)
theorem dJ5_fixAfterInsertion_258 : decode cJ5_fixAfterInsertion 258 = .ok (.aload_n 0, 1) := dk_42 (dk_at dksJ5_fixAfterInsertion_11 0 rfl rfl)
theorem dJ5_fixAfterInsertion_259 : decode cJ5_fixAfterInsertion 259 = .ok (.getfield 101, 3) := dk_180 0 101 (dk_at dksJ5_fixAfterInsertion_11 1 rfl rfl)
theorem dJ5_fixAfterInsertion_262 : decode cJ5_fixAfterInsertion 262 = .ok (.iconst 1, 1) := dk_4 (dk_at dksJ5_fixAfterInsertion_11 4 rfl rfl)
theorem dJ5_fixAfterInsertion_263 : decode cJ5_fixAfterInsertion 263 = .ok (.putfield 290, 3) := dk_181 1 34 (dk_at dksJ5_fixAfterInsertion_11 5 rfl rfl)
theorem dJ5_fixAfterInsertion_266 : decode cJ5_fixAfterInsertion 266 = .ok (.return_, 1) := dk_177 (dk_at dksJ5_fixAfterInsertion_11 8 rfl rfl)
def dkwJ5_parentOf_0 : List UInt8 := [42, 199, 0, 7, 1, 167, 0, 7, 42, 180, 0, 124, 176]
abbrev dktJ5_parentOf_0 : List UInt8 := dkwJ5_parentOf_0 ++ []
theorem dksJ5_parentOf_0 : cJ5_parentOf.data.toList.drop 0 = dktJ5_parentOf_0 := by decide +kernel
theorem dJ5_parentOf_0 : decode cJ5_parentOf 0 = .ok (.aload_n 0, 1) := dk_42 (dk_at dksJ5_parentOf_0 0 rfl rfl)
theorem dJ5_parentOf_1 : decode cJ5_parentOf 1 = .ok (.ifnonnull 7, 3) := dk_199 0 7 (dk_at dksJ5_parentOf_0 1 rfl rfl)
theorem dJ5_parentOf_4 : decode cJ5_parentOf 4 = .ok (.aconst_null, 1) := dk_1 (dk_at dksJ5_parentOf_0 4 rfl rfl)
theorem dJ5_parentOf_5 : decode cJ5_parentOf 5 = .ok (.goto 7, 3) := dk_167 0 7 (dk_at dksJ5_parentOf_0 5 rfl rfl)
theorem dJ5_parentOf_8 : decode cJ5_parentOf 8 = .ok (.aload_n 0, 1) := dk_42 (dk_at dksJ5_parentOf_0 8 rfl rfl)
theorem dJ5_parentOf_9 : decode cJ5_parentOf 9 = .ok (.getfield 124, 3) := dk_180 0 124 (dk_at dksJ5_parentOf_0 9 rfl rfl)
theorem dJ5_parentOf_12 : decode cJ5_parentOf 12 = .ok (.areturn, 1) := dk_176 (dk_at dksJ5_parentOf_0 12 rfl rfl)
def dkwJ5_leftOf_0 : List UInt8 := [42, 199, 0, 7, 1, 167, 0, 7, 42, 180, 0, 111, 176]
abbrev dktJ5_leftOf_0 : List UInt8 := dkwJ5_leftOf_0 ++ []
theorem dksJ5_leftOf_0 : cJ5_leftOf.data.toList.drop 0 = dktJ5_leftOf_0 := by decide +kernel
theorem dJ5_leftOf_0 : decode cJ5_leftOf 0 = .ok (.aload_n 0, 1) := dk_42 (dk_at dksJ5_leftOf_0 0 rfl rfl)
theorem dJ5_leftOf_1 : decode cJ5_leftOf 1 = .ok (.ifnonnull 7, 3) := dk_199 0 7 (dk_at dksJ5_leftOf_0 1 rfl rfl)
theorem dJ5_leftOf_4 : decode cJ5_leftOf 4 = .ok (.aconst_null, 1) := dk_1 (dk_at dksJ5_leftOf_0 4 rfl rfl)
theorem dJ5_leftOf_5 : decode cJ5_leftOf 5 = .ok (.goto 7, 3) := dk_167 0 7 (dk_at dksJ5_leftOf_0 5 rfl rfl)
theorem dJ5_leftOf_8 : decode cJ5_leftOf 8 = .ok (.aload_n 0, 1) := dk_42 (dk_at dksJ5_leftOf_0 8 rfl rfl)
theorem dJ5_leftOf_9 : decode cJ5_leftOf 9 = .ok (.getfield 111, 3) := dk_180 0 111 (dk_at dksJ5_leftOf_0 9 rfl rfl)
theorem dJ5_leftOf_12 : decode cJ5_leftOf 12 = .ok (.areturn, 1) := dk_176 (dk_at dksJ5_leftOf_0 12 rfl rfl)
def dkwJ5_rightOf_0 : List UInt8 := [42, 199, 0, 7, 1, 167, 0, 7, 42, 180, 0, 114, 176]
abbrev dktJ5_rightOf_0 : List UInt8 := dkwJ5_rightOf_0 ++ []
theorem dksJ5_rightOf_0 : cJ5_rightOf.data.toList.drop 0 = dktJ5_rightOf_0 := by decide +kernel
theorem dJ5_rightOf_0 : decode cJ5_rightOf 0 = .ok (.aload_n 0, 1) := dk_42 (dk_at dksJ5_rightOf_0 0 rfl rfl)
theorem dJ5_rightOf_1 : decode cJ5_rightOf 1 = .ok (.ifnonnull 7, 3) := dk_199 0 7 (dk_at dksJ5_rightOf_0 1 rfl rfl)
theorem dJ5_rightOf_4 : decode cJ5_rightOf 4 = .ok (.aconst_null, 1) := dk_1 (dk_at dksJ5_rightOf_0 4 rfl rfl)
theorem dJ5_rightOf_5 : decode cJ5_rightOf 5 = .ok (.goto 7, 3) := dk_167 0 7 (dk_at dksJ5_rightOf_0 5 rfl rfl)
theorem dJ5_rightOf_8 : decode cJ5_rightOf 8 = .ok (.aload_n 0, 1) := dk_42 (dk_at dksJ5_rightOf_0 8 rfl rfl)
theorem dJ5_rightOf_9 : decode cJ5_rightOf 9 = .ok (.getfield 114, 3) := dk_180 0 114 (dk_at dksJ5_rightOf_0 9 rfl rfl)
theorem dJ5_rightOf_12 : decode cJ5_rightOf 12 = .ok (.areturn, 1) := dk_176 (dk_at dksJ5_rightOf_0 12 rfl rfl)
def dkwJ5_colorOf_0 : List UInt8 := [42, 199, 0, 7, 4, 167, 0, 7, 42, 180, 1, 34, 172]
abbrev dktJ5_colorOf_0 : List UInt8 := dkwJ5_colorOf_0 ++ []
theorem dksJ5_colorOf_0 : cJ5_colorOf.data.toList.drop 0 = dktJ5_colorOf_0 := by decide +kernel
theorem dJ5_colorOf_0 : decode cJ5_colorOf 0 = .ok (.aload_n 0, 1) := dk_42 (dk_at dksJ5_colorOf_0 0 rfl rfl)
theorem dJ5_colorOf_1 : decode cJ5_colorOf 1 = .ok (.ifnonnull 7, 3) := dk_199 0 7 (dk_at dksJ5_colorOf_0 1 rfl rfl)
theorem dJ5_colorOf_4 : decode cJ5_colorOf 4 = .ok (.iconst 1, 1) := dk_4 (dk_at dksJ5_colorOf_0 4 rfl rfl)
theorem dJ5_colorOf_5 : decode cJ5_colorOf 5 = .ok (.goto 7, 3) := dk_167 0 7 (dk_at dksJ5_colorOf_0 5 rfl rfl)
theorem dJ5_colorOf_8 : decode cJ5_colorOf 8 = .ok (.aload_n 0, 1) := dk_42 (dk_at dksJ5_colorOf_0 8 rfl rfl)
theorem dJ5_colorOf_9 : decode cJ5_colorOf 9 = .ok (.getfield 290, 3) := dk_180 1 34 (dk_at dksJ5_colorOf_0 9 rfl rfl)
theorem dJ5_colorOf_12 : decode cJ5_colorOf 12 = .ok (.ireturn, 1) := dk_172 (dk_at dksJ5_colorOf_0 12 rfl rfl)
def dkwJ5_setColor_0 : List UInt8 := [42, 198, 0, 8, 42, 27, 181, 1, 34, 177]
abbrev dktJ5_setColor_0 : List UInt8 := dkwJ5_setColor_0 ++ []
theorem dksJ5_setColor_0 : cJ5_setColor.data.toList.drop 0 = dktJ5_setColor_0 := by decide +kernel
theorem dJ5_setColor_0 : decode cJ5_setColor 0 = .ok (.aload_n 0, 1) := dk_42 (dk_at dksJ5_setColor_0 0 rfl rfl)
theorem dJ5_setColor_1 : decode cJ5_setColor 1 = .ok (.ifnull 8, 3) := dk_198 0 8 (dk_at dksJ5_setColor_0 1 rfl rfl)
theorem dJ5_setColor_4 : decode cJ5_setColor 4 = .ok (.aload_n 0, 1) := dk_42 (dk_at dksJ5_setColor_0 4 rfl rfl)
theorem dJ5_setColor_5 : decode cJ5_setColor 5 = .ok (.iload_n 1, 1) := dk_27 (dk_at dksJ5_setColor_0 5 rfl rfl)
theorem dJ5_setColor_6 : decode cJ5_setColor 6 = .ok (.putfield 290, 3) := dk_181 1 34 (dk_at dksJ5_setColor_0 6 rfl rfl)
theorem dJ5_setColor_9 : decode cJ5_setColor 9 = .ok (.return_, 1) := dk_177 (dk_at dksJ5_setColor_0 9 rfl rfl)
def dkwJ5_rotateLeft_4 : List UInt8 := [177]
abbrev dktJ5_rotateLeft_4 : List UInt8 := dkwJ5_rotateLeft_4 ++ []
def dkwJ5_rotateLeft_3 : List UInt8 := [181, 0, 111, 167, 0, 11, 43, 180, 0, 124, 44, 181, 0, 114, 44, 43, 181, 0, 111, 43, 44, 181, 0, 124]
abbrev dktJ5_rotateLeft_3 : List UInt8 := dkwJ5_rotateLeft_3 ++ dktJ5_rotateLeft_4
def dkwJ5_rotateLeft_2 : List UInt8 := [44, 181, 0, 101, 167, 0, 33, 43, 180, 0, 124, 180, 0, 111, 43, 166, 0, 14, 43, 180, 0, 124, 44]
abbrev dktJ5_rotateLeft_2 : List UInt8 := dkwJ5_rotateLeft_2 ++ dktJ5_rotateLeft_3
def dkwJ5_rotateLeft_1 : List UInt8 := [44, 180, 0, 111, 43, 181, 0, 124, 44, 43, 180, 0, 124, 181, 0, 124, 43, 180, 0, 124, 199, 0, 11, 42]
abbrev dktJ5_rotateLeft_1 : List UInt8 := dkwJ5_rotateLeft_1 ++ dktJ5_rotateLeft_2
def dkwJ5_rotateLeft_0 : List UInt8 := [43, 198, 0, 94, 43, 180, 0, 114, 77, 43, 44, 180, 0, 111, 181, 0, 114, 44, 180, 0, 111, 198, 0, 11]
abbrev dktJ5_rotateLeft_0 : List UInt8 := dkwJ5_rotateLeft_0 ++ dktJ5_rotateLeft_1
theorem dksJ5_rotateLeft_0 : cJ5_rotateLeft.data.toList.drop 0 = dktJ5_rotateLeft_0 := by decide +kernel
theorem dksJ5_rotateLeft_1 : cJ5_rotateLeft.data.toList.drop 24 = dktJ5_rotateLeft_1 := dk_seg dksJ5_rotateLeft_0 24 rfl rfl
theorem dksJ5_rotateLeft_2 : cJ5_rotateLeft.data.toList.drop 48 = dktJ5_rotateLeft_2 := dk_seg dksJ5_rotateLeft_1 24 rfl rfl
theorem dksJ5_rotateLeft_3 : cJ5_rotateLeft.data.toList.drop 71 = dktJ5_rotateLeft_3 := dk_seg dksJ5_rotateLeft_2 23 rfl rfl
theorem dksJ5_rotateLeft_4 : cJ5_rotateLeft.data.toList.drop 95 = dktJ5_rotateLeft_4 := dk_seg dksJ5_rotateLeft_3 24 rfl rfl
theorem dJ5_rotateLeft_0 : decode cJ5_rotateLeft 0 = .ok (.aload_n 1, 1) := dk_43 (dk_at dksJ5_rotateLeft_0 0 rfl rfl)
theorem dJ5_rotateLeft_1 : decode cJ5_rotateLeft 1 = .ok (.ifnull 94, 3) := dk_198 0 94 (dk_at dksJ5_rotateLeft_0 1 rfl rfl)
theorem dJ5_rotateLeft_4 : decode cJ5_rotateLeft 4 = .ok (.aload_n 1, 1) := dk_43 (dk_at dksJ5_rotateLeft_0 4 rfl rfl)
theorem dJ5_rotateLeft_5 : decode cJ5_rotateLeft 5 = .ok (.getfield 114, 3) := dk_180 0 114 (dk_at dksJ5_rotateLeft_0 5 rfl rfl)
theorem dJ5_rotateLeft_8 : decode cJ5_rotateLeft 8 = .ok (.astore_n 2, 1) := dk_77 (dk_at dksJ5_rotateLeft_0 8 rfl rfl)
theorem dJ5_rotateLeft_9 : decode cJ5_rotateLeft 9 = .ok (.aload_n 1, 1) := dk_43 (dk_at dksJ5_rotateLeft_0 9 rfl rfl)
theorem dJ5_rotateLeft_10 : decode cJ5_rotateLeft 10 = .ok (.aload_n 2, 1) := dk_44 (dk_at dksJ5_rotateLeft_0 10 rfl rfl)
theorem dJ5_rotateLeft_11 : decode cJ5_rotateLeft 11 = .ok (.getfield 111, 3) := dk_180 0 111 (dk_at dksJ5_rotateLeft_0 11 rfl rfl)
theorem dJ5_rotateLeft_14 : decode cJ5_rotateLeft 14 = .ok (.putfield 114, 3) := dk_181 0 114 (dk_at dksJ5_rotateLeft_0 14 rfl rfl)
theorem dJ5_rotateLeft_17 : decode cJ5_rotateLeft 17 = .ok (.aload_n 2, 1) := dk_44 (dk_at dksJ5_rotateLeft_0 17 rfl rfl)
theorem dJ5_rotateLeft_18 : decode cJ5_rotateLeft 18 = .ok (.getfield 111, 3) := dk_180 0 111 (dk_at dksJ5_rotateLeft_0 18 rfl rfl)
theorem dJ5_rotateLeft_21 : decode cJ5_rotateLeft 21 = .ok (.ifnull 11, 3) := dk_198 0 11 (dk_at dksJ5_rotateLeft_0 21 rfl rfl)
theorem dJ5_rotateLeft_24 : decode cJ5_rotateLeft 24 = .ok (.aload_n 2, 1) := dk_44 (dk_at dksJ5_rotateLeft_1 0 rfl rfl)
theorem dJ5_rotateLeft_25 : decode cJ5_rotateLeft 25 = .ok (.getfield 111, 3) := dk_180 0 111 (dk_at dksJ5_rotateLeft_1 1 rfl rfl)
theorem dJ5_rotateLeft_28 : decode cJ5_rotateLeft 28 = .ok (.aload_n 1, 1) := dk_43 (dk_at dksJ5_rotateLeft_1 4 rfl rfl)
theorem dJ5_rotateLeft_29 : decode cJ5_rotateLeft 29 = .ok (.putfield 124, 3) := dk_181 0 124 (dk_at dksJ5_rotateLeft_1 5 rfl rfl)
theorem dJ5_rotateLeft_32 : decode cJ5_rotateLeft 32 = .ok (.aload_n 2, 1) := dk_44 (dk_at dksJ5_rotateLeft_1 8 rfl rfl)
theorem dJ5_rotateLeft_33 : decode cJ5_rotateLeft 33 = .ok (.aload_n 1, 1) := dk_43 (dk_at dksJ5_rotateLeft_1 9 rfl rfl)
theorem dJ5_rotateLeft_34 : decode cJ5_rotateLeft 34 = .ok (.getfield 124, 3) := dk_180 0 124 (dk_at dksJ5_rotateLeft_1 10 rfl rfl)
theorem dJ5_rotateLeft_37 : decode cJ5_rotateLeft 37 = .ok (.putfield 124, 3) := dk_181 0 124 (dk_at dksJ5_rotateLeft_1 13 rfl rfl)
theorem dJ5_rotateLeft_40 : decode cJ5_rotateLeft 40 = .ok (.aload_n 1, 1) := dk_43 (dk_at dksJ5_rotateLeft_1 16 rfl rfl)
theorem dJ5_rotateLeft_41 : decode cJ5_rotateLeft 41 = .ok (.getfield 124, 3) := dk_180 0 124 (dk_at dksJ5_rotateLeft_1 17 rfl rfl)
theorem dJ5_rotateLeft_44 : decode cJ5_rotateLeft 44 = .ok (.ifnonnull 11, 3) := dk_199 0 11 (dk_at dksJ5_rotateLeft_1 20 rfl rfl)
theorem dJ5_rotateLeft_47 : decode cJ5_rotateLeft 47 = .ok (.aload_n 0, 1) := dk_42 (dk_at dksJ5_rotateLeft_1 23 rfl rfl)
theorem dJ5_rotateLeft_48 : decode cJ5_rotateLeft 48 = .ok (.aload_n 2, 1) := dk_44 (dk_at dksJ5_rotateLeft_2 0 rfl rfl)
theorem dJ5_rotateLeft_49 : decode cJ5_rotateLeft 49 = .ok (.putfield 101, 3) := dk_181 0 101 (dk_at dksJ5_rotateLeft_2 1 rfl rfl)
theorem dJ5_rotateLeft_52 : decode cJ5_rotateLeft 52 = .ok (.goto 33, 3) := dk_167 0 33 (dk_at dksJ5_rotateLeft_2 4 rfl rfl)
theorem dJ5_rotateLeft_55 : decode cJ5_rotateLeft 55 = .ok (.aload_n 1, 1) := dk_43 (dk_at dksJ5_rotateLeft_2 7 rfl rfl)
theorem dJ5_rotateLeft_56 : decode cJ5_rotateLeft 56 = .ok (.getfield 124, 3) := dk_180 0 124 (dk_at dksJ5_rotateLeft_2 8 rfl rfl)
theorem dJ5_rotateLeft_59 : decode cJ5_rotateLeft 59 = .ok (.getfield 111, 3) := dk_180 0 111 (dk_at dksJ5_rotateLeft_2 11 rfl rfl)
theorem dJ5_rotateLeft_62 : decode cJ5_rotateLeft 62 = .ok (.aload_n 1, 1) := dk_43 (dk_at dksJ5_rotateLeft_2 14 rfl rfl)
theorem dJ5_rotateLeft_63 : decode cJ5_rotateLeft 63 = .ok (.if_acmp .ne 14, 3) := dk_166 0 14 (dk_at dksJ5_rotateLeft_2 15 rfl rfl)
theorem dJ5_rotateLeft_66 : decode cJ5_rotateLeft 66 = .ok (.aload_n 1, 1) := dk_43 (dk_at dksJ5_rotateLeft_2 18 rfl rfl)
theorem dJ5_rotateLeft_67 : decode cJ5_rotateLeft 67 = .ok (.getfield 124, 3) := dk_180 0 124 (dk_at dksJ5_rotateLeft_2 19 rfl rfl)
theorem dJ5_rotateLeft_70 : decode cJ5_rotateLeft 70 = .ok (.aload_n 2, 1) := dk_44 (dk_at dksJ5_rotateLeft_2 22 rfl rfl)
theorem dJ5_rotateLeft_71 : decode cJ5_rotateLeft 71 = .ok (.putfield 111, 3) := dk_181 0 111 (dk_at dksJ5_rotateLeft_3 0 rfl rfl)
theorem dJ5_rotateLeft_74 : decode cJ5_rotateLeft 74 = .ok (.goto 11, 3) := dk_167 0 11 (dk_at dksJ5_rotateLeft_3 3 rfl rfl)
theorem dJ5_rotateLeft_77 : decode cJ5_rotateLeft 77 = .ok (.aload_n 1, 1) := dk_43 (dk_at dksJ5_rotateLeft_3 6 rfl rfl)
theorem dJ5_rotateLeft_78 : decode cJ5_rotateLeft 78 = .ok (.getfield 124, 3) := dk_180 0 124 (dk_at dksJ5_rotateLeft_3 7 rfl rfl)
theorem dJ5_rotateLeft_81 : decode cJ5_rotateLeft 81 = .ok (.aload_n 2, 1) := dk_44 (dk_at dksJ5_rotateLeft_3 10 rfl rfl)
theorem dJ5_rotateLeft_82 : decode cJ5_rotateLeft 82 = .ok (.putfield 114, 3) := dk_181 0 114 (dk_at dksJ5_rotateLeft_3 11 rfl rfl)
theorem dJ5_rotateLeft_85 : decode cJ5_rotateLeft 85 = .ok (.aload_n 2, 1) := dk_44 (dk_at dksJ5_rotateLeft_3 14 rfl rfl)
theorem dJ5_rotateLeft_86 : decode cJ5_rotateLeft 86 = .ok (.aload_n 1, 1) := dk_43 (dk_at dksJ5_rotateLeft_3 15 rfl rfl)
theorem dJ5_rotateLeft_87 : decode cJ5_rotateLeft 87 = .ok (.putfield 111, 3) := dk_181 0 111 (dk_at dksJ5_rotateLeft_3 16 rfl rfl)
theorem dJ5_rotateLeft_90 : decode cJ5_rotateLeft 90 = .ok (.aload_n 1, 1) := dk_43 (dk_at dksJ5_rotateLeft_3 19 rfl rfl)
theorem dJ5_rotateLeft_91 : decode cJ5_rotateLeft 91 = .ok (.aload_n 2, 1) := dk_44 (dk_at dksJ5_rotateLeft_3 20 rfl rfl)
theorem dJ5_rotateLeft_92 : decode cJ5_rotateLeft 92 = .ok (.putfield 124, 3) := dk_181 0 124 (dk_at dksJ5_rotateLeft_3 21 rfl rfl)
theorem dJ5_rotateLeft_95 : decode cJ5_rotateLeft 95 = .ok (.return_, 1) := dk_177 (dk_at dksJ5_rotateLeft_4 0 rfl rfl)
def dkwJ5_rotateRight_4 : List UInt8 := [177]
abbrev dktJ5_rotateRight_4 : List UInt8 := dkwJ5_rotateRight_4 ++ []
def dkwJ5_rotateRight_3 : List UInt8 := [181, 0, 114, 167, 0, 11, 43, 180, 0, 124, 44, 181, 0, 111, 44, 43, 181, 0, 114, 43, 44, 181, 0, 124]
abbrev dktJ5_rotateRight_3 : List UInt8 := dkwJ5_rotateRight_3 ++ dktJ5_rotateRight_4
def dkwJ5_rotateRight_2 : List UInt8 := [44, 181, 0, 101, 167, 0, 33, 43, 180, 0, 124, 180, 0, 114, 43, 166, 0, 14, 43, 180, 0, 124, 44]
abbrev dktJ5_rotateRight_2 : List UInt8 := dkwJ5_rotateRight_2 ++ dktJ5_rotateRight_3
def dkwJ5_rotateRight_1 : List UInt8 := [44, 180, 0, 114, 43, 181, 0, 124, 44, 43, 180, 0, 124, 181, 0, 124, 43, 180, 0, 124, 199, 0, 11, 42]
abbrev dktJ5_rotateRight_1 : List UInt8 := dkwJ5_rotateRight_1 ++ dktJ5_rotateRight_2
def dkwJ5_rotateRight_0 : List UInt8 := [43, 198, 0, 94, 43, 180, 0, 111, 77, 43, 44, 180, 0, 114, 181, 0, 111, 44, 180, 0, 114, 198, 0, 11]
abbrev dktJ5_rotateRight_0 : List UInt8 := dkwJ5_rotateRight_0 ++ dktJ5_rotateRight_1
theorem dksJ5_rotateRight_0 : cJ5_rotateRight.data.toList.drop 0 = dktJ5_rotateRight_0 := by decide +kernel
theorem dksJ5_rotateRight_1 : cJ5_rotateRight.data.toList.drop 24 = dktJ5_rotateRight_1 := dk_seg dksJ5_rotateRight_0 24 rfl rfl
theorem dksJ5_rotateRight_2 : cJ5_rotateRight.data.toList.drop 48 = dktJ5_rotateRight_2 := dk_seg dksJ5_rotateRight_1 24 rfl rfl
theorem dksJ5_rotateRight_3 : cJ5_rotateRight.data.toList.drop 71 = dktJ5_rotateRight_3 := dk_seg dksJ5_rotateRight_2 23 rfl rfl
theorem dksJ5_rotateRight_4 : cJ5_rotateRight.data.toList.drop 95 = dktJ5_rotateRight_4 := dk_seg dksJ5_rotateRight_3 24 rfl rfl
theorem dJ5_rotateRight_0 : decode cJ5_rotateRight 0 = .ok (.aload_n 1, 1) := dk_43 (dk_at dksJ5_rotateRight_0 0 rfl rfl)
theorem dJ5_rotateRight_1 : decode cJ5_rotateRight 1 = .ok (.ifnull 94, 3) := dk_198 0 94 (dk_at dksJ5_rotateRight_0 1 rfl rfl)
theorem dJ5_rotateRight_4 : decode cJ5_rotateRight 4 = .ok (.aload_n 1, 1) := dk_43 (dk_at dksJ5_rotateRight_0 4 rfl rfl)
theorem dJ5_rotateRight_5 : decode cJ5_rotateRight 5 = .ok (.getfield 111, 3) := dk_180 0 111 (dk_at dksJ5_rotateRight_0 5 rfl rfl)
theorem dJ5_rotateRight_8 : decode cJ5_rotateRight 8 = .ok (.astore_n 2, 1) := dk_77 (dk_at dksJ5_rotateRight_0 8 rfl rfl)
theorem dJ5_rotateRight_9 : decode cJ5_rotateRight 9 = .ok (.aload_n 1, 1) := dk_43 (dk_at dksJ5_rotateRight_0 9 rfl rfl)
theorem dJ5_rotateRight_10 : decode cJ5_rotateRight 10 = .ok (.aload_n 2, 1) := dk_44 (dk_at dksJ5_rotateRight_0 10 rfl rfl)
theorem dJ5_rotateRight_11 : decode cJ5_rotateRight 11 = .ok (.getfield 114, 3) := dk_180 0 114 (dk_at dksJ5_rotateRight_0 11 rfl rfl)
theorem dJ5_rotateRight_14 : decode cJ5_rotateRight 14 = .ok (.putfield 111, 3) := dk_181 0 111 (dk_at dksJ5_rotateRight_0 14 rfl rfl)
theorem dJ5_rotateRight_17 : decode cJ5_rotateRight 17 = .ok (.aload_n 2, 1) := dk_44 (dk_at dksJ5_rotateRight_0 17 rfl rfl)
theorem dJ5_rotateRight_18 : decode cJ5_rotateRight 18 = .ok (.getfield 114, 3) := dk_180 0 114 (dk_at dksJ5_rotateRight_0 18 rfl rfl)
theorem dJ5_rotateRight_21 : decode cJ5_rotateRight 21 = .ok (.ifnull 11, 3) := dk_198 0 11 (dk_at dksJ5_rotateRight_0 21 rfl rfl)
theorem dJ5_rotateRight_24 : decode cJ5_rotateRight 24 = .ok (.aload_n 2, 1) := dk_44 (dk_at dksJ5_rotateRight_1 0 rfl rfl)
theorem dJ5_rotateRight_25 : decode cJ5_rotateRight 25 = .ok (.getfield 114, 3) := dk_180 0 114 (dk_at dksJ5_rotateRight_1 1 rfl rfl)
theorem dJ5_rotateRight_28 : decode cJ5_rotateRight 28 = .ok (.aload_n 1, 1) := dk_43 (dk_at dksJ5_rotateRight_1 4 rfl rfl)
theorem dJ5_rotateRight_29 : decode cJ5_rotateRight 29 = .ok (.putfield 124, 3) := dk_181 0 124 (dk_at dksJ5_rotateRight_1 5 rfl rfl)
theorem dJ5_rotateRight_32 : decode cJ5_rotateRight 32 = .ok (.aload_n 2, 1) := dk_44 (dk_at dksJ5_rotateRight_1 8 rfl rfl)
theorem dJ5_rotateRight_33 : decode cJ5_rotateRight 33 = .ok (.aload_n 1, 1) := dk_43 (dk_at dksJ5_rotateRight_1 9 rfl rfl)
theorem dJ5_rotateRight_34 : decode cJ5_rotateRight 34 = .ok (.getfield 124, 3) := dk_180 0 124 (dk_at dksJ5_rotateRight_1 10 rfl rfl)
theorem dJ5_rotateRight_37 : decode cJ5_rotateRight 37 = .ok (.putfield 124, 3) := dk_181 0 124 (dk_at dksJ5_rotateRight_1 13 rfl rfl)
theorem dJ5_rotateRight_40 : decode cJ5_rotateRight 40 = .ok (.aload_n 1, 1) := dk_43 (dk_at dksJ5_rotateRight_1 16 rfl rfl)
theorem dJ5_rotateRight_41 : decode cJ5_rotateRight 41 = .ok (.getfield 124, 3) := dk_180 0 124 (dk_at dksJ5_rotateRight_1 17 rfl rfl)
theorem dJ5_rotateRight_44 : decode cJ5_rotateRight 44 = .ok (.ifnonnull 11, 3) := dk_199 0 11 (dk_at dksJ5_rotateRight_1 20 rfl rfl)
theorem dJ5_rotateRight_47 : decode cJ5_rotateRight 47 = .ok (.aload_n 0, 1) := dk_42 (dk_at dksJ5_rotateRight_1 23 rfl rfl)
theorem dJ5_rotateRight_48 : decode cJ5_rotateRight 48 = .ok (.aload_n 2, 1) := dk_44 (dk_at dksJ5_rotateRight_2 0 rfl rfl)
theorem dJ5_rotateRight_49 : decode cJ5_rotateRight 49 = .ok (.putfield 101, 3) := dk_181 0 101 (dk_at dksJ5_rotateRight_2 1 rfl rfl)
theorem dJ5_rotateRight_52 : decode cJ5_rotateRight 52 = .ok (.goto 33, 3) := dk_167 0 33 (dk_at dksJ5_rotateRight_2 4 rfl rfl)
theorem dJ5_rotateRight_55 : decode cJ5_rotateRight 55 = .ok (.aload_n 1, 1) := dk_43 (dk_at dksJ5_rotateRight_2 7 rfl rfl)
theorem dJ5_rotateRight_56 : decode cJ5_rotateRight 56 = .ok (.getfield 124, 3) := dk_180 0 124 (dk_at dksJ5_rotateRight_2 8 rfl rfl)
theorem dJ5_rotateRight_59 : decode cJ5_rotateRight 59 = .ok (.getfield 114, 3) := dk_180 0 114 (dk_at dksJ5_rotateRight_2 11 rfl rfl)
theorem dJ5_rotateRight_62 : decode cJ5_rotateRight 62 = .ok (.aload_n 1, 1) := dk_43 (dk_at dksJ5_rotateRight_2 14 rfl rfl)
theorem dJ5_rotateRight_63 : decode cJ5_rotateRight 63 = .ok (.if_acmp .ne 14, 3) := dk_166 0 14 (dk_at dksJ5_rotateRight_2 15 rfl rfl)
theorem dJ5_rotateRight_66 : decode cJ5_rotateRight 66 = .ok (.aload_n 1, 1) := dk_43 (dk_at dksJ5_rotateRight_2 18 rfl rfl)
theorem dJ5_rotateRight_67 : decode cJ5_rotateRight 67 = .ok (.getfield 124, 3) := dk_180 0 124 (dk_at dksJ5_rotateRight_2 19 rfl rfl)
theorem dJ5_rotateRight_70 : decode cJ5_rotateRight 70 = .ok (.aload_n 2, 1) := dk_44 (dk_at dksJ5_rotateRight_2 22 rfl rfl)
theorem dJ5_rotateRight_71 : decode cJ5_rotateRight 71 = .ok (.putfield 114, 3) := dk_181 0 114 (dk_at dksJ5_rotateRight_3 0 rfl rfl)
theorem dJ5_rotateRight_74 : decode cJ5_rotateRight 74 = .ok (.goto 11, 3) := dk_167 0 11 (dk_at dksJ5_rotateRight_3 3 rfl rfl)
theorem dJ5_rotateRight_77 : decode cJ5_rotateRight 77 = .ok (.aload_n 1, 1) := dk_43 (dk_at dksJ5_rotateRight_3 6 rfl rfl)
theorem dJ5_rotateRight_78 : decode cJ5_rotateRight 78 = .ok (.getfield 124, 3) := dk_180 0 124 (dk_at dksJ5_rotateRight_3 7 rfl rfl)
theorem dJ5_rotateRight_81 : decode cJ5_rotateRight 81 = .ok (.aload_n 2, 1) := dk_44 (dk_at dksJ5_rotateRight_3 10 rfl rfl)
theorem dJ5_rotateRight_82 : decode cJ5_rotateRight 82 = .ok (.putfield 111, 3) := dk_181 0 111 (dk_at dksJ5_rotateRight_3 11 rfl rfl)
theorem dJ5_rotateRight_85 : decode cJ5_rotateRight 85 = .ok (.aload_n 2, 1) := dk_44 (dk_at dksJ5_rotateRight_3 14 rfl rfl)
theorem dJ5_rotateRight_86 : decode cJ5_rotateRight 86 = .ok (.aload_n 1, 1) := dk_43 (dk_at dksJ5_rotateRight_3 15 rfl rfl)
theorem dJ5_rotateRight_87 : decode cJ5_rotateRight 87 = .ok (.putfield 114, 3) := dk_181 0 114 (dk_at dksJ5_rotateRight_3 16 rfl rfl)
theorem dJ5_rotateRight_90 : decode cJ5_rotateRight 90 = .ok (.aload_n 1, 1) := dk_43 (dk_at dksJ5_rotateRight_3 19 rfl rfl)
theorem dJ5_rotateRight_91 : decode cJ5_rotateRight 91 = .ok (.aload_n 2, 1) := dk_44 (dk_at dksJ5_rotateRight_3 20 rfl rfl)
theorem dJ5_rotateRight_92 : decode cJ5_rotateRight 92 = .ok (.putfield 124, 3) := dk_181 0 124 (dk_at dksJ5_rotateRight_3 21 rfl rfl)
theorem dJ5_rotateRight_95 : decode cJ5_rotateRight 95 = .ok (.return_, 1) := dk_177 (dk_at dksJ5_rotateRight_4 0 rfl rfl)
def dkwJ5_get_0 : List UInt8 := [42, 43, 182, 0, 50, 77, 44, 199, 0, 7, 1, 167, 0, 7, 44, 180, 0, 58, 176]
abbrev dktJ5_get_0 : List UInt8 := dkwJ5_get_0 ++ []
theorem dksJ5_get_0 : cJ5_get.data.toList.drop 0 = dktJ5_get_0 := by decide +kernel
theorem dJ5_get_0 : decode cJ5_get 0 = .ok (.aload_n 0, 1) := dk_42 (dk_at dksJ5_get_0 0 rfl rfl)
theorem dJ5_get_1 : decode cJ5_get 1 = .ok (.aload_n 1, 1) := dk_43 (dk_at dksJ5_get_0 1 rfl rfl)
theorem dJ5_get_2 : decode cJ5_get 2 = .ok (.invokevirtual 50, 3) := dk_182 0 50 (dk_at dksJ5_get_0 2 rfl rfl)
theorem dJ5_get_5 : decode cJ5_get 5 = .ok (.astore_n 2, 1) := dk_77 (dk_at dksJ5_get_0 5 rfl rfl)
theorem dJ5_get_6 : decode cJ5_get 6 = .ok (.aload_n 2, 1) := dk_44 (dk_at dksJ5_get_0 6 rfl rfl)
theorem dJ5_get_7 : decode cJ5_get 7 = .ok (.ifnonnull 7, 3) := dk_199 0 7 (dk_at dksJ5_get_0 7 rfl rfl)
theorem dJ5_get_10 : decode cJ5_get 10 = .ok (.aconst_null, 1) := dk_1 (dk_at dksJ5_get_0 10 rfl rfl)
theorem dJ5_get_11 : decode cJ5_get 11 = .ok (.goto 7, 3) := dk_167 0 7 (dk_at dksJ5_get_0 11 rfl rfl)
theorem dJ5_get_14 : decode cJ5_get 14 = .ok (.aload_n 2, 1) := dk_44 (dk_at dksJ5_get_0 14 rfl rfl)
theorem dJ5_get_15 : decode cJ5_get 15 = .ok (.getfield 58, 3) := dk_180 0 58 (dk_at dksJ5_get_0 15 rfl rfl)
theorem dJ5_get_18 : decode cJ5_get 18 = .ok (.areturn, 1) := dk_176 (dk_at dksJ5_get_0 18 rfl rfl)
def dkwJ5_getEntry_3 : List UInt8 := [45, 176, 167, 255, 212, 1, 176]
abbrev dktJ5_getEntry_3 : List UInt8 := dkwJ5_getEntry_3 ++ []
def dkwJ5_getEntry_2 : List UInt8 := [156, 0, 11, 45, 180, 0, 111, 78, 167, 0, 18, 21, 4, 158, 0, 11, 45, 180, 0, 114, 78, 167, 0, 5]
abbrev dktJ5_getEntry_2 : List UInt8 := dkwJ5_getEntry_2 ++ dktJ5_getEntry_3
def dkwJ5_getEntry_1 : List UInt8 := [180, 0, 101, 78, 45, 198, 0, 46, 44, 45, 180, 0, 105, 185, 0, 107, 2, 0, 54, 4, 21, 4]
abbrev dktJ5_getEntry_1 : List UInt8 := dkwJ5_getEntry_1 ++ dktJ5_getEntry_2
def dkwJ5_getEntry_0 : List UInt8 := [42, 180, 0, 16, 198, 0, 9, 42, 43, 182, 0, 92, 176, 43, 184, 0, 95, 87, 43, 192, 0, 99, 77, 42]
abbrev dktJ5_getEntry_0 : List UInt8 := dkwJ5_getEntry_0 ++ dktJ5_getEntry_1
theorem dksJ5_getEntry_0 : cJ5_getEntry.data.toList.drop 0 = dktJ5_getEntry_0 := by decide +kernel
theorem dksJ5_getEntry_1 : cJ5_getEntry.data.toList.drop 24 = dktJ5_getEntry_1 := dk_seg dksJ5_getEntry_0 24 rfl rfl
theorem dksJ5_getEntry_2 : cJ5_getEntry.data.toList.drop 46 = dktJ5_getEntry_2 := dk_seg dksJ5_getEntry_1 22 rfl rfl
theorem dksJ5_getEntry_3 : cJ5_getEntry.data.toList.drop 70 = dktJ5_getEntry_3 := dk_seg dksJ5_getEntry_2 24 rfl rfl
theorem dJ5_getEntry_0 : decode cJ5_getEntry 0 = .ok (.aload_n 0, 1) := dk_42 (dk_at dksJ5_getEntry_0 0 rfl rfl)
theorem dJ5_getEntry_1 : decode cJ5_getEntry 1 = .ok (.getfield 16, 3) := dk_180 0 16 (dk_at dksJ5_getEntry_0 1 rfl rfl)
theorem dJ5_getEntry_4 : decode cJ5_getEntry 4 = .ok (.ifnull 9, 3) := dk_198 0 9 (dk_at dksJ5_getEntry_0 4 rfl rfl)
theorem dJ5_getEntry_7 : decode cJ5_getEntry 7 = .ok (.aload_n 0, 1) := dk_42 (dk_at dksJ5_getEntry_0 7 rfl rfl)
theorem dJ5_getEntry_8 : decode cJ5_getEntry 8 = .ok (.aload_n 1, 1) := dk_43 (dk_at dksJ5_getEntry_0 8 rfl rfl)
theorem dJ5_getEntry_9 : decode cJ5_getEntry 9 = .ok (.invokevirtual 92, 3) := dk_182 0 92 (dk_at dksJ5_getEntry_0 9 rfl rfl)
theorem dJ5_getEntry_12 : decode cJ5_getEntry 12 = .ok (.areturn, 1) := dk_176 (dk_at dksJ5_getEntry_0 12 rfl rfl)
theorem dJ5_getEntry_13 : decode cJ5_getEntry 13 = .ok (.aload_n 1, 1) := dk_43 (dk_at dksJ5_getEntry_0 13 rfl rfl)
theorem dJ5_getEntry_14 : decode cJ5_getEntry 14 = .ok (.invokestatic 95, 3) := dk_184 0 95 (dk_at dksJ5_getEntry_0 14 rfl rfl)
theorem dJ5_getEntry_17 : decode cJ5_getEntry 17 = .ok (.pop, 1) := dk_87 (dk_at dksJ5_getEntry_0 17 rfl rfl)
theorem dJ5_getEntry_18 : decode cJ5_getEntry 18 = .ok (.aload_n 1, 1) := dk_43 (dk_at dksJ5_getEntry_0 18 rfl rfl)
theorem dJ5_getEntry_19 : decode cJ5_getEntry 19 = .ok (.checkcast 99, 3) := dk_192 0 99 (dk_at dksJ5_getEntry_0 19 rfl rfl)
theorem dJ5_getEntry_22 : decode cJ5_getEntry 22 = .ok (.astore_n 2, 1) := dk_77 (dk_at dksJ5_getEntry_0 22 rfl rfl)
theorem dJ5_getEntry_23 : decode cJ5_getEntry 23 = .ok (.aload_n 0, 1) := dk_42 (dk_at dksJ5_getEntry_0 23 rfl rfl)
theorem dJ5_getEntry_24 : decode cJ5_getEntry 24 = .ok (.getfield 101, 3) := dk_180 0 101 (dk_at dksJ5_getEntry_1 0 rfl rfl)
theorem dJ5_getEntry_27 : decode cJ5_getEntry 27 = .ok (.astore_n 3, 1) := dk_78 (dk_at dksJ5_getEntry_1 3 rfl rfl)
theorem dJ5_getEntry_28 : decode cJ5_getEntry 28 = .ok (.aload_n 3, 1) := dk_45 (dk_at dksJ5_getEntry_1 4 rfl rfl)
theorem dJ5_getEntry_29 : decode cJ5_getEntry 29 = .ok (.ifnull 46, 3) := dk_198 0 46 (dk_at dksJ5_getEntry_1 5 rfl rfl)
theorem dJ5_getEntry_32 : decode cJ5_getEntry 32 = .ok (.aload_n 2, 1) := dk_44 (dk_at dksJ5_getEntry_1 8 rfl rfl)
theorem dJ5_getEntry_33 : decode cJ5_getEntry 33 = .ok (.aload_n 3, 1) := dk_45 (dk_at dksJ5_getEntry_1 9 rfl rfl)
theorem dJ5_getEntry_34 : decode cJ5_getEntry 34 = .ok (.getfield 105, 3) := dk_180 0 105 (dk_at dksJ5_getEntry_1 10 rfl rfl)
theorem dJ5_getEntry_37 : decode cJ5_getEntry 37 = .ok (.invokeinterface 107 2, 5) := by decide +kernel
theorem dJ5_getEntry_42 : decode cJ5_getEntry 42 = .ok (.istore 4, 2) := dk_54 4 (dk_at dksJ5_getEntry_1 18 rfl rfl)
theorem dJ5_getEntry_44 : decode cJ5_getEntry 44 = .ok (.iload 4, 2) := dk_21 4 (dk_at dksJ5_getEntry_1 20 rfl rfl)
theorem dJ5_getEntry_46 : decode cJ5_getEntry 46 = .ok (.ifCond .ge 11, 3) := dk_156 0 11 (dk_at dksJ5_getEntry_2 0 rfl rfl)
theorem dJ5_getEntry_49 : decode cJ5_getEntry 49 = .ok (.aload_n 3, 1) := dk_45 (dk_at dksJ5_getEntry_2 3 rfl rfl)
theorem dJ5_getEntry_50 : decode cJ5_getEntry 50 = .ok (.getfield 111, 3) := dk_180 0 111 (dk_at dksJ5_getEntry_2 4 rfl rfl)
theorem dJ5_getEntry_53 : decode cJ5_getEntry 53 = .ok (.astore_n 3, 1) := dk_78 (dk_at dksJ5_getEntry_2 7 rfl rfl)
theorem dJ5_getEntry_54 : decode cJ5_getEntry 54 = .ok (.goto 18, 3) := dk_167 0 18 (dk_at dksJ5_getEntry_2 8 rfl rfl)
theorem dJ5_getEntry_57 : decode cJ5_getEntry 57 = .ok (.iload 4, 2) := dk_21 4 (dk_at dksJ5_getEntry_2 11 rfl rfl)
theorem dJ5_getEntry_59 : decode cJ5_getEntry 59 = .ok (.ifCond .le 11, 3) := dk_158 0 11 (dk_at dksJ5_getEntry_2 13 rfl rfl)
theorem dJ5_getEntry_62 : decode cJ5_getEntry 62 = .ok (.aload_n 3, 1) := dk_45 (dk_at dksJ5_getEntry_2 16 rfl rfl)
theorem dJ5_getEntry_63 : decode cJ5_getEntry 63 = .ok (.getfield 114, 3) := dk_180 0 114 (dk_at dksJ5_getEntry_2 17 rfl rfl)
theorem dJ5_getEntry_66 : decode cJ5_getEntry 66 = .ok (.astore_n 3, 1) := dk_78 (dk_at dksJ5_getEntry_2 20 rfl rfl)
theorem dJ5_getEntry_67 : decode cJ5_getEntry 67 = .ok (.goto 5, 3) := dk_167 0 5 (dk_at dksJ5_getEntry_2 21 rfl rfl)
theorem dJ5_getEntry_70 : decode cJ5_getEntry 70 = .ok (.aload_n 3, 1) := dk_45 (dk_at dksJ5_getEntry_3 0 rfl rfl)
theorem dJ5_getEntry_71 : decode cJ5_getEntry 71 = .ok (.areturn, 1) := dk_176 (dk_at dksJ5_getEntry_3 1 rfl rfl)
theorem dJ5_getEntry_72 : decode cJ5_getEntry 72 = .ok (.goto (-44), 3) := dk_167 255 212 (dk_at dksJ5_getEntry_3 2 rfl rfl)
theorem dJ5_getEntry_75 : decode cJ5_getEntry 75 = .ok (.aconst_null, 1) := dk_1 (dk_at dksJ5_getEntry_3 5 rfl rfl)
theorem dJ5_getEntry_76 : decode cJ5_getEntry 76 = .ok (.areturn, 1) := dk_176 (dk_at dksJ5_getEntry_3 6 rfl rfl)
def dkwJ5_getEntryUsingComparator_3 : List UInt8 := [1, 176]
abbrev dktJ5_getEntryUsingComparator_3 : List UInt8 := dkwJ5_getEntryUsingComparator_3 ++ []
def dkwJ5_getEntryUsingComparator_2 : List UInt8 := [167, 0, 21, 21, 5, 158, 0, 13, 25, 4, 180, 0, 114, 58, 4, 167, 0, 6, 25, 4, 176, 167, 255, 204]
abbrev dktJ5_getEntryUsingComparator_2 : List UInt8 := dkwJ5_getEntryUsingComparator_2 ++ dktJ5_getEntryUsingComparator_3
def dkwJ5_getEntryUsingComparator_1 : List UInt8 := [25, 4, 180, 0, 105, 185, 0, 117, 3, 0, 54, 5, 21, 5, 156, 0, 13, 25, 4, 180, 0, 111, 58, 4]
abbrev dktJ5_getEntryUsingComparator_1 : List UInt8 := dkwJ5_getEntryUsingComparator_1 ++ dktJ5_getEntryUsingComparator_2
def dkwJ5_getEntryUsingComparator_0 : List UInt8 := [43, 77, 42, 180, 0, 16, 78, 45, 198, 0, 64, 42, 180, 0, 101, 58, 4, 25, 4, 198, 0, 53, 45, 44]
abbrev dktJ5_getEntryUsingComparator_0 : List UInt8 := dkwJ5_getEntryUsingComparator_0 ++ dktJ5_getEntryUsingComparator_1
theorem dksJ5_getEntryUsingComparator_0 : cJ5_getEntryUsingComparator.data.toList.drop 0 = dktJ5_getEntryUsingComparator_0 := by decide +kernel
theorem dksJ5_getEntryUsingComparator_1 : cJ5_getEntryUsingComparator.data.toList.drop 24 = dktJ5_getEntryUsingComparator_1 := dk_seg dksJ5_getEntryUsingComparator_0 24 rfl rfl
theorem dksJ5_getEntryUsingComparator_2 : cJ5_getEntryUsingComparator.data.toList.drop 48 = dktJ5_getEntryUsingComparator_2 := dk_seg dksJ5_getEntryUsingComparator_1 24 rfl rfl
theorem dksJ5_getEntryUsingComparator_3 : cJ5_getEntryUsingComparator.data.toList.drop 72 = dktJ5_getEntryUsingComparator_3 := dk_seg dksJ5_getEntryUsingComparator_2 24 rfl rfl
theorem dJ5_getEntryUsingComparator_0 : decode cJ5_getEntryUsingComparator 0 = .ok (.aload_n 1, 1) := dk_43 (dk_at dksJ5_getEntryUsingComparator_0 0 rfl rfl)
theorem dJ5_getEntryUsingComparator_1 : decode cJ5_getEntryUsingComparator 1 = .ok (.astore_n 2, 1) := dk_77 (dk_at dksJ5_getEntryUsingComparator_0 1 rfl rfl)
theorem dJ5_getEntryUsingComparator_2 : decode cJ5_getEntryUsingComparator 2 = .ok (.aload_n 0, 1) := dk_42 (dk_at dksJ5_getEntryUsingComparator_0 2 rfl rfl)
theorem dJ5_getEntryUsingComparator_3 : decode cJ5_getEntryUsingComparator 3 = .ok (.getfield 16, 3) := dk_180 0 16 (dk_at dksJ5_getEntryUsingComparator_0 3 rfl rfl)
theorem dJ5_getEntryUsingComparator_6 : decode cJ5_getEntryUsingComparator 6 = .ok (.astore_n 3, 1) := dk_78 (dk_at dksJ5_getEntryUsingComparator_0 6 rfl rfl)
theorem dJ5_getEntryUsingComparator_7 : decode cJ5_getEntryUsingComparator 7 = .ok (.aload_n 3, 1) := dk_45 (dk_at dksJ5_getEntryUsingComparator_0 7 rfl rfl)
theorem dJ5_getEntryUsingComparator_8 : decode cJ5_getEntryUsingComparator 8 = .ok (.ifnull 64, 3) := dk_198 0 64 (dk_at dksJ5_getEntryUsingComparator_0 8 rfl rfl)
theorem dJ5_getEntryUsingComparator_11 : decode cJ5_getEntryUsingComparator 11 = .ok (.aload_n 0, 1) := dk_42 (dk_at dksJ5_getEntryUsingComparator_0 11 rfl rfl)
theorem dJ5_getEntryUsingComparator_12 : decode cJ5_getEntryUsingComparator 12 = .ok (.getfield 101, 3) := dk_180 0 101 (dk_at dksJ5_getEntryUsingComparator_0 12 rfl rfl)
theorem dJ5_getEntryUsingComparator_15 : decode cJ5_getEntryUsingComparator 15 = .ok (.astore 4, 2) := dk_58 4 (dk_at dksJ5_getEntryUsingComparator_0 15 rfl rfl)
theorem dJ5_getEntryUsingComparator_17 : decode cJ5_getEntryUsingComparator 17 = .ok (.aload 4, 2) := dk_25 4 (dk_at dksJ5_getEntryUsingComparator_0 17 rfl rfl)
theorem dJ5_getEntryUsingComparator_19 : decode cJ5_getEntryUsingComparator 19 = .ok (.ifnull 53, 3) := dk_198 0 53 (dk_at dksJ5_getEntryUsingComparator_0 19 rfl rfl)
theorem dJ5_getEntryUsingComparator_22 : decode cJ5_getEntryUsingComparator 22 = .ok (.aload_n 3, 1) := dk_45 (dk_at dksJ5_getEntryUsingComparator_0 22 rfl rfl)
theorem dJ5_getEntryUsingComparator_23 : decode cJ5_getEntryUsingComparator 23 = .ok (.aload_n 2, 1) := dk_44 (dk_at dksJ5_getEntryUsingComparator_0 23 rfl rfl)
theorem dJ5_getEntryUsingComparator_24 : decode cJ5_getEntryUsingComparator 24 = .ok (.aload 4, 2) := dk_25 4 (dk_at dksJ5_getEntryUsingComparator_1 0 rfl rfl)
theorem dJ5_getEntryUsingComparator_26 : decode cJ5_getEntryUsingComparator 26 = .ok (.getfield 105, 3) := dk_180 0 105 (dk_at dksJ5_getEntryUsingComparator_1 2 rfl rfl)
theorem dJ5_getEntryUsingComparator_29 : decode cJ5_getEntryUsingComparator 29 = .ok (.invokeinterface 117 3, 5) := by decide +kernel
theorem dJ5_getEntryUsingComparator_34 : decode cJ5_getEntryUsingComparator 34 = .ok (.istore 5, 2) := dk_54 5 (dk_at dksJ5_getEntryUsingComparator_1 10 rfl rfl)
theorem dJ5_getEntryUsingComparator_36 : decode cJ5_getEntryUsingComparator 36 = .ok (.iload 5, 2) := dk_21 5 (dk_at dksJ5_getEntryUsingComparator_1 12 rfl rfl)
theorem dJ5_getEntryUsingComparator_38 : decode cJ5_getEntryUsingComparator 38 = .ok (.ifCond .ge 13, 3) := dk_156 0 13 (dk_at dksJ5_getEntryUsingComparator_1 14 rfl rfl)
theorem dJ5_getEntryUsingComparator_41 : decode cJ5_getEntryUsingComparator 41 = .ok (.aload 4, 2) := dk_25 4 (dk_at dksJ5_getEntryUsingComparator_1 17 rfl rfl)
theorem dJ5_getEntryUsingComparator_43 : decode cJ5_getEntryUsingComparator 43 = .ok (.getfield 111, 3) := dk_180 0 111 (dk_at dksJ5_getEntryUsingComparator_1 19 rfl rfl)
theorem dJ5_getEntryUsingComparator_46 : decode cJ5_getEntryUsingComparator 46 = .ok (.astore 4, 2) := dk_58 4 (dk_at dksJ5_getEntryUsingComparator_1 22 rfl rfl)
theorem dJ5_getEntryUsingComparator_48 : decode cJ5_getEntryUsingComparator 48 = .ok (.goto 21, 3) := dk_167 0 21 (dk_at dksJ5_getEntryUsingComparator_2 0 rfl rfl)
theorem dJ5_getEntryUsingComparator_51 : decode cJ5_getEntryUsingComparator 51 = .ok (.iload 5, 2) := dk_21 5 (dk_at dksJ5_getEntryUsingComparator_2 3 rfl rfl)
theorem dJ5_getEntryUsingComparator_53 : decode cJ5_getEntryUsingComparator 53 = .ok (.ifCond .le 13, 3) := dk_158 0 13 (dk_at dksJ5_getEntryUsingComparator_2 5 rfl rfl)
theorem dJ5_getEntryUsingComparator_56 : decode cJ5_getEntryUsingComparator 56 = .ok (.aload 4, 2) := dk_25 4 (dk_at dksJ5_getEntryUsingComparator_2 8 rfl rfl)
theorem dJ5_getEntryUsingComparator_58 : decode cJ5_getEntryUsingComparator 58 = .ok (.getfield 114, 3) := dk_180 0 114 (dk_at dksJ5_getEntryUsingComparator_2 10 rfl rfl)
theorem dJ5_getEntryUsingComparator_61 : decode cJ5_getEntryUsingComparator 61 = .ok (.astore 4, 2) := dk_58 4 (dk_at dksJ5_getEntryUsingComparator_2 13 rfl rfl)
theorem dJ5_getEntryUsingComparator_63 : decode cJ5_getEntryUsingComparator 63 = .ok (.goto 6, 3) := dk_167 0 6 (dk_at dksJ5_getEntryUsingComparator_2 15 rfl rfl)
theorem dJ5_getEntryUsingComparator_66 : decode cJ5_getEntryUsingComparator 66 = .ok (.aload 4, 2) := dk_25 4 (dk_at dksJ5_getEntryUsingComparator_2 18 rfl rfl)
theorem dJ5_getEntryUsingComparator_68 : decode cJ5_getEntryUsingComparator 68 = .ok (.areturn, 1) := dk_176 (dk_at dksJ5_getEntryUsingComparator_2 20 rfl rfl)
theorem dJ5_getEntryUsingComparator_69 : decode cJ5_getEntryUsingComparator 69 = .ok (.goto (-52), 3) := dk_167 255 204 (dk_at dksJ5_getEntryUsingComparator_2 21 rfl rfl)
theorem dJ5_getEntryUsingComparator_72 : decode cJ5_getEntryUsingComparator 72 = .ok (.aconst_null, 1) := dk_1 (dk_at dksJ5_getEntryUsingComparator_3 0 rfl rfl)
theorem dJ5_getEntryUsingComparator_73 : decode cJ5_getEntryUsingComparator 73 = .ok (.areturn, 1) := dk_176 (dk_at dksJ5_getEntryUsingComparator_3 1 rfl rfl)
def dkwJ5_floorKey_0 : List UInt8 := [42, 43, 182, 0, 210, 184, 0, 207, 176]
abbrev dktJ5_floorKey_0 : List UInt8 := dkwJ5_floorKey_0 ++ []
theorem dksJ5_floorKey_0 : cJ5_floorKey.data.toList.drop 0 = dktJ5_floorKey_0 := by decide +kernel
theorem dJ5_floorKey_0 : decode cJ5_floorKey 0 = .ok (.aload_n 0, 1) := dk_42 (dk_at dksJ5_floorKey_0 0 rfl rfl)
theorem dJ5_floorKey_1 : decode cJ5_floorKey 1 = .ok (.aload_n 1, 1) := dk_43 (dk_at dksJ5_floorKey_0 1 rfl rfl)
theorem dJ5_floorKey_2 : decode cJ5_floorKey 2 = .ok (.invokevirtual 210, 3) := dk_182 0 210 (dk_at dksJ5_floorKey_0 2 rfl rfl)
theorem dJ5_floorKey_5 : decode cJ5_floorKey 5 = .ok (.invokestatic 207, 3) := dk_184 0 207 (dk_at dksJ5_floorKey_0 5 rfl rfl)
theorem dJ5_floorKey_8 : decode cJ5_floorKey 8 = .ok (.areturn, 1) := dk_176 (dk_at dksJ5_floorKey_0 8 rfl rfl)
def dkwJ5_getFloorEntry_4 : List UInt8 := [167, 255, 230, 25, 4, 176, 44, 176, 167, 255, 159, 1, 176]
abbrev dktJ5_getFloorEntry_4 : List UInt8 := dkwJ5_getFloorEntry_4 ++ []
def dkwJ5_getFloorEntry_3 : List UInt8 := [198, 0, 27, 25, 5, 25, 4, 180, 0, 111, 166, 0, 17, 25, 4, 58, 5, 25, 4, 180, 0, 124, 58, 4]
abbrev dktJ5_getFloorEntry_3 : List UInt8 := dkwJ5_getFloorEntry_3 ++ dktJ5_getFloorEntry_4
def dkwJ5_getFloorEntry_2 : List UInt8 := [198, 0, 11, 44, 180, 0, 111, 77, 167, 0, 46, 44, 180, 0, 124, 58, 4, 44, 58, 5, 25, 4]
abbrev dktJ5_getFloorEntry_2 : List UInt8 := dkwJ5_getFloorEntry_2 ++ dktJ5_getFloorEntry_3
def dkwJ5_getFloorEntry_1 : List UInt8 := [180, 0, 114, 198, 0, 11, 44, 180, 0, 114, 77, 167, 0, 67, 44, 176, 29, 156, 0, 59, 44, 180, 0, 111]
abbrev dktJ5_getFloorEntry_1 : List UInt8 := dkwJ5_getFloorEntry_1 ++ dktJ5_getFloorEntry_2
def dkwJ5_getFloorEntry_0 : List UInt8 := [42, 180, 0, 101, 77, 44, 198, 0, 99, 42, 43, 44, 180, 0, 105, 182, 0, 123, 62, 29, 158, 0, 20, 44]
abbrev dktJ5_getFloorEntry_0 : List UInt8 := dkwJ5_getFloorEntry_0 ++ dktJ5_getFloorEntry_1
theorem dksJ5_getFloorEntry_0 : cJ5_getFloorEntry.data.toList.drop 0 = dktJ5_getFloorEntry_0 := by decide +kernel
theorem dksJ5_getFloorEntry_1 : cJ5_getFloorEntry.data.toList.drop 24 = dktJ5_getFloorEntry_1 := dk_seg dksJ5_getFloorEntry_0 24 rfl rfl
theorem dksJ5_getFloorEntry_2 : cJ5_getFloorEntry.data.toList.drop 48 = dktJ5_getFloorEntry_2 := dk_seg dksJ5_getFloorEntry_1 24 rfl rfl
theorem dksJ5_getFloorEntry_3 : cJ5_getFloorEntry.data.toList.drop 70 = dktJ5_getFloorEntry_3 := dk_seg dksJ5_getFloorEntry_2 22 rfl rfl
theorem dksJ5_getFloorEntry_4 : cJ5_getFloorEntry.data.toList.drop 94 = dktJ5_getFloorEntry_4 := dk_seg dksJ5_getFloorEntry_3 24 rfl rfl
theorem dJ5_getFloorEntry_0 : decode cJ5_getFloorEntry 0 = .ok (.aload_n 0, 1) := dk_42 (dk_at dksJ5_getFloorEntry_0 0 rfl rfl)
theorem dJ5_getFloorEntry_1 : decode cJ5_getFloorEntry 1 = .ok (.getfield 101, 3) := dk_180 0 101 (dk_at dksJ5_getFloorEntry_0 1 rfl rfl)
theorem dJ5_getFloorEntry_4 : decode cJ5_getFloorEntry 4 = .ok (.astore_n 2, 1) := dk_77 (dk_at dksJ5_getFloorEntry_0 4 rfl rfl)
theorem dJ5_getFloorEntry_5 : decode cJ5_getFloorEntry 5 = .ok (.aload_n 2, 1) := dk_44 (dk_at dksJ5_getFloorEntry_0 5 rfl rfl)
theorem dJ5_getFloorEntry_6 : decode cJ5_getFloorEntry 6 = .ok (.ifnull 99, 3) := dk_198 0 99 (dk_at dksJ5_getFloorEntry_0 6 rfl rfl)
theorem dJ5_getFloorEntry_9 : decode cJ5_getFloorEntry 9 = .ok (.aload_n 0, 1) := dk_42 (dk_at dksJ5_getFloorEntry_0 9 rfl rfl)
theorem dJ5_getFloorEntry_10 : decode cJ5_getFloorEntry 10 = .ok (.aload_n 1, 1) := dk_43 (dk_at dksJ5_getFloorEntry_0 10 rfl rfl)
theorem dJ5_getFloorEntry_11 : decode cJ5_getFloorEntry 11 = .ok (.aload_n 2, 1) := dk_44 (dk_at dksJ5_getFloorEntry_0 11 rfl rfl)
theorem dJ5_getFloorEntry_12 : decode cJ5_getFloorEntry 12 = .ok (.getfield 105, 3) := dk_180 0 105 (dk_at dksJ5_getFloorEntry_0 12 rfl rfl)
theorem dJ5_getFloorEntry_15 : decode cJ5_getFloorEntry 15 = .ok (.invokevirtual 123, 3) := dk_182 0 123 (dk_at dksJ5_getFloorEntry_0 15 rfl rfl)
theorem dJ5_getFloorEntry_18 : decode cJ5_getFloorEntry 18 = .ok (.istore_n 3, 1) := dk_62 (dk_at dksJ5_getFloorEntry_0 18 rfl rfl)
theorem dJ5_getFloorEntry_19 : decode cJ5_getFloorEntry 19 = .ok (.iload_n 3, 1) := dk_29 (dk_at dksJ5_getFloorEntry_0 19 rfl rfl)
theorem dJ5_getFloorEntry_20 : decode cJ5_getFloorEntry 20 = .ok (.ifCond .le 20, 3) := dk_158 0 20 (dk_at dksJ5_getFloorEntry_0 20 rfl rfl)
theorem dJ5_getFloorEntry_23 : decode cJ5_getFloorEntry 23 = .ok (.aload_n 2, 1) := dk_44 (dk_at dksJ5_getFloorEntry_0 23 rfl rfl)
theorem dJ5_getFloorEntry_24 : decode cJ5_getFloorEntry 24 = .ok (.getfield 114, 3) := dk_180 0 114 (dk_at dksJ5_getFloorEntry_1 0 rfl rfl)
theorem dJ5_getFloorEntry_27 : decode cJ5_getFloorEntry 27 = .ok (.ifnull 11, 3) := dk_198 0 11 (dk_at dksJ5_getFloorEntry_1 3 rfl rfl)
theorem dJ5_getFloorEntry_30 : decode cJ5_getFloorEntry 30 = .ok (.aload_n 2, 1) := dk_44 (dk_at dksJ5_getFloorEntry_1 6 rfl rfl)
theorem dJ5_getFloorEntry_31 : decode cJ5_getFloorEntry 31 = .ok (.getfield 114, 3) := dk_180 0 114 (dk_at dksJ5_getFloorEntry_1 7 rfl rfl)
theorem dJ5_getFloorEntry_34 : decode cJ5_getFloorEntry 34 = .ok (.astore_n 2, 1) := dk_77 (dk_at dksJ5_getFloorEntry_1 10 rfl rfl)
theorem dJ5_getFloorEntry_35 : decode cJ5_getFloorEntry 35 = .ok (.goto 67, 3) := dk_167 0 67 (dk_at dksJ5_getFloorEntry_1 11 rfl rfl)
theorem dJ5_getFloorEntry_38 : decode cJ5_getFloorEntry 38 = .ok (.aload_n 2, 1) := dk_44 (dk_at dksJ5_getFloorEntry_1 14 rfl rfl)
theorem dJ5_getFloorEntry_39 : decode cJ5_getFloorEntry 39 = .ok (.areturn, 1) := dk_176 (dk_at dksJ5_getFloorEntry_1 15 rfl rfl)
theorem dJ5_getFloorEntry_40 : decode cJ5_getFloorEntry 40 = .ok (.iload_n 3, 1) := dk_29 (dk_at dksJ5_getFloorEntry_1 16 rfl rfl)
theorem dJ5_getFloorEntry_41 : decode cJ5_getFloorEntry 41 = .ok (.ifCond .ge 59, 3) := dk_156 0 59 (dk_at dksJ5_getFloorEntry_1 17 rfl rfl)
theorem dJ5_getFloorEntry_44 : decode cJ5_getFloorEntry 44 = .ok (.aload_n 2, 1) := dk_44 (dk_at dksJ5_getFloorEntry_1 20 rfl rfl)
theorem dJ5_getFloorEntry_45 : decode cJ5_getFloorEntry 45 = .ok (.getfield 111, 3) := dk_180 0 111 (dk_at dksJ5_getFloorEntry_1 21 rfl rfl)
theorem dJ5_getFloorEntry_48 : decode cJ5_getFloorEntry 48 = .ok (.ifnull 11, 3) := dk_198 0 11 (dk_at dksJ5_getFloorEntry_2 0 rfl rfl)
theorem dJ5_getFloorEntry_51 : decode cJ5_getFloorEntry 51 = .ok (.aload_n 2, 1) := dk_44 (dk_at dksJ5_getFloorEntry_2 3 rfl rfl)
theorem dJ5_getFloorEntry_52 : decode cJ5_getFloorEntry 52 = .ok (.getfield 111, 3) := dk_180 0 111 (dk_at dksJ5_getFloorEntry_2 4 rfl rfl)
theorem dJ5_getFloorEntry_55 : decode cJ5_getFloorEntry 55 = .ok (.astore_n 2, 1) := dk_77 (dk_at dksJ5_getFloorEntry_2 7 rfl rfl)
theorem dJ5_getFloorEntry_56 : decode cJ5_getFloorEntry 56 = .ok (.goto 46, 3) := dk_167 0 46 (dk_at dksJ5_getFloorEntry_2 8 rfl rfl)
theorem dJ5_getFloorEntry_59 : decode cJ5_getFloorEntry 59 = .ok (.aload_n 2, 1) := dk_44 (dk_at dksJ5_getFloorEntry_2 11 rfl rfl)
theorem dJ5_getFloorEntry_60 : decode cJ5_getFloorEntry 60 = .ok (.getfield 124, 3) := dk_180 0 124 (dk_at dksJ5_getFloorEntry_2 12 rfl rfl)
theorem dJ5_getFloorEntry_63 : decode cJ5_getFloorEntry 63 = .ok (.astore 4, 2) := dk_58 4 (dk_at dksJ5_getFloorEntry_2 15 rfl rfl)
theorem dJ5_getFloorEntry_65 : decode cJ5_getFloorEntry 65 = .ok (.aload_n 2, 1) := dk_44 (dk_at dksJ5_getFloorEntry_2 17 rfl rfl)
theorem dJ5_getFloorEntry_66 : decode cJ5_getFloorEntry 66 = .ok (.astore 5, 2) := dk_58 5 (dk_at dksJ5_getFloorEntry_2 18 rfl rfl)
theorem dJ5_getFloorEntry_68 : decode cJ5_getFloorEntry 68 = .ok (.aload 4, 2) := dk_25 4 (dk_at dksJ5_getFloorEntry_2 20 rfl rfl)
theorem dJ5_getFloorEntry_70 : decode cJ5_getFloorEntry 70 = .ok (.ifnull 27, 3) := dk_198 0 27 (dk_at dksJ5_getFloorEntry_3 0 rfl rfl)
theorem dJ5_getFloorEntry_73 : decode cJ5_getFloorEntry 73 = .ok (.aload 5, 2) := dk_25 5 (dk_at dksJ5_getFloorEntry_3 3 rfl rfl)
theorem dJ5_getFloorEntry_75 : decode cJ5_getFloorEntry 75 = .ok (.aload 4, 2) := dk_25 4 (dk_at dksJ5_getFloorEntry_3 5 rfl rfl)
theorem dJ5_getFloorEntry_77 : decode cJ5_getFloorEntry 77 = .ok (.getfield 111, 3) := dk_180 0 111 (dk_at dksJ5_getFloorEntry_3 7 rfl rfl)
theorem dJ5_getFloorEntry_80 : decode cJ5_getFloorEntry 80 = .ok (.if_acmp .ne 17, 3) := dk_166 0 17 (dk_at dksJ5_getFloorEntry_3 10 rfl rfl)
theorem dJ5_getFloorEntry_83 : decode cJ5_getFloorEntry 83 = .ok (.aload 4, 2) := dk_25 4 (dk_at dksJ5_getFloorEntry_3 13 rfl rfl)
theorem dJ5_getFloorEntry_85 : decode cJ5_getFloorEntry 85 = .ok (.astore 5, 2) := dk_58 5 (dk_at dksJ5_getFloorEntry_3 15 rfl rfl)
theorem dJ5_getFloorEntry_87 : decode cJ5_getFloorEntry 87 = .ok (.aload 4, 2) := dk_25 4 (dk_at dksJ5_getFloorEntry_3 17 rfl rfl)
theorem dJ5_getFloorEntry_89 : decode cJ5_getFloorEntry 89 = .ok (.getfield 124, 3) := dk_180 0 124 (dk_at dksJ5_getFloorEntry_3 19 rfl rfl)
theorem dJ5_getFloorEntry_92 : decode cJ5_getFloorEntry 92 = .ok (.astore 4, 2) := dk_58 4 (dk_at dksJ5_getFloorEntry_3 22 rfl rfl)
theorem dJ5_getFloorEntry_94 : decode cJ5_getFloorEntry 94 = .ok (.goto (-26), 3) := dk_167 255 230 (dk_at dksJ5_getFloorEntry_4 0 rfl rfl)
theorem dJ5_getFloorEntry_97 : decode cJ5_getFloorEntry 97 = .ok (.aload 4, 2) := dk_25 4 (dk_at dksJ5_getFloorEntry_4 3 rfl rfl)
theorem dJ5_getFloorEntry_99 : decode cJ5_getFloorEntry 99 = .ok (.areturn, 1) := dk_176 (dk_at dksJ5_getFloorEntry_4 5 rfl rfl)
theorem dJ5_getFloorEntry_100 : decode cJ5_getFloorEntry 100 = .ok (.aload_n 2, 1) := dk_44 (dk_at dksJ5_getFloorEntry_4 6 rfl rfl)
theorem dJ5_getFloorEntry_101 : decode cJ5_getFloorEntry 101 = .ok (.areturn, 1) := dk_176 (dk_at dksJ5_getFloorEntry_4 7 rfl rfl)
theorem dJ5_getFloorEntry_102 : decode cJ5_getFloorEntry 102 = .ok (.goto (-97), 3) := dk_167 255 159 (dk_at dksJ5_getFloorEntry_4 8 rfl rfl)
theorem dJ5_getFloorEntry_105 : decode cJ5_getFloorEntry 105 = .ok (.aconst_null, 1) := dk_1 (dk_at dksJ5_getFloorEntry_4 11 rfl rfl)
theorem dJ5_getFloorEntry_106 : decode cJ5_getFloorEntry 106 = .ok (.areturn, 1) := dk_176 (dk_at dksJ5_getFloorEntry_4 12 rfl rfl)
def dkwJ5_keyOrNull_0 : List UInt8 := [42, 199, 0, 7, 1, 167, 0, 7, 42, 180, 0, 105, 176]
abbrev dktJ5_keyOrNull_0 : List UInt8 := dkwJ5_keyOrNull_0 ++ []
theorem dksJ5_keyOrNull_0 : cJ5_keyOrNull.data.toList.drop 0 = dktJ5_keyOrNull_0 := by decide +kernel
theorem dJ5_keyOrNull_0 : decode cJ5_keyOrNull 0 = .ok (.aload_n 0, 1) := dk_42 (dk_at dksJ5_keyOrNull_0 0 rfl rfl)
theorem dJ5_keyOrNull_1 : decode cJ5_keyOrNull 1 = .ok (.ifnonnull 7, 3) := dk_199 0 7 (dk_at dksJ5_keyOrNull_0 1 rfl rfl)
theorem dJ5_keyOrNull_4 : decode cJ5_keyOrNull 4 = .ok (.aconst_null, 1) := dk_1 (dk_at dksJ5_keyOrNull_0 4 rfl rfl)
theorem dJ5_keyOrNull_5 : decode cJ5_keyOrNull 5 = .ok (.goto 7, 3) := dk_167 0 7 (dk_at dksJ5_keyOrNull_0 5 rfl rfl)
theorem dJ5_keyOrNull_8 : decode cJ5_keyOrNull 8 = .ok (.aload_n 0, 1) := dk_42 (dk_at dksJ5_keyOrNull_0 8 rfl rfl)
theorem dJ5_keyOrNull_9 : decode cJ5_keyOrNull 9 = .ok (.getfield 105, 3) := dk_180 0 105 (dk_at dksJ5_keyOrNull_0 9 rfl rfl)
theorem dJ5_keyOrNull_12 : decode cJ5_keyOrNull 12 = .ok (.areturn, 1) := dk_176 (dk_at dksJ5_keyOrNull_0 12 rfl rfl)
def dkwJ7_max_0 : List UInt8 := [26, 27, 161, 0, 7, 26, 167, 0, 4, 27, 172]
abbrev dktJ7_max_0 : List UInt8 := dkwJ7_max_0 ++ []
theorem dksJ7_max_0 : cJ7_max.data.toList.drop 0 = dktJ7_max_0 := by decide +kernel
theorem dJ7_max_0 : decode cJ7_max 0 = .ok (.iload_n 0, 1) := dk_26 (dk_at dksJ7_max_0 0 rfl rfl)
theorem dJ7_max_1 : decode cJ7_max 1 = .ok (.iload_n 1, 1) := dk_27 (dk_at dksJ7_max_0 1 rfl rfl)
theorem dJ7_max_2 : decode cJ7_max 2 = .ok (.if_icmp .lt 7, 3) := dk_161 0 7 (dk_at dksJ7_max_0 2 rfl rfl)
theorem dJ7_max_5 : decode cJ7_max 5 = .ok (.iload_n 0, 1) := dk_26 (dk_at dksJ7_max_0 5 rfl rfl)
theorem dJ7_max_6 : decode cJ7_max 6 = .ok (.goto 4, 3) := dk_167 0 4 (dk_at dksJ7_max_0 6 rfl rfl)
theorem dJ7_max_9 : decode cJ7_max 9 = .ok (.iload_n 1, 1) := dk_27 (dk_at dksJ7_max_0 9 rfl rfl)
theorem dJ7_max_10 : decode cJ7_max 10 = .ok (.ireturn, 1) := dk_172 (dk_at dksJ7_max_0 10 rfl rfl)
def dkwJ7_min_0 : List UInt8 := [26, 27, 163, 0, 7, 26, 167, 0, 4, 27, 172]
abbrev dktJ7_min_0 : List UInt8 := dkwJ7_min_0 ++ []
theorem dksJ7_min_0 : cJ7_min.data.toList.drop 0 = dktJ7_min_0 := by decide +kernel
theorem dJ7_min_0 : decode cJ7_min 0 = .ok (.iload_n 0, 1) := dk_26 (dk_at dksJ7_min_0 0 rfl rfl)
theorem dJ7_min_1 : decode cJ7_min 1 = .ok (.iload_n 1, 1) := dk_27 (dk_at dksJ7_min_0 1 rfl rfl)
theorem dJ7_min_2 : decode cJ7_min 2 = .ok (.if_icmp .gt 7, 3) := dk_163 0 7 (dk_at dksJ7_min_0 2 rfl rfl)
theorem dJ7_min_5 : decode cJ7_min 5 = .ok (.iload_n 0, 1) := dk_26 (dk_at dksJ7_min_0 5 rfl rfl)
theorem dJ7_min_6 : decode cJ7_min 6 = .ok (.goto 4, 3) := dk_167 0 4 (dk_at dksJ7_min_0 6 rfl rfl)
theorem dJ7_min_9 : decode cJ7_min 9 = .ok (.iload_n 1, 1) := dk_27 (dk_at dksJ7_min_0 9 rfl rfl)
theorem dJ7_min_10 : decode cJ7_min 10 = .ok (.ireturn, 1) := dk_172 (dk_at dksJ7_min_0 10 rfl rfl)
def dkwJ7_max_2_0 : List UInt8 := [30, 32, 148, 155, 0, 7, 30, 167, 0, 4, 32, 173]
abbrev dktJ7_max_2_0 : List UInt8 := dkwJ7_max_2_0 ++ []
theorem dksJ7_max_2_0 : cJ7_max_2.data.toList.drop 0 = dktJ7_max_2_0 := by decide +kernel
theorem dJ7_max_2_0 : decode cJ7_max_2 0 = .ok (.lload_n 0, 1) := dk_30 (dk_at dksJ7_max_2_0 0 rfl rfl)
theorem dJ7_max_2_1 : decode cJ7_max_2 1 = .ok (.lload_n 2, 1) := dk_32 (dk_at dksJ7_max_2_0 1 rfl rfl)
theorem dJ7_max_2_2 : decode cJ7_max_2 2 = .ok (.lcmp, 1) := dk_148 (dk_at dksJ7_max_2_0 2 rfl rfl)
theorem dJ7_max_2_3 : decode cJ7_max_2 3 = .ok (.ifCond .lt 7, 3) := dk_155 0 7 (dk_at dksJ7_max_2_0 3 rfl rfl)
theorem dJ7_max_2_6 : decode cJ7_max_2 6 = .ok (.lload_n 0, 1) := dk_30 (dk_at dksJ7_max_2_0 6 rfl rfl)
theorem dJ7_max_2_7 : decode cJ7_max_2 7 = .ok (.goto 4, 3) := dk_167 0 4 (dk_at dksJ7_max_2_0 7 rfl rfl)
theorem dJ7_max_2_10 : decode cJ7_max_2 10 = .ok (.lload_n 2, 1) := dk_32 (dk_at dksJ7_max_2_0 10 rfl rfl)
theorem dJ7_max_2_11 : decode cJ7_max_2 11 = .ok (.lreturn, 1) := dk_173 (dk_at dksJ7_max_2_0 11 rfl rfl)
def dkwJ7_min_2_0 : List UInt8 := [30, 32, 148, 157, 0, 7, 30, 167, 0, 4, 32, 173]
abbrev dktJ7_min_2_0 : List UInt8 := dkwJ7_min_2_0 ++ []
theorem dksJ7_min_2_0 : cJ7_min_2.data.toList.drop 0 = dktJ7_min_2_0 := by decide +kernel
theorem dJ7_min_2_0 : decode cJ7_min_2 0 = .ok (.lload_n 0, 1) := dk_30 (dk_at dksJ7_min_2_0 0 rfl rfl)
theorem dJ7_min_2_1 : decode cJ7_min_2 1 = .ok (.lload_n 2, 1) := dk_32 (dk_at dksJ7_min_2_0 1 rfl rfl)
theorem dJ7_min_2_2 : decode cJ7_min_2 2 = .ok (.lcmp, 1) := dk_148 (dk_at dksJ7_min_2_0 2 rfl rfl)
theorem dJ7_min_2_3 : decode cJ7_min_2 3 = .ok (.ifCond .gt 7, 3) := dk_157 0 7 (dk_at dksJ7_min_2_0 3 rfl rfl)
theorem dJ7_min_2_6 : decode cJ7_min_2 6 = .ok (.lload_n 0, 1) := dk_30 (dk_at dksJ7_min_2_0 6 rfl rfl)
theorem dJ7_min_2_7 : decode cJ7_min_2 7 = .ok (.goto 4, 3) := dk_167 0 4 (dk_at dksJ7_min_2_0 7 rfl rfl)
theorem dJ7_min_2_10 : decode cJ7_min_2 10 = .ok (.lload_n 2, 1) := dk_32 (dk_at dksJ7_min_2_0 10 rfl rfl)
theorem dJ7_min_2_11 : decode cJ7_min_2 11 = .ok (.lreturn, 1) := dk_173 (dk_at dksJ7_min_2_0 11 rfl rfl)
def dkwJ7_floorDiv_1 : List UInt8 := [10, 101, 173, 22, 4, 173]
abbrev dktJ7_floorDiv_1 : List UInt8 := dkwJ7_floorDiv_1 ++ []
def dkwJ7_floorDiv_0 : List UInt8 := [30, 32, 109, 55, 4, 30, 32, 131, 9, 148, 156, 0, 17, 22, 4, 32, 105, 30, 148, 153, 0, 8, 22, 4]
abbrev dktJ7_floorDiv_0 : List UInt8 := dkwJ7_floorDiv_0 ++ dktJ7_floorDiv_1
theorem dksJ7_floorDiv_0 : cJ7_floorDiv.data.toList.drop 0 = dktJ7_floorDiv_0 := by decide +kernel
theorem dksJ7_floorDiv_1 : cJ7_floorDiv.data.toList.drop 24 = dktJ7_floorDiv_1 := dk_seg dksJ7_floorDiv_0 24 rfl rfl
theorem dJ7_floorDiv_0 : decode cJ7_floorDiv 0 = .ok (.lload_n 0, 1) := dk_30 (dk_at dksJ7_floorDiv_0 0 rfl rfl)
theorem dJ7_floorDiv_1 : decode cJ7_floorDiv 1 = .ok (.lload_n 2, 1) := dk_32 (dk_at dksJ7_floorDiv_0 1 rfl rfl)
theorem dJ7_floorDiv_2 : decode cJ7_floorDiv 2 = .ok (.ldiv, 1) := dk_109 (dk_at dksJ7_floorDiv_0 2 rfl rfl)
theorem dJ7_floorDiv_3 : decode cJ7_floorDiv 3 = .ok (.lstore 4, 2) := dk_55 4 (dk_at dksJ7_floorDiv_0 3 rfl rfl)
theorem dJ7_floorDiv_5 : decode cJ7_floorDiv 5 = .ok (.lload_n 0, 1) := dk_30 (dk_at dksJ7_floorDiv_0 5 rfl rfl)
theorem dJ7_floorDiv_6 : decode cJ7_floorDiv 6 = .ok (.lload_n 2, 1) := dk_32 (dk_at dksJ7_floorDiv_0 6 rfl rfl)
theorem dJ7_floorDiv_7 : decode cJ7_floorDiv 7 = .ok (.lxor, 1) := dk_131 (dk_at dksJ7_floorDiv_0 7 rfl rfl)
theorem dJ7_floorDiv_8 : decode cJ7_floorDiv 8 = .ok (.lconst 0, 1) := dk_9 (dk_at dksJ7_floorDiv_0 8 rfl rfl)
theorem dJ7_floorDiv_9 : decode cJ7_floorDiv 9 = .ok (.lcmp, 1) := dk_148 (dk_at dksJ7_floorDiv_0 9 rfl rfl)
theorem dJ7_floorDiv_10 : decode cJ7_floorDiv 10 = .ok (.ifCond .ge 17, 3) := dk_156 0 17 (dk_at dksJ7_floorDiv_0 10 rfl rfl)
theorem dJ7_floorDiv_13 : decode cJ7_floorDiv 13 = .ok (.lload 4, 2) := dk_22 4 (dk_at dksJ7_floorDiv_0 13 rfl rfl)
theorem dJ7_floorDiv_15 : decode cJ7_floorDiv 15 = .ok (.lload_n 2, 1) := dk_32 (dk_at dksJ7_floorDiv_0 15 rfl rfl)
theorem dJ7_floorDiv_16 : decode cJ7_floorDiv 16 = .ok (.lmul, 1) := dk_105 (dk_at dksJ7_floorDiv_0 16 rfl rfl)
theorem dJ7_floorDiv_17 : decode cJ7_floorDiv 17 = .ok (.lload_n 0, 1) := dk_30 (dk_at dksJ7_floorDiv_0 17 rfl rfl)
theorem dJ7_floorDiv_18 : decode cJ7_floorDiv 18 = .ok (.lcmp, 1) := dk_148 (dk_at dksJ7_floorDiv_0 18 rfl rfl)
theorem dJ7_floorDiv_19 : decode cJ7_floorDiv 19 = .ok (.ifCond .eq 8, 3) := dk_153 0 8 (dk_at dksJ7_floorDiv_0 19 rfl rfl)
theorem dJ7_floorDiv_22 : decode cJ7_floorDiv 22 = .ok (.lload 4, 2) := dk_22 4 (dk_at dksJ7_floorDiv_0 22 rfl rfl)
theorem dJ7_floorDiv_24 : decode cJ7_floorDiv 24 = .ok (.lconst 1, 1) := dk_10 (dk_at dksJ7_floorDiv_1 0 rfl rfl)
theorem dJ7_floorDiv_25 : decode cJ7_floorDiv 25 = .ok (.lsub, 1) := dk_101 (dk_at dksJ7_floorDiv_1 1 rfl rfl)
theorem dJ7_floorDiv_26 : decode cJ7_floorDiv 26 = .ok (.lreturn, 1) := dk_173 (dk_at dksJ7_floorDiv_1 2 rfl rfl)
theorem dJ7_floorDiv_27 : decode cJ7_floorDiv 27 = .ok (.lload 4, 2) := dk_22 4 (dk_at dksJ7_floorDiv_1 3 rfl rfl)
theorem dJ7_floorDiv_29 : decode cJ7_floorDiv 29 = .ok (.lreturn, 1) := dk_173 (dk_at dksJ7_floorDiv_1 5 rfl rfl)
def dkwJ8_copyOf_0 : List UInt8 := [42, 27, 42, 182, 0, 86, 184, 1, 44, 176]
abbrev dktJ8_copyOf_0 : List UInt8 := dkwJ8_copyOf_0 ++ []
theorem dksJ8_copyOf_0 : cJ8_copyOf.data.toList.drop 0 = dktJ8_copyOf_0 := by decide +kernel
theorem dJ8_copyOf_0 : decode cJ8_copyOf 0 = .ok (.aload_n 0, 1) := dk_42 (dk_at dksJ8_copyOf_0 0 rfl rfl)
theorem dJ8_copyOf_1 : decode cJ8_copyOf 1 = .ok (.iload_n 1, 1) := dk_27 (dk_at dksJ8_copyOf_0 1 rfl rfl)
theorem dJ8_copyOf_2 : decode cJ8_copyOf 2 = .ok (.aload_n 0, 1) := dk_42 (dk_at dksJ8_copyOf_0 2 rfl rfl)
theorem dJ8_copyOf_3 : decode cJ8_copyOf 3 = .ok (.invokevirtual 86, 3) := dk_182 0 86 (dk_at dksJ8_copyOf_0 3 rfl rfl)
theorem dJ8_copyOf_6 : decode cJ8_copyOf 6 = .ok (.invokestatic 300, 3) := dk_184 1 44 (dk_at dksJ8_copyOf_0 6 rfl rfl)
theorem dJ8_copyOf_9 : decode cJ8_copyOf 9 = .ok (.areturn, 1) := dk_176 (dk_at dksJ8_copyOf_0 9 rfl rfl)
def dkwJ8_copyOf_2_1 : List UInt8 := [78, 42, 3, 45, 3, 42, 190, 27, 184, 1, 48, 184, 0, 150, 45, 176]
abbrev dktJ8_copyOf_2_1 : List UInt8 := dkwJ8_copyOf_2_1 ++ []
def dkwJ8_copyOf_2_0 : List UInt8 := [44, 18, 110, 166, 0, 10, 27, 189, 0, 2, 167, 0, 14, 44, 182, 0, 90, 27, 184, 0, 95, 192, 0, 110]
abbrev dktJ8_copyOf_2_0 : List UInt8 := dkwJ8_copyOf_2_0 ++ dktJ8_copyOf_2_1
theorem dksJ8_copyOf_2_0 : cJ8_copyOf_2.data.toList.drop 0 = dktJ8_copyOf_2_0 := by decide +kernel
theorem dksJ8_copyOf_2_1 : cJ8_copyOf_2.data.toList.drop 24 = dktJ8_copyOf_2_1 := dk_seg dksJ8_copyOf_2_0 24 rfl rfl
theorem dJ8_copyOf_2_0 : decode cJ8_copyOf_2 0 = .ok (.aload_n 2, 1) := dk_44 (dk_at dksJ8_copyOf_2_0 0 rfl rfl)
theorem dJ8_copyOf_2_1 : decode cJ8_copyOf_2 1 = .ok (.ldc 110, 2) := dk_18 110 (dk_at dksJ8_copyOf_2_0 1 rfl rfl)
theorem dJ8_copyOf_2_3 : decode cJ8_copyOf_2 3 = .ok (.if_acmp .ne 10, 3) := dk_166 0 10 (dk_at dksJ8_copyOf_2_0 3 rfl rfl)
theorem dJ8_copyOf_2_6 : decode cJ8_copyOf_2 6 = .ok (.iload_n 1, 1) := dk_27 (dk_at dksJ8_copyOf_2_0 6 rfl rfl)
theorem dJ8_copyOf_2_7 : decode cJ8_copyOf_2 7 = .ok (.anewarray 2, 3) := dk_189 0 2 (dk_at dksJ8_copyOf_2_0 7 rfl rfl)
theorem dJ8_copyOf_2_10 : decode cJ8_copyOf_2 10 = .ok (.goto 14, 3) := dk_167 0 14 (dk_at dksJ8_copyOf_2_0 10 rfl rfl)
theorem dJ8_copyOf_2_13 : decode cJ8_copyOf_2 13 = .ok (.aload_n 2, 1) := dk_44 (dk_at dksJ8_copyOf_2_0 13 rfl rfl)
theorem dJ8_copyOf_2_14 : decode cJ8_copyOf_2 14 = .ok (.invokevirtual 90, 3) := dk_182 0 90 (dk_at dksJ8_copyOf_2_0 14 rfl rfl)
theorem dJ8_copyOf_2_17 : decode cJ8_copyOf_2 17 = .ok (.iload_n 1, 1) := dk_27 (dk_at dksJ8_copyOf_2_0 17 rfl rfl)
theorem dJ8_copyOf_2_18 : decode cJ8_copyOf_2 18 = .ok (.invokestatic 95, 3) := dk_184 0 95 (dk_at dksJ8_copyOf_2_0 18 rfl rfl)
theorem dJ8_copyOf_2_21 : decode cJ8_copyOf_2 21 = .ok (.checkcast 110, 3) := dk_192 0 110 (dk_at dksJ8_copyOf_2_0 21 rfl rfl)
theorem dJ8_copyOf_2_24 : decode cJ8_copyOf_2 24 = .ok (.astore_n 3, 1) := dk_78 (dk_at dksJ8_copyOf_2_1 0 rfl rfl)
theorem dJ8_copyOf_2_25 : decode cJ8_copyOf_2 25 = .ok (.aload_n 0, 1) := dk_42 (dk_at dksJ8_copyOf_2_1 1 rfl rfl)
theorem dJ8_copyOf_2_26 : decode cJ8_copyOf_2 26 = .ok (.iconst 0, 1) := dk_3 (dk_at dksJ8_copyOf_2_1 2 rfl rfl)
theorem dJ8_copyOf_2_27 : decode cJ8_copyOf_2 27 = .ok (.aload_n 3, 1) := dk_45 (dk_at dksJ8_copyOf_2_1 3 rfl rfl)
theorem dJ8_copyOf_2_28 : decode cJ8_copyOf_2 28 = .ok (.iconst 0, 1) := dk_3 (dk_at dksJ8_copyOf_2_1 4 rfl rfl)
theorem dJ8_copyOf_2_29 : decode cJ8_copyOf_2 29 = .ok (.aload_n 0, 1) := dk_42 (dk_at dksJ8_copyOf_2_1 5 rfl rfl)
theorem dJ8_copyOf_2_30 : decode cJ8_copyOf_2 30 = .ok (.arraylength, 1) := dk_190 (dk_at dksJ8_copyOf_2_1 6 rfl rfl)
theorem dJ8_copyOf_2_31 : decode cJ8_copyOf_2 31 = .ok (.iload_n 1, 1) := dk_27 (dk_at dksJ8_copyOf_2_1 7 rfl rfl)
theorem dJ8_copyOf_2_32 : decode cJ8_copyOf_2 32 = .ok (.invokestatic 304, 3) := dk_184 1 48 (dk_at dksJ8_copyOf_2_1 8 rfl rfl)
theorem dJ8_copyOf_2_35 : decode cJ8_copyOf_2 35 = .ok (.invokestatic 150, 3) := dk_184 0 150 (dk_at dksJ8_copyOf_2_1 11 rfl rfl)
theorem dJ8_copyOf_2_38 : decode cJ8_copyOf_2 38 = .ok (.aload_n 3, 1) := dk_45 (dk_at dksJ8_copyOf_2_1 14 rfl rfl)
theorem dJ8_copyOf_2_39 : decode cJ8_copyOf_2 39 = .ok (.areturn, 1) := dk_176 (dk_at dksJ8_copyOf_2_1 15 rfl rfl)
def dkwJ8_copyOf_3_1 : List UInt8 := [27, 184, 1, 48, 184, 0, 150, 44, 176]
abbrev dktJ8_copyOf_3_1 : List UInt8 := dkwJ8_copyOf_3_1 ++ []
def dkwJ8_copyOf_3_0 : List UInt8 := [27, 42, 190, 160, 0, 11, 42, 182, 1, 54, 192, 1, 55, 176, 27, 188, 8, 77, 42, 3, 44, 3, 42, 190]
abbrev dktJ8_copyOf_3_0 : List UInt8 := dkwJ8_copyOf_3_0 ++ dktJ8_copyOf_3_1
theorem dksJ8_copyOf_3_0 : cJ8_copyOf_3.data.toList.drop 0 = dktJ8_copyOf_3_0 := by decide +kernel
theorem dksJ8_copyOf_3_1 : cJ8_copyOf_3.data.toList.drop 24 = dktJ8_copyOf_3_1 := dk_seg dksJ8_copyOf_3_0 24 rfl rfl
theorem dJ8_copyOf_3_0 : decode cJ8_copyOf_3 0 = .ok (.iload_n 1, 1) := dk_27 (dk_at dksJ8_copyOf_3_0 0 rfl rfl)
theorem dJ8_copyOf_3_1 : decode cJ8_copyOf_3 1 = .ok (.aload_n 0, 1) := dk_42 (dk_at dksJ8_copyOf_3_0 1 rfl rfl)
theorem dJ8_copyOf_3_2 : decode cJ8_copyOf_3 2 = .ok (.arraylength, 1) := dk_190 (dk_at dksJ8_copyOf_3_0 2 rfl rfl)
theorem dJ8_copyOf_3_3 : decode cJ8_copyOf_3 3 = .ok (.if_icmp .ne 11, 3) := dk_160 0 11 (dk_at dksJ8_copyOf_3_0 3 rfl rfl)
theorem dJ8_copyOf_3_6 : decode cJ8_copyOf_3 6 = .ok (.aload_n 0, 1) := dk_42 (dk_at dksJ8_copyOf_3_0 6 rfl rfl)
theorem dJ8_copyOf_3_7 : decode cJ8_copyOf_3 7 = .ok (.invokevirtual 310, 3) := dk_182 1 54 (dk_at dksJ8_copyOf_3_0 7 rfl rfl)
theorem dJ8_copyOf_3_10 : decode cJ8_copyOf_3 10 = .ok (.checkcast 311, 3) := dk_192 1 55 (dk_at dksJ8_copyOf_3_0 10 rfl rfl)
theorem dJ8_copyOf_3_13 : decode cJ8_copyOf_3 13 = .ok (.areturn, 1) := dk_176 (dk_at dksJ8_copyOf_3_0 13 rfl rfl)
theorem dJ8_copyOf_3_14 : decode cJ8_copyOf_3 14 = .ok (.iload_n 1, 1) := dk_27 (dk_at dksJ8_copyOf_3_0 14 rfl rfl)
theorem dJ8_copyOf_3_15 : decode cJ8_copyOf_3 15 = .ok (.newarray .byte, 2) := dk_188_8 (dk_at dksJ8_copyOf_3_0 15 rfl rfl)
theorem dJ8_copyOf_3_17 : decode cJ8_copyOf_3 17 = .ok (.astore_n 2, 1) := dk_77 (dk_at dksJ8_copyOf_3_0 17 rfl rfl)
theorem dJ8_copyOf_3_18 : decode cJ8_copyOf_3 18 = .ok (.aload_n 0, 1) := dk_42 (dk_at dksJ8_copyOf_3_0 18 rfl rfl)
theorem dJ8_copyOf_3_19 : decode cJ8_copyOf_3 19 = .ok (.iconst 0, 1) := dk_3 (dk_at dksJ8_copyOf_3_0 19 rfl rfl)
theorem dJ8_copyOf_3_20 : decode cJ8_copyOf_3 20 = .ok (.aload_n 2, 1) := dk_44 (dk_at dksJ8_copyOf_3_0 20 rfl rfl)
theorem dJ8_copyOf_3_21 : decode cJ8_copyOf_3 21 = .ok (.iconst 0, 1) := dk_3 (dk_at dksJ8_copyOf_3_0 21 rfl rfl)
theorem dJ8_copyOf_3_22 : decode cJ8_copyOf_3 22 = .ok (.aload_n 0, 1) := dk_42 (dk_at dksJ8_copyOf_3_0 22 rfl rfl)
theorem dJ8_copyOf_3_23 : decode cJ8_copyOf_3 23 = .ok (.arraylength, 1) := dk_190 (dk_at dksJ8_copyOf_3_0 23 rfl rfl)
theorem dJ8_copyOf_3_24 : decode cJ8_copyOf_3 24 = .ok (.iload_n 1, 1) := dk_27 (dk_at dksJ8_copyOf_3_1 0 rfl rfl)
theorem dJ8_copyOf_3_25 : decode cJ8_copyOf_3 25 = .ok (.invokestatic 304, 3) := dk_184 1 48 (dk_at dksJ8_copyOf_3_1 1 rfl rfl)
theorem dJ8_copyOf_3_28 : decode cJ8_copyOf_3 28 = .ok (.invokestatic 150, 3) := dk_184 0 150 (dk_at dksJ8_copyOf_3_1 4 rfl rfl)
theorem dJ8_copyOf_3_31 : decode cJ8_copyOf_3 31 = .ok (.aload_n 2, 1) := dk_44 (dk_at dksJ8_copyOf_3_1 7 rfl rfl)
theorem dJ8_copyOf_3_32 : decode cJ8_copyOf_3 32 = .ok (.areturn, 1) := dk_176 (dk_at dksJ8_copyOf_3_1 8 rfl rfl)
def dkwJ8_copyOfRange_1 : List UInt8 := [176]
abbrev dktJ8_copyOfRange_1 : List UInt8 := dkwJ8_copyOfRange_1 ++ []
def dkwJ8_copyOfRange_0 : List UInt8 := [27, 154, 0, 9, 28, 42, 190, 159, 0, 10, 42, 27, 28, 184, 1, 83, 176, 42, 182, 1, 54, 192, 1, 55]
abbrev dktJ8_copyOfRange_0 : List UInt8 := dkwJ8_copyOfRange_0 ++ dktJ8_copyOfRange_1
theorem dksJ8_copyOfRange_0 : cJ8_copyOfRange.data.toList.drop 0 = dktJ8_copyOfRange_0 := by decide +kernel
theorem dksJ8_copyOfRange_1 : cJ8_copyOfRange.data.toList.drop 24 = dktJ8_copyOfRange_1 := dk_seg dksJ8_copyOfRange_0 24 rfl rfl
theorem dJ8_copyOfRange_0 : decode cJ8_copyOfRange 0 = .ok (.iload_n 1, 1) := dk_27 (dk_at dksJ8_copyOfRange_0 0 rfl rfl)
theorem dJ8_copyOfRange_1 : decode cJ8_copyOfRange 1 = .ok (.ifCond .ne 9, 3) := dk_154 0 9 (dk_at dksJ8_copyOfRange_0 1 rfl rfl)
theorem dJ8_copyOfRange_4 : decode cJ8_copyOfRange 4 = .ok (.iload_n 2, 1) := dk_28 (dk_at dksJ8_copyOfRange_0 4 rfl rfl)
theorem dJ8_copyOfRange_5 : decode cJ8_copyOfRange 5 = .ok (.aload_n 0, 1) := dk_42 (dk_at dksJ8_copyOfRange_0 5 rfl rfl)
theorem dJ8_copyOfRange_6 : decode cJ8_copyOfRange 6 = .ok (.arraylength, 1) := dk_190 (dk_at dksJ8_copyOfRange_0 6 rfl rfl)
theorem dJ8_copyOfRange_7 : decode cJ8_copyOfRange 7 = .ok (.if_icmp .eq 10, 3) := dk_159 0 10 (dk_at dksJ8_copyOfRange_0 7 rfl rfl)
theorem dJ8_copyOfRange_10 : decode cJ8_copyOfRange 10 = .ok (.aload_n 0, 1) := dk_42 (dk_at dksJ8_copyOfRange_0 10 rfl rfl)
theorem dJ8_copyOfRange_11 : decode cJ8_copyOfRange 11 = .ok (.iload_n 1, 1) := dk_27 (dk_at dksJ8_copyOfRange_0 11 rfl rfl)
theorem dJ8_copyOfRange_12 : decode cJ8_copyOfRange 12 = .ok (.iload_n 2, 1) := dk_28 (dk_at dksJ8_copyOfRange_0 12 rfl rfl)
theorem dJ8_copyOfRange_13 : decode cJ8_copyOfRange 13 = .ok (.invokestatic 339, 3) := dk_184 1 83 (dk_at dksJ8_copyOfRange_0 13 rfl rfl)
theorem dJ8_copyOfRange_16 : decode cJ8_copyOfRange 16 = .ok (.areturn, 1) := dk_176 (dk_at dksJ8_copyOfRange_0 16 rfl rfl)
theorem dJ8_copyOfRange_17 : decode cJ8_copyOfRange 17 = .ok (.aload_n 0, 1) := dk_42 (dk_at dksJ8_copyOfRange_0 17 rfl rfl)
theorem dJ8_copyOfRange_18 : decode cJ8_copyOfRange 18 = .ok (.invokevirtual 310, 3) := dk_182 1 54 (dk_at dksJ8_copyOfRange_0 18 rfl rfl)
theorem dJ8_copyOfRange_21 : decode cJ8_copyOfRange 21 = .ok (.checkcast 311, 3) := dk_192 1 55 (dk_at dksJ8_copyOfRange_0 21 rfl rfl)
theorem dJ8_copyOfRange_24 : decode cJ8_copyOfRange 24 = .ok (.areturn, 1) := dk_176 (dk_at dksJ8_copyOfRange_1 0 rfl rfl)
def dkwJ8_copyOfRangeByte_1 : List UInt8 := [184, 1, 48, 184, 0, 150, 25, 4, 176]
abbrev dktJ8_copyOfRangeByte_1 : List UInt8 := dkwJ8_copyOfRangeByte_1 ++ []
def dkwJ8_copyOfRangeByte_0 : List UInt8 := [27, 28, 184, 1, 87, 28, 27, 100, 62, 29, 188, 8, 58, 4, 42, 27, 25, 4, 3, 42, 190, 27, 100, 29]
abbrev dktJ8_copyOfRangeByte_0 : List UInt8 := dkwJ8_copyOfRangeByte_0 ++ dktJ8_copyOfRangeByte_1
theorem dksJ8_copyOfRangeByte_0 : cJ8_copyOfRangeByte.data.toList.drop 0 = dktJ8_copyOfRangeByte_0 := by decide +kernel
theorem dksJ8_copyOfRangeByte_1 : cJ8_copyOfRangeByte.data.toList.drop 24 = dktJ8_copyOfRangeByte_1 := dk_seg dksJ8_copyOfRangeByte_0 24 rfl rfl
theorem dJ8_copyOfRangeByte_0 : decode cJ8_copyOfRangeByte 0 = .ok (.iload_n 1, 1) := dk_27 (dk_at dksJ8_copyOfRangeByte_0 0 rfl rfl)
theorem dJ8_copyOfRangeByte_1 : decode cJ8_copyOfRangeByte 1 = .ok (.iload_n 2, 1) := dk_28 (dk_at dksJ8_copyOfRangeByte_0 1 rfl rfl)
theorem dJ8_copyOfRangeByte_2 : decode cJ8_copyOfRangeByte 2 = .ok (.invokestatic 343, 3) := dk_184 1 87 (dk_at dksJ8_copyOfRangeByte_0 2 rfl rfl)
theorem dJ8_copyOfRangeByte_5 : decode cJ8_copyOfRangeByte 5 = .ok (.iload_n 2, 1) := dk_28 (dk_at dksJ8_copyOfRangeByte_0 5 rfl rfl)
theorem dJ8_copyOfRangeByte_6 : decode cJ8_copyOfRangeByte 6 = .ok (.iload_n 1, 1) := dk_27 (dk_at dksJ8_copyOfRangeByte_0 6 rfl rfl)
theorem dJ8_copyOfRangeByte_7 : decode cJ8_copyOfRangeByte 7 = .ok (.isub, 1) := dk_100 (dk_at dksJ8_copyOfRangeByte_0 7 rfl rfl)
theorem dJ8_copyOfRangeByte_8 : decode cJ8_copyOfRangeByte 8 = .ok (.istore_n 3, 1) := dk_62 (dk_at dksJ8_copyOfRangeByte_0 8 rfl rfl)
theorem dJ8_copyOfRangeByte_9 : decode cJ8_copyOfRangeByte 9 = .ok (.iload_n 3, 1) := dk_29 (dk_at dksJ8_copyOfRangeByte_0 9 rfl rfl)
theorem dJ8_copyOfRangeByte_10 : decode cJ8_copyOfRangeByte 10 = .ok (.newarray .byte, 2) := dk_188_8 (dk_at dksJ8_copyOfRangeByte_0 10 rfl rfl)
theorem dJ8_copyOfRangeByte_12 : decode cJ8_copyOfRangeByte 12 = .ok (.astore 4, 2) := dk_58 4 (dk_at dksJ8_copyOfRangeByte_0 12 rfl rfl)
theorem dJ8_copyOfRangeByte_14 : decode cJ8_copyOfRangeByte 14 = .ok (.aload_n 0, 1) := dk_42 (dk_at dksJ8_copyOfRangeByte_0 14 rfl rfl)
theorem dJ8_copyOfRangeByte_15 : decode cJ8_copyOfRangeByte 15 = .ok (.iload_n 1, 1) := dk_27 (dk_at dksJ8_copyOfRangeByte_0 15 rfl rfl)
theorem dJ8_copyOfRangeByte_16 : decode cJ8_copyOfRangeByte 16 = .ok (.aload 4, 2) := dk_25 4 (dk_at dksJ8_copyOfRangeByte_0 16 rfl rfl)
theorem dJ8_copyOfRangeByte_18 : decode cJ8_copyOfRangeByte 18 = .ok (.iconst 0, 1) := dk_3 (dk_at dksJ8_copyOfRangeByte_0 18 rfl rfl)
theorem dJ8_copyOfRangeByte_19 : decode cJ8_copyOfRangeByte 19 = .ok (.aload_n 0, 1) := dk_42 (dk_at dksJ8_copyOfRangeByte_0 19 rfl rfl)
theorem dJ8_copyOfRangeByte_20 : decode cJ8_copyOfRangeByte 20 = .ok (.arraylength, 1) := dk_190 (dk_at dksJ8_copyOfRangeByte_0 20 rfl rfl)
theorem dJ8_copyOfRangeByte_21 : decode cJ8_copyOfRangeByte 21 = .ok (.iload_n 1, 1) := dk_27 (dk_at dksJ8_copyOfRangeByte_0 21 rfl rfl)
theorem dJ8_copyOfRangeByte_22 : decode cJ8_copyOfRangeByte 22 = .ok (.isub, 1) := dk_100 (dk_at dksJ8_copyOfRangeByte_0 22 rfl rfl)
theorem dJ8_copyOfRangeByte_23 : decode cJ8_copyOfRangeByte 23 = .ok (.iload_n 3, 1) := dk_29 (dk_at dksJ8_copyOfRangeByte_0 23 rfl rfl)
theorem dJ8_copyOfRangeByte_24 : decode cJ8_copyOfRangeByte 24 = .ok (.invokestatic 304, 3) := dk_184 1 48 (dk_at dksJ8_copyOfRangeByte_1 0 rfl rfl)
theorem dJ8_copyOfRangeByte_27 : decode cJ8_copyOfRangeByte 27 = .ok (.invokestatic 150, 3) := dk_184 0 150 (dk_at dksJ8_copyOfRangeByte_1 3 rfl rfl)
theorem dJ8_copyOfRangeByte_30 : decode cJ8_copyOfRangeByte 30 = .ok (.aload 4, 2) := dk_25 4 (dk_at dksJ8_copyOfRangeByte_1 6 rfl rfl)
theorem dJ8_copyOfRangeByte_32 : decode cJ8_copyOfRangeByte 32 = .ok (.areturn, 1) := dk_176 (dk_at dksJ8_copyOfRangeByte_1 8 rfl rfl)
def dkwJ8_checkLength_1 : List UInt8 := [182, 0, 50, 27, 182, 0, 54, 182, 0, 61, 183, 0, 65, 191, 177]
abbrev dktJ8_checkLength_1 : List UInt8 := dkwJ8_checkLength_1 ++ []
def dkwJ8_checkLength_0 : List UInt8 := [27, 26, 162, 0, 35, 187, 0, 43, 89, 187, 0, 45, 89, 183, 0, 47, 26, 182, 0, 54, 19, 1, 81]
abbrev dktJ8_checkLength_0 : List UInt8 := dkwJ8_checkLength_0 ++ dktJ8_checkLength_1
theorem dksJ8_checkLength_0 : cJ8_checkLength.data.toList.drop 0 = dktJ8_checkLength_0 := by decide +kernel
theorem dksJ8_checkLength_1 : cJ8_checkLength.data.toList.drop 23 = dktJ8_checkLength_1 := dk_seg dksJ8_checkLength_0 23 rfl rfl
theorem dJ8_checkLength_0 : decode cJ8_checkLength 0 = .ok (.iload_n 1, 1) := dk_27 (dk_at dksJ8_checkLength_0 0 rfl rfl)
theorem dJ8_checkLength_1 : decode cJ8_checkLength 1 = .ok (.iload_n 0, 1) := dk_26 (dk_at dksJ8_checkLength_0 1 rfl rfl)
theorem dJ8_checkLength_2 : decode cJ8_checkLength 2 = .ok (.if_icmp .ge 35, 3) := dk_162 0 35 (dk_at dksJ8_checkLength_0 2 rfl rfl)
theorem dJ8_checkLength_5 : decode cJ8_checkLength 5 = .ok (.new 43, 3) := dk_187 0 43 (dk_at dksJ8_checkLength_0 5 rfl rfl)
theorem dJ8_checkLength_8 : decode cJ8_checkLength 8 = .ok (.dup, 1) := dk_89 (dk_at dksJ8_checkLength_0 8 rfl rfl)
theorem dJ8_checkLength_9 : decode cJ8_checkLength 9 = .ok (.new 45, 3) := dk_187 0 45 (dk_at dksJ8_checkLength_0 9 rfl rfl)
theorem dJ8_checkLength_12 : decode cJ8_checkLength 12 = .ok (.dup, 1) := dk_89 (dk_at dksJ8_checkLength_0 12 rfl rfl)
theorem dJ8_checkLength_13 : decode cJ8_checkLength 13 = .ok (.invokespecial 47, 3) := dk_183 0 47 (dk_at dksJ8_checkLength_0 13 rfl rfl)
theorem dJ8_checkLength_16 : decode cJ8_checkLength 16 = .ok (.iload_n 0, 1) := dk_26 (dk_at dksJ8_checkLength_0 16 rfl rfl)
theorem dJ8_checkLength_17 : decode cJ8_checkLength 17 = .ok (.invokevirtual 54, 3) := dk_182 0 54 (dk_at dksJ8_checkLength_0 17 rfl rfl)
theorem dJ8_checkLength_20 : decode cJ8_checkLength 20 = .ok (.ldc_w 337, 3) := dk_19 1 81 (dk_at dksJ8_checkLength_0 20 rfl rfl)
theorem dJ8_checkLength_23 : decode cJ8_checkLength 23 = .ok (.invokevirtual 50, 3) := dk_182 0 50 (dk_at dksJ8_checkLength_1 0 rfl rfl)
theorem dJ8_checkLength_26 : decode cJ8_checkLength 26 = .ok (.iload_n 1, 1) := dk_27 (dk_at dksJ8_checkLength_1 3 rfl rfl)
theorem dJ8_checkLength_27 : decode cJ8_checkLength 27 = .ok (.invokevirtual 54, 3) := dk_182 0 54 (dk_at dksJ8_checkLength_1 4 rfl rfl)
theorem dJ8_checkLength_30 : decode cJ8_checkLength 30 = .ok (.invokevirtual 61, 3) := dk_182 0 61 (dk_at dksJ8_checkLength_1 7 rfl rfl)
theorem dJ8_checkLength_33 : decode cJ8_checkLength 33 = .ok (.invokespecial 65, 3) := dk_183 0 65 (dk_at dksJ8_checkLength_1 10 rfl rfl)
theorem dJ8_checkLength_36 : decode cJ8_checkLength 36 = .ok (.athrow, 1) := dk_191 (dk_at dksJ8_checkLength_1 13 rfl rfl)
theorem dJ8_checkLength_37 : decode cJ8_checkLength 37 = .ok (.return_, 1) := dk_177 (dk_at dksJ8_checkLength_1 14 rfl rfl)
def dkwJ10_valueOf_1 : List UInt8 := [187, 0, 1, 89, 26, 183, 0, 199, 176]
abbrev dktJ10_valueOf_1 : List UInt8 := dkwJ10_valueOf_1 ++ []
def dkwJ10_valueOf_0 : List UInt8 := [26, 16, 128, 161, 0, 20, 26, 178, 0, 191, 163, 0, 13, 178, 0, 195, 26, 17, 0, 128, 96, 50, 176]
abbrev dktJ10_valueOf_0 : List UInt8 := dkwJ10_valueOf_0 ++ dktJ10_valueOf_1
theorem dksJ10_valueOf_0 : cJ10_valueOf.data.toList.drop 0 = dktJ10_valueOf_0 := by decide +kernel
theorem dksJ10_valueOf_1 : cJ10_valueOf.data.toList.drop 23 = dktJ10_valueOf_1 := dk_seg dksJ10_valueOf_0 23 rfl rfl
theorem dJ10_valueOf_0 : decode cJ10_valueOf 0 = .ok (.iload_n 0, 1) := dk_26 (dk_at dksJ10_valueOf_0 0 rfl rfl)
theorem dJ10_valueOf_1 : decode cJ10_valueOf 1 = .ok (.bipush (-128), 2) := dk_16 128 (dk_at dksJ10_valueOf_0 1 rfl rfl)
theorem dJ10_valueOf_3 : decode cJ10_valueOf 3 = .ok (.if_icmp .lt 20, 3) := dk_161 0 20 (dk_at dksJ10_valueOf_0 3 rfl rfl)
theorem dJ10_valueOf_6 : decode cJ10_valueOf 6 = .ok (.iload_n 0, 1) := dk_26 (dk_at dksJ10_valueOf_0 6 rfl rfl)
theorem dJ10_valueOf_7 : decode cJ10_valueOf 7 = .ok (.getstatic 191, 3) := dk_178 0 191 (dk_at dksJ10_valueOf_0 7 rfl rfl)
theorem dJ10_valueOf_10 : decode cJ10_valueOf 10 = .ok (.if_icmp .gt 13, 3) := dk_163 0 13 (dk_at dksJ10_valueOf_0 10 rfl rfl)
theorem dJ10_valueOf_13 : decode cJ10_valueOf 13 = .ok (.getstatic 195, 3) := dk_178 0 195 (dk_at dksJ10_valueOf_0 13 rfl rfl)
theorem dJ10_valueOf_16 : decode cJ10_valueOf 16 = .ok (.iload_n 0, 1) := dk_26 (dk_at dksJ10_valueOf_0 16 rfl rfl)
theorem dJ10_valueOf_17 : decode cJ10_valueOf 17 = .ok (.sipush 128, 3) := dk_17 0 128 (dk_at dksJ10_valueOf_0 17 rfl rfl)
theorem dJ10_valueOf_20 : decode cJ10_valueOf 20 = .ok (.iadd, 1) := dk_96 (dk_at dksJ10_valueOf_0 20 rfl rfl)
theorem dJ10_valueOf_21 : decode cJ10_valueOf 21 = .ok (.aaload, 1) := dk_50 (dk_at dksJ10_valueOf_0 21 rfl rfl)
theorem dJ10_valueOf_22 : decode cJ10_valueOf 22 = .ok (.areturn, 1) := dk_176 (dk_at dksJ10_valueOf_0 22 rfl rfl)
theorem dJ10_valueOf_23 : decode cJ10_valueOf 23 = .ok (.new 1, 3) := dk_187 0 1 (dk_at dksJ10_valueOf_1 0 rfl rfl)
theorem dJ10_valueOf_26 : decode cJ10_valueOf 26 = .ok (.dup, 1) := dk_89 (dk_at dksJ10_valueOf_1 3 rfl rfl)
theorem dJ10_valueOf_27 : decode cJ10_valueOf 27 = .ok (.iload_n 0, 1) := dk_26 (dk_at dksJ10_valueOf_1 4 rfl rfl)
theorem dJ10_valueOf_28 : decode cJ10_valueOf 28 = .ok (.invokespecial 199, 3) := dk_183 0 199 (dk_at dksJ10_valueOf_1 5 rfl rfl)
theorem dJ10_valueOf_31 : decode cJ10_valueOf 31 = .ok (.areturn, 1) := dk_176 (dk_at dksJ10_valueOf_1 8 rfl rfl)
def dkwJ10_init_0 : List UInt8 := [42, 183, 0, 202, 42, 27, 181, 0, 205, 177]
abbrev dktJ10_init_0 : List UInt8 := dkwJ10_init_0 ++ []
theorem dksJ10_init_0 : cJ10_init.data.toList.drop 0 = dktJ10_init_0 := by decide +kernel
theorem dJ10_init_0 : decode cJ10_init 0 = .ok (.aload_n 0, 1) := dk_42 (dk_at dksJ10_init_0 0 rfl rfl)
theorem dJ10_init_1 : decode cJ10_init 1 = .ok (.invokespecial 202, 3) := dk_183 0 202 (dk_at dksJ10_init_0 1 rfl rfl)
theorem dJ10_init_4 : decode cJ10_init 4 = .ok (.aload_n 0, 1) := dk_42 (dk_at dksJ10_init_0 4 rfl rfl)
theorem dJ10_init_5 : decode cJ10_init 5 = .ok (.iload_n 1, 1) := dk_27 (dk_at dksJ10_init_0 5 rfl rfl)
theorem dJ10_init_6 : decode cJ10_init 6 = .ok (.putfield 205, 3) := dk_181 0 205 (dk_at dksJ10_init_0 6 rfl rfl)
theorem dJ10_init_9 : decode cJ10_init 9 = .ok (.return_, 1) := dk_177 (dk_at dksJ10_init_0 9 rfl rfl)
def dkwJ10_compareTo_0 : List UInt8 := [42, 43, 192, 0, 1, 182, 1, 28, 172]
abbrev dktJ10_compareTo_0 : List UInt8 := dkwJ10_compareTo_0 ++ []
theorem dksJ10_compareTo_0 : cJ10_compareTo.data.toList.drop 0 = dktJ10_compareTo_0 := by decide +kernel
theorem dJ10_compareTo_0 : decode cJ10_compareTo 0 = .ok (.aload_n 0, 1) := dk_42 (dk_at dksJ10_compareTo_0 0 rfl rfl)
theorem dJ10_compareTo_1 : decode cJ10_compareTo 1 = .ok (.aload_n 1, 1) := dk_43 (dk_at dksJ10_compareTo_0 1 rfl rfl)
theorem dJ10_compareTo_2 : decode cJ10_compareTo 2 = .ok (.checkcast 1, 3) := dk_192 0 1 (dk_at dksJ10_compareTo_0 2 rfl rfl)
theorem dJ10_compareTo_5 : decode cJ10_compareTo 5 = .ok (.invokevirtual 284, 3) := dk_182 1 28 (dk_at dksJ10_compareTo_0 5 rfl rfl)
theorem dJ10_compareTo_8 : decode cJ10_compareTo 8 = .ok (.ireturn, 1) := dk_172 (dk_at dksJ10_compareTo_0 8 rfl rfl)
def dkwJ10_compareTo_2_0 : List UInt8 := [42, 180, 0, 205, 43, 180, 0, 205, 184, 1, 3, 172]
abbrev dktJ10_compareTo_2_0 : List UInt8 := dkwJ10_compareTo_2_0 ++ []
theorem dksJ10_compareTo_2_0 : cJ10_compareTo_2.data.toList.drop 0 = dktJ10_compareTo_2_0 := by decide +kernel
theorem dJ10_compareTo_2_0 : decode cJ10_compareTo_2 0 = .ok (.aload_n 0, 1) := dk_42 (dk_at dksJ10_compareTo_2_0 0 rfl rfl)
theorem dJ10_compareTo_2_1 : decode cJ10_compareTo_2 1 = .ok (.getfield 205, 3) := dk_180 0 205 (dk_at dksJ10_compareTo_2_0 1 rfl rfl)
theorem dJ10_compareTo_2_4 : decode cJ10_compareTo_2 4 = .ok (.aload_n 1, 1) := dk_43 (dk_at dksJ10_compareTo_2_0 4 rfl rfl)
theorem dJ10_compareTo_2_5 : decode cJ10_compareTo_2 5 = .ok (.getfield 205, 3) := dk_180 0 205 (dk_at dksJ10_compareTo_2_0 5 rfl rfl)
theorem dJ10_compareTo_2_8 : decode cJ10_compareTo_2 8 = .ok (.invokestatic 259, 3) := dk_184 1 3 (dk_at dksJ10_compareTo_2_0 8 rfl rfl)
theorem dJ10_compareTo_2_11 : decode cJ10_compareTo_2 11 = .ok (.ireturn, 1) := dk_172 (dk_at dksJ10_compareTo_2_0 11 rfl rfl)
def dkwJ10_compare_0 : List UInt8 := [26, 27, 162, 0, 7, 2, 167, 0, 13, 26, 27, 160, 0, 7, 3, 167, 0, 4, 4, 172]
abbrev dktJ10_compare_0 : List UInt8 := dkwJ10_compare_0 ++ []
theorem dksJ10_compare_0 : cJ10_compare.data.toList.drop 0 = dktJ10_compare_0 := by decide +kernel
theorem dJ10_compare_0 : decode cJ10_compare 0 = .ok (.iload_n 0, 1) := dk_26 (dk_at dksJ10_compare_0 0 rfl rfl)
theorem dJ10_compare_1 : decode cJ10_compare 1 = .ok (.iload_n 1, 1) := dk_27 (dk_at dksJ10_compare_0 1 rfl rfl)
theorem dJ10_compare_2 : decode cJ10_compare 2 = .ok (.if_icmp .ge 7, 3) := dk_162 0 7 (dk_at dksJ10_compare_0 2 rfl rfl)
theorem dJ10_compare_5 : decode cJ10_compare 5 = .ok (.iconst (-1), 1) := dk_2 (dk_at dksJ10_compare_0 5 rfl rfl)
theorem dJ10_compare_6 : decode cJ10_compare 6 = .ok (.goto 13, 3) := dk_167 0 13 (dk_at dksJ10_compare_0 6 rfl rfl)
theorem dJ10_compare_9 : decode cJ10_compare 9 = .ok (.iload_n 0, 1) := dk_26 (dk_at dksJ10_compare_0 9 rfl rfl)
theorem dJ10_compare_10 : decode cJ10_compare 10 = .ok (.iload_n 1, 1) := dk_27 (dk_at dksJ10_compare_0 10 rfl rfl)
theorem dJ10_compare_11 : decode cJ10_compare 11 = .ok (.if_icmp .ne 7, 3) := dk_160 0 7 (dk_at dksJ10_compare_0 11 rfl rfl)
theorem dJ10_compare_14 : decode cJ10_compare 14 = .ok (.iconst 0, 1) := dk_3 (dk_at dksJ10_compare_0 14 rfl rfl)
theorem dJ10_compare_15 : decode cJ10_compare 15 = .ok (.goto 4, 3) := dk_167 0 4 (dk_at dksJ10_compare_0 15 rfl rfl)
theorem dJ10_compare_18 : decode cJ10_compare 18 = .ok (.iconst 1, 1) := dk_4 (dk_at dksJ10_compare_0 18 rfl rfl)
theorem dJ10_compare_19 : decode cJ10_compare 19 = .ok (.ireturn, 1) := dk_172 (dk_at dksJ10_compare_0 19 rfl rfl)
def dkwJ10_numberOfLeadingZeros_3 : List UInt8 := [5, 124, 59, 27, 26, 4, 124, 100, 172]
abbrev dktJ10_numberOfLeadingZeros_3 : List UInt8 := dkwJ10_numberOfLeadingZeros_3 ++ []
def dkwJ10_numberOfLeadingZeros_2 : List UInt8 := [124, 59, 26, 16, 16, 161, 0, 10, 132, 1, 252, 26, 7, 124, 59, 26, 7, 161, 0, 10, 132, 1, 254, 26]
abbrev dktJ10_numberOfLeadingZeros_2 : List UInt8 := dkwJ10_numberOfLeadingZeros_2 ++ dktJ10_numberOfLeadingZeros_3
def dkwJ10_numberOfLeadingZeros_1 : List UInt8 := [161, 0, 11, 132, 1, 240, 26, 16, 16, 124, 59, 26, 17, 1, 0, 161, 0, 11, 132, 1, 248, 26, 16, 8]
abbrev dktJ10_numberOfLeadingZeros_1 : List UInt8 := dkwJ10_numberOfLeadingZeros_1 ++ dktJ10_numberOfLeadingZeros_2
def dkwJ10_numberOfLeadingZeros_0 : List UInt8 := [26, 157, 0, 14, 26, 154, 0, 8, 16, 32, 167, 0, 4, 3, 172, 16, 31, 60, 26, 19, 1, 8]
abbrev dktJ10_numberOfLeadingZeros_0 : List UInt8 := dkwJ10_numberOfLeadingZeros_0 ++ dktJ10_numberOfLeadingZeros_1
theorem dksJ10_numberOfLeadingZeros_0 : cJ10_numberOfLeadingZeros.data.toList.drop 0 = dktJ10_numberOfLeadingZeros_0 := by decide +kernel
theorem dksJ10_numberOfLeadingZeros_1 : cJ10_numberOfLeadingZeros.data.toList.drop 22 = dktJ10_numberOfLeadingZeros_1 := dk_seg dksJ10_numberOfLeadingZeros_0 22 rfl rfl
theorem dksJ10_numberOfLeadingZeros_2 : cJ10_numberOfLeadingZeros.data.toList.drop 46 = dktJ10_numberOfLeadingZeros_2 := dk_seg dksJ10_numberOfLeadingZeros_1 24 rfl rfl
theorem dksJ10_numberOfLeadingZeros_3 : cJ10_numberOfLeadingZeros.data.toList.drop 70 = dktJ10_numberOfLeadingZeros_3 := dk_seg dksJ10_numberOfLeadingZeros_2 24 rfl rfl
theorem dJ10_numberOfLeadingZeros_0 : decode cJ10_numberOfLeadingZeros 0 = .ok (.iload_n 0, 1) := dk_26 (dk_at dksJ10_numberOfLeadingZeros_0 0 rfl rfl)
theorem dJ10_numberOfLeadingZeros_1 : decode cJ10_numberOfLeadingZeros 1 = .ok (.ifCond .gt 14, 3) := dk_157 0 14 (dk_at dksJ10_numberOfLeadingZeros_0 1 rfl rfl)
theorem dJ10_numberOfLeadingZeros_4 : decode cJ10_numberOfLeadingZeros 4 = .ok (.iload_n 0, 1) := dk_26 (dk_at dksJ10_numberOfLeadingZeros_0 4 rfl rfl)
theorem dJ10_numberOfLeadingZeros_5 : decode cJ10_numberOfLeadingZeros 5 = .ok (.ifCond .ne 8, 3) := dk_154 0 8 (dk_at dksJ10_numberOfLeadingZeros_0 5 rfl rfl)
theorem dJ10_numberOfLeadingZeros_8 : decode cJ10_numberOfLeadingZeros 8 = .ok (.bipush 32, 2) := dk_16 32 (dk_at dksJ10_numberOfLeadingZeros_0 8 rfl rfl)
theorem dJ10_numberOfLeadingZeros_10 : decode cJ10_numberOfLeadingZeros 10 = .ok (.goto 4, 3) := dk_167 0 4 (dk_at dksJ10_numberOfLeadingZeros_0 10 rfl rfl)
theorem dJ10_numberOfLeadingZeros_13 : decode cJ10_numberOfLeadingZeros 13 = .ok (.iconst 0, 1) := dk_3 (dk_at dksJ10_numberOfLeadingZeros_0 13 rfl rfl)
theorem dJ10_numberOfLeadingZeros_14 : decode cJ10_numberOfLeadingZeros 14 = .ok (.ireturn, 1) := dk_172 (dk_at dksJ10_numberOfLeadingZeros_0 14 rfl rfl)
theorem dJ10_numberOfLeadingZeros_15 : decode cJ10_numberOfLeadingZeros 15 = .ok (.bipush 31, 2) := dk_16 31 (dk_at dksJ10_numberOfLeadingZeros_0 15 rfl rfl)
theorem dJ10_numberOfLeadingZeros_17 : decode cJ10_numberOfLeadingZeros 17 = .ok (.istore_n 1, 1) := dk_60 (dk_at dksJ10_numberOfLeadingZeros_0 17 rfl rfl)
theorem dJ10_numberOfLeadingZeros_18 : decode cJ10_numberOfLeadingZeros 18 = .ok (.iload_n 0, 1) := dk_26 (dk_at dksJ10_numberOfLeadingZeros_0 18 rfl rfl)
theorem dJ10_numberOfLeadingZeros_19 : decode cJ10_numberOfLeadingZeros 19 = .ok (.ldc_w 264, 3) := dk_19 1 8 (dk_at dksJ10_numberOfLeadingZeros_0 19 rfl rfl)
theorem dJ10_numberOfLeadingZeros_22 : decode cJ10_numberOfLeadingZeros 22 = .ok (.if_icmp .lt 11, 3) := dk_161 0 11 (dk_at dksJ10_numberOfLeadingZeros_1 0 rfl rfl)
theorem dJ10_numberOfLeadingZeros_25 : decode cJ10_numberOfLeadingZeros 25 = .ok (.iinc 1 (-16), 3) := dk_132 1 240 (dk_at dksJ10_numberOfLeadingZeros_1 3 rfl rfl)
theorem dJ10_numberOfLeadingZeros_28 : decode cJ10_numberOfLeadingZeros 28 = .ok (.iload_n 0, 1) := dk_26 (dk_at dksJ10_numberOfLeadingZeros_1 6 rfl rfl)
theorem dJ10_numberOfLeadingZeros_29 : decode cJ10_numberOfLeadingZeros 29 = .ok (.bipush 16, 2) := dk_16 16 (dk_at dksJ10_numberOfLeadingZeros_1 7 rfl rfl)
theorem dJ10_numberOfLeadingZeros_31 : decode cJ10_numberOfLeadingZeros 31 = .ok (.iushr, 1) := dk_124 (dk_at dksJ10_numberOfLeadingZeros_1 9 rfl rfl)
theorem dJ10_numberOfLeadingZeros_32 : decode cJ10_numberOfLeadingZeros 32 = .ok (.istore_n 0, 1) := dk_59 (dk_at dksJ10_numberOfLeadingZeros_1 10 rfl rfl)
theorem dJ10_numberOfLeadingZeros_33 : decode cJ10_numberOfLeadingZeros 33 = .ok (.iload_n 0, 1) := dk_26 (dk_at dksJ10_numberOfLeadingZeros_1 11 rfl rfl)
theorem dJ10_numberOfLeadingZeros_34 : decode cJ10_numberOfLeadingZeros 34 = .ok (.sipush 256, 3) := dk_17 1 0 (dk_at dksJ10_numberOfLeadingZeros_1 12 rfl rfl)
theorem dJ10_numberOfLeadingZeros_37 : decode cJ10_numberOfLeadingZeros 37 = .ok (.if_icmp .lt 11, 3) := dk_161 0 11 (dk_at dksJ10_numberOfLeadingZeros_1 15 rfl rfl)
theorem dJ10_numberOfLeadingZeros_40 : decode cJ10_numberOfLeadingZeros 40 = .ok (.iinc 1 (-8), 3) := dk_132 1 248 (dk_at dksJ10_numberOfLeadingZeros_1 18 rfl rfl)
theorem dJ10_numberOfLeadingZeros_43 : decode cJ10_numberOfLeadingZeros 43 = .ok (.iload_n 0, 1) := dk_26 (dk_at dksJ10_numberOfLeadingZeros_1 21 rfl rfl)
theorem dJ10_numberOfLeadingZeros_44 : decode cJ10_numberOfLeadingZeros 44 = .ok (.bipush 8, 2) := dk_16 8 (dk_at dksJ10_numberOfLeadingZeros_1 22 rfl rfl)
theorem dJ10_numberOfLeadingZeros_46 : decode cJ10_numberOfLeadingZeros 46 = .ok (.iushr, 1) := dk_124 (dk_at dksJ10_numberOfLeadingZeros_2 0 rfl rfl)
theorem dJ10_numberOfLeadingZeros_47 : decode cJ10_numberOfLeadingZeros 47 = .ok (.istore_n 0, 1) := dk_59 (dk_at dksJ10_numberOfLeadingZeros_2 1 rfl rfl)
theorem dJ10_numberOfLeadingZeros_48 : decode cJ10_numberOfLeadingZeros 48 = .ok (.iload_n 0, 1) := dk_26 (dk_at dksJ10_numberOfLeadingZeros_2 2 rfl rfl)
theorem dJ10_numberOfLeadingZeros_49 : decode cJ10_numberOfLeadingZeros 49 = .ok (.bipush 16, 2) := dk_16 16 (dk_at dksJ10_numberOfLeadingZeros_2 3 rfl rfl)
theorem dJ10_numberOfLeadingZeros_51 : decode cJ10_numberOfLeadingZeros 51 = .ok (.if_icmp .lt 10, 3) := dk_161 0 10 (dk_at dksJ10_numberOfLeadingZeros_2 5 rfl rfl)
theorem dJ10_numberOfLeadingZeros_54 : decode cJ10_numberOfLeadingZeros 54 = .ok (.iinc 1 (-4), 3) := dk_132 1 252 (dk_at dksJ10_numberOfLeadingZeros_2 8 rfl rfl)
theorem dJ10_numberOfLeadingZeros_57 : decode cJ10_numberOfLeadingZeros 57 = .ok (.iload_n 0, 1) := dk_26 (dk_at dksJ10_numberOfLeadingZeros_2 11 rfl rfl)
theorem dJ10_numberOfLeadingZeros_58 : decode cJ10_numberOfLeadingZeros 58 = .ok (.iconst 4, 1) := dk_7 (dk_at dksJ10_numberOfLeadingZeros_2 12 rfl rfl)
theorem dJ10_numberOfLeadingZeros_59 : decode cJ10_numberOfLeadingZeros 59 = .ok (.iushr, 1) := dk_124 (dk_at dksJ10_numberOfLeadingZeros_2 13 rfl rfl)
theorem dJ10_numberOfLeadingZeros_60 : decode cJ10_numberOfLeadingZeros 60 = .ok (.istore_n 0, 1) := dk_59 (dk_at dksJ10_numberOfLeadingZeros_2 14 rfl rfl)
theorem dJ10_numberOfLeadingZeros_61 : decode cJ10_numberOfLeadingZeros 61 = .ok (.iload_n 0, 1) := dk_26 (dk_at dksJ10_numberOfLeadingZeros_2 15 rfl rfl)
theorem dJ10_numberOfLeadingZeros_62 : decode cJ10_numberOfLeadingZeros 62 = .ok (.iconst 4, 1) := dk_7 (dk_at dksJ10_numberOfLeadingZeros_2 16 rfl rfl)
theorem dJ10_numberOfLeadingZeros_63 : decode cJ10_numberOfLeadingZeros 63 = .ok (.if_icmp .lt 10, 3) := dk_161 0 10 (dk_at dksJ10_numberOfLeadingZeros_2 17 rfl rfl)
theorem dJ10_numberOfLeadingZeros_66 : decode cJ10_numberOfLeadingZeros 66 = .ok (.iinc 1 (-2), 3) := dk_132 1 254 (dk_at dksJ10_numberOfLeadingZeros_2 20 rfl rfl)
theorem dJ10_numberOfLeadingZeros_69 : decode cJ10_numberOfLeadingZeros 69 = .ok (.iload_n 0, 1) := dk_26 (dk_at dksJ10_numberOfLeadingZeros_2 23 rfl rfl)
theorem dJ10_numberOfLeadingZeros_70 : decode cJ10_numberOfLeadingZeros 70 = .ok (.iconst 2, 1) := dk_5 (dk_at dksJ10_numberOfLeadingZeros_3 0 rfl rfl)
theorem dJ10_numberOfLeadingZeros_71 : decode cJ10_numberOfLeadingZeros 71 = .ok (.iushr, 1) := dk_124 (dk_at dksJ10_numberOfLeadingZeros_3 1 rfl rfl)
theorem dJ10_numberOfLeadingZeros_72 : decode cJ10_numberOfLeadingZeros 72 = .ok (.istore_n 0, 1) := dk_59 (dk_at dksJ10_numberOfLeadingZeros_3 2 rfl rfl)
theorem dJ10_numberOfLeadingZeros_73 : decode cJ10_numberOfLeadingZeros 73 = .ok (.iload_n 1, 1) := dk_27 (dk_at dksJ10_numberOfLeadingZeros_3 3 rfl rfl)
theorem dJ10_numberOfLeadingZeros_74 : decode cJ10_numberOfLeadingZeros 74 = .ok (.iload_n 0, 1) := dk_26 (dk_at dksJ10_numberOfLeadingZeros_3 4 rfl rfl)
theorem dJ10_numberOfLeadingZeros_75 : decode cJ10_numberOfLeadingZeros 75 = .ok (.iconst 1, 1) := dk_4 (dk_at dksJ10_numberOfLeadingZeros_3 5 rfl rfl)
theorem dJ10_numberOfLeadingZeros_76 : decode cJ10_numberOfLeadingZeros 76 = .ok (.iushr, 1) := dk_124 (dk_at dksJ10_numberOfLeadingZeros_3 6 rfl rfl)
theorem dJ10_numberOfLeadingZeros_77 : decode cJ10_numberOfLeadingZeros 77 = .ok (.isub, 1) := dk_100 (dk_at dksJ10_numberOfLeadingZeros_3 7 rfl rfl)
theorem dJ10_numberOfLeadingZeros_78 : decode cJ10_numberOfLeadingZeros 78 = .ok (.ireturn, 1) := dk_172 (dk_at dksJ10_numberOfLeadingZeros_3 8 rfl rfl)
def dkwJ10_numberOfTrailingZeros_3 : List UInt8 := [5, 124, 59, 27, 26, 4, 124, 96, 172]
abbrev dktJ10_numberOfTrailingZeros_3 : List UInt8 := dkwJ10_numberOfTrailingZeros_3 ++ []
def dkwJ10_numberOfTrailingZeros_2 : List UInt8 := [124, 59, 26, 16, 16, 164, 0, 10, 132, 1, 4, 26, 7, 124, 59, 26, 7, 164, 0, 10, 132, 1, 2, 26]
abbrev dktJ10_numberOfTrailingZeros_2 : List UInt8 := dkwJ10_numberOfTrailingZeros_2 ++ dktJ10_numberOfTrailingZeros_3
def dkwJ10_numberOfTrailingZeros_1 : List UInt8 := [164, 0, 11, 132, 1, 16, 26, 16, 16, 124, 59, 26, 17, 1, 0, 164, 0, 11, 132, 1, 8, 26, 16, 8]
abbrev dktJ10_numberOfTrailingZeros_1 : List UInt8 := dkwJ10_numberOfTrailingZeros_1 ++ dktJ10_numberOfTrailingZeros_2
def dkwJ10_numberOfTrailingZeros_0 : List UInt8 := [26, 2, 130, 26, 4, 100, 126, 59, 26, 157, 0, 8, 26, 16, 32, 126, 172, 4, 60, 26, 19, 1, 8]
abbrev dktJ10_numberOfTrailingZeros_0 : List UInt8 := dkwJ10_numberOfTrailingZeros_0 ++ dktJ10_numberOfTrailingZeros_1
theorem dksJ10_numberOfTrailingZeros_0 : cJ10_numberOfTrailingZeros.data.toList.drop 0 = dktJ10_numberOfTrailingZeros_0 := by decide +kernel
theorem dksJ10_numberOfTrailingZeros_1 : cJ10_numberOfTrailingZeros.data.toList.drop 23 = dktJ10_numberOfTrailingZeros_1 := dk_seg dksJ10_numberOfTrailingZeros_0 23 rfl rfl
theorem dksJ10_numberOfTrailingZeros_2 : cJ10_numberOfTrailingZeros.data.toList.drop 47 = dktJ10_numberOfTrailingZeros_2 := dk_seg dksJ10_numberOfTrailingZeros_1 24 rfl rfl
theorem dksJ10_numberOfTrailingZeros_3 : cJ10_numberOfTrailingZeros.data.toList.drop 71 = dktJ10_numberOfTrailingZeros_3 := dk_seg dksJ10_numberOfTrailingZeros_2 24 rfl rfl
theorem dJ10_numberOfTrailingZeros_0 : decode cJ10_numberOfTrailingZeros 0 = .ok (.iload_n 0, 1) := dk_26 (dk_at dksJ10_numberOfTrailingZeros_0 0 rfl rfl)
theorem dJ10_numberOfTrailingZeros_1 : decode cJ10_numberOfTrailingZeros 1 = .ok (.iconst (-1), 1) := dk_2 (dk_at dksJ10_numberOfTrailingZeros_0 1 rfl rfl)
theorem dJ10_numberOfTrailingZeros_2 : decode cJ10_numberOfTrailingZeros 2 = .ok (.ixor, 1) := dk_130 (dk_at dksJ10_numberOfTrailingZeros_0 2 rfl rfl)
theorem dJ10_numberOfTrailingZeros_3 : decode cJ10_numberOfTrailingZeros 3 = .ok (.iload_n 0, 1) := dk_26 (dk_at dksJ10_numberOfTrailingZeros_0 3 rfl rfl)
theorem dJ10_numberOfTrailingZeros_4 : decode cJ10_numberOfTrailingZeros 4 = .ok (.iconst 1, 1) := dk_4 (dk_at dksJ10_numberOfTrailingZeros_0 4 rfl rfl)
theorem dJ10_numberOfTrailingZeros_5 : decode cJ10_numberOfTrailingZeros 5 = .ok (.isub, 1) := dk_100 (dk_at dksJ10_numberOfTrailingZeros_0 5 rfl rfl)
theorem dJ10_numberOfTrailingZeros_6 : decode cJ10_numberOfTrailingZeros 6 = .ok (.iand, 1) := dk_126 (dk_at dksJ10_numberOfTrailingZeros_0 6 rfl rfl)
theorem dJ10_numberOfTrailingZeros_7 : decode cJ10_numberOfTrailingZeros 7 = .ok (.istore_n 0, 1) := dk_59 (dk_at dksJ10_numberOfTrailingZeros_0 7 rfl rfl)
theorem dJ10_numberOfTrailingZeros_8 : decode cJ10_numberOfTrailingZeros 8 = .ok (.iload_n 0, 1) := dk_26 (dk_at dksJ10_numberOfTrailingZeros_0 8 rfl rfl)
theorem dJ10_numberOfTrailingZeros_9 : decode cJ10_numberOfTrailingZeros 9 = .ok (.ifCond .gt 8, 3) := dk_157 0 8 (dk_at dksJ10_numberOfTrailingZeros_0 9 rfl rfl)
theorem dJ10_numberOfTrailingZeros_12 : decode cJ10_numberOfTrailingZeros 12 = .ok (.iload_n 0, 1) := dk_26 (dk_at dksJ10_numberOfTrailingZeros_0 12 rfl rfl)
theorem dJ10_numberOfTrailingZeros_13 : decode cJ10_numberOfTrailingZeros 13 = .ok (.bipush 32, 2) := dk_16 32 (dk_at dksJ10_numberOfTrailingZeros_0 13 rfl rfl)
theorem dJ10_numberOfTrailingZeros_15 : decode cJ10_numberOfTrailingZeros 15 = .ok (.iand, 1) := dk_126 (dk_at dksJ10_numberOfTrailingZeros_0 15 rfl rfl)
theorem dJ10_numberOfTrailingZeros_16 : decode cJ10_numberOfTrailingZeros 16 = .ok (.ireturn, 1) := dk_172 (dk_at dksJ10_numberOfTrailingZeros_0 16 rfl rfl)
theorem dJ10_numberOfTrailingZeros_17 : decode cJ10_numberOfTrailingZeros 17 = .ok (.iconst 1, 1) := dk_4 (dk_at dksJ10_numberOfTrailingZeros_0 17 rfl rfl)
theorem dJ10_numberOfTrailingZeros_18 : decode cJ10_numberOfTrailingZeros 18 = .ok (.istore_n 1, 1) := dk_60 (dk_at dksJ10_numberOfTrailingZeros_0 18 rfl rfl)
theorem dJ10_numberOfTrailingZeros_19 : decode cJ10_numberOfTrailingZeros 19 = .ok (.iload_n 0, 1) := dk_26 (dk_at dksJ10_numberOfTrailingZeros_0 19 rfl rfl)
theorem dJ10_numberOfTrailingZeros_20 : decode cJ10_numberOfTrailingZeros 20 = .ok (.ldc_w 264, 3) := dk_19 1 8 (dk_at dksJ10_numberOfTrailingZeros_0 20 rfl rfl)
theorem dJ10_numberOfTrailingZeros_23 : decode cJ10_numberOfTrailingZeros 23 = .ok (.if_icmp .le 11, 3) := dk_164 0 11 (dk_at dksJ10_numberOfTrailingZeros_1 0 rfl rfl)
theorem dJ10_numberOfTrailingZeros_26 : decode cJ10_numberOfTrailingZeros 26 = .ok (.iinc 1 16, 3) := dk_132 1 16 (dk_at dksJ10_numberOfTrailingZeros_1 3 rfl rfl)
theorem dJ10_numberOfTrailingZeros_29 : decode cJ10_numberOfTrailingZeros 29 = .ok (.iload_n 0, 1) := dk_26 (dk_at dksJ10_numberOfTrailingZeros_1 6 rfl rfl)
theorem dJ10_numberOfTrailingZeros_30 : decode cJ10_numberOfTrailingZeros 30 = .ok (.bipush 16, 2) := dk_16 16 (dk_at dksJ10_numberOfTrailingZeros_1 7 rfl rfl)
theorem dJ10_numberOfTrailingZeros_32 : decode cJ10_numberOfTrailingZeros 32 = .ok (.iushr, 1) := dk_124 (dk_at dksJ10_numberOfTrailingZeros_1 9 rfl rfl)
theorem dJ10_numberOfTrailingZeros_33 : decode cJ10_numberOfTrailingZeros 33 = .ok (.istore_n 0, 1) := dk_59 (dk_at dksJ10_numberOfTrailingZeros_1 10 rfl rfl)
theorem dJ10_numberOfTrailingZeros_34 : decode cJ10_numberOfTrailingZeros 34 = .ok (.iload_n 0, 1) := dk_26 (dk_at dksJ10_numberOfTrailingZeros_1 11 rfl rfl)
theorem dJ10_numberOfTrailingZeros_35 : decode cJ10_numberOfTrailingZeros 35 = .ok (.sipush 256, 3) := dk_17 1 0 (dk_at dksJ10_numberOfTrailingZeros_1 12 rfl rfl)
theorem dJ10_numberOfTrailingZeros_38 : decode cJ10_numberOfTrailingZeros 38 = .ok (.if_icmp .le 11, 3) := dk_164 0 11 (dk_at dksJ10_numberOfTrailingZeros_1 15 rfl rfl)
theorem dJ10_numberOfTrailingZeros_41 : decode cJ10_numberOfTrailingZeros 41 = .ok (.iinc 1 8, 3) := dk_132 1 8 (dk_at dksJ10_numberOfTrailingZeros_1 18 rfl rfl)
theorem dJ10_numberOfTrailingZeros_44 : decode cJ10_numberOfTrailingZeros 44 = .ok (.iload_n 0, 1) := dk_26 (dk_at dksJ10_numberOfTrailingZeros_1 21 rfl rfl)
theorem dJ10_numberOfTrailingZeros_45 : decode cJ10_numberOfTrailingZeros 45 = .ok (.bipush 8, 2) := dk_16 8 (dk_at dksJ10_numberOfTrailingZeros_1 22 rfl rfl)
theorem dJ10_numberOfTrailingZeros_47 : decode cJ10_numberOfTrailingZeros 47 = .ok (.iushr, 1) := dk_124 (dk_at dksJ10_numberOfTrailingZeros_2 0 rfl rfl)
theorem dJ10_numberOfTrailingZeros_48 : decode cJ10_numberOfTrailingZeros 48 = .ok (.istore_n 0, 1) := dk_59 (dk_at dksJ10_numberOfTrailingZeros_2 1 rfl rfl)
theorem dJ10_numberOfTrailingZeros_49 : decode cJ10_numberOfTrailingZeros 49 = .ok (.iload_n 0, 1) := dk_26 (dk_at dksJ10_numberOfTrailingZeros_2 2 rfl rfl)
theorem dJ10_numberOfTrailingZeros_50 : decode cJ10_numberOfTrailingZeros 50 = .ok (.bipush 16, 2) := dk_16 16 (dk_at dksJ10_numberOfTrailingZeros_2 3 rfl rfl)
theorem dJ10_numberOfTrailingZeros_52 : decode cJ10_numberOfTrailingZeros 52 = .ok (.if_icmp .le 10, 3) := dk_164 0 10 (dk_at dksJ10_numberOfTrailingZeros_2 5 rfl rfl)
theorem dJ10_numberOfTrailingZeros_55 : decode cJ10_numberOfTrailingZeros 55 = .ok (.iinc 1 4, 3) := dk_132 1 4 (dk_at dksJ10_numberOfTrailingZeros_2 8 rfl rfl)
theorem dJ10_numberOfTrailingZeros_58 : decode cJ10_numberOfTrailingZeros 58 = .ok (.iload_n 0, 1) := dk_26 (dk_at dksJ10_numberOfTrailingZeros_2 11 rfl rfl)
theorem dJ10_numberOfTrailingZeros_59 : decode cJ10_numberOfTrailingZeros 59 = .ok (.iconst 4, 1) := dk_7 (dk_at dksJ10_numberOfTrailingZeros_2 12 rfl rfl)
theorem dJ10_numberOfTrailingZeros_60 : decode cJ10_numberOfTrailingZeros 60 = .ok (.iushr, 1) := dk_124 (dk_at dksJ10_numberOfTrailingZeros_2 13 rfl rfl)
theorem dJ10_numberOfTrailingZeros_61 : decode cJ10_numberOfTrailingZeros 61 = .ok (.istore_n 0, 1) := dk_59 (dk_at dksJ10_numberOfTrailingZeros_2 14 rfl rfl)
theorem dJ10_numberOfTrailingZeros_62 : decode cJ10_numberOfTrailingZeros 62 = .ok (.iload_n 0, 1) := dk_26 (dk_at dksJ10_numberOfTrailingZeros_2 15 rfl rfl)
theorem dJ10_numberOfTrailingZeros_63 : decode cJ10_numberOfTrailingZeros 63 = .ok (.iconst 4, 1) := dk_7 (dk_at dksJ10_numberOfTrailingZeros_2 16 rfl rfl)
theorem dJ10_numberOfTrailingZeros_64 : decode cJ10_numberOfTrailingZeros 64 = .ok (.if_icmp .le 10, 3) := dk_164 0 10 (dk_at dksJ10_numberOfTrailingZeros_2 17 rfl rfl)
theorem dJ10_numberOfTrailingZeros_67 : decode cJ10_numberOfTrailingZeros 67 = .ok (.iinc 1 2, 3) := dk_132 1 2 (dk_at dksJ10_numberOfTrailingZeros_2 20 rfl rfl)
theorem dJ10_numberOfTrailingZeros_70 : decode cJ10_numberOfTrailingZeros 70 = .ok (.iload_n 0, 1) := dk_26 (dk_at dksJ10_numberOfTrailingZeros_2 23 rfl rfl)
theorem dJ10_numberOfTrailingZeros_71 : decode cJ10_numberOfTrailingZeros 71 = .ok (.iconst 2, 1) := dk_5 (dk_at dksJ10_numberOfTrailingZeros_3 0 rfl rfl)
theorem dJ10_numberOfTrailingZeros_72 : decode cJ10_numberOfTrailingZeros 72 = .ok (.iushr, 1) := dk_124 (dk_at dksJ10_numberOfTrailingZeros_3 1 rfl rfl)
theorem dJ10_numberOfTrailingZeros_73 : decode cJ10_numberOfTrailingZeros 73 = .ok (.istore_n 0, 1) := dk_59 (dk_at dksJ10_numberOfTrailingZeros_3 2 rfl rfl)
theorem dJ10_numberOfTrailingZeros_74 : decode cJ10_numberOfTrailingZeros 74 = .ok (.iload_n 1, 1) := dk_27 (dk_at dksJ10_numberOfTrailingZeros_3 3 rfl rfl)
theorem dJ10_numberOfTrailingZeros_75 : decode cJ10_numberOfTrailingZeros 75 = .ok (.iload_n 0, 1) := dk_26 (dk_at dksJ10_numberOfTrailingZeros_3 4 rfl rfl)
theorem dJ10_numberOfTrailingZeros_76 : decode cJ10_numberOfTrailingZeros 76 = .ok (.iconst 1, 1) := dk_4 (dk_at dksJ10_numberOfTrailingZeros_3 5 rfl rfl)
theorem dJ10_numberOfTrailingZeros_77 : decode cJ10_numberOfTrailingZeros 77 = .ok (.iushr, 1) := dk_124 (dk_at dksJ10_numberOfTrailingZeros_3 6 rfl rfl)
theorem dJ10_numberOfTrailingZeros_78 : decode cJ10_numberOfTrailingZeros 78 = .ok (.iadd, 1) := dk_96 (dk_at dksJ10_numberOfTrailingZeros_3 7 rfl rfl)
theorem dJ10_numberOfTrailingZeros_79 : decode cJ10_numberOfTrailingZeros 79 = .ok (.ireturn, 1) := dk_172 (dk_at dksJ10_numberOfTrailingZeros_3 8 rfl rfl)
theorem dJ10_intValue_0 : decode cJ10_intValue 0 = .ok (.aload_n 0, 1) := by decide +kernel
theorem dJ10_intValue_1 : decode cJ10_intValue 1 = .ok (.getfield 205, 3) := by decide +kernel
theorem dJ10_intValue_4 : decode cJ10_intValue 4 = .ok (.ireturn, 1) := by decide +kernel
def dkwJ10_stringSize_1 : List UInt8 := [164, 0, 7, 29, 27, 96, 172, 16, 10, 28, 104, 61, 132, 3, 1, 167, 255, 233, 16, 10, 27, 96, 172]
abbrev dktJ10_stringSize_1 : List UInt8 := dkwJ10_stringSize_1 ++ []
def dkwJ10_stringSize_0 : List UInt8 := [4, 60, 26, 155, 0, 8, 3, 60, 26, 116, 59, 16, 246, 61, 4, 62, 29, 16, 10, 162, 0, 23, 26, 28]
abbrev dktJ10_stringSize_0 : List UInt8 := dkwJ10_stringSize_0 ++ dktJ10_stringSize_1
theorem dksJ10_stringSize_0 : cJ10_stringSize.data.toList.drop 0 = dktJ10_stringSize_0 := by decide +kernel
theorem dksJ10_stringSize_1 : cJ10_stringSize.data.toList.drop 24 = dktJ10_stringSize_1 := dk_seg dksJ10_stringSize_0 24 rfl rfl
theorem dJ10_stringSize_0 : decode cJ10_stringSize 0 = .ok (.iconst 1, 1) := dk_4 (dk_at dksJ10_stringSize_0 0 rfl rfl)
theorem dJ10_stringSize_1 : decode cJ10_stringSize 1 = .ok (.istore_n 1, 1) := dk_60 (dk_at dksJ10_stringSize_0 1 rfl rfl)
theorem dJ10_stringSize_2 : decode cJ10_stringSize 2 = .ok (.iload_n 0, 1) := dk_26 (dk_at dksJ10_stringSize_0 2 rfl rfl)
theorem dJ10_stringSize_3 : decode cJ10_stringSize 3 = .ok (.ifCond .lt 8, 3) := dk_155 0 8 (dk_at dksJ10_stringSize_0 3 rfl rfl)
theorem dJ10_stringSize_6 : decode cJ10_stringSize 6 = .ok (.iconst 0, 1) := dk_3 (dk_at dksJ10_stringSize_0 6 rfl rfl)
theorem dJ10_stringSize_7 : decode cJ10_stringSize 7 = .ok (.istore_n 1, 1) := dk_60 (dk_at dksJ10_stringSize_0 7 rfl rfl)
theorem dJ10_stringSize_8 : decode cJ10_stringSize 8 = .ok (.iload_n 0, 1) := dk_26 (dk_at dksJ10_stringSize_0 8 rfl rfl)
theorem dJ10_stringSize_9 : decode cJ10_stringSize 9 = .ok (.ineg, 1) := dk_116 (dk_at dksJ10_stringSize_0 9 rfl rfl)
theorem dJ10_stringSize_10 : decode cJ10_stringSize 10 = .ok (.istore_n 0, 1) := dk_59 (dk_at dksJ10_stringSize_0 10 rfl rfl)
theorem dJ10_stringSize_11 : decode cJ10_stringSize 11 = .ok (.bipush (-10), 2) := dk_16 246 (dk_at dksJ10_stringSize_0 11 rfl rfl)
theorem dJ10_stringSize_13 : decode cJ10_stringSize 13 = .ok (.istore_n 2, 1) := dk_61 (dk_at dksJ10_stringSize_0 13 rfl rfl)
theorem dJ10_stringSize_14 : decode cJ10_stringSize 14 = .ok (.iconst 1, 1) := dk_4 (dk_at dksJ10_stringSize_0 14 rfl rfl)
theorem dJ10_stringSize_15 : decode cJ10_stringSize 15 = .ok (.istore_n 3, 1) := dk_62 (dk_at dksJ10_stringSize_0 15 rfl rfl)
theorem dJ10_stringSize_16 : decode cJ10_stringSize 16 = .ok (.iload_n 3, 1) := dk_29 (dk_at dksJ10_stringSize_0 16 rfl rfl)
theorem dJ10_stringSize_17 : decode cJ10_stringSize 17 = .ok (.bipush 10, 2) := dk_16 10 (dk_at dksJ10_stringSize_0 17 rfl rfl)
theorem dJ10_stringSize_19 : decode cJ10_stringSize 19 = .ok (.if_icmp .ge 23, 3) := dk_162 0 23 (dk_at dksJ10_stringSize_0 19 rfl rfl)
theorem dJ10_stringSize_22 : decode cJ10_stringSize 22 = .ok (.iload_n 0, 1) := dk_26 (dk_at dksJ10_stringSize_0 22 rfl rfl)
theorem dJ10_stringSize_23 : decode cJ10_stringSize 23 = .ok (.iload_n 2, 1) := dk_28 (dk_at dksJ10_stringSize_0 23 rfl rfl)
theorem dJ10_stringSize_24 : decode cJ10_stringSize 24 = .ok (.if_icmp .le 7, 3) := dk_164 0 7 (dk_at dksJ10_stringSize_1 0 rfl rfl)
theorem dJ10_stringSize_27 : decode cJ10_stringSize 27 = .ok (.iload_n 3, 1) := dk_29 (dk_at dksJ10_stringSize_1 3 rfl rfl)
theorem dJ10_stringSize_28 : decode cJ10_stringSize 28 = .ok (.iload_n 1, 1) := dk_27 (dk_at dksJ10_stringSize_1 4 rfl rfl)
theorem dJ10_stringSize_29 : decode cJ10_stringSize 29 = .ok (.iadd, 1) := dk_96 (dk_at dksJ10_stringSize_1 5 rfl rfl)
theorem dJ10_stringSize_30 : decode cJ10_stringSize 30 = .ok (.ireturn, 1) := dk_172 (dk_at dksJ10_stringSize_1 6 rfl rfl)
theorem dJ10_stringSize_31 : decode cJ10_stringSize 31 = .ok (.bipush 10, 2) := dk_16 10 (dk_at dksJ10_stringSize_1 7 rfl rfl)
theorem dJ10_stringSize_33 : decode cJ10_stringSize 33 = .ok (.iload_n 2, 1) := dk_28 (dk_at dksJ10_stringSize_1 9 rfl rfl)
theorem dJ10_stringSize_34 : decode cJ10_stringSize 34 = .ok (.imul, 1) := dk_104 (dk_at dksJ10_stringSize_1 10 rfl rfl)
theorem dJ10_stringSize_35 : decode cJ10_stringSize 35 = .ok (.istore_n 2, 1) := dk_61 (dk_at dksJ10_stringSize_1 11 rfl rfl)
theorem dJ10_stringSize_36 : decode cJ10_stringSize 36 = .ok (.iinc 3 1, 3) := dk_132 3 1 (dk_at dksJ10_stringSize_1 12 rfl rfl)
theorem dJ10_stringSize_39 : decode cJ10_stringSize 39 = .ok (.goto (-23), 3) := dk_167 255 233 (dk_at dksJ10_stringSize_1 15 rfl rfl)
theorem dJ10_stringSize_42 : decode cJ10_stringSize 42 = .ok (.bipush 10, 2) := dk_16 10 (dk_at dksJ10_stringSize_1 18 rfl rfl)
theorem dJ10_stringSize_44 : decode cJ10_stringSize 44 = .ok (.iload_n 1, 1) := dk_27 (dk_at dksJ10_stringSize_1 20 rfl rfl)
theorem dJ10_stringSize_45 : decode cJ10_stringSize 45 = .ok (.iadd, 1) := dk_96 (dk_at dksJ10_stringSize_1 21 rfl rfl)
theorem dJ10_stringSize_46 : decode cJ10_stringSize 46 = .ok (.ireturn, 1) := dk_172 (dk_at dksJ10_stringSize_1 22 rfl rfl)
def dkwJ10_getChars_5 : List UInt8 := [16, 45, 84, 21, 5, 172]
abbrev dktJ10_getChars_5 : List UInt8 := dkwJ10_getChars_5 ++ []
def dkwJ10_getChars_4 : List UInt8 := [132, 5, 255, 21, 5, 178, 0, 87, 26, 116, 51, 84, 21, 6, 153, 0, 12, 44, 132, 5, 255, 21, 5]
abbrev dktJ10_getChars_4 : List UInt8 := dkwJ10_getChars_4 ++ dktJ10_getChars_5
def dkwJ10_getChars_3 : List UInt8 := [167, 255, 209, 44, 132, 5, 255, 21, 5, 178, 0, 83, 26, 116, 51, 84, 26, 16, 247, 162, 0, 16, 44]
abbrev dktJ10_getChars_3 : List UInt8 := dkwJ10_getChars_3 ++ dktJ10_getChars_4
def dkwJ10_getChars_2 : List UInt8 := [21, 5, 178, 0, 83, 21, 4, 51, 84, 44, 132, 5, 255, 21, 5, 178, 0, 87, 21, 4, 51, 84]
abbrev dktJ10_getChars_2 : List UInt8 := dkwJ10_getChars_2 ++ dktJ10_getChars_3
def dkwJ10_getChars_1 : List UInt8 := [16, 156, 163, 0, 47, 26, 16, 100, 108, 62, 29, 16, 100, 104, 26, 100, 54, 4, 29, 59, 44, 132, 5, 255]
abbrev dktJ10_getChars_1 : List UInt8 := dkwJ10_getChars_1 ++ dktJ10_getChars_2
def dkwJ10_getChars_0 : List UInt8 := [27, 54, 5, 26, 156, 0, 7, 4, 167, 0, 4, 3, 54, 6, 21, 6, 154, 0, 6, 26, 116, 59, 26]
abbrev dktJ10_getChars_0 : List UInt8 := dkwJ10_getChars_0 ++ dktJ10_getChars_1
theorem dksJ10_getChars_0 : cJ10_getChars.data.toList.drop 0 = dktJ10_getChars_0 := by decide +kernel
theorem dksJ10_getChars_1 : cJ10_getChars.data.toList.drop 23 = dktJ10_getChars_1 := dk_seg dksJ10_getChars_0 23 rfl rfl
theorem dksJ10_getChars_2 : cJ10_getChars.data.toList.drop 47 = dktJ10_getChars_2 := dk_seg dksJ10_getChars_1 24 rfl rfl
theorem dksJ10_getChars_3 : cJ10_getChars.data.toList.drop 69 = dktJ10_getChars_3 := dk_seg dksJ10_getChars_2 22 rfl rfl
theorem dksJ10_getChars_4 : cJ10_getChars.data.toList.drop 92 = dktJ10_getChars_4 := dk_seg dksJ10_getChars_3 23 rfl rfl
theorem dksJ10_getChars_5 : cJ10_getChars.data.toList.drop 115 = dktJ10_getChars_5 := dk_seg dksJ10_getChars_4 23 rfl rfl
theorem dJ10_getChars_0 : decode cJ10_getChars 0 = .ok (.iload_n 1, 1) := dk_27 (dk_at dksJ10_getChars_0 0 rfl rfl)
theorem dJ10_getChars_1 : decode cJ10_getChars 1 = .ok (.istore 5, 2) := dk_54 5 (dk_at dksJ10_getChars_0 1 rfl rfl)
theorem dJ10_getChars_3 : decode cJ10_getChars 3 = .ok (.iload_n 0, 1) := dk_26 (dk_at dksJ10_getChars_0 3 rfl rfl)
theorem dJ10_getChars_4 : decode cJ10_getChars 4 = .ok (.ifCond .ge 7, 3) := dk_156 0 7 (dk_at dksJ10_getChars_0 4 rfl rfl)
theorem dJ10_getChars_7 : decode cJ10_getChars 7 = .ok (.iconst 1, 1) := dk_4 (dk_at dksJ10_getChars_0 7 rfl rfl)
theorem dJ10_getChars_8 : decode cJ10_getChars 8 = .ok (.goto 4, 3) := dk_167 0 4 (dk_at dksJ10_getChars_0 8 rfl rfl)
theorem dJ10_getChars_11 : decode cJ10_getChars 11 = .ok (.iconst 0, 1) := dk_3 (dk_at dksJ10_getChars_0 11 rfl rfl)
theorem dJ10_getChars_12 : decode cJ10_getChars 12 = .ok (.istore 6, 2) := dk_54 6 (dk_at dksJ10_getChars_0 12 rfl rfl)
theorem dJ10_getChars_14 : decode cJ10_getChars 14 = .ok (.iload 6, 2) := dk_21 6 (dk_at dksJ10_getChars_0 14 rfl rfl)
theorem dJ10_getChars_16 : decode cJ10_getChars 16 = .ok (.ifCond .ne 6, 3) := dk_154 0 6 (dk_at dksJ10_getChars_0 16 rfl rfl)
theorem dJ10_getChars_19 : decode cJ10_getChars 19 = .ok (.iload_n 0, 1) := dk_26 (dk_at dksJ10_getChars_0 19 rfl rfl)
theorem dJ10_getChars_20 : decode cJ10_getChars 20 = .ok (.ineg, 1) := dk_116 (dk_at dksJ10_getChars_0 20 rfl rfl)
theorem dJ10_getChars_21 : decode cJ10_getChars 21 = .ok (.istore_n 0, 1) := dk_59 (dk_at dksJ10_getChars_0 21 rfl rfl)
theorem dJ10_getChars_22 : decode cJ10_getChars 22 = .ok (.iload_n 0, 1) := dk_26 (dk_at dksJ10_getChars_0 22 rfl rfl)
theorem dJ10_getChars_23 : decode cJ10_getChars 23 = .ok (.bipush (-100), 2) := dk_16 156 (dk_at dksJ10_getChars_1 0 rfl rfl)
theorem dJ10_getChars_25 : decode cJ10_getChars 25 = .ok (.if_icmp .gt 47, 3) := dk_163 0 47 (dk_at dksJ10_getChars_1 2 rfl rfl)
theorem dJ10_getChars_28 : decode cJ10_getChars 28 = .ok (.iload_n 0, 1) := dk_26 (dk_at dksJ10_getChars_1 5 rfl rfl)
theorem dJ10_getChars_29 : decode cJ10_getChars 29 = .ok (.bipush 100, 2) := dk_16 100 (dk_at dksJ10_getChars_1 6 rfl rfl)
theorem dJ10_getChars_31 : decode cJ10_getChars 31 = .ok (.idiv, 1) := dk_108 (dk_at dksJ10_getChars_1 8 rfl rfl)
theorem dJ10_getChars_32 : decode cJ10_getChars 32 = .ok (.istore_n 3, 1) := dk_62 (dk_at dksJ10_getChars_1 9 rfl rfl)
theorem dJ10_getChars_33 : decode cJ10_getChars 33 = .ok (.iload_n 3, 1) := dk_29 (dk_at dksJ10_getChars_1 10 rfl rfl)
theorem dJ10_getChars_34 : decode cJ10_getChars 34 = .ok (.bipush 100, 2) := dk_16 100 (dk_at dksJ10_getChars_1 11 rfl rfl)
theorem dJ10_getChars_36 : decode cJ10_getChars 36 = .ok (.imul, 1) := dk_104 (dk_at dksJ10_getChars_1 13 rfl rfl)
theorem dJ10_getChars_37 : decode cJ10_getChars 37 = .ok (.iload_n 0, 1) := dk_26 (dk_at dksJ10_getChars_1 14 rfl rfl)
theorem dJ10_getChars_38 : decode cJ10_getChars 38 = .ok (.isub, 1) := dk_100 (dk_at dksJ10_getChars_1 15 rfl rfl)
theorem dJ10_getChars_39 : decode cJ10_getChars 39 = .ok (.istore 4, 2) := dk_54 4 (dk_at dksJ10_getChars_1 16 rfl rfl)
theorem dJ10_getChars_41 : decode cJ10_getChars 41 = .ok (.iload_n 3, 1) := dk_29 (dk_at dksJ10_getChars_1 18 rfl rfl)
theorem dJ10_getChars_42 : decode cJ10_getChars 42 = .ok (.istore_n 0, 1) := dk_59 (dk_at dksJ10_getChars_1 19 rfl rfl)
theorem dJ10_getChars_43 : decode cJ10_getChars 43 = .ok (.aload_n 2, 1) := dk_44 (dk_at dksJ10_getChars_1 20 rfl rfl)
theorem dJ10_getChars_44 : decode cJ10_getChars 44 = .ok (.iinc 5 (-1), 3) := dk_132 5 255 (dk_at dksJ10_getChars_1 21 rfl rfl)
theorem dJ10_getChars_47 : decode cJ10_getChars 47 = .ok (.iload 5, 2) := dk_21 5 (dk_at dksJ10_getChars_2 0 rfl rfl)
theorem dJ10_getChars_49 : decode cJ10_getChars 49 = .ok (.getstatic 83, 3) := dk_178 0 83 (dk_at dksJ10_getChars_2 2 rfl rfl)
theorem dJ10_getChars_52 : decode cJ10_getChars 52 = .ok (.iload 4, 2) := dk_21 4 (dk_at dksJ10_getChars_2 5 rfl rfl)
theorem dJ10_getChars_54 : decode cJ10_getChars 54 = .ok (.baload, 1) := dk_51 (dk_at dksJ10_getChars_2 7 rfl rfl)
theorem dJ10_getChars_55 : decode cJ10_getChars 55 = .ok (.bastore, 1) := dk_84 (dk_at dksJ10_getChars_2 8 rfl rfl)
theorem dJ10_getChars_56 : decode cJ10_getChars 56 = .ok (.aload_n 2, 1) := dk_44 (dk_at dksJ10_getChars_2 9 rfl rfl)
theorem dJ10_getChars_57 : decode cJ10_getChars 57 = .ok (.iinc 5 (-1), 3) := dk_132 5 255 (dk_at dksJ10_getChars_2 10 rfl rfl)
theorem dJ10_getChars_60 : decode cJ10_getChars 60 = .ok (.iload 5, 2) := dk_21 5 (dk_at dksJ10_getChars_2 13 rfl rfl)
theorem dJ10_getChars_62 : decode cJ10_getChars 62 = .ok (.getstatic 87, 3) := dk_178 0 87 (dk_at dksJ10_getChars_2 15 rfl rfl)
theorem dJ10_getChars_65 : decode cJ10_getChars 65 = .ok (.iload 4, 2) := dk_21 4 (dk_at dksJ10_getChars_2 18 rfl rfl)
theorem dJ10_getChars_67 : decode cJ10_getChars 67 = .ok (.baload, 1) := dk_51 (dk_at dksJ10_getChars_2 20 rfl rfl)
theorem dJ10_getChars_68 : decode cJ10_getChars 68 = .ok (.bastore, 1) := dk_84 (dk_at dksJ10_getChars_2 21 rfl rfl)
theorem dJ10_getChars_69 : decode cJ10_getChars 69 = .ok (.goto (-47), 3) := dk_167 255 209 (dk_at dksJ10_getChars_3 0 rfl rfl)
theorem dJ10_getChars_72 : decode cJ10_getChars 72 = .ok (.aload_n 2, 1) := dk_44 (dk_at dksJ10_getChars_3 3 rfl rfl)
theorem dJ10_getChars_73 : decode cJ10_getChars 73 = .ok (.iinc 5 (-1), 3) := dk_132 5 255 (dk_at dksJ10_getChars_3 4 rfl rfl)
theorem dJ10_getChars_76 : decode cJ10_getChars 76 = .ok (.iload 5, 2) := dk_21 5 (dk_at dksJ10_getChars_3 7 rfl rfl)
theorem dJ10_getChars_78 : decode cJ10_getChars 78 = .ok (.getstatic 83, 3) := dk_178 0 83 (dk_at dksJ10_getChars_3 9 rfl rfl)
theorem dJ10_getChars_81 : decode cJ10_getChars 81 = .ok (.iload_n 0, 1) := dk_26 (dk_at dksJ10_getChars_3 12 rfl rfl)
theorem dJ10_getChars_82 : decode cJ10_getChars 82 = .ok (.ineg, 1) := dk_116 (dk_at dksJ10_getChars_3 13 rfl rfl)
theorem dJ10_getChars_83 : decode cJ10_getChars 83 = .ok (.baload, 1) := dk_51 (dk_at dksJ10_getChars_3 14 rfl rfl)
theorem dJ10_getChars_84 : decode cJ10_getChars 84 = .ok (.bastore, 1) := dk_84 (dk_at dksJ10_getChars_3 15 rfl rfl)
theorem dJ10_getChars_85 : decode cJ10_getChars 85 = .ok (.iload_n 0, 1) := dk_26 (dk_at dksJ10_getChars_3 16 rfl rfl)
theorem dJ10_getChars_86 : decode cJ10_getChars 86 = .ok (.bipush (-9), 2) := dk_16 247 (dk_at dksJ10_getChars_3 17 rfl rfl)
theorem dJ10_getChars_88 : decode cJ10_getChars 88 = .ok (.if_icmp .ge 16, 3) := dk_162 0 16 (dk_at dksJ10_getChars_3 19 rfl rfl)
theorem dJ10_getChars_91 : decode cJ10_getChars 91 = .ok (.aload_n 2, 1) := dk_44 (dk_at dksJ10_getChars_3 22 rfl rfl)
theorem dJ10_getChars_92 : decode cJ10_getChars 92 = .ok (.iinc 5 (-1), 3) := dk_132 5 255 (dk_at dksJ10_getChars_4 0 rfl rfl)
theorem dJ10_getChars_95 : decode cJ10_getChars 95 = .ok (.iload 5, 2) := dk_21 5 (dk_at dksJ10_getChars_4 3 rfl rfl)
theorem dJ10_getChars_97 : decode cJ10_getChars 97 = .ok (.getstatic 87, 3) := dk_178 0 87 (dk_at dksJ10_getChars_4 5 rfl rfl)
theorem dJ10_getChars_100 : decode cJ10_getChars 100 = .ok (.iload_n 0, 1) := dk_26 (dk_at dksJ10_getChars_4 8 rfl rfl)
theorem dJ10_getChars_101 : decode cJ10_getChars 101 = .ok (.ineg, 1) := dk_116 (dk_at dksJ10_getChars_4 9 rfl rfl)
theorem dJ10_getChars_102 : decode cJ10_getChars 102 = .ok (.baload, 1) := dk_51 (dk_at dksJ10_getChars_4 10 rfl rfl)
theorem dJ10_getChars_103 : decode cJ10_getChars 103 = .ok (.bastore, 1) := dk_84 (dk_at dksJ10_getChars_4 11 rfl rfl)
theorem dJ10_getChars_104 : decode cJ10_getChars 104 = .ok (.iload 6, 2) := dk_21 6 (dk_at dksJ10_getChars_4 12 rfl rfl)
theorem dJ10_getChars_106 : decode cJ10_getChars 106 = .ok (.ifCond .eq 12, 3) := dk_153 0 12 (dk_at dksJ10_getChars_4 14 rfl rfl)
theorem dJ10_getChars_109 : decode cJ10_getChars 109 = .ok (.aload_n 2, 1) := dk_44 (dk_at dksJ10_getChars_4 17 rfl rfl)
theorem dJ10_getChars_110 : decode cJ10_getChars 110 = .ok (.iinc 5 (-1), 3) := dk_132 5 255 (dk_at dksJ10_getChars_4 18 rfl rfl)
theorem dJ10_getChars_113 : decode cJ10_getChars 113 = .ok (.iload 5, 2) := dk_21 5 (dk_at dksJ10_getChars_4 21 rfl rfl)
theorem dJ10_getChars_115 : decode cJ10_getChars 115 = .ok (.bipush 45, 2) := dk_16 45 (dk_at dksJ10_getChars_5 0 rfl rfl)
theorem dJ10_getChars_117 : decode cJ10_getChars 117 = .ok (.bastore, 1) := dk_84 (dk_at dksJ10_getChars_5 2 rfl rfl)
theorem dJ10_getChars_118 : decode cJ10_getChars 118 = .ok (.iload 5, 2) := dk_21 5 (dk_at dksJ10_getChars_5 3 rfl rfl)
theorem dJ10_getChars_120 : decode cJ10_getChars 120 = .ok (.ireturn, 1) := dk_172 (dk_at dksJ10_getChars_5 5 rfl rfl)
def dkwJ23_checkFromToIndex_0 : List UInt8 := [26, 155, 0, 13, 26, 27, 163, 0, 8, 27, 28, 164, 0, 11, 45, 26, 27, 28, 184, 0, 99, 191, 26, 172]
abbrev dktJ23_checkFromToIndex_0 : List UInt8 := dkwJ23_checkFromToIndex_0 ++ []
theorem dksJ23_checkFromToIndex_0 : cJ23_checkFromToIndex.data.toList.drop 0 = dktJ23_checkFromToIndex_0 := by decide +kernel
theorem dJ23_checkFromToIndex_0 : decode cJ23_checkFromToIndex 0 = .ok (.iload_n 0, 1) := dk_26 (dk_at dksJ23_checkFromToIndex_0 0 rfl rfl)
theorem dJ23_checkFromToIndex_1 : decode cJ23_checkFromToIndex 1 = .ok (.ifCond .lt 13, 3) := dk_155 0 13 (dk_at dksJ23_checkFromToIndex_0 1 rfl rfl)
theorem dJ23_checkFromToIndex_4 : decode cJ23_checkFromToIndex 4 = .ok (.iload_n 0, 1) := dk_26 (dk_at dksJ23_checkFromToIndex_0 4 rfl rfl)
theorem dJ23_checkFromToIndex_5 : decode cJ23_checkFromToIndex 5 = .ok (.iload_n 1, 1) := dk_27 (dk_at dksJ23_checkFromToIndex_0 5 rfl rfl)
theorem dJ23_checkFromToIndex_6 : decode cJ23_checkFromToIndex 6 = .ok (.if_icmp .gt 8, 3) := dk_163 0 8 (dk_at dksJ23_checkFromToIndex_0 6 rfl rfl)
theorem dJ23_checkFromToIndex_9 : decode cJ23_checkFromToIndex 9 = .ok (.iload_n 1, 1) := dk_27 (dk_at dksJ23_checkFromToIndex_0 9 rfl rfl)
theorem dJ23_checkFromToIndex_10 : decode cJ23_checkFromToIndex 10 = .ok (.iload_n 2, 1) := dk_28 (dk_at dksJ23_checkFromToIndex_0 10 rfl rfl)
theorem dJ23_checkFromToIndex_11 : decode cJ23_checkFromToIndex 11 = .ok (.if_icmp .le 11, 3) := dk_164 0 11 (dk_at dksJ23_checkFromToIndex_0 11 rfl rfl)
theorem dJ23_checkFromToIndex_14 : decode cJ23_checkFromToIndex 14 = .ok (.aload_n 3, 1) := dk_45 (dk_at dksJ23_checkFromToIndex_0 14 rfl rfl)
theorem dJ23_checkFromToIndex_15 : decode cJ23_checkFromToIndex 15 = .ok (.iload_n 0, 1) := dk_26 (dk_at dksJ23_checkFromToIndex_0 15 rfl rfl)
theorem dJ23_checkFromToIndex_16 : decode cJ23_checkFromToIndex 16 = .ok (.iload_n 1, 1) := dk_27 (dk_at dksJ23_checkFromToIndex_0 16 rfl rfl)
theorem dJ23_checkFromToIndex_17 : decode cJ23_checkFromToIndex 17 = .ok (.iload_n 2, 1) := dk_28 (dk_at dksJ23_checkFromToIndex_0 17 rfl rfl)
theorem dJ23_checkFromToIndex_18 : decode cJ23_checkFromToIndex 18 = .ok (.invokestatic 99, 3) := dk_184 0 99 (dk_at dksJ23_checkFromToIndex_0 18 rfl rfl)
theorem dJ23_checkFromToIndex_21 : decode cJ23_checkFromToIndex 21 = .ok (.athrow, 1) := dk_191 (dk_at dksJ23_checkFromToIndex_0 21 rfl rfl)
theorem dJ23_checkFromToIndex_22 : decode cJ23_checkFromToIndex 22 = .ok (.iload_n 0, 1) := dk_26 (dk_at dksJ23_checkFromToIndex_0 22 rfl rfl)
theorem dJ23_checkFromToIndex_23 : decode cJ23_checkFromToIndex 23 = .ok (.ireturn, 1) := dk_172 (dk_at dksJ23_checkFromToIndex_0 23 rfl rfl)
def dkwJ23_checkIndex_0 : List UInt8 := [26, 155, 0, 8, 26, 27, 161, 0, 10, 44, 26, 27, 184, 0, 95, 191, 26, 172]
abbrev dktJ23_checkIndex_0 : List UInt8 := dkwJ23_checkIndex_0 ++ []
theorem dksJ23_checkIndex_0 : cJ23_checkIndex.data.toList.drop 0 = dktJ23_checkIndex_0 := by decide +kernel
theorem dJ23_checkIndex_0 : decode cJ23_checkIndex 0 = .ok (.iload_n 0, 1) := dk_26 (dk_at dksJ23_checkIndex_0 0 rfl rfl)
theorem dJ23_checkIndex_1 : decode cJ23_checkIndex 1 = .ok (.ifCond .lt 8, 3) := dk_155 0 8 (dk_at dksJ23_checkIndex_0 1 rfl rfl)
theorem dJ23_checkIndex_4 : decode cJ23_checkIndex 4 = .ok (.iload_n 0, 1) := dk_26 (dk_at dksJ23_checkIndex_0 4 rfl rfl)
theorem dJ23_checkIndex_5 : decode cJ23_checkIndex 5 = .ok (.iload_n 1, 1) := dk_27 (dk_at dksJ23_checkIndex_0 5 rfl rfl)
theorem dJ23_checkIndex_6 : decode cJ23_checkIndex 6 = .ok (.if_icmp .lt 10, 3) := dk_161 0 10 (dk_at dksJ23_checkIndex_0 6 rfl rfl)
theorem dJ23_checkIndex_9 : decode cJ23_checkIndex 9 = .ok (.aload_n 2, 1) := dk_44 (dk_at dksJ23_checkIndex_0 9 rfl rfl)
theorem dJ23_checkIndex_10 : decode cJ23_checkIndex 10 = .ok (.iload_n 0, 1) := dk_26 (dk_at dksJ23_checkIndex_0 10 rfl rfl)
theorem dJ23_checkIndex_11 : decode cJ23_checkIndex 11 = .ok (.iload_n 1, 1) := dk_27 (dk_at dksJ23_checkIndex_0 11 rfl rfl)
theorem dJ23_checkIndex_12 : decode cJ23_checkIndex 12 = .ok (.invokestatic 95, 3) := dk_184 0 95 (dk_at dksJ23_checkIndex_0 12 rfl rfl)
theorem dJ23_checkIndex_15 : decode cJ23_checkIndex 15 = .ok (.athrow, 1) := dk_191 (dk_at dksJ23_checkIndex_0 15 rfl rfl)
theorem dJ23_checkIndex_16 : decode cJ23_checkIndex 16 = .ok (.iload_n 0, 1) := dk_26 (dk_at dksJ23_checkIndex_0 16 rfl rfl)
theorem dJ23_checkIndex_17 : decode cJ23_checkIndex 17 = .ok (.ireturn, 1) := dk_172 (dk_at dksJ23_checkIndex_0 17 rfl rfl)
def dkwJ23_checkFromIndexSize_1 : List UInt8 := [172]
abbrev dktJ23_checkFromIndexSize_1 : List UInt8 := dkwJ23_checkFromIndexSize_1 ++ []
def dkwJ23_checkFromIndexSize_0 : List UInt8 := [28, 26, 128, 27, 128, 155, 0, 10, 27, 28, 26, 100, 164, 0, 11, 45, 26, 27, 28, 184, 0, 103, 191, 26]
abbrev dktJ23_checkFromIndexSize_0 : List UInt8 := dkwJ23_checkFromIndexSize_0 ++ dktJ23_checkFromIndexSize_1
theorem dksJ23_checkFromIndexSize_0 : cJ23_checkFromIndexSize.data.toList.drop 0 = dktJ23_checkFromIndexSize_0 := by decide +kernel
theorem dksJ23_checkFromIndexSize_1 : cJ23_checkFromIndexSize.data.toList.drop 24 = dktJ23_checkFromIndexSize_1 := dk_seg dksJ23_checkFromIndexSize_0 24 rfl rfl
theorem dJ23_checkFromIndexSize_0 : decode cJ23_checkFromIndexSize 0 = .ok (.iload_n 2, 1) := dk_28 (dk_at dksJ23_checkFromIndexSize_0 0 rfl rfl)
theorem dJ23_checkFromIndexSize_1 : decode cJ23_checkFromIndexSize 1 = .ok (.iload_n 0, 1) := dk_26 (dk_at dksJ23_checkFromIndexSize_0 1 rfl rfl)
theorem dJ23_checkFromIndexSize_2 : decode cJ23_checkFromIndexSize 2 = .ok (.ior, 1) := dk_128 (dk_at dksJ23_checkFromIndexSize_0 2 rfl rfl)
theorem dJ23_checkFromIndexSize_3 : decode cJ23_checkFromIndexSize 3 = .ok (.iload_n 1, 1) := dk_27 (dk_at dksJ23_checkFromIndexSize_0 3 rfl rfl)
theorem dJ23_checkFromIndexSize_4 : decode cJ23_checkFromIndexSize 4 = .ok (.ior, 1) := dk_128 (dk_at dksJ23_checkFromIndexSize_0 4 rfl rfl)
theorem dJ23_checkFromIndexSize_5 : decode cJ23_checkFromIndexSize 5 = .ok (.ifCond .lt 10, 3) := dk_155 0 10 (dk_at dksJ23_checkFromIndexSize_0 5 rfl rfl)
theorem dJ23_checkFromIndexSize_8 : decode cJ23_checkFromIndexSize 8 = .ok (.iload_n 1, 1) := dk_27 (dk_at dksJ23_checkFromIndexSize_0 8 rfl rfl)
theorem dJ23_checkFromIndexSize_9 : decode cJ23_checkFromIndexSize 9 = .ok (.iload_n 2, 1) := dk_28 (dk_at dksJ23_checkFromIndexSize_0 9 rfl rfl)
theorem dJ23_checkFromIndexSize_10 : decode cJ23_checkFromIndexSize 10 = .ok (.iload_n 0, 1) := dk_26 (dk_at dksJ23_checkFromIndexSize_0 10 rfl rfl)
theorem dJ23_checkFromIndexSize_11 : decode cJ23_checkFromIndexSize 11 = .ok (.isub, 1) := dk_100 (dk_at dksJ23_checkFromIndexSize_0 11 rfl rfl)
theorem dJ23_checkFromIndexSize_12 : decode cJ23_checkFromIndexSize 12 = .ok (.if_icmp .le 11, 3) := dk_164 0 11 (dk_at dksJ23_checkFromIndexSize_0 12 rfl rfl)
theorem dJ23_checkFromIndexSize_15 : decode cJ23_checkFromIndexSize 15 = .ok (.aload_n 3, 1) := dk_45 (dk_at dksJ23_checkFromIndexSize_0 15 rfl rfl)
theorem dJ23_checkFromIndexSize_16 : decode cJ23_checkFromIndexSize 16 = .ok (.iload_n 0, 1) := dk_26 (dk_at dksJ23_checkFromIndexSize_0 16 rfl rfl)
theorem dJ23_checkFromIndexSize_17 : decode cJ23_checkFromIndexSize 17 = .ok (.iload_n 1, 1) := dk_27 (dk_at dksJ23_checkFromIndexSize_0 17 rfl rfl)
theorem dJ23_checkFromIndexSize_18 : decode cJ23_checkFromIndexSize 18 = .ok (.iload_n 2, 1) := dk_28 (dk_at dksJ23_checkFromIndexSize_0 18 rfl rfl)
theorem dJ23_checkFromIndexSize_19 : decode cJ23_checkFromIndexSize 19 = .ok (.invokestatic 103, 3) := dk_184 0 103 (dk_at dksJ23_checkFromIndexSize_0 19 rfl rfl)
theorem dJ23_checkFromIndexSize_22 : decode cJ23_checkFromIndexSize 22 = .ok (.athrow, 1) := dk_191 (dk_at dksJ23_checkFromIndexSize_0 22 rfl rfl)
theorem dJ23_checkFromIndexSize_23 : decode cJ23_checkFromIndexSize 23 = .ok (.iload_n 0, 1) := dk_26 (dk_at dksJ23_checkFromIndexSize_0 23 rfl rfl)
theorem dJ23_checkFromIndexSize_24 : decode cJ23_checkFromIndexSize 24 = .ok (.ireturn, 1) := dk_172 (dk_at dksJ23_checkFromIndexSize_1 0 rfl rfl)
def dkwJ24_init_1 : List UInt8 := [177]
abbrev dktJ24_init_1 : List UInt8 := dkwJ24_init_1 ++ []
def dkwJ24_init_0 : List UInt8 := [42, 183, 0, 3, 42, 4, 181, 0, 9, 42, 43, 181, 0, 15, 42, 44, 181, 0, 19, 42, 45, 181, 0, 22]
abbrev dktJ24_init_0 : List UInt8 := dkwJ24_init_0 ++ dktJ24_init_1
theorem dksJ24_init_0 : cJ24_init.data.toList.drop 0 = dktJ24_init_0 := by decide +kernel
theorem dksJ24_init_1 : cJ24_init.data.toList.drop 24 = dktJ24_init_1 := dk_seg dksJ24_init_0 24 rfl rfl
theorem dJ24_init_0 : decode cJ24_init 0 = .ok (.aload_n 0, 1) := dk_42 (dk_at dksJ24_init_0 0 rfl rfl)
theorem dJ24_init_1 : decode cJ24_init 1 = .ok (.invokespecial 3, 3) := dk_183 0 3 (dk_at dksJ24_init_0 1 rfl rfl)
theorem dJ24_init_4 : decode cJ24_init 4 = .ok (.aload_n 0, 1) := dk_42 (dk_at dksJ24_init_0 4 rfl rfl)
theorem dJ24_init_5 : decode cJ24_init 5 = .ok (.iconst 1, 1) := dk_4 (dk_at dksJ24_init_0 5 rfl rfl)
theorem dJ24_init_6 : decode cJ24_init 6 = .ok (.putfield 9, 3) := dk_181 0 9 (dk_at dksJ24_init_0 6 rfl rfl)
theorem dJ24_init_9 : decode cJ24_init 9 = .ok (.aload_n 0, 1) := dk_42 (dk_at dksJ24_init_0 9 rfl rfl)
theorem dJ24_init_10 : decode cJ24_init 10 = .ok (.aload_n 1, 1) := dk_43 (dk_at dksJ24_init_0 10 rfl rfl)
theorem dJ24_init_11 : decode cJ24_init 11 = .ok (.putfield 15, 3) := dk_181 0 15 (dk_at dksJ24_init_0 11 rfl rfl)
theorem dJ24_init_14 : decode cJ24_init 14 = .ok (.aload_n 0, 1) := dk_42 (dk_at dksJ24_init_0 14 rfl rfl)
theorem dJ24_init_15 : decode cJ24_init 15 = .ok (.aload_n 2, 1) := dk_44 (dk_at dksJ24_init_0 15 rfl rfl)
theorem dJ24_init_16 : decode cJ24_init 16 = .ok (.putfield 19, 3) := dk_181 0 19 (dk_at dksJ24_init_0 16 rfl rfl)
theorem dJ24_init_19 : decode cJ24_init 19 = .ok (.aload_n 0, 1) := dk_42 (dk_at dksJ24_init_0 19 rfl rfl)
theorem dJ24_init_20 : decode cJ24_init 20 = .ok (.aload_n 3, 1) := dk_45 (dk_at dksJ24_init_0 20 rfl rfl)
theorem dJ24_init_21 : decode cJ24_init 21 = .ok (.putfield 22, 3) := dk_181 0 22 (dk_at dksJ24_init_0 21 rfl rfl)
theorem dJ24_init_24 : decode cJ24_init 24 = .ok (.return_, 1) := dk_177 (dk_at dksJ24_init_1 0 rfl rfl)
def dkwJ25_requireNonNull_0 : List UInt8 := [42, 199, 0, 11, 187, 0, 84, 89, 183, 0, 86, 191, 42, 176]
abbrev dktJ25_requireNonNull_0 : List UInt8 := dkwJ25_requireNonNull_0 ++ []
theorem dksJ25_requireNonNull_0 : cJ25_requireNonNull.data.toList.drop 0 = dktJ25_requireNonNull_0 := by decide +kernel
theorem dJ25_requireNonNull_0 : decode cJ25_requireNonNull 0 = .ok (.aload_n 0, 1) := dk_42 (dk_at dksJ25_requireNonNull_0 0 rfl rfl)
theorem dJ25_requireNonNull_1 : decode cJ25_requireNonNull 1 = .ok (.ifnonnull 11, 3) := dk_199 0 11 (dk_at dksJ25_requireNonNull_0 1 rfl rfl)
theorem dJ25_requireNonNull_4 : decode cJ25_requireNonNull 4 = .ok (.new 84, 3) := dk_187 0 84 (dk_at dksJ25_requireNonNull_0 4 rfl rfl)
theorem dJ25_requireNonNull_7 : decode cJ25_requireNonNull 7 = .ok (.dup, 1) := dk_89 (dk_at dksJ25_requireNonNull_0 7 rfl rfl)
theorem dJ25_requireNonNull_8 : decode cJ25_requireNonNull 8 = .ok (.invokespecial 86, 3) := dk_183 0 86 (dk_at dksJ25_requireNonNull_0 8 rfl rfl)
theorem dJ25_requireNonNull_11 : decode cJ25_requireNonNull 11 = .ok (.athrow, 1) := dk_191 (dk_at dksJ25_requireNonNull_0 11 rfl rfl)
theorem dJ25_requireNonNull_12 : decode cJ25_requireNonNull 12 = .ok (.aload_n 0, 1) := dk_42 (dk_at dksJ25_requireNonNull_0 12 rfl rfl)
theorem dJ25_requireNonNull_13 : decode cJ25_requireNonNull 13 = .ok (.areturn, 1) := dk_176 (dk_at dksJ25_requireNonNull_0 13 rfl rfl)
def dkwJ25_checkIndex_0 : List UInt8 := [26, 27, 1, 184, 0, 105, 172]
abbrev dktJ25_checkIndex_0 : List UInt8 := dkwJ25_checkIndex_0 ++ []
theorem dksJ25_checkIndex_0 : cJ25_checkIndex.data.toList.drop 0 = dktJ25_checkIndex_0 := by decide +kernel
theorem dJ25_checkIndex_0 : decode cJ25_checkIndex 0 = .ok (.iload_n 0, 1) := dk_26 (dk_at dksJ25_checkIndex_0 0 rfl rfl)
theorem dJ25_checkIndex_1 : decode cJ25_checkIndex 1 = .ok (.iload_n 1, 1) := dk_27 (dk_at dksJ25_checkIndex_0 1 rfl rfl)
theorem dJ25_checkIndex_2 : decode cJ25_checkIndex 2 = .ok (.aconst_null, 1) := dk_1 (dk_at dksJ25_checkIndex_0 2 rfl rfl)
theorem dJ25_checkIndex_3 : decode cJ25_checkIndex 3 = .ok (.invokestatic 105, 3) := dk_184 0 105 (dk_at dksJ25_checkIndex_0 3 rfl rfl)
theorem dJ25_checkIndex_6 : decode cJ25_checkIndex 6 = .ok (.ireturn, 1) := dk_172 (dk_at dksJ25_checkIndex_0 6 rfl rfl)
def dkwJ26_init_1 : List UInt8 := [181, 0, 22, 177]
abbrev dktJ26_init_1 : List UInt8 := dkwJ26_init_1 ++ []
def dkwJ26_init_0 : List UInt8 := [42, 43, 181, 0, 1, 42, 183, 0, 7, 42, 2, 181, 0, 13, 42, 42, 180, 0, 1, 180, 0, 17]
abbrev dktJ26_init_0 : List UInt8 := dkwJ26_init_0 ++ dktJ26_init_1
theorem dksJ26_init_0 : cJ26_init.data.toList.drop 0 = dktJ26_init_0 := by decide +kernel
theorem dksJ26_init_1 : cJ26_init.data.toList.drop 22 = dktJ26_init_1 := dk_seg dksJ26_init_0 22 rfl rfl
theorem dJ26_init_0 : decode cJ26_init 0 = .ok (.aload_n 0, 1) := dk_42 (dk_at dksJ26_init_0 0 rfl rfl)
theorem dJ26_init_1 : decode cJ26_init 1 = .ok (.aload_n 1, 1) := dk_43 (dk_at dksJ26_init_0 1 rfl rfl)
theorem dJ26_init_2 : decode cJ26_init 2 = .ok (.putfield 1, 3) := dk_181 0 1 (dk_at dksJ26_init_0 2 rfl rfl)
theorem dJ26_init_5 : decode cJ26_init 5 = .ok (.aload_n 0, 1) := dk_42 (dk_at dksJ26_init_0 5 rfl rfl)
theorem dJ26_init_6 : decode cJ26_init 6 = .ok (.invokespecial 7, 3) := dk_183 0 7 (dk_at dksJ26_init_0 6 rfl rfl)
theorem dJ26_init_9 : decode cJ26_init 9 = .ok (.aload_n 0, 1) := dk_42 (dk_at dksJ26_init_0 9 rfl rfl)
theorem dJ26_init_10 : decode cJ26_init 10 = .ok (.iconst (-1), 1) := dk_2 (dk_at dksJ26_init_0 10 rfl rfl)
theorem dJ26_init_11 : decode cJ26_init 11 = .ok (.putfield 13, 3) := dk_181 0 13 (dk_at dksJ26_init_0 11 rfl rfl)
theorem dJ26_init_14 : decode cJ26_init 14 = .ok (.aload_n 0, 1) := dk_42 (dk_at dksJ26_init_0 14 rfl rfl)
theorem dJ26_init_15 : decode cJ26_init 15 = .ok (.aload_n 0, 1) := dk_42 (dk_at dksJ26_init_0 15 rfl rfl)
theorem dJ26_init_16 : decode cJ26_init 16 = .ok (.getfield 1, 3) := dk_180 0 1 (dk_at dksJ26_init_0 16 rfl rfl)
theorem dJ26_init_19 : decode cJ26_init 19 = .ok (.getfield 17, 3) := dk_180 0 17 (dk_at dksJ26_init_0 19 rfl rfl)
theorem dJ26_init_22 : decode cJ26_init 22 = .ok (.putfield 22, 3) := dk_181 0 22 (dk_at dksJ26_init_1 0 rfl rfl)
theorem dJ26_init_25 : decode cJ26_init 25 = .ok (.return_, 1) := dk_177 (dk_at dksJ26_init_1 3 rfl rfl)
def dkwJ26_hasNext_0 : List UInt8 := [42, 180, 0, 25, 42, 180, 0, 1, 180, 0, 28, 159, 0, 7, 4, 167, 0, 4, 3, 172]
abbrev dktJ26_hasNext_0 : List UInt8 := dkwJ26_hasNext_0 ++ []
theorem dksJ26_hasNext_0 : cJ26_hasNext.data.toList.drop 0 = dktJ26_hasNext_0 := by decide +kernel
theorem dJ26_hasNext_0 : decode cJ26_hasNext 0 = .ok (.aload_n 0, 1) := dk_42 (dk_at dksJ26_hasNext_0 0 rfl rfl)
theorem dJ26_hasNext_1 : decode cJ26_hasNext 1 = .ok (.getfield 25, 3) := dk_180 0 25 (dk_at dksJ26_hasNext_0 1 rfl rfl)
theorem dJ26_hasNext_4 : decode cJ26_hasNext 4 = .ok (.aload_n 0, 1) := dk_42 (dk_at dksJ26_hasNext_0 4 rfl rfl)
theorem dJ26_hasNext_5 : decode cJ26_hasNext 5 = .ok (.getfield 1, 3) := dk_180 0 1 (dk_at dksJ26_hasNext_0 5 rfl rfl)
theorem dJ26_hasNext_8 : decode cJ26_hasNext 8 = .ok (.getfield 28, 3) := dk_180 0 28 (dk_at dksJ26_hasNext_0 8 rfl rfl)
theorem dJ26_hasNext_11 : decode cJ26_hasNext 11 = .ok (.if_icmp .eq 7, 3) := dk_159 0 7 (dk_at dksJ26_hasNext_0 11 rfl rfl)
theorem dJ26_hasNext_14 : decode cJ26_hasNext 14 = .ok (.iconst 1, 1) := dk_4 (dk_at dksJ26_hasNext_0 14 rfl rfl)
theorem dJ26_hasNext_15 : decode cJ26_hasNext 15 = .ok (.goto 4, 3) := dk_167 0 4 (dk_at dksJ26_hasNext_0 15 rfl rfl)
theorem dJ26_hasNext_18 : decode cJ26_hasNext 18 = .ok (.iconst 0, 1) := dk_3 (dk_at dksJ26_hasNext_0 18 rfl rfl)
theorem dJ26_hasNext_19 : decode cJ26_hasNext 19 = .ok (.ireturn, 1) := dk_172 (dk_at dksJ26_hasNext_0 19 rfl rfl)
def dkwJ26_next_2 : List UInt8 := [183, 0, 43, 191, 42, 27, 4, 96, 181, 0, 25, 44, 42, 27, 90, 181, 0, 13, 50, 176]
abbrev dktJ26_next_2 : List UInt8 := dkwJ26_next_2 ++ []
def dkwJ26_next_1 : List UInt8 := [183, 0, 36, 191, 42, 180, 0, 1, 180, 0, 37, 77, 27, 44, 190, 161, 0, 11, 187, 0, 41, 89]
abbrev dktJ26_next_1 : List UInt8 := dkwJ26_next_1 ++ dktJ26_next_2
def dkwJ26_next_0 : List UInt8 := [42, 182, 0, 31, 42, 180, 0, 25, 60, 27, 42, 180, 0, 1, 180, 0, 28, 161, 0, 11, 187, 0, 34, 89]
abbrev dktJ26_next_0 : List UInt8 := dkwJ26_next_0 ++ dktJ26_next_1
theorem dksJ26_next_0 : cJ26_next.data.toList.drop 0 = dktJ26_next_0 := by decide +kernel
theorem dksJ26_next_1 : cJ26_next.data.toList.drop 24 = dktJ26_next_1 := dk_seg dksJ26_next_0 24 rfl rfl
theorem dksJ26_next_2 : cJ26_next.data.toList.drop 46 = dktJ26_next_2 := dk_seg dksJ26_next_1 22 rfl rfl
theorem dJ26_next_0 : decode cJ26_next 0 = .ok (.aload_n 0, 1) := dk_42 (dk_at dksJ26_next_0 0 rfl rfl)
theorem dJ26_next_1 : decode cJ26_next 1 = .ok (.invokevirtual 31, 3) := dk_182 0 31 (dk_at dksJ26_next_0 1 rfl rfl)
theorem dJ26_next_4 : decode cJ26_next 4 = .ok (.aload_n 0, 1) := dk_42 (dk_at dksJ26_next_0 4 rfl rfl)
theorem dJ26_next_5 : decode cJ26_next 5 = .ok (.getfield 25, 3) := dk_180 0 25 (dk_at dksJ26_next_0 5 rfl rfl)
theorem dJ26_next_8 : decode cJ26_next 8 = .ok (.istore_n 1, 1) := dk_60 (dk_at dksJ26_next_0 8 rfl rfl)
theorem dJ26_next_9 : decode cJ26_next 9 = .ok (.iload_n 1, 1) := dk_27 (dk_at dksJ26_next_0 9 rfl rfl)
theorem dJ26_next_10 : decode cJ26_next 10 = .ok (.aload_n 0, 1) := dk_42 (dk_at dksJ26_next_0 10 rfl rfl)
theorem dJ26_next_11 : decode cJ26_next 11 = .ok (.getfield 1, 3) := dk_180 0 1 (dk_at dksJ26_next_0 11 rfl rfl)
theorem dJ26_next_14 : decode cJ26_next 14 = .ok (.getfield 28, 3) := dk_180 0 28 (dk_at dksJ26_next_0 14 rfl rfl)
theorem dJ26_next_17 : decode cJ26_next 17 = .ok (.if_icmp .lt 11, 3) := dk_161 0 11 (dk_at dksJ26_next_0 17 rfl rfl)
theorem dJ26_next_20 : decode cJ26_next 20 = .ok (.new 34, 3) := dk_187 0 34 (dk_at dksJ26_next_0 20 rfl rfl)
theorem dJ26_next_23 : decode cJ26_next 23 = .ok (.dup, 1) := dk_89 (dk_at dksJ26_next_0 23 rfl rfl)
theorem dJ26_next_24 : decode cJ26_next 24 = .ok (.invokespecial 36, 3) := dk_183 0 36 (dk_at dksJ26_next_1 0 rfl rfl)
theorem dJ26_next_27 : decode cJ26_next 27 = .ok (.athrow, 1) := dk_191 (dk_at dksJ26_next_1 3 rfl rfl)
theorem dJ26_next_28 : decode cJ26_next 28 = .ok (.aload_n 0, 1) := dk_42 (dk_at dksJ26_next_1 4 rfl rfl)
theorem dJ26_next_29 : decode cJ26_next 29 = .ok (.getfield 1, 3) := dk_180 0 1 (dk_at dksJ26_next_1 5 rfl rfl)
theorem dJ26_next_32 : decode cJ26_next 32 = .ok (.getfield 37, 3) := dk_180 0 37 (dk_at dksJ26_next_1 8 rfl rfl)
theorem dJ26_next_35 : decode cJ26_next 35 = .ok (.astore_n 2, 1) := dk_77 (dk_at dksJ26_next_1 11 rfl rfl)
theorem dJ26_next_36 : decode cJ26_next 36 = .ok (.iload_n 1, 1) := dk_27 (dk_at dksJ26_next_1 12 rfl rfl)
theorem dJ26_next_37 : decode cJ26_next 37 = .ok (.aload_n 2, 1) := dk_44 (dk_at dksJ26_next_1 13 rfl rfl)
theorem dJ26_next_38 : decode cJ26_next 38 = .ok (.arraylength, 1) := dk_190 (dk_at dksJ26_next_1 14 rfl rfl)
theorem dJ26_next_39 : decode cJ26_next 39 = .ok (.if_icmp .lt 11, 3) := dk_161 0 11 (dk_at dksJ26_next_1 15 rfl rfl)
theorem dJ26_next_42 : decode cJ26_next 42 = .ok (.new 41, 3) := dk_187 0 41 (dk_at dksJ26_next_1 18 rfl rfl)
theorem dJ26_next_45 : decode cJ26_next 45 = .ok (.dup, 1) := dk_89 (dk_at dksJ26_next_1 21 rfl rfl)
theorem dJ26_next_46 : decode cJ26_next 46 = .ok (.invokespecial 43, 3) := dk_183 0 43 (dk_at dksJ26_next_2 0 rfl rfl)
theorem dJ26_next_49 : decode cJ26_next 49 = .ok (.athrow, 1) := dk_191 (dk_at dksJ26_next_2 3 rfl rfl)
theorem dJ26_next_50 : decode cJ26_next 50 = .ok (.aload_n 0, 1) := dk_42 (dk_at dksJ26_next_2 4 rfl rfl)
theorem dJ26_next_51 : decode cJ26_next 51 = .ok (.iload_n 1, 1) := dk_27 (dk_at dksJ26_next_2 5 rfl rfl)
theorem dJ26_next_52 : decode cJ26_next 52 = .ok (.iconst 1, 1) := dk_4 (dk_at dksJ26_next_2 6 rfl rfl)
theorem dJ26_next_53 : decode cJ26_next 53 = .ok (.iadd, 1) := dk_96 (dk_at dksJ26_next_2 7 rfl rfl)
theorem dJ26_next_54 : decode cJ26_next 54 = .ok (.putfield 25, 3) := dk_181 0 25 (dk_at dksJ26_next_2 8 rfl rfl)
theorem dJ26_next_57 : decode cJ26_next 57 = .ok (.aload_n 2, 1) := dk_44 (dk_at dksJ26_next_2 11 rfl rfl)
theorem dJ26_next_58 : decode cJ26_next 58 = .ok (.aload_n 0, 1) := dk_42 (dk_at dksJ26_next_2 12 rfl rfl)
theorem dJ26_next_59 : decode cJ26_next 59 = .ok (.iload_n 1, 1) := dk_27 (dk_at dksJ26_next_2 13 rfl rfl)
theorem dJ26_next_60 : decode cJ26_next 60 = .ok (.dup_x1, 1) := dk_90 (dk_at dksJ26_next_2 14 rfl rfl)
theorem dJ26_next_61 : decode cJ26_next 61 = .ok (.putfield 13, 3) := dk_181 0 13 (dk_at dksJ26_next_2 15 rfl rfl)
theorem dJ26_next_64 : decode cJ26_next 64 = .ok (.aaload, 1) := dk_50 (dk_at dksJ26_next_2 18 rfl rfl)
theorem dJ26_next_65 : decode cJ26_next 65 = .ok (.areturn, 1) := dk_176 (dk_at dksJ26_next_2 19 rfl rfl)
def dkwJ26_checkForComodification_0 : List UInt8 := [42, 180, 0, 1, 180, 0, 17, 42, 180, 0, 22, 159, 0, 11, 187, 0, 41, 89, 183, 0, 43, 191, 177]
abbrev dktJ26_checkForComodification_0 : List UInt8 := dkwJ26_checkForComodification_0 ++ []
theorem dksJ26_checkForComodification_0 : cJ26_checkForComodification.data.toList.drop 0 = dktJ26_checkForComodification_0 := by decide +kernel
theorem dJ26_checkForComodification_0 : decode cJ26_checkForComodification 0 = .ok (.aload_n 0, 1) := dk_42 (dk_at dksJ26_checkForComodification_0 0 rfl rfl)
theorem dJ26_checkForComodification_1 : decode cJ26_checkForComodification 1 = .ok (.getfield 1, 3) := dk_180 0 1 (dk_at dksJ26_checkForComodification_0 1 rfl rfl)
theorem dJ26_checkForComodification_4 : decode cJ26_checkForComodification 4 = .ok (.getfield 17, 3) := dk_180 0 17 (dk_at dksJ26_checkForComodification_0 4 rfl rfl)
theorem dJ26_checkForComodification_7 : decode cJ26_checkForComodification 7 = .ok (.aload_n 0, 1) := dk_42 (dk_at dksJ26_checkForComodification_0 7 rfl rfl)
theorem dJ26_checkForComodification_8 : decode cJ26_checkForComodification 8 = .ok (.getfield 22, 3) := dk_180 0 22 (dk_at dksJ26_checkForComodification_0 8 rfl rfl)
theorem dJ26_checkForComodification_11 : decode cJ26_checkForComodification 11 = .ok (.if_icmp .eq 11, 3) := dk_159 0 11 (dk_at dksJ26_checkForComodification_0 11 rfl rfl)
theorem dJ26_checkForComodification_14 : decode cJ26_checkForComodification 14 = .ok (.new 41, 3) := dk_187 0 41 (dk_at dksJ26_checkForComodification_0 14 rfl rfl)
theorem dJ26_checkForComodification_17 : decode cJ26_checkForComodification 17 = .ok (.dup, 1) := dk_89 (dk_at dksJ26_checkForComodification_0 17 rfl rfl)
theorem dJ26_checkForComodification_18 : decode cJ26_checkForComodification 18 = .ok (.invokespecial 43, 3) := dk_183 0 43 (dk_at dksJ26_checkForComodification_0 18 rfl rfl)
theorem dJ26_checkForComodification_21 : decode cJ26_checkForComodification 21 = .ok (.athrow, 1) := dk_191 (dk_at dksJ26_checkForComodification_0 21 rfl rfl)
theorem dJ26_checkForComodification_22 : decode cJ26_checkForComodification 22 = .ok (.return_, 1) := dk_177 (dk_at dksJ26_checkForComodification_0 22 rfl rfl)
def dkwJ28_toArray_0 : List UInt8 := [42, 180, 0, 17, 42, 180, 0, 58, 184, 0, 86, 176]
abbrev dktJ28_toArray_0 : List UInt8 := dkwJ28_toArray_0 ++ []
theorem dksJ28_toArray_0 : cJ28_toArray.data.toList.drop 0 = dktJ28_toArray_0 := by decide +kernel
theorem dJ28_toArray_0 : decode cJ28_toArray 0 = .ok (.aload_n 0, 1) := dk_42 (dk_at dksJ28_toArray_0 0 rfl rfl)
theorem dJ28_toArray_1 : decode cJ28_toArray 1 = .ok (.getfield 17, 3) := dk_180 0 17 (dk_at dksJ28_toArray_0 1 rfl rfl)
theorem dJ28_toArray_4 : decode cJ28_toArray 4 = .ok (.aload_n 0, 1) := dk_42 (dk_at dksJ28_toArray_0 4 rfl rfl)
theorem dJ28_toArray_5 : decode cJ28_toArray 5 = .ok (.getfield 58, 3) := dk_180 0 58 (dk_at dksJ28_toArray_0 5 rfl rfl)
theorem dJ28_toArray_8 : decode cJ28_toArray 8 = .ok (.invokestatic 86, 3) := dk_184 0 86 (dk_at dksJ28_toArray_0 8 rfl rfl)
theorem dJ28_toArray_11 : decode cJ28_toArray 11 = .ok (.areturn, 1) := dk_176 (dk_at dksJ28_toArray_0 11 rfl rfl)
def dkwJ28_init_0 : List UInt8 := [42, 16, 11, 1, 183, 0, 3, 177]
abbrev dktJ28_init_0 : List UInt8 := dkwJ28_init_0 ++ []
theorem dksJ28_init_0 : cJ28_init.data.toList.drop 0 = dktJ28_init_0 := by decide +kernel
theorem dJ28_init_0 : decode cJ28_init 0 = .ok (.aload_n 0, 1) := dk_42 (dk_at dksJ28_init_0 0 rfl rfl)
theorem dJ28_init_1 : decode cJ28_init 1 = .ok (.bipush 11, 2) := dk_16 11 (dk_at dksJ28_init_0 1 rfl rfl)
theorem dJ28_init_3 : decode cJ28_init 3 = .ok (.aconst_null, 1) := dk_1 (dk_at dksJ28_init_0 3 rfl rfl)
theorem dJ28_init_4 : decode cJ28_init 4 = .ok (.invokespecial 3, 3) := dk_183 0 3 (dk_at dksJ28_init_0 4 rfl rfl)
theorem dJ28_init_7 : decode cJ28_init 7 = .ok (.return_, 1) := dk_177 (dk_at dksJ28_init_0 7 rfl rfl)
def dkwJ28_init_2_1 : List UInt8 := [181, 0, 17, 42, 44, 181, 0, 21, 177]
abbrev dktJ28_init_2_1 : List UInt8 := dkwJ28_init_2_1 ++ []
def dkwJ28_init_2_0 : List UInt8 := [42, 183, 0, 7, 27, 4, 162, 0, 11, 187, 0, 12, 89, 183, 0, 14, 191, 42, 27, 189, 0, 15]
abbrev dktJ28_init_2_0 : List UInt8 := dkwJ28_init_2_0 ++ dktJ28_init_2_1
theorem dksJ28_init_2_0 : cJ28_init_2.data.toList.drop 0 = dktJ28_init_2_0 := by decide +kernel
theorem dksJ28_init_2_1 : cJ28_init_2.data.toList.drop 22 = dktJ28_init_2_1 := dk_seg dksJ28_init_2_0 22 rfl rfl
theorem dJ28_init_2_0 : decode cJ28_init_2 0 = .ok (.aload_n 0, 1) := dk_42 (dk_at dksJ28_init_2_0 0 rfl rfl)
theorem dJ28_init_2_1 : decode cJ28_init_2 1 = .ok (.invokespecial 7, 3) := dk_183 0 7 (dk_at dksJ28_init_2_0 1 rfl rfl)
theorem dJ28_init_2_4 : decode cJ28_init_2 4 = .ok (.iload_n 1, 1) := dk_27 (dk_at dksJ28_init_2_0 4 rfl rfl)
theorem dJ28_init_2_5 : decode cJ28_init_2 5 = .ok (.iconst 1, 1) := dk_4 (dk_at dksJ28_init_2_0 5 rfl rfl)
theorem dJ28_init_2_6 : decode cJ28_init_2 6 = .ok (.if_icmp .ge 11, 3) := dk_162 0 11 (dk_at dksJ28_init_2_0 6 rfl rfl)
theorem dJ28_init_2_9 : decode cJ28_init_2 9 = .ok (.new 12, 3) := dk_187 0 12 (dk_at dksJ28_init_2_0 9 rfl rfl)
theorem dJ28_init_2_12 : decode cJ28_init_2 12 = .ok (.dup, 1) := dk_89 (dk_at dksJ28_init_2_0 12 rfl rfl)
theorem dJ28_init_2_13 : decode cJ28_init_2 13 = .ok (.invokespecial 14, 3) := dk_183 0 14 (dk_at dksJ28_init_2_0 13 rfl rfl)
theorem dJ28_init_2_16 : decode cJ28_init_2 16 = .ok (.athrow, 1) := dk_191 (dk_at dksJ28_init_2_0 16 rfl rfl)
theorem dJ28_init_2_17 : decode cJ28_init_2 17 = .ok (.aload_n 0, 1) := dk_42 (dk_at dksJ28_init_2_0 17 rfl rfl)
theorem dJ28_init_2_18 : decode cJ28_init_2 18 = .ok (.iload_n 1, 1) := dk_27 (dk_at dksJ28_init_2_0 18 rfl rfl)
theorem dJ28_init_2_19 : decode cJ28_init_2 19 = .ok (.anewarray 15, 3) := dk_189 0 15 (dk_at dksJ28_init_2_0 19 rfl rfl)
theorem dJ28_init_2_22 : decode cJ28_init_2 22 = .ok (.putfield 17, 3) := dk_181 0 17 (dk_at dksJ28_init_2_1 0 rfl rfl)
theorem dJ28_init_2_25 : decode cJ28_init_2 25 = .ok (.aload_n 0, 1) := dk_42 (dk_at dksJ28_init_2_1 3 rfl rfl)
theorem dJ28_init_2_26 : decode cJ28_init_2 26 = .ok (.aload_n 2, 1) := dk_44 (dk_at dksJ28_init_2_1 4 rfl rfl)
theorem dJ28_init_2_27 : decode cJ28_init_2 27 = .ok (.putfield 21, 3) := dk_181 0 21 (dk_at dksJ28_init_2_1 5 rfl rfl)
theorem dJ28_init_2_30 : decode cJ28_init_2 30 = .ok (.return_, 1) := dk_177 (dk_at dksJ28_init_2_1 8 rfl rfl)
def dkwJ28_add_0 : List UInt8 := [42, 43, 182, 0, 89, 172]
abbrev dktJ28_add_0 : List UInt8 := dkwJ28_add_0 ++ []
theorem dksJ28_add_0 : cJ28_add.data.toList.drop 0 = dktJ28_add_0 := by decide +kernel
theorem dJ28_add_0 : decode cJ28_add 0 = .ok (.aload_n 0, 1) := dk_42 (dk_at dksJ28_add_0 0 rfl rfl)
theorem dJ28_add_1 : decode cJ28_add 1 = .ok (.aload_n 1, 1) := dk_43 (dk_at dksJ28_add_0 1 rfl rfl)
theorem dJ28_add_2 : decode cJ28_add 2 = .ok (.invokevirtual 89, 3) := dk_182 0 89 (dk_at dksJ28_add_0 2 rfl rfl)
theorem dJ28_add_5 : decode cJ28_add 5 = .ok (.ireturn, 1) := dk_172 (dk_at dksJ28_add_0 5 rfl rfl)
def dkwJ28_offer_2 : List UInt8 := [182, 0, 100, 42, 28, 4, 96, 181, 0, 58, 4, 172]
abbrev dktJ28_offer_2 : List UInt8 := dkwJ28_offer_2 ++ []
def dkwJ28_offer_1 : List UInt8 := [180, 0, 58, 61, 28, 42, 180, 0, 17, 190, 161, 0, 10, 42, 28, 4, 96, 182, 0, 96, 42, 28, 43]
abbrev dktJ28_offer_1 : List UInt8 := dkwJ28_offer_1 ++ dktJ28_offer_2
def dkwJ28_offer_0 : List UInt8 := [43, 199, 0, 11, 187, 0, 74, 89, 183, 0, 76, 191, 42, 89, 180, 0, 93, 4, 96, 181, 0, 93, 42]
abbrev dktJ28_offer_0 : List UInt8 := dkwJ28_offer_0 ++ dktJ28_offer_1
theorem dksJ28_offer_0 : cJ28_offer.data.toList.drop 0 = dktJ28_offer_0 := by decide +kernel
theorem dksJ28_offer_1 : cJ28_offer.data.toList.drop 23 = dktJ28_offer_1 := dk_seg dksJ28_offer_0 23 rfl rfl
theorem dksJ28_offer_2 : cJ28_offer.data.toList.drop 46 = dktJ28_offer_2 := dk_seg dksJ28_offer_1 23 rfl rfl
theorem dJ28_offer_0 : decode cJ28_offer 0 = .ok (.aload_n 1, 1) := dk_43 (dk_at dksJ28_offer_0 0 rfl rfl)
theorem dJ28_offer_1 : decode cJ28_offer 1 = .ok (.ifnonnull 11, 3) := dk_199 0 11 (dk_at dksJ28_offer_0 1 rfl rfl)
theorem dJ28_offer_4 : decode cJ28_offer 4 = .ok (.new 74, 3) := dk_187 0 74 (dk_at dksJ28_offer_0 4 rfl rfl)
theorem dJ28_offer_7 : decode cJ28_offer 7 = .ok (.dup, 1) := dk_89 (dk_at dksJ28_offer_0 7 rfl rfl)
theorem dJ28_offer_8 : decode cJ28_offer 8 = .ok (.invokespecial 76, 3) := dk_183 0 76 (dk_at dksJ28_offer_0 8 rfl rfl)
theorem dJ28_offer_11 : decode cJ28_offer 11 = .ok (.athrow, 1) := dk_191 (dk_at dksJ28_offer_0 11 rfl rfl)
theorem dJ28_offer_12 : decode cJ28_offer 12 = .ok (.aload_n 0, 1) := dk_42 (dk_at dksJ28_offer_0 12 rfl rfl)
theorem dJ28_offer_13 : decode cJ28_offer 13 = .ok (.dup, 1) := dk_89 (dk_at dksJ28_offer_0 13 rfl rfl)
theorem dJ28_offer_14 : decode cJ28_offer 14 = .ok (.getfield 93, 3) := dk_180 0 93 (dk_at dksJ28_offer_0 14 rfl rfl)
theorem dJ28_offer_17 : decode cJ28_offer 17 = .ok (.iconst 1, 1) := dk_4 (dk_at dksJ28_offer_0 17 rfl rfl)
theorem dJ28_offer_18 : decode cJ28_offer 18 = .ok (.iadd, 1) := dk_96 (dk_at dksJ28_offer_0 18 rfl rfl)
theorem dJ28_offer_19 : decode cJ28_offer 19 = .ok (.putfield 93, 3) := dk_181 0 93 (dk_at dksJ28_offer_0 19 rfl rfl)
theorem dJ28_offer_22 : decode cJ28_offer 22 = .ok (.aload_n 0, 1) := dk_42 (dk_at dksJ28_offer_0 22 rfl rfl)
theorem dJ28_offer_23 : decode cJ28_offer 23 = .ok (.getfield 58, 3) := dk_180 0 58 (dk_at dksJ28_offer_1 0 rfl rfl)
theorem dJ28_offer_26 : decode cJ28_offer 26 = .ok (.istore_n 2, 1) := dk_61 (dk_at dksJ28_offer_1 3 rfl rfl)
theorem dJ28_offer_27 : decode cJ28_offer 27 = .ok (.iload_n 2, 1) := dk_28 (dk_at dksJ28_offer_1 4 rfl rfl)
theorem dJ28_offer_28 : decode cJ28_offer 28 = .ok (.aload_n 0, 1) := dk_42 (dk_at dksJ28_offer_1 5 rfl rfl)
theorem dJ28_offer_29 : decode cJ28_offer 29 = .ok (.getfield 17, 3) := dk_180 0 17 (dk_at dksJ28_offer_1 6 rfl rfl)
theorem dJ28_offer_32 : decode cJ28_offer 32 = .ok (.arraylength, 1) := dk_190 (dk_at dksJ28_offer_1 9 rfl rfl)
theorem dJ28_offer_33 : decode cJ28_offer 33 = .ok (.if_icmp .lt 10, 3) := dk_161 0 10 (dk_at dksJ28_offer_1 10 rfl rfl)
theorem dJ28_offer_36 : decode cJ28_offer 36 = .ok (.aload_n 0, 1) := dk_42 (dk_at dksJ28_offer_1 13 rfl rfl)
theorem dJ28_offer_37 : decode cJ28_offer 37 = .ok (.iload_n 2, 1) := dk_28 (dk_at dksJ28_offer_1 14 rfl rfl)
theorem dJ28_offer_38 : decode cJ28_offer 38 = .ok (.iconst 1, 1) := dk_4 (dk_at dksJ28_offer_1 15 rfl rfl)
theorem dJ28_offer_39 : decode cJ28_offer 39 = .ok (.iadd, 1) := dk_96 (dk_at dksJ28_offer_1 16 rfl rfl)
theorem dJ28_offer_40 : decode cJ28_offer 40 = .ok (.invokevirtual 96, 3) := dk_182 0 96 (dk_at dksJ28_offer_1 17 rfl rfl)
theorem dJ28_offer_43 : decode cJ28_offer 43 = .ok (.aload_n 0, 1) := dk_42 (dk_at dksJ28_offer_1 20 rfl rfl)
theorem dJ28_offer_44 : decode cJ28_offer 44 = .ok (.iload_n 2, 1) := dk_28 (dk_at dksJ28_offer_1 21 rfl rfl)
theorem dJ28_offer_45 : decode cJ28_offer 45 = .ok (.aload_n 1, 1) := dk_43 (dk_at dksJ28_offer_1 22 rfl rfl)
theorem dJ28_offer_46 : decode cJ28_offer 46 = .ok (.invokevirtual 100, 3) := dk_182 0 100 (dk_at dksJ28_offer_2 0 rfl rfl)
theorem dJ28_offer_49 : decode cJ28_offer 49 = .ok (.aload_n 0, 1) := dk_42 (dk_at dksJ28_offer_2 3 rfl rfl)
theorem dJ28_offer_50 : decode cJ28_offer 50 = .ok (.iload_n 2, 1) := dk_28 (dk_at dksJ28_offer_2 4 rfl rfl)
theorem dJ28_offer_51 : decode cJ28_offer 51 = .ok (.iconst 1, 1) := dk_4 (dk_at dksJ28_offer_2 5 rfl rfl)
theorem dJ28_offer_52 : decode cJ28_offer 52 = .ok (.iadd, 1) := dk_96 (dk_at dksJ28_offer_2 6 rfl rfl)
theorem dJ28_offer_53 : decode cJ28_offer 53 = .ok (.putfield 58, 3) := dk_181 0 58 (dk_at dksJ28_offer_2 7 rfl rfl)
theorem dJ28_offer_56 : decode cJ28_offer 56 = .ok (.iconst 1, 1) := dk_4 (dk_at dksJ28_offer_2 10 rfl rfl)
theorem dJ28_offer_57 : decode cJ28_offer 57 = .ok (.ireturn, 1) := dk_172 (dk_at dksJ28_offer_2 11 rfl rfl)
def dkwJ28_grow_1 : List UInt8 := [122, 184, 0, 80, 62, 42, 42, 180, 0, 17, 29, 184, 0, 86, 181, 0, 17, 177]
abbrev dktJ28_grow_1 : List UInt8 := dkwJ28_grow_1 ++ []
def dkwJ28_grow_0 : List UInt8 := [42, 180, 0, 17, 190, 61, 28, 27, 28, 100, 28, 16, 64, 162, 0, 9, 28, 5, 96, 167, 0, 6, 28, 4]
abbrev dktJ28_grow_0 : List UInt8 := dkwJ28_grow_0 ++ dktJ28_grow_1
theorem dksJ28_grow_0 : cJ28_grow.data.toList.drop 0 = dktJ28_grow_0 := by decide +kernel
theorem dksJ28_grow_1 : cJ28_grow.data.toList.drop 24 = dktJ28_grow_1 := dk_seg dksJ28_grow_0 24 rfl rfl
theorem dJ28_grow_0 : decode cJ28_grow 0 = .ok (.aload_n 0, 1) := dk_42 (dk_at dksJ28_grow_0 0 rfl rfl)
theorem dJ28_grow_1 : decode cJ28_grow 1 = .ok (.getfield 17, 3) := dk_180 0 17 (dk_at dksJ28_grow_0 1 rfl rfl)
theorem dJ28_grow_4 : decode cJ28_grow 4 = .ok (.arraylength, 1) := dk_190 (dk_at dksJ28_grow_0 4 rfl rfl)
theorem dJ28_grow_5 : decode cJ28_grow 5 = .ok (.istore_n 2, 1) := dk_61 (dk_at dksJ28_grow_0 5 rfl rfl)
theorem dJ28_grow_6 : decode cJ28_grow 6 = .ok (.iload_n 2, 1) := dk_28 (dk_at dksJ28_grow_0 6 rfl rfl)
theorem dJ28_grow_7 : decode cJ28_grow 7 = .ok (.iload_n 1, 1) := dk_27 (dk_at dksJ28_grow_0 7 rfl rfl)
theorem dJ28_grow_8 : decode cJ28_grow 8 = .ok (.iload_n 2, 1) := dk_28 (dk_at dksJ28_grow_0 8 rfl rfl)
theorem dJ28_grow_9 : decode cJ28_grow 9 = .ok (.isub, 1) := dk_100 (dk_at dksJ28_grow_0 9 rfl rfl)
theorem dJ28_grow_10 : decode cJ28_grow 10 = .ok (.iload_n 2, 1) := dk_28 (dk_at dksJ28_grow_0 10 rfl rfl)
theorem dJ28_grow_11 : decode cJ28_grow 11 = .ok (.bipush 64, 2) := dk_16 64 (dk_at dksJ28_grow_0 11 rfl rfl)
theorem dJ28_grow_13 : decode cJ28_grow 13 = .ok (.if_icmp .ge 9, 3) := dk_162 0 9 (dk_at dksJ28_grow_0 13 rfl rfl)
theorem dJ28_grow_16 : decode cJ28_grow 16 = .ok (.iload_n 2, 1) := dk_28 (dk_at dksJ28_grow_0 16 rfl rfl)
theorem dJ28_grow_17 : decode cJ28_grow 17 = .ok (.iconst 2, 1) := dk_5 (dk_at dksJ28_grow_0 17 rfl rfl)
theorem dJ28_grow_18 : decode cJ28_grow 18 = .ok (.iadd, 1) := dk_96 (dk_at dksJ28_grow_0 18 rfl rfl)
theorem dJ28_grow_19 : decode cJ28_grow 19 = .ok (.goto 6, 3) := dk_167 0 6 (dk_at dksJ28_grow_0 19 rfl rfl)
theorem dJ28_grow_22 : decode cJ28_grow 22 = .ok (.iload_n 2, 1) := dk_28 (dk_at dksJ28_grow_0 22 rfl rfl)
theorem dJ28_grow_23 : decode cJ28_grow 23 = .ok (.iconst 1, 1) := dk_4 (dk_at dksJ28_grow_0 23 rfl rfl)
theorem dJ28_grow_24 : decode cJ28_grow 24 = .ok (.ishr, 1) := dk_122 (dk_at dksJ28_grow_1 0 rfl rfl)
theorem dJ28_grow_25 : decode cJ28_grow 25 = .ok (.invokestatic 80, 3) := dk_184 0 80 (dk_at dksJ28_grow_1 1 rfl rfl)
theorem dJ28_grow_28 : decode cJ28_grow 28 = .ok (.istore_n 3, 1) := dk_62 (dk_at dksJ28_grow_1 4 rfl rfl)
theorem dJ28_grow_29 : decode cJ28_grow 29 = .ok (.aload_n 0, 1) := dk_42 (dk_at dksJ28_grow_1 5 rfl rfl)
theorem dJ28_grow_30 : decode cJ28_grow 30 = .ok (.aload_n 0, 1) := dk_42 (dk_at dksJ28_grow_1 6 rfl rfl)
theorem dJ28_grow_31 : decode cJ28_grow 31 = .ok (.getfield 17, 3) := dk_180 0 17 (dk_at dksJ28_grow_1 7 rfl rfl)
theorem dJ28_grow_34 : decode cJ28_grow 34 = .ok (.iload_n 3, 1) := dk_29 (dk_at dksJ28_grow_1 10 rfl rfl)
theorem dJ28_grow_35 : decode cJ28_grow 35 = .ok (.invokestatic 86, 3) := dk_184 0 86 (dk_at dksJ28_grow_1 11 rfl rfl)
theorem dJ28_grow_38 : decode cJ28_grow 38 = .ok (.putfield 17, 3) := dk_181 0 17 (dk_at dksJ28_grow_1 14 rfl rfl)
theorem dJ28_grow_41 : decode cJ28_grow 41 = .ok (.return_, 1) := dk_177 (dk_at dksJ28_grow_1 17 rfl rfl)
def dkwJ28_siftUp_1 : List UInt8 := [44, 42, 180, 0, 17, 184, 0, 140, 177]
abbrev dktJ28_siftUp_1 : List UInt8 := dkwJ28_siftUp_1 ++ []
def dkwJ28_siftUp_0 : List UInt8 := [42, 180, 0, 21, 198, 0, 19, 27, 44, 42, 180, 0, 17, 42, 180, 0, 21, 184, 0, 136, 167, 0, 12, 27]
abbrev dktJ28_siftUp_0 : List UInt8 := dkwJ28_siftUp_0 ++ dktJ28_siftUp_1
theorem dksJ28_siftUp_0 : cJ28_siftUp.data.toList.drop 0 = dktJ28_siftUp_0 := by decide +kernel
theorem dksJ28_siftUp_1 : cJ28_siftUp.data.toList.drop 24 = dktJ28_siftUp_1 := dk_seg dksJ28_siftUp_0 24 rfl rfl
theorem dJ28_siftUp_0 : decode cJ28_siftUp 0 = .ok (.aload_n 0, 1) := dk_42 (dk_at dksJ28_siftUp_0 0 rfl rfl)
theorem dJ28_siftUp_1 : decode cJ28_siftUp 1 = .ok (.getfield 21, 3) := dk_180 0 21 (dk_at dksJ28_siftUp_0 1 rfl rfl)
theorem dJ28_siftUp_4 : decode cJ28_siftUp 4 = .ok (.ifnull 19, 3) := dk_198 0 19 (dk_at dksJ28_siftUp_0 4 rfl rfl)
theorem dJ28_siftUp_7 : decode cJ28_siftUp 7 = .ok (.iload_n 1, 1) := dk_27 (dk_at dksJ28_siftUp_0 7 rfl rfl)
theorem dJ28_siftUp_8 : decode cJ28_siftUp 8 = .ok (.aload_n 2, 1) := dk_44 (dk_at dksJ28_siftUp_0 8 rfl rfl)
theorem dJ28_siftUp_9 : decode cJ28_siftUp 9 = .ok (.aload_n 0, 1) := dk_42 (dk_at dksJ28_siftUp_0 9 rfl rfl)
theorem dJ28_siftUp_10 : decode cJ28_siftUp 10 = .ok (.getfield 17, 3) := dk_180 0 17 (dk_at dksJ28_siftUp_0 10 rfl rfl)
theorem dJ28_siftUp_13 : decode cJ28_siftUp 13 = .ok (.aload_n 0, 1) := dk_42 (dk_at dksJ28_siftUp_0 13 rfl rfl)
theorem dJ28_siftUp_14 : decode cJ28_siftUp 14 = .ok (.getfield 21, 3) := dk_180 0 21 (dk_at dksJ28_siftUp_0 14 rfl rfl)
theorem dJ28_siftUp_17 : decode cJ28_siftUp 17 = .ok (.invokestatic 136, 3) := dk_184 0 136 (dk_at dksJ28_siftUp_0 17 rfl rfl)
theorem dJ28_siftUp_20 : decode cJ28_siftUp 20 = .ok (.goto 12, 3) := dk_167 0 12 (dk_at dksJ28_siftUp_0 20 rfl rfl)
theorem dJ28_siftUp_23 : decode cJ28_siftUp 23 = .ok (.iload_n 1, 1) := dk_27 (dk_at dksJ28_siftUp_0 23 rfl rfl)
theorem dJ28_siftUp_24 : decode cJ28_siftUp 24 = .ok (.aload_n 2, 1) := dk_44 (dk_at dksJ28_siftUp_1 0 rfl rfl)
theorem dJ28_siftUp_25 : decode cJ28_siftUp 25 = .ok (.aload_n 0, 1) := dk_42 (dk_at dksJ28_siftUp_1 1 rfl rfl)
theorem dJ28_siftUp_26 : decode cJ28_siftUp 26 = .ok (.getfield 17, 3) := dk_180 0 17 (dk_at dksJ28_siftUp_1 2 rfl rfl)
theorem dJ28_siftUp_29 : decode cJ28_siftUp 29 = .ok (.invokestatic 140, 3) := dk_184 0 140 (dk_at dksJ28_siftUp_1 5 rfl rfl)
theorem dJ28_siftUp_32 : decode cJ28_siftUp 32 = .ok (.return_, 1) := dk_177 (dk_at dksJ28_siftUp_1 8 rfl rfl)
def dkwJ28_siftUpUsingComparator_2 : List UInt8 := [43, 83, 177]
abbrev dktJ28_siftUpUsingComparator_2 : List UInt8 := dkwJ28_siftUpUsingComparator_2 ++ []
def dkwJ28_siftUpUsingComparator_1 : List UInt8 := [185, 0, 149, 3, 0, 155, 0, 6, 167, 0, 14, 44, 26, 25, 5, 83, 21, 4, 59, 167, 255, 216, 44, 26]
abbrev dktJ28_siftUpUsingComparator_1 : List UInt8 := dkwJ28_siftUpUsingComparator_1 ++ dktJ28_siftUpUsingComparator_2
def dkwJ28_siftUpUsingComparator_0 : List UInt8 := [26, 158, 0, 42, 26, 4, 100, 4, 124, 54, 4, 44, 21, 4, 50, 58, 5, 45, 43, 25, 5]
abbrev dktJ28_siftUpUsingComparator_0 : List UInt8 := dkwJ28_siftUpUsingComparator_0 ++ dktJ28_siftUpUsingComparator_1
theorem dksJ28_siftUpUsingComparator_0 : cJ28_siftUpUsingComparator.data.toList.drop 0 = dktJ28_siftUpUsingComparator_0 := by decide +kernel
theorem dksJ28_siftUpUsingComparator_1 : cJ28_siftUpUsingComparator.data.toList.drop 21 = dktJ28_siftUpUsingComparator_1 := dk_seg dksJ28_siftUpUsingComparator_0 21 rfl rfl
theorem dksJ28_siftUpUsingComparator_2 : cJ28_siftUpUsingComparator.data.toList.drop 45 = dktJ28_siftUpUsingComparator_2 := dk_seg dksJ28_siftUpUsingComparator_1 24 rfl rfl
theorem dJ28_siftUpUsingComparator_0 : decode cJ28_siftUpUsingComparator 0 = .ok (.iload_n 0, 1) := dk_26 (dk_at dksJ28_siftUpUsingComparator_0 0 rfl rfl)
theorem dJ28_siftUpUsingComparator_1 : decode cJ28_siftUpUsingComparator 1 = .ok (.ifCond .le 42, 3) := dk_158 0 42 (dk_at dksJ28_siftUpUsingComparator_0 1 rfl rfl)
theorem dJ28_siftUpUsingComparator_4 : decode cJ28_siftUpUsingComparator 4 = .ok (.iload_n 0, 1) := dk_26 (dk_at dksJ28_siftUpUsingComparator_0 4 rfl rfl)
theorem dJ28_siftUpUsingComparator_5 : decode cJ28_siftUpUsingComparator 5 = .ok (.iconst 1, 1) := dk_4 (dk_at dksJ28_siftUpUsingComparator_0 5 rfl rfl)
theorem dJ28_siftUpUsingComparator_6 : decode cJ28_siftUpUsingComparator 6 = .ok (.isub, 1) := dk_100 (dk_at dksJ28_siftUpUsingComparator_0 6 rfl rfl)
theorem dJ28_siftUpUsingComparator_7 : decode cJ28_siftUpUsingComparator 7 = .ok (.iconst 1, 1) := dk_4 (dk_at dksJ28_siftUpUsingComparator_0 7 rfl rfl)
theorem dJ28_siftUpUsingComparator_8 : decode cJ28_siftUpUsingComparator 8 = .ok (.iushr, 1) := dk_124 (dk_at dksJ28_siftUpUsingComparator_0 8 rfl rfl)
theorem dJ28_siftUpUsingComparator_9 : decode cJ28_siftUpUsingComparator 9 = .ok (.istore 4, 2) := dk_54 4 (dk_at dksJ28_siftUpUsingComparator_0 9 rfl rfl)
theorem dJ28_siftUpUsingComparator_11 : decode cJ28_siftUpUsingComparator 11 = .ok (.aload_n 2, 1) := dk_44 (dk_at dksJ28_siftUpUsingComparator_0 11 rfl rfl)
theorem dJ28_siftUpUsingComparator_12 : decode cJ28_siftUpUsingComparator 12 = .ok (.iload 4, 2) := dk_21 4 (dk_at dksJ28_siftUpUsingComparator_0 12 rfl rfl)
theorem dJ28_siftUpUsingComparator_14 : decode cJ28_siftUpUsingComparator 14 = .ok (.aaload, 1) := dk_50 (dk_at dksJ28_siftUpUsingComparator_0 14 rfl rfl)
theorem dJ28_siftUpUsingComparator_15 : decode cJ28_siftUpUsingComparator 15 = .ok (.astore 5, 2) := dk_58 5 (dk_at dksJ28_siftUpUsingComparator_0 15 rfl rfl)
theorem dJ28_siftUpUsingComparator_17 : decode cJ28_siftUpUsingComparator 17 = .ok (.aload_n 3, 1) := dk_45 (dk_at dksJ28_siftUpUsingComparator_0 17 rfl rfl)
theorem dJ28_siftUpUsingComparator_18 : decode cJ28_siftUpUsingComparator 18 = .ok (.aload_n 1, 1) := dk_43 (dk_at dksJ28_siftUpUsingComparator_0 18 rfl rfl)
theorem dJ28_siftUpUsingComparator_19 : decode cJ28_siftUpUsingComparator 19 = .ok (.aload 5, 2) := dk_25 5 (dk_at dksJ28_siftUpUsingComparator_0 19 rfl rfl)
theorem dJ28_siftUpUsingComparator_21 : decode cJ28_siftUpUsingComparator 21 = .ok (.invokeinterface 149 3, 5) := by decide +kernel
theorem dJ28_siftUpUsingComparator_26 : decode cJ28_siftUpUsingComparator 26 = .ok (.ifCond .lt 6, 3) := dk_155 0 6 (dk_at dksJ28_siftUpUsingComparator_1 5 rfl rfl)
theorem dJ28_siftUpUsingComparator_29 : decode cJ28_siftUpUsingComparator 29 = .ok (.goto 14, 3) := dk_167 0 14 (dk_at dksJ28_siftUpUsingComparator_1 8 rfl rfl)
theorem dJ28_siftUpUsingComparator_32 : decode cJ28_siftUpUsingComparator 32 = .ok (.aload_n 2, 1) := dk_44 (dk_at dksJ28_siftUpUsingComparator_1 11 rfl rfl)
theorem dJ28_siftUpUsingComparator_33 : decode cJ28_siftUpUsingComparator 33 = .ok (.iload_n 0, 1) := dk_26 (dk_at dksJ28_siftUpUsingComparator_1 12 rfl rfl)
theorem dJ28_siftUpUsingComparator_34 : decode cJ28_siftUpUsingComparator 34 = .ok (.aload 5, 2) := dk_25 5 (dk_at dksJ28_siftUpUsingComparator_1 13 rfl rfl)
theorem dJ28_siftUpUsingComparator_36 : decode cJ28_siftUpUsingComparator 36 = .ok (.aastore, 1) := dk_83 (dk_at dksJ28_siftUpUsingComparator_1 15 rfl rfl)
theorem dJ28_siftUpUsingComparator_37 : decode cJ28_siftUpUsingComparator 37 = .ok (.iload 4, 2) := dk_21 4 (dk_at dksJ28_siftUpUsingComparator_1 16 rfl rfl)
theorem dJ28_siftUpUsingComparator_39 : decode cJ28_siftUpUsingComparator 39 = .ok (.istore_n 0, 1) := dk_59 (dk_at dksJ28_siftUpUsingComparator_1 18 rfl rfl)
theorem dJ28_siftUpUsingComparator_40 : decode cJ28_siftUpUsingComparator 40 = .ok (.goto (-40), 3) := dk_167 255 216 (dk_at dksJ28_siftUpUsingComparator_1 19 rfl rfl)
theorem dJ28_siftUpUsingComparator_43 : decode cJ28_siftUpUsingComparator 43 = .ok (.aload_n 2, 1) := dk_44 (dk_at dksJ28_siftUpUsingComparator_1 22 rfl rfl)
theorem dJ28_siftUpUsingComparator_44 : decode cJ28_siftUpUsingComparator 44 = .ok (.iload_n 0, 1) := dk_26 (dk_at dksJ28_siftUpUsingComparator_1 23 rfl rfl)
theorem dJ28_siftUpUsingComparator_45 : decode cJ28_siftUpUsingComparator 45 = .ok (.aload_n 1, 1) := dk_43 (dk_at dksJ28_siftUpUsingComparator_2 0 rfl rfl)
theorem dJ28_siftUpUsingComparator_46 : decode cJ28_siftUpUsingComparator 46 = .ok (.aastore, 1) := dk_83 (dk_at dksJ28_siftUpUsingComparator_2 1 rfl rfl)
theorem dJ28_siftUpUsingComparator_47 : decode cJ28_siftUpUsingComparator 47 = .ok (.return_, 1) := dk_177 (dk_at dksJ28_siftUpUsingComparator_2 2 rfl rfl)
def dkwJ28_siftUpComparable_2 : List UInt8 := [44, 26, 45, 83, 177]
abbrev dktJ28_siftUpComparable_2 : List UInt8 := dkwJ28_siftUpComparable_2 ++ []
def dkwJ28_siftUpComparable_1 : List UInt8 := [25, 5, 185, 0, 146, 2, 0, 155, 0, 6, 167, 0, 14, 44, 26, 25, 5, 83, 21, 4, 59, 167, 255, 217]
abbrev dktJ28_siftUpComparable_1 : List UInt8 := dkwJ28_siftUpComparable_1 ++ dktJ28_siftUpComparable_2
def dkwJ28_siftUpComparable_0 : List UInt8 := [43, 192, 0, 144, 78, 26, 158, 0, 41, 26, 4, 100, 4, 124, 54, 4, 44, 21, 4, 50, 58, 5, 45]
abbrev dktJ28_siftUpComparable_0 : List UInt8 := dkwJ28_siftUpComparable_0 ++ dktJ28_siftUpComparable_1
theorem dksJ28_siftUpComparable_0 : cJ28_siftUpComparable.data.toList.drop 0 = dktJ28_siftUpComparable_0 := by decide +kernel
theorem dksJ28_siftUpComparable_1 : cJ28_siftUpComparable.data.toList.drop 23 = dktJ28_siftUpComparable_1 := dk_seg dksJ28_siftUpComparable_0 23 rfl rfl
theorem dksJ28_siftUpComparable_2 : cJ28_siftUpComparable.data.toList.drop 47 = dktJ28_siftUpComparable_2 := dk_seg dksJ28_siftUpComparable_1 24 rfl rfl
theorem dJ28_siftUpComparable_0 : decode cJ28_siftUpComparable 0 = .ok (.aload_n 1, 1) := dk_43 (dk_at dksJ28_siftUpComparable_0 0 rfl rfl)
theorem dJ28_siftUpComparable_1 : decode cJ28_siftUpComparable 1 = .ok (.checkcast 144, 3) := dk_192 0 144 (dk_at dksJ28_siftUpComparable_0 1 rfl rfl)
theorem dJ28_siftUpComparable_4 : decode cJ28_siftUpComparable 4 = .ok (.astore_n 3, 1) := dk_78 (dk_at dksJ28_siftUpComparable_0 4 rfl rfl)
theorem dJ28_siftUpComparable_5 : decode cJ28_siftUpComparable 5 = .ok (.iload_n 0, 1) := dk_26 (dk_at dksJ28_siftUpComparable_0 5 rfl rfl)
theorem dJ28_siftUpComparable_6 : decode cJ28_siftUpComparable 6 = .ok (.ifCond .le 41, 3) := dk_158 0 41 (dk_at dksJ28_siftUpComparable_0 6 rfl rfl)
theorem dJ28_siftUpComparable_9 : decode cJ28_siftUpComparable 9 = .ok (.iload_n 0, 1) := dk_26 (dk_at dksJ28_siftUpComparable_0 9 rfl rfl)
theorem dJ28_siftUpComparable_10 : decode cJ28_siftUpComparable 10 = .ok (.iconst 1, 1) := dk_4 (dk_at dksJ28_siftUpComparable_0 10 rfl rfl)
theorem dJ28_siftUpComparable_11 : decode cJ28_siftUpComparable 11 = .ok (.isub, 1) := dk_100 (dk_at dksJ28_siftUpComparable_0 11 rfl rfl)
theorem dJ28_siftUpComparable_12 : decode cJ28_siftUpComparable 12 = .ok (.iconst 1, 1) := dk_4 (dk_at dksJ28_siftUpComparable_0 12 rfl rfl)
theorem dJ28_siftUpComparable_13 : decode cJ28_siftUpComparable 13 = .ok (.iushr, 1) := dk_124 (dk_at dksJ28_siftUpComparable_0 13 rfl rfl)
theorem dJ28_siftUpComparable_14 : decode cJ28_siftUpComparable 14 = .ok (.istore 4, 2) := dk_54 4 (dk_at dksJ28_siftUpComparable_0 14 rfl rfl)
theorem dJ28_siftUpComparable_16 : decode cJ28_siftUpComparable 16 = .ok (.aload_n 2, 1) := dk_44 (dk_at dksJ28_siftUpComparable_0 16 rfl rfl)
theorem dJ28_siftUpComparable_17 : decode cJ28_siftUpComparable 17 = .ok (.iload 4, 2) := dk_21 4 (dk_at dksJ28_siftUpComparable_0 17 rfl rfl)
theorem dJ28_siftUpComparable_19 : decode cJ28_siftUpComparable 19 = .ok (.aaload, 1) := dk_50 (dk_at dksJ28_siftUpComparable_0 19 rfl rfl)
theorem dJ28_siftUpComparable_20 : decode cJ28_siftUpComparable 20 = .ok (.astore 5, 2) := dk_58 5 (dk_at dksJ28_siftUpComparable_0 20 rfl rfl)
theorem dJ28_siftUpComparable_22 : decode cJ28_siftUpComparable 22 = .ok (.aload_n 3, 1) := dk_45 (dk_at dksJ28_siftUpComparable_0 22 rfl rfl)
theorem dJ28_siftUpComparable_23 : decode cJ28_siftUpComparable 23 = .ok (.aload 5, 2) := dk_25 5 (dk_at dksJ28_siftUpComparable_1 0 rfl rfl)
theorem dJ28_siftUpComparable_25 : decode cJ28_siftUpComparable 25 = .ok (.invokeinterface 146 2, 5) := by decide +kernel
theorem dJ28_siftUpComparable_30 : decode cJ28_siftUpComparable 30 = .ok (.ifCond .lt 6, 3) := dk_155 0 6 (dk_at dksJ28_siftUpComparable_1 7 rfl rfl)
theorem dJ28_siftUpComparable_33 : decode cJ28_siftUpComparable 33 = .ok (.goto 14, 3) := dk_167 0 14 (dk_at dksJ28_siftUpComparable_1 10 rfl rfl)
theorem dJ28_siftUpComparable_36 : decode cJ28_siftUpComparable 36 = .ok (.aload_n 2, 1) := dk_44 (dk_at dksJ28_siftUpComparable_1 13 rfl rfl)
theorem dJ28_siftUpComparable_37 : decode cJ28_siftUpComparable 37 = .ok (.iload_n 0, 1) := dk_26 (dk_at dksJ28_siftUpComparable_1 14 rfl rfl)
theorem dJ28_siftUpComparable_38 : decode cJ28_siftUpComparable 38 = .ok (.aload 5, 2) := dk_25 5 (dk_at dksJ28_siftUpComparable_1 15 rfl rfl)
theorem dJ28_siftUpComparable_40 : decode cJ28_siftUpComparable 40 = .ok (.aastore, 1) := dk_83 (dk_at dksJ28_siftUpComparable_1 17 rfl rfl)
theorem dJ28_siftUpComparable_41 : decode cJ28_siftUpComparable 41 = .ok (.iload 4, 2) := dk_21 4 (dk_at dksJ28_siftUpComparable_1 18 rfl rfl)
theorem dJ28_siftUpComparable_43 : decode cJ28_siftUpComparable 43 = .ok (.istore_n 0, 1) := dk_59 (dk_at dksJ28_siftUpComparable_1 20 rfl rfl)
theorem dJ28_siftUpComparable_44 : decode cJ28_siftUpComparable 44 = .ok (.goto (-39), 3) := dk_167 255 217 (dk_at dksJ28_siftUpComparable_1 21 rfl rfl)
theorem dJ28_siftUpComparable_47 : decode cJ28_siftUpComparable 47 = .ok (.aload_n 2, 1) := dk_44 (dk_at dksJ28_siftUpComparable_2 0 rfl rfl)
theorem dJ28_siftUpComparable_48 : decode cJ28_siftUpComparable 48 = .ok (.iload_n 0, 1) := dk_26 (dk_at dksJ28_siftUpComparable_2 1 rfl rfl)
theorem dJ28_siftUpComparable_49 : decode cJ28_siftUpComparable 49 = .ok (.aload_n 3, 1) := dk_45 (dk_at dksJ28_siftUpComparable_2 2 rfl rfl)
theorem dJ28_siftUpComparable_50 : decode cJ28_siftUpComparable 50 = .ok (.aastore, 1) := dk_83 (dk_at dksJ28_siftUpComparable_2 3 rfl rfl)
theorem dJ28_siftUpComparable_51 : decode cJ28_siftUpComparable 51 = .ok (.return_, 1) := dk_177 (dk_at dksJ28_siftUpComparable_2 4 rfl rfl)
theorem dJ28_size_0 : decode cJ28_size 0 = .ok (.aload_n 0, 1) := by decide +kernel
theorem dJ28_size_1 : decode cJ28_size 1 = .ok (.getfield 58, 3) := by decide +kernel
theorem dJ28_size_4 : decode cJ28_size 4 = .ok (.ireturn, 1) := by decide +kernel
def dkwJ28_poll_3 : List UInt8 := [43, 29, 25, 5, 184, 0, 129, 44, 176]
abbrev dktJ28_poll_3 : List UInt8 := dkwJ28_poll_3 ++ []
def dkwJ28_poll_2 : List UInt8 := [42, 180, 0, 21, 89, 58, 5, 199, 0, 14, 3, 25, 4, 43, 29, 184, 0, 125, 167, 0, 13, 3, 25, 4]
abbrev dktJ28_poll_2 : List UInt8 := dkwJ28_poll_2 ++ dktJ28_poll_3
def dkwJ28_poll_1 : List UInt8 := [42, 89, 180, 0, 58, 4, 100, 90, 181, 0, 58, 89, 62, 50, 58, 4, 43, 29, 1, 83, 29, 158, 0, 34]
abbrev dktJ28_poll_1 : List UInt8 := dkwJ28_poll_1 ++ dktJ28_poll_2
def dkwJ28_poll_0 : List UInt8 := [42, 180, 0, 17, 89, 76, 3, 50, 89, 77, 198, 0, 69, 42, 89, 180, 0, 93, 4, 96, 181, 0, 93, 43]
abbrev dktJ28_poll_0 : List UInt8 := dkwJ28_poll_0 ++ dktJ28_poll_1
theorem dksJ28_poll_0 : cJ28_poll.data.toList.drop 0 = dktJ28_poll_0 := by decide +kernel
theorem dksJ28_poll_1 : cJ28_poll.data.toList.drop 24 = dktJ28_poll_1 := dk_seg dksJ28_poll_0 24 rfl rfl
theorem dksJ28_poll_2 : cJ28_poll.data.toList.drop 48 = dktJ28_poll_2 := dk_seg dksJ28_poll_1 24 rfl rfl
theorem dksJ28_poll_3 : cJ28_poll.data.toList.drop 72 = dktJ28_poll_3 := dk_seg dksJ28_poll_2 24 rfl rfl
theorem dJ28_poll_0 : decode cJ28_poll 0 = .ok (.aload_n 0, 1) := dk_42 (dk_at dksJ28_poll_0 0 rfl rfl)
theorem dJ28_poll_1 : decode cJ28_poll 1 = .ok (.getfield 17, 3) := dk_180 0 17 (dk_at dksJ28_poll_0 1 rfl rfl)
theorem dJ28_poll_4 : decode cJ28_poll 4 = .ok (.dup, 1) := dk_89 (dk_at dksJ28_poll_0 4 rfl rfl)
theorem dJ28_poll_5 : decode cJ28_poll 5 = .ok (.astore_n 1, 1) := dk_76 (dk_at dksJ28_poll_0 5 rfl rfl)
theorem dJ28_poll_6 : decode cJ28_poll 6 = .ok (.iconst 0, 1) := dk_3 (dk_at dksJ28_poll_0 6 rfl rfl)
theorem dJ28_poll_7 : decode cJ28_poll 7 = .ok (.aaload, 1) := dk_50 (dk_at dksJ28_poll_0 7 rfl rfl)
theorem dJ28_poll_8 : decode cJ28_poll 8 = .ok (.dup, 1) := dk_89 (dk_at dksJ28_poll_0 8 rfl rfl)
theorem dJ28_poll_9 : decode cJ28_poll 9 = .ok (.astore_n 2, 1) := dk_77 (dk_at dksJ28_poll_0 9 rfl rfl)
theorem dJ28_poll_10 : decode cJ28_poll 10 = .ok (.ifnull 69, 3) := dk_198 0 69 (dk_at dksJ28_poll_0 10 rfl rfl)
theorem dJ28_poll_13 : decode cJ28_poll 13 = .ok (.aload_n 0, 1) := dk_42 (dk_at dksJ28_poll_0 13 rfl rfl)
theorem dJ28_poll_14 : decode cJ28_poll 14 = .ok (.dup, 1) := dk_89 (dk_at dksJ28_poll_0 14 rfl rfl)
theorem dJ28_poll_15 : decode cJ28_poll 15 = .ok (.getfield 93, 3) := dk_180 0 93 (dk_at dksJ28_poll_0 15 rfl rfl)
theorem dJ28_poll_18 : decode cJ28_poll 18 = .ok (.iconst 1, 1) := dk_4 (dk_at dksJ28_poll_0 18 rfl rfl)
theorem dJ28_poll_19 : decode cJ28_poll 19 = .ok (.iadd, 1) := dk_96 (dk_at dksJ28_poll_0 19 rfl rfl)
theorem dJ28_poll_20 : decode cJ28_poll 20 = .ok (.putfield 93, 3) := dk_181 0 93 (dk_at dksJ28_poll_0 20 rfl rfl)
theorem dJ28_poll_23 : decode cJ28_poll 23 = .ok (.aload_n 1, 1) := dk_43 (dk_at dksJ28_poll_0 23 rfl rfl)
theorem dJ28_poll_24 : decode cJ28_poll 24 = .ok (.aload_n 0, 1) := dk_42 (dk_at dksJ28_poll_1 0 rfl rfl)
theorem dJ28_poll_25 : decode cJ28_poll 25 = .ok (.dup, 1) := dk_89 (dk_at dksJ28_poll_1 1 rfl rfl)
theorem dJ28_poll_26 : decode cJ28_poll 26 = .ok (.getfield 58, 3) := dk_180 0 58 (dk_at dksJ28_poll_1 2 rfl rfl)
theorem dJ28_poll_29 : decode cJ28_poll 29 = .ok (.iconst 1, 1) := dk_4 (dk_at dksJ28_poll_1 5 rfl rfl)
theorem dJ28_poll_30 : decode cJ28_poll 30 = .ok (.isub, 1) := dk_100 (dk_at dksJ28_poll_1 6 rfl rfl)
theorem dJ28_poll_31 : decode cJ28_poll 31 = .ok (.dup_x1, 1) := dk_90 (dk_at dksJ28_poll_1 7 rfl rfl)
theorem dJ28_poll_32 : decode cJ28_poll 32 = .ok (.putfield 58, 3) := dk_181 0 58 (dk_at dksJ28_poll_1 8 rfl rfl)
theorem dJ28_poll_35 : decode cJ28_poll 35 = .ok (.dup, 1) := dk_89 (dk_at dksJ28_poll_1 11 rfl rfl)
theorem dJ28_poll_36 : decode cJ28_poll 36 = .ok (.istore_n 3, 1) := dk_62 (dk_at dksJ28_poll_1 12 rfl rfl)
theorem dJ28_poll_37 : decode cJ28_poll 37 = .ok (.aaload, 1) := dk_50 (dk_at dksJ28_poll_1 13 rfl rfl)
theorem dJ28_poll_38 : decode cJ28_poll 38 = .ok (.astore 4, 2) := dk_58 4 (dk_at dksJ28_poll_1 14 rfl rfl)
theorem dJ28_poll_40 : decode cJ28_poll 40 = .ok (.aload_n 1, 1) := dk_43 (dk_at dksJ28_poll_1 16 rfl rfl)
theorem dJ28_poll_41 : decode cJ28_poll 41 = .ok (.iload_n 3, 1) := dk_29 (dk_at dksJ28_poll_1 17 rfl rfl)
theorem dJ28_poll_42 : decode cJ28_poll 42 = .ok (.aconst_null, 1) := dk_1 (dk_at dksJ28_poll_1 18 rfl rfl)
theorem dJ28_poll_43 : decode cJ28_poll 43 = .ok (.aastore, 1) := dk_83 (dk_at dksJ28_poll_1 19 rfl rfl)
theorem dJ28_poll_44 : decode cJ28_poll 44 = .ok (.iload_n 3, 1) := dk_29 (dk_at dksJ28_poll_1 20 rfl rfl)
theorem dJ28_poll_45 : decode cJ28_poll 45 = .ok (.ifCond .le 34, 3) := dk_158 0 34 (dk_at dksJ28_poll_1 21 rfl rfl)
theorem dJ28_poll_48 : decode cJ28_poll 48 = .ok (.aload_n 0, 1) := dk_42 (dk_at dksJ28_poll_2 0 rfl rfl)
theorem dJ28_poll_49 : decode cJ28_poll 49 = .ok (.getfield 21, 3) := dk_180 0 21 (dk_at dksJ28_poll_2 1 rfl rfl)
theorem dJ28_poll_52 : decode cJ28_poll 52 = .ok (.dup, 1) := dk_89 (dk_at dksJ28_poll_2 4 rfl rfl)
theorem dJ28_poll_53 : decode cJ28_poll 53 = .ok (.astore 5, 2) := dk_58 5 (dk_at dksJ28_poll_2 5 rfl rfl)
theorem dJ28_poll_55 : decode cJ28_poll 55 = .ok (.ifnonnull 14, 3) := dk_199 0 14 (dk_at dksJ28_poll_2 7 rfl rfl)
theorem dJ28_poll_58 : decode cJ28_poll 58 = .ok (.iconst 0, 1) := dk_3 (dk_at dksJ28_poll_2 10 rfl rfl)
theorem dJ28_poll_59 : decode cJ28_poll 59 = .ok (.aload 4, 2) := dk_25 4 (dk_at dksJ28_poll_2 11 rfl rfl)
theorem dJ28_poll_61 : decode cJ28_poll 61 = .ok (.aload_n 1, 1) := dk_43 (dk_at dksJ28_poll_2 13 rfl rfl)
theorem dJ28_poll_62 : decode cJ28_poll 62 = .ok (.iload_n 3, 1) := dk_29 (dk_at dksJ28_poll_2 14 rfl rfl)
theorem dJ28_poll_63 : decode cJ28_poll 63 = .ok (.invokestatic 125, 3) := dk_184 0 125 (dk_at dksJ28_poll_2 15 rfl rfl)
theorem dJ28_poll_66 : decode cJ28_poll 66 = .ok (.goto 13, 3) := dk_167 0 13 (dk_at dksJ28_poll_2 18 rfl rfl)
theorem dJ28_poll_69 : decode cJ28_poll 69 = .ok (.iconst 0, 1) := dk_3 (dk_at dksJ28_poll_2 21 rfl rfl)
theorem dJ28_poll_70 : decode cJ28_poll 70 = .ok (.aload 4, 2) := dk_25 4 (dk_at dksJ28_poll_2 22 rfl rfl)
theorem dJ28_poll_72 : decode cJ28_poll 72 = .ok (.aload_n 1, 1) := dk_43 (dk_at dksJ28_poll_3 0 rfl rfl)
theorem dJ28_poll_73 : decode cJ28_poll 73 = .ok (.iload_n 3, 1) := dk_29 (dk_at dksJ28_poll_3 1 rfl rfl)
theorem dJ28_poll_74 : decode cJ28_poll 74 = .ok (.aload 5, 2) := dk_25 5 (dk_at dksJ28_poll_3 2 rfl rfl)
theorem dJ28_poll_76 : decode cJ28_poll 76 = .ok (.invokestatic 129, 3) := dk_184 0 129 (dk_at dksJ28_poll_3 4 rfl rfl)
theorem dJ28_poll_79 : decode cJ28_poll 79 = .ok (.aload_n 2, 1) := dk_44 (dk_at dksJ28_poll_3 7 rfl rfl)
theorem dJ28_poll_80 : decode cJ28_poll 80 = .ok (.areturn, 1) := dk_176 (dk_at dksJ28_poll_3 8 rfl rfl)
def dkwJ28_siftDownComparable_4 : List UInt8 := [25, 4, 83, 177]
abbrev dktJ28_siftDownComparable_4 : List UInt8 := dkwJ28_siftDownComparable_4 ++ []
def dkwJ28_siftDownComparable_3 : List UInt8 := [185, 0, 146, 2, 0, 157, 0, 6, 167, 0, 14, 44, 26, 25, 7, 83, 21, 6, 59, 167, 255, 176, 44, 26]
abbrev dktJ28_siftDownComparable_3 : List UInt8 := dkwJ28_siftDownComparable_3 ++ dktJ28_siftDownComparable_4
def dkwJ28_siftDownComparable_2 : List UInt8 := [21, 8, 50, 185, 0, 146, 2, 0, 158, 0, 12, 44, 21, 8, 89, 54, 6, 50, 58, 7, 25, 4, 25, 7]
abbrev dktJ28_siftDownComparable_2 : List UInt8 := dkwJ28_siftDownComparable_2 ++ dktJ28_siftDownComparable_3
def dkwJ28_siftDownComparable_1 : List UInt8 := [44, 21, 6, 50, 58, 7, 21, 6, 4, 96, 54, 8, 21, 8, 29, 162, 0, 29, 25, 7, 192, 0, 144, 44]
abbrev dktJ28_siftDownComparable_1 : List UInt8 := dkwJ28_siftDownComparable_1 ++ dktJ28_siftDownComparable_2
def dkwJ28_siftDownComparable_0 : List UInt8 := [43, 192, 0, 144, 58, 4, 29, 4, 124, 54, 5, 26, 21, 5, 162, 0, 80, 26, 4, 120, 4, 96, 54, 6]
abbrev dktJ28_siftDownComparable_0 : List UInt8 := dkwJ28_siftDownComparable_0 ++ dktJ28_siftDownComparable_1
theorem dksJ28_siftDownComparable_0 : cJ28_siftDownComparable.data.toList.drop 0 = dktJ28_siftDownComparable_0 := by decide +kernel
theorem dksJ28_siftDownComparable_1 : cJ28_siftDownComparable.data.toList.drop 24 = dktJ28_siftDownComparable_1 := dk_seg dksJ28_siftDownComparable_0 24 rfl rfl
theorem dksJ28_siftDownComparable_2 : cJ28_siftDownComparable.data.toList.drop 48 = dktJ28_siftDownComparable_2 := dk_seg dksJ28_siftDownComparable_1 24 rfl rfl
theorem dksJ28_siftDownComparable_3 : cJ28_siftDownComparable.data.toList.drop 72 = dktJ28_siftDownComparable_3 := dk_seg dksJ28_siftDownComparable_2 24 rfl rfl
theorem dksJ28_siftDownComparable_4 : cJ28_siftDownComparable.data.toList.drop 96 = dktJ28_siftDownComparable_4 := dk_seg dksJ28_siftDownComparable_3 24 rfl rfl
theorem dJ28_siftDownComparable_0 : decode cJ28_siftDownComparable 0 = .ok (.aload_n 1, 1) := dk_43 (dk_at dksJ28_siftDownComparable_0 0 rfl rfl)
theorem dJ28_siftDownComparable_1 : decode cJ28_siftDownComparable 1 = .ok (.checkcast 144, 3) := dk_192 0 144 (dk_at dksJ28_siftDownComparable_0 1 rfl rfl)
theorem dJ28_siftDownComparable_4 : decode cJ28_siftDownComparable 4 = .ok (.astore 4, 2) := dk_58 4 (dk_at dksJ28_siftDownComparable_0 4 rfl rfl)
theorem dJ28_siftDownComparable_6 : decode cJ28_siftDownComparable 6 = .ok (.iload_n 3, 1) := dk_29 (dk_at dksJ28_siftDownComparable_0 6 rfl rfl)
theorem dJ28_siftDownComparable_7 : decode cJ28_siftDownComparable 7 = .ok (.iconst 1, 1) := dk_4 (dk_at dksJ28_siftDownComparable_0 7 rfl rfl)
theorem dJ28_siftDownComparable_8 : decode cJ28_siftDownComparable 8 = .ok (.iushr, 1) := dk_124 (dk_at dksJ28_siftDownComparable_0 8 rfl rfl)
theorem dJ28_siftDownComparable_9 : decode cJ28_siftDownComparable 9 = .ok (.istore 5, 2) := dk_54 5 (dk_at dksJ28_siftDownComparable_0 9 rfl rfl)
theorem dJ28_siftDownComparable_11 : decode cJ28_siftDownComparable 11 = .ok (.iload_n 0, 1) := dk_26 (dk_at dksJ28_siftDownComparable_0 11 rfl rfl)
theorem dJ28_siftDownComparable_12 : decode cJ28_siftDownComparable 12 = .ok (.iload 5, 2) := dk_21 5 (dk_at dksJ28_siftDownComparable_0 12 rfl rfl)
theorem dJ28_siftDownComparable_14 : decode cJ28_siftDownComparable 14 = .ok (.if_icmp .ge 80, 3) := dk_162 0 80 (dk_at dksJ28_siftDownComparable_0 14 rfl rfl)
theorem dJ28_siftDownComparable_17 : decode cJ28_siftDownComparable 17 = .ok (.iload_n 0, 1) := dk_26 (dk_at dksJ28_siftDownComparable_0 17 rfl rfl)
theorem dJ28_siftDownComparable_18 : decode cJ28_siftDownComparable 18 = .ok (.iconst 1, 1) := dk_4 (dk_at dksJ28_siftDownComparable_0 18 rfl rfl)
theorem dJ28_siftDownComparable_19 : decode cJ28_siftDownComparable 19 = .ok (.ishl, 1) := dk_120 (dk_at dksJ28_siftDownComparable_0 19 rfl rfl)
theorem dJ28_siftDownComparable_20 : decode cJ28_siftDownComparable 20 = .ok (.iconst 1, 1) := dk_4 (dk_at dksJ28_siftDownComparable_0 20 rfl rfl)
theorem dJ28_siftDownComparable_21 : decode cJ28_siftDownComparable 21 = .ok (.iadd, 1) := dk_96 (dk_at dksJ28_siftDownComparable_0 21 rfl rfl)
theorem dJ28_siftDownComparable_22 : decode cJ28_siftDownComparable 22 = .ok (.istore 6, 2) := dk_54 6 (dk_at dksJ28_siftDownComparable_0 22 rfl rfl)
theorem dJ28_siftDownComparable_24 : decode cJ28_siftDownComparable 24 = .ok (.aload_n 2, 1) := dk_44 (dk_at dksJ28_siftDownComparable_1 0 rfl rfl)
theorem dJ28_siftDownComparable_25 : decode cJ28_siftDownComparable 25 = .ok (.iload 6, 2) := dk_21 6 (dk_at dksJ28_siftDownComparable_1 1 rfl rfl)
theorem dJ28_siftDownComparable_27 : decode cJ28_siftDownComparable 27 = .ok (.aaload, 1) := dk_50 (dk_at dksJ28_siftDownComparable_1 3 rfl rfl)
theorem dJ28_siftDownComparable_28 : decode cJ28_siftDownComparable 28 = .ok (.astore 7, 2) := dk_58 7 (dk_at dksJ28_siftDownComparable_1 4 rfl rfl)
theorem dJ28_siftDownComparable_30 : decode cJ28_siftDownComparable 30 = .ok (.iload 6, 2) := dk_21 6 (dk_at dksJ28_siftDownComparable_1 6 rfl rfl)
theorem dJ28_siftDownComparable_32 : decode cJ28_siftDownComparable 32 = .ok (.iconst 1, 1) := dk_4 (dk_at dksJ28_siftDownComparable_1 8 rfl rfl)
theorem dJ28_siftDownComparable_33 : decode cJ28_siftDownComparable 33 = .ok (.iadd, 1) := dk_96 (dk_at dksJ28_siftDownComparable_1 9 rfl rfl)
theorem dJ28_siftDownComparable_34 : decode cJ28_siftDownComparable 34 = .ok (.istore 8, 2) := dk_54 8 (dk_at dksJ28_siftDownComparable_1 10 rfl rfl)
theorem dJ28_siftDownComparable_36 : decode cJ28_siftDownComparable 36 = .ok (.iload 8, 2) := dk_21 8 (dk_at dksJ28_siftDownComparable_1 12 rfl rfl)
theorem dJ28_siftDownComparable_38 : decode cJ28_siftDownComparable 38 = .ok (.iload_n 3, 1) := dk_29 (dk_at dksJ28_siftDownComparable_1 14 rfl rfl)
theorem dJ28_siftDownComparable_39 : decode cJ28_siftDownComparable 39 = .ok (.if_icmp .ge 29, 3) := dk_162 0 29 (dk_at dksJ28_siftDownComparable_1 15 rfl rfl)
theorem dJ28_siftDownComparable_42 : decode cJ28_siftDownComparable 42 = .ok (.aload 7, 2) := dk_25 7 (dk_at dksJ28_siftDownComparable_1 18 rfl rfl)
theorem dJ28_siftDownComparable_44 : decode cJ28_siftDownComparable 44 = .ok (.checkcast 144, 3) := dk_192 0 144 (dk_at dksJ28_siftDownComparable_1 20 rfl rfl)
theorem dJ28_siftDownComparable_47 : decode cJ28_siftDownComparable 47 = .ok (.aload_n 2, 1) := dk_44 (dk_at dksJ28_siftDownComparable_1 23 rfl rfl)
theorem dJ28_siftDownComparable_48 : decode cJ28_siftDownComparable 48 = .ok (.iload 8, 2) := dk_21 8 (dk_at dksJ28_siftDownComparable_2 0 rfl rfl)
theorem dJ28_siftDownComparable_50 : decode cJ28_siftDownComparable 50 = .ok (.aaload, 1) := dk_50 (dk_at dksJ28_siftDownComparable_2 2 rfl rfl)
theorem dJ28_siftDownComparable_51 : decode cJ28_siftDownComparable 51 = .ok (.invokeinterface 146 2, 5) := by decide +kernel
theorem dJ28_siftDownComparable_56 : decode cJ28_siftDownComparable 56 = .ok (.ifCond .le 12, 3) := dk_158 0 12 (dk_at dksJ28_siftDownComparable_2 8 rfl rfl)
theorem dJ28_siftDownComparable_59 : decode cJ28_siftDownComparable 59 = .ok (.aload_n 2, 1) := dk_44 (dk_at dksJ28_siftDownComparable_2 11 rfl rfl)
theorem dJ28_siftDownComparable_60 : decode cJ28_siftDownComparable 60 = .ok (.iload 8, 2) := dk_21 8 (dk_at dksJ28_siftDownComparable_2 12 rfl rfl)
theorem dJ28_siftDownComparable_62 : decode cJ28_siftDownComparable 62 = .ok (.dup, 1) := dk_89 (dk_at dksJ28_siftDownComparable_2 14 rfl rfl)
theorem dJ28_siftDownComparable_63 : decode cJ28_siftDownComparable 63 = .ok (.istore 6, 2) := dk_54 6 (dk_at dksJ28_siftDownComparable_2 15 rfl rfl)
theorem dJ28_siftDownComparable_65 : decode cJ28_siftDownComparable 65 = .ok (.aaload, 1) := dk_50 (dk_at dksJ28_siftDownComparable_2 17 rfl rfl)
theorem dJ28_siftDownComparable_66 : decode cJ28_siftDownComparable 66 = .ok (.astore 7, 2) := dk_58 7 (dk_at dksJ28_siftDownComparable_2 18 rfl rfl)
theorem dJ28_siftDownComparable_68 : decode cJ28_siftDownComparable 68 = .ok (.aload 4, 2) := dk_25 4 (dk_at dksJ28_siftDownComparable_2 20 rfl rfl)
theorem dJ28_siftDownComparable_70 : decode cJ28_siftDownComparable 70 = .ok (.aload 7, 2) := dk_25 7 (dk_at dksJ28_siftDownComparable_2 22 rfl rfl)
theorem dJ28_siftDownComparable_72 : decode cJ28_siftDownComparable 72 = .ok (.invokeinterface 146 2, 5) := by decide +kernel
theorem dJ28_siftDownComparable_77 : decode cJ28_siftDownComparable 77 = .ok (.ifCond .gt 6, 3) := dk_157 0 6 (dk_at dksJ28_siftDownComparable_3 5 rfl rfl)
theorem dJ28_siftDownComparable_80 : decode cJ28_siftDownComparable 80 = .ok (.goto 14, 3) := dk_167 0 14 (dk_at dksJ28_siftDownComparable_3 8 rfl rfl)
theorem dJ28_siftDownComparable_83 : decode cJ28_siftDownComparable 83 = .ok (.aload_n 2, 1) := dk_44 (dk_at dksJ28_siftDownComparable_3 11 rfl rfl)
theorem dJ28_siftDownComparable_84 : decode cJ28_siftDownComparable 84 = .ok (.iload_n 0, 1) := dk_26 (dk_at dksJ28_siftDownComparable_3 12 rfl rfl)
theorem dJ28_siftDownComparable_85 : decode cJ28_siftDownComparable 85 = .ok (.aload 7, 2) := dk_25 7 (dk_at dksJ28_siftDownComparable_3 13 rfl rfl)
theorem dJ28_siftDownComparable_87 : decode cJ28_siftDownComparable 87 = .ok (.aastore, 1) := dk_83 (dk_at dksJ28_siftDownComparable_3 15 rfl rfl)
theorem dJ28_siftDownComparable_88 : decode cJ28_siftDownComparable 88 = .ok (.iload 6, 2) := dk_21 6 (dk_at dksJ28_siftDownComparable_3 16 rfl rfl)
theorem dJ28_siftDownComparable_90 : decode cJ28_siftDownComparable 90 = .ok (.istore_n 0, 1) := dk_59 (dk_at dksJ28_siftDownComparable_3 18 rfl rfl)
theorem dJ28_siftDownComparable_91 : decode cJ28_siftDownComparable 91 = .ok (.goto (-80), 3) := dk_167 255 176 (dk_at dksJ28_siftDownComparable_3 19 rfl rfl)
theorem dJ28_siftDownComparable_94 : decode cJ28_siftDownComparable 94 = .ok (.aload_n 2, 1) := dk_44 (dk_at dksJ28_siftDownComparable_3 22 rfl rfl)
theorem dJ28_siftDownComparable_95 : decode cJ28_siftDownComparable 95 = .ok (.iload_n 0, 1) := dk_26 (dk_at dksJ28_siftDownComparable_3 23 rfl rfl)
theorem dJ28_siftDownComparable_96 : decode cJ28_siftDownComparable 96 = .ok (.aload 4, 2) := dk_25 4 (dk_at dksJ28_siftDownComparable_4 0 rfl rfl)
theorem dJ28_siftDownComparable_98 : decode cJ28_siftDownComparable 98 = .ok (.aastore, 1) := dk_83 (dk_at dksJ28_siftDownComparable_4 2 rfl rfl)
theorem dJ28_siftDownComparable_99 : decode cJ28_siftDownComparable 99 = .ok (.return_, 1) := dk_177 (dk_at dksJ28_siftDownComparable_4 3 rfl rfl)
def dkwJ28_siftDownUsingComparator_4 : List UInt8 := [43, 83, 177]
abbrev dktJ28_siftDownUsingComparator_4 : List UInt8 := dkwJ28_siftDownUsingComparator_4 ++ []
def dkwJ28_siftDownUsingComparator_3 : List UInt8 := [185, 0, 149, 3, 0, 157, 0, 6, 167, 0, 14, 44, 26, 25, 7, 83, 21, 6, 59, 167, 255, 176, 44, 26]
abbrev dktJ28_siftDownUsingComparator_3 : List UInt8 := dkwJ28_siftDownUsingComparator_3 ++ dktJ28_siftDownUsingComparator_4
def dkwJ28_siftDownUsingComparator_2 : List UInt8 := [185, 0, 149, 3, 0, 158, 0, 12, 44, 21, 8, 89, 54, 6, 50, 58, 7, 25, 4, 43, 25, 7]
abbrev dktJ28_siftDownUsingComparator_2 : List UInt8 := dkwJ28_siftDownUsingComparator_2 ++ dktJ28_siftDownUsingComparator_3
def dkwJ28_siftDownUsingComparator_1 : List UInt8 := [21, 6, 4, 96, 54, 8, 21, 8, 29, 162, 0, 28, 25, 4, 25, 7, 44, 21, 8, 50]
abbrev dktJ28_siftDownUsingComparator_1 : List UInt8 := dkwJ28_siftDownUsingComparator_1 ++ dktJ28_siftDownUsingComparator_2
def dkwJ28_siftDownUsingComparator_0 : List UInt8 := [29, 4, 124, 54, 5, 26, 21, 5, 162, 0, 80, 26, 4, 120, 4, 96, 54, 6, 44, 21, 6, 50, 58, 7]
abbrev dktJ28_siftDownUsingComparator_0 : List UInt8 := dkwJ28_siftDownUsingComparator_0 ++ dktJ28_siftDownUsingComparator_1
theorem dksJ28_siftDownUsingComparator_0 : cJ28_siftDownUsingComparator.data.toList.drop 0 = dktJ28_siftDownUsingComparator_0 := by decide +kernel
theorem dksJ28_siftDownUsingComparator_1 : cJ28_siftDownUsingComparator.data.toList.drop 24 = dktJ28_siftDownUsingComparator_1 := dk_seg dksJ28_siftDownUsingComparator_0 24 rfl rfl
theorem dksJ28_siftDownUsingComparator_2 : cJ28_siftDownUsingComparator.data.toList.drop 44 = dktJ28_siftDownUsingComparator_2 := dk_seg dksJ28_siftDownUsingComparator_1 20 rfl rfl
theorem dksJ28_siftDownUsingComparator_3 : cJ28_siftDownUsingComparator.data.toList.drop 66 = dktJ28_siftDownUsingComparator_3 := dk_seg dksJ28_siftDownUsingComparator_2 22 rfl rfl
theorem dksJ28_siftDownUsingComparator_4 : cJ28_siftDownUsingComparator.data.toList.drop 90 = dktJ28_siftDownUsingComparator_4 := dk_seg dksJ28_siftDownUsingComparator_3 24 rfl rfl
theorem dJ28_siftDownUsingComparator_0 : decode cJ28_siftDownUsingComparator 0 = .ok (.iload_n 3, 1) := dk_29 (dk_at dksJ28_siftDownUsingComparator_0 0 rfl rfl)
theorem dJ28_siftDownUsingComparator_1 : decode cJ28_siftDownUsingComparator 1 = .ok (.iconst 1, 1) := dk_4 (dk_at dksJ28_siftDownUsingComparator_0 1 rfl rfl)
theorem dJ28_siftDownUsingComparator_2 : decode cJ28_siftDownUsingComparator 2 = .ok (.iushr, 1) := dk_124 (dk_at dksJ28_siftDownUsingComparator_0 2 rfl rfl)
theorem dJ28_siftDownUsingComparator_3 : decode cJ28_siftDownUsingComparator 3 = .ok (.istore 5, 2) := dk_54 5 (dk_at dksJ28_siftDownUsingComparator_0 3 rfl rfl)
theorem dJ28_siftDownUsingComparator_5 : decode cJ28_siftDownUsingComparator 5 = .ok (.iload_n 0, 1) := dk_26 (dk_at dksJ28_siftDownUsingComparator_0 5 rfl rfl)
theorem dJ28_siftDownUsingComparator_6 : decode cJ28_siftDownUsingComparator 6 = .ok (.iload 5, 2) := dk_21 5 (dk_at dksJ28_siftDownUsingComparator_0 6 rfl rfl)
theorem dJ28_siftDownUsingComparator_8 : decode cJ28_siftDownUsingComparator 8 = .ok (.if_icmp .ge 80, 3) := dk_162 0 80 (dk_at dksJ28_siftDownUsingComparator_0 8 rfl rfl)
theorem dJ28_siftDownUsingComparator_11 : decode cJ28_siftDownUsingComparator 11 = .ok (.iload_n 0, 1) := dk_26 (dk_at dksJ28_siftDownUsingComparator_0 11 rfl rfl)
theorem dJ28_siftDownUsingComparator_12 : decode cJ28_siftDownUsingComparator 12 = .ok (.iconst 1, 1) := dk_4 (dk_at dksJ28_siftDownUsingComparator_0 12 rfl rfl)
theorem dJ28_siftDownUsingComparator_13 : decode cJ28_siftDownUsingComparator 13 = .ok (.ishl, 1) := dk_120 (dk_at dksJ28_siftDownUsingComparator_0 13 rfl rfl)
theorem dJ28_siftDownUsingComparator_14 : decode cJ28_siftDownUsingComparator 14 = .ok (.iconst 1, 1) := dk_4 (dk_at dksJ28_siftDownUsingComparator_0 14 rfl rfl)
theorem dJ28_siftDownUsingComparator_15 : decode cJ28_siftDownUsingComparator 15 = .ok (.iadd, 1) := dk_96 (dk_at dksJ28_siftDownUsingComparator_0 15 rfl rfl)
theorem dJ28_siftDownUsingComparator_16 : decode cJ28_siftDownUsingComparator 16 = .ok (.istore 6, 2) := dk_54 6 (dk_at dksJ28_siftDownUsingComparator_0 16 rfl rfl)
theorem dJ28_siftDownUsingComparator_18 : decode cJ28_siftDownUsingComparator 18 = .ok (.aload_n 2, 1) := dk_44 (dk_at dksJ28_siftDownUsingComparator_0 18 rfl rfl)
theorem dJ28_siftDownUsingComparator_19 : decode cJ28_siftDownUsingComparator 19 = .ok (.iload 6, 2) := dk_21 6 (dk_at dksJ28_siftDownUsingComparator_0 19 rfl rfl)
theorem dJ28_siftDownUsingComparator_21 : decode cJ28_siftDownUsingComparator 21 = .ok (.aaload, 1) := dk_50 (dk_at dksJ28_siftDownUsingComparator_0 21 rfl rfl)
theorem dJ28_siftDownUsingComparator_22 : decode cJ28_siftDownUsingComparator 22 = .ok (.astore 7, 2) := dk_58 7 (dk_at dksJ28_siftDownUsingComparator_0 22 rfl rfl)
theorem dJ28_siftDownUsingComparator_24 : decode cJ28_siftDownUsingComparator 24 = .ok (.iload 6, 2) := dk_21 6 (dk_at dksJ28_siftDownUsingComparator_1 0 rfl rfl)
theorem dJ28_siftDownUsingComparator_26 : decode cJ28_siftDownUsingComparator 26 = .ok (.iconst 1, 1) := dk_4 (dk_at dksJ28_siftDownUsingComparator_1 2 rfl rfl)
theorem dJ28_siftDownUsingComparator_27 : decode cJ28_siftDownUsingComparator 27 = .ok (.iadd, 1) := dk_96 (dk_at dksJ28_siftDownUsingComparator_1 3 rfl rfl)
theorem dJ28_siftDownUsingComparator_28 : decode cJ28_siftDownUsingComparator 28 = .ok (.istore 8, 2) := dk_54 8 (dk_at dksJ28_siftDownUsingComparator_1 4 rfl rfl)
theorem dJ28_siftDownUsingComparator_30 : decode cJ28_siftDownUsingComparator 30 = .ok (.iload 8, 2) := dk_21 8 (dk_at dksJ28_siftDownUsingComparator_1 6 rfl rfl)
theorem dJ28_siftDownUsingComparator_32 : decode cJ28_siftDownUsingComparator 32 = .ok (.iload_n 3, 1) := dk_29 (dk_at dksJ28_siftDownUsingComparator_1 8 rfl rfl)
theorem dJ28_siftDownUsingComparator_33 : decode cJ28_siftDownUsingComparator 33 = .ok (.if_icmp .ge 28, 3) := dk_162 0 28 (dk_at dksJ28_siftDownUsingComparator_1 9 rfl rfl)
theorem dJ28_siftDownUsingComparator_36 : decode cJ28_siftDownUsingComparator 36 = .ok (.aload 4, 2) := dk_25 4 (dk_at dksJ28_siftDownUsingComparator_1 12 rfl rfl)
theorem dJ28_siftDownUsingComparator_38 : decode cJ28_siftDownUsingComparator 38 = .ok (.aload 7, 2) := dk_25 7 (dk_at dksJ28_siftDownUsingComparator_1 14 rfl rfl)
theorem dJ28_siftDownUsingComparator_40 : decode cJ28_siftDownUsingComparator 40 = .ok (.aload_n 2, 1) := dk_44 (dk_at dksJ28_siftDownUsingComparator_1 16 rfl rfl)
theorem dJ28_siftDownUsingComparator_41 : decode cJ28_siftDownUsingComparator 41 = .ok (.iload 8, 2) := dk_21 8 (dk_at dksJ28_siftDownUsingComparator_1 17 rfl rfl)
theorem dJ28_siftDownUsingComparator_43 : decode cJ28_siftDownUsingComparator 43 = .ok (.aaload, 1) := dk_50 (dk_at dksJ28_siftDownUsingComparator_1 19 rfl rfl)
theorem dJ28_siftDownUsingComparator_44 : decode cJ28_siftDownUsingComparator 44 = .ok (.invokeinterface 149 3, 5) := by decide +kernel
theorem dJ28_siftDownUsingComparator_49 : decode cJ28_siftDownUsingComparator 49 = .ok (.ifCond .le 12, 3) := dk_158 0 12 (dk_at dksJ28_siftDownUsingComparator_2 5 rfl rfl)
theorem dJ28_siftDownUsingComparator_52 : decode cJ28_siftDownUsingComparator 52 = .ok (.aload_n 2, 1) := dk_44 (dk_at dksJ28_siftDownUsingComparator_2 8 rfl rfl)
theorem dJ28_siftDownUsingComparator_53 : decode cJ28_siftDownUsingComparator 53 = .ok (.iload 8, 2) := dk_21 8 (dk_at dksJ28_siftDownUsingComparator_2 9 rfl rfl)
theorem dJ28_siftDownUsingComparator_55 : decode cJ28_siftDownUsingComparator 55 = .ok (.dup, 1) := dk_89 (dk_at dksJ28_siftDownUsingComparator_2 11 rfl rfl)
theorem dJ28_siftDownUsingComparator_56 : decode cJ28_siftDownUsingComparator 56 = .ok (.istore 6, 2) := dk_54 6 (dk_at dksJ28_siftDownUsingComparator_2 12 rfl rfl)
theorem dJ28_siftDownUsingComparator_58 : decode cJ28_siftDownUsingComparator 58 = .ok (.aaload, 1) := dk_50 (dk_at dksJ28_siftDownUsingComparator_2 14 rfl rfl)
theorem dJ28_siftDownUsingComparator_59 : decode cJ28_siftDownUsingComparator 59 = .ok (.astore 7, 2) := dk_58 7 (dk_at dksJ28_siftDownUsingComparator_2 15 rfl rfl)
theorem dJ28_siftDownUsingComparator_61 : decode cJ28_siftDownUsingComparator 61 = .ok (.aload 4, 2) := dk_25 4 (dk_at dksJ28_siftDownUsingComparator_2 17 rfl rfl)
theorem dJ28_siftDownUsingComparator_63 : decode cJ28_siftDownUsingComparator 63 = .ok (.aload_n 1, 1) := dk_43 (dk_at dksJ28_siftDownUsingComparator_2 19 rfl rfl)
theorem dJ28_siftDownUsingComparator_64 : decode cJ28_siftDownUsingComparator 64 = .ok (.aload 7, 2) := dk_25 7 (dk_at dksJ28_siftDownUsingComparator_2 20 rfl rfl)
theorem dJ28_siftDownUsingComparator_66 : decode cJ28_siftDownUsingComparator 66 = .ok (.invokeinterface 149 3, 5) := by decide +kernel
theorem dJ28_siftDownUsingComparator_71 : decode cJ28_siftDownUsingComparator 71 = .ok (.ifCond .gt 6, 3) := dk_157 0 6 (dk_at dksJ28_siftDownUsingComparator_3 5 rfl rfl)
theorem dJ28_siftDownUsingComparator_74 : decode cJ28_siftDownUsingComparator 74 = .ok (.goto 14, 3) := dk_167 0 14 (dk_at dksJ28_siftDownUsingComparator_3 8 rfl rfl)
theorem dJ28_siftDownUsingComparator_77 : decode cJ28_siftDownUsingComparator 77 = .ok (.aload_n 2, 1) := dk_44 (dk_at dksJ28_siftDownUsingComparator_3 11 rfl rfl)
theorem dJ28_siftDownUsingComparator_78 : decode cJ28_siftDownUsingComparator 78 = .ok (.iload_n 0, 1) := dk_26 (dk_at dksJ28_siftDownUsingComparator_3 12 rfl rfl)
theorem dJ28_siftDownUsingComparator_79 : decode cJ28_siftDownUsingComparator 79 = .ok (.aload 7, 2) := dk_25 7 (dk_at dksJ28_siftDownUsingComparator_3 13 rfl rfl)
theorem dJ28_siftDownUsingComparator_81 : decode cJ28_siftDownUsingComparator 81 = .ok (.aastore, 1) := dk_83 (dk_at dksJ28_siftDownUsingComparator_3 15 rfl rfl)
theorem dJ28_siftDownUsingComparator_82 : decode cJ28_siftDownUsingComparator 82 = .ok (.iload 6, 2) := dk_21 6 (dk_at dksJ28_siftDownUsingComparator_3 16 rfl rfl)
theorem dJ28_siftDownUsingComparator_84 : decode cJ28_siftDownUsingComparator 84 = .ok (.istore_n 0, 1) := dk_59 (dk_at dksJ28_siftDownUsingComparator_3 18 rfl rfl)
theorem dJ28_siftDownUsingComparator_85 : decode cJ28_siftDownUsingComparator 85 = .ok (.goto (-80), 3) := dk_167 255 176 (dk_at dksJ28_siftDownUsingComparator_3 19 rfl rfl)
theorem dJ28_siftDownUsingComparator_88 : decode cJ28_siftDownUsingComparator 88 = .ok (.aload_n 2, 1) := dk_44 (dk_at dksJ28_siftDownUsingComparator_3 22 rfl rfl)
theorem dJ28_siftDownUsingComparator_89 : decode cJ28_siftDownUsingComparator 89 = .ok (.iload_n 0, 1) := dk_26 (dk_at dksJ28_siftDownUsingComparator_3 23 rfl rfl)
theorem dJ28_siftDownUsingComparator_90 : decode cJ28_siftDownUsingComparator 90 = .ok (.aload_n 1, 1) := dk_43 (dk_at dksJ28_siftDownUsingComparator_4 0 rfl rfl)
theorem dJ28_siftDownUsingComparator_91 : decode cJ28_siftDownUsingComparator 91 = .ok (.aastore, 1) := dk_83 (dk_at dksJ28_siftDownUsingComparator_4 1 rfl rfl)
theorem dJ28_siftDownUsingComparator_92 : decode cJ28_siftDownUsingComparator 92 = .ok (.return_, 1) := dk_177 (dk_at dksJ28_siftDownUsingComparator_4 2 rfl rfl)
theorem dJ0_init_0 : decode cJ0_init 0 = .ok (.aload_n 0, 1) := by decide +kernel
theorem dJ0_init_1 : decode cJ0_init 1 = .ok (.invokespecial 1, 3) := by decide +kernel
theorem dJ0_init_4 : decode cJ0_init 4 = .ok (.return_, 1) := by decide +kernel
def dkwJ0_isEmpty_0 : List UInt8 := [42, 182, 0, 7, 154, 0, 7, 4, 167, 0, 4, 3, 172]
abbrev dktJ0_isEmpty_0 : List UInt8 := dkwJ0_isEmpty_0 ++ []
theorem dksJ0_isEmpty_0 : cJ0_isEmpty.data.toList.drop 0 = dktJ0_isEmpty_0 := by decide +kernel
theorem dJ0_isEmpty_0 : decode cJ0_isEmpty 0 = .ok (.aload_n 0, 1) := dk_42 (dk_at dksJ0_isEmpty_0 0 rfl rfl)
theorem dJ0_isEmpty_1 : decode cJ0_isEmpty 1 = .ok (.invokevirtual 7, 3) := dk_182 0 7 (dk_at dksJ0_isEmpty_0 1 rfl rfl)
theorem dJ0_isEmpty_4 : decode cJ0_isEmpty 4 = .ok (.ifCond .ne 7, 3) := dk_154 0 7 (dk_at dksJ0_isEmpty_0 4 rfl rfl)
theorem dJ0_isEmpty_7 : decode cJ0_isEmpty 7 = .ok (.iconst 1, 1) := dk_4 (dk_at dksJ0_isEmpty_0 7 rfl rfl)
theorem dJ0_isEmpty_8 : decode cJ0_isEmpty 8 = .ok (.goto 4, 3) := dk_167 0 4 (dk_at dksJ0_isEmpty_0 8 rfl rfl)
theorem dJ0_isEmpty_11 : decode cJ0_isEmpty 11 = .ok (.iconst 0, 1) := dk_3 (dk_at dksJ0_isEmpty_0 11 rfl rfl)
theorem dJ0_isEmpty_12 : decode cJ0_isEmpty 12 = .ok (.ireturn, 1) := dk_172 (dk_at dksJ0_isEmpty_0 12 rfl rfl)
def dkwJ1_init_0 : List UInt8 := [42, 183, 0, 1, 42, 3, 181, 0, 7, 177]
abbrev dktJ1_init_0 : List UInt8 := dkwJ1_init_0 ++ []
theorem dksJ1_init_0 : cJ1_init.data.toList.drop 0 = dktJ1_init_0 := by decide +kernel
theorem dJ1_init_0 : decode cJ1_init 0 = .ok (.aload_n 0, 1) := dk_42 (dk_at dksJ1_init_0 0 rfl rfl)
theorem dJ1_init_1 : decode cJ1_init 1 = .ok (.invokespecial 1, 3) := dk_183 0 1 (dk_at dksJ1_init_0 1 rfl rfl)
theorem dJ1_init_4 : decode cJ1_init 4 = .ok (.aload_n 0, 1) := dk_42 (dk_at dksJ1_init_0 4 rfl rfl)
theorem dJ1_init_5 : decode cJ1_init 5 = .ok (.iconst 0, 1) := dk_3 (dk_at dksJ1_init_0 5 rfl rfl)
theorem dJ1_init_6 : decode cJ1_init 6 = .ok (.putfield 7, 3) := dk_181 0 7 (dk_at dksJ1_init_0 6 rfl rfl)
theorem dJ1_init_9 : decode cJ1_init 9 = .ok (.return_, 1) := dk_177 (dk_at dksJ1_init_0 9 rfl rfl)
theorem dJ3_init_0 : decode cJ3_init 0 = .ok (.aload_n 0, 1) := by decide +kernel
theorem dJ3_init_1 : decode cJ3_init 1 = .ok (.invokespecial 1, 3) := by decide +kernel
theorem dJ3_init_4 : decode cJ3_init 4 = .ok (.return_, 1) := by decide +kernel
theorem dJ4_init_0 : decode cJ4_init 0 = .ok (.aload_n 0, 1) := by decide +kernel
theorem dJ4_init_1 : decode cJ4_init 1 = .ok (.invokespecial 1, 3) := by decide +kernel
theorem dJ4_init_4 : decode cJ4_init 4 = .ok (.return_, 1) := by decide +kernel
def dkwJ6_newLength_1 : List UInt8 := [184, 0, 201, 172]
abbrev dktJ6_newLength_1 : List UInt8 := dkwJ6_newLength_1 ++ []
def dkwJ6_newLength_0 : List UInt8 := [26, 27, 28, 184, 0, 194, 96, 62, 3, 29, 162, 0, 11, 29, 18, 200, 163, 0, 5, 29, 172, 26, 27]
abbrev dktJ6_newLength_0 : List UInt8 := dkwJ6_newLength_0 ++ dktJ6_newLength_1
theorem dksJ6_newLength_0 : cJ6_newLength.data.toList.drop 0 = dktJ6_newLength_0 := by decide +kernel
theorem dksJ6_newLength_1 : cJ6_newLength.data.toList.drop 23 = dktJ6_newLength_1 := dk_seg dksJ6_newLength_0 23 rfl rfl
theorem dJ6_newLength_0 : decode cJ6_newLength 0 = .ok (.iload_n 0, 1) := dk_26 (dk_at dksJ6_newLength_0 0 rfl rfl)
theorem dJ6_newLength_1 : decode cJ6_newLength 1 = .ok (.iload_n 1, 1) := dk_27 (dk_at dksJ6_newLength_0 1 rfl rfl)
theorem dJ6_newLength_2 : decode cJ6_newLength 2 = .ok (.iload_n 2, 1) := dk_28 (dk_at dksJ6_newLength_0 2 rfl rfl)
theorem dJ6_newLength_3 : decode cJ6_newLength 3 = .ok (.invokestatic 194, 3) := dk_184 0 194 (dk_at dksJ6_newLength_0 3 rfl rfl)
theorem dJ6_newLength_6 : decode cJ6_newLength 6 = .ok (.iadd, 1) := dk_96 (dk_at dksJ6_newLength_0 6 rfl rfl)
theorem dJ6_newLength_7 : decode cJ6_newLength 7 = .ok (.istore_n 3, 1) := dk_62 (dk_at dksJ6_newLength_0 7 rfl rfl)
theorem dJ6_newLength_8 : decode cJ6_newLength 8 = .ok (.iconst 0, 1) := dk_3 (dk_at dksJ6_newLength_0 8 rfl rfl)
theorem dJ6_newLength_9 : decode cJ6_newLength 9 = .ok (.iload_n 3, 1) := dk_29 (dk_at dksJ6_newLength_0 9 rfl rfl)
theorem dJ6_newLength_10 : decode cJ6_newLength 10 = .ok (.if_icmp .ge 11, 3) := dk_162 0 11 (dk_at dksJ6_newLength_0 10 rfl rfl)
theorem dJ6_newLength_13 : decode cJ6_newLength 13 = .ok (.iload_n 3, 1) := dk_29 (dk_at dksJ6_newLength_0 13 rfl rfl)
theorem dJ6_newLength_14 : decode cJ6_newLength 14 = .ok (.ldc 200, 2) := dk_18 200 (dk_at dksJ6_newLength_0 14 rfl rfl)
theorem dJ6_newLength_16 : decode cJ6_newLength 16 = .ok (.if_icmp .gt 5, 3) := dk_163 0 5 (dk_at dksJ6_newLength_0 16 rfl rfl)
theorem dJ6_newLength_19 : decode cJ6_newLength 19 = .ok (.iload_n 3, 1) := dk_29 (dk_at dksJ6_newLength_0 19 rfl rfl)
theorem dJ6_newLength_20 : decode cJ6_newLength 20 = .ok (.ireturn, 1) := dk_172 (dk_at dksJ6_newLength_0 20 rfl rfl)
theorem dJ6_newLength_21 : decode cJ6_newLength 21 = .ok (.iload_n 0, 1) := dk_26 (dk_at dksJ6_newLength_0 21 rfl rfl)
theorem dJ6_newLength_22 : decode cJ6_newLength 22 = .ok (.iload_n 1, 1) := dk_27 (dk_at dksJ6_newLength_0 22 rfl rfl)
theorem dJ6_newLength_23 : decode cJ6_newLength 23 = .ok (.invokestatic 201, 3) := dk_184 0 201 (dk_at dksJ6_newLength_1 0 rfl rfl)
theorem dJ6_newLength_26 : decode cJ6_newLength 26 = .ok (.ireturn, 1) := dk_172 (dk_at dksJ6_newLength_1 3 rfl rfl)
def dkwJ6_hugeLength_2 : List UInt8 := [191, 28, 18, 200, 163, 0, 6, 18, 200, 172, 28, 172]
abbrev dktJ6_hugeLength_2 : List UInt8 := dkwJ6_hugeLength_2 ++ []
def dkwJ6_hugeLength_1 : List UInt8 := [26, 182, 0, 98, 18, 208, 182, 0, 94, 27, 182, 0, 98, 18, 210, 182, 0, 94, 182, 0, 101, 183, 0, 212]
abbrev dktJ6_hugeLength_1 : List UInt8 := dkwJ6_hugeLength_1 ++ dktJ6_hugeLength_2
def dkwJ6_hugeLength_0 : List UInt8 := [26, 27, 96, 61, 28, 156, 0, 44, 187, 0, 204, 89, 187, 0, 89, 89, 183, 0, 91, 18, 206, 182, 0, 94]
abbrev dktJ6_hugeLength_0 : List UInt8 := dkwJ6_hugeLength_0 ++ dktJ6_hugeLength_1
theorem dksJ6_hugeLength_0 : cJ6_hugeLength.data.toList.drop 0 = dktJ6_hugeLength_0 := by decide +kernel
theorem dksJ6_hugeLength_1 : cJ6_hugeLength.data.toList.drop 24 = dktJ6_hugeLength_1 := dk_seg dksJ6_hugeLength_0 24 rfl rfl
theorem dksJ6_hugeLength_2 : cJ6_hugeLength.data.toList.drop 48 = dktJ6_hugeLength_2 := dk_seg dksJ6_hugeLength_1 24 rfl rfl
theorem dJ6_hugeLength_0 : decode cJ6_hugeLength 0 = .ok (.iload_n 0, 1) := dk_26 (dk_at dksJ6_hugeLength_0 0 rfl rfl)
theorem dJ6_hugeLength_1 : decode cJ6_hugeLength 1 = .ok (.iload_n 1, 1) := dk_27 (dk_at dksJ6_hugeLength_0 1 rfl rfl)
theorem dJ6_hugeLength_2 : decode cJ6_hugeLength 2 = .ok (.iadd, 1) := dk_96 (dk_at dksJ6_hugeLength_0 2 rfl rfl)
theorem dJ6_hugeLength_3 : decode cJ6_hugeLength 3 = .ok (.istore_n 2, 1) := dk_61 (dk_at dksJ6_hugeLength_0 3 rfl rfl)
theorem dJ6_hugeLength_4 : decode cJ6_hugeLength 4 = .ok (.iload_n 2, 1) := dk_28 (dk_at dksJ6_hugeLength_0 4 rfl rfl)
theorem dJ6_hugeLength_5 : decode cJ6_hugeLength 5 = .ok (.ifCond .ge 44, 3) := dk_156 0 44 (dk_at dksJ6_hugeLength_0 5 rfl rfl)
theorem dJ6_hugeLength_8 : decode cJ6_hugeLength 8 = .ok (.new 204, 3) := dk_187 0 204 (dk_at dksJ6_hugeLength_0 8 rfl rfl)
theorem dJ6_hugeLength_11 : decode cJ6_hugeLength 11 = .ok (.dup, 1) := dk_89 (dk_at dksJ6_hugeLength_0 11 rfl rfl)
theorem dJ6_hugeLength_12 : decode cJ6_hugeLength 12 = .ok (.new 89, 3) := dk_187 0 89 (dk_at dksJ6_hugeLength_0 12 rfl rfl)
theorem dJ6_hugeLength_15 : decode cJ6_hugeLength 15 = .ok (.dup, 1) := dk_89 (dk_at dksJ6_hugeLength_0 15 rfl rfl)
theorem dJ6_hugeLength_16 : decode cJ6_hugeLength 16 = .ok (.invokespecial 91, 3) := dk_183 0 91 (dk_at dksJ6_hugeLength_0 16 rfl rfl)
theorem dJ6_hugeLength_19 : decode cJ6_hugeLength 19 = .ok (.ldc 206, 2) := dk_18 206 (dk_at dksJ6_hugeLength_0 19 rfl rfl)
theorem dJ6_hugeLength_21 : decode cJ6_hugeLength 21 = .ok (.invokevirtual 94, 3) := dk_182 0 94 (dk_at dksJ6_hugeLength_0 21 rfl rfl)
theorem dJ6_hugeLength_24 : decode cJ6_hugeLength 24 = .ok (.iload_n 0, 1) := dk_26 (dk_at dksJ6_hugeLength_1 0 rfl rfl)
theorem dJ6_hugeLength_25 : decode cJ6_hugeLength 25 = .ok (.invokevirtual 98, 3) := dk_182 0 98 (dk_at dksJ6_hugeLength_1 1 rfl rfl)
theorem dJ6_hugeLength_28 : decode cJ6_hugeLength 28 = .ok (.ldc 208, 2) := dk_18 208 (dk_at dksJ6_hugeLength_1 4 rfl rfl)
theorem dJ6_hugeLength_30 : decode cJ6_hugeLength 30 = .ok (.invokevirtual 94, 3) := dk_182 0 94 (dk_at dksJ6_hugeLength_1 6 rfl rfl)
theorem dJ6_hugeLength_33 : decode cJ6_hugeLength 33 = .ok (.iload_n 1, 1) := dk_27 (dk_at dksJ6_hugeLength_1 9 rfl rfl)
theorem dJ6_hugeLength_34 : decode cJ6_hugeLength 34 = .ok (.invokevirtual 98, 3) := dk_182 0 98 (dk_at dksJ6_hugeLength_1 10 rfl rfl)
theorem dJ6_hugeLength_37 : decode cJ6_hugeLength 37 = .ok (.ldc 210, 2) := dk_18 210 (dk_at dksJ6_hugeLength_1 13 rfl rfl)
theorem dJ6_hugeLength_39 : decode cJ6_hugeLength 39 = .ok (.invokevirtual 94, 3) := dk_182 0 94 (dk_at dksJ6_hugeLength_1 15 rfl rfl)
theorem dJ6_hugeLength_42 : decode cJ6_hugeLength 42 = .ok (.invokevirtual 101, 3) := dk_182 0 101 (dk_at dksJ6_hugeLength_1 18 rfl rfl)
theorem dJ6_hugeLength_45 : decode cJ6_hugeLength 45 = .ok (.invokespecial 212, 3) := dk_183 0 212 (dk_at dksJ6_hugeLength_1 21 rfl rfl)
theorem dJ6_hugeLength_48 : decode cJ6_hugeLength 48 = .ok (.athrow, 1) := dk_191 (dk_at dksJ6_hugeLength_2 0 rfl rfl)
theorem dJ6_hugeLength_49 : decode cJ6_hugeLength 49 = .ok (.iload_n 2, 1) := dk_28 (dk_at dksJ6_hugeLength_2 1 rfl rfl)
theorem dJ6_hugeLength_50 : decode cJ6_hugeLength 50 = .ok (.ldc 200, 2) := dk_18 200 (dk_at dksJ6_hugeLength_2 2 rfl rfl)
theorem dJ6_hugeLength_52 : decode cJ6_hugeLength 52 = .ok (.if_icmp .gt 6, 3) := dk_163 0 6 (dk_at dksJ6_hugeLength_2 4 rfl rfl)
theorem dJ6_hugeLength_55 : decode cJ6_hugeLength 55 = .ok (.ldc 200, 2) := dk_18 200 (dk_at dksJ6_hugeLength_2 7 rfl rfl)
theorem dJ6_hugeLength_57 : decode cJ6_hugeLength 57 = .ok (.ireturn, 1) := dk_172 (dk_at dksJ6_hugeLength_2 9 rfl rfl)
theorem dJ6_hugeLength_58 : decode cJ6_hugeLength 58 = .ok (.iload_n 2, 1) := dk_28 (dk_at dksJ6_hugeLength_2 10 rfl rfl)
theorem dJ6_hugeLength_59 : decode cJ6_hugeLength 59 = .ok (.ireturn, 1) := dk_172 (dk_at dksJ6_hugeLength_2 11 rfl rfl)
def dkwJ6_mismatch_3 : List UInt8 := [172]
abbrev dktJ6_mismatch_3 : List UInt8 := dkwJ6_mismatch_3 ++ []
def dkwJ6_mismatch_2 : List UInt8 := [62, 29, 28, 162, 0, 20, 42, 29, 51, 43, 29, 51, 159, 0, 5, 29, 172, 132, 3, 1, 167, 255, 237, 2]
abbrev dktJ6_mismatch_2 : List UInt8 := dkwJ6_mismatch_2 ++ dktJ6_mismatch_3
def dkwJ6_mismatch_1 : List UInt8 := [43, 178, 0, 126, 133, 28, 178, 0, 129, 184, 0, 122, 62, 29, 155, 0, 5, 29, 172, 28, 29, 2, 130, 100]
abbrev dktJ6_mismatch_1 : List UInt8 := dkwJ6_mismatch_1 ++ dktJ6_mismatch_2
def dkwJ6_mismatch_0 : List UInt8 := [3, 62, 28, 16, 7, 164, 0, 44, 42, 3, 51, 43, 3, 51, 159, 0, 5, 3, 172, 42, 178, 0, 126, 133]
abbrev dktJ6_mismatch_0 : List UInt8 := dkwJ6_mismatch_0 ++ dktJ6_mismatch_1
theorem dksJ6_mismatch_0 : cJ6_mismatch.data.toList.drop 0 = dktJ6_mismatch_0 := by decide +kernel
theorem dksJ6_mismatch_1 : cJ6_mismatch.data.toList.drop 24 = dktJ6_mismatch_1 := dk_seg dksJ6_mismatch_0 24 rfl rfl
theorem dksJ6_mismatch_2 : cJ6_mismatch.data.toList.drop 48 = dktJ6_mismatch_2 := dk_seg dksJ6_mismatch_1 24 rfl rfl
theorem dksJ6_mismatch_3 : cJ6_mismatch.data.toList.drop 72 = dktJ6_mismatch_3 := dk_seg dksJ6_mismatch_2 24 rfl rfl
theorem dJ6_mismatch_0 : decode cJ6_mismatch 0 = .ok (.iconst 0, 1) := dk_3 (dk_at dksJ6_mismatch_0 0 rfl rfl)
theorem dJ6_mismatch_1 : decode cJ6_mismatch 1 = .ok (.istore_n 3, 1) := dk_62 (dk_at dksJ6_mismatch_0 1 rfl rfl)
theorem dJ6_mismatch_2 : decode cJ6_mismatch 2 = .ok (.iload_n 2, 1) := dk_28 (dk_at dksJ6_mismatch_0 2 rfl rfl)
theorem dJ6_mismatch_3 : decode cJ6_mismatch 3 = .ok (.bipush 7, 2) := dk_16 7 (dk_at dksJ6_mismatch_0 3 rfl rfl)
theorem dJ6_mismatch_5 : decode cJ6_mismatch 5 = .ok (.if_icmp .le 44, 3) := dk_164 0 44 (dk_at dksJ6_mismatch_0 5 rfl rfl)
theorem dJ6_mismatch_8 : decode cJ6_mismatch 8 = .ok (.aload_n 0, 1) := dk_42 (dk_at dksJ6_mismatch_0 8 rfl rfl)
theorem dJ6_mismatch_9 : decode cJ6_mismatch 9 = .ok (.iconst 0, 1) := dk_3 (dk_at dksJ6_mismatch_0 9 rfl rfl)
theorem dJ6_mismatch_10 : decode cJ6_mismatch 10 = .ok (.baload, 1) := dk_51 (dk_at dksJ6_mismatch_0 10 rfl rfl)
theorem dJ6_mismatch_11 : decode cJ6_mismatch 11 = .ok (.aload_n 1, 1) := dk_43 (dk_at dksJ6_mismatch_0 11 rfl rfl)
theorem dJ6_mismatch_12 : decode cJ6_mismatch 12 = .ok (.iconst 0, 1) := dk_3 (dk_at dksJ6_mismatch_0 12 rfl rfl)
theorem dJ6_mismatch_13 : decode cJ6_mismatch 13 = .ok (.baload, 1) := dk_51 (dk_at dksJ6_mismatch_0 13 rfl rfl)
theorem dJ6_mismatch_14 : decode cJ6_mismatch 14 = .ok (.if_icmp .eq 5, 3) := dk_159 0 5 (dk_at dksJ6_mismatch_0 14 rfl rfl)
theorem dJ6_mismatch_17 : decode cJ6_mismatch 17 = .ok (.iconst 0, 1) := dk_3 (dk_at dksJ6_mismatch_0 17 rfl rfl)
theorem dJ6_mismatch_18 : decode cJ6_mismatch 18 = .ok (.ireturn, 1) := dk_172 (dk_at dksJ6_mismatch_0 18 rfl rfl)
theorem dJ6_mismatch_19 : decode cJ6_mismatch 19 = .ok (.aload_n 0, 1) := dk_42 (dk_at dksJ6_mismatch_0 19 rfl rfl)
theorem dJ6_mismatch_20 : decode cJ6_mismatch 20 = .ok (.getstatic 126, 3) := dk_178 0 126 (dk_at dksJ6_mismatch_0 20 rfl rfl)
theorem dJ6_mismatch_23 : decode cJ6_mismatch 23 = .ok (.i2l, 1) := dk_133 (dk_at dksJ6_mismatch_0 23 rfl rfl)
theorem dJ6_mismatch_24 : decode cJ6_mismatch 24 = .ok (.aload_n 1, 1) := dk_43 (dk_at dksJ6_mismatch_1 0 rfl rfl)
theorem dJ6_mismatch_25 : decode cJ6_mismatch 25 = .ok (.getstatic 126, 3) := dk_178 0 126 (dk_at dksJ6_mismatch_1 1 rfl rfl)
theorem dJ6_mismatch_28 : decode cJ6_mismatch 28 = .ok (.i2l, 1) := dk_133 (dk_at dksJ6_mismatch_1 4 rfl rfl)
theorem dJ6_mismatch_29 : decode cJ6_mismatch 29 = .ok (.iload_n 2, 1) := dk_28 (dk_at dksJ6_mismatch_1 5 rfl rfl)
theorem dJ6_mismatch_30 : decode cJ6_mismatch 30 = .ok (.getstatic 129, 3) := dk_178 0 129 (dk_at dksJ6_mismatch_1 6 rfl rfl)
theorem dJ6_mismatch_33 : decode cJ6_mismatch 33 = .ok (.invokestatic 122, 3) := dk_184 0 122 (dk_at dksJ6_mismatch_1 9 rfl rfl)
theorem dJ6_mismatch_36 : decode cJ6_mismatch 36 = .ok (.istore_n 3, 1) := dk_62 (dk_at dksJ6_mismatch_1 12 rfl rfl)
theorem dJ6_mismatch_37 : decode cJ6_mismatch 37 = .ok (.iload_n 3, 1) := dk_29 (dk_at dksJ6_mismatch_1 13 rfl rfl)
theorem dJ6_mismatch_38 : decode cJ6_mismatch 38 = .ok (.ifCond .lt 5, 3) := dk_155 0 5 (dk_at dksJ6_mismatch_1 14 rfl rfl)
theorem dJ6_mismatch_41 : decode cJ6_mismatch 41 = .ok (.iload_n 3, 1) := dk_29 (dk_at dksJ6_mismatch_1 17 rfl rfl)
theorem dJ6_mismatch_42 : decode cJ6_mismatch 42 = .ok (.ireturn, 1) := dk_172 (dk_at dksJ6_mismatch_1 18 rfl rfl)
theorem dJ6_mismatch_43 : decode cJ6_mismatch 43 = .ok (.iload_n 2, 1) := dk_28 (dk_at dksJ6_mismatch_1 19 rfl rfl)
theorem dJ6_mismatch_44 : decode cJ6_mismatch 44 = .ok (.iload_n 3, 1) := dk_29 (dk_at dksJ6_mismatch_1 20 rfl rfl)
theorem dJ6_mismatch_45 : decode cJ6_mismatch 45 = .ok (.iconst (-1), 1) := dk_2 (dk_at dksJ6_mismatch_1 21 rfl rfl)
theorem dJ6_mismatch_46 : decode cJ6_mismatch 46 = .ok (.ixor, 1) := dk_130 (dk_at dksJ6_mismatch_1 22 rfl rfl)
theorem dJ6_mismatch_47 : decode cJ6_mismatch 47 = .ok (.isub, 1) := dk_100 (dk_at dksJ6_mismatch_1 23 rfl rfl)
theorem dJ6_mismatch_48 : decode cJ6_mismatch 48 = .ok (.istore_n 3, 1) := dk_62 (dk_at dksJ6_mismatch_2 0 rfl rfl)
theorem dJ6_mismatch_49 : decode cJ6_mismatch 49 = .ok (.iload_n 3, 1) := dk_29 (dk_at dksJ6_mismatch_2 1 rfl rfl)
theorem dJ6_mismatch_50 : decode cJ6_mismatch 50 = .ok (.iload_n 2, 1) := dk_28 (dk_at dksJ6_mismatch_2 2 rfl rfl)
theorem dJ6_mismatch_51 : decode cJ6_mismatch 51 = .ok (.if_icmp .ge 20, 3) := dk_162 0 20 (dk_at dksJ6_mismatch_2 3 rfl rfl)
theorem dJ6_mismatch_54 : decode cJ6_mismatch 54 = .ok (.aload_n 0, 1) := dk_42 (dk_at dksJ6_mismatch_2 6 rfl rfl)
theorem dJ6_mismatch_55 : decode cJ6_mismatch 55 = .ok (.iload_n 3, 1) := dk_29 (dk_at dksJ6_mismatch_2 7 rfl rfl)
theorem dJ6_mismatch_56 : decode cJ6_mismatch 56 = .ok (.baload, 1) := dk_51 (dk_at dksJ6_mismatch_2 8 rfl rfl)
theorem dJ6_mismatch_57 : decode cJ6_mismatch 57 = .ok (.aload_n 1, 1) := dk_43 (dk_at dksJ6_mismatch_2 9 rfl rfl)
theorem dJ6_mismatch_58 : decode cJ6_mismatch 58 = .ok (.iload_n 3, 1) := dk_29 (dk_at dksJ6_mismatch_2 10 rfl rfl)
theorem dJ6_mismatch_59 : decode cJ6_mismatch 59 = .ok (.baload, 1) := dk_51 (dk_at dksJ6_mismatch_2 11 rfl rfl)
theorem dJ6_mismatch_60 : decode cJ6_mismatch 60 = .ok (.if_icmp .eq 5, 3) := dk_159 0 5 (dk_at dksJ6_mismatch_2 12 rfl rfl)
theorem dJ6_mismatch_63 : decode cJ6_mismatch 63 = .ok (.iload_n 3, 1) := dk_29 (dk_at dksJ6_mismatch_2 15 rfl rfl)
theorem dJ6_mismatch_64 : decode cJ6_mismatch 64 = .ok (.ireturn, 1) := dk_172 (dk_at dksJ6_mismatch_2 16 rfl rfl)
theorem dJ6_mismatch_65 : decode cJ6_mismatch 65 = .ok (.iinc 3 1, 3) := dk_132 3 1 (dk_at dksJ6_mismatch_2 17 rfl rfl)
theorem dJ6_mismatch_68 : decode cJ6_mismatch 68 = .ok (.goto (-19), 3) := dk_167 255 237 (dk_at dksJ6_mismatch_2 20 rfl rfl)
theorem dJ6_mismatch_71 : decode cJ6_mismatch 71 = .ok (.iconst (-1), 1) := dk_2 (dk_at dksJ6_mismatch_2 23 rfl rfl)
theorem dJ6_mismatch_72 : decode cJ6_mismatch 72 = .ok (.ireturn, 1) := dk_172 (dk_at dksJ6_mismatch_3 0 rfl rfl)
def dkwJ6_vectorizedMismatch_11 : List UInt8 := [54, 10, 21, 10, 2, 130, 172, 21, 10, 2, 130, 172]
abbrev dktJ6_vectorizedMismatch_11 : List UInt8 := dkwJ6_vectorizedMismatch_11 ++ []
def dkwJ6_vectorizedMismatch_10 : List UInt8 := [178, 0, 46, 21, 7, 96, 122, 54, 17, 21, 9, 21, 8, 120, 21, 17, 96, 172, 21, 10, 21, 11, 100]
abbrev dktJ6_vectorizedMismatch_10 : List UInt8 := dkwJ6_vectorizedMismatch_10 ++ dktJ6_vectorizedMismatch_11
def dkwJ6_vectorizedMismatch_9 : List UInt8 := [153, 0, 18, 21, 16, 184, 0, 58, 178, 0, 46, 21, 7, 96, 122, 167, 0, 15, 21, 16, 184, 0, 11]
abbrev dktJ6_vectorizedMismatch_9 : List UInt8 := dkwJ6_vectorizedMismatch_9 ++ dktJ6_vectorizedMismatch_10
def dkwJ6_vectorizedMismatch_8 : List UInt8 := [182, 0, 54, 54, 15, 21, 14, 21, 15, 159, 0, 54, 21, 14, 21, 15, 130, 54, 16, 178, 0, 36]
abbrev dktJ6_vectorizedMismatch_8 : List UInt8 := dkwJ6_vectorizedMismatch_8 ++ dktJ6_vectorizedMismatch_9
def dkwJ6_vectorizedMismatch_7 : List UInt8 := [55, 12, 178, 0, 26, 42, 31, 22, 12, 97, 182, 0, 54, 54, 14, 178, 0, 26, 45, 22, 4, 22, 12, 97]
abbrev dktJ6_vectorizedMismatch_7 : List UInt8 := dkwJ6_vectorizedMismatch_7 ++ dktJ6_vectorizedMismatch_8
def dkwJ6_vectorizedMismatch_6 : List UInt8 := [4, 178, 0, 51, 21, 7, 100, 120, 54, 11, 21, 10, 21, 11, 161, 0, 104, 21, 9, 133, 178, 0, 20, 121]
abbrev dktJ6_vectorizedMismatch_6 : List UInt8 := dkwJ6_vectorizedMismatch_6 ++ dktJ6_vectorizedMismatch_7
def dkwJ6_vectorizedMismatch_5 : List UInt8 := [132, 9, 1, 167, 255, 148, 21, 6, 21, 9, 21, 8, 120, 100, 54, 10, 21, 7, 178, 0, 51, 162, 0, 126]
abbrev dktJ6_vectorizedMismatch_5 : List UInt8 := dkwJ6_vectorizedMismatch_5 ++ dktJ6_vectorizedMismatch_6
def dkwJ6_vectorizedMismatch_4 : List UInt8 := [22, 16, 184, 0, 49, 178, 0, 46, 21, 7, 96, 122, 54, 18, 21, 9, 21, 8, 120, 21, 18, 96, 172]
abbrev dktJ6_vectorizedMismatch_4 : List UInt8 := dkwJ6_vectorizedMismatch_4 ++ dktJ6_vectorizedMismatch_5
def dkwJ6_vectorizedMismatch_3 : List UInt8 := [55, 16, 178, 0, 36, 153, 0, 18, 22, 16, 184, 0, 40, 178, 0, 46, 21, 7, 96, 122, 167, 0, 15]
abbrev dktJ6_vectorizedMismatch_3 : List UInt8 := dkwJ6_vectorizedMismatch_3 ++ dktJ6_vectorizedMismatch_4
def dkwJ6_vectorizedMismatch_2 : List UInt8 := [22, 4, 22, 10, 97, 182, 0, 30, 55, 14, 22, 12, 22, 14, 148, 153, 0, 54, 22, 12, 22, 14, 131]
abbrev dktJ6_vectorizedMismatch_2 : List UInt8 := dkwJ6_vectorizedMismatch_2 ++ dktJ6_vectorizedMismatch_3
def dkwJ6_vectorizedMismatch_1 : List UInt8 := [178, 0, 20, 121, 55, 10, 178, 0, 26, 42, 31, 22, 10, 97, 182, 0, 30, 55, 12, 178, 0, 26, 45]
abbrev dktJ6_vectorizedMismatch_1 : List UInt8 := dkwJ6_vectorizedMismatch_1 ++ dktJ6_vectorizedMismatch_2
def dkwJ6_vectorizedMismatch_0 : List UInt8 := [178, 0, 20, 21, 7, 100, 54, 8, 3, 54, 9, 21, 9, 21, 6, 21, 8, 122, 162, 0, 104, 21, 9, 133]
abbrev dktJ6_vectorizedMismatch_0 : List UInt8 := dkwJ6_vectorizedMismatch_0 ++ dktJ6_vectorizedMismatch_1
theorem dksJ6_vectorizedMismatch_0 : cJ6_vectorizedMismatch.data.toList.drop 0 = dktJ6_vectorizedMismatch_0 := by decide +kernel
theorem dksJ6_vectorizedMismatch_1 : cJ6_vectorizedMismatch.data.toList.drop 24 = dktJ6_vectorizedMismatch_1 := dk_seg dksJ6_vectorizedMismatch_0 24 rfl rfl
theorem dksJ6_vectorizedMismatch_2 : cJ6_vectorizedMismatch.data.toList.drop 47 = dktJ6_vectorizedMismatch_2 := dk_seg dksJ6_vectorizedMismatch_1 23 rfl rfl
theorem dksJ6_vectorizedMismatch_3 : cJ6_vectorizedMismatch.data.toList.drop 70 = dktJ6_vectorizedMismatch_3 := dk_seg dksJ6_vectorizedMismatch_2 23 rfl rfl
theorem dksJ6_vectorizedMismatch_4 : cJ6_vectorizedMismatch.data.toList.drop 93 = dktJ6_vectorizedMismatch_4 := dk_seg dksJ6_vectorizedMismatch_3 23 rfl rfl
theorem dksJ6_vectorizedMismatch_5 : cJ6_vectorizedMismatch.data.toList.drop 116 = dktJ6_vectorizedMismatch_5 := dk_seg dksJ6_vectorizedMismatch_4 23 rfl rfl
theorem dksJ6_vectorizedMismatch_6 : cJ6_vectorizedMismatch.data.toList.drop 140 = dktJ6_vectorizedMismatch_6 := dk_seg dksJ6_vectorizedMismatch_5 24 rfl rfl
theorem dksJ6_vectorizedMismatch_7 : cJ6_vectorizedMismatch.data.toList.drop 164 = dktJ6_vectorizedMismatch_7 := dk_seg dksJ6_vectorizedMismatch_6 24 rfl rfl
theorem dksJ6_vectorizedMismatch_8 : cJ6_vectorizedMismatch.data.toList.drop 188 = dktJ6_vectorizedMismatch_8 := dk_seg dksJ6_vectorizedMismatch_7 24 rfl rfl
theorem dksJ6_vectorizedMismatch_9 : cJ6_vectorizedMismatch.data.toList.drop 210 = dktJ6_vectorizedMismatch_9 := dk_seg dksJ6_vectorizedMismatch_8 22 rfl rfl
theorem dksJ6_vectorizedMismatch_10 : cJ6_vectorizedMismatch.data.toList.drop 233 = dktJ6_vectorizedMismatch_10 := dk_seg dksJ6_vectorizedMismatch_9 23 rfl rfl
theorem dksJ6_vectorizedMismatch_11 : cJ6_vectorizedMismatch.data.toList.drop 256 = dktJ6_vectorizedMismatch_11 := dk_seg dksJ6_vectorizedMismatch_10 23 rfl rfl
theorem dJ6_vectorizedMismatch_0 : decode cJ6_vectorizedMismatch 0 = .ok (.getstatic 20, 3) := dk_178 0 20 (dk_at dksJ6_vectorizedMismatch_0 0 rfl rfl)
theorem dJ6_vectorizedMismatch_3 : decode cJ6_vectorizedMismatch 3 = .ok (.iload 7, 2) := dk_21 7 (dk_at dksJ6_vectorizedMismatch_0 3 rfl rfl)
theorem dJ6_vectorizedMismatch_5 : decode cJ6_vectorizedMismatch 5 = .ok (.isub, 1) := dk_100 (dk_at dksJ6_vectorizedMismatch_0 5 rfl rfl)
theorem dJ6_vectorizedMismatch_6 : decode cJ6_vectorizedMismatch 6 = .ok (.istore 8, 2) := dk_54 8 (dk_at dksJ6_vectorizedMismatch_0 6 rfl rfl)
theorem dJ6_vectorizedMismatch_8 : decode cJ6_vectorizedMismatch 8 = .ok (.iconst 0, 1) := dk_3 (dk_at dksJ6_vectorizedMismatch_0 8 rfl rfl)
theorem dJ6_vectorizedMismatch_9 : decode cJ6_vectorizedMismatch 9 = .ok (.istore 9, 2) := dk_54 9 (dk_at dksJ6_vectorizedMismatch_0 9 rfl rfl)
theorem dJ6_vectorizedMismatch_11 : decode cJ6_vectorizedMismatch 11 = .ok (.iload 9, 2) := dk_21 9 (dk_at dksJ6_vectorizedMismatch_0 11 rfl rfl)
theorem dJ6_vectorizedMismatch_13 : decode cJ6_vectorizedMismatch 13 = .ok (.iload 6, 2) := dk_21 6 (dk_at dksJ6_vectorizedMismatch_0 13 rfl rfl)
theorem dJ6_vectorizedMismatch_15 : decode cJ6_vectorizedMismatch 15 = .ok (.iload 8, 2) := dk_21 8 (dk_at dksJ6_vectorizedMismatch_0 15 rfl rfl)
theorem dJ6_vectorizedMismatch_17 : decode cJ6_vectorizedMismatch 17 = .ok (.ishr, 1) := dk_122 (dk_at dksJ6_vectorizedMismatch_0 17 rfl rfl)
theorem dJ6_vectorizedMismatch_18 : decode cJ6_vectorizedMismatch 18 = .ok (.if_icmp .ge 104, 3) := dk_162 0 104 (dk_at dksJ6_vectorizedMismatch_0 18 rfl rfl)
theorem dJ6_vectorizedMismatch_21 : decode cJ6_vectorizedMismatch 21 = .ok (.iload 9, 2) := dk_21 9 (dk_at dksJ6_vectorizedMismatch_0 21 rfl rfl)
theorem dJ6_vectorizedMismatch_23 : decode cJ6_vectorizedMismatch 23 = .ok (.i2l, 1) := dk_133 (dk_at dksJ6_vectorizedMismatch_0 23 rfl rfl)
theorem dJ6_vectorizedMismatch_24 : decode cJ6_vectorizedMismatch 24 = .ok (.getstatic 20, 3) := dk_178 0 20 (dk_at dksJ6_vectorizedMismatch_1 0 rfl rfl)
theorem dJ6_vectorizedMismatch_27 : decode cJ6_vectorizedMismatch 27 = .ok (.lshl, 1) := dk_121 (dk_at dksJ6_vectorizedMismatch_1 3 rfl rfl)
theorem dJ6_vectorizedMismatch_28 : decode cJ6_vectorizedMismatch 28 = .ok (.lstore 10, 2) := dk_55 10 (dk_at dksJ6_vectorizedMismatch_1 4 rfl rfl)
theorem dJ6_vectorizedMismatch_30 : decode cJ6_vectorizedMismatch 30 = .ok (.getstatic 26, 3) := dk_178 0 26 (dk_at dksJ6_vectorizedMismatch_1 6 rfl rfl)
theorem dJ6_vectorizedMismatch_33 : decode cJ6_vectorizedMismatch 33 = .ok (.aload_n 0, 1) := dk_42 (dk_at dksJ6_vectorizedMismatch_1 9 rfl rfl)
theorem dJ6_vectorizedMismatch_34 : decode cJ6_vectorizedMismatch 34 = .ok (.lload_n 1, 1) := dk_31 (dk_at dksJ6_vectorizedMismatch_1 10 rfl rfl)
theorem dJ6_vectorizedMismatch_35 : decode cJ6_vectorizedMismatch 35 = .ok (.lload 10, 2) := dk_22 10 (dk_at dksJ6_vectorizedMismatch_1 11 rfl rfl)
theorem dJ6_vectorizedMismatch_37 : decode cJ6_vectorizedMismatch 37 = .ok (.ladd, 1) := dk_97 (dk_at dksJ6_vectorizedMismatch_1 13 rfl rfl)
theorem dJ6_vectorizedMismatch_38 : decode cJ6_vectorizedMismatch 38 = .ok (.invokevirtual 30, 3) := dk_182 0 30 (dk_at dksJ6_vectorizedMismatch_1 14 rfl rfl)
theorem dJ6_vectorizedMismatch_41 : decode cJ6_vectorizedMismatch 41 = .ok (.lstore 12, 2) := dk_55 12 (dk_at dksJ6_vectorizedMismatch_1 17 rfl rfl)
theorem dJ6_vectorizedMismatch_43 : decode cJ6_vectorizedMismatch 43 = .ok (.getstatic 26, 3) := dk_178 0 26 (dk_at dksJ6_vectorizedMismatch_1 19 rfl rfl)
theorem dJ6_vectorizedMismatch_46 : decode cJ6_vectorizedMismatch 46 = .ok (.aload_n 3, 1) := dk_45 (dk_at dksJ6_vectorizedMismatch_1 22 rfl rfl)
theorem dJ6_vectorizedMismatch_47 : decode cJ6_vectorizedMismatch 47 = .ok (.lload 4, 2) := dk_22 4 (dk_at dksJ6_vectorizedMismatch_2 0 rfl rfl)
theorem dJ6_vectorizedMismatch_49 : decode cJ6_vectorizedMismatch 49 = .ok (.lload 10, 2) := dk_22 10 (dk_at dksJ6_vectorizedMismatch_2 2 rfl rfl)
theorem dJ6_vectorizedMismatch_51 : decode cJ6_vectorizedMismatch 51 = .ok (.ladd, 1) := dk_97 (dk_at dksJ6_vectorizedMismatch_2 4 rfl rfl)
theorem dJ6_vectorizedMismatch_52 : decode cJ6_vectorizedMismatch 52 = .ok (.invokevirtual 30, 3) := dk_182 0 30 (dk_at dksJ6_vectorizedMismatch_2 5 rfl rfl)
theorem dJ6_vectorizedMismatch_55 : decode cJ6_vectorizedMismatch 55 = .ok (.lstore 14, 2) := dk_55 14 (dk_at dksJ6_vectorizedMismatch_2 8 rfl rfl)
theorem dJ6_vectorizedMismatch_57 : decode cJ6_vectorizedMismatch 57 = .ok (.lload 12, 2) := dk_22 12 (dk_at dksJ6_vectorizedMismatch_2 10 rfl rfl)
theorem dJ6_vectorizedMismatch_59 : decode cJ6_vectorizedMismatch 59 = .ok (.lload 14, 2) := dk_22 14 (dk_at dksJ6_vectorizedMismatch_2 12 rfl rfl)
theorem dJ6_vectorizedMismatch_61 : decode cJ6_vectorizedMismatch 61 = .ok (.lcmp, 1) := dk_148 (dk_at dksJ6_vectorizedMismatch_2 14 rfl rfl)
theorem dJ6_vectorizedMismatch_62 : decode cJ6_vectorizedMismatch 62 = .ok (.ifCond .eq 54, 3) := dk_153 0 54 (dk_at dksJ6_vectorizedMismatch_2 15 rfl rfl)
theorem dJ6_vectorizedMismatch_65 : decode cJ6_vectorizedMismatch 65 = .ok (.lload 12, 2) := dk_22 12 (dk_at dksJ6_vectorizedMismatch_2 18 rfl rfl)
theorem dJ6_vectorizedMismatch_67 : decode cJ6_vectorizedMismatch 67 = .ok (.lload 14, 2) := dk_22 14 (dk_at dksJ6_vectorizedMismatch_2 20 rfl rfl)
theorem dJ6_vectorizedMismatch_69 : decode cJ6_vectorizedMismatch 69 = .ok (.lxor, 1) := dk_131 (dk_at dksJ6_vectorizedMismatch_2 22 rfl rfl)
theorem dJ6_vectorizedMismatch_70 : decode cJ6_vectorizedMismatch 70 = .ok (.lstore 16, 2) := dk_55 16 (dk_at dksJ6_vectorizedMismatch_3 0 rfl rfl)
theorem dJ6_vectorizedMismatch_72 : decode cJ6_vectorizedMismatch 72 = .ok (.getstatic 36, 3) := dk_178 0 36 (dk_at dksJ6_vectorizedMismatch_3 2 rfl rfl)
theorem dJ6_vectorizedMismatch_75 : decode cJ6_vectorizedMismatch 75 = .ok (.ifCond .eq 18, 3) := dk_153 0 18 (dk_at dksJ6_vectorizedMismatch_3 5 rfl rfl)
theorem dJ6_vectorizedMismatch_78 : decode cJ6_vectorizedMismatch 78 = .ok (.lload 16, 2) := dk_22 16 (dk_at dksJ6_vectorizedMismatch_3 8 rfl rfl)
theorem dJ6_vectorizedMismatch_80 : decode cJ6_vectorizedMismatch 80 = .ok (.invokestatic 40, 3) := dk_184 0 40 (dk_at dksJ6_vectorizedMismatch_3 10 rfl rfl)
theorem dJ6_vectorizedMismatch_83 : decode cJ6_vectorizedMismatch 83 = .ok (.getstatic 46, 3) := dk_178 0 46 (dk_at dksJ6_vectorizedMismatch_3 13 rfl rfl)
theorem dJ6_vectorizedMismatch_86 : decode cJ6_vectorizedMismatch 86 = .ok (.iload 7, 2) := dk_21 7 (dk_at dksJ6_vectorizedMismatch_3 16 rfl rfl)
theorem dJ6_vectorizedMismatch_88 : decode cJ6_vectorizedMismatch 88 = .ok (.iadd, 1) := dk_96 (dk_at dksJ6_vectorizedMismatch_3 18 rfl rfl)
theorem dJ6_vectorizedMismatch_89 : decode cJ6_vectorizedMismatch 89 = .ok (.ishr, 1) := dk_122 (dk_at dksJ6_vectorizedMismatch_3 19 rfl rfl)
theorem dJ6_vectorizedMismatch_90 : decode cJ6_vectorizedMismatch 90 = .ok (.goto 15, 3) := dk_167 0 15 (dk_at dksJ6_vectorizedMismatch_3 20 rfl rfl)
theorem dJ6_vectorizedMismatch_93 : decode cJ6_vectorizedMismatch 93 = .ok (.lload 16, 2) := dk_22 16 (dk_at dksJ6_vectorizedMismatch_4 0 rfl rfl)
theorem dJ6_vectorizedMismatch_95 : decode cJ6_vectorizedMismatch 95 = .ok (.invokestatic 49, 3) := dk_184 0 49 (dk_at dksJ6_vectorizedMismatch_4 2 rfl rfl)
theorem dJ6_vectorizedMismatch_98 : decode cJ6_vectorizedMismatch 98 = .ok (.getstatic 46, 3) := dk_178 0 46 (dk_at dksJ6_vectorizedMismatch_4 5 rfl rfl)
theorem dJ6_vectorizedMismatch_101 : decode cJ6_vectorizedMismatch 101 = .ok (.iload 7, 2) := dk_21 7 (dk_at dksJ6_vectorizedMismatch_4 8 rfl rfl)
theorem dJ6_vectorizedMismatch_103 : decode cJ6_vectorizedMismatch 103 = .ok (.iadd, 1) := dk_96 (dk_at dksJ6_vectorizedMismatch_4 10 rfl rfl)
theorem dJ6_vectorizedMismatch_104 : decode cJ6_vectorizedMismatch 104 = .ok (.ishr, 1) := dk_122 (dk_at dksJ6_vectorizedMismatch_4 11 rfl rfl)
theorem dJ6_vectorizedMismatch_105 : decode cJ6_vectorizedMismatch 105 = .ok (.istore 18, 2) := dk_54 18 (dk_at dksJ6_vectorizedMismatch_4 12 rfl rfl)
theorem dJ6_vectorizedMismatch_107 : decode cJ6_vectorizedMismatch 107 = .ok (.iload 9, 2) := dk_21 9 (dk_at dksJ6_vectorizedMismatch_4 14 rfl rfl)
theorem dJ6_vectorizedMismatch_109 : decode cJ6_vectorizedMismatch 109 = .ok (.iload 8, 2) := dk_21 8 (dk_at dksJ6_vectorizedMismatch_4 16 rfl rfl)
theorem dJ6_vectorizedMismatch_111 : decode cJ6_vectorizedMismatch 111 = .ok (.ishl, 1) := dk_120 (dk_at dksJ6_vectorizedMismatch_4 18 rfl rfl)
theorem dJ6_vectorizedMismatch_112 : decode cJ6_vectorizedMismatch 112 = .ok (.iload 18, 2) := dk_21 18 (dk_at dksJ6_vectorizedMismatch_4 19 rfl rfl)
theorem dJ6_vectorizedMismatch_114 : decode cJ6_vectorizedMismatch 114 = .ok (.iadd, 1) := dk_96 (dk_at dksJ6_vectorizedMismatch_4 21 rfl rfl)
theorem dJ6_vectorizedMismatch_115 : decode cJ6_vectorizedMismatch 115 = .ok (.ireturn, 1) := dk_172 (dk_at dksJ6_vectorizedMismatch_4 22 rfl rfl)
theorem dJ6_vectorizedMismatch_116 : decode cJ6_vectorizedMismatch 116 = .ok (.iinc 9 1, 3) := dk_132 9 1 (dk_at dksJ6_vectorizedMismatch_5 0 rfl rfl)
theorem dJ6_vectorizedMismatch_119 : decode cJ6_vectorizedMismatch 119 = .ok (.goto (-108), 3) := dk_167 255 148 (dk_at dksJ6_vectorizedMismatch_5 3 rfl rfl)
theorem dJ6_vectorizedMismatch_122 : decode cJ6_vectorizedMismatch 122 = .ok (.iload 6, 2) := dk_21 6 (dk_at dksJ6_vectorizedMismatch_5 6 rfl rfl)
theorem dJ6_vectorizedMismatch_124 : decode cJ6_vectorizedMismatch 124 = .ok (.iload 9, 2) := dk_21 9 (dk_at dksJ6_vectorizedMismatch_5 8 rfl rfl)
theorem dJ6_vectorizedMismatch_126 : decode cJ6_vectorizedMismatch 126 = .ok (.iload 8, 2) := dk_21 8 (dk_at dksJ6_vectorizedMismatch_5 10 rfl rfl)
theorem dJ6_vectorizedMismatch_128 : decode cJ6_vectorizedMismatch 128 = .ok (.ishl, 1) := dk_120 (dk_at dksJ6_vectorizedMismatch_5 12 rfl rfl)
theorem dJ6_vectorizedMismatch_129 : decode cJ6_vectorizedMismatch 129 = .ok (.isub, 1) := dk_100 (dk_at dksJ6_vectorizedMismatch_5 13 rfl rfl)
theorem dJ6_vectorizedMismatch_130 : decode cJ6_vectorizedMismatch 130 = .ok (.istore 10, 2) := dk_54 10 (dk_at dksJ6_vectorizedMismatch_5 14 rfl rfl)
theorem dJ6_vectorizedMismatch_132 : decode cJ6_vectorizedMismatch 132 = .ok (.iload 7, 2) := dk_21 7 (dk_at dksJ6_vectorizedMismatch_5 16 rfl rfl)
theorem dJ6_vectorizedMismatch_134 : decode cJ6_vectorizedMismatch 134 = .ok (.getstatic 51, 3) := dk_178 0 51 (dk_at dksJ6_vectorizedMismatch_5 18 rfl rfl)
theorem dJ6_vectorizedMismatch_137 : decode cJ6_vectorizedMismatch 137 = .ok (.if_icmp .ge 126, 3) := dk_162 0 126 (dk_at dksJ6_vectorizedMismatch_5 21 rfl rfl)
theorem dJ6_vectorizedMismatch_140 : decode cJ6_vectorizedMismatch 140 = .ok (.iconst 1, 1) := dk_4 (dk_at dksJ6_vectorizedMismatch_6 0 rfl rfl)
theorem dJ6_vectorizedMismatch_141 : decode cJ6_vectorizedMismatch 141 = .ok (.getstatic 51, 3) := dk_178 0 51 (dk_at dksJ6_vectorizedMismatch_6 1 rfl rfl)
theorem dJ6_vectorizedMismatch_144 : decode cJ6_vectorizedMismatch 144 = .ok (.iload 7, 2) := dk_21 7 (dk_at dksJ6_vectorizedMismatch_6 4 rfl rfl)
theorem dJ6_vectorizedMismatch_146 : decode cJ6_vectorizedMismatch 146 = .ok (.isub, 1) := dk_100 (dk_at dksJ6_vectorizedMismatch_6 6 rfl rfl)
theorem dJ6_vectorizedMismatch_147 : decode cJ6_vectorizedMismatch 147 = .ok (.ishl, 1) := dk_120 (dk_at dksJ6_vectorizedMismatch_6 7 rfl rfl)
theorem dJ6_vectorizedMismatch_148 : decode cJ6_vectorizedMismatch 148 = .ok (.istore 11, 2) := dk_54 11 (dk_at dksJ6_vectorizedMismatch_6 8 rfl rfl)
theorem dJ6_vectorizedMismatch_150 : decode cJ6_vectorizedMismatch 150 = .ok (.iload 10, 2) := dk_21 10 (dk_at dksJ6_vectorizedMismatch_6 10 rfl rfl)
theorem dJ6_vectorizedMismatch_152 : decode cJ6_vectorizedMismatch 152 = .ok (.iload 11, 2) := dk_21 11 (dk_at dksJ6_vectorizedMismatch_6 12 rfl rfl)
theorem dJ6_vectorizedMismatch_154 : decode cJ6_vectorizedMismatch 154 = .ok (.if_icmp .lt 104, 3) := dk_161 0 104 (dk_at dksJ6_vectorizedMismatch_6 14 rfl rfl)
theorem dJ6_vectorizedMismatch_157 : decode cJ6_vectorizedMismatch 157 = .ok (.iload 9, 2) := dk_21 9 (dk_at dksJ6_vectorizedMismatch_6 17 rfl rfl)
theorem dJ6_vectorizedMismatch_159 : decode cJ6_vectorizedMismatch 159 = .ok (.i2l, 1) := dk_133 (dk_at dksJ6_vectorizedMismatch_6 19 rfl rfl)
theorem dJ6_vectorizedMismatch_160 : decode cJ6_vectorizedMismatch 160 = .ok (.getstatic 20, 3) := dk_178 0 20 (dk_at dksJ6_vectorizedMismatch_6 20 rfl rfl)
theorem dJ6_vectorizedMismatch_163 : decode cJ6_vectorizedMismatch 163 = .ok (.lshl, 1) := dk_121 (dk_at dksJ6_vectorizedMismatch_6 23 rfl rfl)
theorem dJ6_vectorizedMismatch_164 : decode cJ6_vectorizedMismatch 164 = .ok (.lstore 12, 2) := dk_55 12 (dk_at dksJ6_vectorizedMismatch_7 0 rfl rfl)
theorem dJ6_vectorizedMismatch_166 : decode cJ6_vectorizedMismatch 166 = .ok (.getstatic 26, 3) := dk_178 0 26 (dk_at dksJ6_vectorizedMismatch_7 2 rfl rfl)
theorem dJ6_vectorizedMismatch_169 : decode cJ6_vectorizedMismatch 169 = .ok (.aload_n 0, 1) := dk_42 (dk_at dksJ6_vectorizedMismatch_7 5 rfl rfl)
theorem dJ6_vectorizedMismatch_170 : decode cJ6_vectorizedMismatch 170 = .ok (.lload_n 1, 1) := dk_31 (dk_at dksJ6_vectorizedMismatch_7 6 rfl rfl)
theorem dJ6_vectorizedMismatch_171 : decode cJ6_vectorizedMismatch 171 = .ok (.lload 12, 2) := dk_22 12 (dk_at dksJ6_vectorizedMismatch_7 7 rfl rfl)
theorem dJ6_vectorizedMismatch_173 : decode cJ6_vectorizedMismatch 173 = .ok (.ladd, 1) := dk_97 (dk_at dksJ6_vectorizedMismatch_7 9 rfl rfl)
theorem dJ6_vectorizedMismatch_174 : decode cJ6_vectorizedMismatch 174 = .ok (.invokevirtual 54, 3) := dk_182 0 54 (dk_at dksJ6_vectorizedMismatch_7 10 rfl rfl)
theorem dJ6_vectorizedMismatch_177 : decode cJ6_vectorizedMismatch 177 = .ok (.istore 14, 2) := dk_54 14 (dk_at dksJ6_vectorizedMismatch_7 13 rfl rfl)
theorem dJ6_vectorizedMismatch_179 : decode cJ6_vectorizedMismatch 179 = .ok (.getstatic 26, 3) := dk_178 0 26 (dk_at dksJ6_vectorizedMismatch_7 15 rfl rfl)
theorem dJ6_vectorizedMismatch_182 : decode cJ6_vectorizedMismatch 182 = .ok (.aload_n 3, 1) := dk_45 (dk_at dksJ6_vectorizedMismatch_7 18 rfl rfl)
theorem dJ6_vectorizedMismatch_183 : decode cJ6_vectorizedMismatch 183 = .ok (.lload 4, 2) := dk_22 4 (dk_at dksJ6_vectorizedMismatch_7 19 rfl rfl)
theorem dJ6_vectorizedMismatch_185 : decode cJ6_vectorizedMismatch 185 = .ok (.lload 12, 2) := dk_22 12 (dk_at dksJ6_vectorizedMismatch_7 21 rfl rfl)
theorem dJ6_vectorizedMismatch_187 : decode cJ6_vectorizedMismatch 187 = .ok (.ladd, 1) := dk_97 (dk_at dksJ6_vectorizedMismatch_7 23 rfl rfl)
theorem dJ6_vectorizedMismatch_188 : decode cJ6_vectorizedMismatch 188 = .ok (.invokevirtual 54, 3) := dk_182 0 54 (dk_at dksJ6_vectorizedMismatch_8 0 rfl rfl)
theorem dJ6_vectorizedMismatch_191 : decode cJ6_vectorizedMismatch 191 = .ok (.istore 15, 2) := dk_54 15 (dk_at dksJ6_vectorizedMismatch_8 3 rfl rfl)
theorem dJ6_vectorizedMismatch_193 : decode cJ6_vectorizedMismatch 193 = .ok (.iload 14, 2) := dk_21 14 (dk_at dksJ6_vectorizedMismatch_8 5 rfl rfl)
theorem dJ6_vectorizedMismatch_195 : decode cJ6_vectorizedMismatch 195 = .ok (.iload 15, 2) := dk_21 15 (dk_at dksJ6_vectorizedMismatch_8 7 rfl rfl)
theorem dJ6_vectorizedMismatch_197 : decode cJ6_vectorizedMismatch 197 = .ok (.if_icmp .eq 54, 3) := dk_159 0 54 (dk_at dksJ6_vectorizedMismatch_8 9 rfl rfl)
theorem dJ6_vectorizedMismatch_200 : decode cJ6_vectorizedMismatch 200 = .ok (.iload 14, 2) := dk_21 14 (dk_at dksJ6_vectorizedMismatch_8 12 rfl rfl)
theorem dJ6_vectorizedMismatch_202 : decode cJ6_vectorizedMismatch 202 = .ok (.iload 15, 2) := dk_21 15 (dk_at dksJ6_vectorizedMismatch_8 14 rfl rfl)
theorem dJ6_vectorizedMismatch_204 : decode cJ6_vectorizedMismatch 204 = .ok (.ixor, 1) := dk_130 (dk_at dksJ6_vectorizedMismatch_8 16 rfl rfl)
theorem dJ6_vectorizedMismatch_205 : decode cJ6_vectorizedMismatch 205 = .ok (.istore 16, 2) := dk_54 16 (dk_at dksJ6_vectorizedMismatch_8 17 rfl rfl)
theorem dJ6_vectorizedMismatch_207 : decode cJ6_vectorizedMismatch 207 = .ok (.getstatic 36, 3) := dk_178 0 36 (dk_at dksJ6_vectorizedMismatch_8 19 rfl rfl)
theorem dJ6_vectorizedMismatch_210 : decode cJ6_vectorizedMismatch 210 = .ok (.ifCond .eq 18, 3) := dk_153 0 18 (dk_at dksJ6_vectorizedMismatch_9 0 rfl rfl)
theorem dJ6_vectorizedMismatch_213 : decode cJ6_vectorizedMismatch 213 = .ok (.iload 16, 2) := dk_21 16 (dk_at dksJ6_vectorizedMismatch_9 3 rfl rfl)
theorem dJ6_vectorizedMismatch_215 : decode cJ6_vectorizedMismatch 215 = .ok (.invokestatic 58, 3) := dk_184 0 58 (dk_at dksJ6_vectorizedMismatch_9 5 rfl rfl)
theorem dJ6_vectorizedMismatch_218 : decode cJ6_vectorizedMismatch 218 = .ok (.getstatic 46, 3) := dk_178 0 46 (dk_at dksJ6_vectorizedMismatch_9 8 rfl rfl)
theorem dJ6_vectorizedMismatch_221 : decode cJ6_vectorizedMismatch 221 = .ok (.iload 7, 2) := dk_21 7 (dk_at dksJ6_vectorizedMismatch_9 11 rfl rfl)
theorem dJ6_vectorizedMismatch_223 : decode cJ6_vectorizedMismatch 223 = .ok (.iadd, 1) := dk_96 (dk_at dksJ6_vectorizedMismatch_9 13 rfl rfl)
theorem dJ6_vectorizedMismatch_224 : decode cJ6_vectorizedMismatch 224 = .ok (.ishr, 1) := dk_122 (dk_at dksJ6_vectorizedMismatch_9 14 rfl rfl)
theorem dJ6_vectorizedMismatch_225 : decode cJ6_vectorizedMismatch 225 = .ok (.goto 15, 3) := dk_167 0 15 (dk_at dksJ6_vectorizedMismatch_9 15 rfl rfl)
theorem dJ6_vectorizedMismatch_228 : decode cJ6_vectorizedMismatch 228 = .ok (.iload 16, 2) := dk_21 16 (dk_at dksJ6_vectorizedMismatch_9 18 rfl rfl)
theorem dJ6_vectorizedMismatch_230 : decode cJ6_vectorizedMismatch 230 = .ok (.invokestatic 11, 3) := dk_184 0 11 (dk_at dksJ6_vectorizedMismatch_9 20 rfl rfl)
theorem dJ6_vectorizedMismatch_233 : decode cJ6_vectorizedMismatch 233 = .ok (.getstatic 46, 3) := dk_178 0 46 (dk_at dksJ6_vectorizedMismatch_10 0 rfl rfl)
theorem dJ6_vectorizedMismatch_236 : decode cJ6_vectorizedMismatch 236 = .ok (.iload 7, 2) := dk_21 7 (dk_at dksJ6_vectorizedMismatch_10 3 rfl rfl)
theorem dJ6_vectorizedMismatch_238 : decode cJ6_vectorizedMismatch 238 = .ok (.iadd, 1) := dk_96 (dk_at dksJ6_vectorizedMismatch_10 5 rfl rfl)
theorem dJ6_vectorizedMismatch_239 : decode cJ6_vectorizedMismatch 239 = .ok (.ishr, 1) := dk_122 (dk_at dksJ6_vectorizedMismatch_10 6 rfl rfl)
theorem dJ6_vectorizedMismatch_240 : decode cJ6_vectorizedMismatch 240 = .ok (.istore 17, 2) := dk_54 17 (dk_at dksJ6_vectorizedMismatch_10 7 rfl rfl)
theorem dJ6_vectorizedMismatch_242 : decode cJ6_vectorizedMismatch 242 = .ok (.iload 9, 2) := dk_21 9 (dk_at dksJ6_vectorizedMismatch_10 9 rfl rfl)
theorem dJ6_vectorizedMismatch_244 : decode cJ6_vectorizedMismatch 244 = .ok (.iload 8, 2) := dk_21 8 (dk_at dksJ6_vectorizedMismatch_10 11 rfl rfl)
theorem dJ6_vectorizedMismatch_246 : decode cJ6_vectorizedMismatch 246 = .ok (.ishl, 1) := dk_120 (dk_at dksJ6_vectorizedMismatch_10 13 rfl rfl)
theorem dJ6_vectorizedMismatch_247 : decode cJ6_vectorizedMismatch 247 = .ok (.iload 17, 2) := dk_21 17 (dk_at dksJ6_vectorizedMismatch_10 14 rfl rfl)
theorem dJ6_vectorizedMismatch_249 : decode cJ6_vectorizedMismatch 249 = .ok (.iadd, 1) := dk_96 (dk_at dksJ6_vectorizedMismatch_10 16 rfl rfl)
theorem dJ6_vectorizedMismatch_250 : decode cJ6_vectorizedMismatch 250 = .ok (.ireturn, 1) := dk_172 (dk_at dksJ6_vectorizedMismatch_10 17 rfl rfl)
theorem dJ6_vectorizedMismatch_251 : decode cJ6_vectorizedMismatch 251 = .ok (.iload 10, 2) := dk_21 10 (dk_at dksJ6_vectorizedMismatch_10 18 rfl rfl)
theorem dJ6_vectorizedMismatch_253 : decode cJ6_vectorizedMismatch 253 = .ok (.iload 11, 2) := dk_21 11 (dk_at dksJ6_vectorizedMismatch_10 20 rfl rfl)
theorem dJ6_vectorizedMismatch_255 : decode cJ6_vectorizedMismatch 255 = .ok (.isub, 1) := dk_100 (dk_at dksJ6_vectorizedMismatch_10 22 rfl rfl)
theorem dJ6_vectorizedMismatch_256 : decode cJ6_vectorizedMismatch 256 = .ok (.istore 10, 2) := dk_54 10 (dk_at dksJ6_vectorizedMismatch_11 0 rfl rfl)
theorem dJ6_vectorizedMismatch_258 : decode cJ6_vectorizedMismatch 258 = .ok (.iload 10, 2) := dk_21 10 (dk_at dksJ6_vectorizedMismatch_11 2 rfl rfl)
theorem dJ6_vectorizedMismatch_260 : decode cJ6_vectorizedMismatch 260 = .ok (.iconst (-1), 1) := dk_2 (dk_at dksJ6_vectorizedMismatch_11 4 rfl rfl)
theorem dJ6_vectorizedMismatch_261 : decode cJ6_vectorizedMismatch 261 = .ok (.ixor, 1) := dk_130 (dk_at dksJ6_vectorizedMismatch_11 5 rfl rfl)
theorem dJ6_vectorizedMismatch_262 : decode cJ6_vectorizedMismatch 262 = .ok (.ireturn, 1) := dk_172 (dk_at dksJ6_vectorizedMismatch_11 6 rfl rfl)
theorem dJ6_vectorizedMismatch_263 : decode cJ6_vectorizedMismatch 263 = .ok (.iload 10, 2) := dk_21 10 (dk_at dksJ6_vectorizedMismatch_11 7 rfl rfl)
theorem dJ6_vectorizedMismatch_265 : decode cJ6_vectorizedMismatch 265 = .ok (.iconst (-1), 1) := dk_2 (dk_at dksJ6_vectorizedMismatch_11 9 rfl rfl)
theorem dJ6_vectorizedMismatch_266 : decode cJ6_vectorizedMismatch 266 = .ok (.ixor, 1) := dk_130 (dk_at dksJ6_vectorizedMismatch_11 10 rfl rfl)
theorem dJ6_vectorizedMismatch_267 : decode cJ6_vectorizedMismatch 267 = .ok (.ireturn, 1) := dk_172 (dk_at dksJ6_vectorizedMismatch_11 11 rfl rfl)
def dkwJ6_vectorizedHashCode_6 : List UInt8 := [183, 0, 91, 18, 92, 182, 0, 94, 21, 4, 182, 0, 98, 182, 0, 101, 183, 0, 105, 191, 172]
abbrev dktJ6_vectorizedHashCode_6 : List UInt8 := dkwJ6_vectorizedHashCode_6 ++ []
def dkwJ6_vectorizedHashCode_5 : List UInt8 := [167, 0, 44, 29, 42, 192, 0, 82, 27, 28, 184, 0, 84, 167, 0, 31, 187, 0, 87, 89, 187, 0, 89, 89]
abbrev dktJ6_vectorizedHashCode_5 : List UInt8 := dkwJ6_vectorizedHashCode_5 ++ dktJ6_vectorizedHashCode_6
def dkwJ6_vectorizedHashCode_4 : List UInt8 := [29, 42, 192, 0, 60, 27, 28, 184, 0, 75, 167, 0, 57, 29, 42, 192, 0, 77, 27, 28, 184, 0, 79]
abbrev dktJ6_vectorizedHashCode_4 : List UInt8 := dkwJ6_vectorizedHashCode_4 ++ dktJ6_vectorizedHashCode_5
def dkwJ6_vectorizedHashCode_3 : List UInt8 := [192, 0, 60, 27, 28, 184, 0, 66, 167, 0, 83, 29, 42, 192, 0, 69, 27, 28, 184, 0, 71, 167, 0, 70]
abbrev dktJ6_vectorizedHashCode_3 : List UInt8 := dkwJ6_vectorizedHashCode_3 ++ dktJ6_vectorizedHashCode_4
def dkwJ6_vectorizedHashCode_2 : List UInt8 := [29, 42, 192, 0, 60, 27, 28, 184, 0, 62, 167, 0, 103, 42, 193, 0, 60, 153, 0, 16, 29, 42]
abbrev dktJ6_vectorizedHashCode_2 : List UInt8 := dkwJ6_vectorizedHashCode_2 ++ dktJ6_vectorizedHashCode_3
def dkwJ6_vectorizedHashCode_1 : List UInt8 := [170, 0, 0, 0, 0, 127, 0, 0, 0, 4, 0, 0, 0, 10, 0, 0, 0, 42, 0, 0, 0, 55, 0, 0, 0, 127, 0, 0, 0, 127, 0, 0, 0, 88, 0, 0, 0, 101, 0, 0, 0, 114]
abbrev dktJ6_vectorizedHashCode_1 : List UInt8 := dkwJ6_vectorizedHashCode_1 ++ dktJ6_vectorizedHashCode_2
def dkwJ6_vectorizedHashCode_0 : List UInt8 := [21, 4]
abbrev dktJ6_vectorizedHashCode_0 : List UInt8 := dkwJ6_vectorizedHashCode_0 ++ dktJ6_vectorizedHashCode_1
theorem dksJ6_vectorizedHashCode_0 : cJ6_vectorizedHashCode.data.toList.drop 0 = dktJ6_vectorizedHashCode_0 := by decide +kernel
theorem dksJ6_vectorizedHashCode_1 : cJ6_vectorizedHashCode.data.toList.drop 2 = dktJ6_vectorizedHashCode_1 := dk_seg dksJ6_vectorizedHashCode_0 2 rfl rfl
theorem dksJ6_vectorizedHashCode_2 : cJ6_vectorizedHashCode.data.toList.drop 44 = dktJ6_vectorizedHashCode_2 := dk_seg dksJ6_vectorizedHashCode_1 42 rfl rfl
theorem dksJ6_vectorizedHashCode_3 : cJ6_vectorizedHashCode.data.toList.drop 66 = dktJ6_vectorizedHashCode_3 := dk_seg dksJ6_vectorizedHashCode_2 22 rfl rfl
theorem dksJ6_vectorizedHashCode_4 : cJ6_vectorizedHashCode.data.toList.drop 90 = dktJ6_vectorizedHashCode_4 := dk_seg dksJ6_vectorizedHashCode_3 24 rfl rfl
theorem dksJ6_vectorizedHashCode_5 : cJ6_vectorizedHashCode.data.toList.drop 113 = dktJ6_vectorizedHashCode_5 := dk_seg dksJ6_vectorizedHashCode_4 23 rfl rfl
theorem dksJ6_vectorizedHashCode_6 : cJ6_vectorizedHashCode.data.toList.drop 137 = dktJ6_vectorizedHashCode_6 := dk_seg dksJ6_vectorizedHashCode_5 24 rfl rfl
theorem dJ6_vectorizedHashCode_0 : decode cJ6_vectorizedHashCode 0 = .ok (.iload 4, 2) := dk_21 4 (dk_at dksJ6_vectorizedHashCode_0 0 rfl rfl)
theorem dJ6_vectorizedHashCode_2 : decode cJ6_vectorizedHashCode 2 = .ok (.tableswitch 127 4 10 #[42, 55, 127, 127, 88, 101, 114], 42) := by decide +kernel
theorem dJ6_vectorizedHashCode_44 : decode cJ6_vectorizedHashCode 44 = .ok (.iload_n 3, 1) := dk_29 (dk_at dksJ6_vectorizedHashCode_2 0 rfl rfl)
theorem dJ6_vectorizedHashCode_45 : decode cJ6_vectorizedHashCode 45 = .ok (.aload_n 0, 1) := dk_42 (dk_at dksJ6_vectorizedHashCode_2 1 rfl rfl)
theorem dJ6_vectorizedHashCode_46 : decode cJ6_vectorizedHashCode 46 = .ok (.checkcast 60, 3) := dk_192 0 60 (dk_at dksJ6_vectorizedHashCode_2 2 rfl rfl)
theorem dJ6_vectorizedHashCode_49 : decode cJ6_vectorizedHashCode 49 = .ok (.iload_n 1, 1) := dk_27 (dk_at dksJ6_vectorizedHashCode_2 5 rfl rfl)
theorem dJ6_vectorizedHashCode_50 : decode cJ6_vectorizedHashCode 50 = .ok (.iload_n 2, 1) := dk_28 (dk_at dksJ6_vectorizedHashCode_2 6 rfl rfl)
theorem dJ6_vectorizedHashCode_51 : decode cJ6_vectorizedHashCode 51 = .ok (.invokestatic 62, 3) := dk_184 0 62 (dk_at dksJ6_vectorizedHashCode_2 7 rfl rfl)
theorem dJ6_vectorizedHashCode_54 : decode cJ6_vectorizedHashCode 54 = .ok (.goto 103, 3) := dk_167 0 103 (dk_at dksJ6_vectorizedHashCode_2 10 rfl rfl)
theorem dJ6_vectorizedHashCode_57 : decode cJ6_vectorizedHashCode 57 = .ok (.aload_n 0, 1) := dk_42 (dk_at dksJ6_vectorizedHashCode_2 13 rfl rfl)
theorem dJ6_vectorizedHashCode_58 : decode cJ6_vectorizedHashCode 58 = .ok (.instanceof 60, 3) := dk_193 0 60 (dk_at dksJ6_vectorizedHashCode_2 14 rfl rfl)
theorem dJ6_vectorizedHashCode_61 : decode cJ6_vectorizedHashCode 61 = .ok (.ifCond .eq 16, 3) := dk_153 0 16 (dk_at dksJ6_vectorizedHashCode_2 17 rfl rfl)
theorem dJ6_vectorizedHashCode_64 : decode cJ6_vectorizedHashCode 64 = .ok (.iload_n 3, 1) := dk_29 (dk_at dksJ6_vectorizedHashCode_2 20 rfl rfl)
theorem dJ6_vectorizedHashCode_65 : decode cJ6_vectorizedHashCode 65 = .ok (.aload_n 0, 1) := dk_42 (dk_at dksJ6_vectorizedHashCode_2 21 rfl rfl)
theorem dJ6_vectorizedHashCode_66 : decode cJ6_vectorizedHashCode 66 = .ok (.checkcast 60, 3) := dk_192 0 60 (dk_at dksJ6_vectorizedHashCode_3 0 rfl rfl)
theorem dJ6_vectorizedHashCode_69 : decode cJ6_vectorizedHashCode 69 = .ok (.iload_n 1, 1) := dk_27 (dk_at dksJ6_vectorizedHashCode_3 3 rfl rfl)
theorem dJ6_vectorizedHashCode_70 : decode cJ6_vectorizedHashCode 70 = .ok (.iload_n 2, 1) := dk_28 (dk_at dksJ6_vectorizedHashCode_3 4 rfl rfl)
theorem dJ6_vectorizedHashCode_71 : decode cJ6_vectorizedHashCode 71 = .ok (.invokestatic 66, 3) := dk_184 0 66 (dk_at dksJ6_vectorizedHashCode_3 5 rfl rfl)
theorem dJ6_vectorizedHashCode_74 : decode cJ6_vectorizedHashCode 74 = .ok (.goto 83, 3) := dk_167 0 83 (dk_at dksJ6_vectorizedHashCode_3 8 rfl rfl)
theorem dJ6_vectorizedHashCode_77 : decode cJ6_vectorizedHashCode 77 = .ok (.iload_n 3, 1) := dk_29 (dk_at dksJ6_vectorizedHashCode_3 11 rfl rfl)
theorem dJ6_vectorizedHashCode_78 : decode cJ6_vectorizedHashCode 78 = .ok (.aload_n 0, 1) := dk_42 (dk_at dksJ6_vectorizedHashCode_3 12 rfl rfl)
theorem dJ6_vectorizedHashCode_79 : decode cJ6_vectorizedHashCode 79 = .ok (.checkcast 69, 3) := dk_192 0 69 (dk_at dksJ6_vectorizedHashCode_3 13 rfl rfl)
theorem dJ6_vectorizedHashCode_82 : decode cJ6_vectorizedHashCode 82 = .ok (.iload_n 1, 1) := dk_27 (dk_at dksJ6_vectorizedHashCode_3 16 rfl rfl)
theorem dJ6_vectorizedHashCode_83 : decode cJ6_vectorizedHashCode 83 = .ok (.iload_n 2, 1) := dk_28 (dk_at dksJ6_vectorizedHashCode_3 17 rfl rfl)
theorem dJ6_vectorizedHashCode_84 : decode cJ6_vectorizedHashCode 84 = .ok (.invokestatic 71, 3) := dk_184 0 71 (dk_at dksJ6_vectorizedHashCode_3 18 rfl rfl)
theorem dJ6_vectorizedHashCode_87 : decode cJ6_vectorizedHashCode 87 = .ok (.goto 70, 3) := dk_167 0 70 (dk_at dksJ6_vectorizedHashCode_3 21 rfl rfl)
theorem dJ6_vectorizedHashCode_90 : decode cJ6_vectorizedHashCode 90 = .ok (.iload_n 3, 1) := dk_29 (dk_at dksJ6_vectorizedHashCode_4 0 rfl rfl)
theorem dJ6_vectorizedHashCode_91 : decode cJ6_vectorizedHashCode 91 = .ok (.aload_n 0, 1) := dk_42 (dk_at dksJ6_vectorizedHashCode_4 1 rfl rfl)
theorem dJ6_vectorizedHashCode_92 : decode cJ6_vectorizedHashCode 92 = .ok (.checkcast 60, 3) := dk_192 0 60 (dk_at dksJ6_vectorizedHashCode_4 2 rfl rfl)
theorem dJ6_vectorizedHashCode_95 : decode cJ6_vectorizedHashCode 95 = .ok (.iload_n 1, 1) := dk_27 (dk_at dksJ6_vectorizedHashCode_4 5 rfl rfl)
theorem dJ6_vectorizedHashCode_96 : decode cJ6_vectorizedHashCode 96 = .ok (.iload_n 2, 1) := dk_28 (dk_at dksJ6_vectorizedHashCode_4 6 rfl rfl)
theorem dJ6_vectorizedHashCode_97 : decode cJ6_vectorizedHashCode 97 = .ok (.invokestatic 75, 3) := dk_184 0 75 (dk_at dksJ6_vectorizedHashCode_4 7 rfl rfl)
theorem dJ6_vectorizedHashCode_100 : decode cJ6_vectorizedHashCode 100 = .ok (.goto 57, 3) := dk_167 0 57 (dk_at dksJ6_vectorizedHashCode_4 10 rfl rfl)
theorem dJ6_vectorizedHashCode_103 : decode cJ6_vectorizedHashCode 103 = .ok (.iload_n 3, 1) := dk_29 (dk_at dksJ6_vectorizedHashCode_4 13 rfl rfl)
theorem dJ6_vectorizedHashCode_104 : decode cJ6_vectorizedHashCode 104 = .ok (.aload_n 0, 1) := dk_42 (dk_at dksJ6_vectorizedHashCode_4 14 rfl rfl)
theorem dJ6_vectorizedHashCode_105 : decode cJ6_vectorizedHashCode 105 = .ok (.checkcast 77, 3) := dk_192 0 77 (dk_at dksJ6_vectorizedHashCode_4 15 rfl rfl)
theorem dJ6_vectorizedHashCode_108 : decode cJ6_vectorizedHashCode 108 = .ok (.iload_n 1, 1) := dk_27 (dk_at dksJ6_vectorizedHashCode_4 18 rfl rfl)
theorem dJ6_vectorizedHashCode_109 : decode cJ6_vectorizedHashCode 109 = .ok (.iload_n 2, 1) := dk_28 (dk_at dksJ6_vectorizedHashCode_4 19 rfl rfl)
theorem dJ6_vectorizedHashCode_110 : decode cJ6_vectorizedHashCode 110 = .ok (.invokestatic 79, 3) := dk_184 0 79 (dk_at dksJ6_vectorizedHashCode_4 20 rfl rfl)
theorem dJ6_vectorizedHashCode_113 : decode cJ6_vectorizedHashCode 113 = .ok (.goto 44, 3) := dk_167 0 44 (dk_at dksJ6_vectorizedHashCode_5 0 rfl rfl)
theorem dJ6_vectorizedHashCode_116 : decode cJ6_vectorizedHashCode 116 = .ok (.iload_n 3, 1) := dk_29 (dk_at dksJ6_vectorizedHashCode_5 3 rfl rfl)
theorem dJ6_vectorizedHashCode_117 : decode cJ6_vectorizedHashCode 117 = .ok (.aload_n 0, 1) := dk_42 (dk_at dksJ6_vectorizedHashCode_5 4 rfl rfl)
theorem dJ6_vectorizedHashCode_118 : decode cJ6_vectorizedHashCode 118 = .ok (.checkcast 82, 3) := dk_192 0 82 (dk_at dksJ6_vectorizedHashCode_5 5 rfl rfl)
theorem dJ6_vectorizedHashCode_121 : decode cJ6_vectorizedHashCode 121 = .ok (.iload_n 1, 1) := dk_27 (dk_at dksJ6_vectorizedHashCode_5 8 rfl rfl)
theorem dJ6_vectorizedHashCode_122 : decode cJ6_vectorizedHashCode 122 = .ok (.iload_n 2, 1) := dk_28 (dk_at dksJ6_vectorizedHashCode_5 9 rfl rfl)
theorem dJ6_vectorizedHashCode_123 : decode cJ6_vectorizedHashCode 123 = .ok (.invokestatic 84, 3) := dk_184 0 84 (dk_at dksJ6_vectorizedHashCode_5 10 rfl rfl)
theorem dJ6_vectorizedHashCode_126 : decode cJ6_vectorizedHashCode 126 = .ok (.goto 31, 3) := dk_167 0 31 (dk_at dksJ6_vectorizedHashCode_5 13 rfl rfl)
theorem dJ6_vectorizedHashCode_129 : decode cJ6_vectorizedHashCode 129 = .ok (.new 87, 3) := dk_187 0 87 (dk_at dksJ6_vectorizedHashCode_5 16 rfl rfl)
theorem dJ6_vectorizedHashCode_132 : decode cJ6_vectorizedHashCode 132 = .ok (.dup, 1) := dk_89 (dk_at dksJ6_vectorizedHashCode_5 19 rfl rfl)
theorem dJ6_vectorizedHashCode_133 : decode cJ6_vectorizedHashCode 133 = .ok (.new 89, 3) := dk_187 0 89 (dk_at dksJ6_vectorizedHashCode_5 20 rfl rfl)
theorem dJ6_vectorizedHashCode_136 : decode cJ6_vectorizedHashCode 136 = .ok (.dup, 1) := dk_89 (dk_at dksJ6_vectorizedHashCode_5 23 rfl rfl)
theorem dJ6_vectorizedHashCode_137 : decode cJ6_vectorizedHashCode 137 = .ok (.invokespecial 91, 3) := dk_183 0 91 (dk_at dksJ6_vectorizedHashCode_6 0 rfl rfl)
theorem dJ6_vectorizedHashCode_140 : decode cJ6_vectorizedHashCode 140 = .ok (.ldc 92, 2) := dk_18 92 (dk_at dksJ6_vectorizedHashCode_6 3 rfl rfl)
theorem dJ6_vectorizedHashCode_142 : decode cJ6_vectorizedHashCode 142 = .ok (.invokevirtual 94, 3) := dk_182 0 94 (dk_at dksJ6_vectorizedHashCode_6 5 rfl rfl)
theorem dJ6_vectorizedHashCode_145 : decode cJ6_vectorizedHashCode 145 = .ok (.iload 4, 2) := dk_21 4 (dk_at dksJ6_vectorizedHashCode_6 8 rfl rfl)
theorem dJ6_vectorizedHashCode_147 : decode cJ6_vectorizedHashCode 147 = .ok (.invokevirtual 98, 3) := dk_182 0 98 (dk_at dksJ6_vectorizedHashCode_6 10 rfl rfl)
theorem dJ6_vectorizedHashCode_150 : decode cJ6_vectorizedHashCode 150 = .ok (.invokevirtual 101, 3) := dk_182 0 101 (dk_at dksJ6_vectorizedHashCode_6 13 rfl rfl)
theorem dJ6_vectorizedHashCode_153 : decode cJ6_vectorizedHashCode 153 = .ok (.invokespecial 105, 3) := dk_183 0 105 (dk_at dksJ6_vectorizedHashCode_6 16 rfl rfl)
theorem dJ6_vectorizedHashCode_156 : decode cJ6_vectorizedHashCode 156 = .ok (.athrow, 1) := dk_191 (dk_at dksJ6_vectorizedHashCode_6 19 rfl rfl)
theorem dJ6_vectorizedHashCode_157 : decode cJ6_vectorizedHashCode 157 = .ok (.ireturn, 1) := dk_172 (dk_at dksJ6_vectorizedHashCode_6 20 rfl rfl)
def dkwJ6_signedHashCode_1 : List UInt8 := [17, 0, 255, 126, 96, 59, 132, 5, 1, 167, 255, 232, 26, 172]
abbrev dktJ6_signedHashCode_1 : List UInt8 := dkwJ6_signedHashCode_1 ++ []
def dkwJ6_signedHashCode_0 : List UInt8 := [28, 29, 96, 54, 4, 28, 54, 5, 21, 5, 21, 4, 162, 0, 23, 16, 31, 26, 104, 43, 21, 5, 51]
abbrev dktJ6_signedHashCode_0 : List UInt8 := dkwJ6_signedHashCode_0 ++ dktJ6_signedHashCode_1
theorem dksJ6_signedHashCode_0 : cJ6_signedHashCode.data.toList.drop 0 = dktJ6_signedHashCode_0 := by decide +kernel
theorem dksJ6_signedHashCode_1 : cJ6_signedHashCode.data.toList.drop 23 = dktJ6_signedHashCode_1 := dk_seg dksJ6_signedHashCode_0 23 rfl rfl
theorem dJ6_signedHashCode_0 : decode cJ6_signedHashCode 0 = .ok (.iload_n 2, 1) := dk_28 (dk_at dksJ6_signedHashCode_0 0 rfl rfl)
theorem dJ6_signedHashCode_1 : decode cJ6_signedHashCode 1 = .ok (.iload_n 3, 1) := dk_29 (dk_at dksJ6_signedHashCode_0 1 rfl rfl)
theorem dJ6_signedHashCode_2 : decode cJ6_signedHashCode 2 = .ok (.iadd, 1) := dk_96 (dk_at dksJ6_signedHashCode_0 2 rfl rfl)
theorem dJ6_signedHashCode_3 : decode cJ6_signedHashCode 3 = .ok (.istore 4, 2) := dk_54 4 (dk_at dksJ6_signedHashCode_0 3 rfl rfl)
theorem dJ6_signedHashCode_5 : decode cJ6_signedHashCode 5 = .ok (.iload_n 2, 1) := dk_28 (dk_at dksJ6_signedHashCode_0 5 rfl rfl)
theorem dJ6_signedHashCode_6 : decode cJ6_signedHashCode 6 = .ok (.istore 5, 2) := dk_54 5 (dk_at dksJ6_signedHashCode_0 6 rfl rfl)
theorem dJ6_signedHashCode_8 : decode cJ6_signedHashCode 8 = .ok (.iload 5, 2) := dk_21 5 (dk_at dksJ6_signedHashCode_0 8 rfl rfl)
theorem dJ6_signedHashCode_10 : decode cJ6_signedHashCode 10 = .ok (.iload 4, 2) := dk_21 4 (dk_at dksJ6_signedHashCode_0 10 rfl rfl)
theorem dJ6_signedHashCode_12 : decode cJ6_signedHashCode 12 = .ok (.if_icmp .ge 23, 3) := dk_162 0 23 (dk_at dksJ6_signedHashCode_0 12 rfl rfl)
theorem dJ6_signedHashCode_15 : decode cJ6_signedHashCode 15 = .ok (.bipush 31, 2) := dk_16 31 (dk_at dksJ6_signedHashCode_0 15 rfl rfl)
theorem dJ6_signedHashCode_17 : decode cJ6_signedHashCode 17 = .ok (.iload_n 0, 1) := dk_26 (dk_at dksJ6_signedHashCode_0 17 rfl rfl)
theorem dJ6_signedHashCode_18 : decode cJ6_signedHashCode 18 = .ok (.imul, 1) := dk_104 (dk_at dksJ6_signedHashCode_0 18 rfl rfl)
theorem dJ6_signedHashCode_19 : decode cJ6_signedHashCode 19 = .ok (.aload_n 1, 1) := dk_43 (dk_at dksJ6_signedHashCode_0 19 rfl rfl)
theorem dJ6_signedHashCode_20 : decode cJ6_signedHashCode 20 = .ok (.iload 5, 2) := dk_21 5 (dk_at dksJ6_signedHashCode_0 20 rfl rfl)
theorem dJ6_signedHashCode_22 : decode cJ6_signedHashCode 22 = .ok (.baload, 1) := dk_51 (dk_at dksJ6_signedHashCode_0 22 rfl rfl)
theorem dJ6_signedHashCode_23 : decode cJ6_signedHashCode 23 = .ok (.sipush 255, 3) := dk_17 0 255 (dk_at dksJ6_signedHashCode_1 0 rfl rfl)
theorem dJ6_signedHashCode_26 : decode cJ6_signedHashCode 26 = .ok (.iand, 1) := dk_126 (dk_at dksJ6_signedHashCode_1 3 rfl rfl)
theorem dJ6_signedHashCode_27 : decode cJ6_signedHashCode 27 = .ok (.iadd, 1) := dk_96 (dk_at dksJ6_signedHashCode_1 4 rfl rfl)
theorem dJ6_signedHashCode_28 : decode cJ6_signedHashCode 28 = .ok (.istore_n 0, 1) := dk_59 (dk_at dksJ6_signedHashCode_1 5 rfl rfl)
theorem dJ6_signedHashCode_29 : decode cJ6_signedHashCode 29 = .ok (.iinc 5 1, 3) := dk_132 5 1 (dk_at dksJ6_signedHashCode_1 6 rfl rfl)
theorem dJ6_signedHashCode_32 : decode cJ6_signedHashCode 32 = .ok (.goto (-24), 3) := dk_167 255 232 (dk_at dksJ6_signedHashCode_1 9 rfl rfl)
theorem dJ6_signedHashCode_35 : decode cJ6_signedHashCode 35 = .ok (.iload_n 0, 1) := dk_26 (dk_at dksJ6_signedHashCode_1 12 rfl rfl)
theorem dJ6_signedHashCode_36 : decode cJ6_signedHashCode 36 = .ok (.ireturn, 1) := dk_172 (dk_at dksJ6_signedHashCode_1 13 rfl rfl)
def dkwJ6_utf16hashCode_1 : List UInt8 := [21, 5, 185, 0, 110, 3, 0, 96, 59, 132, 5, 1, 167, 255, 229, 26, 172]
abbrev dktJ6_utf16hashCode_1 : List UInt8 := dkwJ6_utf16hashCode_1 ++ []
def dkwJ6_utf16hashCode_0 : List UInt8 := [28, 29, 96, 54, 4, 28, 54, 5, 21, 5, 21, 4, 162, 0, 26, 16, 31, 26, 104, 178, 0, 106, 43]
abbrev dktJ6_utf16hashCode_0 : List UInt8 := dkwJ6_utf16hashCode_0 ++ dktJ6_utf16hashCode_1
theorem dksJ6_utf16hashCode_0 : cJ6_utf16hashCode.data.toList.drop 0 = dktJ6_utf16hashCode_0 := by decide +kernel
theorem dksJ6_utf16hashCode_1 : cJ6_utf16hashCode.data.toList.drop 23 = dktJ6_utf16hashCode_1 := dk_seg dksJ6_utf16hashCode_0 23 rfl rfl
theorem dJ6_utf16hashCode_0 : decode cJ6_utf16hashCode 0 = .ok (.iload_n 2, 1) := dk_28 (dk_at dksJ6_utf16hashCode_0 0 rfl rfl)
theorem dJ6_utf16hashCode_1 : decode cJ6_utf16hashCode 1 = .ok (.iload_n 3, 1) := dk_29 (dk_at dksJ6_utf16hashCode_0 1 rfl rfl)
theorem dJ6_utf16hashCode_2 : decode cJ6_utf16hashCode 2 = .ok (.iadd, 1) := dk_96 (dk_at dksJ6_utf16hashCode_0 2 rfl rfl)
theorem dJ6_utf16hashCode_3 : decode cJ6_utf16hashCode 3 = .ok (.istore 4, 2) := dk_54 4 (dk_at dksJ6_utf16hashCode_0 3 rfl rfl)
theorem dJ6_utf16hashCode_5 : decode cJ6_utf16hashCode 5 = .ok (.iload_n 2, 1) := dk_28 (dk_at dksJ6_utf16hashCode_0 5 rfl rfl)
theorem dJ6_utf16hashCode_6 : decode cJ6_utf16hashCode 6 = .ok (.istore 5, 2) := dk_54 5 (dk_at dksJ6_utf16hashCode_0 6 rfl rfl)
theorem dJ6_utf16hashCode_8 : decode cJ6_utf16hashCode 8 = .ok (.iload 5, 2) := dk_21 5 (dk_at dksJ6_utf16hashCode_0 8 rfl rfl)
theorem dJ6_utf16hashCode_10 : decode cJ6_utf16hashCode 10 = .ok (.iload 4, 2) := dk_21 4 (dk_at dksJ6_utf16hashCode_0 10 rfl rfl)
theorem dJ6_utf16hashCode_12 : decode cJ6_utf16hashCode 12 = .ok (.if_icmp .ge 26, 3) := dk_162 0 26 (dk_at dksJ6_utf16hashCode_0 12 rfl rfl)
theorem dJ6_utf16hashCode_15 : decode cJ6_utf16hashCode 15 = .ok (.bipush 31, 2) := dk_16 31 (dk_at dksJ6_utf16hashCode_0 15 rfl rfl)
theorem dJ6_utf16hashCode_17 : decode cJ6_utf16hashCode 17 = .ok (.iload_n 0, 1) := dk_26 (dk_at dksJ6_utf16hashCode_0 17 rfl rfl)
theorem dJ6_utf16hashCode_18 : decode cJ6_utf16hashCode 18 = .ok (.imul, 1) := dk_104 (dk_at dksJ6_utf16hashCode_0 18 rfl rfl)
theorem dJ6_utf16hashCode_19 : decode cJ6_utf16hashCode 19 = .ok (.getstatic 106, 3) := dk_178 0 106 (dk_at dksJ6_utf16hashCode_0 19 rfl rfl)
theorem dJ6_utf16hashCode_22 : decode cJ6_utf16hashCode 22 = .ok (.aload_n 1, 1) := dk_43 (dk_at dksJ6_utf16hashCode_0 22 rfl rfl)
theorem dJ6_utf16hashCode_23 : decode cJ6_utf16hashCode 23 = .ok (.iload 5, 2) := dk_21 5 (dk_at dksJ6_utf16hashCode_1 0 rfl rfl)
theorem dJ6_utf16hashCode_25 : decode cJ6_utf16hashCode 25 = .ok (.invokeinterface 110 3, 5) := by decide +kernel
theorem dJ6_utf16hashCode_30 : decode cJ6_utf16hashCode 30 = .ok (.iadd, 1) := dk_96 (dk_at dksJ6_utf16hashCode_1 7 rfl rfl)
theorem dJ6_utf16hashCode_31 : decode cJ6_utf16hashCode 31 = .ok (.istore_n 0, 1) := dk_59 (dk_at dksJ6_utf16hashCode_1 8 rfl rfl)
theorem dJ6_utf16hashCode_32 : decode cJ6_utf16hashCode 32 = .ok (.iinc 5 1, 3) := dk_132 5 1 (dk_at dksJ6_utf16hashCode_1 9 rfl rfl)
theorem dJ6_utf16hashCode_35 : decode cJ6_utf16hashCode 35 = .ok (.goto (-27), 3) := dk_167 255 229 (dk_at dksJ6_utf16hashCode_1 12 rfl rfl)
theorem dJ6_utf16hashCode_38 : decode cJ6_utf16hashCode 38 = .ok (.iload_n 0, 1) := dk_26 (dk_at dksJ6_utf16hashCode_1 15 rfl rfl)
theorem dJ6_utf16hashCode_39 : decode cJ6_utf16hashCode 39 = .ok (.ireturn, 1) := dk_172 (dk_at dksJ6_utf16hashCode_1 16 rfl rfl)
def dkwJ6_hashCode_1 : List UInt8 := [59, 132, 5, 1, 167, 255, 236, 26, 172]
abbrev dktJ6_hashCode_1 : List UInt8 := dkwJ6_hashCode_1 ++ []
def dkwJ6_hashCode_0 : List UInt8 := [28, 29, 96, 54, 4, 28, 54, 5, 21, 5, 21, 4, 162, 0, 19, 16, 31, 26, 104, 43, 21, 5, 52, 96]
abbrev dktJ6_hashCode_0 : List UInt8 := dkwJ6_hashCode_0 ++ dktJ6_hashCode_1
theorem dksJ6_hashCode_0 : cJ6_hashCode.data.toList.drop 0 = dktJ6_hashCode_0 := by decide +kernel
theorem dksJ6_hashCode_1 : cJ6_hashCode.data.toList.drop 24 = dktJ6_hashCode_1 := dk_seg dksJ6_hashCode_0 24 rfl rfl
theorem dJ6_hashCode_0 : decode cJ6_hashCode 0 = .ok (.iload_n 2, 1) := dk_28 (dk_at dksJ6_hashCode_0 0 rfl rfl)
theorem dJ6_hashCode_1 : decode cJ6_hashCode 1 = .ok (.iload_n 3, 1) := dk_29 (dk_at dksJ6_hashCode_0 1 rfl rfl)
theorem dJ6_hashCode_2 : decode cJ6_hashCode 2 = .ok (.iadd, 1) := dk_96 (dk_at dksJ6_hashCode_0 2 rfl rfl)
theorem dJ6_hashCode_3 : decode cJ6_hashCode 3 = .ok (.istore 4, 2) := dk_54 4 (dk_at dksJ6_hashCode_0 3 rfl rfl)
theorem dJ6_hashCode_5 : decode cJ6_hashCode 5 = .ok (.iload_n 2, 1) := dk_28 (dk_at dksJ6_hashCode_0 5 rfl rfl)
theorem dJ6_hashCode_6 : decode cJ6_hashCode 6 = .ok (.istore 5, 2) := dk_54 5 (dk_at dksJ6_hashCode_0 6 rfl rfl)
theorem dJ6_hashCode_8 : decode cJ6_hashCode 8 = .ok (.iload 5, 2) := dk_21 5 (dk_at dksJ6_hashCode_0 8 rfl rfl)
theorem dJ6_hashCode_10 : decode cJ6_hashCode 10 = .ok (.iload 4, 2) := dk_21 4 (dk_at dksJ6_hashCode_0 10 rfl rfl)
theorem dJ6_hashCode_12 : decode cJ6_hashCode 12 = .ok (.if_icmp .ge 19, 3) := dk_162 0 19 (dk_at dksJ6_hashCode_0 12 rfl rfl)
theorem dJ6_hashCode_15 : decode cJ6_hashCode 15 = .ok (.bipush 31, 2) := dk_16 31 (dk_at dksJ6_hashCode_0 15 rfl rfl)
theorem dJ6_hashCode_17 : decode cJ6_hashCode 17 = .ok (.iload_n 0, 1) := dk_26 (dk_at dksJ6_hashCode_0 17 rfl rfl)
theorem dJ6_hashCode_18 : decode cJ6_hashCode 18 = .ok (.imul, 1) := dk_104 (dk_at dksJ6_hashCode_0 18 rfl rfl)
theorem dJ6_hashCode_19 : decode cJ6_hashCode 19 = .ok (.aload_n 1, 1) := dk_43 (dk_at dksJ6_hashCode_0 19 rfl rfl)
theorem dJ6_hashCode_20 : decode cJ6_hashCode 20 = .ok (.iload 5, 2) := dk_21 5 (dk_at dksJ6_hashCode_0 20 rfl rfl)
theorem dJ6_hashCode_22 : decode cJ6_hashCode 22 = .ok (.caload, 1) := dk_52 (dk_at dksJ6_hashCode_0 22 rfl rfl)
theorem dJ6_hashCode_23 : decode cJ6_hashCode 23 = .ok (.iadd, 1) := dk_96 (dk_at dksJ6_hashCode_0 23 rfl rfl)
theorem dJ6_hashCode_24 : decode cJ6_hashCode 24 = .ok (.istore_n 0, 1) := dk_59 (dk_at dksJ6_hashCode_1 0 rfl rfl)
theorem dJ6_hashCode_25 : decode cJ6_hashCode 25 = .ok (.iinc 5 1, 3) := dk_132 5 1 (dk_at dksJ6_hashCode_1 1 rfl rfl)
theorem dJ6_hashCode_28 : decode cJ6_hashCode 28 = .ok (.goto (-20), 3) := dk_167 255 236 (dk_at dksJ6_hashCode_1 4 rfl rfl)
theorem dJ6_hashCode_31 : decode cJ6_hashCode 31 = .ok (.iload_n 0, 1) := dk_26 (dk_at dksJ6_hashCode_1 7 rfl rfl)
theorem dJ6_hashCode_32 : decode cJ6_hashCode 32 = .ok (.ireturn, 1) := dk_172 (dk_at dksJ6_hashCode_1 8 rfl rfl)
def dkwJ6_hashCode_2_1 : List UInt8 := [59, 132, 5, 1, 167, 255, 236, 26, 172]
abbrev dktJ6_hashCode_2_1 : List UInt8 := dkwJ6_hashCode_2_1 ++ []
def dkwJ6_hashCode_2_0 : List UInt8 := [28, 29, 96, 54, 4, 28, 54, 5, 21, 5, 21, 4, 162, 0, 19, 16, 31, 26, 104, 43, 21, 5, 51, 96]
abbrev dktJ6_hashCode_2_0 : List UInt8 := dkwJ6_hashCode_2_0 ++ dktJ6_hashCode_2_1
theorem dksJ6_hashCode_2_0 : cJ6_hashCode_2.data.toList.drop 0 = dktJ6_hashCode_2_0 := by decide +kernel
theorem dksJ6_hashCode_2_1 : cJ6_hashCode_2.data.toList.drop 24 = dktJ6_hashCode_2_1 := dk_seg dksJ6_hashCode_2_0 24 rfl rfl
theorem dJ6_hashCode_2_0 : decode cJ6_hashCode_2 0 = .ok (.iload_n 2, 1) := dk_28 (dk_at dksJ6_hashCode_2_0 0 rfl rfl)
theorem dJ6_hashCode_2_1 : decode cJ6_hashCode_2 1 = .ok (.iload_n 3, 1) := dk_29 (dk_at dksJ6_hashCode_2_0 1 rfl rfl)
theorem dJ6_hashCode_2_2 : decode cJ6_hashCode_2 2 = .ok (.iadd, 1) := dk_96 (dk_at dksJ6_hashCode_2_0 2 rfl rfl)
theorem dJ6_hashCode_2_3 : decode cJ6_hashCode_2 3 = .ok (.istore 4, 2) := dk_54 4 (dk_at dksJ6_hashCode_2_0 3 rfl rfl)
theorem dJ6_hashCode_2_5 : decode cJ6_hashCode_2 5 = .ok (.iload_n 2, 1) := dk_28 (dk_at dksJ6_hashCode_2_0 5 rfl rfl)
theorem dJ6_hashCode_2_6 : decode cJ6_hashCode_2 6 = .ok (.istore 5, 2) := dk_54 5 (dk_at dksJ6_hashCode_2_0 6 rfl rfl)
theorem dJ6_hashCode_2_8 : decode cJ6_hashCode_2 8 = .ok (.iload 5, 2) := dk_21 5 (dk_at dksJ6_hashCode_2_0 8 rfl rfl)
theorem dJ6_hashCode_2_10 : decode cJ6_hashCode_2 10 = .ok (.iload 4, 2) := dk_21 4 (dk_at dksJ6_hashCode_2_0 10 rfl rfl)
theorem dJ6_hashCode_2_12 : decode cJ6_hashCode_2 12 = .ok (.if_icmp .ge 19, 3) := dk_162 0 19 (dk_at dksJ6_hashCode_2_0 12 rfl rfl)
theorem dJ6_hashCode_2_15 : decode cJ6_hashCode_2 15 = .ok (.bipush 31, 2) := dk_16 31 (dk_at dksJ6_hashCode_2_0 15 rfl rfl)
theorem dJ6_hashCode_2_17 : decode cJ6_hashCode_2 17 = .ok (.iload_n 0, 1) := dk_26 (dk_at dksJ6_hashCode_2_0 17 rfl rfl)
theorem dJ6_hashCode_2_18 : decode cJ6_hashCode_2 18 = .ok (.imul, 1) := dk_104 (dk_at dksJ6_hashCode_2_0 18 rfl rfl)
theorem dJ6_hashCode_2_19 : decode cJ6_hashCode_2 19 = .ok (.aload_n 1, 1) := dk_43 (dk_at dksJ6_hashCode_2_0 19 rfl rfl)
theorem dJ6_hashCode_2_20 : decode cJ6_hashCode_2 20 = .ok (.iload 5, 2) := dk_21 5 (dk_at dksJ6_hashCode_2_0 20 rfl rfl)
theorem dJ6_hashCode_2_22 : decode cJ6_hashCode_2 22 = .ok (.baload, 1) := dk_51 (dk_at dksJ6_hashCode_2_0 22 rfl rfl)
theorem dJ6_hashCode_2_23 : decode cJ6_hashCode_2 23 = .ok (.iadd, 1) := dk_96 (dk_at dksJ6_hashCode_2_0 23 rfl rfl)
theorem dJ6_hashCode_2_24 : decode cJ6_hashCode_2 24 = .ok (.istore_n 0, 1) := dk_59 (dk_at dksJ6_hashCode_2_1 0 rfl rfl)
theorem dJ6_hashCode_2_25 : decode cJ6_hashCode_2 25 = .ok (.iinc 5 1, 3) := dk_132 5 1 (dk_at dksJ6_hashCode_2_1 1 rfl rfl)
theorem dJ6_hashCode_2_28 : decode cJ6_hashCode_2 28 = .ok (.goto (-20), 3) := dk_167 255 236 (dk_at dksJ6_hashCode_2_1 4 rfl rfl)
theorem dJ6_hashCode_2_31 : decode cJ6_hashCode_2 31 = .ok (.iload_n 0, 1) := dk_26 (dk_at dksJ6_hashCode_2_1 7 rfl rfl)
theorem dJ6_hashCode_2_32 : decode cJ6_hashCode_2 32 = .ok (.ireturn, 1) := dk_172 (dk_at dksJ6_hashCode_2_1 8 rfl rfl)
def dkwJ6_hashCode_3_1 : List UInt8 := [59, 132, 5, 1, 167, 255, 236, 26, 172]
abbrev dktJ6_hashCode_3_1 : List UInt8 := dkwJ6_hashCode_3_1 ++ []
def dkwJ6_hashCode_3_0 : List UInt8 := [28, 29, 96, 54, 4, 28, 54, 5, 21, 5, 21, 4, 162, 0, 19, 16, 31, 26, 104, 43, 21, 5, 53, 96]
abbrev dktJ6_hashCode_3_0 : List UInt8 := dkwJ6_hashCode_3_0 ++ dktJ6_hashCode_3_1
theorem dksJ6_hashCode_3_0 : cJ6_hashCode_3.data.toList.drop 0 = dktJ6_hashCode_3_0 := by decide +kernel
theorem dksJ6_hashCode_3_1 : cJ6_hashCode_3.data.toList.drop 24 = dktJ6_hashCode_3_1 := dk_seg dksJ6_hashCode_3_0 24 rfl rfl
theorem dJ6_hashCode_3_0 : decode cJ6_hashCode_3 0 = .ok (.iload_n 2, 1) := dk_28 (dk_at dksJ6_hashCode_3_0 0 rfl rfl)
theorem dJ6_hashCode_3_1 : decode cJ6_hashCode_3 1 = .ok (.iload_n 3, 1) := dk_29 (dk_at dksJ6_hashCode_3_0 1 rfl rfl)
theorem dJ6_hashCode_3_2 : decode cJ6_hashCode_3 2 = .ok (.iadd, 1) := dk_96 (dk_at dksJ6_hashCode_3_0 2 rfl rfl)
theorem dJ6_hashCode_3_3 : decode cJ6_hashCode_3 3 = .ok (.istore 4, 2) := dk_54 4 (dk_at dksJ6_hashCode_3_0 3 rfl rfl)
theorem dJ6_hashCode_3_5 : decode cJ6_hashCode_3 5 = .ok (.iload_n 2, 1) := dk_28 (dk_at dksJ6_hashCode_3_0 5 rfl rfl)
theorem dJ6_hashCode_3_6 : decode cJ6_hashCode_3 6 = .ok (.istore 5, 2) := dk_54 5 (dk_at dksJ6_hashCode_3_0 6 rfl rfl)
theorem dJ6_hashCode_3_8 : decode cJ6_hashCode_3 8 = .ok (.iload 5, 2) := dk_21 5 (dk_at dksJ6_hashCode_3_0 8 rfl rfl)
theorem dJ6_hashCode_3_10 : decode cJ6_hashCode_3 10 = .ok (.iload 4, 2) := dk_21 4 (dk_at dksJ6_hashCode_3_0 10 rfl rfl)
theorem dJ6_hashCode_3_12 : decode cJ6_hashCode_3 12 = .ok (.if_icmp .ge 19, 3) := dk_162 0 19 (dk_at dksJ6_hashCode_3_0 12 rfl rfl)
theorem dJ6_hashCode_3_15 : decode cJ6_hashCode_3 15 = .ok (.bipush 31, 2) := dk_16 31 (dk_at dksJ6_hashCode_3_0 15 rfl rfl)
theorem dJ6_hashCode_3_17 : decode cJ6_hashCode_3 17 = .ok (.iload_n 0, 1) := dk_26 (dk_at dksJ6_hashCode_3_0 17 rfl rfl)
theorem dJ6_hashCode_3_18 : decode cJ6_hashCode_3 18 = .ok (.imul, 1) := dk_104 (dk_at dksJ6_hashCode_3_0 18 rfl rfl)
theorem dJ6_hashCode_3_19 : decode cJ6_hashCode_3 19 = .ok (.aload_n 1, 1) := dk_43 (dk_at dksJ6_hashCode_3_0 19 rfl rfl)
theorem dJ6_hashCode_3_20 : decode cJ6_hashCode_3 20 = .ok (.iload 5, 2) := dk_21 5 (dk_at dksJ6_hashCode_3_0 20 rfl rfl)
theorem dJ6_hashCode_3_22 : decode cJ6_hashCode_3 22 = .ok (.saload, 1) := dk_53 (dk_at dksJ6_hashCode_3_0 22 rfl rfl)
theorem dJ6_hashCode_3_23 : decode cJ6_hashCode_3 23 = .ok (.iadd, 1) := dk_96 (dk_at dksJ6_hashCode_3_0 23 rfl rfl)
theorem dJ6_hashCode_3_24 : decode cJ6_hashCode_3 24 = .ok (.istore_n 0, 1) := dk_59 (dk_at dksJ6_hashCode_3_1 0 rfl rfl)
theorem dJ6_hashCode_3_25 : decode cJ6_hashCode_3 25 = .ok (.iinc 5 1, 3) := dk_132 5 1 (dk_at dksJ6_hashCode_3_1 1 rfl rfl)
theorem dJ6_hashCode_3_28 : decode cJ6_hashCode_3 28 = .ok (.goto (-20), 3) := dk_167 255 236 (dk_at dksJ6_hashCode_3_1 4 rfl rfl)
theorem dJ6_hashCode_3_31 : decode cJ6_hashCode_3 31 = .ok (.iload_n 0, 1) := dk_26 (dk_at dksJ6_hashCode_3_1 7 rfl rfl)
theorem dJ6_hashCode_3_32 : decode cJ6_hashCode_3 32 = .ok (.ireturn, 1) := dk_172 (dk_at dksJ6_hashCode_3_1 8 rfl rfl)
def dkwJ6_hashCode_4_1 : List UInt8 := [59, 132, 5, 1, 167, 255, 236, 26, 172]
abbrev dktJ6_hashCode_4_1 : List UInt8 := dkwJ6_hashCode_4_1 ++ []
def dkwJ6_hashCode_4_0 : List UInt8 := [28, 29, 96, 54, 4, 28, 54, 5, 21, 5, 21, 4, 162, 0, 19, 16, 31, 26, 104, 43, 21, 5, 46, 96]
abbrev dktJ6_hashCode_4_0 : List UInt8 := dkwJ6_hashCode_4_0 ++ dktJ6_hashCode_4_1
theorem dksJ6_hashCode_4_0 : cJ6_hashCode_4.data.toList.drop 0 = dktJ6_hashCode_4_0 := by decide +kernel
theorem dksJ6_hashCode_4_1 : cJ6_hashCode_4.data.toList.drop 24 = dktJ6_hashCode_4_1 := dk_seg dksJ6_hashCode_4_0 24 rfl rfl
theorem dJ6_hashCode_4_0 : decode cJ6_hashCode_4 0 = .ok (.iload_n 2, 1) := dk_28 (dk_at dksJ6_hashCode_4_0 0 rfl rfl)
theorem dJ6_hashCode_4_1 : decode cJ6_hashCode_4 1 = .ok (.iload_n 3, 1) := dk_29 (dk_at dksJ6_hashCode_4_0 1 rfl rfl)
theorem dJ6_hashCode_4_2 : decode cJ6_hashCode_4 2 = .ok (.iadd, 1) := dk_96 (dk_at dksJ6_hashCode_4_0 2 rfl rfl)
theorem dJ6_hashCode_4_3 : decode cJ6_hashCode_4 3 = .ok (.istore 4, 2) := dk_54 4 (dk_at dksJ6_hashCode_4_0 3 rfl rfl)
theorem dJ6_hashCode_4_5 : decode cJ6_hashCode_4 5 = .ok (.iload_n 2, 1) := dk_28 (dk_at dksJ6_hashCode_4_0 5 rfl rfl)
theorem dJ6_hashCode_4_6 : decode cJ6_hashCode_4 6 = .ok (.istore 5, 2) := dk_54 5 (dk_at dksJ6_hashCode_4_0 6 rfl rfl)
theorem dJ6_hashCode_4_8 : decode cJ6_hashCode_4 8 = .ok (.iload 5, 2) := dk_21 5 (dk_at dksJ6_hashCode_4_0 8 rfl rfl)
theorem dJ6_hashCode_4_10 : decode cJ6_hashCode_4 10 = .ok (.iload 4, 2) := dk_21 4 (dk_at dksJ6_hashCode_4_0 10 rfl rfl)
theorem dJ6_hashCode_4_12 : decode cJ6_hashCode_4 12 = .ok (.if_icmp .ge 19, 3) := dk_162 0 19 (dk_at dksJ6_hashCode_4_0 12 rfl rfl)
theorem dJ6_hashCode_4_15 : decode cJ6_hashCode_4 15 = .ok (.bipush 31, 2) := dk_16 31 (dk_at dksJ6_hashCode_4_0 15 rfl rfl)
theorem dJ6_hashCode_4_17 : decode cJ6_hashCode_4 17 = .ok (.iload_n 0, 1) := dk_26 (dk_at dksJ6_hashCode_4_0 17 rfl rfl)
theorem dJ6_hashCode_4_18 : decode cJ6_hashCode_4 18 = .ok (.imul, 1) := dk_104 (dk_at dksJ6_hashCode_4_0 18 rfl rfl)
theorem dJ6_hashCode_4_19 : decode cJ6_hashCode_4 19 = .ok (.aload_n 1, 1) := dk_43 (dk_at dksJ6_hashCode_4_0 19 rfl rfl)
theorem dJ6_hashCode_4_20 : decode cJ6_hashCode_4 20 = .ok (.iload 5, 2) := dk_21 5 (dk_at dksJ6_hashCode_4_0 20 rfl rfl)
theorem dJ6_hashCode_4_22 : decode cJ6_hashCode_4 22 = .ok (.iaload, 1) := dk_46 (dk_at dksJ6_hashCode_4_0 22 rfl rfl)
theorem dJ6_hashCode_4_23 : decode cJ6_hashCode_4 23 = .ok (.iadd, 1) := dk_96 (dk_at dksJ6_hashCode_4_0 23 rfl rfl)
theorem dJ6_hashCode_4_24 : decode cJ6_hashCode_4 24 = .ok (.istore_n 0, 1) := dk_59 (dk_at dksJ6_hashCode_4_1 0 rfl rfl)
theorem dJ6_hashCode_4_25 : decode cJ6_hashCode_4 25 = .ok (.iinc 5 1, 3) := dk_132 5 1 (dk_at dksJ6_hashCode_4_1 1 rfl rfl)
theorem dJ6_hashCode_4_28 : decode cJ6_hashCode_4 28 = .ok (.goto (-20), 3) := dk_167 255 236 (dk_at dksJ6_hashCode_4_1 4 rfl rfl)
theorem dJ6_hashCode_4_31 : decode cJ6_hashCode_4 31 = .ok (.iload_n 0, 1) := dk_26 (dk_at dksJ6_hashCode_4_1 7 rfl rfl)
theorem dJ6_hashCode_4_32 : decode cJ6_hashCode_4 32 = .ok (.ireturn, 1) := dk_172 (dk_at dksJ6_hashCode_4_1 8 rfl rfl)
theorem dJ9_init_0 : decode cJ9_init 0 = .ok (.aload_n 0, 1) := by decide +kernel
theorem dJ9_init_1 : decode cJ9_init 1 = .ok (.invokespecial 1, 3) := by decide +kernel
theorem dJ9_init_4 : decode cJ9_init 4 = .ok (.return_, 1) := by decide +kernel
theorem dJ27_init_0 : decode cJ27_init 0 = .ok (.aload_n 0, 1) := by decide +kernel
theorem dJ27_init_1 : decode cJ27_init 1 = .ok (.invokespecial 1, 3) := by decide +kernel
theorem dJ27_init_4 : decode cJ27_init 4 = .ok (.return_, 1) := by decide +kernel
def dkwJ16_compareTo_0 : List UInt8 := [42, 43, 192, 0, 10, 182, 4, 60, 172]
abbrev dktJ16_compareTo_0 : List UInt8 := dkwJ16_compareTo_0 ++ []
theorem dksJ16_compareTo_0 : cJ16_compareTo.data.toList.drop 0 = dktJ16_compareTo_0 := by decide +kernel
theorem dJ16_compareTo_0 : decode cJ16_compareTo 0 = .ok (.aload_n 0, 1) := dk_42 (dk_at dksJ16_compareTo_0 0 rfl rfl)
theorem dJ16_compareTo_1 : decode cJ16_compareTo 1 = .ok (.aload_n 1, 1) := dk_43 (dk_at dksJ16_compareTo_0 1 rfl rfl)
theorem dJ16_compareTo_2 : decode cJ16_compareTo 2 = .ok (.checkcast 10, 3) := dk_192 0 10 (dk_at dksJ16_compareTo_0 2 rfl rfl)
theorem dJ16_compareTo_5 : decode cJ16_compareTo 5 = .ok (.invokevirtual 1084, 3) := dk_182 4 60 (dk_at dksJ16_compareTo_0 5 rfl rfl)
theorem dJ16_compareTo_8 : decode cJ16_compareTo 8 = .ok (.ireturn, 1) := dk_172 (dk_at dksJ16_compareTo_0 8 rfl rfl)
def dkwJ16_compareTo_2_2 : List UInt8 := [154, 0, 11, 44, 45, 184, 2, 79, 167, 0, 8, 44, 45, 184, 2, 82, 172]
abbrev dktJ16_compareTo_2_2 : List UInt8 := dkwJ16_compareTo_2_2 ++ []
def dkwJ16_compareTo_2_1 : List UInt8 := [160, 0, 22, 21, 4, 154, 0, 11, 44, 45, 184, 2, 74, 167, 0, 8, 44, 45, 184, 2, 78, 172, 21, 4]
abbrev dktJ16_compareTo_2_1 : List UInt8 := dkwJ16_compareTo_2_1 ++ dktJ16_compareTo_2_2
def dkwJ16_compareTo_2_0 : List UInt8 := [42, 180, 0, 9, 77, 43, 180, 0, 9, 78, 42, 182, 1, 79, 54, 4, 21, 4, 43, 182, 1, 79]
abbrev dktJ16_compareTo_2_0 : List UInt8 := dkwJ16_compareTo_2_0 ++ dktJ16_compareTo_2_1
theorem dksJ16_compareTo_2_0 : cJ16_compareTo_2.data.toList.drop 0 = dktJ16_compareTo_2_0 := by decide +kernel
theorem dksJ16_compareTo_2_1 : cJ16_compareTo_2.data.toList.drop 22 = dktJ16_compareTo_2_1 := dk_seg dksJ16_compareTo_2_0 22 rfl rfl
theorem dksJ16_compareTo_2_2 : cJ16_compareTo_2.data.toList.drop 46 = dktJ16_compareTo_2_2 := dk_seg dksJ16_compareTo_2_1 24 rfl rfl
theorem dJ16_compareTo_2_0 : decode cJ16_compareTo_2 0 = .ok (.aload_n 0, 1) := dk_42 (dk_at dksJ16_compareTo_2_0 0 rfl rfl)
theorem dJ16_compareTo_2_1 : decode cJ16_compareTo_2 1 = .ok (.getfield 9, 3) := dk_180 0 9 (dk_at dksJ16_compareTo_2_0 1 rfl rfl)
theorem dJ16_compareTo_2_4 : decode cJ16_compareTo_2 4 = .ok (.astore_n 2, 1) := dk_77 (dk_at dksJ16_compareTo_2_0 4 rfl rfl)
theorem dJ16_compareTo_2_5 : decode cJ16_compareTo_2 5 = .ok (.aload_n 1, 1) := dk_43 (dk_at dksJ16_compareTo_2_0 5 rfl rfl)
theorem dJ16_compareTo_2_6 : decode cJ16_compareTo_2 6 = .ok (.getfield 9, 3) := dk_180 0 9 (dk_at dksJ16_compareTo_2_0 6 rfl rfl)
theorem dJ16_compareTo_2_9 : decode cJ16_compareTo_2 9 = .ok (.astore_n 3, 1) := dk_78 (dk_at dksJ16_compareTo_2_0 9 rfl rfl)
theorem dJ16_compareTo_2_10 : decode cJ16_compareTo_2 10 = .ok (.aload_n 0, 1) := dk_42 (dk_at dksJ16_compareTo_2_0 10 rfl rfl)
theorem dJ16_compareTo_2_11 : decode cJ16_compareTo_2 11 = .ok (.invokevirtual 335, 3) := dk_182 1 79 (dk_at dksJ16_compareTo_2_0 11 rfl rfl)
theorem dJ16_compareTo_2_14 : decode cJ16_compareTo_2 14 = .ok (.istore 4, 2) := dk_54 4 (dk_at dksJ16_compareTo_2_0 14 rfl rfl)
theorem dJ16_compareTo_2_16 : decode cJ16_compareTo_2 16 = .ok (.iload 4, 2) := dk_21 4 (dk_at dksJ16_compareTo_2_0 16 rfl rfl)
theorem dJ16_compareTo_2_18 : decode cJ16_compareTo_2 18 = .ok (.aload_n 1, 1) := dk_43 (dk_at dksJ16_compareTo_2_0 18 rfl rfl)
theorem dJ16_compareTo_2_19 : decode cJ16_compareTo_2 19 = .ok (.invokevirtual 335, 3) := dk_182 1 79 (dk_at dksJ16_compareTo_2_0 19 rfl rfl)
theorem dJ16_compareTo_2_22 : decode cJ16_compareTo_2 22 = .ok (.if_icmp .ne 22, 3) := dk_160 0 22 (dk_at dksJ16_compareTo_2_1 0 rfl rfl)
theorem dJ16_compareTo_2_25 : decode cJ16_compareTo_2 25 = .ok (.iload 4, 2) := dk_21 4 (dk_at dksJ16_compareTo_2_1 3 rfl rfl)
theorem dJ16_compareTo_2_27 : decode cJ16_compareTo_2 27 = .ok (.ifCond .ne 11, 3) := dk_154 0 11 (dk_at dksJ16_compareTo_2_1 5 rfl rfl)
theorem dJ16_compareTo_2_30 : decode cJ16_compareTo_2 30 = .ok (.aload_n 2, 1) := dk_44 (dk_at dksJ16_compareTo_2_1 8 rfl rfl)
theorem dJ16_compareTo_2_31 : decode cJ16_compareTo_2 31 = .ok (.aload_n 3, 1) := dk_45 (dk_at dksJ16_compareTo_2_1 9 rfl rfl)
theorem dJ16_compareTo_2_32 : decode cJ16_compareTo_2 32 = .ok (.invokestatic 586, 3) := dk_184 2 74 (dk_at dksJ16_compareTo_2_1 10 rfl rfl)
theorem dJ16_compareTo_2_35 : decode cJ16_compareTo_2 35 = .ok (.goto 8, 3) := dk_167 0 8 (dk_at dksJ16_compareTo_2_1 13 rfl rfl)
theorem dJ16_compareTo_2_38 : decode cJ16_compareTo_2 38 = .ok (.aload_n 2, 1) := dk_44 (dk_at dksJ16_compareTo_2_1 16 rfl rfl)
theorem dJ16_compareTo_2_39 : decode cJ16_compareTo_2 39 = .ok (.aload_n 3, 1) := dk_45 (dk_at dksJ16_compareTo_2_1 17 rfl rfl)
theorem dJ16_compareTo_2_40 : decode cJ16_compareTo_2 40 = .ok (.invokestatic 590, 3) := dk_184 2 78 (dk_at dksJ16_compareTo_2_1 18 rfl rfl)
theorem dJ16_compareTo_2_43 : decode cJ16_compareTo_2 43 = .ok (.ireturn, 1) := dk_172 (dk_at dksJ16_compareTo_2_1 21 rfl rfl)
theorem dJ16_compareTo_2_44 : decode cJ16_compareTo_2 44 = .ok (.iload 4, 2) := dk_21 4 (dk_at dksJ16_compareTo_2_1 22 rfl rfl)
theorem dJ16_compareTo_2_46 : decode cJ16_compareTo_2 46 = .ok (.ifCond .ne 11, 3) := dk_154 0 11 (dk_at dksJ16_compareTo_2_2 0 rfl rfl)
theorem dJ16_compareTo_2_49 : decode cJ16_compareTo_2 49 = .ok (.aload_n 2, 1) := dk_44 (dk_at dksJ16_compareTo_2_2 3 rfl rfl)
theorem dJ16_compareTo_2_50 : decode cJ16_compareTo_2 50 = .ok (.aload_n 3, 1) := dk_45 (dk_at dksJ16_compareTo_2_2 4 rfl rfl)
theorem dJ16_compareTo_2_51 : decode cJ16_compareTo_2 51 = .ok (.invokestatic 591, 3) := dk_184 2 79 (dk_at dksJ16_compareTo_2_2 5 rfl rfl)
theorem dJ16_compareTo_2_54 : decode cJ16_compareTo_2 54 = .ok (.goto 8, 3) := dk_167 0 8 (dk_at dksJ16_compareTo_2_2 8 rfl rfl)
theorem dJ16_compareTo_2_57 : decode cJ16_compareTo_2 57 = .ok (.aload_n 2, 1) := dk_44 (dk_at dksJ16_compareTo_2_2 11 rfl rfl)
theorem dJ16_compareTo_2_58 : decode cJ16_compareTo_2 58 = .ok (.aload_n 3, 1) := dk_45 (dk_at dksJ16_compareTo_2_2 12 rfl rfl)
theorem dJ16_compareTo_2_59 : decode cJ16_compareTo_2 59 = .ok (.invokestatic 594, 3) := dk_184 2 82 (dk_at dksJ16_compareTo_2_2 13 rfl rfl)
theorem dJ16_compareTo_2_62 : decode cJ16_compareTo_2 62 = .ok (.ireturn, 1) := dk_172 (dk_at dksJ16_compareTo_2_2 16 rfl rfl)
def dkwJ16_coder_0 : List UInt8 := [178, 0, 38, 153, 0, 10, 42, 180, 0, 15, 167, 0, 4, 4, 172]
abbrev dktJ16_coder_0 : List UInt8 := dkwJ16_coder_0 ++ []
theorem dksJ16_coder_0 : cJ16_coder.data.toList.drop 0 = dktJ16_coder_0 := by decide +kernel
theorem dJ16_coder_0 : decode cJ16_coder 0 = .ok (.getstatic 38, 3) := dk_178 0 38 (dk_at dksJ16_coder_0 0 rfl rfl)
theorem dJ16_coder_3 : decode cJ16_coder 3 = .ok (.ifCond .eq 10, 3) := dk_153 0 10 (dk_at dksJ16_coder_0 3 rfl rfl)
theorem dJ16_coder_6 : decode cJ16_coder 6 = .ok (.aload_n 0, 1) := dk_42 (dk_at dksJ16_coder_0 6 rfl rfl)
theorem dJ16_coder_7 : decode cJ16_coder 7 = .ok (.getfield 15, 3) := dk_180 0 15 (dk_at dksJ16_coder_0 7 rfl rfl)
theorem dJ16_coder_10 : decode cJ16_coder 10 = .ok (.goto 4, 3) := dk_167 0 4 (dk_at dksJ16_coder_0 10 rfl rfl)
theorem dJ16_coder_13 : decode cJ16_coder 13 = .ok (.iconst 1, 1) := dk_4 (dk_at dksJ16_coder_0 13 rfl rfl)
theorem dJ16_coder_14 : decode cJ16_coder 14 = .ok (.ireturn, 1) := dk_172 (dk_at dksJ16_coder_0 14 rfl rfl)
def dkwJ16_checkOffset_0 : List UInt8 := [26, 27, 27, 178, 4, 29, 184, 4, 38, 87, 177]
abbrev dktJ16_checkOffset_0 : List UInt8 := dkwJ16_checkOffset_0 ++ []
theorem dksJ16_checkOffset_0 : cJ16_checkOffset.data.toList.drop 0 = dktJ16_checkOffset_0 := by decide +kernel
theorem dJ16_checkOffset_0 : decode cJ16_checkOffset 0 = .ok (.iload_n 0, 1) := dk_26 (dk_at dksJ16_checkOffset_0 0 rfl rfl)
theorem dJ16_checkOffset_1 : decode cJ16_checkOffset 1 = .ok (.iload_n 1, 1) := dk_27 (dk_at dksJ16_checkOffset_0 1 rfl rfl)
theorem dJ16_checkOffset_2 : decode cJ16_checkOffset 2 = .ok (.iload_n 1, 1) := dk_27 (dk_at dksJ16_checkOffset_0 2 rfl rfl)
theorem dJ16_checkOffset_3 : decode cJ16_checkOffset 3 = .ok (.getstatic 1053, 3) := dk_178 4 29 (dk_at dksJ16_checkOffset_0 3 rfl rfl)
theorem dJ16_checkOffset_6 : decode cJ16_checkOffset 6 = .ok (.invokestatic 1062, 3) := dk_184 4 38 (dk_at dksJ16_checkOffset_0 6 rfl rfl)
theorem dJ16_checkOffset_9 : decode cJ16_checkOffset 9 = .ok (.pop, 1) := dk_87 (dk_at dksJ16_checkOffset_0 9 rfl rfl)
theorem dJ16_checkOffset_10 : decode cJ16_checkOffset 10 = .ok (.return_, 1) := dk_177 (dk_at dksJ16_checkOffset_0 10 rfl rfl)
def dkwJ16_hashCode_2 : List UInt8 := [181, 0, 23, 167, 0, 8, 42, 27, 181, 0, 19, 27, 172]
abbrev dktJ16_hashCode_2 : List UInt8 := dkwJ16_hashCode_2 ++ []
def dkwJ16_hashCode_1 : List UInt8 := [180, 0, 9, 184, 2, 116, 167, 0, 10, 42, 180, 0, 9, 184, 2, 120, 60, 27, 154, 0, 11, 42, 4]
abbrev dktJ16_hashCode_1 : List UInt8 := dkwJ16_hashCode_1 ++ dktJ16_hashCode_2
def dkwJ16_hashCode_0 : List UInt8 := [42, 180, 0, 19, 60, 27, 154, 0, 52, 42, 180, 0, 23, 154, 0, 45, 42, 182, 1, 236, 153, 0, 13, 42]
abbrev dktJ16_hashCode_0 : List UInt8 := dkwJ16_hashCode_0 ++ dktJ16_hashCode_1
theorem dksJ16_hashCode_0 : cJ16_hashCode.data.toList.drop 0 = dktJ16_hashCode_0 := by decide +kernel
theorem dksJ16_hashCode_1 : cJ16_hashCode.data.toList.drop 24 = dktJ16_hashCode_1 := dk_seg dksJ16_hashCode_0 24 rfl rfl
theorem dksJ16_hashCode_2 : cJ16_hashCode.data.toList.drop 47 = dktJ16_hashCode_2 := dk_seg dksJ16_hashCode_1 23 rfl rfl
theorem dJ16_hashCode_0 : decode cJ16_hashCode 0 = .ok (.aload_n 0, 1) := dk_42 (dk_at dksJ16_hashCode_0 0 rfl rfl)
theorem dJ16_hashCode_1 : decode cJ16_hashCode 1 = .ok (.getfield 19, 3) := dk_180 0 19 (dk_at dksJ16_hashCode_0 1 rfl rfl)
theorem dJ16_hashCode_4 : decode cJ16_hashCode 4 = .ok (.istore_n 1, 1) := dk_60 (dk_at dksJ16_hashCode_0 4 rfl rfl)
theorem dJ16_hashCode_5 : decode cJ16_hashCode 5 = .ok (.iload_n 1, 1) := dk_27 (dk_at dksJ16_hashCode_0 5 rfl rfl)
theorem dJ16_hashCode_6 : decode cJ16_hashCode 6 = .ok (.ifCond .ne 52, 3) := dk_154 0 52 (dk_at dksJ16_hashCode_0 6 rfl rfl)
theorem dJ16_hashCode_9 : decode cJ16_hashCode 9 = .ok (.aload_n 0, 1) := dk_42 (dk_at dksJ16_hashCode_0 9 rfl rfl)
theorem dJ16_hashCode_10 : decode cJ16_hashCode 10 = .ok (.getfield 23, 3) := dk_180 0 23 (dk_at dksJ16_hashCode_0 10 rfl rfl)
theorem dJ16_hashCode_13 : decode cJ16_hashCode 13 = .ok (.ifCond .ne 45, 3) := dk_154 0 45 (dk_at dksJ16_hashCode_0 13 rfl rfl)
theorem dJ16_hashCode_16 : decode cJ16_hashCode 16 = .ok (.aload_n 0, 1) := dk_42 (dk_at dksJ16_hashCode_0 16 rfl rfl)
theorem dJ16_hashCode_17 : decode cJ16_hashCode 17 = .ok (.invokevirtual 492, 3) := dk_182 1 236 (dk_at dksJ16_hashCode_0 17 rfl rfl)
theorem dJ16_hashCode_20 : decode cJ16_hashCode 20 = .ok (.ifCond .eq 13, 3) := dk_153 0 13 (dk_at dksJ16_hashCode_0 20 rfl rfl)
theorem dJ16_hashCode_23 : decode cJ16_hashCode 23 = .ok (.aload_n 0, 1) := dk_42 (dk_at dksJ16_hashCode_0 23 rfl rfl)
theorem dJ16_hashCode_24 : decode cJ16_hashCode 24 = .ok (.getfield 9, 3) := dk_180 0 9 (dk_at dksJ16_hashCode_1 0 rfl rfl)
theorem dJ16_hashCode_27 : decode cJ16_hashCode 27 = .ok (.invokestatic 628, 3) := dk_184 2 116 (dk_at dksJ16_hashCode_1 3 rfl rfl)
theorem dJ16_hashCode_30 : decode cJ16_hashCode 30 = .ok (.goto 10, 3) := dk_167 0 10 (dk_at dksJ16_hashCode_1 6 rfl rfl)
theorem dJ16_hashCode_33 : decode cJ16_hashCode 33 = .ok (.aload_n 0, 1) := dk_42 (dk_at dksJ16_hashCode_1 9 rfl rfl)
theorem dJ16_hashCode_34 : decode cJ16_hashCode 34 = .ok (.getfield 9, 3) := dk_180 0 9 (dk_at dksJ16_hashCode_1 10 rfl rfl)
theorem dJ16_hashCode_37 : decode cJ16_hashCode 37 = .ok (.invokestatic 632, 3) := dk_184 2 120 (dk_at dksJ16_hashCode_1 13 rfl rfl)
theorem dJ16_hashCode_40 : decode cJ16_hashCode 40 = .ok (.istore_n 1, 1) := dk_60 (dk_at dksJ16_hashCode_1 16 rfl rfl)
theorem dJ16_hashCode_41 : decode cJ16_hashCode 41 = .ok (.iload_n 1, 1) := dk_27 (dk_at dksJ16_hashCode_1 17 rfl rfl)
theorem dJ16_hashCode_42 : decode cJ16_hashCode 42 = .ok (.ifCond .ne 11, 3) := dk_154 0 11 (dk_at dksJ16_hashCode_1 18 rfl rfl)
theorem dJ16_hashCode_45 : decode cJ16_hashCode 45 = .ok (.aload_n 0, 1) := dk_42 (dk_at dksJ16_hashCode_1 21 rfl rfl)
theorem dJ16_hashCode_46 : decode cJ16_hashCode 46 = .ok (.iconst 1, 1) := dk_4 (dk_at dksJ16_hashCode_1 22 rfl rfl)
theorem dJ16_hashCode_47 : decode cJ16_hashCode 47 = .ok (.putfield 23, 3) := dk_181 0 23 (dk_at dksJ16_hashCode_2 0 rfl rfl)
theorem dJ16_hashCode_50 : decode cJ16_hashCode 50 = .ok (.goto 8, 3) := dk_167 0 8 (dk_at dksJ16_hashCode_2 3 rfl rfl)
theorem dJ16_hashCode_53 : decode cJ16_hashCode 53 = .ok (.aload_n 0, 1) := dk_42 (dk_at dksJ16_hashCode_2 6 rfl rfl)
theorem dJ16_hashCode_54 : decode cJ16_hashCode 54 = .ok (.iload_n 1, 1) := dk_27 (dk_at dksJ16_hashCode_2 7 rfl rfl)
theorem dJ16_hashCode_55 : decode cJ16_hashCode 55 = .ok (.putfield 19, 3) := dk_181 0 19 (dk_at dksJ16_hashCode_2 8 rfl rfl)
theorem dJ16_hashCode_58 : decode cJ16_hashCode 58 = .ok (.iload_n 1, 1) := dk_27 (dk_at dksJ16_hashCode_2 11 rfl rfl)
theorem dJ16_hashCode_59 : decode cJ16_hashCode 59 = .ok (.ireturn, 1) := dk_172 (dk_at dksJ16_hashCode_2 12 rfl rfl)
def dkwJ16_isLatin1_0 : List UInt8 := [178, 0, 38, 153, 0, 14, 42, 180, 0, 15, 154, 0, 7, 4, 167, 0, 4, 3, 172]
abbrev dktJ16_isLatin1_0 : List UInt8 := dkwJ16_isLatin1_0 ++ []
theorem dksJ16_isLatin1_0 : cJ16_isLatin1.data.toList.drop 0 = dktJ16_isLatin1_0 := by decide +kernel
theorem dJ16_isLatin1_0 : decode cJ16_isLatin1 0 = .ok (.getstatic 38, 3) := dk_178 0 38 (dk_at dksJ16_isLatin1_0 0 rfl rfl)
theorem dJ16_isLatin1_3 : decode cJ16_isLatin1 3 = .ok (.ifCond .eq 14, 3) := dk_153 0 14 (dk_at dksJ16_isLatin1_0 3 rfl rfl)
theorem dJ16_isLatin1_6 : decode cJ16_isLatin1 6 = .ok (.aload_n 0, 1) := dk_42 (dk_at dksJ16_isLatin1_0 6 rfl rfl)
theorem dJ16_isLatin1_7 : decode cJ16_isLatin1 7 = .ok (.getfield 15, 3) := dk_180 0 15 (dk_at dksJ16_isLatin1_0 7 rfl rfl)
theorem dJ16_isLatin1_10 : decode cJ16_isLatin1 10 = .ok (.ifCond .ne 7, 3) := dk_154 0 7 (dk_at dksJ16_isLatin1_0 10 rfl rfl)
theorem dJ16_isLatin1_13 : decode cJ16_isLatin1 13 = .ok (.iconst 1, 1) := dk_4 (dk_at dksJ16_isLatin1_0 13 rfl rfl)
theorem dJ16_isLatin1_14 : decode cJ16_isLatin1 14 = .ok (.goto 4, 3) := dk_167 0 4 (dk_at dksJ16_isLatin1_0 14 rfl rfl)
theorem dJ16_isLatin1_17 : decode cJ16_isLatin1 17 = .ok (.iconst 0, 1) := dk_3 (dk_at dksJ16_isLatin1_0 17 rfl rfl)
theorem dJ16_isLatin1_18 : decode cJ16_isLatin1 18 = .ok (.ireturn, 1) := dk_172 (dk_at dksJ16_isLatin1_0 18 rfl rfl)
def dkwJ16_checkBoundsBeginEnd_0 : List UInt8 := [26, 27, 28, 178, 4, 29, 184, 4, 38, 87, 177]
abbrev dktJ16_checkBoundsBeginEnd_0 : List UInt8 := dkwJ16_checkBoundsBeginEnd_0 ++ []
theorem dksJ16_checkBoundsBeginEnd_0 : cJ16_checkBoundsBeginEnd.data.toList.drop 0 = dktJ16_checkBoundsBeginEnd_0 := by decide +kernel
theorem dJ16_checkBoundsBeginEnd_0 : decode cJ16_checkBoundsBeginEnd 0 = .ok (.iload_n 0, 1) := dk_26 (dk_at dksJ16_checkBoundsBeginEnd_0 0 rfl rfl)
theorem dJ16_checkBoundsBeginEnd_1 : decode cJ16_checkBoundsBeginEnd 1 = .ok (.iload_n 1, 1) := dk_27 (dk_at dksJ16_checkBoundsBeginEnd_0 1 rfl rfl)
theorem dJ16_checkBoundsBeginEnd_2 : decode cJ16_checkBoundsBeginEnd 2 = .ok (.iload_n 2, 1) := dk_28 (dk_at dksJ16_checkBoundsBeginEnd_0 2 rfl rfl)
theorem dJ16_checkBoundsBeginEnd_3 : decode cJ16_checkBoundsBeginEnd 3 = .ok (.getstatic 1053, 3) := dk_178 4 29 (dk_at dksJ16_checkBoundsBeginEnd_0 3 rfl rfl)
theorem dJ16_checkBoundsBeginEnd_6 : decode cJ16_checkBoundsBeginEnd 6 = .ok (.invokestatic 1062, 3) := dk_184 4 38 (dk_at dksJ16_checkBoundsBeginEnd_0 6 rfl rfl)
theorem dJ16_checkBoundsBeginEnd_9 : decode cJ16_checkBoundsBeginEnd 9 = .ok (.pop, 1) := dk_87 (dk_at dksJ16_checkBoundsBeginEnd_0 9 rfl rfl)
theorem dJ16_checkBoundsBeginEnd_10 : decode cJ16_checkBoundsBeginEnd 10 = .ok (.return_, 1) := dk_177 (dk_at dksJ16_checkBoundsBeginEnd_0 10 rfl rfl)
def dkwJ16_length_0 : List UInt8 := [42, 180, 0, 9, 190, 42, 182, 1, 79, 122, 172]
abbrev dktJ16_length_0 : List UInt8 := dkwJ16_length_0 ++ []
theorem dksJ16_length_0 : cJ16_length.data.toList.drop 0 = dktJ16_length_0 := by decide +kernel
theorem dJ16_length_0 : decode cJ16_length 0 = .ok (.aload_n 0, 1) := dk_42 (dk_at dksJ16_length_0 0 rfl rfl)
theorem dJ16_length_1 : decode cJ16_length 1 = .ok (.getfield 9, 3) := dk_180 0 9 (dk_at dksJ16_length_0 1 rfl rfl)
theorem dJ16_length_4 : decode cJ16_length 4 = .ok (.arraylength, 1) := dk_190 (dk_at dksJ16_length_0 4 rfl rfl)
theorem dJ16_length_5 : decode cJ16_length 5 = .ok (.aload_n 0, 1) := dk_42 (dk_at dksJ16_length_0 5 rfl rfl)
theorem dJ16_length_6 : decode cJ16_length 6 = .ok (.invokevirtual 335, 3) := dk_182 1 79 (dk_at dksJ16_length_0 6 rfl rfl)
theorem dJ16_length_9 : decode cJ16_length 9 = .ok (.ishr, 1) := dk_122 (dk_at dksJ16_length_0 9 rfl rfl)
theorem dJ16_length_10 : decode cJ16_length 10 = .ok (.ireturn, 1) := dk_172 (dk_at dksJ16_length_0 10 rfl rfl)
def dkwJ16_checkBoundsOffCount_0 : List UInt8 := [26, 27, 28, 178, 4, 29, 184, 4, 41, 172]
abbrev dktJ16_checkBoundsOffCount_0 : List UInt8 := dkwJ16_checkBoundsOffCount_0 ++ []
theorem dksJ16_checkBoundsOffCount_0 : cJ16_checkBoundsOffCount.data.toList.drop 0 = dktJ16_checkBoundsOffCount_0 := by decide +kernel
theorem dJ16_checkBoundsOffCount_0 : decode cJ16_checkBoundsOffCount 0 = .ok (.iload_n 0, 1) := dk_26 (dk_at dksJ16_checkBoundsOffCount_0 0 rfl rfl)
theorem dJ16_checkBoundsOffCount_1 : decode cJ16_checkBoundsOffCount 1 = .ok (.iload_n 1, 1) := dk_27 (dk_at dksJ16_checkBoundsOffCount_0 1 rfl rfl)
theorem dJ16_checkBoundsOffCount_2 : decode cJ16_checkBoundsOffCount 2 = .ok (.iload_n 2, 1) := dk_28 (dk_at dksJ16_checkBoundsOffCount_0 2 rfl rfl)
theorem dJ16_checkBoundsOffCount_3 : decode cJ16_checkBoundsOffCount 3 = .ok (.getstatic 1053, 3) := dk_178 4 29 (dk_at dksJ16_checkBoundsOffCount_0 3 rfl rfl)
theorem dJ16_checkBoundsOffCount_6 : decode cJ16_checkBoundsOffCount 6 = .ok (.invokestatic 1065, 3) := dk_184 4 41 (dk_at dksJ16_checkBoundsOffCount_0 6 rfl rfl)
theorem dJ16_checkBoundsOffCount_9 : decode cJ16_checkBoundsOffCount 9 = .ok (.ireturn, 1) := dk_172 (dk_at dksJ16_checkBoundsOffCount_0 9 rfl rfl)
def dkwJ16_getBytes_1 : List UInt8 := [184, 0, 212, 167, 0, 18, 42, 180, 0, 9, 3, 43, 28, 42, 180, 0, 9, 190, 184, 0, 106, 177]
abbrev dktJ16_getBytes_1 : List UInt8 := dkwJ16_getBytes_1 ++ []
def dkwJ16_getBytes_0 : List UInt8 := [42, 182, 1, 79, 29, 160, 0, 23, 42, 180, 0, 9, 3, 43, 28, 29, 120, 42, 180, 0, 9, 190]
abbrev dktJ16_getBytes_0 : List UInt8 := dkwJ16_getBytes_0 ++ dktJ16_getBytes_1
theorem dksJ16_getBytes_0 : cJ16_getBytes.data.toList.drop 0 = dktJ16_getBytes_0 := by decide +kernel
theorem dksJ16_getBytes_1 : cJ16_getBytes.data.toList.drop 22 = dktJ16_getBytes_1 := dk_seg dksJ16_getBytes_0 22 rfl rfl
theorem dJ16_getBytes_0 : decode cJ16_getBytes 0 = .ok (.aload_n 0, 1) := dk_42 (dk_at dksJ16_getBytes_0 0 rfl rfl)
theorem dJ16_getBytes_1 : decode cJ16_getBytes 1 = .ok (.invokevirtual 335, 3) := dk_182 1 79 (dk_at dksJ16_getBytes_0 1 rfl rfl)
theorem dJ16_getBytes_4 : decode cJ16_getBytes 4 = .ok (.iload_n 3, 1) := dk_29 (dk_at dksJ16_getBytes_0 4 rfl rfl)
theorem dJ16_getBytes_5 : decode cJ16_getBytes 5 = .ok (.if_icmp .ne 23, 3) := dk_160 0 23 (dk_at dksJ16_getBytes_0 5 rfl rfl)
theorem dJ16_getBytes_8 : decode cJ16_getBytes 8 = .ok (.aload_n 0, 1) := dk_42 (dk_at dksJ16_getBytes_0 8 rfl rfl)
theorem dJ16_getBytes_9 : decode cJ16_getBytes 9 = .ok (.getfield 9, 3) := dk_180 0 9 (dk_at dksJ16_getBytes_0 9 rfl rfl)
theorem dJ16_getBytes_12 : decode cJ16_getBytes 12 = .ok (.iconst 0, 1) := dk_3 (dk_at dksJ16_getBytes_0 12 rfl rfl)
theorem dJ16_getBytes_13 : decode cJ16_getBytes 13 = .ok (.aload_n 1, 1) := dk_43 (dk_at dksJ16_getBytes_0 13 rfl rfl)
theorem dJ16_getBytes_14 : decode cJ16_getBytes 14 = .ok (.iload_n 2, 1) := dk_28 (dk_at dksJ16_getBytes_0 14 rfl rfl)
theorem dJ16_getBytes_15 : decode cJ16_getBytes 15 = .ok (.iload_n 3, 1) := dk_29 (dk_at dksJ16_getBytes_0 15 rfl rfl)
theorem dJ16_getBytes_16 : decode cJ16_getBytes 16 = .ok (.ishl, 1) := dk_120 (dk_at dksJ16_getBytes_0 16 rfl rfl)
theorem dJ16_getBytes_17 : decode cJ16_getBytes 17 = .ok (.aload_n 0, 1) := dk_42 (dk_at dksJ16_getBytes_0 17 rfl rfl)
theorem dJ16_getBytes_18 : decode cJ16_getBytes 18 = .ok (.getfield 9, 3) := dk_180 0 9 (dk_at dksJ16_getBytes_0 18 rfl rfl)
theorem dJ16_getBytes_21 : decode cJ16_getBytes 21 = .ok (.arraylength, 1) := dk_190 (dk_at dksJ16_getBytes_0 21 rfl rfl)
theorem dJ16_getBytes_22 : decode cJ16_getBytes 22 = .ok (.invokestatic 212, 3) := dk_184 0 212 (dk_at dksJ16_getBytes_1 0 rfl rfl)
theorem dJ16_getBytes_25 : decode cJ16_getBytes 25 = .ok (.goto 18, 3) := dk_167 0 18 (dk_at dksJ16_getBytes_1 3 rfl rfl)
theorem dJ16_getBytes_28 : decode cJ16_getBytes 28 = .ok (.aload_n 0, 1) := dk_42 (dk_at dksJ16_getBytes_1 6 rfl rfl)
theorem dJ16_getBytes_29 : decode cJ16_getBytes 29 = .ok (.getfield 9, 3) := dk_180 0 9 (dk_at dksJ16_getBytes_1 7 rfl rfl)
theorem dJ16_getBytes_32 : decode cJ16_getBytes 32 = .ok (.iconst 0, 1) := dk_3 (dk_at dksJ16_getBytes_1 10 rfl rfl)
theorem dJ16_getBytes_33 : decode cJ16_getBytes 33 = .ok (.aload_n 1, 1) := dk_43 (dk_at dksJ16_getBytes_1 11 rfl rfl)
theorem dJ16_getBytes_34 : decode cJ16_getBytes 34 = .ok (.iload_n 2, 1) := dk_28 (dk_at dksJ16_getBytes_1 12 rfl rfl)
theorem dJ16_getBytes_35 : decode cJ16_getBytes 35 = .ok (.aload_n 0, 1) := dk_42 (dk_at dksJ16_getBytes_1 13 rfl rfl)
theorem dJ16_getBytes_36 : decode cJ16_getBytes 36 = .ok (.getfield 9, 3) := dk_180 0 9 (dk_at dksJ16_getBytes_1 14 rfl rfl)
theorem dJ16_getBytes_39 : decode cJ16_getBytes 39 = .ok (.arraylength, 1) := dk_190 (dk_at dksJ16_getBytes_1 17 rfl rfl)
theorem dJ16_getBytes_40 : decode cJ16_getBytes 40 = .ok (.invokestatic 106, 3) := dk_184 0 106 (dk_at dksJ16_getBytes_1 18 rfl rfl)
theorem dJ16_getBytes_43 : decode cJ16_getBytes 43 = .ok (.return_, 1) := dk_177 (dk_at dksJ16_getBytes_1 21 rfl rfl)
def dkwJ16_init_0 : List UInt8 := [42, 43, 1, 183, 1, 233, 177]
abbrev dktJ16_init_0 : List UInt8 := dkwJ16_init_0 ++ []
theorem dksJ16_init_0 : cJ16_init.data.toList.drop 0 = dktJ16_init_0 := by decide +kernel
theorem dJ16_init_0 : decode cJ16_init 0 = .ok (.aload_n 0, 1) := dk_42 (dk_at dksJ16_init_0 0 rfl rfl)
theorem dJ16_init_1 : decode cJ16_init 1 = .ok (.aload_n 1, 1) := dk_43 (dk_at dksJ16_init_0 1 rfl rfl)
theorem dJ16_init_2 : decode cJ16_init 2 = .ok (.aconst_null, 1) := dk_1 (dk_at dksJ16_init_0 2 rfl rfl)
theorem dJ16_init_3 : decode cJ16_init 3 = .ok (.invokespecial 489, 3) := dk_183 1 233 (dk_at dksJ16_init_0 3 rfl rfl)
theorem dJ16_init_6 : decode cJ16_init 6 = .ok (.return_, 1) := dk_177 (dk_at dksJ16_init_0 6 rfl rfl)
def dkwJ16_init_2_4 : List UInt8 := [181, 0, 9, 177]
abbrev dktJ16_init_2_4 : List UInt8 := dkwJ16_init_2_4 ++ []
def dkwJ16_init_2_3 : List UInt8 := [184, 0, 47, 181, 0, 15, 177, 42, 4, 181, 0, 15, 42, 45, 3, 21, 4, 4, 120, 184, 0, 54]
abbrev dktJ16_init_2_3 : List UInt8 := dkwJ16_init_2_3 ++ dktJ16_init_2_4
def dkwJ16_init_2_2 : List UInt8 := [180, 4, 24, 153, 0, 28, 42, 45, 3, 21, 4, 184, 4, 27, 181, 0, 9, 42, 42, 180, 0, 9, 21, 4]
abbrev dktJ16_init_2_2 : List UInt8 := dkwJ16_init_2_2 ++ dktJ16_init_2_3
def dkwJ16_init_2_1 : List UInt8 := [181, 0, 15, 42, 45, 3, 21, 4, 184, 0, 54, 181, 0, 9, 167, 0, 59, 178, 0, 38, 153, 0, 35, 43]
abbrev dktJ16_init_2_1 : List UInt8 := dkwJ16_init_2_1 ++ dktJ16_init_2_2
def dkwJ16_init_2_0 : List UInt8 := [42, 183, 0, 1, 43, 182, 2, 40, 78, 43, 182, 2, 37, 54, 4, 43, 182, 4, 23, 153, 0, 22, 42, 3]
abbrev dktJ16_init_2_0 : List UInt8 := dkwJ16_init_2_0 ++ dktJ16_init_2_1
theorem dksJ16_init_2_0 : cJ16_init_2.data.toList.drop 0 = dktJ16_init_2_0 := by decide +kernel
theorem dksJ16_init_2_1 : cJ16_init_2.data.toList.drop 24 = dktJ16_init_2_1 := dk_seg dksJ16_init_2_0 24 rfl rfl
theorem dksJ16_init_2_2 : cJ16_init_2.data.toList.drop 48 = dktJ16_init_2_2 := dk_seg dksJ16_init_2_1 24 rfl rfl
theorem dksJ16_init_2_3 : cJ16_init_2.data.toList.drop 72 = dktJ16_init_2_3 := dk_seg dksJ16_init_2_2 24 rfl rfl
theorem dksJ16_init_2_4 : cJ16_init_2.data.toList.drop 94 = dktJ16_init_2_4 := dk_seg dksJ16_init_2_3 22 rfl rfl
theorem dJ16_init_2_0 : decode cJ16_init_2 0 = .ok (.aload_n 0, 1) := dk_42 (dk_at dksJ16_init_2_0 0 rfl rfl)
theorem dJ16_init_2_1 : decode cJ16_init_2 1 = .ok (.invokespecial 1, 3) := dk_183 0 1 (dk_at dksJ16_init_2_0 1 rfl rfl)
theorem dJ16_init_2_4 : decode cJ16_init_2 4 = .ok (.aload_n 1, 1) := dk_43 (dk_at dksJ16_init_2_0 4 rfl rfl)
theorem dJ16_init_2_5 : decode cJ16_init_2 5 = .ok (.invokevirtual 552, 3) := dk_182 2 40 (dk_at dksJ16_init_2_0 5 rfl rfl)
theorem dJ16_init_2_8 : decode cJ16_init_2 8 = .ok (.astore_n 3, 1) := dk_78 (dk_at dksJ16_init_2_0 8 rfl rfl)
theorem dJ16_init_2_9 : decode cJ16_init_2 9 = .ok (.aload_n 1, 1) := dk_43 (dk_at dksJ16_init_2_0 9 rfl rfl)
theorem dJ16_init_2_10 : decode cJ16_init_2 10 = .ok (.invokevirtual 549, 3) := dk_182 2 37 (dk_at dksJ16_init_2_0 10 rfl rfl)
theorem dJ16_init_2_13 : decode cJ16_init_2 13 = .ok (.istore 4, 2) := dk_54 4 (dk_at dksJ16_init_2_0 13 rfl rfl)
theorem dJ16_init_2_15 : decode cJ16_init_2 15 = .ok (.aload_n 1, 1) := dk_43 (dk_at dksJ16_init_2_0 15 rfl rfl)
theorem dJ16_init_2_16 : decode cJ16_init_2 16 = .ok (.invokevirtual 1047, 3) := dk_182 4 23 (dk_at dksJ16_init_2_0 16 rfl rfl)
theorem dJ16_init_2_19 : decode cJ16_init_2 19 = .ok (.ifCond .eq 22, 3) := dk_153 0 22 (dk_at dksJ16_init_2_0 19 rfl rfl)
theorem dJ16_init_2_22 : decode cJ16_init_2 22 = .ok (.aload_n 0, 1) := dk_42 (dk_at dksJ16_init_2_0 22 rfl rfl)
theorem dJ16_init_2_23 : decode cJ16_init_2 23 = .ok (.iconst 0, 1) := dk_3 (dk_at dksJ16_init_2_0 23 rfl rfl)
theorem dJ16_init_2_24 : decode cJ16_init_2 24 = .ok (.putfield 15, 3) := dk_181 0 15 (dk_at dksJ16_init_2_1 0 rfl rfl)
theorem dJ16_init_2_27 : decode cJ16_init_2 27 = .ok (.aload_n 0, 1) := dk_42 (dk_at dksJ16_init_2_1 3 rfl rfl)
theorem dJ16_init_2_28 : decode cJ16_init_2 28 = .ok (.aload_n 3, 1) := dk_45 (dk_at dksJ16_init_2_1 4 rfl rfl)
theorem dJ16_init_2_29 : decode cJ16_init_2 29 = .ok (.iconst 0, 1) := dk_3 (dk_at dksJ16_init_2_1 5 rfl rfl)
theorem dJ16_init_2_30 : decode cJ16_init_2 30 = .ok (.iload 4, 2) := dk_21 4 (dk_at dksJ16_init_2_1 6 rfl rfl)
theorem dJ16_init_2_32 : decode cJ16_init_2 32 = .ok (.invokestatic 54, 3) := dk_184 0 54 (dk_at dksJ16_init_2_1 8 rfl rfl)
theorem dJ16_init_2_35 : decode cJ16_init_2 35 = .ok (.putfield 9, 3) := dk_181 0 9 (dk_at dksJ16_init_2_1 11 rfl rfl)
theorem dJ16_init_2_38 : decode cJ16_init_2 38 = .ok (.goto 59, 3) := dk_167 0 59 (dk_at dksJ16_init_2_1 14 rfl rfl)
theorem dJ16_init_2_41 : decode cJ16_init_2 41 = .ok (.getstatic 38, 3) := dk_178 0 38 (dk_at dksJ16_init_2_1 17 rfl rfl)
theorem dJ16_init_2_44 : decode cJ16_init_2 44 = .ok (.ifCond .eq 35, 3) := dk_153 0 35 (dk_at dksJ16_init_2_1 20 rfl rfl)
theorem dJ16_init_2_47 : decode cJ16_init_2 47 = .ok (.aload_n 1, 1) := dk_43 (dk_at dksJ16_init_2_1 23 rfl rfl)
theorem dJ16_init_2_48 : decode cJ16_init_2 48 = .ok (.getfield 1048, 3) := dk_180 4 24 (dk_at dksJ16_init_2_2 0 rfl rfl)
theorem dJ16_init_2_51 : decode cJ16_init_2 51 = .ok (.ifCond .eq 28, 3) := dk_153 0 28 (dk_at dksJ16_init_2_2 3 rfl rfl)
theorem dJ16_init_2_54 : decode cJ16_init_2 54 = .ok (.aload_n 0, 1) := dk_42 (dk_at dksJ16_init_2_2 6 rfl rfl)
theorem dJ16_init_2_55 : decode cJ16_init_2 55 = .ok (.aload_n 3, 1) := dk_45 (dk_at dksJ16_init_2_2 7 rfl rfl)
theorem dJ16_init_2_56 : decode cJ16_init_2 56 = .ok (.iconst 0, 1) := dk_3 (dk_at dksJ16_init_2_2 8 rfl rfl)
theorem dJ16_init_2_57 : decode cJ16_init_2 57 = .ok (.iload 4, 2) := dk_21 4 (dk_at dksJ16_init_2_2 9 rfl rfl)
theorem dJ16_init_2_59 : decode cJ16_init_2 59 = .ok (.invokestatic 1051, 3) := dk_184 4 27 (dk_at dksJ16_init_2_2 11 rfl rfl)
theorem dJ16_init_2_62 : decode cJ16_init_2 62 = .ok (.putfield 9, 3) := dk_181 0 9 (dk_at dksJ16_init_2_2 14 rfl rfl)
theorem dJ16_init_2_65 : decode cJ16_init_2 65 = .ok (.aload_n 0, 1) := dk_42 (dk_at dksJ16_init_2_2 17 rfl rfl)
theorem dJ16_init_2_66 : decode cJ16_init_2 66 = .ok (.aload_n 0, 1) := dk_42 (dk_at dksJ16_init_2_2 18 rfl rfl)
theorem dJ16_init_2_67 : decode cJ16_init_2 67 = .ok (.getfield 9, 3) := dk_180 0 9 (dk_at dksJ16_init_2_2 19 rfl rfl)
theorem dJ16_init_2_70 : decode cJ16_init_2 70 = .ok (.iload 4, 2) := dk_21 4 (dk_at dksJ16_init_2_2 22 rfl rfl)
theorem dJ16_init_2_72 : decode cJ16_init_2 72 = .ok (.invokestatic 47, 3) := dk_184 0 47 (dk_at dksJ16_init_2_3 0 rfl rfl)
theorem dJ16_init_2_75 : decode cJ16_init_2 75 = .ok (.putfield 15, 3) := dk_181 0 15 (dk_at dksJ16_init_2_3 3 rfl rfl)
theorem dJ16_init_2_78 : decode cJ16_init_2 78 = .ok (.return_, 1) := dk_177 (dk_at dksJ16_init_2_3 6 rfl rfl)
theorem dJ16_init_2_79 : decode cJ16_init_2 79 = .ok (.aload_n 0, 1) := dk_42 (dk_at dksJ16_init_2_3 7 rfl rfl)
theorem dJ16_init_2_80 : decode cJ16_init_2 80 = .ok (.iconst 1, 1) := dk_4 (dk_at dksJ16_init_2_3 8 rfl rfl)
theorem dJ16_init_2_81 : decode cJ16_init_2 81 = .ok (.putfield 15, 3) := dk_181 0 15 (dk_at dksJ16_init_2_3 9 rfl rfl)
theorem dJ16_init_2_84 : decode cJ16_init_2 84 = .ok (.aload_n 0, 1) := dk_42 (dk_at dksJ16_init_2_3 12 rfl rfl)
theorem dJ16_init_2_85 : decode cJ16_init_2 85 = .ok (.aload_n 3, 1) := dk_45 (dk_at dksJ16_init_2_3 13 rfl rfl)
theorem dJ16_init_2_86 : decode cJ16_init_2 86 = .ok (.iconst 0, 1) := dk_3 (dk_at dksJ16_init_2_3 14 rfl rfl)
theorem dJ16_init_2_87 : decode cJ16_init_2 87 = .ok (.iload 4, 2) := dk_21 4 (dk_at dksJ16_init_2_3 15 rfl rfl)
theorem dJ16_init_2_89 : decode cJ16_init_2 89 = .ok (.iconst 1, 1) := dk_4 (dk_at dksJ16_init_2_3 17 rfl rfl)
theorem dJ16_init_2_90 : decode cJ16_init_2 90 = .ok (.ishl, 1) := dk_120 (dk_at dksJ16_init_2_3 18 rfl rfl)
theorem dJ16_init_2_91 : decode cJ16_init_2 91 = .ok (.invokestatic 54, 3) := dk_184 0 54 (dk_at dksJ16_init_2_3 19 rfl rfl)
theorem dJ16_init_2_94 : decode cJ16_init_2 94 = .ok (.putfield 9, 3) := dk_181 0 9 (dk_at dksJ16_init_2_4 0 rfl rfl)
theorem dJ16_init_2_97 : decode cJ16_init_2 97 = .ok (.return_, 1) := dk_177 (dk_at dksJ16_init_2_4 3 rfl rfl)
def dkwJ16_equals_2 : List UInt8 := [184, 2, 29, 153, 0, 7, 4, 167, 0, 4, 3, 172]
abbrev dktJ16_equals_2 : List UInt8 := dkwJ16_equals_2 ++ []
def dkwJ16_equals_1 : List UInt8 := [153, 0, 14, 42, 180, 0, 15, 44, 180, 0, 15, 160, 0, 21, 42, 180, 0, 9, 44, 180, 0, 9]
abbrev dktJ16_equals_1 : List UInt8 := dkwJ16_equals_1 ++ dktJ16_equals_2
def dkwJ16_equals_0 : List UInt8 := [42, 43, 166, 0, 5, 4, 172, 43, 193, 0, 10, 153, 0, 43, 43, 192, 0, 10, 77, 178, 0, 38]
abbrev dktJ16_equals_0 : List UInt8 := dkwJ16_equals_0 ++ dktJ16_equals_1
theorem dksJ16_equals_0 : cJ16_equals.data.toList.drop 0 = dktJ16_equals_0 := by decide +kernel
theorem dksJ16_equals_1 : cJ16_equals.data.toList.drop 22 = dktJ16_equals_1 := dk_seg dksJ16_equals_0 22 rfl rfl
theorem dksJ16_equals_2 : cJ16_equals.data.toList.drop 44 = dktJ16_equals_2 := dk_seg dksJ16_equals_1 22 rfl rfl
theorem dJ16_equals_0 : decode cJ16_equals 0 = .ok (.aload_n 0, 1) := dk_42 (dk_at dksJ16_equals_0 0 rfl rfl)
theorem dJ16_equals_1 : decode cJ16_equals 1 = .ok (.aload_n 1, 1) := dk_43 (dk_at dksJ16_equals_0 1 rfl rfl)
theorem dJ16_equals_2 : decode cJ16_equals 2 = .ok (.if_acmp .ne 5, 3) := dk_166 0 5 (dk_at dksJ16_equals_0 2 rfl rfl)
theorem dJ16_equals_5 : decode cJ16_equals 5 = .ok (.iconst 1, 1) := dk_4 (dk_at dksJ16_equals_0 5 rfl rfl)
theorem dJ16_equals_6 : decode cJ16_equals 6 = .ok (.ireturn, 1) := dk_172 (dk_at dksJ16_equals_0 6 rfl rfl)
theorem dJ16_equals_7 : decode cJ16_equals 7 = .ok (.aload_n 1, 1) := dk_43 (dk_at dksJ16_equals_0 7 rfl rfl)
theorem dJ16_equals_8 : decode cJ16_equals 8 = .ok (.instanceof 10, 3) := dk_193 0 10 (dk_at dksJ16_equals_0 8 rfl rfl)
theorem dJ16_equals_11 : decode cJ16_equals 11 = .ok (.ifCond .eq 43, 3) := dk_153 0 43 (dk_at dksJ16_equals_0 11 rfl rfl)
theorem dJ16_equals_14 : decode cJ16_equals 14 = .ok (.aload_n 1, 1) := dk_43 (dk_at dksJ16_equals_0 14 rfl rfl)
theorem dJ16_equals_15 : decode cJ16_equals 15 = .ok (.checkcast 10, 3) := dk_192 0 10 (dk_at dksJ16_equals_0 15 rfl rfl)
theorem dJ16_equals_18 : decode cJ16_equals 18 = .ok (.astore_n 2, 1) := dk_77 (dk_at dksJ16_equals_0 18 rfl rfl)
theorem dJ16_equals_19 : decode cJ16_equals 19 = .ok (.getstatic 38, 3) := dk_178 0 38 (dk_at dksJ16_equals_0 19 rfl rfl)
theorem dJ16_equals_22 : decode cJ16_equals 22 = .ok (.ifCond .eq 14, 3) := dk_153 0 14 (dk_at dksJ16_equals_1 0 rfl rfl)
theorem dJ16_equals_25 : decode cJ16_equals 25 = .ok (.aload_n 0, 1) := dk_42 (dk_at dksJ16_equals_1 3 rfl rfl)
theorem dJ16_equals_26 : decode cJ16_equals 26 = .ok (.getfield 15, 3) := dk_180 0 15 (dk_at dksJ16_equals_1 4 rfl rfl)
theorem dJ16_equals_29 : decode cJ16_equals 29 = .ok (.aload_n 2, 1) := dk_44 (dk_at dksJ16_equals_1 7 rfl rfl)
theorem dJ16_equals_30 : decode cJ16_equals 30 = .ok (.getfield 15, 3) := dk_180 0 15 (dk_at dksJ16_equals_1 8 rfl rfl)
theorem dJ16_equals_33 : decode cJ16_equals 33 = .ok (.if_icmp .ne 21, 3) := dk_160 0 21 (dk_at dksJ16_equals_1 11 rfl rfl)
theorem dJ16_equals_36 : decode cJ16_equals 36 = .ok (.aload_n 0, 1) := dk_42 (dk_at dksJ16_equals_1 14 rfl rfl)
theorem dJ16_equals_37 : decode cJ16_equals 37 = .ok (.getfield 9, 3) := dk_180 0 9 (dk_at dksJ16_equals_1 15 rfl rfl)
theorem dJ16_equals_40 : decode cJ16_equals 40 = .ok (.aload_n 2, 1) := dk_44 (dk_at dksJ16_equals_1 18 rfl rfl)
theorem dJ16_equals_41 : decode cJ16_equals 41 = .ok (.getfield 9, 3) := dk_180 0 9 (dk_at dksJ16_equals_1 19 rfl rfl)
theorem dJ16_equals_44 : decode cJ16_equals 44 = .ok (.invokestatic 541, 3) := dk_184 2 29 (dk_at dksJ16_equals_2 0 rfl rfl)
theorem dJ16_equals_47 : decode cJ16_equals 47 = .ok (.ifCond .eq 7, 3) := dk_153 0 7 (dk_at dksJ16_equals_2 3 rfl rfl)
theorem dJ16_equals_50 : decode cJ16_equals 50 = .ok (.iconst 1, 1) := dk_4 (dk_at dksJ16_equals_2 6 rfl rfl)
theorem dJ16_equals_51 : decode cJ16_equals 51 = .ok (.goto 4, 3) := dk_167 0 4 (dk_at dksJ16_equals_2 7 rfl rfl)
theorem dJ16_equals_54 : decode cJ16_equals 54 = .ok (.iconst 0, 1) := dk_3 (dk_at dksJ16_equals_2 10 rfl rfl)
theorem dJ16_equals_55 : decode cJ16_equals 55 = .ok (.ireturn, 1) := dk_172 (dk_at dksJ16_equals_2 11 rfl rfl)
def dkwJ19_compareTo_0 : List UInt8 := [42, 190, 61, 43, 190, 62, 42, 43, 28, 29, 184, 0, 34, 172]
abbrev dktJ19_compareTo_0 : List UInt8 := dkwJ19_compareTo_0 ++ []
theorem dksJ19_compareTo_0 : cJ19_compareTo.data.toList.drop 0 = dktJ19_compareTo_0 := by decide +kernel
theorem dJ19_compareTo_0 : decode cJ19_compareTo 0 = .ok (.aload_n 0, 1) := dk_42 (dk_at dksJ19_compareTo_0 0 rfl rfl)
theorem dJ19_compareTo_1 : decode cJ19_compareTo 1 = .ok (.arraylength, 1) := dk_190 (dk_at dksJ19_compareTo_0 1 rfl rfl)
theorem dJ19_compareTo_2 : decode cJ19_compareTo 2 = .ok (.istore_n 2, 1) := dk_61 (dk_at dksJ19_compareTo_0 2 rfl rfl)
theorem dJ19_compareTo_3 : decode cJ19_compareTo 3 = .ok (.aload_n 1, 1) := dk_43 (dk_at dksJ19_compareTo_0 3 rfl rfl)
theorem dJ19_compareTo_4 : decode cJ19_compareTo 4 = .ok (.arraylength, 1) := dk_190 (dk_at dksJ19_compareTo_0 4 rfl rfl)
theorem dJ19_compareTo_5 : decode cJ19_compareTo 5 = .ok (.istore_n 3, 1) := dk_62 (dk_at dksJ19_compareTo_0 5 rfl rfl)
theorem dJ19_compareTo_6 : decode cJ19_compareTo 6 = .ok (.aload_n 0, 1) := dk_42 (dk_at dksJ19_compareTo_0 6 rfl rfl)
theorem dJ19_compareTo_7 : decode cJ19_compareTo 7 = .ok (.aload_n 1, 1) := dk_43 (dk_at dksJ19_compareTo_0 7 rfl rfl)
theorem dJ19_compareTo_8 : decode cJ19_compareTo 8 = .ok (.iload_n 2, 1) := dk_28 (dk_at dksJ19_compareTo_0 8 rfl rfl)
theorem dJ19_compareTo_9 : decode cJ19_compareTo 9 = .ok (.iload_n 3, 1) := dk_29 (dk_at dksJ19_compareTo_0 9 rfl rfl)
theorem dJ19_compareTo_10 : decode cJ19_compareTo 10 = .ok (.invokestatic 34, 3) := dk_184 0 34 (dk_at dksJ19_compareTo_0 10 rfl rfl)
theorem dJ19_compareTo_13 : decode cJ19_compareTo 13 = .ok (.ireturn, 1) := dk_172 (dk_at dksJ19_compareTo_0 13 rfl rfl)
def dkwJ19_compareTo_2_1 : List UInt8 := [167, 0, 16, 42, 21, 5, 184, 0, 50, 43, 21, 5, 184, 0, 50, 100, 172]
abbrev dktJ19_compareTo_2_1 : List UInt8 := dkwJ19_compareTo_2_1 ++ []
def dkwJ19_compareTo_2_0 : List UInt8 := [28, 29, 184, 0, 38, 54, 4, 42, 43, 21, 4, 184, 0, 44, 54, 5, 21, 5, 156, 0, 9, 28, 29, 100]
abbrev dktJ19_compareTo_2_0 : List UInt8 := dkwJ19_compareTo_2_0 ++ dktJ19_compareTo_2_1
theorem dksJ19_compareTo_2_0 : cJ19_compareTo_2.data.toList.drop 0 = dktJ19_compareTo_2_0 := by decide +kernel
theorem dksJ19_compareTo_2_1 : cJ19_compareTo_2.data.toList.drop 24 = dktJ19_compareTo_2_1 := dk_seg dksJ19_compareTo_2_0 24 rfl rfl
theorem dJ19_compareTo_2_0 : decode cJ19_compareTo_2 0 = .ok (.iload_n 2, 1) := dk_28 (dk_at dksJ19_compareTo_2_0 0 rfl rfl)
theorem dJ19_compareTo_2_1 : decode cJ19_compareTo_2 1 = .ok (.iload_n 3, 1) := dk_29 (dk_at dksJ19_compareTo_2_0 1 rfl rfl)
theorem dJ19_compareTo_2_2 : decode cJ19_compareTo_2 2 = .ok (.invokestatic 38, 3) := dk_184 0 38 (dk_at dksJ19_compareTo_2_0 2 rfl rfl)
theorem dJ19_compareTo_2_5 : decode cJ19_compareTo_2 5 = .ok (.istore 4, 2) := dk_54 4 (dk_at dksJ19_compareTo_2_0 5 rfl rfl)
theorem dJ19_compareTo_2_7 : decode cJ19_compareTo_2 7 = .ok (.aload_n 0, 1) := dk_42 (dk_at dksJ19_compareTo_2_0 7 rfl rfl)
theorem dJ19_compareTo_2_8 : decode cJ19_compareTo_2 8 = .ok (.aload_n 1, 1) := dk_43 (dk_at dksJ19_compareTo_2_0 8 rfl rfl)
theorem dJ19_compareTo_2_9 : decode cJ19_compareTo_2 9 = .ok (.iload 4, 2) := dk_21 4 (dk_at dksJ19_compareTo_2_0 9 rfl rfl)
theorem dJ19_compareTo_2_11 : decode cJ19_compareTo_2 11 = .ok (.invokestatic 44, 3) := dk_184 0 44 (dk_at dksJ19_compareTo_2_0 11 rfl rfl)
theorem dJ19_compareTo_2_14 : decode cJ19_compareTo_2 14 = .ok (.istore 5, 2) := dk_54 5 (dk_at dksJ19_compareTo_2_0 14 rfl rfl)
theorem dJ19_compareTo_2_16 : decode cJ19_compareTo_2 16 = .ok (.iload 5, 2) := dk_21 5 (dk_at dksJ19_compareTo_2_0 16 rfl rfl)
theorem dJ19_compareTo_2_18 : decode cJ19_compareTo_2 18 = .ok (.ifCond .ge 9, 3) := dk_156 0 9 (dk_at dksJ19_compareTo_2_0 18 rfl rfl)
theorem dJ19_compareTo_2_21 : decode cJ19_compareTo_2 21 = .ok (.iload_n 2, 1) := dk_28 (dk_at dksJ19_compareTo_2_0 21 rfl rfl)
theorem dJ19_compareTo_2_22 : decode cJ19_compareTo_2 22 = .ok (.iload_n 3, 1) := dk_29 (dk_at dksJ19_compareTo_2_0 22 rfl rfl)
theorem dJ19_compareTo_2_23 : decode cJ19_compareTo_2 23 = .ok (.isub, 1) := dk_100 (dk_at dksJ19_compareTo_2_0 23 rfl rfl)
theorem dJ19_compareTo_2_24 : decode cJ19_compareTo_2 24 = .ok (.goto 16, 3) := dk_167 0 16 (dk_at dksJ19_compareTo_2_1 0 rfl rfl)
theorem dJ19_compareTo_2_27 : decode cJ19_compareTo_2 27 = .ok (.aload_n 0, 1) := dk_42 (dk_at dksJ19_compareTo_2_1 3 rfl rfl)
theorem dJ19_compareTo_2_28 : decode cJ19_compareTo_2 28 = .ok (.iload 5, 2) := dk_21 5 (dk_at dksJ19_compareTo_2_1 4 rfl rfl)
theorem dJ19_compareTo_2_30 : decode cJ19_compareTo_2 30 = .ok (.invokestatic 50, 3) := dk_184 0 50 (dk_at dksJ19_compareTo_2_1 6 rfl rfl)
theorem dJ19_compareTo_2_33 : decode cJ19_compareTo_2 33 = .ok (.aload_n 1, 1) := dk_43 (dk_at dksJ19_compareTo_2_1 9 rfl rfl)
theorem dJ19_compareTo_2_34 : decode cJ19_compareTo_2 34 = .ok (.iload 5, 2) := dk_21 5 (dk_at dksJ19_compareTo_2_1 10 rfl rfl)
theorem dJ19_compareTo_2_36 : decode cJ19_compareTo_2 36 = .ok (.invokestatic 50, 3) := dk_184 0 50 (dk_at dksJ19_compareTo_2_1 12 rfl rfl)
theorem dJ19_compareTo_2_39 : decode cJ19_compareTo_2 39 = .ok (.isub, 1) := dk_100 (dk_at dksJ19_compareTo_2_1 15 rfl rfl)
theorem dJ19_compareTo_2_40 : decode cJ19_compareTo_2 40 = .ok (.ireturn, 1) := dk_172 (dk_at dksJ19_compareTo_2_1 16 rfl rfl)
def dkwJ19_getChar_0 : List UInt8 := [42, 27, 51, 17, 0, 255, 126, 146, 172]
abbrev dktJ19_getChar_0 : List UInt8 := dkwJ19_getChar_0 ++ []
theorem dksJ19_getChar_0 : cJ19_getChar.data.toList.drop 0 = dktJ19_getChar_0 := by decide +kernel
theorem dJ19_getChar_0 : decode cJ19_getChar 0 = .ok (.aload_n 0, 1) := dk_42 (dk_at dksJ19_getChar_0 0 rfl rfl)
theorem dJ19_getChar_1 : decode cJ19_getChar 1 = .ok (.iload_n 1, 1) := dk_27 (dk_at dksJ19_getChar_0 1 rfl rfl)
theorem dJ19_getChar_2 : decode cJ19_getChar 2 = .ok (.baload, 1) := dk_51 (dk_at dksJ19_getChar_0 2 rfl rfl)
theorem dJ19_getChar_3 : decode cJ19_getChar 3 = .ok (.sipush 255, 3) := dk_17 0 255 (dk_at dksJ19_getChar_0 3 rfl rfl)
theorem dJ19_getChar_6 : decode cJ19_getChar 6 = .ok (.iand, 1) := dk_126 (dk_at dksJ19_getChar_0 6 rfl rfl)
theorem dJ19_getChar_7 : decode cJ19_getChar 7 = .ok (.i2c, 1) := dk_146 (dk_at dksJ19_getChar_0 7 rfl rfl)
theorem dJ19_getChar_8 : decode cJ19_getChar 8 = .ok (.ireturn, 1) := dk_172 (dk_at dksJ19_getChar_0 8 rfl rfl)
def dkwJ19_compareToUTF16_0 : List UInt8 := [42, 184, 0, 54, 61, 43, 184, 0, 58, 62, 42, 43, 28, 29, 184, 0, 59, 172]
abbrev dktJ19_compareToUTF16_0 : List UInt8 := dkwJ19_compareToUTF16_0 ++ []
theorem dksJ19_compareToUTF16_0 : cJ19_compareToUTF16.data.toList.drop 0 = dktJ19_compareToUTF16_0 := by decide +kernel
theorem dJ19_compareToUTF16_0 : decode cJ19_compareToUTF16 0 = .ok (.aload_n 0, 1) := dk_42 (dk_at dksJ19_compareToUTF16_0 0 rfl rfl)
theorem dJ19_compareToUTF16_1 : decode cJ19_compareToUTF16 1 = .ok (.invokestatic 54, 3) := dk_184 0 54 (dk_at dksJ19_compareToUTF16_0 1 rfl rfl)
theorem dJ19_compareToUTF16_4 : decode cJ19_compareToUTF16 4 = .ok (.istore_n 2, 1) := dk_61 (dk_at dksJ19_compareToUTF16_0 4 rfl rfl)
theorem dJ19_compareToUTF16_5 : decode cJ19_compareToUTF16 5 = .ok (.aload_n 1, 1) := dk_43 (dk_at dksJ19_compareToUTF16_0 5 rfl rfl)
theorem dJ19_compareToUTF16_6 : decode cJ19_compareToUTF16 6 = .ok (.invokestatic 58, 3) := dk_184 0 58 (dk_at dksJ19_compareToUTF16_0 6 rfl rfl)
theorem dJ19_compareToUTF16_9 : decode cJ19_compareToUTF16 9 = .ok (.istore_n 3, 1) := dk_62 (dk_at dksJ19_compareToUTF16_0 9 rfl rfl)
theorem dJ19_compareToUTF16_10 : decode cJ19_compareToUTF16 10 = .ok (.aload_n 0, 1) := dk_42 (dk_at dksJ19_compareToUTF16_0 10 rfl rfl)
theorem dJ19_compareToUTF16_11 : decode cJ19_compareToUTF16 11 = .ok (.aload_n 1, 1) := dk_43 (dk_at dksJ19_compareToUTF16_0 11 rfl rfl)
theorem dJ19_compareToUTF16_12 : decode cJ19_compareToUTF16 12 = .ok (.iload_n 2, 1) := dk_28 (dk_at dksJ19_compareToUTF16_0 12 rfl rfl)
theorem dJ19_compareToUTF16_13 : decode cJ19_compareToUTF16 13 = .ok (.iload_n 3, 1) := dk_29 (dk_at dksJ19_compareToUTF16_0 13 rfl rfl)
theorem dJ19_compareToUTF16_14 : decode cJ19_compareToUTF16 14 = .ok (.invokestatic 59, 3) := dk_184 0 59 (dk_at dksJ19_compareToUTF16_0 14 rfl rfl)
theorem dJ19_compareToUTF16_17 : decode cJ19_compareToUTF16 17 = .ok (.ireturn, 1) := dk_172 (dk_at dksJ19_compareToUTF16_0 17 rfl rfl)
theorem dJ19_length_0 : decode cJ19_length 0 = .ok (.aload_n 0, 1) := by decide +kernel
theorem dJ19_length_1 : decode cJ19_length 1 = .ok (.arraylength, 1) := by decide +kernel
theorem dJ19_length_2 : decode cJ19_length 2 = .ok (.ireturn, 1) := by decide +kernel
def dkwJ19_compareToUTF16Values_2 : List UInt8 := [132, 5, 1, 167, 255, 217, 28, 29, 100, 172]
abbrev dktJ19_compareToUTF16Values_2 : List UInt8 := dkwJ19_compareToUTF16Values_2 ++ []
def dkwJ19_compareToUTF16Values_1 : List UInt8 := [54, 6, 43, 21, 5, 184, 0, 65, 54, 7, 21, 6, 21, 7, 159, 0, 9, 21, 6, 21, 7, 100, 172]
abbrev dktJ19_compareToUTF16Values_1 : List UInt8 := dkwJ19_compareToUTF16Values_1 ++ dktJ19_compareToUTF16Values_2
def dkwJ19_compareToUTF16Values_0 : List UInt8 := [28, 29, 184, 0, 38, 54, 4, 3, 54, 5, 21, 5, 21, 4, 162, 0, 38, 42, 21, 5, 184, 0, 50]
abbrev dktJ19_compareToUTF16Values_0 : List UInt8 := dkwJ19_compareToUTF16Values_0 ++ dktJ19_compareToUTF16Values_1
theorem dksJ19_compareToUTF16Values_0 : cJ19_compareToUTF16Values.data.toList.drop 0 = dktJ19_compareToUTF16Values_0 := by decide +kernel
theorem dksJ19_compareToUTF16Values_1 : cJ19_compareToUTF16Values.data.toList.drop 23 = dktJ19_compareToUTF16Values_1 := dk_seg dksJ19_compareToUTF16Values_0 23 rfl rfl
theorem dksJ19_compareToUTF16Values_2 : cJ19_compareToUTF16Values.data.toList.drop 46 = dktJ19_compareToUTF16Values_2 := dk_seg dksJ19_compareToUTF16Values_1 23 rfl rfl
theorem dJ19_compareToUTF16Values_0 : decode cJ19_compareToUTF16Values 0 = .ok (.iload_n 2, 1) := dk_28 (dk_at dksJ19_compareToUTF16Values_0 0 rfl rfl)
theorem dJ19_compareToUTF16Values_1 : decode cJ19_compareToUTF16Values 1 = .ok (.iload_n 3, 1) := dk_29 (dk_at dksJ19_compareToUTF16Values_0 1 rfl rfl)
theorem dJ19_compareToUTF16Values_2 : decode cJ19_compareToUTF16Values 2 = .ok (.invokestatic 38, 3) := dk_184 0 38 (dk_at dksJ19_compareToUTF16Values_0 2 rfl rfl)
theorem dJ19_compareToUTF16Values_5 : decode cJ19_compareToUTF16Values 5 = .ok (.istore 4, 2) := dk_54 4 (dk_at dksJ19_compareToUTF16Values_0 5 rfl rfl)
theorem dJ19_compareToUTF16Values_7 : decode cJ19_compareToUTF16Values 7 = .ok (.iconst 0, 1) := dk_3 (dk_at dksJ19_compareToUTF16Values_0 7 rfl rfl)
theorem dJ19_compareToUTF16Values_8 : decode cJ19_compareToUTF16Values 8 = .ok (.istore 5, 2) := dk_54 5 (dk_at dksJ19_compareToUTF16Values_0 8 rfl rfl)
theorem dJ19_compareToUTF16Values_10 : decode cJ19_compareToUTF16Values 10 = .ok (.iload 5, 2) := dk_21 5 (dk_at dksJ19_compareToUTF16Values_0 10 rfl rfl)
theorem dJ19_compareToUTF16Values_12 : decode cJ19_compareToUTF16Values 12 = .ok (.iload 4, 2) := dk_21 4 (dk_at dksJ19_compareToUTF16Values_0 12 rfl rfl)
theorem dJ19_compareToUTF16Values_14 : decode cJ19_compareToUTF16Values 14 = .ok (.if_icmp .ge 38, 3) := dk_162 0 38 (dk_at dksJ19_compareToUTF16Values_0 14 rfl rfl)
theorem dJ19_compareToUTF16Values_17 : decode cJ19_compareToUTF16Values 17 = .ok (.aload_n 0, 1) := dk_42 (dk_at dksJ19_compareToUTF16Values_0 17 rfl rfl)
theorem dJ19_compareToUTF16Values_18 : decode cJ19_compareToUTF16Values 18 = .ok (.iload 5, 2) := dk_21 5 (dk_at dksJ19_compareToUTF16Values_0 18 rfl rfl)
theorem dJ19_compareToUTF16Values_20 : decode cJ19_compareToUTF16Values 20 = .ok (.invokestatic 50, 3) := dk_184 0 50 (dk_at dksJ19_compareToUTF16Values_0 20 rfl rfl)
theorem dJ19_compareToUTF16Values_23 : decode cJ19_compareToUTF16Values 23 = .ok (.istore 6, 2) := dk_54 6 (dk_at dksJ19_compareToUTF16Values_1 0 rfl rfl)
theorem dJ19_compareToUTF16Values_25 : decode cJ19_compareToUTF16Values 25 = .ok (.aload_n 1, 1) := dk_43 (dk_at dksJ19_compareToUTF16Values_1 2 rfl rfl)
theorem dJ19_compareToUTF16Values_26 : decode cJ19_compareToUTF16Values 26 = .ok (.iload 5, 2) := dk_21 5 (dk_at dksJ19_compareToUTF16Values_1 3 rfl rfl)
theorem dJ19_compareToUTF16Values_28 : decode cJ19_compareToUTF16Values 28 = .ok (.invokestatic 65, 3) := dk_184 0 65 (dk_at dksJ19_compareToUTF16Values_1 5 rfl rfl)
theorem dJ19_compareToUTF16Values_31 : decode cJ19_compareToUTF16Values 31 = .ok (.istore 7, 2) := dk_54 7 (dk_at dksJ19_compareToUTF16Values_1 8 rfl rfl)
theorem dJ19_compareToUTF16Values_33 : decode cJ19_compareToUTF16Values 33 = .ok (.iload 6, 2) := dk_21 6 (dk_at dksJ19_compareToUTF16Values_1 10 rfl rfl)
theorem dJ19_compareToUTF16Values_35 : decode cJ19_compareToUTF16Values 35 = .ok (.iload 7, 2) := dk_21 7 (dk_at dksJ19_compareToUTF16Values_1 12 rfl rfl)
theorem dJ19_compareToUTF16Values_37 : decode cJ19_compareToUTF16Values 37 = .ok (.if_icmp .eq 9, 3) := dk_159 0 9 (dk_at dksJ19_compareToUTF16Values_1 14 rfl rfl)
theorem dJ19_compareToUTF16Values_40 : decode cJ19_compareToUTF16Values 40 = .ok (.iload 6, 2) := dk_21 6 (dk_at dksJ19_compareToUTF16Values_1 17 rfl rfl)
theorem dJ19_compareToUTF16Values_42 : decode cJ19_compareToUTF16Values 42 = .ok (.iload 7, 2) := dk_21 7 (dk_at dksJ19_compareToUTF16Values_1 19 rfl rfl)
theorem dJ19_compareToUTF16Values_44 : decode cJ19_compareToUTF16Values 44 = .ok (.isub, 1) := dk_100 (dk_at dksJ19_compareToUTF16Values_1 21 rfl rfl)
theorem dJ19_compareToUTF16Values_45 : decode cJ19_compareToUTF16Values 45 = .ok (.ireturn, 1) := dk_172 (dk_at dksJ19_compareToUTF16Values_1 22 rfl rfl)
theorem dJ19_compareToUTF16Values_46 : decode cJ19_compareToUTF16Values 46 = .ok (.iinc 5 1, 3) := dk_132 5 1 (dk_at dksJ19_compareToUTF16Values_2 0 rfl rfl)
theorem dJ19_compareToUTF16Values_49 : decode cJ19_compareToUTF16Values 49 = .ok (.goto (-39), 3) := dk_167 255 217 (dk_at dksJ19_compareToUTF16Values_2 3 rfl rfl)
theorem dJ19_compareToUTF16Values_52 : decode cJ19_compareToUTF16Values 52 = .ok (.iload_n 2, 1) := dk_28 (dk_at dksJ19_compareToUTF16Values_2 6 rfl rfl)
theorem dJ19_compareToUTF16Values_53 : decode cJ19_compareToUTF16Values 53 = .ok (.iload_n 3, 1) := dk_29 (dk_at dksJ19_compareToUTF16Values_2 7 rfl rfl)
theorem dJ19_compareToUTF16Values_54 : decode cJ19_compareToUTF16Values 54 = .ok (.isub, 1) := dk_100 (dk_at dksJ19_compareToUTF16Values_2 8 rfl rfl)
theorem dJ19_compareToUTF16Values_55 : decode cJ19_compareToUTF16Values 55 = .ok (.ireturn, 1) := dk_172 (dk_at dksJ19_compareToUTF16Values_2 9 rfl rfl)
def dkwJ19_compareToUTF16_2_0 : List UInt8 := [28, 42, 184, 0, 54, 184, 0, 62, 29, 43, 184, 0, 58, 184, 0, 62, 42, 43, 28, 29, 184, 0, 59, 172]
abbrev dktJ19_compareToUTF16_2_0 : List UInt8 := dkwJ19_compareToUTF16_2_0 ++ []
theorem dksJ19_compareToUTF16_2_0 : cJ19_compareToUTF16_2.data.toList.drop 0 = dktJ19_compareToUTF16_2_0 := by decide +kernel
theorem dJ19_compareToUTF16_2_0 : decode cJ19_compareToUTF16_2 0 = .ok (.iload_n 2, 1) := dk_28 (dk_at dksJ19_compareToUTF16_2_0 0 rfl rfl)
theorem dJ19_compareToUTF16_2_1 : decode cJ19_compareToUTF16_2 1 = .ok (.aload_n 0, 1) := dk_42 (dk_at dksJ19_compareToUTF16_2_0 1 rfl rfl)
theorem dJ19_compareToUTF16_2_2 : decode cJ19_compareToUTF16_2 2 = .ok (.invokestatic 54, 3) := dk_184 0 54 (dk_at dksJ19_compareToUTF16_2_0 2 rfl rfl)
theorem dJ19_compareToUTF16_2_5 : decode cJ19_compareToUTF16_2 5 = .ok (.invokestatic 62, 3) := dk_184 0 62 (dk_at dksJ19_compareToUTF16_2_0 5 rfl rfl)
theorem dJ19_compareToUTF16_2_8 : decode cJ19_compareToUTF16_2 8 = .ok (.iload_n 3, 1) := dk_29 (dk_at dksJ19_compareToUTF16_2_0 8 rfl rfl)
theorem dJ19_compareToUTF16_2_9 : decode cJ19_compareToUTF16_2 9 = .ok (.aload_n 1, 1) := dk_43 (dk_at dksJ19_compareToUTF16_2_0 9 rfl rfl)
theorem dJ19_compareToUTF16_2_10 : decode cJ19_compareToUTF16_2 10 = .ok (.invokestatic 58, 3) := dk_184 0 58 (dk_at dksJ19_compareToUTF16_2_0 10 rfl rfl)
theorem dJ19_compareToUTF16_2_13 : decode cJ19_compareToUTF16_2 13 = .ok (.invokestatic 62, 3) := dk_184 0 62 (dk_at dksJ19_compareToUTF16_2_0 13 rfl rfl)
theorem dJ19_compareToUTF16_2_16 : decode cJ19_compareToUTF16_2 16 = .ok (.aload_n 0, 1) := dk_42 (dk_at dksJ19_compareToUTF16_2_0 16 rfl rfl)
theorem dJ19_compareToUTF16_2_17 : decode cJ19_compareToUTF16_2 17 = .ok (.aload_n 1, 1) := dk_43 (dk_at dksJ19_compareToUTF16_2_0 17 rfl rfl)
theorem dJ19_compareToUTF16_2_18 : decode cJ19_compareToUTF16_2 18 = .ok (.iload_n 2, 1) := dk_28 (dk_at dksJ19_compareToUTF16_2_0 18 rfl rfl)
theorem dJ19_compareToUTF16_2_19 : decode cJ19_compareToUTF16_2 19 = .ok (.iload_n 3, 1) := dk_29 (dk_at dksJ19_compareToUTF16_2_0 19 rfl rfl)
theorem dJ19_compareToUTF16_2_20 : decode cJ19_compareToUTF16_2 20 = .ok (.invokestatic 59, 3) := dk_184 0 59 (dk_at dksJ19_compareToUTF16_2_0 20 rfl rfl)
theorem dJ19_compareToUTF16_2_23 : decode cJ19_compareToUTF16_2 23 = .ok (.ireturn, 1) := dk_172 (dk_at dksJ19_compareToUTF16_2_0 23 rfl rfl)
def dkwJ19_hashCode_2 : List UInt8 := [3, 167, 0, 22, 42, 3, 51, 17, 0, 255, 126, 167, 0, 12, 42, 3, 42, 190, 3, 7, 184, 0, 84, 172]
abbrev dktJ19_hashCode_2 : List UInt8 := dkwJ19_hashCode_2 ++ []
def dkwJ19_hashCode_1 : List UInt8 := [171, 0, 0, 0, 0, 40, 0, 0, 0, 2, 0, 0, 0, 0, 0, 0, 0, 26, 0, 0, 0, 1, 0, 0, 0, 30]
abbrev dktJ19_hashCode_1 : List UInt8 := dkwJ19_hashCode_1 ++ dktJ19_hashCode_2
def dkwJ19_hashCode_0 : List UInt8 := [42, 190]
abbrev dktJ19_hashCode_0 : List UInt8 := dkwJ19_hashCode_0 ++ dktJ19_hashCode_1
theorem dksJ19_hashCode_0 : cJ19_hashCode.data.toList.drop 0 = dktJ19_hashCode_0 := by decide +kernel
theorem dksJ19_hashCode_1 : cJ19_hashCode.data.toList.drop 2 = dktJ19_hashCode_1 := dk_seg dksJ19_hashCode_0 2 rfl rfl
theorem dksJ19_hashCode_2 : cJ19_hashCode.data.toList.drop 28 = dktJ19_hashCode_2 := dk_seg dksJ19_hashCode_1 26 rfl rfl
theorem dJ19_hashCode_0 : decode cJ19_hashCode 0 = .ok (.aload_n 0, 1) := dk_42 (dk_at dksJ19_hashCode_0 0 rfl rfl)
theorem dJ19_hashCode_1 : decode cJ19_hashCode 1 = .ok (.arraylength, 1) := dk_190 (dk_at dksJ19_hashCode_0 1 rfl rfl)
theorem dJ19_hashCode_2 : decode cJ19_hashCode 2 = .ok (.lookupswitch 40 #[(0, 26), (1, 30)], 26) := by decide +kernel
theorem dJ19_hashCode_28 : decode cJ19_hashCode 28 = .ok (.iconst 0, 1) := dk_3 (dk_at dksJ19_hashCode_2 0 rfl rfl)
theorem dJ19_hashCode_29 : decode cJ19_hashCode 29 = .ok (.goto 22, 3) := dk_167 0 22 (dk_at dksJ19_hashCode_2 1 rfl rfl)
theorem dJ19_hashCode_32 : decode cJ19_hashCode 32 = .ok (.aload_n 0, 1) := dk_42 (dk_at dksJ19_hashCode_2 4 rfl rfl)
theorem dJ19_hashCode_33 : decode cJ19_hashCode 33 = .ok (.iconst 0, 1) := dk_3 (dk_at dksJ19_hashCode_2 5 rfl rfl)
theorem dJ19_hashCode_34 : decode cJ19_hashCode 34 = .ok (.baload, 1) := dk_51 (dk_at dksJ19_hashCode_2 6 rfl rfl)
theorem dJ19_hashCode_35 : decode cJ19_hashCode 35 = .ok (.sipush 255, 3) := dk_17 0 255 (dk_at dksJ19_hashCode_2 7 rfl rfl)
theorem dJ19_hashCode_38 : decode cJ19_hashCode 38 = .ok (.iand, 1) := dk_126 (dk_at dksJ19_hashCode_2 10 rfl rfl)
theorem dJ19_hashCode_39 : decode cJ19_hashCode 39 = .ok (.goto 12, 3) := dk_167 0 12 (dk_at dksJ19_hashCode_2 11 rfl rfl)
theorem dJ19_hashCode_42 : decode cJ19_hashCode 42 = .ok (.aload_n 0, 1) := dk_42 (dk_at dksJ19_hashCode_2 14 rfl rfl)
theorem dJ19_hashCode_43 : decode cJ19_hashCode 43 = .ok (.iconst 0, 1) := dk_3 (dk_at dksJ19_hashCode_2 15 rfl rfl)
theorem dJ19_hashCode_44 : decode cJ19_hashCode 44 = .ok (.aload_n 0, 1) := dk_42 (dk_at dksJ19_hashCode_2 16 rfl rfl)
theorem dJ19_hashCode_45 : decode cJ19_hashCode 45 = .ok (.arraylength, 1) := dk_190 (dk_at dksJ19_hashCode_2 17 rfl rfl)
theorem dJ19_hashCode_46 : decode cJ19_hashCode 46 = .ok (.iconst 0, 1) := dk_3 (dk_at dksJ19_hashCode_2 18 rfl rfl)
theorem dJ19_hashCode_47 : decode cJ19_hashCode 47 = .ok (.iconst 4, 1) := dk_7 (dk_at dksJ19_hashCode_2 19 rfl rfl)
theorem dJ19_hashCode_48 : decode cJ19_hashCode 48 = .ok (.invokestatic 84, 3) := dk_184 0 84 (dk_at dksJ19_hashCode_2 20 rfl rfl)
theorem dJ19_hashCode_51 : decode cJ19_hashCode 51 = .ok (.ireturn, 1) := dk_172 (dk_at dksJ19_hashCode_2 23 rfl rfl)
def dkwJ19_inflate_0 : List UInt8 := [42, 27, 44, 29, 21, 4, 184, 0, 240, 177]
abbrev dktJ19_inflate_0 : List UInt8 := dkwJ19_inflate_0 ++ []
theorem dksJ19_inflate_0 : cJ19_inflate.data.toList.drop 0 = dktJ19_inflate_0 := by decide +kernel
theorem dJ19_inflate_0 : decode cJ19_inflate 0 = .ok (.aload_n 0, 1) := dk_42 (dk_at dksJ19_inflate_0 0 rfl rfl)
theorem dJ19_inflate_1 : decode cJ19_inflate 1 = .ok (.iload_n 1, 1) := dk_27 (dk_at dksJ19_inflate_0 1 rfl rfl)
theorem dJ19_inflate_2 : decode cJ19_inflate 2 = .ok (.aload_n 2, 1) := dk_44 (dk_at dksJ19_inflate_0 2 rfl rfl)
theorem dJ19_inflate_3 : decode cJ19_inflate 3 = .ok (.iload_n 3, 1) := dk_29 (dk_at dksJ19_inflate_0 3 rfl rfl)
theorem dJ19_inflate_4 : decode cJ19_inflate 4 = .ok (.iload 4, 2) := dk_21 4 (dk_at dksJ19_inflate_0 4 rfl rfl)
theorem dJ19_inflate_6 : decode cJ19_inflate 6 = .ok (.invokestatic 240, 3) := dk_184 0 240 (dk_at dksJ19_inflate_0 6 rfl rfl)
theorem dJ19_inflate_9 : decode cJ19_inflate 9 = .ok (.return_, 1) := dk_177 (dk_at dksJ19_inflate_0 9 rfl rfl)
def dkwJ19_equals_1 : List UInt8 := [3, 172, 132, 2, 1, 167, 255, 236, 4, 172, 3, 172]
abbrev dktJ19_equals_1 : List UInt8 := dkwJ19_equals_1 ++ []
def dkwJ19_equals_0 : List UInt8 := [42, 190, 43, 190, 160, 0, 30, 3, 61, 28, 42, 190, 162, 0, 20, 42, 28, 51, 43, 28, 51, 159, 0, 5]
abbrev dktJ19_equals_0 : List UInt8 := dkwJ19_equals_0 ++ dktJ19_equals_1
theorem dksJ19_equals_0 : cJ19_equals.data.toList.drop 0 = dktJ19_equals_0 := by decide +kernel
theorem dksJ19_equals_1 : cJ19_equals.data.toList.drop 24 = dktJ19_equals_1 := dk_seg dksJ19_equals_0 24 rfl rfl
theorem dJ19_equals_0 : decode cJ19_equals 0 = .ok (.aload_n 0, 1) := dk_42 (dk_at dksJ19_equals_0 0 rfl rfl)
theorem dJ19_equals_1 : decode cJ19_equals 1 = .ok (.arraylength, 1) := dk_190 (dk_at dksJ19_equals_0 1 rfl rfl)
theorem dJ19_equals_2 : decode cJ19_equals 2 = .ok (.aload_n 1, 1) := dk_43 (dk_at dksJ19_equals_0 2 rfl rfl)
theorem dJ19_equals_3 : decode cJ19_equals 3 = .ok (.arraylength, 1) := dk_190 (dk_at dksJ19_equals_0 3 rfl rfl)
theorem dJ19_equals_4 : decode cJ19_equals 4 = .ok (.if_icmp .ne 30, 3) := dk_160 0 30 (dk_at dksJ19_equals_0 4 rfl rfl)
theorem dJ19_equals_7 : decode cJ19_equals 7 = .ok (.iconst 0, 1) := dk_3 (dk_at dksJ19_equals_0 7 rfl rfl)
theorem dJ19_equals_8 : decode cJ19_equals 8 = .ok (.istore_n 2, 1) := dk_61 (dk_at dksJ19_equals_0 8 rfl rfl)
theorem dJ19_equals_9 : decode cJ19_equals 9 = .ok (.iload_n 2, 1) := dk_28 (dk_at dksJ19_equals_0 9 rfl rfl)
theorem dJ19_equals_10 : decode cJ19_equals 10 = .ok (.aload_n 0, 1) := dk_42 (dk_at dksJ19_equals_0 10 rfl rfl)
theorem dJ19_equals_11 : decode cJ19_equals 11 = .ok (.arraylength, 1) := dk_190 (dk_at dksJ19_equals_0 11 rfl rfl)
theorem dJ19_equals_12 : decode cJ19_equals 12 = .ok (.if_icmp .ge 20, 3) := dk_162 0 20 (dk_at dksJ19_equals_0 12 rfl rfl)
theorem dJ19_equals_15 : decode cJ19_equals 15 = .ok (.aload_n 0, 1) := dk_42 (dk_at dksJ19_equals_0 15 rfl rfl)
theorem dJ19_equals_16 : decode cJ19_equals 16 = .ok (.iload_n 2, 1) := dk_28 (dk_at dksJ19_equals_0 16 rfl rfl)
theorem dJ19_equals_17 : decode cJ19_equals 17 = .ok (.baload, 1) := dk_51 (dk_at dksJ19_equals_0 17 rfl rfl)
theorem dJ19_equals_18 : decode cJ19_equals 18 = .ok (.aload_n 1, 1) := dk_43 (dk_at dksJ19_equals_0 18 rfl rfl)
theorem dJ19_equals_19 : decode cJ19_equals 19 = .ok (.iload_n 2, 1) := dk_28 (dk_at dksJ19_equals_0 19 rfl rfl)
theorem dJ19_equals_20 : decode cJ19_equals 20 = .ok (.baload, 1) := dk_51 (dk_at dksJ19_equals_0 20 rfl rfl)
theorem dJ19_equals_21 : decode cJ19_equals 21 = .ok (.if_icmp .eq 5, 3) := dk_159 0 5 (dk_at dksJ19_equals_0 21 rfl rfl)
theorem dJ19_equals_24 : decode cJ19_equals 24 = .ok (.iconst 0, 1) := dk_3 (dk_at dksJ19_equals_1 0 rfl rfl)
theorem dJ19_equals_25 : decode cJ19_equals 25 = .ok (.ireturn, 1) := dk_172 (dk_at dksJ19_equals_1 1 rfl rfl)
theorem dJ19_equals_26 : decode cJ19_equals 26 = .ok (.iinc 2 1, 3) := dk_132 2 1 (dk_at dksJ19_equals_1 2 rfl rfl)
theorem dJ19_equals_29 : decode cJ19_equals 29 = .ok (.goto (-20), 3) := dk_167 255 236 (dk_at dksJ19_equals_1 5 rfl rfl)
theorem dJ19_equals_32 : decode cJ19_equals 32 = .ok (.iconst 1, 1) := dk_4 (dk_at dksJ19_equals_1 8 rfl rfl)
theorem dJ19_equals_33 : decode cJ19_equals 33 = .ok (.ireturn, 1) := dk_172 (dk_at dksJ19_equals_1 9 rfl rfl)
theorem dJ19_equals_34 : decode cJ19_equals 34 = .ok (.iconst 0, 1) := dk_3 (dk_at dksJ19_equals_1 10 rfl rfl)
theorem dJ19_equals_35 : decode cJ19_equals 35 = .ok (.ireturn, 1) := dk_172 (dk_at dksJ19_equals_1 11 rfl rfl)
theorem dJ31_init_0 : decode cJ31_init 0 = .ok (.return_, 1) := by decide +kernel
