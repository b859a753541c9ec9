set_option maxRecDepth 100000
def dkwX2_init_0 : List UInt8 := [42, 183, 0, 1, 42, 187, 0, 7, 89, 183, 0, 9, 181, 0, 10, 42, 43, 181, 0, 16, 177]
abbrev dktX2_init_0 : List UInt8 := dkwX2_init_0 ++ []
theorem dksX2_init_0 : cX2_init.data.toList.drop 0 = dktX2_init_0 := by decide +kernel
theorem dX2_init_0 : decode cX2_init 0 = .ok (.aload_n 0, 1) := dk_42 (dk_at dksX2_init_0 0 rfl rfl)
theorem dX2_init_1 : decode cX2_init 1 = .ok (.invokespecial 1, 3) := dk_183 0 1 (dk_at dksX2_init_0 1 rfl rfl)
theorem dX2_init_4 : decode cX2_init 4 = .ok (.aload_n 0, 1) := dk_42 (dk_at dksX2_init_0 4 rfl rfl)
theorem dX2_init_5 : decode cX2_init 5 = .ok (.new 7, 3) := dk_187 0 7 (dk_at dksX2_init_0 5 rfl rfl)
theorem dX2_init_8 : decode cX2_init 8 = .ok (.dup, 1) := dk_89 (dk_at dksX2_init_0 8 rfl rfl)
theorem dX2_init_9 : decode cX2_init 9 = .ok (.invokespecial 9, 3) := dk_183 0 9 (dk_at dksX2_init_0 9 rfl rfl)
theorem dX2_init_12 : decode cX2_init 12 = .ok (.putfield 10, 3) := dk_181 0 10 (dk_at dksX2_init_0 12 rfl rfl)
theorem dX2_init_15 : decode cX2_init 15 = .ok (.aload_n 0, 1) := dk_42 (dk_at dksX2_init_0 15 rfl rfl)
theorem dX2_init_16 : decode cX2_init 16 = .ok (.aload_n 1, 1) := dk_43 (dk_at dksX2_init_0 16 rfl rfl)
theorem dX2_init_17 : decode cX2_init 17 = .ok (.putfield 16, 3) := dk_181 0 16 (dk_at dksX2_init_0 17 rfl rfl)
theorem dX2_init_20 : decode cX2_init 20 = .ok (.return_, 1) := dk_177 (dk_at dksX2_init_0 20 rfl rfl)
def dkwX2_tell_0 : List UInt8 := [42, 180, 0, 10, 27, 184, 0, 20, 44, 182, 0, 26, 78, 177]
abbrev dktX2_tell_0 : List UInt8 := dkwX2_tell_0 ++ []
theorem dksX2_tell_0 : cX2_tell.data.toList.drop 0 = dktX2_tell_0 := by decide +kernel
theorem dX2_tell_0 : decode cX2_tell 0 = .ok (.aload_n 0, 1) := dk_42 (dk_at dksX2_tell_0 0 rfl rfl)
theorem dX2_tell_1 : decode cX2_tell 1 = .ok (.getfield 10, 3) := dk_180 0 10 (dk_at dksX2_tell_0 1 rfl rfl)
theorem dX2_tell_4 : decode cX2_tell 4 = .ok (.iload_n 1, 1) := dk_27 (dk_at dksX2_tell_0 4 rfl rfl)
theorem dX2_tell_5 : decode cX2_tell 5 = .ok (.invokestatic 20, 3) := dk_184 0 20 (dk_at dksX2_tell_0 5 rfl rfl)
theorem dX2_tell_8 : decode cX2_tell 8 = .ok (.aload_n 2, 1) := dk_44 (dk_at dksX2_tell_0 8 rfl rfl)
theorem dX2_tell_9 : decode cX2_tell 9 = .ok (.invokevirtual 26, 3) := dk_182 0 26 (dk_at dksX2_tell_0 9 rfl rfl)
theorem dX2_tell_12 : decode cX2_tell 12 = .ok (.astore_n 3, 1) := dk_78 (dk_at dksX2_tell_0 12 rfl rfl)
theorem dX2_tell_13 : decode cX2_tell 13 = .ok (.return_, 1) := dk_177 (dk_at dksX2_tell_0 13 rfl rfl)
def dkwX2_from_0 : List UInt8 := [42, 180, 0, 10, 27, 184, 0, 20, 182, 0, 34, 176]
abbrev dktX2_from_0 : List UInt8 := dkwX2_from_0 ++ []
theorem dksX2_from_0 : cX2_from.data.toList.drop 0 = dktX2_from_0 := by decide +kernel
theorem dX2_from_0 : decode cX2_from 0 = .ok (.aload_n 0, 1) := dk_42 (dk_at dksX2_from_0 0 rfl rfl)
theorem dX2_from_1 : decode cX2_from 1 = .ok (.getfield 10, 3) := dk_180 0 10 (dk_at dksX2_from_0 1 rfl rfl)
theorem dX2_from_4 : decode cX2_from 4 = .ok (.iload_n 1, 1) := dk_27 (dk_at dksX2_from_0 4 rfl rfl)
theorem dX2_from_5 : decode cX2_from 5 = .ok (.invokestatic 20, 3) := dk_184 0 20 (dk_at dksX2_from_0 5 rfl rfl)
theorem dX2_from_8 : decode cX2_from 8 = .ok (.invokevirtual 34, 3) := dk_182 0 34 (dk_at dksX2_from_0 8 rfl rfl)
theorem dX2_from_11 : decode cX2_from 11 = .ok (.areturn, 1) := dk_176 (dk_at dksX2_from_0 11 rfl rfl)
def dkwX2_at_1 : List UInt8 := [167, 0, 11, 42, 180, 0, 10, 44, 182, 0, 34, 176]
abbrev dktX2_at_1 : List UInt8 := dkwX2_at_1 ++ []
def dkwX2_at_0 : List UInt8 := [42, 180, 0, 10, 27, 184, 0, 20, 182, 0, 30, 192, 0, 21, 77, 44, 199, 0, 10, 42, 180, 0, 16]
abbrev dktX2_at_0 : List UInt8 := dkwX2_at_0 ++ dktX2_at_1
theorem dksX2_at_0 : cX2_at.data.toList.drop 0 = dktX2_at_0 := by decide +kernel
theorem dksX2_at_1 : cX2_at.data.toList.drop 23 = dktX2_at_1 := dk_seg dksX2_at_0 23 rfl rfl
theorem dX2_at_0 : decode cX2_at 0 = .ok (.aload_n 0, 1) := dk_42 (dk_at dksX2_at_0 0 rfl rfl)
theorem dX2_at_1 : decode cX2_at 1 = .ok (.getfield 10, 3) := dk_180 0 10 (dk_at dksX2_at_0 1 rfl rfl)
theorem dX2_at_4 : decode cX2_at 4 = .ok (.iload_n 1, 1) := dk_27 (dk_at dksX2_at_0 4 rfl rfl)
theorem dX2_at_5 : decode cX2_at 5 = .ok (.invokestatic 20, 3) := dk_184 0 20 (dk_at dksX2_at_0 5 rfl rfl)
theorem dX2_at_8 : decode cX2_at 8 = .ok (.invokevirtual 30, 3) := dk_182 0 30 (dk_at dksX2_at_0 8 rfl rfl)
theorem dX2_at_11 : decode cX2_at 11 = .ok (.checkcast 21, 3) := dk_192 0 21 (dk_at dksX2_at_0 11 rfl rfl)
theorem dX2_at_14 : decode cX2_at 14 = .ok (.astore_n 2, 1) := dk_77 (dk_at dksX2_at_0 14 rfl rfl)
theorem dX2_at_15 : decode cX2_at 15 = .ok (.aload_n 2, 1) := dk_44 (dk_at dksX2_at_0 15 rfl rfl)
theorem dX2_at_16 : decode cX2_at 16 = .ok (.ifnonnull 10, 3) := dk_199 0 10 (dk_at dksX2_at_0 16 rfl rfl)
theorem dX2_at_19 : decode cX2_at 19 = .ok (.aload_n 0, 1) := dk_42 (dk_at dksX2_at_0 19 rfl rfl)
theorem dX2_at_20 : decode cX2_at 20 = .ok (.getfield 16, 3) := dk_180 0 16 (dk_at dksX2_at_0 20 rfl rfl)
theorem dX2_at_23 : decode cX2_at 23 = .ok (.goto 11, 3) := dk_167 0 11 (dk_at dksX2_at_1 0 rfl rfl)
theorem dX2_at_26 : decode cX2_at 26 = .ok (.aload_n 0, 1) := dk_42 (dk_at dksX2_at_1 3 rfl rfl)
theorem dX2_at_27 : decode cX2_at 27 = .ok (.getfield 10, 3) := dk_180 0 10 (dk_at dksX2_at_1 4 rfl rfl)
theorem dX2_at_30 : decode cX2_at 30 = .ok (.aload_n 2, 1) := dk_44 (dk_at dksX2_at_1 7 rfl rfl)
theorem dX2_at_31 : decode cX2_at 31 = .ok (.invokevirtual 34, 3) := dk_182 0 34 (dk_at dksX2_at_1 8 rfl rfl)
theorem dX2_at_34 : decode cX2_at 34 = .ok (.areturn, 1) := dk_176 (dk_at dksX2_at_1 11 rfl rfl)
def dkwX3_init_0 : List UInt8 := [42, 183, 0, 1, 42, 27, 181, 0, 7, 42, 28, 181, 0, 13, 177]
abbrev dktX3_init_0 : List UInt8 := dkwX3_init_0 ++ []
theorem dksX3_init_0 : cX3_init.data.toList.drop 0 = dktX3_init_0 := by decide +kernel
theorem dX3_init_0 : decode cX3_init 0 = .ok (.aload_n 0, 1) := dk_42 (dk_at dksX3_init_0 0 rfl rfl)
theorem dX3_init_1 : decode cX3_init 1 = .ok (.invokespecial 1, 3) := dk_183 0 1 (dk_at dksX3_init_0 1 rfl rfl)
theorem dX3_init_4 : decode cX3_init 4 = .ok (.aload_n 0, 1) := dk_42 (dk_at dksX3_init_0 4 rfl rfl)
theorem dX3_init_5 : decode cX3_init 5 = .ok (.iload_n 1, 1) := dk_27 (dk_at dksX3_init_0 5 rfl rfl)
theorem dX3_init_6 : decode cX3_init 6 = .ok (.putfield 7, 3) := dk_181 0 7 (dk_at dksX3_init_0 6 rfl rfl)
theorem dX3_init_9 : decode cX3_init 9 = .ok (.aload_n 0, 1) := dk_42 (dk_at dksX3_init_0 9 rfl rfl)
theorem dX3_init_10 : decode cX3_init 10 = .ok (.iload_n 2, 1) := dk_28 (dk_at dksX3_init_0 10 rfl rfl)
theorem dX3_init_11 : decode cX3_init 11 = .ok (.putfield 13, 3) := dk_181 0 13 (dk_at dksX3_init_0 11 rfl rfl)
theorem dX3_init_14 : decode cX3_init 14 = .ok (.return_, 1) := dk_177 (dk_at dksX3_init_0 14 rfl rfl)
theorem dX3_ceiling_0 : decode cX3_ceiling 0 = .ok (.aload_n 0, 1) := by decide +kernel
theorem dX3_ceiling_1 : decode cX3_ceiling 1 = .ok (.getfield 13, 3) := by decide +kernel
theorem dX3_ceiling_4 : decode cX3_ceiling 4 = .ok (.ireturn, 1) := by decide +kernel
theorem dX3_thousandths_0 : decode cX3_thousandths 0 = .ok (.aload_n 0, 1) := by decide +kernel
theorem dX3_thousandths_1 : decode cX3_thousandths 1 = .ok (.getfield 7, 3) := by decide +kernel
theorem dX3_thousandths_4 : decode cX3_thousandths 4 = .ok (.ireturn, 1) := by decide +kernel
def dkwX5_init_3 : List UInt8 := [181, 0, 45, 42, 21, 6, 181, 0, 49, 42, 29, 21, 7, 182, 0, 52, 177]
abbrev dktX5_init_3 : List UInt8 := dkwX5_init_3 ++ []
def dkwX5_init_2 : List UInt8 := [181, 0, 32, 42, 28, 181, 0, 36, 42, 29, 181, 0, 39, 42, 21, 4, 181, 0, 42, 42, 21, 5]
abbrev dktX5_init_2 : List UInt8 := dkwX5_init_2 ++ dktX5_init_3
def dkwX5_init_1 : List UInt8 := [181, 0, 21, 42, 17, 2, 208, 188, 10, 181, 0, 25, 42, 17, 2, 208, 188, 10, 181, 0, 29, 42, 27]
abbrev dktX5_init_1 : List UInt8 := dkwX5_init_1 ++ dktX5_init_2
def dkwX5_init_0 : List UInt8 := [42, 183, 0, 3, 42, 187, 0, 9, 89, 183, 0, 11, 181, 0, 12, 42, 187, 0, 18, 89, 183, 0, 20]
abbrev dktX5_init_0 : List UInt8 := dkwX5_init_0 ++ dktX5_init_1
theorem dksX5_init_0 : cX5_init.data.toList.drop 0 = dktX5_init_0 := by decide +kernel
theorem dksX5_init_1 : cX5_init.data.toList.drop 23 = dktX5_init_1 := dk_seg dksX5_init_0 23 rfl rfl
theorem dksX5_init_2 : cX5_init.data.toList.drop 46 = dktX5_init_2 := dk_seg dksX5_init_1 23 rfl rfl
theorem dksX5_init_3 : cX5_init.data.toList.drop 68 = dktX5_init_3 := dk_seg dksX5_init_2 22 rfl rfl
theorem dX5_init_0 : decode cX5_init 0 = .ok (.aload_n 0, 1) := dk_42 (dk_at dksX5_init_0 0 rfl rfl)
theorem dX5_init_1 : decode cX5_init 1 = .ok (.invokespecial 3, 3) := dk_183 0 3 (dk_at dksX5_init_0 1 rfl rfl)
theorem dX5_init_4 : decode cX5_init 4 = .ok (.aload_n 0, 1) := dk_42 (dk_at dksX5_init_0 4 rfl rfl)
theorem dX5_init_5 : decode cX5_init 5 = .ok (.new 9, 3) := dk_187 0 9 (dk_at dksX5_init_0 5 rfl rfl)
theorem dX5_init_8 : decode cX5_init 8 = .ok (.dup, 1) := dk_89 (dk_at dksX5_init_0 8 rfl rfl)
theorem dX5_init_9 : decode cX5_init 9 = .ok (.invokespecial 11, 3) := dk_183 0 11 (dk_at dksX5_init_0 9 rfl rfl)
theorem dX5_init_12 : decode cX5_init 12 = .ok (.putfield 12, 3) := dk_181 0 12 (dk_at dksX5_init_0 12 rfl rfl)
theorem dX5_init_15 : decode cX5_init 15 = .ok (.aload_n 0, 1) := dk_42 (dk_at dksX5_init_0 15 rfl rfl)
theorem dX5_init_16 : decode cX5_init 16 = .ok (.new 18, 3) := dk_187 0 18 (dk_at dksX5_init_0 16 rfl rfl)
theorem dX5_init_19 : decode cX5_init 19 = .ok (.dup, 1) := dk_89 (dk_at dksX5_init_0 19 rfl rfl)
theorem dX5_init_20 : decode cX5_init 20 = .ok (.invokespecial 20, 3) := dk_183 0 20 (dk_at dksX5_init_0 20 rfl rfl)
theorem dX5_init_23 : decode cX5_init 23 = .ok (.putfield 21, 3) := dk_181 0 21 (dk_at dksX5_init_1 0 rfl rfl)
theorem dX5_init_26 : decode cX5_init 26 = .ok (.aload_n 0, 1) := dk_42 (dk_at dksX5_init_1 3 rfl rfl)
theorem dX5_init_27 : decode cX5_init 27 = .ok (.sipush 720, 3) := dk_17 2 208 (dk_at dksX5_init_1 4 rfl rfl)
theorem dX5_init_30 : decode cX5_init 30 = .ok (.newarray .int, 2) := dk_188_10 (dk_at dksX5_init_1 7 rfl rfl)
theorem dX5_init_32 : decode cX5_init 32 = .ok (.putfield 25, 3) := dk_181 0 25 (dk_at dksX5_init_1 9 rfl rfl)
theorem dX5_init_35 : decode cX5_init 35 = .ok (.aload_n 0, 1) := dk_42 (dk_at dksX5_init_1 12 rfl rfl)
theorem dX5_init_36 : decode cX5_init 36 = .ok (.sipush 720, 3) := dk_17 2 208 (dk_at dksX5_init_1 13 rfl rfl)
theorem dX5_init_39 : decode cX5_init 39 = .ok (.newarray .int, 2) := dk_188_10 (dk_at dksX5_init_1 16 rfl rfl)
theorem dX5_init_41 : decode cX5_init 41 = .ok (.putfield 29, 3) := dk_181 0 29 (dk_at dksX5_init_1 18 rfl rfl)
theorem dX5_init_44 : decode cX5_init 44 = .ok (.aload_n 0, 1) := dk_42 (dk_at dksX5_init_1 21 rfl rfl)
theorem dX5_init_45 : decode cX5_init 45 = .ok (.iload_n 1, 1) := dk_27 (dk_at dksX5_init_1 22 rfl rfl)
theorem dX5_init_46 : decode cX5_init 46 = .ok (.putfield 32, 3) := dk_181 0 32 (dk_at dksX5_init_2 0 rfl rfl)
theorem dX5_init_49 : decode cX5_init 49 = .ok (.aload_n 0, 1) := dk_42 (dk_at dksX5_init_2 3 rfl rfl)
theorem dX5_init_50 : decode cX5_init 50 = .ok (.iload_n 2, 1) := dk_28 (dk_at dksX5_init_2 4 rfl rfl)
theorem dX5_init_51 : decode cX5_init 51 = .ok (.putfield 36, 3) := dk_181 0 36 (dk_at dksX5_init_2 5 rfl rfl)
theorem dX5_init_54 : decode cX5_init 54 = .ok (.aload_n 0, 1) := dk_42 (dk_at dksX5_init_2 8 rfl rfl)
theorem dX5_init_55 : decode cX5_init 55 = .ok (.iload_n 3, 1) := dk_29 (dk_at dksX5_init_2 9 rfl rfl)
theorem dX5_init_56 : decode cX5_init 56 = .ok (.putfield 39, 3) := dk_181 0 39 (dk_at dksX5_init_2 10 rfl rfl)
theorem dX5_init_59 : decode cX5_init 59 = .ok (.aload_n 0, 1) := dk_42 (dk_at dksX5_init_2 13 rfl rfl)
theorem dX5_init_60 : decode cX5_init 60 = .ok (.iload 4, 2) := dk_21 4 (dk_at dksX5_init_2 14 rfl rfl)
theorem dX5_init_62 : decode cX5_init 62 = .ok (.putfield 42, 3) := dk_181 0 42 (dk_at dksX5_init_2 16 rfl rfl)
theorem dX5_init_65 : decode cX5_init 65 = .ok (.aload_n 0, 1) := dk_42 (dk_at dksX5_init_2 19 rfl rfl)
theorem dX5_init_66 : decode cX5_init 66 = .ok (.iload 5, 2) := dk_21 5 (dk_at dksX5_init_2 20 rfl rfl)
theorem dX5_init_68 : decode cX5_init 68 = .ok (.putfield 45, 3) := dk_181 0 45 (dk_at dksX5_init_3 0 rfl rfl)
theorem dX5_init_71 : decode cX5_init 71 = .ok (.aload_n 0, 1) := dk_42 (dk_at dksX5_init_3 3 rfl rfl)
theorem dX5_init_72 : decode cX5_init 72 = .ok (.iload 6, 2) := dk_21 6 (dk_at dksX5_init_3 4 rfl rfl)
theorem dX5_init_74 : decode cX5_init 74 = .ok (.putfield 49, 3) := dk_181 0 49 (dk_at dksX5_init_3 6 rfl rfl)
theorem dX5_init_77 : decode cX5_init 77 = .ok (.aload_n 0, 1) := dk_42 (dk_at dksX5_init_3 9 rfl rfl)
theorem dX5_init_78 : decode cX5_init 78 = .ok (.iload_n 3, 1) := dk_29 (dk_at dksX5_init_3 10 rfl rfl)
theorem dX5_init_79 : decode cX5_init 79 = .ok (.iload 7, 2) := dk_21 7 (dk_at dksX5_init_3 11 rfl rfl)
theorem dX5_init_81 : decode cX5_init 81 = .ok (.invokevirtual 52, 3) := dk_182 0 52 (dk_at dksX5_init_3 13 rfl rfl)
theorem dX5_init_84 : decode cX5_init 84 = .ok (.return_, 1) := dk_177 (dk_at dksX5_init_3 16 rfl rfl)
def dkwX5_tell_4 : List UInt8 := [21, 5, 21, 4, 79, 132, 5, 1, 167, 255, 189, 177]
abbrev dktX5_tell_4 : List UInt8 := dkwX5_tell_4 ++ []
def dkwX5_tell_3 : List UInt8 := [1, 58, 6, 25, 6, 199, 0, 8, 21, 4, 167, 0, 8, 25, 6, 182, 0, 76, 54, 4, 42, 180, 0, 25]
abbrev dktX5_tell_3 : List UInt8 := dkwX5_tell_3 ++ dktX5_tell_4
def dkwX5_tell_2 : List UInt8 := [180, 0, 42, 163, 0, 21, 42, 180, 0, 12, 21, 5, 184, 0, 62, 182, 0, 72, 192, 0, 63, 167, 0, 4]
abbrev dktX5_tell_2 : List UInt8 := dkwX5_tell_2 ++ dktX5_tell_3
def dkwX5_tell_1 : List UInt8 := [192, 0, 63, 78, 3, 54, 4, 42, 180, 0, 39, 54, 5, 21, 5, 17, 2, 208, 162, 0, 65, 21, 5, 42]
abbrev dktX5_tell_1 : List UInt8 := dkwX5_tell_1 ++ dktX5_tell_2
def dkwX5_tell_0 : List UInt8 := [42, 180, 0, 12, 42, 180, 0, 39, 27, 184, 0, 56, 184, 0, 62, 28, 184, 0, 62, 182, 0, 68]
abbrev dktX5_tell_0 : List UInt8 := dkwX5_tell_0 ++ dktX5_tell_1
theorem dksX5_tell_0 : cX5_tell.data.toList.drop 0 = dktX5_tell_0 := by decide +kernel
theorem dksX5_tell_1 : cX5_tell.data.toList.drop 22 = dktX5_tell_1 := dk_seg dksX5_tell_0 22 rfl rfl
theorem dksX5_tell_2 : cX5_tell.data.toList.drop 46 = dktX5_tell_2 := dk_seg dksX5_tell_1 24 rfl rfl
theorem dksX5_tell_3 : cX5_tell.data.toList.drop 70 = dktX5_tell_3 := dk_seg dksX5_tell_2 24 rfl rfl
theorem dksX5_tell_4 : cX5_tell.data.toList.drop 94 = dktX5_tell_4 := dk_seg dksX5_tell_3 24 rfl rfl
theorem dX5_tell_0 : decode cX5_tell 0 = .ok (.aload_n 0, 1) := dk_42 (dk_at dksX5_tell_0 0 rfl rfl)
theorem dX5_tell_1 : decode cX5_tell 1 = .ok (.getfield 12, 3) := dk_180 0 12 (dk_at dksX5_tell_0 1 rfl rfl)
theorem dX5_tell_4 : decode cX5_tell 4 = .ok (.aload_n 0, 1) := dk_42 (dk_at dksX5_tell_0 4 rfl rfl)
theorem dX5_tell_5 : decode cX5_tell 5 = .ok (.getfield 39, 3) := dk_180 0 39 (dk_at dksX5_tell_0 5 rfl rfl)
theorem dX5_tell_8 : decode cX5_tell 8 = .ok (.iload_n 1, 1) := dk_27 (dk_at dksX5_tell_0 8 rfl rfl)
theorem dX5_tell_9 : decode cX5_tell 9 = .ok (.invokestatic 56, 3) := dk_184 0 56 (dk_at dksX5_tell_0 9 rfl rfl)
theorem dX5_tell_12 : decode cX5_tell 12 = .ok (.invokestatic 62, 3) := dk_184 0 62 (dk_at dksX5_tell_0 12 rfl rfl)
theorem dX5_tell_15 : decode cX5_tell 15 = .ok (.iload_n 2, 1) := dk_28 (dk_at dksX5_tell_0 15 rfl rfl)
theorem dX5_tell_16 : decode cX5_tell 16 = .ok (.invokestatic 62, 3) := dk_184 0 62 (dk_at dksX5_tell_0 16 rfl rfl)
theorem dX5_tell_19 : decode cX5_tell 19 = .ok (.invokevirtual 68, 3) := dk_182 0 68 (dk_at dksX5_tell_0 19 rfl rfl)
theorem dX5_tell_22 : decode cX5_tell 22 = .ok (.checkcast 63, 3) := dk_192 0 63 (dk_at dksX5_tell_1 0 rfl rfl)
theorem dX5_tell_25 : decode cX5_tell 25 = .ok (.astore_n 3, 1) := dk_78 (dk_at dksX5_tell_1 3 rfl rfl)
theorem dX5_tell_26 : decode cX5_tell 26 = .ok (.iconst 0, 1) := dk_3 (dk_at dksX5_tell_1 4 rfl rfl)
theorem dX5_tell_27 : decode cX5_tell 27 = .ok (.istore 4, 2) := dk_54 4 (dk_at dksX5_tell_1 5 rfl rfl)
theorem dX5_tell_29 : decode cX5_tell 29 = .ok (.aload_n 0, 1) := dk_42 (dk_at dksX5_tell_1 7 rfl rfl)
theorem dX5_tell_30 : decode cX5_tell 30 = .ok (.getfield 39, 3) := dk_180 0 39 (dk_at dksX5_tell_1 8 rfl rfl)
theorem dX5_tell_33 : decode cX5_tell 33 = .ok (.istore 5, 2) := dk_54 5 (dk_at dksX5_tell_1 11 rfl rfl)
theorem dX5_tell_35 : decode cX5_tell 35 = .ok (.iload 5, 2) := dk_21 5 (dk_at dksX5_tell_1 13 rfl rfl)
theorem dX5_tell_37 : decode cX5_tell 37 = .ok (.sipush 720, 3) := dk_17 2 208 (dk_at dksX5_tell_1 15 rfl rfl)
theorem dX5_tell_40 : decode cX5_tell 40 = .ok (.if_icmp .ge 65, 3) := dk_162 0 65 (dk_at dksX5_tell_1 18 rfl rfl)
theorem dX5_tell_43 : decode cX5_tell 43 = .ok (.iload 5, 2) := dk_21 5 (dk_at dksX5_tell_1 21 rfl rfl)
theorem dX5_tell_45 : decode cX5_tell 45 = .ok (.aload_n 0, 1) := dk_42 (dk_at dksX5_tell_1 23 rfl rfl)
theorem dX5_tell_46 : decode cX5_tell 46 = .ok (.getfield 42, 3) := dk_180 0 42 (dk_at dksX5_tell_2 0 rfl rfl)
theorem dX5_tell_49 : decode cX5_tell 49 = .ok (.if_icmp .gt 21, 3) := dk_163 0 21 (dk_at dksX5_tell_2 3 rfl rfl)
theorem dX5_tell_52 : decode cX5_tell 52 = .ok (.aload_n 0, 1) := dk_42 (dk_at dksX5_tell_2 6 rfl rfl)
theorem dX5_tell_53 : decode cX5_tell 53 = .ok (.getfield 12, 3) := dk_180 0 12 (dk_at dksX5_tell_2 7 rfl rfl)
theorem dX5_tell_56 : decode cX5_tell 56 = .ok (.iload 5, 2) := dk_21 5 (dk_at dksX5_tell_2 10 rfl rfl)
theorem dX5_tell_58 : decode cX5_tell 58 = .ok (.invokestatic 62, 3) := dk_184 0 62 (dk_at dksX5_tell_2 12 rfl rfl)
theorem dX5_tell_61 : decode cX5_tell 61 = .ok (.invokevirtual 72, 3) := dk_182 0 72 (dk_at dksX5_tell_2 15 rfl rfl)
theorem dX5_tell_64 : decode cX5_tell 64 = .ok (.checkcast 63, 3) := dk_192 0 63 (dk_at dksX5_tell_2 18 rfl rfl)
theorem dX5_tell_67 : decode cX5_tell 67 = .ok (.goto 4, 3) := dk_167 0 4 (dk_at dksX5_tell_2 21 rfl rfl)
theorem dX5_tell_70 : decode cX5_tell 70 = .ok (.aconst_null, 1) := dk_1 (dk_at dksX5_tell_3 0 rfl rfl)
theorem dX5_tell_71 : decode cX5_tell 71 = .ok (.astore 6, 2) := dk_58 6 (dk_at dksX5_tell_3 1 rfl rfl)
theorem dX5_tell_73 : decode cX5_tell 73 = .ok (.aload 6, 2) := dk_25 6 (dk_at dksX5_tell_3 3 rfl rfl)
theorem dX5_tell_75 : decode cX5_tell 75 = .ok (.ifnonnull 8, 3) := dk_199 0 8 (dk_at dksX5_tell_3 5 rfl rfl)
theorem dX5_tell_78 : decode cX5_tell 78 = .ok (.iload 4, 2) := dk_21 4 (dk_at dksX5_tell_3 8 rfl rfl)
theorem dX5_tell_80 : decode cX5_tell 80 = .ok (.goto 8, 3) := dk_167 0 8 (dk_at dksX5_tell_3 10 rfl rfl)
theorem dX5_tell_83 : decode cX5_tell 83 = .ok (.aload 6, 2) := dk_25 6 (dk_at dksX5_tell_3 13 rfl rfl)
theorem dX5_tell_85 : decode cX5_tell 85 = .ok (.invokevirtual 76, 3) := dk_182 0 76 (dk_at dksX5_tell_3 15 rfl rfl)
theorem dX5_tell_88 : decode cX5_tell 88 = .ok (.istore 4, 2) := dk_54 4 (dk_at dksX5_tell_3 18 rfl rfl)
theorem dX5_tell_90 : decode cX5_tell 90 = .ok (.aload_n 0, 1) := dk_42 (dk_at dksX5_tell_3 20 rfl rfl)
theorem dX5_tell_91 : decode cX5_tell 91 = .ok (.getfield 25, 3) := dk_180 0 25 (dk_at dksX5_tell_3 21 rfl rfl)
theorem dX5_tell_94 : decode cX5_tell 94 = .ok (.iload 5, 2) := dk_21 5 (dk_at dksX5_tell_4 0 rfl rfl)
theorem dX5_tell_96 : decode cX5_tell 96 = .ok (.iload 4, 2) := dk_21 4 (dk_at dksX5_tell_4 2 rfl rfl)
theorem dX5_tell_98 : decode cX5_tell 98 = .ok (.iastore, 1) := dk_79 (dk_at dksX5_tell_4 4 rfl rfl)
theorem dX5_tell_99 : decode cX5_tell 99 = .ok (.iinc 5 1, 3) := dk_132 5 1 (dk_at dksX5_tell_4 5 rfl rfl)
theorem dX5_tell_102 : decode cX5_tell 102 = .ok (.goto (-67), 3) := dk_167 255 189 (dk_at dksX5_tell_4 8 rfl rfl)
theorem dX5_tell_105 : decode cX5_tell 105 = .ok (.return_, 1) := dk_177 (dk_at dksX5_tell_4 11 rfl rfl)
def dkwX5_payAt_0 : List UInt8 := [42, 180, 0, 25, 42, 180, 0, 39, 27, 184, 0, 56, 46, 172]
abbrev dktX5_payAt_0 : List UInt8 := dkwX5_payAt_0 ++ []
theorem dksX5_payAt_0 : cX5_payAt.data.toList.drop 0 = dktX5_payAt_0 := by decide +kernel
theorem dX5_payAt_0 : decode cX5_payAt 0 = .ok (.aload_n 0, 1) := dk_42 (dk_at dksX5_payAt_0 0 rfl rfl)
theorem dX5_payAt_1 : decode cX5_payAt 1 = .ok (.getfield 25, 3) := dk_180 0 25 (dk_at dksX5_payAt_0 1 rfl rfl)
theorem dX5_payAt_4 : decode cX5_payAt 4 = .ok (.aload_n 0, 1) := dk_42 (dk_at dksX5_payAt_0 4 rfl rfl)
theorem dX5_payAt_5 : decode cX5_payAt 5 = .ok (.getfield 39, 3) := dk_180 0 39 (dk_at dksX5_payAt_0 5 rfl rfl)
theorem dX5_payAt_8 : decode cX5_payAt 8 = .ok (.iload_n 1, 1) := dk_27 (dk_at dksX5_payAt_0 8 rfl rfl)
theorem dX5_payAt_9 : decode cX5_payAt 9 = .ok (.invokestatic 56, 3) := dk_184 0 56 (dk_at dksX5_payAt_0 9 rfl rfl)
theorem dX5_payAt_12 : decode cX5_payAt 12 = .ok (.iaload, 1) := dk_46 (dk_at dksX5_payAt_0 12 rfl rfl)
theorem dX5_payAt_13 : decode cX5_payAt 13 = .ok (.ireturn, 1) := dk_172 (dk_at dksX5_payAt_0 13 rfl rfl)
def dkwX5_has_0 : List UInt8 := [27, 42, 180, 0, 39, 161, 0, 15, 27, 42, 180, 0, 42, 163, 0, 7, 4, 167, 0, 4, 3, 172]
abbrev dktX5_has_0 : List UInt8 := dkwX5_has_0 ++ []
theorem dksX5_has_0 : cX5_has.data.toList.drop 0 = dktX5_has_0 := by decide +kernel
theorem dX5_has_0 : decode cX5_has 0 = .ok (.iload_n 1, 1) := dk_27 (dk_at dksX5_has_0 0 rfl rfl)
theorem dX5_has_1 : decode cX5_has 1 = .ok (.aload_n 0, 1) := dk_42 (dk_at dksX5_has_0 1 rfl rfl)
theorem dX5_has_2 : decode cX5_has 2 = .ok (.getfield 39, 3) := dk_180 0 39 (dk_at dksX5_has_0 2 rfl rfl)
theorem dX5_has_5 : decode cX5_has 5 = .ok (.if_icmp .lt 15, 3) := dk_161 0 15 (dk_at dksX5_has_0 5 rfl rfl)
theorem dX5_has_8 : decode cX5_has 8 = .ok (.iload_n 1, 1) := dk_27 (dk_at dksX5_has_0 8 rfl rfl)
theorem dX5_has_9 : decode cX5_has 9 = .ok (.aload_n 0, 1) := dk_42 (dk_at dksX5_has_0 9 rfl rfl)
theorem dX5_has_10 : decode cX5_has 10 = .ok (.getfield 42, 3) := dk_180 0 42 (dk_at dksX5_has_0 10 rfl rfl)
theorem dX5_has_13 : decode cX5_has 13 = .ok (.if_icmp .gt 7, 3) := dk_163 0 7 (dk_at dksX5_has_0 13 rfl rfl)
theorem dX5_has_16 : decode cX5_has 16 = .ok (.iconst 1, 1) := dk_4 (dk_at dksX5_has_0 16 rfl rfl)
theorem dX5_has_17 : decode cX5_has 17 = .ok (.goto 4, 3) := dk_167 0 4 (dk_at dksX5_has_0 17 rfl rfl)
theorem dX5_has_20 : decode cX5_has 20 = .ok (.iconst 0, 1) := dk_3 (dk_at dksX5_has_0 20 rfl rfl)
theorem dX5_has_21 : decode cX5_has 21 = .ok (.ireturn, 1) := dk_172 (dk_at dksX5_has_0 21 rfl rfl)
def dkwX5_canAdd_2 : List UInt8 := [3, 126, 61, 167, 255, 219, 28, 172]
abbrev dktX5_canAdd_2 : List UInt8 := dkwX5_canAdd_2 ++ []
def dkwX5_canAdd_1 : List UInt8 := [185, 0, 92, 1, 0, 192, 0, 96, 58, 4, 28, 43, 25, 4, 182, 0, 98, 154, 0, 7, 4, 167, 0, 4]
abbrev dktX5_canAdd_1 : List UInt8 := dkwX5_canAdd_1 ++ dktX5_canAdd_2
def dkwX5_canAdd_0 : List UInt8 := [4, 61, 42, 180, 0, 21, 185, 0, 80, 1, 0, 78, 45, 185, 0, 86, 1, 0, 153, 0, 34, 45]
abbrev dktX5_canAdd_0 : List UInt8 := dkwX5_canAdd_0 ++ dktX5_canAdd_1
theorem dksX5_canAdd_0 : cX5_canAdd.data.toList.drop 0 = dktX5_canAdd_0 := by decide +kernel
theorem dksX5_canAdd_1 : cX5_canAdd.data.toList.drop 22 = dktX5_canAdd_1 := dk_seg dksX5_canAdd_0 22 rfl rfl
theorem dksX5_canAdd_2 : cX5_canAdd.data.toList.drop 46 = dktX5_canAdd_2 := dk_seg dksX5_canAdd_1 24 rfl rfl
theorem dX5_canAdd_0 : decode cX5_canAdd 0 = .ok (.iconst 1, 1) := dk_4 (dk_at dksX5_canAdd_0 0 rfl rfl)
theorem dX5_canAdd_1 : decode cX5_canAdd 1 = .ok (.istore_n 2, 1) := dk_61 (dk_at dksX5_canAdd_0 1 rfl rfl)
theorem dX5_canAdd_2 : decode cX5_canAdd 2 = .ok (.aload_n 0, 1) := dk_42 (dk_at dksX5_canAdd_0 2 rfl rfl)
theorem dX5_canAdd_3 : decode cX5_canAdd 3 = .ok (.getfield 21, 3) := dk_180 0 21 (dk_at dksX5_canAdd_0 3 rfl rfl)
theorem dX5_canAdd_6 : decode cX5_canAdd 6 = .ok (.invokeinterface 80 1, 5) := by decide +kernel
theorem dX5_canAdd_11 : decode cX5_canAdd 11 = .ok (.astore_n 3, 1) := dk_78 (dk_at dksX5_canAdd_0 11 rfl rfl)
theorem dX5_canAdd_12 : decode cX5_canAdd 12 = .ok (.aload_n 3, 1) := dk_45 (dk_at dksX5_canAdd_0 12 rfl rfl)
theorem dX5_canAdd_13 : decode cX5_canAdd 13 = .ok (.invokeinterface 86 1, 5) := by decide +kernel
theorem dX5_canAdd_18 : decode cX5_canAdd 18 = .ok (.ifCond .eq 34, 3) := dk_153 0 34 (dk_at dksX5_canAdd_0 18 rfl rfl)
theorem dX5_canAdd_21 : decode cX5_canAdd 21 = .ok (.aload_n 3, 1) := dk_45 (dk_at dksX5_canAdd_0 21 rfl rfl)
theorem dX5_canAdd_22 : decode cX5_canAdd 22 = .ok (.invokeinterface 92 1, 5) := by decide +kernel
theorem dX5_canAdd_27 : decode cX5_canAdd 27 = .ok (.checkcast 96, 3) := dk_192 0 96 (dk_at dksX5_canAdd_1 5 rfl rfl)
theorem dX5_canAdd_30 : decode cX5_canAdd 30 = .ok (.astore 4, 2) := dk_58 4 (dk_at dksX5_canAdd_1 8 rfl rfl)
theorem dX5_canAdd_32 : decode cX5_canAdd 32 = .ok (.iload_n 2, 1) := dk_28 (dk_at dksX5_canAdd_1 10 rfl rfl)
theorem dX5_canAdd_33 : decode cX5_canAdd 33 = .ok (.aload_n 1, 1) := dk_43 (dk_at dksX5_canAdd_1 11 rfl rfl)
theorem dX5_canAdd_34 : decode cX5_canAdd 34 = .ok (.aload 4, 2) := dk_25 4 (dk_at dksX5_canAdd_1 12 rfl rfl)
theorem dX5_canAdd_36 : decode cX5_canAdd 36 = .ok (.invokevirtual 98, 3) := dk_182 0 98 (dk_at dksX5_canAdd_1 14 rfl rfl)
theorem dX5_canAdd_39 : decode cX5_canAdd 39 = .ok (.ifCond .ne 7, 3) := dk_154 0 7 (dk_at dksX5_canAdd_1 17 rfl rfl)
theorem dX5_canAdd_42 : decode cX5_canAdd 42 = .ok (.iconst 1, 1) := dk_4 (dk_at dksX5_canAdd_1 20 rfl rfl)
theorem dX5_canAdd_43 : decode cX5_canAdd 43 = .ok (.goto 4, 3) := dk_167 0 4 (dk_at dksX5_canAdd_1 21 rfl rfl)
theorem dX5_canAdd_46 : decode cX5_canAdd 46 = .ok (.iconst 0, 1) := dk_3 (dk_at dksX5_canAdd_2 0 rfl rfl)
theorem dX5_canAdd_47 : decode cX5_canAdd 47 = .ok (.iand, 1) := dk_126 (dk_at dksX5_canAdd_2 1 rfl rfl)
theorem dX5_canAdd_48 : decode cX5_canAdd 48 = .ok (.istore_n 2, 1) := dk_61 (dk_at dksX5_canAdd_2 2 rfl rfl)
theorem dX5_canAdd_49 : decode cX5_canAdd 49 = .ok (.goto (-37), 3) := dk_167 255 219 (dk_at dksX5_canAdd_2 3 rfl rfl)
theorem dX5_canAdd_52 : decode cX5_canAdd 52 = .ok (.iload_n 2, 1) := dk_28 (dk_at dksX5_canAdd_2 6 rfl rfl)
theorem dX5_canAdd_53 : decode cX5_canAdd 53 = .ok (.ireturn, 1) := dk_172 (dk_at dksX5_canAdd_2 7 rfl rfl)
def dkwX5_add_5 : List UInt8 := [136, 96, 79, 132, 6, 1, 167, 255, 188, 177]
abbrev dktX5_add_5 : List UInt8 := dkwX5_add_5 ++ []
def dkwX5_add_4 : List UInt8 := [180, 0, 29, 21, 6, 92, 46, 22, 4, 21, 6, 4, 96, 133, 20, 0, 113, 105, 184, 0, 118, 22, 7, 101]
abbrev dktX5_add_4 : List UInt8 := dkwX5_add_4 ++ dktX5_add_5
def dkwX5_add_3 : List UInt8 := [105, 22, 4, 148, 156, 0, 53, 43, 182, 0, 109, 21, 6, 133, 20, 0, 113, 105, 184, 0, 115, 55, 7, 42]
abbrev dktX5_add_3 : List UInt8 := dkwX5_add_3 ++ dktX5_add_4
def dkwX5_add_2 : List UInt8 := [182, 0, 109, 20, 0, 113, 109, 136, 54, 6, 21, 6, 17, 2, 208, 162, 0, 66, 21, 6, 133, 20, 0, 113]
abbrev dktX5_add_2 : List UInt8 := dkwX5_add_2 ++ dktX5_add_3
def dkwX5_add_1 : List UInt8 := [182, 0, 106, 32, 20, 0, 111, 148, 158, 0, 8, 16, 30, 167, 0, 4, 3, 133, 101, 55, 4, 43]
abbrev dktX5_add_1 : List UInt8 := dkwX5_add_1 ++ dktX5_add_2
def dkwX5_add_0 : List UInt8 := [42, 180, 0, 21, 43, 185, 0, 102, 2, 0, 87, 43, 182, 0, 106, 43, 182, 0, 109, 101, 65, 43]
abbrev dktX5_add_0 : List UInt8 := dkwX5_add_0 ++ dktX5_add_1
theorem dksX5_add_0 : cX5_add.data.toList.drop 0 = dktX5_add_0 := by decide +kernel
theorem dksX5_add_1 : cX5_add.data.toList.drop 22 = dktX5_add_1 := dk_seg dksX5_add_0 22 rfl rfl
theorem dksX5_add_2 : cX5_add.data.toList.drop 44 = dktX5_add_2 := dk_seg dksX5_add_1 22 rfl rfl
theorem dksX5_add_3 : cX5_add.data.toList.drop 68 = dktX5_add_3 := dk_seg dksX5_add_2 24 rfl rfl
theorem dksX5_add_4 : cX5_add.data.toList.drop 92 = dktX5_add_4 := dk_seg dksX5_add_3 24 rfl rfl
theorem dksX5_add_5 : cX5_add.data.toList.drop 116 = dktX5_add_5 := dk_seg dksX5_add_4 24 rfl rfl
theorem dX5_add_0 : decode cX5_add 0 = .ok (.aload_n 0, 1) := dk_42 (dk_at dksX5_add_0 0 rfl rfl)
theorem dX5_add_1 : decode cX5_add 1 = .ok (.getfield 21, 3) := dk_180 0 21 (dk_at dksX5_add_0 1 rfl rfl)
theorem dX5_add_4 : decode cX5_add 4 = .ok (.aload_n 1, 1) := dk_43 (dk_at dksX5_add_0 4 rfl rfl)
theorem dX5_add_5 : decode cX5_add 5 = .ok (.invokeinterface 102 2, 5) := by decide +kernel
theorem dX5_add_10 : decode cX5_add 10 = .ok (.pop, 1) := dk_87 (dk_at dksX5_add_0 10 rfl rfl)
theorem dX5_add_11 : decode cX5_add 11 = .ok (.aload_n 1, 1) := dk_43 (dk_at dksX5_add_0 11 rfl rfl)
theorem dX5_add_12 : decode cX5_add 12 = .ok (.invokevirtual 106, 3) := dk_182 0 106 (dk_at dksX5_add_0 12 rfl rfl)
theorem dX5_add_15 : decode cX5_add 15 = .ok (.aload_n 1, 1) := dk_43 (dk_at dksX5_add_0 15 rfl rfl)
theorem dX5_add_16 : decode cX5_add 16 = .ok (.invokevirtual 109, 3) := dk_182 0 109 (dk_at dksX5_add_0 16 rfl rfl)
theorem dX5_add_19 : decode cX5_add 19 = .ok (.lsub, 1) := dk_101 (dk_at dksX5_add_0 19 rfl rfl)
theorem dX5_add_20 : decode cX5_add 20 = .ok (.lstore_n 2, 1) := dk_65 (dk_at dksX5_add_0 20 rfl rfl)
theorem dX5_add_21 : decode cX5_add 21 = .ok (.aload_n 1, 1) := dk_43 (dk_at dksX5_add_0 21 rfl rfl)
theorem dX5_add_22 : decode cX5_add 22 = .ok (.invokevirtual 106, 3) := dk_182 0 106 (dk_at dksX5_add_1 0 rfl rfl)
theorem dX5_add_25 : decode cX5_add 25 = .ok (.lload_n 2, 1) := dk_32 (dk_at dksX5_add_1 3 rfl rfl)
theorem dX5_add_26 : decode cX5_add 26 = .ok (.ldc2_w 111, 3) := dk_20 0 111 (dk_at dksX5_add_1 4 rfl rfl)
theorem dX5_add_29 : decode cX5_add 29 = .ok (.lcmp, 1) := dk_148 (dk_at dksX5_add_1 7 rfl rfl)
theorem dX5_add_30 : decode cX5_add 30 = .ok (.ifCond .le 8, 3) := dk_158 0 8 (dk_at dksX5_add_1 8 rfl rfl)
theorem dX5_add_33 : decode cX5_add 33 = .ok (.bipush 30, 2) := dk_16 30 (dk_at dksX5_add_1 11 rfl rfl)
theorem dX5_add_35 : decode cX5_add 35 = .ok (.goto 4, 3) := dk_167 0 4 (dk_at dksX5_add_1 13 rfl rfl)
theorem dX5_add_38 : decode cX5_add 38 = .ok (.iconst 0, 1) := dk_3 (dk_at dksX5_add_1 16 rfl rfl)
theorem dX5_add_39 : decode cX5_add 39 = .ok (.i2l, 1) := dk_133 (dk_at dksX5_add_1 17 rfl rfl)
theorem dX5_add_40 : decode cX5_add 40 = .ok (.lsub, 1) := dk_101 (dk_at dksX5_add_1 18 rfl rfl)
theorem dX5_add_41 : decode cX5_add 41 = .ok (.lstore 4, 2) := dk_55 4 (dk_at dksX5_add_1 19 rfl rfl)
theorem dX5_add_43 : decode cX5_add 43 = .ok (.aload_n 1, 1) := dk_43 (dk_at dksX5_add_1 21 rfl rfl)
theorem dX5_add_44 : decode cX5_add 44 = .ok (.invokevirtual 109, 3) := dk_182 0 109 (dk_at dksX5_add_2 0 rfl rfl)
theorem dX5_add_47 : decode cX5_add 47 = .ok (.ldc2_w 113, 3) := dk_20 0 113 (dk_at dksX5_add_2 3 rfl rfl)
theorem dX5_add_50 : decode cX5_add 50 = .ok (.ldiv, 1) := dk_109 (dk_at dksX5_add_2 6 rfl rfl)
theorem dX5_add_51 : decode cX5_add 51 = .ok (.l2i, 1) := dk_136 (dk_at dksX5_add_2 7 rfl rfl)
theorem dX5_add_52 : decode cX5_add 52 = .ok (.istore 6, 2) := dk_54 6 (dk_at dksX5_add_2 8 rfl rfl)
theorem dX5_add_54 : decode cX5_add 54 = .ok (.iload 6, 2) := dk_21 6 (dk_at dksX5_add_2 10 rfl rfl)
theorem dX5_add_56 : decode cX5_add 56 = .ok (.sipush 720, 3) := dk_17 2 208 (dk_at dksX5_add_2 12 rfl rfl)
theorem dX5_add_59 : decode cX5_add 59 = .ok (.if_icmp .ge 66, 3) := dk_162 0 66 (dk_at dksX5_add_2 15 rfl rfl)
theorem dX5_add_62 : decode cX5_add 62 = .ok (.iload 6, 2) := dk_21 6 (dk_at dksX5_add_2 18 rfl rfl)
theorem dX5_add_64 : decode cX5_add 64 = .ok (.i2l, 1) := dk_133 (dk_at dksX5_add_2 20 rfl rfl)
theorem dX5_add_65 : decode cX5_add 65 = .ok (.ldc2_w 113, 3) := dk_20 0 113 (dk_at dksX5_add_2 21 rfl rfl)
theorem dX5_add_68 : decode cX5_add 68 = .ok (.lmul, 1) := dk_105 (dk_at dksX5_add_3 0 rfl rfl)
theorem dX5_add_69 : decode cX5_add 69 = .ok (.lload 4, 2) := dk_22 4 (dk_at dksX5_add_3 1 rfl rfl)
theorem dX5_add_71 : decode cX5_add 71 = .ok (.lcmp, 1) := dk_148 (dk_at dksX5_add_3 3 rfl rfl)
theorem dX5_add_72 : decode cX5_add 72 = .ok (.ifCond .ge 53, 3) := dk_156 0 53 (dk_at dksX5_add_3 4 rfl rfl)
theorem dX5_add_75 : decode cX5_add 75 = .ok (.aload_n 1, 1) := dk_43 (dk_at dksX5_add_3 7 rfl rfl)
theorem dX5_add_76 : decode cX5_add 76 = .ok (.invokevirtual 109, 3) := dk_182 0 109 (dk_at dksX5_add_3 8 rfl rfl)
theorem dX5_add_79 : decode cX5_add 79 = .ok (.iload 6, 2) := dk_21 6 (dk_at dksX5_add_3 11 rfl rfl)
theorem dX5_add_81 : decode cX5_add 81 = .ok (.i2l, 1) := dk_133 (dk_at dksX5_add_3 13 rfl rfl)
theorem dX5_add_82 : decode cX5_add 82 = .ok (.ldc2_w 113, 3) := dk_20 0 113 (dk_at dksX5_add_3 14 rfl rfl)
theorem dX5_add_85 : decode cX5_add 85 = .ok (.lmul, 1) := dk_105 (dk_at dksX5_add_3 17 rfl rfl)
theorem dX5_add_86 : decode cX5_add 86 = .ok (.invokestatic 115, 3) := dk_184 0 115 (dk_at dksX5_add_3 18 rfl rfl)
theorem dX5_add_89 : decode cX5_add 89 = .ok (.lstore 7, 2) := dk_55 7 (dk_at dksX5_add_3 21 rfl rfl)
theorem dX5_add_91 : decode cX5_add 91 = .ok (.aload_n 0, 1) := dk_42 (dk_at dksX5_add_3 23 rfl rfl)
theorem dX5_add_92 : decode cX5_add 92 = .ok (.getfield 29, 3) := dk_180 0 29 (dk_at dksX5_add_4 0 rfl rfl)
theorem dX5_add_95 : decode cX5_add 95 = .ok (.iload 6, 2) := dk_21 6 (dk_at dksX5_add_4 3 rfl rfl)
theorem dX5_add_97 : decode cX5_add 97 = .ok (.dup2, 1) := dk_92 (dk_at dksX5_add_4 5 rfl rfl)
theorem dX5_add_98 : decode cX5_add 98 = .ok (.iaload, 1) := dk_46 (dk_at dksX5_add_4 6 rfl rfl)
theorem dX5_add_99 : decode cX5_add 99 = .ok (.lload 4, 2) := dk_22 4 (dk_at dksX5_add_4 7 rfl rfl)
theorem dX5_add_101 : decode cX5_add 101 = .ok (.iload 6, 2) := dk_21 6 (dk_at dksX5_add_4 9 rfl rfl)
theorem dX5_add_103 : decode cX5_add 103 = .ok (.iconst 1, 1) := dk_4 (dk_at dksX5_add_4 11 rfl rfl)
theorem dX5_add_104 : decode cX5_add 104 = .ok (.iadd, 1) := dk_96 (dk_at dksX5_add_4 12 rfl rfl)
theorem dX5_add_105 : decode cX5_add 105 = .ok (.i2l, 1) := dk_133 (dk_at dksX5_add_4 13 rfl rfl)
theorem dX5_add_106 : decode cX5_add 106 = .ok (.ldc2_w 113, 3) := dk_20 0 113 (dk_at dksX5_add_4 14 rfl rfl)
theorem dX5_add_109 : decode cX5_add 109 = .ok (.lmul, 1) := dk_105 (dk_at dksX5_add_4 17 rfl rfl)
theorem dX5_add_110 : decode cX5_add 110 = .ok (.invokestatic 118, 3) := dk_184 0 118 (dk_at dksX5_add_4 18 rfl rfl)
theorem dX5_add_113 : decode cX5_add 113 = .ok (.lload 7, 2) := dk_22 7 (dk_at dksX5_add_4 21 rfl rfl)
theorem dX5_add_115 : decode cX5_add 115 = .ok (.lsub, 1) := dk_101 (dk_at dksX5_add_4 23 rfl rfl)
theorem dX5_add_116 : decode cX5_add 116 = .ok (.l2i, 1) := dk_136 (dk_at dksX5_add_5 0 rfl rfl)
theorem dX5_add_117 : decode cX5_add 117 = .ok (.iadd, 1) := dk_96 (dk_at dksX5_add_5 1 rfl rfl)
theorem dX5_add_118 : decode cX5_add 118 = .ok (.iastore, 1) := dk_79 (dk_at dksX5_add_5 2 rfl rfl)
theorem dX5_add_119 : decode cX5_add 119 = .ok (.iinc 6 1, 3) := dk_132 6 1 (dk_at dksX5_add_5 3 rfl rfl)
theorem dX5_add_122 : decode cX5_add 122 = .ok (.goto (-68), 3) := dk_167 255 188 (dk_at dksX5_add_5 6 rfl rfl)
theorem dX5_add_125 : decode cX5_add 125 = .ok (.return_, 1) := dk_177 (dk_at dksX5_add_5 9 rfl rfl)
def dkwX5_overtime_3 : List UInt8 := [184, 0, 56, 172]
abbrev dktX5_overtime_3 : List UInt8 := dkwX5_overtime_3 ++ []
def dkwX5_overtime_2 : List UInt8 := [180, 0, 29, 21, 4, 46, 96, 62, 132, 4, 1, 167, 255, 207, 28, 29, 8, 42, 180, 0, 49, 104, 100]
abbrev dktX5_overtime_2 : List UInt8 := dkwX5_overtime_2 ++ dktX5_overtime_3
def dkwX5_overtime_1 : List UInt8 := [162, 0, 38, 28, 3, 42, 180, 0, 29, 21, 4, 46, 42, 180, 0, 49, 100, 184, 0, 56, 96, 61, 29, 42]
abbrev dktX5_overtime_1 : List UInt8 := dkwX5_overtime_1 ++ dktX5_overtime_2
def dkwX5_overtime_0 : List UInt8 := [3, 61, 3, 62, 27, 16, 7, 104, 54, 4, 21, 4, 17, 2, 208, 27, 4, 96, 16, 7, 104, 184, 0, 121]
abbrev dktX5_overtime_0 : List UInt8 := dkwX5_overtime_0 ++ dktX5_overtime_1
theorem dksX5_overtime_0 : cX5_overtime.data.toList.drop 0 = dktX5_overtime_0 := by decide +kernel
theorem dksX5_overtime_1 : cX5_overtime.data.toList.drop 24 = dktX5_overtime_1 := dk_seg dksX5_overtime_0 24 rfl rfl
theorem dksX5_overtime_2 : cX5_overtime.data.toList.drop 48 = dktX5_overtime_2 := dk_seg dksX5_overtime_1 24 rfl rfl
theorem dksX5_overtime_3 : cX5_overtime.data.toList.drop 71 = dktX5_overtime_3 := dk_seg dksX5_overtime_2 23 rfl rfl
theorem dX5_overtime_0 : decode cX5_overtime 0 = .ok (.iconst 0, 1) := dk_3 (dk_at dksX5_overtime_0 0 rfl rfl)
theorem dX5_overtime_1 : decode cX5_overtime 1 = .ok (.istore_n 2, 1) := dk_61 (dk_at dksX5_overtime_0 1 rfl rfl)
theorem dX5_overtime_2 : decode cX5_overtime 2 = .ok (.iconst 0, 1) := dk_3 (dk_at dksX5_overtime_0 2 rfl rfl)
theorem dX5_overtime_3 : decode cX5_overtime 3 = .ok (.istore_n 3, 1) := dk_62 (dk_at dksX5_overtime_0 3 rfl rfl)
theorem dX5_overtime_4 : decode cX5_overtime 4 = .ok (.iload_n 1, 1) := dk_27 (dk_at dksX5_overtime_0 4 rfl rfl)
theorem dX5_overtime_5 : decode cX5_overtime 5 = .ok (.bipush 7, 2) := dk_16 7 (dk_at dksX5_overtime_0 5 rfl rfl)
theorem dX5_overtime_7 : decode cX5_overtime 7 = .ok (.imul, 1) := dk_104 (dk_at dksX5_overtime_0 7 rfl rfl)
theorem dX5_overtime_8 : decode cX5_overtime 8 = .ok (.istore 4, 2) := dk_54 4 (dk_at dksX5_overtime_0 8 rfl rfl)
theorem dX5_overtime_10 : decode cX5_overtime 10 = .ok (.iload 4, 2) := dk_21 4 (dk_at dksX5_overtime_0 10 rfl rfl)
theorem dX5_overtime_12 : decode cX5_overtime 12 = .ok (.sipush 720, 3) := dk_17 2 208 (dk_at dksX5_overtime_0 12 rfl rfl)
theorem dX5_overtime_15 : decode cX5_overtime 15 = .ok (.iload_n 1, 1) := dk_27 (dk_at dksX5_overtime_0 15 rfl rfl)
theorem dX5_overtime_16 : decode cX5_overtime 16 = .ok (.iconst 1, 1) := dk_4 (dk_at dksX5_overtime_0 16 rfl rfl)
theorem dX5_overtime_17 : decode cX5_overtime 17 = .ok (.iadd, 1) := dk_96 (dk_at dksX5_overtime_0 17 rfl rfl)
theorem dX5_overtime_18 : decode cX5_overtime 18 = .ok (.bipush 7, 2) := dk_16 7 (dk_at dksX5_overtime_0 18 rfl rfl)
theorem dX5_overtime_20 : decode cX5_overtime 20 = .ok (.imul, 1) := dk_104 (dk_at dksX5_overtime_0 20 rfl rfl)
theorem dX5_overtime_21 : decode cX5_overtime 21 = .ok (.invokestatic 121, 3) := dk_184 0 121 (dk_at dksX5_overtime_0 21 rfl rfl)
theorem dX5_overtime_24 : decode cX5_overtime 24 = .ok (.if_icmp .ge 38, 3) := dk_162 0 38 (dk_at dksX5_overtime_1 0 rfl rfl)
theorem dX5_overtime_27 : decode cX5_overtime 27 = .ok (.iload_n 2, 1) := dk_28 (dk_at dksX5_overtime_1 3 rfl rfl)
theorem dX5_overtime_28 : decode cX5_overtime 28 = .ok (.iconst 0, 1) := dk_3 (dk_at dksX5_overtime_1 4 rfl rfl)
theorem dX5_overtime_29 : decode cX5_overtime 29 = .ok (.aload_n 0, 1) := dk_42 (dk_at dksX5_overtime_1 5 rfl rfl)
theorem dX5_overtime_30 : decode cX5_overtime 30 = .ok (.getfield 29, 3) := dk_180 0 29 (dk_at dksX5_overtime_1 6 rfl rfl)
theorem dX5_overtime_33 : decode cX5_overtime 33 = .ok (.iload 4, 2) := dk_21 4 (dk_at dksX5_overtime_1 9 rfl rfl)
theorem dX5_overtime_35 : decode cX5_overtime 35 = .ok (.iaload, 1) := dk_46 (dk_at dksX5_overtime_1 11 rfl rfl)
theorem dX5_overtime_36 : decode cX5_overtime 36 = .ok (.aload_n 0, 1) := dk_42 (dk_at dksX5_overtime_1 12 rfl rfl)
theorem dX5_overtime_37 : decode cX5_overtime 37 = .ok (.getfield 49, 3) := dk_180 0 49 (dk_at dksX5_overtime_1 13 rfl rfl)
theorem dX5_overtime_40 : decode cX5_overtime 40 = .ok (.isub, 1) := dk_100 (dk_at dksX5_overtime_1 16 rfl rfl)
theorem dX5_overtime_41 : decode cX5_overtime 41 = .ok (.invokestatic 56, 3) := dk_184 0 56 (dk_at dksX5_overtime_1 17 rfl rfl)
theorem dX5_overtime_44 : decode cX5_overtime 44 = .ok (.iadd, 1) := dk_96 (dk_at dksX5_overtime_1 20 rfl rfl)
theorem dX5_overtime_45 : decode cX5_overtime 45 = .ok (.istore_n 2, 1) := dk_61 (dk_at dksX5_overtime_1 21 rfl rfl)
theorem dX5_overtime_46 : decode cX5_overtime 46 = .ok (.iload_n 3, 1) := dk_29 (dk_at dksX5_overtime_1 22 rfl rfl)
theorem dX5_overtime_47 : decode cX5_overtime 47 = .ok (.aload_n 0, 1) := dk_42 (dk_at dksX5_overtime_1 23 rfl rfl)
theorem dX5_overtime_48 : decode cX5_overtime 48 = .ok (.getfield 29, 3) := dk_180 0 29 (dk_at dksX5_overtime_2 0 rfl rfl)
theorem dX5_overtime_51 : decode cX5_overtime 51 = .ok (.iload 4, 2) := dk_21 4 (dk_at dksX5_overtime_2 3 rfl rfl)
theorem dX5_overtime_53 : decode cX5_overtime 53 = .ok (.iaload, 1) := dk_46 (dk_at dksX5_overtime_2 5 rfl rfl)
theorem dX5_overtime_54 : decode cX5_overtime 54 = .ok (.iadd, 1) := dk_96 (dk_at dksX5_overtime_2 6 rfl rfl)
theorem dX5_overtime_55 : decode cX5_overtime 55 = .ok (.istore_n 3, 1) := dk_62 (dk_at dksX5_overtime_2 7 rfl rfl)
theorem dX5_overtime_56 : decode cX5_overtime 56 = .ok (.iinc 4 1, 3) := dk_132 4 1 (dk_at dksX5_overtime_2 8 rfl rfl)
theorem dX5_overtime_59 : decode cX5_overtime 59 = .ok (.goto (-49), 3) := dk_167 255 207 (dk_at dksX5_overtime_2 11 rfl rfl)
theorem dX5_overtime_62 : decode cX5_overtime 62 = .ok (.iload_n 2, 1) := dk_28 (dk_at dksX5_overtime_2 14 rfl rfl)
theorem dX5_overtime_63 : decode cX5_overtime 63 = .ok (.iload_n 3, 1) := dk_29 (dk_at dksX5_overtime_2 15 rfl rfl)
theorem dX5_overtime_64 : decode cX5_overtime 64 = .ok (.iconst 5, 1) := dk_8 (dk_at dksX5_overtime_2 16 rfl rfl)
theorem dX5_overtime_65 : decode cX5_overtime 65 = .ok (.aload_n 0, 1) := dk_42 (dk_at dksX5_overtime_2 17 rfl rfl)
theorem dX5_overtime_66 : decode cX5_overtime 66 = .ok (.getfield 49, 3) := dk_180 0 49 (dk_at dksX5_overtime_2 18 rfl rfl)
theorem dX5_overtime_69 : decode cX5_overtime 69 = .ok (.imul, 1) := dk_104 (dk_at dksX5_overtime_2 21 rfl rfl)
theorem dX5_overtime_70 : decode cX5_overtime 70 = .ok (.isub, 1) := dk_100 (dk_at dksX5_overtime_2 22 rfl rfl)
theorem dX5_overtime_71 : decode cX5_overtime 71 = .ok (.invokestatic 56, 3) := dk_184 0 56 (dk_at dksX5_overtime_3 0 rfl rfl)
theorem dX5_overtime_74 : decode cX5_overtime 74 = .ok (.ireturn, 1) := dk_172 (dk_at dksX5_overtime_3 3 rfl rfl)
def dkwX5_base_7 : List UInt8 := [55, 4, 132, 6, 1, 167, 255, 191, 22, 4, 173]
abbrev dktX5_base_7 : List UInt8 := dkwX5_base_7 ++ []
def dkwX5_base_6 : List UInt8 := [21, 7, 182, 0, 134, 42, 21, 6, 182, 0, 138, 133, 105, 20, 0, 142, 184, 0, 127, 167, 0, 4, 9, 97]
abbrev dktX5_base_6 : List UInt8 := dkwX5_base_6 ++ dktX5_base_7
def dkwX5_base_5 : List UInt8 := [96, 16, 7, 104, 184, 0, 121, 4, 100, 54, 7, 22, 4, 21, 7, 16, 30, 108, 27, 160, 0, 26, 42]
abbrev dktX5_base_5 : List UInt8 := dkwX5_base_5 ++ dktX5_base_6
def dkwX5_base_4 : List UInt8 := [20, 0, 125, 184, 0, 127, 55, 4, 3, 54, 6, 21, 6, 16, 103, 162, 0, 64, 17, 2, 208, 21, 6, 4]
abbrev dktX5_base_4 : List UInt8 := dkwX5_base_4 ++ dktX5_base_5
def dkwX5_base_3 : List UInt8 := [9, 97, 65, 132, 4, 1, 167, 255, 188, 32, 42, 180, 0, 45, 153, 0, 9, 20, 0, 123, 167, 0, 6]
abbrev dktX5_base_3 : List UInt8 := dkwX5_base_3 ++ dktX5_base_4
def dkwX5_base_2 : List UInt8 := [167, 0, 27, 32, 42, 21, 4, 182, 0, 130, 153, 0, 14, 42, 180, 0, 25, 21, 4, 46, 133, 167, 0, 4]
abbrev dktX5_base_2 : List UInt8 := dkwX5_base_2 ++ dktX5_base_3
def dkwX5_base_1 : List UInt8 := [153, 0, 26, 32, 42, 180, 0, 29, 21, 4, 46, 133, 42, 180, 0, 25, 21, 4, 46, 133, 105, 97, 65]
abbrev dktX5_base_1 : List UInt8 := dkwX5_base_1 ++ dktX5_base_2
def dkwX5_base_0 : List UInt8 := [9, 65, 27, 16, 30, 104, 54, 4, 21, 4, 27, 4, 96, 16, 30, 104, 162, 0, 63, 42, 180, 0, 45]
abbrev dktX5_base_0 : List UInt8 := dkwX5_base_0 ++ dktX5_base_1
theorem dksX5_base_0 : cX5_base.data.toList.drop 0 = dktX5_base_0 := by decide +kernel
theorem dksX5_base_1 : cX5_base.data.toList.drop 23 = dktX5_base_1 := dk_seg dksX5_base_0 23 rfl rfl
theorem dksX5_base_2 : cX5_base.data.toList.drop 46 = dktX5_base_2 := dk_seg dksX5_base_1 23 rfl rfl
theorem dksX5_base_3 : cX5_base.data.toList.drop 70 = dktX5_base_3 := dk_seg dksX5_base_2 24 rfl rfl
theorem dksX5_base_4 : cX5_base.data.toList.drop 93 = dktX5_base_4 := dk_seg dksX5_base_3 23 rfl rfl
theorem dksX5_base_5 : cX5_base.data.toList.drop 117 = dktX5_base_5 := dk_seg dksX5_base_4 24 rfl rfl
theorem dksX5_base_6 : cX5_base.data.toList.drop 140 = dktX5_base_6 := dk_seg dksX5_base_5 23 rfl rfl
theorem dksX5_base_7 : cX5_base.data.toList.drop 164 = dktX5_base_7 := dk_seg dksX5_base_6 24 rfl rfl
theorem dX5_base_0 : decode cX5_base 0 = .ok (.lconst 0, 1) := dk_9 (dk_at dksX5_base_0 0 rfl rfl)
theorem dX5_base_1 : decode cX5_base 1 = .ok (.lstore_n 2, 1) := dk_65 (dk_at dksX5_base_0 1 rfl rfl)
theorem dX5_base_2 : decode cX5_base 2 = .ok (.iload_n 1, 1) := dk_27 (dk_at dksX5_base_0 2 rfl rfl)
theorem dX5_base_3 : decode cX5_base 3 = .ok (.bipush 30, 2) := dk_16 30 (dk_at dksX5_base_0 3 rfl rfl)
theorem dX5_base_5 : decode cX5_base 5 = .ok (.imul, 1) := dk_104 (dk_at dksX5_base_0 5 rfl rfl)
theorem dX5_base_6 : decode cX5_base 6 = .ok (.istore 4, 2) := dk_54 4 (dk_at dksX5_base_0 6 rfl rfl)
theorem dX5_base_8 : decode cX5_base 8 = .ok (.iload 4, 2) := dk_21 4 (dk_at dksX5_base_0 8 rfl rfl)
theorem dX5_base_10 : decode cX5_base 10 = .ok (.iload_n 1, 1) := dk_27 (dk_at dksX5_base_0 10 rfl rfl)
theorem dX5_base_11 : decode cX5_base 11 = .ok (.iconst 1, 1) := dk_4 (dk_at dksX5_base_0 11 rfl rfl)
theorem dX5_base_12 : decode cX5_base 12 = .ok (.iadd, 1) := dk_96 (dk_at dksX5_base_0 12 rfl rfl)
theorem dX5_base_13 : decode cX5_base 13 = .ok (.bipush 30, 2) := dk_16 30 (dk_at dksX5_base_0 13 rfl rfl)
theorem dX5_base_15 : decode cX5_base 15 = .ok (.imul, 1) := dk_104 (dk_at dksX5_base_0 15 rfl rfl)
theorem dX5_base_16 : decode cX5_base 16 = .ok (.if_icmp .ge 63, 3) := dk_162 0 63 (dk_at dksX5_base_0 16 rfl rfl)
theorem dX5_base_19 : decode cX5_base 19 = .ok (.aload_n 0, 1) := dk_42 (dk_at dksX5_base_0 19 rfl rfl)
theorem dX5_base_20 : decode cX5_base 20 = .ok (.getfield 45, 3) := dk_180 0 45 (dk_at dksX5_base_0 20 rfl rfl)
theorem dX5_base_23 : decode cX5_base 23 = .ok (.ifCond .eq 26, 3) := dk_153 0 26 (dk_at dksX5_base_1 0 rfl rfl)
theorem dX5_base_26 : decode cX5_base 26 = .ok (.lload_n 2, 1) := dk_32 (dk_at dksX5_base_1 3 rfl rfl)
theorem dX5_base_27 : decode cX5_base 27 = .ok (.aload_n 0, 1) := dk_42 (dk_at dksX5_base_1 4 rfl rfl)
theorem dX5_base_28 : decode cX5_base 28 = .ok (.getfield 29, 3) := dk_180 0 29 (dk_at dksX5_base_1 5 rfl rfl)
theorem dX5_base_31 : decode cX5_base 31 = .ok (.iload 4, 2) := dk_21 4 (dk_at dksX5_base_1 8 rfl rfl)
theorem dX5_base_33 : decode cX5_base 33 = .ok (.iaload, 1) := dk_46 (dk_at dksX5_base_1 10 rfl rfl)
theorem dX5_base_34 : decode cX5_base 34 = .ok (.i2l, 1) := dk_133 (dk_at dksX5_base_1 11 rfl rfl)
theorem dX5_base_35 : decode cX5_base 35 = .ok (.aload_n 0, 1) := dk_42 (dk_at dksX5_base_1 12 rfl rfl)
theorem dX5_base_36 : decode cX5_base 36 = .ok (.getfield 25, 3) := dk_180 0 25 (dk_at dksX5_base_1 13 rfl rfl)
theorem dX5_base_39 : decode cX5_base 39 = .ok (.iload 4, 2) := dk_21 4 (dk_at dksX5_base_1 16 rfl rfl)
theorem dX5_base_41 : decode cX5_base 41 = .ok (.iaload, 1) := dk_46 (dk_at dksX5_base_1 18 rfl rfl)
theorem dX5_base_42 : decode cX5_base 42 = .ok (.i2l, 1) := dk_133 (dk_at dksX5_base_1 19 rfl rfl)
theorem dX5_base_43 : decode cX5_base 43 = .ok (.lmul, 1) := dk_105 (dk_at dksX5_base_1 20 rfl rfl)
theorem dX5_base_44 : decode cX5_base 44 = .ok (.ladd, 1) := dk_97 (dk_at dksX5_base_1 21 rfl rfl)
theorem dX5_base_45 : decode cX5_base 45 = .ok (.lstore_n 2, 1) := dk_65 (dk_at dksX5_base_1 22 rfl rfl)
theorem dX5_base_46 : decode cX5_base 46 = .ok (.goto 27, 3) := dk_167 0 27 (dk_at dksX5_base_2 0 rfl rfl)
theorem dX5_base_49 : decode cX5_base 49 = .ok (.lload_n 2, 1) := dk_32 (dk_at dksX5_base_2 3 rfl rfl)
theorem dX5_base_50 : decode cX5_base 50 = .ok (.aload_n 0, 1) := dk_42 (dk_at dksX5_base_2 4 rfl rfl)
theorem dX5_base_51 : decode cX5_base 51 = .ok (.iload 4, 2) := dk_21 4 (dk_at dksX5_base_2 5 rfl rfl)
theorem dX5_base_53 : decode cX5_base 53 = .ok (.invokevirtual 130, 3) := dk_182 0 130 (dk_at dksX5_base_2 7 rfl rfl)
theorem dX5_base_56 : decode cX5_base 56 = .ok (.ifCond .eq 14, 3) := dk_153 0 14 (dk_at dksX5_base_2 10 rfl rfl)
theorem dX5_base_59 : decode cX5_base 59 = .ok (.aload_n 0, 1) := dk_42 (dk_at dksX5_base_2 13 rfl rfl)
theorem dX5_base_60 : decode cX5_base 60 = .ok (.getfield 25, 3) := dk_180 0 25 (dk_at dksX5_base_2 14 rfl rfl)
theorem dX5_base_63 : decode cX5_base 63 = .ok (.iload 4, 2) := dk_21 4 (dk_at dksX5_base_2 17 rfl rfl)
theorem dX5_base_65 : decode cX5_base 65 = .ok (.iaload, 1) := dk_46 (dk_at dksX5_base_2 19 rfl rfl)
theorem dX5_base_66 : decode cX5_base 66 = .ok (.i2l, 1) := dk_133 (dk_at dksX5_base_2 20 rfl rfl)
theorem dX5_base_67 : decode cX5_base 67 = .ok (.goto 4, 3) := dk_167 0 4 (dk_at dksX5_base_2 21 rfl rfl)
theorem dX5_base_70 : decode cX5_base 70 = .ok (.lconst 0, 1) := dk_9 (dk_at dksX5_base_3 0 rfl rfl)
theorem dX5_base_71 : decode cX5_base 71 = .ok (.ladd, 1) := dk_97 (dk_at dksX5_base_3 1 rfl rfl)
theorem dX5_base_72 : decode cX5_base 72 = .ok (.lstore_n 2, 1) := dk_65 (dk_at dksX5_base_3 2 rfl rfl)
theorem dX5_base_73 : decode cX5_base 73 = .ok (.iinc 4 1, 3) := dk_132 4 1 (dk_at dksX5_base_3 3 rfl rfl)
theorem dX5_base_76 : decode cX5_base 76 = .ok (.goto (-68), 3) := dk_167 255 188 (dk_at dksX5_base_3 6 rfl rfl)
theorem dX5_base_79 : decode cX5_base 79 = .ok (.lload_n 2, 1) := dk_32 (dk_at dksX5_base_3 9 rfl rfl)
theorem dX5_base_80 : decode cX5_base 80 = .ok (.aload_n 0, 1) := dk_42 (dk_at dksX5_base_3 10 rfl rfl)
theorem dX5_base_81 : decode cX5_base 81 = .ok (.getfield 45, 3) := dk_180 0 45 (dk_at dksX5_base_3 11 rfl rfl)
theorem dX5_base_84 : decode cX5_base 84 = .ok (.ifCond .eq 9, 3) := dk_153 0 9 (dk_at dksX5_base_3 14 rfl rfl)
theorem dX5_base_87 : decode cX5_base 87 = .ok (.ldc2_w 123, 3) := dk_20 0 123 (dk_at dksX5_base_3 17 rfl rfl)
theorem dX5_base_90 : decode cX5_base 90 = .ok (.goto 6, 3) := dk_167 0 6 (dk_at dksX5_base_3 20 rfl rfl)
theorem dX5_base_93 : decode cX5_base 93 = .ok (.ldc2_w 125, 3) := dk_20 0 125 (dk_at dksX5_base_4 0 rfl rfl)
theorem dX5_base_96 : decode cX5_base 96 = .ok (.invokestatic 127, 3) := dk_184 0 127 (dk_at dksX5_base_4 3 rfl rfl)
theorem dX5_base_99 : decode cX5_base 99 = .ok (.lstore 4, 2) := dk_55 4 (dk_at dksX5_base_4 6 rfl rfl)
theorem dX5_base_101 : decode cX5_base 101 = .ok (.iconst 0, 1) := dk_3 (dk_at dksX5_base_4 8 rfl rfl)
theorem dX5_base_102 : decode cX5_base 102 = .ok (.istore 6, 2) := dk_54 6 (dk_at dksX5_base_4 9 rfl rfl)
theorem dX5_base_104 : decode cX5_base 104 = .ok (.iload 6, 2) := dk_21 6 (dk_at dksX5_base_4 11 rfl rfl)
theorem dX5_base_106 : decode cX5_base 106 = .ok (.bipush 103, 2) := dk_16 103 (dk_at dksX5_base_4 13 rfl rfl)
theorem dX5_base_108 : decode cX5_base 108 = .ok (.if_icmp .ge 64, 3) := dk_162 0 64 (dk_at dksX5_base_4 15 rfl rfl)
theorem dX5_base_111 : decode cX5_base 111 = .ok (.sipush 720, 3) := dk_17 2 208 (dk_at dksX5_base_4 18 rfl rfl)
theorem dX5_base_114 : decode cX5_base 114 = .ok (.iload 6, 2) := dk_21 6 (dk_at dksX5_base_4 21 rfl rfl)
theorem dX5_base_116 : decode cX5_base 116 = .ok (.iconst 1, 1) := dk_4 (dk_at dksX5_base_4 23 rfl rfl)
theorem dX5_base_117 : decode cX5_base 117 = .ok (.iadd, 1) := dk_96 (dk_at dksX5_base_5 0 rfl rfl)
theorem dX5_base_118 : decode cX5_base 118 = .ok (.bipush 7, 2) := dk_16 7 (dk_at dksX5_base_5 1 rfl rfl)
theorem dX5_base_120 : decode cX5_base 120 = .ok (.imul, 1) := dk_104 (dk_at dksX5_base_5 3 rfl rfl)
theorem dX5_base_121 : decode cX5_base 121 = .ok (.invokestatic 121, 3) := dk_184 0 121 (dk_at dksX5_base_5 4 rfl rfl)
theorem dX5_base_124 : decode cX5_base 124 = .ok (.iconst 1, 1) := dk_4 (dk_at dksX5_base_5 7 rfl rfl)
theorem dX5_base_125 : decode cX5_base 125 = .ok (.isub, 1) := dk_100 (dk_at dksX5_base_5 8 rfl rfl)
theorem dX5_base_126 : decode cX5_base 126 = .ok (.istore 7, 2) := dk_54 7 (dk_at dksX5_base_5 9 rfl rfl)
theorem dX5_base_128 : decode cX5_base 128 = .ok (.lload 4, 2) := dk_22 4 (dk_at dksX5_base_5 11 rfl rfl)
theorem dX5_base_130 : decode cX5_base 130 = .ok (.iload 7, 2) := dk_21 7 (dk_at dksX5_base_5 13 rfl rfl)
theorem dX5_base_132 : decode cX5_base 132 = .ok (.bipush 30, 2) := dk_16 30 (dk_at dksX5_base_5 15 rfl rfl)
theorem dX5_base_134 : decode cX5_base 134 = .ok (.idiv, 1) := dk_108 (dk_at dksX5_base_5 17 rfl rfl)
theorem dX5_base_135 : decode cX5_base 135 = .ok (.iload_n 1, 1) := dk_27 (dk_at dksX5_base_5 18 rfl rfl)
theorem dX5_base_136 : decode cX5_base 136 = .ok (.if_icmp .ne 26, 3) := dk_160 0 26 (dk_at dksX5_base_5 19 rfl rfl)
theorem dX5_base_139 : decode cX5_base 139 = .ok (.aload_n 0, 1) := dk_42 (dk_at dksX5_base_5 22 rfl rfl)
theorem dX5_base_140 : decode cX5_base 140 = .ok (.iload 7, 2) := dk_21 7 (dk_at dksX5_base_6 0 rfl rfl)
theorem dX5_base_142 : decode cX5_base 142 = .ok (.invokevirtual 134, 3) := dk_182 0 134 (dk_at dksX5_base_6 2 rfl rfl)
theorem dX5_base_145 : decode cX5_base 145 = .ok (.aload_n 0, 1) := dk_42 (dk_at dksX5_base_6 5 rfl rfl)
theorem dX5_base_146 : decode cX5_base 146 = .ok (.iload 6, 2) := dk_21 6 (dk_at dksX5_base_6 6 rfl rfl)
theorem dX5_base_148 : decode cX5_base 148 = .ok (.invokevirtual 138, 3) := dk_182 0 138 (dk_at dksX5_base_6 8 rfl rfl)
theorem dX5_base_151 : decode cX5_base 151 = .ok (.i2l, 1) := dk_133 (dk_at dksX5_base_6 11 rfl rfl)
theorem dX5_base_152 : decode cX5_base 152 = .ok (.lmul, 1) := dk_105 (dk_at dksX5_base_6 12 rfl rfl)
theorem dX5_base_153 : decode cX5_base 153 = .ok (.ldc2_w 142, 3) := dk_20 0 142 (dk_at dksX5_base_6 13 rfl rfl)
theorem dX5_base_156 : decode cX5_base 156 = .ok (.invokestatic 127, 3) := dk_184 0 127 (dk_at dksX5_base_6 16 rfl rfl)
theorem dX5_base_159 : decode cX5_base 159 = .ok (.goto 4, 3) := dk_167 0 4 (dk_at dksX5_base_6 19 rfl rfl)
theorem dX5_base_162 : decode cX5_base 162 = .ok (.lconst 0, 1) := dk_9 (dk_at dksX5_base_6 22 rfl rfl)
theorem dX5_base_163 : decode cX5_base 163 = .ok (.ladd, 1) := dk_97 (dk_at dksX5_base_6 23 rfl rfl)
theorem dX5_base_164 : decode cX5_base 164 = .ok (.lstore 4, 2) := dk_55 4 (dk_at dksX5_base_7 0 rfl rfl)
theorem dX5_base_166 : decode cX5_base 166 = .ok (.iinc 6 1, 3) := dk_132 6 1 (dk_at dksX5_base_7 2 rfl rfl)
theorem dX5_base_169 : decode cX5_base 169 = .ok (.goto (-65), 3) := dk_167 255 191 (dk_at dksX5_base_7 5 rfl rfl)
theorem dX5_base_172 : decode cX5_base 172 = .ok (.lload 4, 2) := dk_22 4 (dk_at dksX5_base_7 8 rfl rfl)
theorem dX5_base_174 : decode cX5_base 174 = .ok (.lreturn, 1) := dk_173 (dk_at dksX5_base_7 10 rfl rfl)
def dkwX5_hourly_1 : List UInt8 := [27, 46, 133, 105, 20, 0, 125, 42, 180, 0, 49, 133, 105, 184, 0, 127, 173]
abbrev dktX5_hourly_1 : List UInt8 := dkwX5_hourly_1 ++ []
def dkwX5_hourly_0 : List UInt8 := [42, 180, 0, 45, 153, 0, 13, 42, 180, 0, 25, 27, 46, 133, 167, 0, 26, 20, 0, 123, 42, 180, 0, 25]
abbrev dktX5_hourly_0 : List UInt8 := dkwX5_hourly_0 ++ dktX5_hourly_1
theorem dksX5_hourly_0 : cX5_hourly.data.toList.drop 0 = dktX5_hourly_0 := by decide +kernel
theorem dksX5_hourly_1 : cX5_hourly.data.toList.drop 24 = dktX5_hourly_1 := dk_seg dksX5_hourly_0 24 rfl rfl
theorem dX5_hourly_0 : decode cX5_hourly 0 = .ok (.aload_n 0, 1) := dk_42 (dk_at dksX5_hourly_0 0 rfl rfl)
theorem dX5_hourly_1 : decode cX5_hourly 1 = .ok (.getfield 45, 3) := dk_180 0 45 (dk_at dksX5_hourly_0 1 rfl rfl)
theorem dX5_hourly_4 : decode cX5_hourly 4 = .ok (.ifCond .eq 13, 3) := dk_153 0 13 (dk_at dksX5_hourly_0 4 rfl rfl)
theorem dX5_hourly_7 : decode cX5_hourly 7 = .ok (.aload_n 0, 1) := dk_42 (dk_at dksX5_hourly_0 7 rfl rfl)
theorem dX5_hourly_8 : decode cX5_hourly 8 = .ok (.getfield 25, 3) := dk_180 0 25 (dk_at dksX5_hourly_0 8 rfl rfl)
theorem dX5_hourly_11 : decode cX5_hourly 11 = .ok (.iload_n 1, 1) := dk_27 (dk_at dksX5_hourly_0 11 rfl rfl)
theorem dX5_hourly_12 : decode cX5_hourly 12 = .ok (.iaload, 1) := dk_46 (dk_at dksX5_hourly_0 12 rfl rfl)
theorem dX5_hourly_13 : decode cX5_hourly 13 = .ok (.i2l, 1) := dk_133 (dk_at dksX5_hourly_0 13 rfl rfl)
theorem dX5_hourly_14 : decode cX5_hourly 14 = .ok (.goto 26, 3) := dk_167 0 26 (dk_at dksX5_hourly_0 14 rfl rfl)
theorem dX5_hourly_17 : decode cX5_hourly 17 = .ok (.ldc2_w 123, 3) := dk_20 0 123 (dk_at dksX5_hourly_0 17 rfl rfl)
theorem dX5_hourly_20 : decode cX5_hourly 20 = .ok (.aload_n 0, 1) := dk_42 (dk_at dksX5_hourly_0 20 rfl rfl)
theorem dX5_hourly_21 : decode cX5_hourly 21 = .ok (.getfield 25, 3) := dk_180 0 25 (dk_at dksX5_hourly_0 21 rfl rfl)
theorem dX5_hourly_24 : decode cX5_hourly 24 = .ok (.iload_n 1, 1) := dk_27 (dk_at dksX5_hourly_1 0 rfl rfl)
theorem dX5_hourly_25 : decode cX5_hourly 25 = .ok (.iaload, 1) := dk_46 (dk_at dksX5_hourly_1 1 rfl rfl)
theorem dX5_hourly_26 : decode cX5_hourly 26 = .ok (.i2l, 1) := dk_133 (dk_at dksX5_hourly_1 2 rfl rfl)
theorem dX5_hourly_27 : decode cX5_hourly 27 = .ok (.lmul, 1) := dk_105 (dk_at dksX5_hourly_1 3 rfl rfl)
theorem dX5_hourly_28 : decode cX5_hourly 28 = .ok (.ldc2_w 125, 3) := dk_20 0 125 (dk_at dksX5_hourly_1 4 rfl rfl)
theorem dX5_hourly_31 : decode cX5_hourly 31 = .ok (.aload_n 0, 1) := dk_42 (dk_at dksX5_hourly_1 7 rfl rfl)
theorem dX5_hourly_32 : decode cX5_hourly 32 = .ok (.getfield 49, 3) := dk_180 0 49 (dk_at dksX5_hourly_1 8 rfl rfl)
theorem dX5_hourly_35 : decode cX5_hourly 35 = .ok (.i2l, 1) := dk_133 (dk_at dksX5_hourly_1 11 rfl rfl)
theorem dX5_hourly_36 : decode cX5_hourly 36 = .ok (.lmul, 1) := dk_105 (dk_at dksX5_hourly_1 12 rfl rfl)
theorem dX5_hourly_37 : decode cX5_hourly 37 = .ok (.invokestatic 127, 3) := dk_184 0 127 (dk_at dksX5_hourly_1 13 rfl rfl)
theorem dX5_hourly_40 : decode cX5_hourly 40 = .ok (.lreturn, 1) := dk_173 (dk_at dksX5_hourly_1 16 rfl rfl)
def dkwX5_leavePay_1 : List UInt8 := [184, 0, 127, 167, 0, 4, 9, 173]
abbrev dktX5_leavePay_1 : List UInt8 := dkwX5_leavePay_1 ++ []
def dkwX5_leavePay_0 : List UInt8 := [42, 180, 0, 45, 153, 0, 25, 42, 180, 0, 49, 133, 42, 180, 0, 25, 27, 46, 133, 105, 20, 0, 123]
abbrev dktX5_leavePay_0 : List UInt8 := dkwX5_leavePay_0 ++ dktX5_leavePay_1
theorem dksX5_leavePay_0 : cX5_leavePay.data.toList.drop 0 = dktX5_leavePay_0 := by decide +kernel
theorem dksX5_leavePay_1 : cX5_leavePay.data.toList.drop 23 = dktX5_leavePay_1 := dk_seg dksX5_leavePay_0 23 rfl rfl
theorem dX5_leavePay_0 : decode cX5_leavePay 0 = .ok (.aload_n 0, 1) := dk_42 (dk_at dksX5_leavePay_0 0 rfl rfl)
theorem dX5_leavePay_1 : decode cX5_leavePay 1 = .ok (.getfield 45, 3) := dk_180 0 45 (dk_at dksX5_leavePay_0 1 rfl rfl)
theorem dX5_leavePay_4 : decode cX5_leavePay 4 = .ok (.ifCond .eq 25, 3) := dk_153 0 25 (dk_at dksX5_leavePay_0 4 rfl rfl)
theorem dX5_leavePay_7 : decode cX5_leavePay 7 = .ok (.aload_n 0, 1) := dk_42 (dk_at dksX5_leavePay_0 7 rfl rfl)
theorem dX5_leavePay_8 : decode cX5_leavePay 8 = .ok (.getfield 49, 3) := dk_180 0 49 (dk_at dksX5_leavePay_0 8 rfl rfl)
theorem dX5_leavePay_11 : decode cX5_leavePay 11 = .ok (.i2l, 1) := dk_133 (dk_at dksX5_leavePay_0 11 rfl rfl)
theorem dX5_leavePay_12 : decode cX5_leavePay 12 = .ok (.aload_n 0, 1) := dk_42 (dk_at dksX5_leavePay_0 12 rfl rfl)
theorem dX5_leavePay_13 : decode cX5_leavePay 13 = .ok (.getfield 25, 3) := dk_180 0 25 (dk_at dksX5_leavePay_0 13 rfl rfl)
theorem dX5_leavePay_16 : decode cX5_leavePay 16 = .ok (.iload_n 1, 1) := dk_27 (dk_at dksX5_leavePay_0 16 rfl rfl)
theorem dX5_leavePay_17 : decode cX5_leavePay 17 = .ok (.iaload, 1) := dk_46 (dk_at dksX5_leavePay_0 17 rfl rfl)
theorem dX5_leavePay_18 : decode cX5_leavePay 18 = .ok (.i2l, 1) := dk_133 (dk_at dksX5_leavePay_0 18 rfl rfl)
theorem dX5_leavePay_19 : decode cX5_leavePay 19 = .ok (.lmul, 1) := dk_105 (dk_at dksX5_leavePay_0 19 rfl rfl)
theorem dX5_leavePay_20 : decode cX5_leavePay 20 = .ok (.ldc2_w 123, 3) := dk_20 0 123 (dk_at dksX5_leavePay_0 20 rfl rfl)
theorem dX5_leavePay_23 : decode cX5_leavePay 23 = .ok (.invokestatic 127, 3) := dk_184 0 127 (dk_at dksX5_leavePay_1 0 rfl rfl)
theorem dX5_leavePay_26 : decode cX5_leavePay 26 = .ok (.goto 4, 3) := dk_167 0 4 (dk_at dksX5_leavePay_1 3 rfl rfl)
theorem dX5_leavePay_29 : decode cX5_leavePay 29 = .ok (.lconst 0, 1) := dk_9 (dk_at dksX5_leavePay_1 6 rfl rfl)
theorem dX5_leavePay_30 : decode cX5_leavePay 30 = .ok (.lreturn, 1) := dk_173 (dk_at dksX5_leavePay_1 7 rfl rfl)
def dkwX5_hasDayIn_1 : List UInt8 := [4, 167, 0, 4, 3, 172]
abbrev dktX5_hasDayIn_1 : List UInt8 := dkwX5_hasDayIn_1 ++ []
def dkwX5_hasDayIn_0 : List UInt8 := [42, 180, 0, 39, 27, 4, 96, 16, 30, 104, 162, 0, 18, 42, 180, 0, 42, 27, 16, 30, 104, 161, 0, 7]
abbrev dktX5_hasDayIn_0 : List UInt8 := dkwX5_hasDayIn_0 ++ dktX5_hasDayIn_1
theorem dksX5_hasDayIn_0 : cX5_hasDayIn.data.toList.drop 0 = dktX5_hasDayIn_0 := by decide +kernel
theorem dksX5_hasDayIn_1 : cX5_hasDayIn.data.toList.drop 24 = dktX5_hasDayIn_1 := dk_seg dksX5_hasDayIn_0 24 rfl rfl
theorem dX5_hasDayIn_0 : decode cX5_hasDayIn 0 = .ok (.aload_n 0, 1) := dk_42 (dk_at dksX5_hasDayIn_0 0 rfl rfl)
theorem dX5_hasDayIn_1 : decode cX5_hasDayIn 1 = .ok (.getfield 39, 3) := dk_180 0 39 (dk_at dksX5_hasDayIn_0 1 rfl rfl)
theorem dX5_hasDayIn_4 : decode cX5_hasDayIn 4 = .ok (.iload_n 1, 1) := dk_27 (dk_at dksX5_hasDayIn_0 4 rfl rfl)
theorem dX5_hasDayIn_5 : decode cX5_hasDayIn 5 = .ok (.iconst 1, 1) := dk_4 (dk_at dksX5_hasDayIn_0 5 rfl rfl)
theorem dX5_hasDayIn_6 : decode cX5_hasDayIn 6 = .ok (.iadd, 1) := dk_96 (dk_at dksX5_hasDayIn_0 6 rfl rfl)
theorem dX5_hasDayIn_7 : decode cX5_hasDayIn 7 = .ok (.bipush 30, 2) := dk_16 30 (dk_at dksX5_hasDayIn_0 7 rfl rfl)
theorem dX5_hasDayIn_9 : decode cX5_hasDayIn 9 = .ok (.imul, 1) := dk_104 (dk_at dksX5_hasDayIn_0 9 rfl rfl)
theorem dX5_hasDayIn_10 : decode cX5_hasDayIn 10 = .ok (.if_icmp .ge 18, 3) := dk_162 0 18 (dk_at dksX5_hasDayIn_0 10 rfl rfl)
theorem dX5_hasDayIn_13 : decode cX5_hasDayIn 13 = .ok (.aload_n 0, 1) := dk_42 (dk_at dksX5_hasDayIn_0 13 rfl rfl)
theorem dX5_hasDayIn_14 : decode cX5_hasDayIn 14 = .ok (.getfield 42, 3) := dk_180 0 42 (dk_at dksX5_hasDayIn_0 14 rfl rfl)
theorem dX5_hasDayIn_17 : decode cX5_hasDayIn 17 = .ok (.iload_n 1, 1) := dk_27 (dk_at dksX5_hasDayIn_0 17 rfl rfl)
theorem dX5_hasDayIn_18 : decode cX5_hasDayIn 18 = .ok (.bipush 30, 2) := dk_16 30 (dk_at dksX5_hasDayIn_0 18 rfl rfl)
theorem dX5_hasDayIn_20 : decode cX5_hasDayIn 20 = .ok (.imul, 1) := dk_104 (dk_at dksX5_hasDayIn_0 20 rfl rfl)
theorem dX5_hasDayIn_21 : decode cX5_hasDayIn 21 = .ok (.if_icmp .lt 7, 3) := dk_161 0 7 (dk_at dksX5_hasDayIn_0 21 rfl rfl)
theorem dX5_hasDayIn_24 : decode cX5_hasDayIn 24 = .ok (.iconst 1, 1) := dk_4 (dk_at dksX5_hasDayIn_1 0 rfl rfl)
theorem dX5_hasDayIn_25 : decode cX5_hasDayIn 25 = .ok (.goto 4, 3) := dk_167 0 4 (dk_at dksX5_hasDayIn_1 1 rfl rfl)
theorem dX5_hasDayIn_28 : decode cX5_hasDayIn 28 = .ok (.iconst 0, 1) := dk_3 (dk_at dksX5_hasDayIn_1 4 rfl rfl)
theorem dX5_hasDayIn_29 : decode cX5_hasDayIn 29 = .ok (.ireturn, 1) := dk_172 (dk_at dksX5_hasDayIn_1 5 rfl rfl)
def dkwX6_init_0 : List UInt8 := [42, 183, 0, 1, 42, 31, 181, 0, 7, 42, 33, 181, 0, 13, 177]
abbrev dktX6_init_0 : List UInt8 := dkwX6_init_0 ++ []
theorem dksX6_init_0 : cX6_init.data.toList.drop 0 = dktX6_init_0 := by decide +kernel
theorem dX6_init_0 : decode cX6_init 0 = .ok (.aload_n 0, 1) := dk_42 (dk_at dksX6_init_0 0 rfl rfl)
theorem dX6_init_1 : decode cX6_init 1 = .ok (.invokespecial 1, 3) := dk_183 0 1 (dk_at dksX6_init_0 1 rfl rfl)
theorem dX6_init_4 : decode cX6_init 4 = .ok (.aload_n 0, 1) := dk_42 (dk_at dksX6_init_0 4 rfl rfl)
theorem dX6_init_5 : decode cX6_init 5 = .ok (.lload_n 1, 1) := dk_31 (dk_at dksX6_init_0 5 rfl rfl)
theorem dX6_init_6 : decode cX6_init 6 = .ok (.putfield 7, 3) := dk_181 0 7 (dk_at dksX6_init_0 6 rfl rfl)
theorem dX6_init_9 : decode cX6_init 9 = .ok (.aload_n 0, 1) := dk_42 (dk_at dksX6_init_0 9 rfl rfl)
theorem dX6_init_10 : decode cX6_init 10 = .ok (.lload_n 3, 1) := dk_33 (dk_at dksX6_init_0 10 rfl rfl)
theorem dX6_init_11 : decode cX6_init 11 = .ok (.putfield 13, 3) := dk_181 0 13 (dk_at dksX6_init_0 11 rfl rfl)
theorem dX6_init_14 : decode cX6_init 14 = .ok (.return_, 1) := dk_177 (dk_at dksX6_init_0 14 rfl rfl)
def dkwX6_meets_1 : List UInt8 := [4, 167, 0, 4, 3, 172]
abbrev dktX6_meets_1 : List UInt8 := dkwX6_meets_1 ++ []
def dkwX6_meets_0 : List UInt8 := [42, 180, 0, 7, 43, 180, 0, 13, 148, 156, 0, 19, 43, 180, 0, 7, 42, 180, 0, 13, 148, 156, 0, 7]
abbrev dktX6_meets_0 : List UInt8 := dkwX6_meets_0 ++ dktX6_meets_1
theorem dksX6_meets_0 : cX6_meets.data.toList.drop 0 = dktX6_meets_0 := by decide +kernel
theorem dksX6_meets_1 : cX6_meets.data.toList.drop 24 = dktX6_meets_1 := dk_seg dksX6_meets_0 24 rfl rfl
theorem dX6_meets_0 : decode cX6_meets 0 = .ok (.aload_n 0, 1) := dk_42 (dk_at dksX6_meets_0 0 rfl rfl)
theorem dX6_meets_1 : decode cX6_meets 1 = .ok (.getfield 7, 3) := dk_180 0 7 (dk_at dksX6_meets_0 1 rfl rfl)
theorem dX6_meets_4 : decode cX6_meets 4 = .ok (.aload_n 1, 1) := dk_43 (dk_at dksX6_meets_0 4 rfl rfl)
theorem dX6_meets_5 : decode cX6_meets 5 = .ok (.getfield 13, 3) := dk_180 0 13 (dk_at dksX6_meets_0 5 rfl rfl)
theorem dX6_meets_8 : decode cX6_meets 8 = .ok (.lcmp, 1) := dk_148 (dk_at dksX6_meets_0 8 rfl rfl)
theorem dX6_meets_9 : decode cX6_meets 9 = .ok (.ifCond .ge 19, 3) := dk_156 0 19 (dk_at dksX6_meets_0 9 rfl rfl)
theorem dX6_meets_12 : decode cX6_meets 12 = .ok (.aload_n 1, 1) := dk_43 (dk_at dksX6_meets_0 12 rfl rfl)
theorem dX6_meets_13 : decode cX6_meets 13 = .ok (.getfield 7, 3) := dk_180 0 7 (dk_at dksX6_meets_0 13 rfl rfl)
theorem dX6_meets_16 : decode cX6_meets 16 = .ok (.aload_n 0, 1) := dk_42 (dk_at dksX6_meets_0 16 rfl rfl)
theorem dX6_meets_17 : decode cX6_meets 17 = .ok (.getfield 13, 3) := dk_180 0 13 (dk_at dksX6_meets_0 17 rfl rfl)
theorem dX6_meets_20 : decode cX6_meets 20 = .ok (.lcmp, 1) := dk_148 (dk_at dksX6_meets_0 20 rfl rfl)
theorem dX6_meets_21 : decode cX6_meets 21 = .ok (.ifCond .ge 7, 3) := dk_156 0 7 (dk_at dksX6_meets_0 21 rfl rfl)
theorem dX6_meets_24 : decode cX6_meets 24 = .ok (.iconst 1, 1) := dk_4 (dk_at dksX6_meets_1 0 rfl rfl)
theorem dX6_meets_25 : decode cX6_meets 25 = .ok (.goto 4, 3) := dk_167 0 4 (dk_at dksX6_meets_1 1 rfl rfl)
theorem dX6_meets_28 : decode cX6_meets 28 = .ok (.iconst 0, 1) := dk_3 (dk_at dksX6_meets_1 4 rfl rfl)
theorem dX6_meets_29 : decode cX6_meets 29 = .ok (.ireturn, 1) := dk_172 (dk_at dksX6_meets_1 5 rfl rfl)
theorem dX6_to_0 : decode cX6_to 0 = .ok (.aload_n 0, 1) := by decide +kernel
theorem dX6_to_1 : decode cX6_to 1 = .ok (.getfield 13, 3) := by decide +kernel
theorem dX6_to_4 : decode cX6_to 4 = .ok (.lreturn, 1) := by decide +kernel
theorem dX6_from_0 : decode cX6_from 0 = .ok (.aload_n 0, 1) := by decide +kernel
theorem dX6_from_1 : decode cX6_from 1 = .ok (.getfield 7, 3) := by decide +kernel
theorem dX6_from_4 : decode cX6_from 4 = .ok (.lreturn, 1) := by decide +kernel
def dkwX7_init_0 : List UInt8 := [42, 43, 181, 0, 3, 42, 183, 0, 9, 42, 28, 181, 0, 15, 177]
abbrev dktX7_init_0 : List UInt8 := dkwX7_init_0 ++ []
theorem dksX7_init_0 : cX7_init.data.toList.drop 0 = dktX7_init_0 := by decide +kernel
theorem dX7_init_0 : decode cX7_init 0 = .ok (.aload_n 0, 1) := dk_42 (dk_at dksX7_init_0 0 rfl rfl)
theorem dX7_init_1 : decode cX7_init 1 = .ok (.aload_n 1, 1) := dk_43 (dk_at dksX7_init_0 1 rfl rfl)
theorem dX7_init_2 : decode cX7_init 2 = .ok (.putfield 3, 3) := dk_181 0 3 (dk_at dksX7_init_0 2 rfl rfl)
theorem dX7_init_5 : decode cX7_init 5 = .ok (.aload_n 0, 1) := dk_42 (dk_at dksX7_init_0 5 rfl rfl)
theorem dX7_init_6 : decode cX7_init 6 = .ok (.invokespecial 9, 3) := dk_183 0 9 (dk_at dksX7_init_0 6 rfl rfl)
theorem dX7_init_9 : decode cX7_init 9 = .ok (.aload_n 0, 1) := dk_42 (dk_at dksX7_init_0 9 rfl rfl)
theorem dX7_init_10 : decode cX7_init 10 = .ok (.iload_n 2, 1) := dk_28 (dk_at dksX7_init_0 10 rfl rfl)
theorem dX7_init_11 : decode cX7_init 11 = .ok (.putfield 15, 3) := dk_181 0 15 (dk_at dksX7_init_0 11 rfl rfl)
theorem dX7_init_14 : decode cX7_init 14 = .ok (.return_, 1) := dk_177 (dk_at dksX7_init_0 14 rfl rfl)
def dkwX7_upTo_1 : List UInt8 := [27, 182, 0, 80, 42, 180, 0, 52, 42, 180, 0, 40, 96, 172]
abbrev dktX7_upTo_1 : List UInt8 := dkwX7_upTo_1 ++ []
def dkwX7_upTo_0 : List UInt8 := [3, 61, 28, 27, 162, 0, 19, 42, 28, 182, 0, 80, 42, 28, 182, 0, 84, 132, 2, 1, 167, 255, 238, 42]
abbrev dktX7_upTo_0 : List UInt8 := dkwX7_upTo_0 ++ dktX7_upTo_1
theorem dksX7_upTo_0 : cX7_upTo.data.toList.drop 0 = dktX7_upTo_0 := by decide +kernel
theorem dksX7_upTo_1 : cX7_upTo.data.toList.drop 24 = dktX7_upTo_1 := dk_seg dksX7_upTo_0 24 rfl rfl
theorem dX7_upTo_0 : decode cX7_upTo 0 = .ok (.iconst 0, 1) := dk_3 (dk_at dksX7_upTo_0 0 rfl rfl)
theorem dX7_upTo_1 : decode cX7_upTo 1 = .ok (.istore_n 2, 1) := dk_61 (dk_at dksX7_upTo_0 1 rfl rfl)
theorem dX7_upTo_2 : decode cX7_upTo 2 = .ok (.iload_n 2, 1) := dk_28 (dk_at dksX7_upTo_0 2 rfl rfl)
theorem dX7_upTo_3 : decode cX7_upTo 3 = .ok (.iload_n 1, 1) := dk_27 (dk_at dksX7_upTo_0 3 rfl rfl)
theorem dX7_upTo_4 : decode cX7_upTo 4 = .ok (.if_icmp .ge 19, 3) := dk_162 0 19 (dk_at dksX7_upTo_0 4 rfl rfl)
theorem dX7_upTo_7 : decode cX7_upTo 7 = .ok (.aload_n 0, 1) := dk_42 (dk_at dksX7_upTo_0 7 rfl rfl)
theorem dX7_upTo_8 : decode cX7_upTo 8 = .ok (.iload_n 2, 1) := dk_28 (dk_at dksX7_upTo_0 8 rfl rfl)
theorem dX7_upTo_9 : decode cX7_upTo 9 = .ok (.invokevirtual 80, 3) := dk_182 0 80 (dk_at dksX7_upTo_0 9 rfl rfl)
theorem dX7_upTo_12 : decode cX7_upTo 12 = .ok (.aload_n 0, 1) := dk_42 (dk_at dksX7_upTo_0 12 rfl rfl)
theorem dX7_upTo_13 : decode cX7_upTo 13 = .ok (.iload_n 2, 1) := dk_28 (dk_at dksX7_upTo_0 13 rfl rfl)
theorem dX7_upTo_14 : decode cX7_upTo 14 = .ok (.invokevirtual 84, 3) := dk_182 0 84 (dk_at dksX7_upTo_0 14 rfl rfl)
theorem dX7_upTo_17 : decode cX7_upTo 17 = .ok (.iinc 2 1, 3) := dk_132 2 1 (dk_at dksX7_upTo_0 17 rfl rfl)
theorem dX7_upTo_20 : decode cX7_upTo 20 = .ok (.goto (-18), 3) := dk_167 255 238 (dk_at dksX7_upTo_0 20 rfl rfl)
theorem dX7_upTo_23 : decode cX7_upTo 23 = .ok (.aload_n 0, 1) := dk_42 (dk_at dksX7_upTo_0 23 rfl rfl)
theorem dX7_upTo_24 : decode cX7_upTo 24 = .ok (.iload_n 1, 1) := dk_27 (dk_at dksX7_upTo_1 0 rfl rfl)
theorem dX7_upTo_25 : decode cX7_upTo 25 = .ok (.invokevirtual 80, 3) := dk_182 0 80 (dk_at dksX7_upTo_1 1 rfl rfl)
theorem dX7_upTo_28 : decode cX7_upTo 28 = .ok (.aload_n 0, 1) := dk_42 (dk_at dksX7_upTo_1 4 rfl rfl)
theorem dX7_upTo_29 : decode cX7_upTo 29 = .ok (.getfield 52, 3) := dk_180 0 52 (dk_at dksX7_upTo_1 5 rfl rfl)
theorem dX7_upTo_32 : decode cX7_upTo 32 = .ok (.aload_n 0, 1) := dk_42 (dk_at dksX7_upTo_1 8 rfl rfl)
theorem dX7_upTo_33 : decode cX7_upTo 33 = .ok (.getfield 40, 3) := dk_180 0 40 (dk_at dksX7_upTo_1 9 rfl rfl)
theorem dX7_upTo_36 : decode cX7_upTo 36 = .ok (.iadd, 1) := dk_96 (dk_at dksX7_upTo_1 12 rfl rfl)
theorem dX7_upTo_37 : decode cX7_upTo 37 = .ok (.ireturn, 1) := dk_172 (dk_at dksX7_upTo_1 13 rfl rfl)
def dkwX7_begin_4 : List UInt8 := [96, 160, 0, 8, 42, 3, 181, 0, 52, 177]
abbrev dktX7_begin_4 : List UInt8 := dkwX7_begin_4 ++ []
def dkwX7_begin_3 : List UInt8 := [184, 0, 55, 181, 0, 52, 42, 3, 181, 0, 40, 167, 0, 22, 28, 16, 12, 42, 180, 0, 3, 180, 0, 61]
abbrev dktX7_begin_3 : List UInt8 := dkwX7_begin_3 ++ dktX7_begin_4
def dkwX7_begin_2 : List UInt8 := [16, 12, 160, 0, 34, 42, 42, 180, 0, 3, 180, 0, 49, 42, 180, 0, 52, 42, 180, 0, 40, 96]
abbrev dktX7_begin_2 : List UInt8 := dkwX7_begin_2 ++ dktX7_begin_3
def dkwX7_begin_1 : List UInt8 := [153, 0, 13, 42, 180, 0, 3, 180, 0, 46, 167, 0, 4, 3, 96, 181, 0, 40, 27, 16, 30, 108, 61, 28]
abbrev dktX7_begin_1 : List UInt8 := dkwX7_begin_1 ++ dktX7_begin_2
def dkwX7_begin_0 : List UInt8 := [27, 16, 30, 112, 154, 0, 7, 27, 154, 0, 4, 177, 42, 89, 180, 0, 40, 42, 27, 4, 100, 182, 0, 43]
abbrev dktX7_begin_0 : List UInt8 := dkwX7_begin_0 ++ dktX7_begin_1
theorem dksX7_begin_0 : cX7_begin.data.toList.drop 0 = dktX7_begin_0 := by decide +kernel
theorem dksX7_begin_1 : cX7_begin.data.toList.drop 24 = dktX7_begin_1 := dk_seg dksX7_begin_0 24 rfl rfl
theorem dksX7_begin_2 : cX7_begin.data.toList.drop 48 = dktX7_begin_2 := dk_seg dksX7_begin_1 24 rfl rfl
theorem dksX7_begin_3 : cX7_begin.data.toList.drop 70 = dktX7_begin_3 := dk_seg dksX7_begin_2 22 rfl rfl
theorem dksX7_begin_4 : cX7_begin.data.toList.drop 94 = dktX7_begin_4 := dk_seg dksX7_begin_3 24 rfl rfl
theorem dX7_begin_0 : decode cX7_begin 0 = .ok (.iload_n 1, 1) := dk_27 (dk_at dksX7_begin_0 0 rfl rfl)
theorem dX7_begin_1 : decode cX7_begin 1 = .ok (.bipush 30, 2) := dk_16 30 (dk_at dksX7_begin_0 1 rfl rfl)
theorem dX7_begin_3 : decode cX7_begin 3 = .ok (.irem, 1) := dk_112 (dk_at dksX7_begin_0 3 rfl rfl)
theorem dX7_begin_4 : decode cX7_begin 4 = .ok (.ifCond .ne 7, 3) := dk_154 0 7 (dk_at dksX7_begin_0 4 rfl rfl)
theorem dX7_begin_7 : decode cX7_begin 7 = .ok (.iload_n 1, 1) := dk_27 (dk_at dksX7_begin_0 7 rfl rfl)
theorem dX7_begin_8 : decode cX7_begin 8 = .ok (.ifCond .ne 4, 3) := dk_154 0 4 (dk_at dksX7_begin_0 8 rfl rfl)
theorem dX7_begin_11 : decode cX7_begin 11 = .ok (.return_, 1) := dk_177 (dk_at dksX7_begin_0 11 rfl rfl)
theorem dX7_begin_12 : decode cX7_begin 12 = .ok (.aload_n 0, 1) := dk_42 (dk_at dksX7_begin_0 12 rfl rfl)
theorem dX7_begin_13 : decode cX7_begin 13 = .ok (.dup, 1) := dk_89 (dk_at dksX7_begin_0 13 rfl rfl)
theorem dX7_begin_14 : decode cX7_begin 14 = .ok (.getfield 40, 3) := dk_180 0 40 (dk_at dksX7_begin_0 14 rfl rfl)
theorem dX7_begin_17 : decode cX7_begin 17 = .ok (.aload_n 0, 1) := dk_42 (dk_at dksX7_begin_0 17 rfl rfl)
theorem dX7_begin_18 : decode cX7_begin 18 = .ok (.iload_n 1, 1) := dk_27 (dk_at dksX7_begin_0 18 rfl rfl)
theorem dX7_begin_19 : decode cX7_begin 19 = .ok (.iconst 1, 1) := dk_4 (dk_at dksX7_begin_0 19 rfl rfl)
theorem dX7_begin_20 : decode cX7_begin 20 = .ok (.isub, 1) := dk_100 (dk_at dksX7_begin_0 20 rfl rfl)
theorem dX7_begin_21 : decode cX7_begin 21 = .ok (.invokevirtual 43, 3) := dk_182 0 43 (dk_at dksX7_begin_0 21 rfl rfl)
theorem dX7_begin_24 : decode cX7_begin 24 = .ok (.ifCond .eq 13, 3) := dk_153 0 13 (dk_at dksX7_begin_1 0 rfl rfl)
theorem dX7_begin_27 : decode cX7_begin 27 = .ok (.aload_n 0, 1) := dk_42 (dk_at dksX7_begin_1 3 rfl rfl)
theorem dX7_begin_28 : decode cX7_begin 28 = .ok (.getfield 3, 3) := dk_180 0 3 (dk_at dksX7_begin_1 4 rfl rfl)
theorem dX7_begin_31 : decode cX7_begin 31 = .ok (.getfield 46, 3) := dk_180 0 46 (dk_at dksX7_begin_1 7 rfl rfl)
theorem dX7_begin_34 : decode cX7_begin 34 = .ok (.goto 4, 3) := dk_167 0 4 (dk_at dksX7_begin_1 10 rfl rfl)
theorem dX7_begin_37 : decode cX7_begin 37 = .ok (.iconst 0, 1) := dk_3 (dk_at dksX7_begin_1 13 rfl rfl)
theorem dX7_begin_38 : decode cX7_begin 38 = .ok (.iadd, 1) := dk_96 (dk_at dksX7_begin_1 14 rfl rfl)
theorem dX7_begin_39 : decode cX7_begin 39 = .ok (.putfield 40, 3) := dk_181 0 40 (dk_at dksX7_begin_1 15 rfl rfl)
theorem dX7_begin_42 : decode cX7_begin 42 = .ok (.iload_n 1, 1) := dk_27 (dk_at dksX7_begin_1 18 rfl rfl)
theorem dX7_begin_43 : decode cX7_begin 43 = .ok (.bipush 30, 2) := dk_16 30 (dk_at dksX7_begin_1 19 rfl rfl)
theorem dX7_begin_45 : decode cX7_begin 45 = .ok (.idiv, 1) := dk_108 (dk_at dksX7_begin_1 21 rfl rfl)
theorem dX7_begin_46 : decode cX7_begin 46 = .ok (.istore_n 2, 1) := dk_61 (dk_at dksX7_begin_1 22 rfl rfl)
theorem dX7_begin_47 : decode cX7_begin 47 = .ok (.iload_n 2, 1) := dk_28 (dk_at dksX7_begin_1 23 rfl rfl)
theorem dX7_begin_48 : decode cX7_begin 48 = .ok (.bipush 12, 2) := dk_16 12 (dk_at dksX7_begin_2 0 rfl rfl)
theorem dX7_begin_50 : decode cX7_begin 50 = .ok (.if_icmp .ne 34, 3) := dk_160 0 34 (dk_at dksX7_begin_2 2 rfl rfl)
theorem dX7_begin_53 : decode cX7_begin 53 = .ok (.aload_n 0, 1) := dk_42 (dk_at dksX7_begin_2 5 rfl rfl)
theorem dX7_begin_54 : decode cX7_begin 54 = .ok (.aload_n 0, 1) := dk_42 (dk_at dksX7_begin_2 6 rfl rfl)
theorem dX7_begin_55 : decode cX7_begin 55 = .ok (.getfield 3, 3) := dk_180 0 3 (dk_at dksX7_begin_2 7 rfl rfl)
theorem dX7_begin_58 : decode cX7_begin 58 = .ok (.getfield 49, 3) := dk_180 0 49 (dk_at dksX7_begin_2 10 rfl rfl)
theorem dX7_begin_61 : decode cX7_begin 61 = .ok (.aload_n 0, 1) := dk_42 (dk_at dksX7_begin_2 13 rfl rfl)
theorem dX7_begin_62 : decode cX7_begin 62 = .ok (.getfield 52, 3) := dk_180 0 52 (dk_at dksX7_begin_2 14 rfl rfl)
theorem dX7_begin_65 : decode cX7_begin 65 = .ok (.aload_n 0, 1) := dk_42 (dk_at dksX7_begin_2 17 rfl rfl)
theorem dX7_begin_66 : decode cX7_begin 66 = .ok (.getfield 40, 3) := dk_180 0 40 (dk_at dksX7_begin_2 18 rfl rfl)
theorem dX7_begin_69 : decode cX7_begin 69 = .ok (.iadd, 1) := dk_96 (dk_at dksX7_begin_2 21 rfl rfl)
theorem dX7_begin_70 : decode cX7_begin 70 = .ok (.invokestatic 55, 3) := dk_184 0 55 (dk_at dksX7_begin_3 0 rfl rfl)
theorem dX7_begin_73 : decode cX7_begin 73 = .ok (.putfield 52, 3) := dk_181 0 52 (dk_at dksX7_begin_3 3 rfl rfl)
theorem dX7_begin_76 : decode cX7_begin 76 = .ok (.aload_n 0, 1) := dk_42 (dk_at dksX7_begin_3 6 rfl rfl)
theorem dX7_begin_77 : decode cX7_begin 77 = .ok (.iconst 0, 1) := dk_3 (dk_at dksX7_begin_3 7 rfl rfl)
theorem dX7_begin_78 : decode cX7_begin 78 = .ok (.putfield 40, 3) := dk_181 0 40 (dk_at dksX7_begin_3 8 rfl rfl)
theorem dX7_begin_81 : decode cX7_begin 81 = .ok (.goto 22, 3) := dk_167 0 22 (dk_at dksX7_begin_3 11 rfl rfl)
theorem dX7_begin_84 : decode cX7_begin 84 = .ok (.iload_n 2, 1) := dk_28 (dk_at dksX7_begin_3 14 rfl rfl)
theorem dX7_begin_85 : decode cX7_begin 85 = .ok (.bipush 12, 2) := dk_16 12 (dk_at dksX7_begin_3 15 rfl rfl)
theorem dX7_begin_87 : decode cX7_begin 87 = .ok (.aload_n 0, 1) := dk_42 (dk_at dksX7_begin_3 17 rfl rfl)
theorem dX7_begin_88 : decode cX7_begin 88 = .ok (.getfield 3, 3) := dk_180 0 3 (dk_at dksX7_begin_3 18 rfl rfl)
theorem dX7_begin_91 : decode cX7_begin 91 = .ok (.getfield 61, 3) := dk_180 0 61 (dk_at dksX7_begin_3 21 rfl rfl)
theorem dX7_begin_94 : decode cX7_begin 94 = .ok (.iadd, 1) := dk_96 (dk_at dksX7_begin_4 0 rfl rfl)
theorem dX7_begin_95 : decode cX7_begin 95 = .ok (.if_icmp .ne 8, 3) := dk_160 0 8 (dk_at dksX7_begin_4 1 rfl rfl)
theorem dX7_begin_98 : decode cX7_begin 98 = .ok (.aload_n 0, 1) := dk_42 (dk_at dksX7_begin_4 4 rfl rfl)
theorem dX7_begin_99 : decode cX7_begin 99 = .ok (.iconst 0, 1) := dk_3 (dk_at dksX7_begin_4 5 rfl rfl)
theorem dX7_begin_100 : decode cX7_begin 100 = .ok (.putfield 52, 3) := dk_181 0 52 (dk_at dksX7_begin_4 6 rfl rfl)
theorem dX7_begin_103 : decode cX7_begin 103 = .ok (.return_, 1) := dk_177 (dk_at dksX7_begin_4 9 rfl rfl)
def dkwX7_hasContractOn_3 : List UInt8 := [153, 0, 7, 4, 167, 0, 4, 3, 128, 61, 132, 3, 1, 167, 255, 180, 28, 172]
abbrev dktX7_hasContractOn_3 : List UInt8 := dkwX7_hasContractOn_3 ++ []
def dkwX7_hasContractOn_2 : List UInt8 := [160, 0, 30, 42, 180, 0, 3, 180, 0, 19, 29, 185, 0, 29, 2, 0, 192, 0, 33, 27, 182, 0, 36]
abbrev dktX7_hasContractOn_2 : List UInt8 := dkwX7_hasContractOn_2 ++ dktX7_hasContractOn_3
def dkwX7_hasContractOn_1 : List UInt8 := [180, 0, 3, 180, 0, 19, 29, 185, 0, 29, 2, 0, 192, 0, 33, 180, 0, 35, 42, 180, 0, 15]
abbrev dktX7_hasContractOn_1 : List UInt8 := dkwX7_hasContractOn_1 ++ dktX7_hasContractOn_2
def dkwX7_hasContractOn_0 : List UInt8 := [3, 61, 3, 62, 29, 42, 180, 0, 3, 180, 0, 19, 185, 0, 23, 1, 0, 162, 0, 66, 28, 42]
abbrev dktX7_hasContractOn_0 : List UInt8 := dkwX7_hasContractOn_0 ++ dktX7_hasContractOn_1
theorem dksX7_hasContractOn_0 : cX7_hasContractOn.data.toList.drop 0 = dktX7_hasContractOn_0 := by decide +kernel
theorem dksX7_hasContractOn_1 : cX7_hasContractOn.data.toList.drop 22 = dktX7_hasContractOn_1 := dk_seg dksX7_hasContractOn_0 22 rfl rfl
theorem dksX7_hasContractOn_2 : cX7_hasContractOn.data.toList.drop 44 = dktX7_hasContractOn_2 := dk_seg dksX7_hasContractOn_1 22 rfl rfl
theorem dksX7_hasContractOn_3 : cX7_hasContractOn.data.toList.drop 67 = dktX7_hasContractOn_3 := dk_seg dksX7_hasContractOn_2 23 rfl rfl
theorem dX7_hasContractOn_0 : decode cX7_hasContractOn 0 = .ok (.iconst 0, 1) := dk_3 (dk_at dksX7_hasContractOn_0 0 rfl rfl)
theorem dX7_hasContractOn_1 : decode cX7_hasContractOn 1 = .ok (.istore_n 2, 1) := dk_61 (dk_at dksX7_hasContractOn_0 1 rfl rfl)
theorem dX7_hasContractOn_2 : decode cX7_hasContractOn 2 = .ok (.iconst 0, 1) := dk_3 (dk_at dksX7_hasContractOn_0 2 rfl rfl)
theorem dX7_hasContractOn_3 : decode cX7_hasContractOn 3 = .ok (.istore_n 3, 1) := dk_62 (dk_at dksX7_hasContractOn_0 3 rfl rfl)
theorem dX7_hasContractOn_4 : decode cX7_hasContractOn 4 = .ok (.iload_n 3, 1) := dk_29 (dk_at dksX7_hasContractOn_0 4 rfl rfl)
theorem dX7_hasContractOn_5 : decode cX7_hasContractOn 5 = .ok (.aload_n 0, 1) := dk_42 (dk_at dksX7_hasContractOn_0 5 rfl rfl)
theorem dX7_hasContractOn_6 : decode cX7_hasContractOn 6 = .ok (.getfield 3, 3) := dk_180 0 3 (dk_at dksX7_hasContractOn_0 6 rfl rfl)
theorem dX7_hasContractOn_9 : decode cX7_hasContractOn 9 = .ok (.getfield 19, 3) := dk_180 0 19 (dk_at dksX7_hasContractOn_0 9 rfl rfl)
theorem dX7_hasContractOn_12 : decode cX7_hasContractOn 12 = .ok (.invokeinterface 23 1, 5) := by decide +kernel
theorem dX7_hasContractOn_17 : decode cX7_hasContractOn 17 = .ok (.if_icmp .ge 66, 3) := dk_162 0 66 (dk_at dksX7_hasContractOn_0 17 rfl rfl)
theorem dX7_hasContractOn_20 : decode cX7_hasContractOn 20 = .ok (.iload_n 2, 1) := dk_28 (dk_at dksX7_hasContractOn_0 20 rfl rfl)
theorem dX7_hasContractOn_21 : decode cX7_hasContractOn 21 = .ok (.aload_n 0, 1) := dk_42 (dk_at dksX7_hasContractOn_0 21 rfl rfl)
theorem dX7_hasContractOn_22 : decode cX7_hasContractOn 22 = .ok (.getfield 3, 3) := dk_180 0 3 (dk_at dksX7_hasContractOn_1 0 rfl rfl)
theorem dX7_hasContractOn_25 : decode cX7_hasContractOn 25 = .ok (.getfield 19, 3) := dk_180 0 19 (dk_at dksX7_hasContractOn_1 3 rfl rfl)
theorem dX7_hasContractOn_28 : decode cX7_hasContractOn 28 = .ok (.iload_n 3, 1) := dk_29 (dk_at dksX7_hasContractOn_1 6 rfl rfl)
theorem dX7_hasContractOn_29 : decode cX7_hasContractOn 29 = .ok (.invokeinterface 29 2, 5) := by decide +kernel
theorem dX7_hasContractOn_34 : decode cX7_hasContractOn 34 = .ok (.checkcast 33, 3) := dk_192 0 33 (dk_at dksX7_hasContractOn_1 12 rfl rfl)
theorem dX7_hasContractOn_37 : decode cX7_hasContractOn 37 = .ok (.getfield 35, 3) := dk_180 0 35 (dk_at dksX7_hasContractOn_1 15 rfl rfl)
theorem dX7_hasContractOn_40 : decode cX7_hasContractOn 40 = .ok (.aload_n 0, 1) := dk_42 (dk_at dksX7_hasContractOn_1 18 rfl rfl)
theorem dX7_hasContractOn_41 : decode cX7_hasContractOn 41 = .ok (.getfield 15, 3) := dk_180 0 15 (dk_at dksX7_hasContractOn_1 19 rfl rfl)
theorem dX7_hasContractOn_44 : decode cX7_hasContractOn 44 = .ok (.if_icmp .ne 30, 3) := dk_160 0 30 (dk_at dksX7_hasContractOn_2 0 rfl rfl)
theorem dX7_hasContractOn_47 : decode cX7_hasContractOn 47 = .ok (.aload_n 0, 1) := dk_42 (dk_at dksX7_hasContractOn_2 3 rfl rfl)
theorem dX7_hasContractOn_48 : decode cX7_hasContractOn 48 = .ok (.getfield 3, 3) := dk_180 0 3 (dk_at dksX7_hasContractOn_2 4 rfl rfl)
theorem dX7_hasContractOn_51 : decode cX7_hasContractOn 51 = .ok (.getfield 19, 3) := dk_180 0 19 (dk_at dksX7_hasContractOn_2 7 rfl rfl)
theorem dX7_hasContractOn_54 : decode cX7_hasContractOn 54 = .ok (.iload_n 3, 1) := dk_29 (dk_at dksX7_hasContractOn_2 10 rfl rfl)
theorem dX7_hasContractOn_55 : decode cX7_hasContractOn 55 = .ok (.invokeinterface 29 2, 5) := by decide +kernel
theorem dX7_hasContractOn_60 : decode cX7_hasContractOn 60 = .ok (.checkcast 33, 3) := dk_192 0 33 (dk_at dksX7_hasContractOn_2 16 rfl rfl)
theorem dX7_hasContractOn_63 : decode cX7_hasContractOn 63 = .ok (.iload_n 1, 1) := dk_27 (dk_at dksX7_hasContractOn_2 19 rfl rfl)
theorem dX7_hasContractOn_64 : decode cX7_hasContractOn 64 = .ok (.invokevirtual 36, 3) := dk_182 0 36 (dk_at dksX7_hasContractOn_2 20 rfl rfl)
theorem dX7_hasContractOn_67 : decode cX7_hasContractOn 67 = .ok (.ifCond .eq 7, 3) := dk_153 0 7 (dk_at dksX7_hasContractOn_3 0 rfl rfl)
theorem dX7_hasContractOn_70 : decode cX7_hasContractOn 70 = .ok (.iconst 1, 1) := dk_4 (dk_at dksX7_hasContractOn_3 3 rfl rfl)
theorem dX7_hasContractOn_71 : decode cX7_hasContractOn 71 = .ok (.goto 4, 3) := dk_167 0 4 (dk_at dksX7_hasContractOn_3 4 rfl rfl)
theorem dX7_hasContractOn_74 : decode cX7_hasContractOn 74 = .ok (.iconst 0, 1) := dk_3 (dk_at dksX7_hasContractOn_3 7 rfl rfl)
theorem dX7_hasContractOn_75 : decode cX7_hasContractOn 75 = .ok (.ior, 1) := dk_128 (dk_at dksX7_hasContractOn_3 8 rfl rfl)
theorem dX7_hasContractOn_76 : decode cX7_hasContractOn 76 = .ok (.istore_n 2, 1) := dk_61 (dk_at dksX7_hasContractOn_3 9 rfl rfl)
theorem dX7_hasContractOn_77 : decode cX7_hasContractOn 77 = .ok (.iinc 3 1, 3) := dk_132 3 1 (dk_at dksX7_hasContractOn_3 10 rfl rfl)
theorem dX7_hasContractOn_80 : decode cX7_hasContractOn 80 = .ok (.goto (-76), 3) := dk_167 255 180 (dk_at dksX7_hasContractOn_3 13 rfl rfl)
theorem dX7_hasContractOn_83 : decode cX7_hasContractOn 83 = .ok (.iload_n 2, 1) := dk_28 (dk_at dksX7_hasContractOn_3 16 rfl rfl)
theorem dX7_hasContractOn_84 : decode cX7_hasContractOn 84 = .ok (.ireturn, 1) := dk_172 (dk_at dksX7_hasContractOn_3 17 rfl rfl)
def dkwX7_take_6 : List UInt8 := [132, 2, 1, 167, 255, 117, 177]
abbrev dktX7_take_6 : List UInt8 := dkwX7_take_6 ++ []
def dkwX7_take_5 : List UInt8 := [180, 0, 40, 45, 180, 0, 76, 153, 0, 11, 16, 10, 21, 4, 100, 167, 0, 4, 3, 100, 181, 0, 40]
abbrev dktX7_take_5 : List UInt8 := dkwX7_take_5 ++ dktX7_take_6
def dkwX7_take_4 : List UInt8 := [184, 0, 55, 167, 0, 4, 3, 54, 4, 42, 89, 180, 0, 52, 21, 4, 100, 181, 0, 52, 42, 89]
abbrev dktX7_take_4 : List UInt8 := dkwX7_take_4 ++ dktX7_take_5
def dkwX7_take_3 : List UInt8 := [161, 0, 7, 4, 167, 0, 4, 3, 181, 0, 76, 45, 180, 0, 76, 153, 0, 15, 42, 180, 0, 52, 16, 10]
abbrev dktX7_take_3 : List UInt8 := dkwX7_take_3 ++ dktX7_take_4
def dkwX7_take_2 : List UInt8 := [160, 0, 92, 45, 180, 0, 73, 27, 160, 0, 84, 45, 42, 180, 0, 52, 42, 180, 0, 40, 96, 16, 10]
abbrev dktX7_take_2 : List UInt8 := dkwX7_take_2 ++ dktX7_take_3
def dkwX7_take_1 : List UInt8 := [180, 0, 64, 28, 185, 0, 29, 2, 0, 192, 0, 67, 78, 45, 180, 0, 69, 180, 0, 35, 42, 180, 0, 15]
abbrev dktX7_take_1 : List UInt8 := dkwX7_take_1 ++ dktX7_take_2
def dkwX7_take_0 : List UInt8 := [3, 61, 28, 42, 180, 0, 3, 180, 0, 64, 185, 0, 23, 1, 0, 162, 0, 129, 42, 180, 0, 3]
abbrev dktX7_take_0 : List UInt8 := dkwX7_take_0 ++ dktX7_take_1
theorem dksX7_take_0 : cX7_take.data.toList.drop 0 = dktX7_take_0 := by decide +kernel
theorem dksX7_take_1 : cX7_take.data.toList.drop 22 = dktX7_take_1 := dk_seg dksX7_take_0 22 rfl rfl
theorem dksX7_take_2 : cX7_take.data.toList.drop 46 = dktX7_take_2 := dk_seg dksX7_take_1 24 rfl rfl
theorem dksX7_take_3 : cX7_take.data.toList.drop 69 = dktX7_take_3 := dk_seg dksX7_take_2 23 rfl rfl
theorem dksX7_take_4 : cX7_take.data.toList.drop 93 = dktX7_take_4 := dk_seg dksX7_take_3 24 rfl rfl
theorem dksX7_take_5 : cX7_take.data.toList.drop 115 = dktX7_take_5 := dk_seg dksX7_take_4 22 rfl rfl
theorem dksX7_take_6 : cX7_take.data.toList.drop 138 = dktX7_take_6 := dk_seg dksX7_take_5 23 rfl rfl
theorem dX7_take_0 : decode cX7_take 0 = .ok (.iconst 0, 1) := dk_3 (dk_at dksX7_take_0 0 rfl rfl)
theorem dX7_take_1 : decode cX7_take 1 = .ok (.istore_n 2, 1) := dk_61 (dk_at dksX7_take_0 1 rfl rfl)
theorem dX7_take_2 : decode cX7_take 2 = .ok (.iload_n 2, 1) := dk_28 (dk_at dksX7_take_0 2 rfl rfl)
theorem dX7_take_3 : decode cX7_take 3 = .ok (.aload_n 0, 1) := dk_42 (dk_at dksX7_take_0 3 rfl rfl)
theorem dX7_take_4 : decode cX7_take 4 = .ok (.getfield 3, 3) := dk_180 0 3 (dk_at dksX7_take_0 4 rfl rfl)
theorem dX7_take_7 : decode cX7_take 7 = .ok (.getfield 64, 3) := dk_180 0 64 (dk_at dksX7_take_0 7 rfl rfl)
theorem dX7_take_10 : decode cX7_take 10 = .ok (.invokeinterface 23 1, 5) := by decide +kernel
theorem dX7_take_15 : decode cX7_take 15 = .ok (.if_icmp .ge 129, 3) := dk_162 0 129 (dk_at dksX7_take_0 15 rfl rfl)
theorem dX7_take_18 : decode cX7_take 18 = .ok (.aload_n 0, 1) := dk_42 (dk_at dksX7_take_0 18 rfl rfl)
theorem dX7_take_19 : decode cX7_take 19 = .ok (.getfield 3, 3) := dk_180 0 3 (dk_at dksX7_take_0 19 rfl rfl)
theorem dX7_take_22 : decode cX7_take 22 = .ok (.getfield 64, 3) := dk_180 0 64 (dk_at dksX7_take_1 0 rfl rfl)
theorem dX7_take_25 : decode cX7_take 25 = .ok (.iload_n 2, 1) := dk_28 (dk_at dksX7_take_1 3 rfl rfl)
theorem dX7_take_26 : decode cX7_take 26 = .ok (.invokeinterface 29 2, 5) := by decide +kernel
theorem dX7_take_31 : decode cX7_take 31 = .ok (.checkcast 67, 3) := dk_192 0 67 (dk_at dksX7_take_1 9 rfl rfl)
theorem dX7_take_34 : decode cX7_take 34 = .ok (.astore_n 3, 1) := dk_78 (dk_at dksX7_take_1 12 rfl rfl)
theorem dX7_take_35 : decode cX7_take 35 = .ok (.aload_n 3, 1) := dk_45 (dk_at dksX7_take_1 13 rfl rfl)
theorem dX7_take_36 : decode cX7_take 36 = .ok (.getfield 69, 3) := dk_180 0 69 (dk_at dksX7_take_1 14 rfl rfl)
theorem dX7_take_39 : decode cX7_take 39 = .ok (.getfield 35, 3) := dk_180 0 35 (dk_at dksX7_take_1 17 rfl rfl)
theorem dX7_take_42 : decode cX7_take 42 = .ok (.aload_n 0, 1) := dk_42 (dk_at dksX7_take_1 20 rfl rfl)
theorem dX7_take_43 : decode cX7_take 43 = .ok (.getfield 15, 3) := dk_180 0 15 (dk_at dksX7_take_1 21 rfl rfl)
theorem dX7_take_46 : decode cX7_take 46 = .ok (.if_icmp .ne 92, 3) := dk_160 0 92 (dk_at dksX7_take_2 0 rfl rfl)
theorem dX7_take_49 : decode cX7_take 49 = .ok (.aload_n 3, 1) := dk_45 (dk_at dksX7_take_2 3 rfl rfl)
theorem dX7_take_50 : decode cX7_take 50 = .ok (.getfield 73, 3) := dk_180 0 73 (dk_at dksX7_take_2 4 rfl rfl)
theorem dX7_take_53 : decode cX7_take 53 = .ok (.iload_n 1, 1) := dk_27 (dk_at dksX7_take_2 7 rfl rfl)
theorem dX7_take_54 : decode cX7_take 54 = .ok (.if_icmp .ne 84, 3) := dk_160 0 84 (dk_at dksX7_take_2 8 rfl rfl)
theorem dX7_take_57 : decode cX7_take 57 = .ok (.aload_n 3, 1) := dk_45 (dk_at dksX7_take_2 11 rfl rfl)
theorem dX7_take_58 : decode cX7_take 58 = .ok (.aload_n 0, 1) := dk_42 (dk_at dksX7_take_2 12 rfl rfl)
theorem dX7_take_59 : decode cX7_take 59 = .ok (.getfield 52, 3) := dk_180 0 52 (dk_at dksX7_take_2 13 rfl rfl)
theorem dX7_take_62 : decode cX7_take 62 = .ok (.aload_n 0, 1) := dk_42 (dk_at dksX7_take_2 16 rfl rfl)
theorem dX7_take_63 : decode cX7_take 63 = .ok (.getfield 40, 3) := dk_180 0 40 (dk_at dksX7_take_2 17 rfl rfl)
theorem dX7_take_66 : decode cX7_take 66 = .ok (.iadd, 1) := dk_96 (dk_at dksX7_take_2 20 rfl rfl)
theorem dX7_take_67 : decode cX7_take 67 = .ok (.bipush 10, 2) := dk_16 10 (dk_at dksX7_take_2 21 rfl rfl)
theorem dX7_take_69 : decode cX7_take 69 = .ok (.if_icmp .lt 7, 3) := dk_161 0 7 (dk_at dksX7_take_3 0 rfl rfl)
theorem dX7_take_72 : decode cX7_take 72 = .ok (.iconst 1, 1) := dk_4 (dk_at dksX7_take_3 3 rfl rfl)
theorem dX7_take_73 : decode cX7_take 73 = .ok (.goto 4, 3) := dk_167 0 4 (dk_at dksX7_take_3 4 rfl rfl)
theorem dX7_take_76 : decode cX7_take 76 = .ok (.iconst 0, 1) := dk_3 (dk_at dksX7_take_3 7 rfl rfl)
theorem dX7_take_77 : decode cX7_take 77 = .ok (.putfield 76, 3) := dk_181 0 76 (dk_at dksX7_take_3 8 rfl rfl)
theorem dX7_take_80 : decode cX7_take 80 = .ok (.aload_n 3, 1) := dk_45 (dk_at dksX7_take_3 11 rfl rfl)
theorem dX7_take_81 : decode cX7_take 81 = .ok (.getfield 76, 3) := dk_180 0 76 (dk_at dksX7_take_3 12 rfl rfl)
theorem dX7_take_84 : decode cX7_take 84 = .ok (.ifCond .eq 15, 3) := dk_153 0 15 (dk_at dksX7_take_3 15 rfl rfl)
theorem dX7_take_87 : decode cX7_take 87 = .ok (.aload_n 0, 1) := dk_42 (dk_at dksX7_take_3 18 rfl rfl)
theorem dX7_take_88 : decode cX7_take 88 = .ok (.getfield 52, 3) := dk_180 0 52 (dk_at dksX7_take_3 19 rfl rfl)
theorem dX7_take_91 : decode cX7_take 91 = .ok (.bipush 10, 2) := dk_16 10 (dk_at dksX7_take_3 22 rfl rfl)
theorem dX7_take_93 : decode cX7_take 93 = .ok (.invokestatic 55, 3) := dk_184 0 55 (dk_at dksX7_take_4 0 rfl rfl)
theorem dX7_take_96 : decode cX7_take 96 = .ok (.goto 4, 3) := dk_167 0 4 (dk_at dksX7_take_4 3 rfl rfl)
theorem dX7_take_99 : decode cX7_take 99 = .ok (.iconst 0, 1) := dk_3 (dk_at dksX7_take_4 6 rfl rfl)
theorem dX7_take_100 : decode cX7_take 100 = .ok (.istore 4, 2) := dk_54 4 (dk_at dksX7_take_4 7 rfl rfl)
theorem dX7_take_102 : decode cX7_take 102 = .ok (.aload_n 0, 1) := dk_42 (dk_at dksX7_take_4 9 rfl rfl)
theorem dX7_take_103 : decode cX7_take 103 = .ok (.dup, 1) := dk_89 (dk_at dksX7_take_4 10 rfl rfl)
theorem dX7_take_104 : decode cX7_take 104 = .ok (.getfield 52, 3) := dk_180 0 52 (dk_at dksX7_take_4 11 rfl rfl)
theorem dX7_take_107 : decode cX7_take 107 = .ok (.iload 4, 2) := dk_21 4 (dk_at dksX7_take_4 14 rfl rfl)
theorem dX7_take_109 : decode cX7_take 109 = .ok (.isub, 1) := dk_100 (dk_at dksX7_take_4 16 rfl rfl)
theorem dX7_take_110 : decode cX7_take 110 = .ok (.putfield 52, 3) := dk_181 0 52 (dk_at dksX7_take_4 17 rfl rfl)
theorem dX7_take_113 : decode cX7_take 113 = .ok (.aload_n 0, 1) := dk_42 (dk_at dksX7_take_4 20 rfl rfl)
theorem dX7_take_114 : decode cX7_take 114 = .ok (.dup, 1) := dk_89 (dk_at dksX7_take_4 21 rfl rfl)
theorem dX7_take_115 : decode cX7_take 115 = .ok (.getfield 40, 3) := dk_180 0 40 (dk_at dksX7_take_5 0 rfl rfl)
theorem dX7_take_118 : decode cX7_take 118 = .ok (.aload_n 3, 1) := dk_45 (dk_at dksX7_take_5 3 rfl rfl)
theorem dX7_take_119 : decode cX7_take 119 = .ok (.getfield 76, 3) := dk_180 0 76 (dk_at dksX7_take_5 4 rfl rfl)
theorem dX7_take_122 : decode cX7_take 122 = .ok (.ifCond .eq 11, 3) := dk_153 0 11 (dk_at dksX7_take_5 7 rfl rfl)
theorem dX7_take_125 : decode cX7_take 125 = .ok (.bipush 10, 2) := dk_16 10 (dk_at dksX7_take_5 10 rfl rfl)
theorem dX7_take_127 : decode cX7_take 127 = .ok (.iload 4, 2) := dk_21 4 (dk_at dksX7_take_5 12 rfl rfl)
theorem dX7_take_129 : decode cX7_take 129 = .ok (.isub, 1) := dk_100 (dk_at dksX7_take_5 14 rfl rfl)
theorem dX7_take_130 : decode cX7_take 130 = .ok (.goto 4, 3) := dk_167 0 4 (dk_at dksX7_take_5 15 rfl rfl)
theorem dX7_take_133 : decode cX7_take 133 = .ok (.iconst 0, 1) := dk_3 (dk_at dksX7_take_5 18 rfl rfl)
theorem dX7_take_134 : decode cX7_take 134 = .ok (.isub, 1) := dk_100 (dk_at dksX7_take_5 19 rfl rfl)
theorem dX7_take_135 : decode cX7_take 135 = .ok (.putfield 40, 3) := dk_181 0 40 (dk_at dksX7_take_5 20 rfl rfl)
theorem dX7_take_138 : decode cX7_take 138 = .ok (.iinc 2 1, 3) := dk_132 2 1 (dk_at dksX7_take_6 0 rfl rfl)
theorem dX7_take_141 : decode cX7_take 141 = .ok (.goto (-139), 3) := dk_167 255 117 (dk_at dksX7_take_6 3 rfl rfl)
theorem dX7_take_144 : decode cX7_take 144 = .ok (.return_, 1) := dk_177 (dk_at dksX7_take_6 6 rfl rfl)
def dkwX8_init_0 : List UInt8 := [42, 183, 0, 1, 42, 43, 181, 0, 7, 42, 28, 181, 0, 13, 177]
abbrev dktX8_init_0 : List UInt8 := dkwX8_init_0 ++ []
theorem dksX8_init_0 : cX8_init.data.toList.drop 0 = dktX8_init_0 := by decide +kernel
theorem dX8_init_0 : decode cX8_init 0 = .ok (.aload_n 0, 1) := dk_42 (dk_at dksX8_init_0 0 rfl rfl)
theorem dX8_init_1 : decode cX8_init 1 = .ok (.invokespecial 1, 3) := dk_183 0 1 (dk_at dksX8_init_0 1 rfl rfl)
theorem dX8_init_4 : decode cX8_init 4 = .ok (.aload_n 0, 1) := dk_42 (dk_at dksX8_init_0 4 rfl rfl)
theorem dX8_init_5 : decode cX8_init 5 = .ok (.aload_n 1, 1) := dk_43 (dk_at dksX8_init_0 5 rfl rfl)
theorem dX8_init_6 : decode cX8_init 6 = .ok (.putfield 7, 3) := dk_181 0 7 (dk_at dksX8_init_0 6 rfl rfl)
theorem dX8_init_9 : decode cX8_init 9 = .ok (.aload_n 0, 1) := dk_42 (dk_at dksX8_init_0 9 rfl rfl)
theorem dX8_init_10 : decode cX8_init 10 = .ok (.iload_n 2, 1) := dk_28 (dk_at dksX8_init_0 10 rfl rfl)
theorem dX8_init_11 : decode cX8_init 11 = .ok (.putfield 13, 3) := dk_181 0 13 (dk_at dksX8_init_0 11 rfl rfl)
theorem dX8_init_14 : decode cX8_init 14 = .ok (.return_, 1) := dk_177 (dk_at dksX8_init_0 14 rfl rfl)
def dkwX9_init_0 : List UInt8 := [42, 183, 0, 1, 42, 27, 181, 0, 7, 177]
abbrev dktX9_init_0 : List UInt8 := dkwX9_init_0 ++ []
theorem dksX9_init_0 : cX9_init.data.toList.drop 0 = dktX9_init_0 := by decide +kernel
theorem dX9_init_0 : decode cX9_init 0 = .ok (.aload_n 0, 1) := dk_42 (dk_at dksX9_init_0 0 rfl rfl)
theorem dX9_init_1 : decode cX9_init 1 = .ok (.invokespecial 1, 3) := dk_183 0 1 (dk_at dksX9_init_0 1 rfl rfl)
theorem dX9_init_4 : decode cX9_init 4 = .ok (.aload_n 0, 1) := dk_42 (dk_at dksX9_init_0 4 rfl rfl)
theorem dX9_init_5 : decode cX9_init 5 = .ok (.iload_n 1, 1) := dk_27 (dk_at dksX9_init_0 5 rfl rfl)
theorem dX9_init_6 : decode cX9_init 6 = .ok (.putfield 7, 3) := dk_181 0 7 (dk_at dksX9_init_0 6 rfl rfl)
theorem dX9_init_9 : decode cX9_init 9 = .ok (.return_, 1) := dk_177 (dk_at dksX9_init_0 9 rfl rfl)
theorem dX9_what_0 : decode cX9_what 0 = .ok (.aload_n 0, 1) := by decide +kernel
theorem dX9_what_1 : decode cX9_what 1 = .ok (.getfield 7, 3) := by decide +kernel
theorem dX9_what_4 : decode cX9_what 4 = .ok (.ireturn, 1) := by decide +kernel
def dkwX10_init_0 : List UInt8 := [42, 183, 0, 1, 42, 27, 181, 0, 7, 177]
abbrev dktX10_init_0 : List UInt8 := dkwX10_init_0 ++ []
theorem dksX10_init_0 : cX10_init.data.toList.drop 0 = dktX10_init_0 := by decide +kernel
theorem dX10_init_0 : decode cX10_init 0 = .ok (.aload_n 0, 1) := dk_42 (dk_at dksX10_init_0 0 rfl rfl)
theorem dX10_init_1 : decode cX10_init 1 = .ok (.invokespecial 1, 3) := dk_183 0 1 (dk_at dksX10_init_0 1 rfl rfl)
theorem dX10_init_4 : decode cX10_init 4 = .ok (.aload_n 0, 1) := dk_42 (dk_at dksX10_init_0 4 rfl rfl)
theorem dX10_init_5 : decode cX10_init 5 = .ok (.iload_n 1, 1) := dk_27 (dk_at dksX10_init_0 5 rfl rfl)
theorem dX10_init_6 : decode cX10_init 6 = .ok (.putfield 7, 3) := dk_181 0 7 (dk_at dksX10_init_0 6 rfl rfl)
theorem dX10_init_9 : decode cX10_init 9 = .ok (.return_, 1) := dk_177 (dk_at dksX10_init_0 9 rfl rfl)
theorem dX10_element_0 : decode cX10_element 0 = .ok (.aload_n 0, 1) := by decide +kernel
theorem dX10_element_1 : decode cX10_element 1 = .ok (.getfield 7, 3) := by decide +kernel
theorem dX10_element_4 : decode cX10_element 4 = .ok (.ireturn, 1) := by decide +kernel
def dkwX11_init_0 : List UInt8 := [42, 183, 0, 1, 42, 27, 181, 0, 7, 177]
abbrev dktX11_init_0 : List UInt8 := dkwX11_init_0 ++ []
theorem dksX11_init_0 : cX11_init.data.toList.drop 0 = dktX11_init_0 := by decide +kernel
theorem dX11_init_0 : decode cX11_init 0 = .ok (.aload_n 0, 1) := dk_42 (dk_at dksX11_init_0 0 rfl rfl)
theorem dX11_init_1 : decode cX11_init 1 = .ok (.invokespecial 1, 3) := dk_183 0 1 (dk_at dksX11_init_0 1 rfl rfl)
theorem dX11_init_4 : decode cX11_init 4 = .ok (.aload_n 0, 1) := dk_42 (dk_at dksX11_init_0 4 rfl rfl)
theorem dX11_init_5 : decode cX11_init 5 = .ok (.iload_n 1, 1) := dk_27 (dk_at dksX11_init_0 5 rfl rfl)
theorem dX11_init_6 : decode cX11_init 6 = .ok (.putfield 7, 3) := dk_181 0 7 (dk_at dksX11_init_0 6 rfl rfl)
theorem dX11_init_9 : decode cX11_init 9 = .ok (.return_, 1) := dk_177 (dk_at dksX11_init_0 9 rfl rfl)
theorem dX11_number_0 : decode cX11_number 0 = .ok (.aload_n 0, 1) := by decide +kernel
theorem dX11_number_1 : decode cX11_number 1 = .ok (.getfield 7, 3) := by decide +kernel
theorem dX11_number_4 : decode cX11_number 4 = .ok (.ireturn, 1) := by decide +kernel
def dkwX12_init_0 : List UInt8 := [42, 183, 0, 3, 42, 43, 181, 0, 9, 42, 28, 181, 0, 15, 177]
abbrev dktX12_init_0 : List UInt8 := dkwX12_init_0 ++ []
theorem dksX12_init_0 : cX12_init.data.toList.drop 0 = dktX12_init_0 := by decide +kernel
theorem dX12_init_0 : decode cX12_init 0 = .ok (.aload_n 0, 1) := dk_42 (dk_at dksX12_init_0 0 rfl rfl)
theorem dX12_init_1 : decode cX12_init 1 = .ok (.invokespecial 3, 3) := dk_183 0 3 (dk_at dksX12_init_0 1 rfl rfl)
theorem dX12_init_4 : decode cX12_init 4 = .ok (.aload_n 0, 1) := dk_42 (dk_at dksX12_init_0 4 rfl rfl)
theorem dX12_init_5 : decode cX12_init 5 = .ok (.aload_n 1, 1) := dk_43 (dk_at dksX12_init_0 5 rfl rfl)
theorem dX12_init_6 : decode cX12_init 6 = .ok (.putfield 9, 3) := dk_181 0 9 (dk_at dksX12_init_0 6 rfl rfl)
theorem dX12_init_9 : decode cX12_init 9 = .ok (.aload_n 0, 1) := dk_42 (dk_at dksX12_init_0 9 rfl rfl)
theorem dX12_init_10 : decode cX12_init 10 = .ok (.iload_n 2, 1) := dk_28 (dk_at dksX12_init_0 10 rfl rfl)
theorem dX12_init_11 : decode cX12_init 11 = .ok (.putfield 15, 3) := dk_181 0 15 (dk_at dksX12_init_0 11 rfl rfl)
theorem dX12_init_14 : decode cX12_init 14 = .ok (.return_, 1) := dk_177 (dk_at dksX12_init_0 14 rfl rfl)
def dkwX12_needs_2 : List UInt8 := [182, 0, 31, 27, 160, 0, 7, 4, 167, 0, 4, 3, 128, 61, 132, 3, 1, 167, 255, 196, 28, 172]
abbrev dktX12_needs_2 : List UInt8 := dkwX12_needs_2 ++ []
def dkwX12_needs_1 : List UInt8 := [185, 0, 25, 2, 0, 58, 5, 25, 5, 193, 0, 29, 153, 0, 23, 25, 5, 192, 0, 29, 58, 4, 25, 4]
abbrev dktX12_needs_1 : List UInt8 := dkwX12_needs_1 ++ dktX12_needs_2
def dkwX12_needs_0 : List UInt8 := [3, 61, 3, 62, 29, 42, 180, 0, 9, 185, 0, 19, 1, 0, 162, 0, 53, 28, 42, 180, 0, 9, 29]
abbrev dktX12_needs_0 : List UInt8 := dkwX12_needs_0 ++ dktX12_needs_1
theorem dksX12_needs_0 : cX12_needs.data.toList.drop 0 = dktX12_needs_0 := by decide +kernel
theorem dksX12_needs_1 : cX12_needs.data.toList.drop 23 = dktX12_needs_1 := dk_seg dksX12_needs_0 23 rfl rfl
theorem dksX12_needs_2 : cX12_needs.data.toList.drop 47 = dktX12_needs_2 := dk_seg dksX12_needs_1 24 rfl rfl
theorem dX12_needs_0 : decode cX12_needs 0 = .ok (.iconst 0, 1) := dk_3 (dk_at dksX12_needs_0 0 rfl rfl)
theorem dX12_needs_1 : decode cX12_needs 1 = .ok (.istore_n 2, 1) := dk_61 (dk_at dksX12_needs_0 1 rfl rfl)
theorem dX12_needs_2 : decode cX12_needs 2 = .ok (.iconst 0, 1) := dk_3 (dk_at dksX12_needs_0 2 rfl rfl)
theorem dX12_needs_3 : decode cX12_needs 3 = .ok (.istore_n 3, 1) := dk_62 (dk_at dksX12_needs_0 3 rfl rfl)
theorem dX12_needs_4 : decode cX12_needs 4 = .ok (.iload_n 3, 1) := dk_29 (dk_at dksX12_needs_0 4 rfl rfl)
theorem dX12_needs_5 : decode cX12_needs 5 = .ok (.aload_n 0, 1) := dk_42 (dk_at dksX12_needs_0 5 rfl rfl)
theorem dX12_needs_6 : decode cX12_needs 6 = .ok (.getfield 9, 3) := dk_180 0 9 (dk_at dksX12_needs_0 6 rfl rfl)
theorem dX12_needs_9 : decode cX12_needs 9 = .ok (.invokeinterface 19 1, 5) := by decide +kernel
theorem dX12_needs_14 : decode cX12_needs 14 = .ok (.if_icmp .ge 53, 3) := dk_162 0 53 (dk_at dksX12_needs_0 14 rfl rfl)
theorem dX12_needs_17 : decode cX12_needs 17 = .ok (.iload_n 2, 1) := dk_28 (dk_at dksX12_needs_0 17 rfl rfl)
theorem dX12_needs_18 : decode cX12_needs 18 = .ok (.aload_n 0, 1) := dk_42 (dk_at dksX12_needs_0 18 rfl rfl)
theorem dX12_needs_19 : decode cX12_needs 19 = .ok (.getfield 9, 3) := dk_180 0 9 (dk_at dksX12_needs_0 19 rfl rfl)
theorem dX12_needs_22 : decode cX12_needs 22 = .ok (.iload_n 3, 1) := dk_29 (dk_at dksX12_needs_0 22 rfl rfl)
theorem dX12_needs_23 : decode cX12_needs 23 = .ok (.invokeinterface 25 2, 5) := by decide +kernel
theorem dX12_needs_28 : decode cX12_needs 28 = .ok (.astore 5, 2) := dk_58 5 (dk_at dksX12_needs_1 5 rfl rfl)
theorem dX12_needs_30 : decode cX12_needs 30 = .ok (.aload 5, 2) := dk_25 5 (dk_at dksX12_needs_1 7 rfl rfl)
theorem dX12_needs_32 : decode cX12_needs 32 = .ok (.instanceof 29, 3) := dk_193 0 29 (dk_at dksX12_needs_1 9 rfl rfl)
theorem dX12_needs_35 : decode cX12_needs 35 = .ok (.ifCond .eq 23, 3) := dk_153 0 23 (dk_at dksX12_needs_1 12 rfl rfl)
theorem dX12_needs_38 : decode cX12_needs 38 = .ok (.aload 5, 2) := dk_25 5 (dk_at dksX12_needs_1 15 rfl rfl)
theorem dX12_needs_40 : decode cX12_needs 40 = .ok (.checkcast 29, 3) := dk_192 0 29 (dk_at dksX12_needs_1 17 rfl rfl)
theorem dX12_needs_43 : decode cX12_needs 43 = .ok (.astore 4, 2) := dk_58 4 (dk_at dksX12_needs_1 20 rfl rfl)
theorem dX12_needs_45 : decode cX12_needs 45 = .ok (.aload 4, 2) := dk_25 4 (dk_at dksX12_needs_1 22 rfl rfl)
theorem dX12_needs_47 : decode cX12_needs 47 = .ok (.invokevirtual 31, 3) := dk_182 0 31 (dk_at dksX12_needs_2 0 rfl rfl)
theorem dX12_needs_50 : decode cX12_needs 50 = .ok (.iload_n 1, 1) := dk_27 (dk_at dksX12_needs_2 3 rfl rfl)
theorem dX12_needs_51 : decode cX12_needs 51 = .ok (.if_icmp .ne 7, 3) := dk_160 0 7 (dk_at dksX12_needs_2 4 rfl rfl)
theorem dX12_needs_54 : decode cX12_needs 54 = .ok (.iconst 1, 1) := dk_4 (dk_at dksX12_needs_2 7 rfl rfl)
theorem dX12_needs_55 : decode cX12_needs 55 = .ok (.goto 4, 3) := dk_167 0 4 (dk_at dksX12_needs_2 8 rfl rfl)
theorem dX12_needs_58 : decode cX12_needs 58 = .ok (.iconst 0, 1) := dk_3 (dk_at dksX12_needs_2 11 rfl rfl)
theorem dX12_needs_59 : decode cX12_needs 59 = .ok (.ior, 1) := dk_128 (dk_at dksX12_needs_2 12 rfl rfl)
theorem dX12_needs_60 : decode cX12_needs 60 = .ok (.istore_n 2, 1) := dk_61 (dk_at dksX12_needs_2 13 rfl rfl)
theorem dX12_needs_61 : decode cX12_needs 61 = .ok (.iinc 3 1, 3) := dk_132 3 1 (dk_at dksX12_needs_2 14 rfl rfl)
theorem dX12_needs_64 : decode cX12_needs 64 = .ok (.goto (-60), 3) := dk_167 255 196 (dk_at dksX12_needs_2 17 rfl rfl)
theorem dX12_needs_67 : decode cX12_needs 67 = .ok (.iload_n 2, 1) := dk_28 (dk_at dksX12_needs_2 20 rfl rfl)
theorem dX12_needs_68 : decode cX12_needs 68 = .ok (.ireturn, 1) := dk_172 (dk_at dksX12_needs_2 21 rfl rfl)
def dkwX12_isFor_0 : List UInt8 := [42, 180, 0, 15, 27, 122, 4, 126, 153, 0, 7, 4, 167, 0, 4, 3, 172]
abbrev dktX12_isFor_0 : List UInt8 := dkwX12_isFor_0 ++ []
theorem dksX12_isFor_0 : cX12_isFor.data.toList.drop 0 = dktX12_isFor_0 := by decide +kernel
theorem dX12_isFor_0 : decode cX12_isFor 0 = .ok (.aload_n 0, 1) := dk_42 (dk_at dksX12_isFor_0 0 rfl rfl)
theorem dX12_isFor_1 : decode cX12_isFor 1 = .ok (.getfield 15, 3) := dk_180 0 15 (dk_at dksX12_isFor_0 1 rfl rfl)
theorem dX12_isFor_4 : decode cX12_isFor 4 = .ok (.iload_n 1, 1) := dk_27 (dk_at dksX12_isFor_0 4 rfl rfl)
theorem dX12_isFor_5 : decode cX12_isFor 5 = .ok (.ishr, 1) := dk_122 (dk_at dksX12_isFor_0 5 rfl rfl)
theorem dX12_isFor_6 : decode cX12_isFor 6 = .ok (.iconst 1, 1) := dk_4 (dk_at dksX12_isFor_0 6 rfl rfl)
theorem dX12_isFor_7 : decode cX12_isFor 7 = .ok (.iand, 1) := dk_126 (dk_at dksX12_isFor_0 7 rfl rfl)
theorem dX12_isFor_8 : decode cX12_isFor 8 = .ok (.ifCond .eq 7, 3) := dk_153 0 7 (dk_at dksX12_isFor_0 8 rfl rfl)
theorem dX12_isFor_11 : decode cX12_isFor 11 = .ok (.iconst 1, 1) := dk_4 (dk_at dksX12_isFor_0 11 rfl rfl)
theorem dX12_isFor_12 : decode cX12_isFor 12 = .ok (.goto 4, 3) := dk_167 0 4 (dk_at dksX12_isFor_0 12 rfl rfl)
theorem dX12_isFor_15 : decode cX12_isFor 15 = .ok (.iconst 0, 1) := dk_3 (dk_at dksX12_isFor_0 15 rfl rfl)
theorem dX12_isFor_16 : decode cX12_isFor 16 = .ok (.ireturn, 1) := dk_172 (dk_at dksX12_isFor_0 16 rfl rfl)
def dkwX12_value_9 : List UInt8 := [184, 0, 41, 80, 132, 9, 1, 167, 255, 49, 25, 5, 3, 47, 173]
abbrev dktX12_value_9 : List UInt8 := dkwX12_value_9 ++ []
def dkwX12_value_8 : List UInt8 := [58, 14, 25, 5, 21, 8, 132, 8, 1, 25, 14, 182, 0, 47, 154, 0, 7, 31, 167, 0, 4, 33]
abbrev dktX12_value_8 : List UInt8 := dkwX12_value_8 ++ dktX12_value_9
def dkwX12_value_7 : List UInt8 := [184, 0, 54, 184, 0, 41, 80, 167, 0, 42, 25, 10, 193, 0, 45, 153, 0, 34, 25, 10, 192, 0, 45]
abbrev dktX12_value_7 : List UInt8 := dkwX12_value_7 ++ dktX12_value_8
def dkwX12_value_6 : List UInt8 := [21, 8, 4, 100, 25, 13, 182, 0, 47, 184, 0, 50, 25, 5, 21, 8, 4, 100, 47, 25, 5, 21, 8, 47]
abbrev dktX12_value_6 : List UInt8 := dkwX12_value_6 ++ dktX12_value_7
def dkwX12_value_5 : List UInt8 := [153, 0, 58, 25, 10, 192, 0, 45, 58, 13, 25, 13, 182, 0, 47, 7, 161, 0, 42, 132, 8, 255, 25, 5]
abbrev dktX12_value_5 : List UInt8 := dkwX12_value_5 ++ dktX12_value_6
def dkwX12_value_4 : List UInt8 := [132, 8, 1, 25, 7, 21, 6, 25, 12, 182, 0, 31, 96, 47, 80, 167, 0, 105, 25, 10, 193, 0, 45]
abbrev dktX12_value_4 : List UInt8 := dkwX12_value_4 ++ dktX12_value_5
def dkwX12_value_3 : List UInt8 := [167, 0, 142, 25, 10, 193, 0, 29, 153, 0, 32, 25, 10, 192, 0, 29, 58, 12, 25, 5, 21, 8]
abbrev dktX12_value_3 : List UInt8 := dkwX12_value_3 ++ dktX12_value_4
def dkwX12_value_2 : List UInt8 := [192, 0, 36, 58, 11, 25, 5, 21, 8, 132, 8, 1, 25, 11, 182, 0, 38, 133, 184, 0, 41, 80]
abbrev dktX12_value_2 : List UInt8 := dkwX12_value_2 ++ dktX12_value_3
def dkwX12_value_1 : List UInt8 := [21, 9, 185, 0, 25, 2, 0, 192, 0, 34, 58, 10, 25, 10, 193, 0, 36, 153, 0, 30, 25, 10]
abbrev dktX12_value_1 : List UInt8 := dkwX12_value_1 ++ dktX12_value_2
def dkwX12_value_0 : List UInt8 := [3, 54, 8, 3, 54, 9, 21, 9, 42, 180, 0, 9, 185, 0, 19, 1, 0, 162, 0, 199, 42, 180, 0, 9]
abbrev dktX12_value_0 : List UInt8 := dkwX12_value_0 ++ dktX12_value_1
theorem dksX12_value_0 : cX12_value.data.toList.drop 0 = dktX12_value_0 := by decide +kernel
theorem dksX12_value_1 : cX12_value.data.toList.drop 24 = dktX12_value_1 := dk_seg dksX12_value_0 24 rfl rfl
theorem dksX12_value_2 : cX12_value.data.toList.drop 46 = dktX12_value_2 := dk_seg dksX12_value_1 22 rfl rfl
theorem dksX12_value_3 : cX12_value.data.toList.drop 68 = dktX12_value_3 := dk_seg dksX12_value_2 22 rfl rfl
theorem dksX12_value_4 : cX12_value.data.toList.drop 90 = dktX12_value_4 := dk_seg dksX12_value_3 22 rfl rfl
theorem dksX12_value_5 : cX12_value.data.toList.drop 113 = dktX12_value_5 := dk_seg dksX12_value_4 23 rfl rfl
theorem dksX12_value_6 : cX12_value.data.toList.drop 137 = dktX12_value_6 := dk_seg dksX12_value_5 24 rfl rfl
theorem dksX12_value_7 : cX12_value.data.toList.drop 161 = dktX12_value_7 := dk_seg dksX12_value_6 24 rfl rfl
theorem dksX12_value_8 : cX12_value.data.toList.drop 184 = dktX12_value_8 := dk_seg dksX12_value_7 23 rfl rfl
theorem dksX12_value_9 : cX12_value.data.toList.drop 206 = dktX12_value_9 := dk_seg dksX12_value_8 22 rfl rfl
theorem dX12_value_0 : decode cX12_value 0 = .ok (.iconst 0, 1) := dk_3 (dk_at dksX12_value_0 0 rfl rfl)
theorem dX12_value_1 : decode cX12_value 1 = .ok (.istore 8, 2) := dk_54 8 (dk_at dksX12_value_0 1 rfl rfl)
theorem dX12_value_3 : decode cX12_value 3 = .ok (.iconst 0, 1) := dk_3 (dk_at dksX12_value_0 3 rfl rfl)
theorem dX12_value_4 : decode cX12_value 4 = .ok (.istore 9, 2) := dk_54 9 (dk_at dksX12_value_0 4 rfl rfl)
theorem dX12_value_6 : decode cX12_value 6 = .ok (.iload 9, 2) := dk_21 9 (dk_at dksX12_value_0 6 rfl rfl)
theorem dX12_value_8 : decode cX12_value 8 = .ok (.aload_n 0, 1) := dk_42 (dk_at dksX12_value_0 8 rfl rfl)
theorem dX12_value_9 : decode cX12_value 9 = .ok (.getfield 9, 3) := dk_180 0 9 (dk_at dksX12_value_0 9 rfl rfl)
theorem dX12_value_12 : decode cX12_value 12 = .ok (.invokeinterface 19 1, 5) := by decide +kernel
theorem dX12_value_17 : decode cX12_value 17 = .ok (.if_icmp .ge 199, 3) := dk_162 0 199 (dk_at dksX12_value_0 17 rfl rfl)
theorem dX12_value_20 : decode cX12_value 20 = .ok (.aload_n 0, 1) := dk_42 (dk_at dksX12_value_0 20 rfl rfl)
theorem dX12_value_21 : decode cX12_value 21 = .ok (.getfield 9, 3) := dk_180 0 9 (dk_at dksX12_value_0 21 rfl rfl)
theorem dX12_value_24 : decode cX12_value 24 = .ok (.iload 9, 2) := dk_21 9 (dk_at dksX12_value_1 0 rfl rfl)
theorem dX12_value_26 : decode cX12_value 26 = .ok (.invokeinterface 25 2, 5) := by decide +kernel
theorem dX12_value_31 : decode cX12_value 31 = .ok (.checkcast 34, 3) := dk_192 0 34 (dk_at dksX12_value_1 7 rfl rfl)
theorem dX12_value_34 : decode cX12_value 34 = .ok (.astore 10, 2) := dk_58 10 (dk_at dksX12_value_1 10 rfl rfl)
theorem dX12_value_36 : decode cX12_value 36 = .ok (.aload 10, 2) := dk_25 10 (dk_at dksX12_value_1 12 rfl rfl)
theorem dX12_value_38 : decode cX12_value 38 = .ok (.instanceof 36, 3) := dk_193 0 36 (dk_at dksX12_value_1 14 rfl rfl)
theorem dX12_value_41 : decode cX12_value 41 = .ok (.ifCond .eq 30, 3) := dk_153 0 30 (dk_at dksX12_value_1 17 rfl rfl)
theorem dX12_value_44 : decode cX12_value 44 = .ok (.aload 10, 2) := dk_25 10 (dk_at dksX12_value_1 20 rfl rfl)
theorem dX12_value_46 : decode cX12_value 46 = .ok (.checkcast 36, 3) := dk_192 0 36 (dk_at dksX12_value_2 0 rfl rfl)
theorem dX12_value_49 : decode cX12_value 49 = .ok (.astore 11, 2) := dk_58 11 (dk_at dksX12_value_2 3 rfl rfl)
theorem dX12_value_51 : decode cX12_value 51 = .ok (.aload 5, 2) := dk_25 5 (dk_at dksX12_value_2 5 rfl rfl)
theorem dX12_value_53 : decode cX12_value 53 = .ok (.iload 8, 2) := dk_21 8 (dk_at dksX12_value_2 7 rfl rfl)
theorem dX12_value_55 : decode cX12_value 55 = .ok (.iinc 8 1, 3) := dk_132 8 1 (dk_at dksX12_value_2 9 rfl rfl)
theorem dX12_value_58 : decode cX12_value 58 = .ok (.aload 11, 2) := dk_25 11 (dk_at dksX12_value_2 12 rfl rfl)
theorem dX12_value_60 : decode cX12_value 60 = .ok (.invokevirtual 38, 3) := dk_182 0 38 (dk_at dksX12_value_2 14 rfl rfl)
theorem dX12_value_63 : decode cX12_value 63 = .ok (.i2l, 1) := dk_133 (dk_at dksX12_value_2 17 rfl rfl)
theorem dX12_value_64 : decode cX12_value 64 = .ok (.invokestatic 41, 3) := dk_184 0 41 (dk_at dksX12_value_2 18 rfl rfl)
theorem dX12_value_67 : decode cX12_value 67 = .ok (.lastore, 1) := dk_80 (dk_at dksX12_value_2 21 rfl rfl)
theorem dX12_value_68 : decode cX12_value 68 = .ok (.goto 142, 3) := dk_167 0 142 (dk_at dksX12_value_3 0 rfl rfl)
theorem dX12_value_71 : decode cX12_value 71 = .ok (.aload 10, 2) := dk_25 10 (dk_at dksX12_value_3 3 rfl rfl)
theorem dX12_value_73 : decode cX12_value 73 = .ok (.instanceof 29, 3) := dk_193 0 29 (dk_at dksX12_value_3 5 rfl rfl)
theorem dX12_value_76 : decode cX12_value 76 = .ok (.ifCond .eq 32, 3) := dk_153 0 32 (dk_at dksX12_value_3 8 rfl rfl)
theorem dX12_value_79 : decode cX12_value 79 = .ok (.aload 10, 2) := dk_25 10 (dk_at dksX12_value_3 11 rfl rfl)
theorem dX12_value_81 : decode cX12_value 81 = .ok (.checkcast 29, 3) := dk_192 0 29 (dk_at dksX12_value_3 13 rfl rfl)
theorem dX12_value_84 : decode cX12_value 84 = .ok (.astore 12, 2) := dk_58 12 (dk_at dksX12_value_3 16 rfl rfl)
theorem dX12_value_86 : decode cX12_value 86 = .ok (.aload 5, 2) := dk_25 5 (dk_at dksX12_value_3 18 rfl rfl)
theorem dX12_value_88 : decode cX12_value 88 = .ok (.iload 8, 2) := dk_21 8 (dk_at dksX12_value_3 20 rfl rfl)
theorem dX12_value_90 : decode cX12_value 90 = .ok (.iinc 8 1, 3) := dk_132 8 1 (dk_at dksX12_value_4 0 rfl rfl)
theorem dX12_value_93 : decode cX12_value 93 = .ok (.aload 7, 2) := dk_25 7 (dk_at dksX12_value_4 3 rfl rfl)
theorem dX12_value_95 : decode cX12_value 95 = .ok (.iload 6, 2) := dk_21 6 (dk_at dksX12_value_4 5 rfl rfl)
theorem dX12_value_97 : decode cX12_value 97 = .ok (.aload 12, 2) := dk_25 12 (dk_at dksX12_value_4 7 rfl rfl)
theorem dX12_value_99 : decode cX12_value 99 = .ok (.invokevirtual 31, 3) := dk_182 0 31 (dk_at dksX12_value_4 9 rfl rfl)
theorem dX12_value_102 : decode cX12_value 102 = .ok (.iadd, 1) := dk_96 (dk_at dksX12_value_4 12 rfl rfl)
theorem dX12_value_103 : decode cX12_value 103 = .ok (.laload, 1) := dk_47 (dk_at dksX12_value_4 13 rfl rfl)
theorem dX12_value_104 : decode cX12_value 104 = .ok (.lastore, 1) := dk_80 (dk_at dksX12_value_4 14 rfl rfl)
theorem dX12_value_105 : decode cX12_value 105 = .ok (.goto 105, 3) := dk_167 0 105 (dk_at dksX12_value_4 15 rfl rfl)
theorem dX12_value_108 : decode cX12_value 108 = .ok (.aload 10, 2) := dk_25 10 (dk_at dksX12_value_4 18 rfl rfl)
theorem dX12_value_110 : decode cX12_value 110 = .ok (.instanceof 45, 3) := dk_193 0 45 (dk_at dksX12_value_4 20 rfl rfl)
theorem dX12_value_113 : decode cX12_value 113 = .ok (.ifCond .eq 58, 3) := dk_153 0 58 (dk_at dksX12_value_5 0 rfl rfl)
theorem dX12_value_116 : decode cX12_value 116 = .ok (.aload 10, 2) := dk_25 10 (dk_at dksX12_value_5 3 rfl rfl)
theorem dX12_value_118 : decode cX12_value 118 = .ok (.checkcast 45, 3) := dk_192 0 45 (dk_at dksX12_value_5 5 rfl rfl)
theorem dX12_value_121 : decode cX12_value 121 = .ok (.astore 13, 2) := dk_58 13 (dk_at dksX12_value_5 8 rfl rfl)
theorem dX12_value_123 : decode cX12_value 123 = .ok (.aload 13, 2) := dk_25 13 (dk_at dksX12_value_5 10 rfl rfl)
theorem dX12_value_125 : decode cX12_value 125 = .ok (.invokevirtual 47, 3) := dk_182 0 47 (dk_at dksX12_value_5 12 rfl rfl)
theorem dX12_value_128 : decode cX12_value 128 = .ok (.iconst 4, 1) := dk_7 (dk_at dksX12_value_5 15 rfl rfl)
theorem dX12_value_129 : decode cX12_value 129 = .ok (.if_icmp .lt 42, 3) := dk_161 0 42 (dk_at dksX12_value_5 16 rfl rfl)
theorem dX12_value_132 : decode cX12_value 132 = .ok (.iinc 8 (-1), 3) := dk_132 8 255 (dk_at dksX12_value_5 19 rfl rfl)
theorem dX12_value_135 : decode cX12_value 135 = .ok (.aload 5, 2) := dk_25 5 (dk_at dksX12_value_5 22 rfl rfl)
theorem dX12_value_137 : decode cX12_value 137 = .ok (.iload 8, 2) := dk_21 8 (dk_at dksX12_value_6 0 rfl rfl)
theorem dX12_value_139 : decode cX12_value 139 = .ok (.iconst 1, 1) := dk_4 (dk_at dksX12_value_6 2 rfl rfl)
theorem dX12_value_140 : decode cX12_value 140 = .ok (.isub, 1) := dk_100 (dk_at dksX12_value_6 3 rfl rfl)
theorem dX12_value_141 : decode cX12_value 141 = .ok (.aload 13, 2) := dk_25 13 (dk_at dksX12_value_6 4 rfl rfl)
theorem dX12_value_143 : decode cX12_value 143 = .ok (.invokevirtual 47, 3) := dk_182 0 47 (dk_at dksX12_value_6 6 rfl rfl)
theorem dX12_value_146 : decode cX12_value 146 = .ok (.invokestatic 50, 3) := dk_184 0 50 (dk_at dksX12_value_6 9 rfl rfl)
theorem dX12_value_149 : decode cX12_value 149 = .ok (.aload 5, 2) := dk_25 5 (dk_at dksX12_value_6 12 rfl rfl)
theorem dX12_value_151 : decode cX12_value 151 = .ok (.iload 8, 2) := dk_21 8 (dk_at dksX12_value_6 14 rfl rfl)
theorem dX12_value_153 : decode cX12_value 153 = .ok (.iconst 1, 1) := dk_4 (dk_at dksX12_value_6 16 rfl rfl)
theorem dX12_value_154 : decode cX12_value 154 = .ok (.isub, 1) := dk_100 (dk_at dksX12_value_6 17 rfl rfl)
theorem dX12_value_155 : decode cX12_value 155 = .ok (.laload, 1) := dk_47 (dk_at dksX12_value_6 18 rfl rfl)
theorem dX12_value_156 : decode cX12_value 156 = .ok (.aload 5, 2) := dk_25 5 (dk_at dksX12_value_6 19 rfl rfl)
theorem dX12_value_158 : decode cX12_value 158 = .ok (.iload 8, 2) := dk_21 8 (dk_at dksX12_value_6 21 rfl rfl)
theorem dX12_value_160 : decode cX12_value 160 = .ok (.laload, 1) := dk_47 (dk_at dksX12_value_6 23 rfl rfl)
theorem dX12_value_161 : decode cX12_value 161 = .ok (.invokestatic 54, 3) := dk_184 0 54 (dk_at dksX12_value_7 0 rfl rfl)
theorem dX12_value_164 : decode cX12_value 164 = .ok (.invokestatic 41, 3) := dk_184 0 41 (dk_at dksX12_value_7 3 rfl rfl)
theorem dX12_value_167 : decode cX12_value 167 = .ok (.lastore, 1) := dk_80 (dk_at dksX12_value_7 6 rfl rfl)
theorem dX12_value_168 : decode cX12_value 168 = .ok (.goto 42, 3) := dk_167 0 42 (dk_at dksX12_value_7 7 rfl rfl)
theorem dX12_value_171 : decode cX12_value 171 = .ok (.aload 10, 2) := dk_25 10 (dk_at dksX12_value_7 10 rfl rfl)
theorem dX12_value_173 : decode cX12_value 173 = .ok (.instanceof 45, 3) := dk_193 0 45 (dk_at dksX12_value_7 12 rfl rfl)
theorem dX12_value_176 : decode cX12_value 176 = .ok (.ifCond .eq 34, 3) := dk_153 0 34 (dk_at dksX12_value_7 15 rfl rfl)
theorem dX12_value_179 : decode cX12_value 179 = .ok (.aload 10, 2) := dk_25 10 (dk_at dksX12_value_7 18 rfl rfl)
theorem dX12_value_181 : decode cX12_value 181 = .ok (.checkcast 45, 3) := dk_192 0 45 (dk_at dksX12_value_7 20 rfl rfl)
theorem dX12_value_184 : decode cX12_value 184 = .ok (.astore 14, 2) := dk_58 14 (dk_at dksX12_value_8 0 rfl rfl)
theorem dX12_value_186 : decode cX12_value 186 = .ok (.aload 5, 2) := dk_25 5 (dk_at dksX12_value_8 2 rfl rfl)
theorem dX12_value_188 : decode cX12_value 188 = .ok (.iload 8, 2) := dk_21 8 (dk_at dksX12_value_8 4 rfl rfl)
theorem dX12_value_190 : decode cX12_value 190 = .ok (.iinc 8 1, 3) := dk_132 8 1 (dk_at dksX12_value_8 6 rfl rfl)
theorem dX12_value_193 : decode cX12_value 193 = .ok (.aload 14, 2) := dk_25 14 (dk_at dksX12_value_8 9 rfl rfl)
theorem dX12_value_195 : decode cX12_value 195 = .ok (.invokevirtual 47, 3) := dk_182 0 47 (dk_at dksX12_value_8 11 rfl rfl)
theorem dX12_value_198 : decode cX12_value 198 = .ok (.ifCond .ne 7, 3) := dk_154 0 7 (dk_at dksX12_value_8 14 rfl rfl)
theorem dX12_value_201 : decode cX12_value 201 = .ok (.lload_n 1, 1) := dk_31 (dk_at dksX12_value_8 17 rfl rfl)
theorem dX12_value_202 : decode cX12_value 202 = .ok (.goto 4, 3) := dk_167 0 4 (dk_at dksX12_value_8 18 rfl rfl)
theorem dX12_value_205 : decode cX12_value 205 = .ok (.lload_n 3, 1) := dk_33 (dk_at dksX12_value_8 21 rfl rfl)
theorem dX12_value_206 : decode cX12_value 206 = .ok (.invokestatic 41, 3) := dk_184 0 41 (dk_at dksX12_value_9 0 rfl rfl)
theorem dX12_value_209 : decode cX12_value 209 = .ok (.lastore, 1) := dk_80 (dk_at dksX12_value_9 3 rfl rfl)
theorem dX12_value_210 : decode cX12_value 210 = .ok (.iinc 9 1, 3) := dk_132 9 1 (dk_at dksX12_value_9 4 rfl rfl)
theorem dX12_value_213 : decode cX12_value 213 = .ok (.goto (-207), 3) := dk_167 255 49 (dk_at dksX12_value_9 7 rfl rfl)
theorem dX12_value_216 : decode cX12_value 216 = .ok (.aload 5, 2) := dk_25 5 (dk_at dksX12_value_9 10 rfl rfl)
theorem dX12_value_218 : decode cX12_value 218 = .ok (.iconst 0, 1) := dk_3 (dk_at dksX12_value_9 12 rfl rfl)
theorem dX12_value_219 : decode cX12_value 219 = .ok (.laload, 1) := dk_47 (dk_at dksX12_value_9 13 rfl rfl)
theorem dX12_value_220 : decode cX12_value 220 = .ok (.lreturn, 1) := dk_173 (dk_at dksX12_value_9 14 rfl rfl)
theorem dX13_end_0 : decode cX13_end 0 = .ok (.aload_n 0, 1) := by decide +kernel
theorem dX13_end_1 : decode cX13_end 1 = .ok (.getfield 7, 3) := by decide +kernel
theorem dX13_end_4 : decode cX13_end 4 = .ok (.ireturn, 1) := by decide +kernel
def dkwX13_init_0 : List UInt8 := [42, 183, 0, 1, 42, 27, 181, 0, 7, 42, 28, 181, 0, 13, 177]
abbrev dktX13_init_0 : List UInt8 := dkwX13_init_0 ++ []
theorem dksX13_init_0 : cX13_init.data.toList.drop 0 = dktX13_init_0 := by decide +kernel
theorem dX13_init_0 : decode cX13_init 0 = .ok (.aload_n 0, 1) := dk_42 (dk_at dksX13_init_0 0 rfl rfl)
theorem dX13_init_1 : decode cX13_init 1 = .ok (.invokespecial 1, 3) := dk_183 0 1 (dk_at dksX13_init_0 1 rfl rfl)
theorem dX13_init_4 : decode cX13_init 4 = .ok (.aload_n 0, 1) := dk_42 (dk_at dksX13_init_0 4 rfl rfl)
theorem dX13_init_5 : decode cX13_init 5 = .ok (.iload_n 1, 1) := dk_27 (dk_at dksX13_init_0 5 rfl rfl)
theorem dX13_init_6 : decode cX13_init 6 = .ok (.putfield 7, 3) := dk_181 0 7 (dk_at dksX13_init_0 6 rfl rfl)
theorem dX13_init_9 : decode cX13_init 9 = .ok (.aload_n 0, 1) := dk_42 (dk_at dksX13_init_0 9 rfl rfl)
theorem dX13_init_10 : decode cX13_init 10 = .ok (.iload_n 2, 1) := dk_28 (dk_at dksX13_init_0 10 rfl rfl)
theorem dX13_init_11 : decode cX13_init 11 = .ok (.putfield 13, 3) := dk_181 0 13 (dk_at dksX13_init_0 11 rfl rfl)
theorem dX13_init_14 : decode cX13_init 14 = .ok (.return_, 1) := dk_177 (dk_at dksX13_init_0 14 rfl rfl)
theorem dX13_thousandths_0 : decode cX13_thousandths 0 = .ok (.aload_n 0, 1) := by decide +kernel
theorem dX13_thousandths_1 : decode cX13_thousandths 1 = .ok (.getfield 13, 3) := by decide +kernel
theorem dX13_thousandths_4 : decode cX13_thousandths 4 = .ok (.ireturn, 1) := by decide +kernel
def dkwX14_init_8 : List UInt8 := [42, 16, 24, 182, 0, 85, 177]
abbrev dktX14_init_8 : List UInt8 := dkwX14_init_8 ++ []
def dkwX14_init_7 : List UInt8 := [54, 5, 21, 5, 16, 24, 162, 0, 18, 42, 21, 5, 45, 25, 4, 182, 0, 81, 132, 5, 1, 167, 255, 237]
abbrev dktX14_init_7 : List UInt8 := dkwX14_init_7 ++ dktX14_init_8
def dkwX14_init_6 : List UInt8 := [181, 0, 65, 43, 28, 182, 0, 69, 43, 180, 0, 73, 184, 0, 77, 78, 16, 10, 188, 11, 58, 4, 3]
abbrev dktX14_init_6 : List UInt8 := dkwX14_init_6 ++ dktX14_init_7
def dkwX14_init_5 : List UInt8 := [181, 0, 56, 42, 17, 0, 144, 188, 11, 181, 0, 59, 42, 16, 24, 188, 11, 181, 0, 62, 42, 28]
abbrev dktX14_init_5 : List UInt8 := dkwX14_init_5 ++ dktX14_init_6
def dkwX14_init_4 : List UInt8 := [181, 0, 47, 42, 16, 24, 188, 11, 181, 0, 50, 42, 16, 24, 188, 11, 181, 0, 53, 42, 16, 24, 188, 11]
abbrev dktX14_init_4 : List UInt8 := dkwX14_init_4 ++ dktX14_init_5
def dkwX14_init_3 : List UInt8 := [181, 0, 38, 42, 6, 188, 11, 181, 0, 41, 42, 6, 188, 11, 181, 0, 44, 42, 16, 24, 188, 11]
abbrev dktX14_init_3 : List UInt8 := dkwX14_init_3 ++ dktX14_init_4
def dkwX14_init_2 : List UInt8 := [181, 0, 29, 42, 16, 72, 188, 11, 181, 0, 32, 42, 6, 188, 11, 181, 0, 35, 42, 6, 188, 11]
abbrev dktX14_init_2 : List UInt8 := dkwX14_init_2 ++ dktX14_init_3
def dkwX14_init_1 : List UInt8 := [181, 0, 19, 42, 16, 24, 188, 10, 181, 0, 22, 42, 16, 72, 188, 11, 181, 0, 26, 42, 16, 72, 188, 11]
abbrev dktX14_init_1 : List UInt8 := dkwX14_init_1 ++ dktX14_init_2
def dkwX14_init_0 : List UInt8 := [42, 43, 181, 0, 3, 42, 183, 0, 9, 42, 16, 72, 188, 11, 181, 0, 15, 42, 17, 0, 144, 188, 11]
abbrev dktX14_init_0 : List UInt8 := dkwX14_init_0 ++ dktX14_init_1
theorem dksX14_init_0 : cX14_init.data.toList.drop 0 = dktX14_init_0 := by decide +kernel
theorem dksX14_init_1 : cX14_init.data.toList.drop 23 = dktX14_init_1 := dk_seg dksX14_init_0 23 rfl rfl
theorem dksX14_init_2 : cX14_init.data.toList.drop 47 = dktX14_init_2 := dk_seg dksX14_init_1 24 rfl rfl
theorem dksX14_init_3 : cX14_init.data.toList.drop 69 = dktX14_init_3 := dk_seg dksX14_init_2 22 rfl rfl
theorem dksX14_init_4 : cX14_init.data.toList.drop 91 = dktX14_init_4 := dk_seg dksX14_init_3 22 rfl rfl
theorem dksX14_init_5 : cX14_init.data.toList.drop 115 = dktX14_init_5 := dk_seg dksX14_init_4 24 rfl rfl
theorem dksX14_init_6 : cX14_init.data.toList.drop 137 = dktX14_init_6 := dk_seg dksX14_init_5 22 rfl rfl
theorem dksX14_init_7 : cX14_init.data.toList.drop 160 = dktX14_init_7 := dk_seg dksX14_init_6 23 rfl rfl
theorem dksX14_init_8 : cX14_init.data.toList.drop 184 = dktX14_init_8 := dk_seg dksX14_init_7 24 rfl rfl
theorem dX14_init_0 : decode cX14_init 0 = .ok (.aload_n 0, 1) := dk_42 (dk_at dksX14_init_0 0 rfl rfl)
theorem dX14_init_1 : decode cX14_init 1 = .ok (.aload_n 1, 1) := dk_43 (dk_at dksX14_init_0 1 rfl rfl)
theorem dX14_init_2 : decode cX14_init 2 = .ok (.putfield 3, 3) := dk_181 0 3 (dk_at dksX14_init_0 2 rfl rfl)
theorem dX14_init_5 : decode cX14_init 5 = .ok (.aload_n 0, 1) := dk_42 (dk_at dksX14_init_0 5 rfl rfl)
theorem dX14_init_6 : decode cX14_init 6 = .ok (.invokespecial 9, 3) := dk_183 0 9 (dk_at dksX14_init_0 6 rfl rfl)
theorem dX14_init_9 : decode cX14_init 9 = .ok (.aload_n 0, 1) := dk_42 (dk_at dksX14_init_0 9 rfl rfl)
theorem dX14_init_10 : decode cX14_init 10 = .ok (.bipush 72, 2) := dk_16 72 (dk_at dksX14_init_0 10 rfl rfl)
theorem dX14_init_12 : decode cX14_init 12 = .ok (.newarray .long, 2) := dk_188_11 (dk_at dksX14_init_0 12 rfl rfl)
theorem dX14_init_14 : decode cX14_init 14 = .ok (.putfield 15, 3) := dk_181 0 15 (dk_at dksX14_init_0 14 rfl rfl)
theorem dX14_init_17 : decode cX14_init 17 = .ok (.aload_n 0, 1) := dk_42 (dk_at dksX14_init_0 17 rfl rfl)
theorem dX14_init_18 : decode cX14_init 18 = .ok (.sipush 144, 3) := dk_17 0 144 (dk_at dksX14_init_0 18 rfl rfl)
theorem dX14_init_21 : decode cX14_init 21 = .ok (.newarray .long, 2) := dk_188_11 (dk_at dksX14_init_0 21 rfl rfl)
theorem dX14_init_23 : decode cX14_init 23 = .ok (.putfield 19, 3) := dk_181 0 19 (dk_at dksX14_init_1 0 rfl rfl)
theorem dX14_init_26 : decode cX14_init 26 = .ok (.aload_n 0, 1) := dk_42 (dk_at dksX14_init_1 3 rfl rfl)
theorem dX14_init_27 : decode cX14_init 27 = .ok (.bipush 24, 2) := dk_16 24 (dk_at dksX14_init_1 4 rfl rfl)
theorem dX14_init_29 : decode cX14_init 29 = .ok (.newarray .int, 2) := dk_188_10 (dk_at dksX14_init_1 6 rfl rfl)
theorem dX14_init_31 : decode cX14_init 31 = .ok (.putfield 22, 3) := dk_181 0 22 (dk_at dksX14_init_1 8 rfl rfl)
theorem dX14_init_34 : decode cX14_init 34 = .ok (.aload_n 0, 1) := dk_42 (dk_at dksX14_init_1 11 rfl rfl)
theorem dX14_init_35 : decode cX14_init 35 = .ok (.bipush 72, 2) := dk_16 72 (dk_at dksX14_init_1 12 rfl rfl)
theorem dX14_init_37 : decode cX14_init 37 = .ok (.newarray .long, 2) := dk_188_11 (dk_at dksX14_init_1 14 rfl rfl)
theorem dX14_init_39 : decode cX14_init 39 = .ok (.putfield 26, 3) := dk_181 0 26 (dk_at dksX14_init_1 16 rfl rfl)
theorem dX14_init_42 : decode cX14_init 42 = .ok (.aload_n 0, 1) := dk_42 (dk_at dksX14_init_1 19 rfl rfl)
theorem dX14_init_43 : decode cX14_init 43 = .ok (.bipush 72, 2) := dk_16 72 (dk_at dksX14_init_1 20 rfl rfl)
theorem dX14_init_45 : decode cX14_init 45 = .ok (.newarray .long, 2) := dk_188_11 (dk_at dksX14_init_1 22 rfl rfl)
theorem dX14_init_47 : decode cX14_init 47 = .ok (.putfield 29, 3) := dk_181 0 29 (dk_at dksX14_init_2 0 rfl rfl)
theorem dX14_init_50 : decode cX14_init 50 = .ok (.aload_n 0, 1) := dk_42 (dk_at dksX14_init_2 3 rfl rfl)
theorem dX14_init_51 : decode cX14_init 51 = .ok (.bipush 72, 2) := dk_16 72 (dk_at dksX14_init_2 4 rfl rfl)
theorem dX14_init_53 : decode cX14_init 53 = .ok (.newarray .long, 2) := dk_188_11 (dk_at dksX14_init_2 6 rfl rfl)
theorem dX14_init_55 : decode cX14_init 55 = .ok (.putfield 32, 3) := dk_181 0 32 (dk_at dksX14_init_2 8 rfl rfl)
theorem dX14_init_58 : decode cX14_init 58 = .ok (.aload_n 0, 1) := dk_42 (dk_at dksX14_init_2 11 rfl rfl)
theorem dX14_init_59 : decode cX14_init 59 = .ok (.iconst 3, 1) := dk_6 (dk_at dksX14_init_2 12 rfl rfl)
theorem dX14_init_60 : decode cX14_init 60 = .ok (.newarray .long, 2) := dk_188_11 (dk_at dksX14_init_2 13 rfl rfl)
theorem dX14_init_62 : decode cX14_init 62 = .ok (.putfield 35, 3) := dk_181 0 35 (dk_at dksX14_init_2 15 rfl rfl)
theorem dX14_init_65 : decode cX14_init 65 = .ok (.aload_n 0, 1) := dk_42 (dk_at dksX14_init_2 18 rfl rfl)
theorem dX14_init_66 : decode cX14_init 66 = .ok (.iconst 3, 1) := dk_6 (dk_at dksX14_init_2 19 rfl rfl)
theorem dX14_init_67 : decode cX14_init 67 = .ok (.newarray .long, 2) := dk_188_11 (dk_at dksX14_init_2 20 rfl rfl)
theorem dX14_init_69 : decode cX14_init 69 = .ok (.putfield 38, 3) := dk_181 0 38 (dk_at dksX14_init_3 0 rfl rfl)
theorem dX14_init_72 : decode cX14_init 72 = .ok (.aload_n 0, 1) := dk_42 (dk_at dksX14_init_3 3 rfl rfl)
theorem dX14_init_73 : decode cX14_init 73 = .ok (.iconst 3, 1) := dk_6 (dk_at dksX14_init_3 4 rfl rfl)
theorem dX14_init_74 : decode cX14_init 74 = .ok (.newarray .long, 2) := dk_188_11 (dk_at dksX14_init_3 5 rfl rfl)
theorem dX14_init_76 : decode cX14_init 76 = .ok (.putfield 41, 3) := dk_181 0 41 (dk_at dksX14_init_3 7 rfl rfl)
theorem dX14_init_79 : decode cX14_init 79 = .ok (.aload_n 0, 1) := dk_42 (dk_at dksX14_init_3 10 rfl rfl)
theorem dX14_init_80 : decode cX14_init 80 = .ok (.iconst 3, 1) := dk_6 (dk_at dksX14_init_3 11 rfl rfl)
theorem dX14_init_81 : decode cX14_init 81 = .ok (.newarray .long, 2) := dk_188_11 (dk_at dksX14_init_3 12 rfl rfl)
theorem dX14_init_83 : decode cX14_init 83 = .ok (.putfield 44, 3) := dk_181 0 44 (dk_at dksX14_init_3 14 rfl rfl)
theorem dX14_init_86 : decode cX14_init 86 = .ok (.aload_n 0, 1) := dk_42 (dk_at dksX14_init_3 17 rfl rfl)
theorem dX14_init_87 : decode cX14_init 87 = .ok (.bipush 24, 2) := dk_16 24 (dk_at dksX14_init_3 18 rfl rfl)
theorem dX14_init_89 : decode cX14_init 89 = .ok (.newarray .long, 2) := dk_188_11 (dk_at dksX14_init_3 20 rfl rfl)
theorem dX14_init_91 : decode cX14_init 91 = .ok (.putfield 47, 3) := dk_181 0 47 (dk_at dksX14_init_4 0 rfl rfl)
theorem dX14_init_94 : decode cX14_init 94 = .ok (.aload_n 0, 1) := dk_42 (dk_at dksX14_init_4 3 rfl rfl)
theorem dX14_init_95 : decode cX14_init 95 = .ok (.bipush 24, 2) := dk_16 24 (dk_at dksX14_init_4 4 rfl rfl)
theorem dX14_init_97 : decode cX14_init 97 = .ok (.newarray .long, 2) := dk_188_11 (dk_at dksX14_init_4 6 rfl rfl)
theorem dX14_init_99 : decode cX14_init 99 = .ok (.putfield 50, 3) := dk_181 0 50 (dk_at dksX14_init_4 8 rfl rfl)
theorem dX14_init_102 : decode cX14_init 102 = .ok (.aload_n 0, 1) := dk_42 (dk_at dksX14_init_4 11 rfl rfl)
theorem dX14_init_103 : decode cX14_init 103 = .ok (.bipush 24, 2) := dk_16 24 (dk_at dksX14_init_4 12 rfl rfl)
theorem dX14_init_105 : decode cX14_init 105 = .ok (.newarray .long, 2) := dk_188_11 (dk_at dksX14_init_4 14 rfl rfl)
theorem dX14_init_107 : decode cX14_init 107 = .ok (.putfield 53, 3) := dk_181 0 53 (dk_at dksX14_init_4 16 rfl rfl)
theorem dX14_init_110 : decode cX14_init 110 = .ok (.aload_n 0, 1) := dk_42 (dk_at dksX14_init_4 19 rfl rfl)
theorem dX14_init_111 : decode cX14_init 111 = .ok (.bipush 24, 2) := dk_16 24 (dk_at dksX14_init_4 20 rfl rfl)
theorem dX14_init_113 : decode cX14_init 113 = .ok (.newarray .long, 2) := dk_188_11 (dk_at dksX14_init_4 22 rfl rfl)
theorem dX14_init_115 : decode cX14_init 115 = .ok (.putfield 56, 3) := dk_181 0 56 (dk_at dksX14_init_5 0 rfl rfl)
theorem dX14_init_118 : decode cX14_init 118 = .ok (.aload_n 0, 1) := dk_42 (dk_at dksX14_init_5 3 rfl rfl)
theorem dX14_init_119 : decode cX14_init 119 = .ok (.sipush 144, 3) := dk_17 0 144 (dk_at dksX14_init_5 4 rfl rfl)
theorem dX14_init_122 : decode cX14_init 122 = .ok (.newarray .long, 2) := dk_188_11 (dk_at dksX14_init_5 7 rfl rfl)
theorem dX14_init_124 : decode cX14_init 124 = .ok (.putfield 59, 3) := dk_181 0 59 (dk_at dksX14_init_5 9 rfl rfl)
theorem dX14_init_127 : decode cX14_init 127 = .ok (.aload_n 0, 1) := dk_42 (dk_at dksX14_init_5 12 rfl rfl)
theorem dX14_init_128 : decode cX14_init 128 = .ok (.bipush 24, 2) := dk_16 24 (dk_at dksX14_init_5 13 rfl rfl)
theorem dX14_init_130 : decode cX14_init 130 = .ok (.newarray .long, 2) := dk_188_11 (dk_at dksX14_init_5 15 rfl rfl)
theorem dX14_init_132 : decode cX14_init 132 = .ok (.putfield 62, 3) := dk_181 0 62 (dk_at dksX14_init_5 17 rfl rfl)
theorem dX14_init_135 : decode cX14_init 135 = .ok (.aload_n 0, 1) := dk_42 (dk_at dksX14_init_5 20 rfl rfl)
theorem dX14_init_136 : decode cX14_init 136 = .ok (.iload_n 2, 1) := dk_28 (dk_at dksX14_init_5 21 rfl rfl)
theorem dX14_init_137 : decode cX14_init 137 = .ok (.putfield 65, 3) := dk_181 0 65 (dk_at dksX14_init_6 0 rfl rfl)
theorem dX14_init_140 : decode cX14_init 140 = .ok (.aload_n 1, 1) := dk_43 (dk_at dksX14_init_6 3 rfl rfl)
theorem dX14_init_141 : decode cX14_init 141 = .ok (.iload_n 2, 1) := dk_28 (dk_at dksX14_init_6 4 rfl rfl)
theorem dX14_init_142 : decode cX14_init 142 = .ok (.invokevirtual 69, 3) := dk_182 0 69 (dk_at dksX14_init_6 5 rfl rfl)
theorem dX14_init_145 : decode cX14_init 145 = .ok (.aload_n 1, 1) := dk_43 (dk_at dksX14_init_6 8 rfl rfl)
theorem dX14_init_146 : decode cX14_init 146 = .ok (.getfield 73, 3) := dk_180 0 73 (dk_at dksX14_init_6 9 rfl rfl)
theorem dX14_init_149 : decode cX14_init 149 = .ok (.invokestatic 77, 3) := dk_184 0 77 (dk_at dksX14_init_6 12 rfl rfl)
theorem dX14_init_152 : decode cX14_init 152 = .ok (.astore_n 3, 1) := dk_78 (dk_at dksX14_init_6 15 rfl rfl)
theorem dX14_init_153 : decode cX14_init 153 = .ok (.bipush 10, 2) := dk_16 10 (dk_at dksX14_init_6 16 rfl rfl)
theorem dX14_init_155 : decode cX14_init 155 = .ok (.newarray .long, 2) := dk_188_11 (dk_at dksX14_init_6 18 rfl rfl)
theorem dX14_init_157 : decode cX14_init 157 = .ok (.astore 4, 2) := dk_58 4 (dk_at dksX14_init_6 20 rfl rfl)
theorem dX14_init_159 : decode cX14_init 159 = .ok (.iconst 0, 1) := dk_3 (dk_at dksX14_init_6 22 rfl rfl)
theorem dX14_init_160 : decode cX14_init 160 = .ok (.istore 5, 2) := dk_54 5 (dk_at dksX14_init_7 0 rfl rfl)
theorem dX14_init_162 : decode cX14_init 162 = .ok (.iload 5, 2) := dk_21 5 (dk_at dksX14_init_7 2 rfl rfl)
theorem dX14_init_164 : decode cX14_init 164 = .ok (.bipush 24, 2) := dk_16 24 (dk_at dksX14_init_7 4 rfl rfl)
theorem dX14_init_166 : decode cX14_init 166 = .ok (.if_icmp .ge 18, 3) := dk_162 0 18 (dk_at dksX14_init_7 6 rfl rfl)
theorem dX14_init_169 : decode cX14_init 169 = .ok (.aload_n 0, 1) := dk_42 (dk_at dksX14_init_7 9 rfl rfl)
theorem dX14_init_170 : decode cX14_init 170 = .ok (.iload 5, 2) := dk_21 5 (dk_at dksX14_init_7 10 rfl rfl)
theorem dX14_init_172 : decode cX14_init 172 = .ok (.aload_n 3, 1) := dk_45 (dk_at dksX14_init_7 12 rfl rfl)
theorem dX14_init_173 : decode cX14_init 173 = .ok (.aload 4, 2) := dk_25 4 (dk_at dksX14_init_7 13 rfl rfl)
theorem dX14_init_175 : decode cX14_init 175 = .ok (.invokevirtual 81, 3) := dk_182 0 81 (dk_at dksX14_init_7 15 rfl rfl)
theorem dX14_init_178 : decode cX14_init 178 = .ok (.iinc 5 1, 3) := dk_132 5 1 (dk_at dksX14_init_7 18 rfl rfl)
theorem dX14_init_181 : decode cX14_init 181 = .ok (.goto (-19), 3) := dk_167 255 237 (dk_at dksX14_init_7 21 rfl rfl)
theorem dX14_init_184 : decode cX14_init 184 = .ok (.aload_n 0, 1) := dk_42 (dk_at dksX14_init_8 0 rfl rfl)
theorem dX14_init_185 : decode cX14_init 185 = .ok (.bipush 24, 2) := dk_16 24 (dk_at dksX14_init_8 1 rfl rfl)
theorem dX14_init_187 : decode cX14_init 187 = .ok (.invokevirtual 85, 3) := dk_182 0 85 (dk_at dksX14_init_8 3 rfl rfl)
theorem dX14_init_190 : decode cX14_init 190 = .ok (.return_, 1) := dk_177 (dk_at dksX14_init_8 6 rfl rfl)
def dkwX14_findPlain_13 : List UInt8 := [180, 0, 19, 21, 9, 21, 11, 96, 47, 97, 80, 132, 10, 1, 167, 255, 133, 177]
abbrev dktX14_findPlain_13 : List UInt8 := dkwX14_findPlain_13 ++ []
def dkwX14_findPlain_12 : List UInt8 := [167, 0, 4, 9, 80, 42, 180, 0, 15, 27, 6, 104, 42, 180, 0, 22, 27, 46, 96, 92, 47, 42]
abbrev dktX14_findPlain_12 : List UInt8 := dkwX14_findPlain_12 ++ dktX14_findPlain_13
def dkwX14_findPlain_11 : List UInt8 := [153, 0, 26, 25, 12, 22, 4, 22, 6, 20, 0, 134, 109, 45, 21, 9, 42, 180, 0, 19, 182, 0, 136]
abbrev dktX14_findPlain_11 : List UInt8 := dkwX14_findPlain_11 ++ dktX14_findPlain_12
def dkwX14_findPlain_10 : List UInt8 := [192, 0, 129, 58, 12, 42, 180, 0, 19, 21, 9, 21, 11, 96, 25, 12, 42, 180, 0, 65, 182, 0, 131]
abbrev dktX14_findPlain_10 : List UInt8 := dkwX14_findPlain_10 ++ dktX14_findPlain_11
def dkwX14_findPlain_9 : List UInt8 := [192, 0, 124, 182, 0, 126, 54, 11, 42, 180, 0, 3, 180, 0, 73, 21, 11, 185, 0, 97, 2, 0]
abbrev dktX14_findPlain_9 : List UInt8 := dkwX14_findPlain_9 ++ dktX14_findPlain_10
def dkwX14_findPlain_8 : List UInt8 := [3, 54, 10, 21, 10, 44, 185, 0, 91, 1, 0, 162, 0, 118, 44, 21, 10, 185, 0, 97, 2, 0]
abbrev dktX14_findPlain_8 : List UInt8 := dkwX14_findPlain_8 ++ dktX14_findPlain_9
def dkwX14_findPlain_7 : List UInt8 := [132, 9, 1, 167, 255, 103, 42, 180, 0, 22, 27, 3, 21, 8, 184, 0, 118, 79, 27, 16, 6, 104, 54, 9]
abbrev dktX14_findPlain_7 : List UInt8 := dkwX14_findPlain_7 ++ dktX14_findPlain_8
def dkwX14_findPlain_6 : List UInt8 := [162, 0, 23, 22, 6, 25, 10, 180, 0, 115, 21, 13, 46, 133, 97, 55, 6, 132, 13, 1, 167, 255, 228]
abbrev dktX14_findPlain_6 : List UInt8 := dkwX14_findPlain_6 ++ dktX14_findPlain_7
def dkwX14_findPlain_5 : List UInt8 := [180, 0, 108, 167, 0, 5, 21, 8, 54, 8, 27, 16, 30, 104, 54, 13, 21, 13, 27, 4, 96, 16, 30, 104]
abbrev dktX14_findPlain_5 : List UInt8 := dkwX14_findPlain_5 ++ dktX14_findPlain_6
def dkwX14_findPlain_4 : List UInt8 := [96, 92, 47, 22, 11, 97, 80, 21, 8, 2, 160, 0, 20, 25, 10, 27, 182, 0, 111, 153, 0, 11, 25, 10]
abbrev dktX14_findPlain_4 : List UInt8 := dkwX14_findPlain_4 ++ dktX14_findPlain_5
def dkwX14_findPlain_3 : List UInt8 := [182, 0, 104, 55, 11, 22, 4, 22, 11, 97, 55, 4, 42, 180, 0, 15, 27, 6, 104, 25, 10, 180, 0, 108]
abbrev dktX14_findPlain_3 : List UInt8 := dkwX14_findPlain_3 ++ dktX14_findPlain_4
def dkwX14_findPlain_2 : List UInt8 := [192, 0, 101, 58, 10, 25, 10, 180, 0, 103, 42, 180, 0, 65, 160, 0, 105, 42, 180, 0, 3, 25, 10, 27]
abbrev dktX14_findPlain_2 : List UInt8 := dkwX14_findPlain_2 ++ dktX14_findPlain_3
def dkwX14_findPlain_1 : List UInt8 := [185, 0, 91, 1, 0, 162, 0, 142, 42, 180, 0, 3, 180, 0, 88, 21, 9, 185, 0, 97, 2, 0]
abbrev dktX14_findPlain_1 : List UInt8 := dkwX14_findPlain_1 ++ dktX14_findPlain_2
def dkwX14_findPlain_0 : List UInt8 := [9, 55, 4, 9, 55, 6, 2, 54, 8, 3, 54, 9, 21, 9, 42, 180, 0, 3, 180, 0, 88]
abbrev dktX14_findPlain_0 : List UInt8 := dkwX14_findPlain_0 ++ dktX14_findPlain_1
theorem dksX14_findPlain_0 : cX14_findPlain.data.toList.drop 0 = dktX14_findPlain_0 := by decide +kernel
theorem dksX14_findPlain_1 : cX14_findPlain.data.toList.drop 21 = dktX14_findPlain_1 := dk_seg dksX14_findPlain_0 21 rfl rfl
theorem dksX14_findPlain_2 : cX14_findPlain.data.toList.drop 43 = dktX14_findPlain_2 := dk_seg dksX14_findPlain_1 22 rfl rfl
theorem dksX14_findPlain_3 : cX14_findPlain.data.toList.drop 67 = dktX14_findPlain_3 := dk_seg dksX14_findPlain_2 24 rfl rfl
theorem dksX14_findPlain_4 : cX14_findPlain.data.toList.drop 91 = dktX14_findPlain_4 := dk_seg dksX14_findPlain_3 24 rfl rfl
theorem dksX14_findPlain_5 : cX14_findPlain.data.toList.drop 115 = dktX14_findPlain_5 := dk_seg dksX14_findPlain_4 24 rfl rfl
theorem dksX14_findPlain_6 : cX14_findPlain.data.toList.drop 139 = dktX14_findPlain_6 := dk_seg dksX14_findPlain_5 24 rfl rfl
theorem dksX14_findPlain_7 : cX14_findPlain.data.toList.drop 162 = dktX14_findPlain_7 := dk_seg dksX14_findPlain_6 23 rfl rfl
theorem dksX14_findPlain_8 : cX14_findPlain.data.toList.drop 186 = dktX14_findPlain_8 := dk_seg dksX14_findPlain_7 24 rfl rfl
theorem dksX14_findPlain_9 : cX14_findPlain.data.toList.drop 208 = dktX14_findPlain_9 := dk_seg dksX14_findPlain_8 22 rfl rfl
theorem dksX14_findPlain_10 : cX14_findPlain.data.toList.drop 230 = dktX14_findPlain_10 := dk_seg dksX14_findPlain_9 22 rfl rfl
theorem dksX14_findPlain_11 : cX14_findPlain.data.toList.drop 253 = dktX14_findPlain_11 := dk_seg dksX14_findPlain_10 23 rfl rfl
theorem dksX14_findPlain_12 : cX14_findPlain.data.toList.drop 276 = dktX14_findPlain_12 := dk_seg dksX14_findPlain_11 23 rfl rfl
theorem dksX14_findPlain_13 : cX14_findPlain.data.toList.drop 298 = dktX14_findPlain_13 := dk_seg dksX14_findPlain_12 22 rfl rfl
theorem dX14_findPlain_0 : decode cX14_findPlain 0 = .ok (.lconst 0, 1) := dk_9 (dk_at dksX14_findPlain_0 0 rfl rfl)
theorem dX14_findPlain_1 : decode cX14_findPlain 1 = .ok (.lstore 4, 2) := dk_55 4 (dk_at dksX14_findPlain_0 1 rfl rfl)
theorem dX14_findPlain_3 : decode cX14_findPlain 3 = .ok (.lconst 0, 1) := dk_9 (dk_at dksX14_findPlain_0 3 rfl rfl)
theorem dX14_findPlain_4 : decode cX14_findPlain 4 = .ok (.lstore 6, 2) := dk_55 6 (dk_at dksX14_findPlain_0 4 rfl rfl)
theorem dX14_findPlain_6 : decode cX14_findPlain 6 = .ok (.iconst (-1), 1) := dk_2 (dk_at dksX14_findPlain_0 6 rfl rfl)
theorem dX14_findPlain_7 : decode cX14_findPlain 7 = .ok (.istore 8, 2) := dk_54 8 (dk_at dksX14_findPlain_0 7 rfl rfl)
theorem dX14_findPlain_9 : decode cX14_findPlain 9 = .ok (.iconst 0, 1) := dk_3 (dk_at dksX14_findPlain_0 9 rfl rfl)
theorem dX14_findPlain_10 : decode cX14_findPlain 10 = .ok (.istore 9, 2) := dk_54 9 (dk_at dksX14_findPlain_0 10 rfl rfl)
theorem dX14_findPlain_12 : decode cX14_findPlain 12 = .ok (.iload 9, 2) := dk_21 9 (dk_at dksX14_findPlain_0 12 rfl rfl)
theorem dX14_findPlain_14 : decode cX14_findPlain 14 = .ok (.aload_n 0, 1) := dk_42 (dk_at dksX14_findPlain_0 14 rfl rfl)
theorem dX14_findPlain_15 : decode cX14_findPlain 15 = .ok (.getfield 3, 3) := dk_180 0 3 (dk_at dksX14_findPlain_0 15 rfl rfl)
theorem dX14_findPlain_18 : decode cX14_findPlain 18 = .ok (.getfield 88, 3) := dk_180 0 88 (dk_at dksX14_findPlain_0 18 rfl rfl)
theorem dX14_findPlain_21 : decode cX14_findPlain 21 = .ok (.invokeinterface 91 1, 5) := by decide +kernel
theorem dX14_findPlain_26 : decode cX14_findPlain 26 = .ok (.if_icmp .ge 142, 3) := dk_162 0 142 (dk_at dksX14_findPlain_1 5 rfl rfl)
theorem dX14_findPlain_29 : decode cX14_findPlain 29 = .ok (.aload_n 0, 1) := dk_42 (dk_at dksX14_findPlain_1 8 rfl rfl)
theorem dX14_findPlain_30 : decode cX14_findPlain 30 = .ok (.getfield 3, 3) := dk_180 0 3 (dk_at dksX14_findPlain_1 9 rfl rfl)
theorem dX14_findPlain_33 : decode cX14_findPlain 33 = .ok (.getfield 88, 3) := dk_180 0 88 (dk_at dksX14_findPlain_1 12 rfl rfl)
theorem dX14_findPlain_36 : decode cX14_findPlain 36 = .ok (.iload 9, 2) := dk_21 9 (dk_at dksX14_findPlain_1 15 rfl rfl)
theorem dX14_findPlain_38 : decode cX14_findPlain 38 = .ok (.invokeinterface 97 2, 5) := by decide +kernel
theorem dX14_findPlain_43 : decode cX14_findPlain 43 = .ok (.checkcast 101, 3) := dk_192 0 101 (dk_at dksX14_findPlain_2 0 rfl rfl)
theorem dX14_findPlain_46 : decode cX14_findPlain 46 = .ok (.astore 10, 2) := dk_58 10 (dk_at dksX14_findPlain_2 3 rfl rfl)
theorem dX14_findPlain_48 : decode cX14_findPlain 48 = .ok (.aload 10, 2) := dk_25 10 (dk_at dksX14_findPlain_2 5 rfl rfl)
theorem dX14_findPlain_50 : decode cX14_findPlain 50 = .ok (.getfield 103, 3) := dk_180 0 103 (dk_at dksX14_findPlain_2 7 rfl rfl)
theorem dX14_findPlain_53 : decode cX14_findPlain 53 = .ok (.aload_n 0, 1) := dk_42 (dk_at dksX14_findPlain_2 10 rfl rfl)
theorem dX14_findPlain_54 : decode cX14_findPlain 54 = .ok (.getfield 65, 3) := dk_180 0 65 (dk_at dksX14_findPlain_2 11 rfl rfl)
theorem dX14_findPlain_57 : decode cX14_findPlain 57 = .ok (.if_icmp .ne 105, 3) := dk_160 0 105 (dk_at dksX14_findPlain_2 14 rfl rfl)
theorem dX14_findPlain_60 : decode cX14_findPlain 60 = .ok (.aload_n 0, 1) := dk_42 (dk_at dksX14_findPlain_2 17 rfl rfl)
theorem dX14_findPlain_61 : decode cX14_findPlain 61 = .ok (.getfield 3, 3) := dk_180 0 3 (dk_at dksX14_findPlain_2 18 rfl rfl)
theorem dX14_findPlain_64 : decode cX14_findPlain 64 = .ok (.aload 10, 2) := dk_25 10 (dk_at dksX14_findPlain_2 21 rfl rfl)
theorem dX14_findPlain_66 : decode cX14_findPlain 66 = .ok (.iload_n 1, 1) := dk_27 (dk_at dksX14_findPlain_2 23 rfl rfl)
theorem dX14_findPlain_67 : decode cX14_findPlain 67 = .ok (.invokevirtual 104, 3) := dk_182 0 104 (dk_at dksX14_findPlain_3 0 rfl rfl)
theorem dX14_findPlain_70 : decode cX14_findPlain 70 = .ok (.lstore 11, 2) := dk_55 11 (dk_at dksX14_findPlain_3 3 rfl rfl)
theorem dX14_findPlain_72 : decode cX14_findPlain 72 = .ok (.lload 4, 2) := dk_22 4 (dk_at dksX14_findPlain_3 5 rfl rfl)
theorem dX14_findPlain_74 : decode cX14_findPlain 74 = .ok (.lload 11, 2) := dk_22 11 (dk_at dksX14_findPlain_3 7 rfl rfl)
theorem dX14_findPlain_76 : decode cX14_findPlain 76 = .ok (.ladd, 1) := dk_97 (dk_at dksX14_findPlain_3 9 rfl rfl)
theorem dX14_findPlain_77 : decode cX14_findPlain 77 = .ok (.lstore 4, 2) := dk_55 4 (dk_at dksX14_findPlain_3 10 rfl rfl)
theorem dX14_findPlain_79 : decode cX14_findPlain 79 = .ok (.aload_n 0, 1) := dk_42 (dk_at dksX14_findPlain_3 12 rfl rfl)
theorem dX14_findPlain_80 : decode cX14_findPlain 80 = .ok (.getfield 15, 3) := dk_180 0 15 (dk_at dksX14_findPlain_3 13 rfl rfl)
theorem dX14_findPlain_83 : decode cX14_findPlain 83 = .ok (.iload_n 1, 1) := dk_27 (dk_at dksX14_findPlain_3 16 rfl rfl)
theorem dX14_findPlain_84 : decode cX14_findPlain 84 = .ok (.iconst 3, 1) := dk_6 (dk_at dksX14_findPlain_3 17 rfl rfl)
theorem dX14_findPlain_85 : decode cX14_findPlain 85 = .ok (.imul, 1) := dk_104 (dk_at dksX14_findPlain_3 18 rfl rfl)
theorem dX14_findPlain_86 : decode cX14_findPlain 86 = .ok (.aload 10, 2) := dk_25 10 (dk_at dksX14_findPlain_3 19 rfl rfl)
theorem dX14_findPlain_88 : decode cX14_findPlain 88 = .ok (.getfield 108, 3) := dk_180 0 108 (dk_at dksX14_findPlain_3 21 rfl rfl)
theorem dX14_findPlain_91 : decode cX14_findPlain 91 = .ok (.iadd, 1) := dk_96 (dk_at dksX14_findPlain_4 0 rfl rfl)
theorem dX14_findPlain_92 : decode cX14_findPlain 92 = .ok (.dup2, 1) := dk_92 (dk_at dksX14_findPlain_4 1 rfl rfl)
theorem dX14_findPlain_93 : decode cX14_findPlain 93 = .ok (.laload, 1) := dk_47 (dk_at dksX14_findPlain_4 2 rfl rfl)
theorem dX14_findPlain_94 : decode cX14_findPlain 94 = .ok (.lload 11, 2) := dk_22 11 (dk_at dksX14_findPlain_4 3 rfl rfl)
theorem dX14_findPlain_96 : decode cX14_findPlain 96 = .ok (.ladd, 1) := dk_97 (dk_at dksX14_findPlain_4 5 rfl rfl)
theorem dX14_findPlain_97 : decode cX14_findPlain 97 = .ok (.lastore, 1) := dk_80 (dk_at dksX14_findPlain_4 6 rfl rfl)
theorem dX14_findPlain_98 : decode cX14_findPlain 98 = .ok (.iload 8, 2) := dk_21 8 (dk_at dksX14_findPlain_4 7 rfl rfl)
theorem dX14_findPlain_100 : decode cX14_findPlain 100 = .ok (.iconst (-1), 1) := dk_2 (dk_at dksX14_findPlain_4 9 rfl rfl)
theorem dX14_findPlain_101 : decode cX14_findPlain 101 = .ok (.if_icmp .ne 20, 3) := dk_160 0 20 (dk_at dksX14_findPlain_4 10 rfl rfl)
theorem dX14_findPlain_104 : decode cX14_findPlain 104 = .ok (.aload 10, 2) := dk_25 10 (dk_at dksX14_findPlain_4 13 rfl rfl)
theorem dX14_findPlain_106 : decode cX14_findPlain 106 = .ok (.iload_n 1, 1) := dk_27 (dk_at dksX14_findPlain_4 15 rfl rfl)
theorem dX14_findPlain_107 : decode cX14_findPlain 107 = .ok (.invokevirtual 111, 3) := dk_182 0 111 (dk_at dksX14_findPlain_4 16 rfl rfl)
theorem dX14_findPlain_110 : decode cX14_findPlain 110 = .ok (.ifCond .eq 11, 3) := dk_153 0 11 (dk_at dksX14_findPlain_4 19 rfl rfl)
theorem dX14_findPlain_113 : decode cX14_findPlain 113 = .ok (.aload 10, 2) := dk_25 10 (dk_at dksX14_findPlain_4 22 rfl rfl)
theorem dX14_findPlain_115 : decode cX14_findPlain 115 = .ok (.getfield 108, 3) := dk_180 0 108 (dk_at dksX14_findPlain_5 0 rfl rfl)
theorem dX14_findPlain_118 : decode cX14_findPlain 118 = .ok (.goto 5, 3) := dk_167 0 5 (dk_at dksX14_findPlain_5 3 rfl rfl)
theorem dX14_findPlain_121 : decode cX14_findPlain 121 = .ok (.iload 8, 2) := dk_21 8 (dk_at dksX14_findPlain_5 6 rfl rfl)
theorem dX14_findPlain_123 : decode cX14_findPlain 123 = .ok (.istore 8, 2) := dk_54 8 (dk_at dksX14_findPlain_5 8 rfl rfl)
theorem dX14_findPlain_125 : decode cX14_findPlain 125 = .ok (.iload_n 1, 1) := dk_27 (dk_at dksX14_findPlain_5 10 rfl rfl)
theorem dX14_findPlain_126 : decode cX14_findPlain 126 = .ok (.bipush 30, 2) := dk_16 30 (dk_at dksX14_findPlain_5 11 rfl rfl)
theorem dX14_findPlain_128 : decode cX14_findPlain 128 = .ok (.imul, 1) := dk_104 (dk_at dksX14_findPlain_5 13 rfl rfl)
theorem dX14_findPlain_129 : decode cX14_findPlain 129 = .ok (.istore 13, 2) := dk_54 13 (dk_at dksX14_findPlain_5 14 rfl rfl)
theorem dX14_findPlain_131 : decode cX14_findPlain 131 = .ok (.iload 13, 2) := dk_21 13 (dk_at dksX14_findPlain_5 16 rfl rfl)
theorem dX14_findPlain_133 : decode cX14_findPlain 133 = .ok (.iload_n 1, 1) := dk_27 (dk_at dksX14_findPlain_5 18 rfl rfl)
theorem dX14_findPlain_134 : decode cX14_findPlain 134 = .ok (.iconst 1, 1) := dk_4 (dk_at dksX14_findPlain_5 19 rfl rfl)
theorem dX14_findPlain_135 : decode cX14_findPlain 135 = .ok (.iadd, 1) := dk_96 (dk_at dksX14_findPlain_5 20 rfl rfl)
theorem dX14_findPlain_136 : decode cX14_findPlain 136 = .ok (.bipush 30, 2) := dk_16 30 (dk_at dksX14_findPlain_5 21 rfl rfl)
theorem dX14_findPlain_138 : decode cX14_findPlain 138 = .ok (.imul, 1) := dk_104 (dk_at dksX14_findPlain_5 23 rfl rfl)
theorem dX14_findPlain_139 : decode cX14_findPlain 139 = .ok (.if_icmp .ge 23, 3) := dk_162 0 23 (dk_at dksX14_findPlain_6 0 rfl rfl)
theorem dX14_findPlain_142 : decode cX14_findPlain 142 = .ok (.lload 6, 2) := dk_22 6 (dk_at dksX14_findPlain_6 3 rfl rfl)
theorem dX14_findPlain_144 : decode cX14_findPlain 144 = .ok (.aload 10, 2) := dk_25 10 (dk_at dksX14_findPlain_6 5 rfl rfl)
theorem dX14_findPlain_146 : decode cX14_findPlain 146 = .ok (.getfield 115, 3) := dk_180 0 115 (dk_at dksX14_findPlain_6 7 rfl rfl)
theorem dX14_findPlain_149 : decode cX14_findPlain 149 = .ok (.iload 13, 2) := dk_21 13 (dk_at dksX14_findPlain_6 10 rfl rfl)
theorem dX14_findPlain_151 : decode cX14_findPlain 151 = .ok (.iaload, 1) := dk_46 (dk_at dksX14_findPlain_6 12 rfl rfl)
theorem dX14_findPlain_152 : decode cX14_findPlain 152 = .ok (.i2l, 1) := dk_133 (dk_at dksX14_findPlain_6 13 rfl rfl)
theorem dX14_findPlain_153 : decode cX14_findPlain 153 = .ok (.ladd, 1) := dk_97 (dk_at dksX14_findPlain_6 14 rfl rfl)
theorem dX14_findPlain_154 : decode cX14_findPlain 154 = .ok (.lstore 6, 2) := dk_55 6 (dk_at dksX14_findPlain_6 15 rfl rfl)
theorem dX14_findPlain_156 : decode cX14_findPlain 156 = .ok (.iinc 13 1, 3) := dk_132 13 1 (dk_at dksX14_findPlain_6 17 rfl rfl)
theorem dX14_findPlain_159 : decode cX14_findPlain 159 = .ok (.goto (-28), 3) := dk_167 255 228 (dk_at dksX14_findPlain_6 20 rfl rfl)
theorem dX14_findPlain_162 : decode cX14_findPlain 162 = .ok (.iinc 9 1, 3) := dk_132 9 1 (dk_at dksX14_findPlain_7 0 rfl rfl)
theorem dX14_findPlain_165 : decode cX14_findPlain 165 = .ok (.goto (-153), 3) := dk_167 255 103 (dk_at dksX14_findPlain_7 3 rfl rfl)
theorem dX14_findPlain_168 : decode cX14_findPlain 168 = .ok (.aload_n 0, 1) := dk_42 (dk_at dksX14_findPlain_7 6 rfl rfl)
theorem dX14_findPlain_169 : decode cX14_findPlain 169 = .ok (.getfield 22, 3) := dk_180 0 22 (dk_at dksX14_findPlain_7 7 rfl rfl)
theorem dX14_findPlain_172 : decode cX14_findPlain 172 = .ok (.iload_n 1, 1) := dk_27 (dk_at dksX14_findPlain_7 10 rfl rfl)
theorem dX14_findPlain_173 : decode cX14_findPlain 173 = .ok (.iconst 0, 1) := dk_3 (dk_at dksX14_findPlain_7 11 rfl rfl)
theorem dX14_findPlain_174 : decode cX14_findPlain 174 = .ok (.iload 8, 2) := dk_21 8 (dk_at dksX14_findPlain_7 12 rfl rfl)
theorem dX14_findPlain_176 : decode cX14_findPlain 176 = .ok (.invokestatic 118, 3) := dk_184 0 118 (dk_at dksX14_findPlain_7 14 rfl rfl)
theorem dX14_findPlain_179 : decode cX14_findPlain 179 = .ok (.iastore, 1) := dk_79 (dk_at dksX14_findPlain_7 17 rfl rfl)
theorem dX14_findPlain_180 : decode cX14_findPlain 180 = .ok (.iload_n 1, 1) := dk_27 (dk_at dksX14_findPlain_7 18 rfl rfl)
theorem dX14_findPlain_181 : decode cX14_findPlain 181 = .ok (.bipush 6, 2) := dk_16 6 (dk_at dksX14_findPlain_7 19 rfl rfl)
theorem dX14_findPlain_183 : decode cX14_findPlain 183 = .ok (.imul, 1) := dk_104 (dk_at dksX14_findPlain_7 21 rfl rfl)
theorem dX14_findPlain_184 : decode cX14_findPlain 184 = .ok (.istore 9, 2) := dk_54 9 (dk_at dksX14_findPlain_7 22 rfl rfl)
theorem dX14_findPlain_186 : decode cX14_findPlain 186 = .ok (.iconst 0, 1) := dk_3 (dk_at dksX14_findPlain_8 0 rfl rfl)
theorem dX14_findPlain_187 : decode cX14_findPlain 187 = .ok (.istore 10, 2) := dk_54 10 (dk_at dksX14_findPlain_8 1 rfl rfl)
theorem dX14_findPlain_189 : decode cX14_findPlain 189 = .ok (.iload 10, 2) := dk_21 10 (dk_at dksX14_findPlain_8 3 rfl rfl)
theorem dX14_findPlain_191 : decode cX14_findPlain 191 = .ok (.aload_n 2, 1) := dk_44 (dk_at dksX14_findPlain_8 5 rfl rfl)
theorem dX14_findPlain_192 : decode cX14_findPlain 192 = .ok (.invokeinterface 91 1, 5) := by decide +kernel
theorem dX14_findPlain_197 : decode cX14_findPlain 197 = .ok (.if_icmp .ge 118, 3) := dk_162 0 118 (dk_at dksX14_findPlain_8 11 rfl rfl)
theorem dX14_findPlain_200 : decode cX14_findPlain 200 = .ok (.aload_n 2, 1) := dk_44 (dk_at dksX14_findPlain_8 14 rfl rfl)
theorem dX14_findPlain_201 : decode cX14_findPlain 201 = .ok (.iload 10, 2) := dk_21 10 (dk_at dksX14_findPlain_8 15 rfl rfl)
theorem dX14_findPlain_203 : decode cX14_findPlain 203 = .ok (.invokeinterface 97 2, 5) := by decide +kernel
theorem dX14_findPlain_208 : decode cX14_findPlain 208 = .ok (.checkcast 124, 3) := dk_192 0 124 (dk_at dksX14_findPlain_9 0 rfl rfl)
theorem dX14_findPlain_211 : decode cX14_findPlain 211 = .ok (.invokevirtual 126, 3) := dk_182 0 126 (dk_at dksX14_findPlain_9 3 rfl rfl)
theorem dX14_findPlain_214 : decode cX14_findPlain 214 = .ok (.istore 11, 2) := dk_54 11 (dk_at dksX14_findPlain_9 6 rfl rfl)
theorem dX14_findPlain_216 : decode cX14_findPlain 216 = .ok (.aload_n 0, 1) := dk_42 (dk_at dksX14_findPlain_9 8 rfl rfl)
theorem dX14_findPlain_217 : decode cX14_findPlain 217 = .ok (.getfield 3, 3) := dk_180 0 3 (dk_at dksX14_findPlain_9 9 rfl rfl)
theorem dX14_findPlain_220 : decode cX14_findPlain 220 = .ok (.getfield 73, 3) := dk_180 0 73 (dk_at dksX14_findPlain_9 12 rfl rfl)
theorem dX14_findPlain_223 : decode cX14_findPlain 223 = .ok (.iload 11, 2) := dk_21 11 (dk_at dksX14_findPlain_9 15 rfl rfl)
theorem dX14_findPlain_225 : decode cX14_findPlain 225 = .ok (.invokeinterface 97 2, 5) := by decide +kernel
theorem dX14_findPlain_230 : decode cX14_findPlain 230 = .ok (.checkcast 129, 3) := dk_192 0 129 (dk_at dksX14_findPlain_10 0 rfl rfl)
theorem dX14_findPlain_233 : decode cX14_findPlain 233 = .ok (.astore 12, 2) := dk_58 12 (dk_at dksX14_findPlain_10 3 rfl rfl)
theorem dX14_findPlain_235 : decode cX14_findPlain 235 = .ok (.aload_n 0, 1) := dk_42 (dk_at dksX14_findPlain_10 5 rfl rfl)
theorem dX14_findPlain_236 : decode cX14_findPlain 236 = .ok (.getfield 19, 3) := dk_180 0 19 (dk_at dksX14_findPlain_10 6 rfl rfl)
theorem dX14_findPlain_239 : decode cX14_findPlain 239 = .ok (.iload 9, 2) := dk_21 9 (dk_at dksX14_findPlain_10 9 rfl rfl)
theorem dX14_findPlain_241 : decode cX14_findPlain 241 = .ok (.iload 11, 2) := dk_21 11 (dk_at dksX14_findPlain_10 11 rfl rfl)
theorem dX14_findPlain_243 : decode cX14_findPlain 243 = .ok (.iadd, 1) := dk_96 (dk_at dksX14_findPlain_10 13 rfl rfl)
theorem dX14_findPlain_244 : decode cX14_findPlain 244 = .ok (.aload 12, 2) := dk_25 12 (dk_at dksX14_findPlain_10 14 rfl rfl)
theorem dX14_findPlain_246 : decode cX14_findPlain 246 = .ok (.aload_n 0, 1) := dk_42 (dk_at dksX14_findPlain_10 16 rfl rfl)
theorem dX14_findPlain_247 : decode cX14_findPlain 247 = .ok (.getfield 65, 3) := dk_180 0 65 (dk_at dksX14_findPlain_10 17 rfl rfl)
theorem dX14_findPlain_250 : decode cX14_findPlain 250 = .ok (.invokevirtual 131, 3) := dk_182 0 131 (dk_at dksX14_findPlain_10 20 rfl rfl)
theorem dX14_findPlain_253 : decode cX14_findPlain 253 = .ok (.ifCond .eq 26, 3) := dk_153 0 26 (dk_at dksX14_findPlain_11 0 rfl rfl)
theorem dX14_findPlain_256 : decode cX14_findPlain 256 = .ok (.aload 12, 2) := dk_25 12 (dk_at dksX14_findPlain_11 3 rfl rfl)
theorem dX14_findPlain_258 : decode cX14_findPlain 258 = .ok (.lload 4, 2) := dk_22 4 (dk_at dksX14_findPlain_11 5 rfl rfl)
theorem dX14_findPlain_260 : decode cX14_findPlain 260 = .ok (.lload 6, 2) := dk_22 6 (dk_at dksX14_findPlain_11 7 rfl rfl)
theorem dX14_findPlain_262 : decode cX14_findPlain 262 = .ok (.ldc2_w 134, 3) := dk_20 0 134 (dk_at dksX14_findPlain_11 9 rfl rfl)
theorem dX14_findPlain_265 : decode cX14_findPlain 265 = .ok (.ldiv, 1) := dk_109 (dk_at dksX14_findPlain_11 12 rfl rfl)
theorem dX14_findPlain_266 : decode cX14_findPlain 266 = .ok (.aload_n 3, 1) := dk_45 (dk_at dksX14_findPlain_11 13 rfl rfl)
theorem dX14_findPlain_267 : decode cX14_findPlain 267 = .ok (.iload 9, 2) := dk_21 9 (dk_at dksX14_findPlain_11 14 rfl rfl)
theorem dX14_findPlain_269 : decode cX14_findPlain 269 = .ok (.aload_n 0, 1) := dk_42 (dk_at dksX14_findPlain_11 16 rfl rfl)
theorem dX14_findPlain_270 : decode cX14_findPlain 270 = .ok (.getfield 19, 3) := dk_180 0 19 (dk_at dksX14_findPlain_11 17 rfl rfl)
theorem dX14_findPlain_273 : decode cX14_findPlain 273 = .ok (.invokevirtual 136, 3) := dk_182 0 136 (dk_at dksX14_findPlain_11 20 rfl rfl)
theorem dX14_findPlain_276 : decode cX14_findPlain 276 = .ok (.goto 4, 3) := dk_167 0 4 (dk_at dksX14_findPlain_12 0 rfl rfl)
theorem dX14_findPlain_279 : decode cX14_findPlain 279 = .ok (.lconst 0, 1) := dk_9 (dk_at dksX14_findPlain_12 3 rfl rfl)
theorem dX14_findPlain_280 : decode cX14_findPlain 280 = .ok (.lastore, 1) := dk_80 (dk_at dksX14_findPlain_12 4 rfl rfl)
theorem dX14_findPlain_281 : decode cX14_findPlain 281 = .ok (.aload_n 0, 1) := dk_42 (dk_at dksX14_findPlain_12 5 rfl rfl)
theorem dX14_findPlain_282 : decode cX14_findPlain 282 = .ok (.getfield 15, 3) := dk_180 0 15 (dk_at dksX14_findPlain_12 6 rfl rfl)
theorem dX14_findPlain_285 : decode cX14_findPlain 285 = .ok (.iload_n 1, 1) := dk_27 (dk_at dksX14_findPlain_12 9 rfl rfl)
theorem dX14_findPlain_286 : decode cX14_findPlain 286 = .ok (.iconst 3, 1) := dk_6 (dk_at dksX14_findPlain_12 10 rfl rfl)
theorem dX14_findPlain_287 : decode cX14_findPlain 287 = .ok (.imul, 1) := dk_104 (dk_at dksX14_findPlain_12 11 rfl rfl)
theorem dX14_findPlain_288 : decode cX14_findPlain 288 = .ok (.aload_n 0, 1) := dk_42 (dk_at dksX14_findPlain_12 12 rfl rfl)
theorem dX14_findPlain_289 : decode cX14_findPlain 289 = .ok (.getfield 22, 3) := dk_180 0 22 (dk_at dksX14_findPlain_12 13 rfl rfl)
theorem dX14_findPlain_292 : decode cX14_findPlain 292 = .ok (.iload_n 1, 1) := dk_27 (dk_at dksX14_findPlain_12 16 rfl rfl)
theorem dX14_findPlain_293 : decode cX14_findPlain 293 = .ok (.iaload, 1) := dk_46 (dk_at dksX14_findPlain_12 17 rfl rfl)
theorem dX14_findPlain_294 : decode cX14_findPlain 294 = .ok (.iadd, 1) := dk_96 (dk_at dksX14_findPlain_12 18 rfl rfl)
theorem dX14_findPlain_295 : decode cX14_findPlain 295 = .ok (.dup2, 1) := dk_92 (dk_at dksX14_findPlain_12 19 rfl rfl)
theorem dX14_findPlain_296 : decode cX14_findPlain 296 = .ok (.laload, 1) := dk_47 (dk_at dksX14_findPlain_12 20 rfl rfl)
theorem dX14_findPlain_297 : decode cX14_findPlain 297 = .ok (.aload_n 0, 1) := dk_42 (dk_at dksX14_findPlain_12 21 rfl rfl)
theorem dX14_findPlain_298 : decode cX14_findPlain 298 = .ok (.getfield 19, 3) := dk_180 0 19 (dk_at dksX14_findPlain_13 0 rfl rfl)
theorem dX14_findPlain_301 : decode cX14_findPlain 301 = .ok (.iload 9, 2) := dk_21 9 (dk_at dksX14_findPlain_13 3 rfl rfl)
theorem dX14_findPlain_303 : decode cX14_findPlain 303 = .ok (.iload 11, 2) := dk_21 11 (dk_at dksX14_findPlain_13 5 rfl rfl)
theorem dX14_findPlain_305 : decode cX14_findPlain 305 = .ok (.iadd, 1) := dk_96 (dk_at dksX14_findPlain_13 7 rfl rfl)
theorem dX14_findPlain_306 : decode cX14_findPlain 306 = .ok (.laload, 1) := dk_47 (dk_at dksX14_findPlain_13 8 rfl rfl)
theorem dX14_findPlain_307 : decode cX14_findPlain 307 = .ok (.ladd, 1) := dk_97 (dk_at dksX14_findPlain_13 9 rfl rfl)
theorem dX14_findPlain_308 : decode cX14_findPlain 308 = .ok (.lastore, 1) := dk_80 (dk_at dksX14_findPlain_13 10 rfl rfl)
theorem dX14_findPlain_309 : decode cX14_findPlain 309 = .ok (.iinc 10 1, 3) := dk_132 10 1 (dk_at dksX14_findPlain_13 11 rfl rfl)
theorem dX14_findPlain_312 : decode cX14_findPlain 312 = .ok (.goto (-123), 3) := dk_167 255 133 (dk_at dksX14_findPlain_13 14 rfl rfl)
theorem dX14_findPlain_315 : decode cX14_findPlain 315 = .ok (.return_, 1) := dk_177 (dk_at dksX14_findPlain_13 17 rfl rfl)
def dkwX14_go_3 : List UInt8 := [132, 2, 1, 167, 255, 185, 177]
abbrev dktX14_go_3 : List UInt8 := dkwX14_go_3 ++ []
def dkwX14_go_2 : List UInt8 := [29, 9, 80, 132, 3, 1, 167, 255, 213, 42, 28, 182, 0, 140, 42, 28, 182, 0, 143, 42, 28, 182, 0, 146]
abbrev dktX14_go_2 : List UInt8 := dkwX14_go_2 ++ dktX14_go_3
def dkwX14_go_1 : List UInt8 := [180, 0, 35, 29, 9, 80, 42, 180, 0, 38, 29, 9, 80, 42, 180, 0, 41, 29, 9, 80, 42, 180, 0, 44]
abbrev dktX14_go_1 : List UInt8 := dkwX14_go_1 ++ dktX14_go_2
def dkwX14_go_0 : List UInt8 := [3, 61, 28, 27, 162, 0, 72, 3, 62, 29, 6, 162, 0, 44, 28, 16, 12, 112, 154, 0, 37, 42]
abbrev dktX14_go_0 : List UInt8 := dkwX14_go_0 ++ dktX14_go_1
theorem dksX14_go_0 : cX14_go.data.toList.drop 0 = dktX14_go_0 := by decide +kernel
theorem dksX14_go_1 : cX14_go.data.toList.drop 22 = dktX14_go_1 := dk_seg dksX14_go_0 22 rfl rfl
theorem dksX14_go_2 : cX14_go.data.toList.drop 46 = dktX14_go_2 := dk_seg dksX14_go_1 24 rfl rfl
theorem dksX14_go_3 : cX14_go.data.toList.drop 70 = dktX14_go_3 := dk_seg dksX14_go_2 24 rfl rfl
theorem dX14_go_0 : decode cX14_go 0 = .ok (.iconst 0, 1) := dk_3 (dk_at dksX14_go_0 0 rfl rfl)
theorem dX14_go_1 : decode cX14_go 1 = .ok (.istore_n 2, 1) := dk_61 (dk_at dksX14_go_0 1 rfl rfl)
theorem dX14_go_2 : decode cX14_go 2 = .ok (.iload_n 2, 1) := dk_28 (dk_at dksX14_go_0 2 rfl rfl)
theorem dX14_go_3 : decode cX14_go 3 = .ok (.iload_n 1, 1) := dk_27 (dk_at dksX14_go_0 3 rfl rfl)
theorem dX14_go_4 : decode cX14_go 4 = .ok (.if_icmp .ge 72, 3) := dk_162 0 72 (dk_at dksX14_go_0 4 rfl rfl)
theorem dX14_go_7 : decode cX14_go 7 = .ok (.iconst 0, 1) := dk_3 (dk_at dksX14_go_0 7 rfl rfl)
theorem dX14_go_8 : decode cX14_go 8 = .ok (.istore_n 3, 1) := dk_62 (dk_at dksX14_go_0 8 rfl rfl)
theorem dX14_go_9 : decode cX14_go 9 = .ok (.iload_n 3, 1) := dk_29 (dk_at dksX14_go_0 9 rfl rfl)
theorem dX14_go_10 : decode cX14_go 10 = .ok (.iconst 3, 1) := dk_6 (dk_at dksX14_go_0 10 rfl rfl)
theorem dX14_go_11 : decode cX14_go 11 = .ok (.if_icmp .ge 44, 3) := dk_162 0 44 (dk_at dksX14_go_0 11 rfl rfl)
theorem dX14_go_14 : decode cX14_go 14 = .ok (.iload_n 2, 1) := dk_28 (dk_at dksX14_go_0 14 rfl rfl)
theorem dX14_go_15 : decode cX14_go 15 = .ok (.bipush 12, 2) := dk_16 12 (dk_at dksX14_go_0 15 rfl rfl)
theorem dX14_go_17 : decode cX14_go 17 = .ok (.irem, 1) := dk_112 (dk_at dksX14_go_0 17 rfl rfl)
theorem dX14_go_18 : decode cX14_go 18 = .ok (.ifCond .ne 37, 3) := dk_154 0 37 (dk_at dksX14_go_0 18 rfl rfl)
theorem dX14_go_21 : decode cX14_go 21 = .ok (.aload_n 0, 1) := dk_42 (dk_at dksX14_go_0 21 rfl rfl)
theorem dX14_go_22 : decode cX14_go 22 = .ok (.getfield 35, 3) := dk_180 0 35 (dk_at dksX14_go_1 0 rfl rfl)
theorem dX14_go_25 : decode cX14_go 25 = .ok (.iload_n 3, 1) := dk_29 (dk_at dksX14_go_1 3 rfl rfl)
theorem dX14_go_26 : decode cX14_go 26 = .ok (.lconst 0, 1) := dk_9 (dk_at dksX14_go_1 4 rfl rfl)
theorem dX14_go_27 : decode cX14_go 27 = .ok (.lastore, 1) := dk_80 (dk_at dksX14_go_1 5 rfl rfl)
theorem dX14_go_28 : decode cX14_go 28 = .ok (.aload_n 0, 1) := dk_42 (dk_at dksX14_go_1 6 rfl rfl)
theorem dX14_go_29 : decode cX14_go 29 = .ok (.getfield 38, 3) := dk_180 0 38 (dk_at dksX14_go_1 7 rfl rfl)
theorem dX14_go_32 : decode cX14_go 32 = .ok (.iload_n 3, 1) := dk_29 (dk_at dksX14_go_1 10 rfl rfl)
theorem dX14_go_33 : decode cX14_go 33 = .ok (.lconst 0, 1) := dk_9 (dk_at dksX14_go_1 11 rfl rfl)
theorem dX14_go_34 : decode cX14_go 34 = .ok (.lastore, 1) := dk_80 (dk_at dksX14_go_1 12 rfl rfl)
theorem dX14_go_35 : decode cX14_go 35 = .ok (.aload_n 0, 1) := dk_42 (dk_at dksX14_go_1 13 rfl rfl)
theorem dX14_go_36 : decode cX14_go 36 = .ok (.getfield 41, 3) := dk_180 0 41 (dk_at dksX14_go_1 14 rfl rfl)
theorem dX14_go_39 : decode cX14_go 39 = .ok (.iload_n 3, 1) := dk_29 (dk_at dksX14_go_1 17 rfl rfl)
theorem dX14_go_40 : decode cX14_go 40 = .ok (.lconst 0, 1) := dk_9 (dk_at dksX14_go_1 18 rfl rfl)
theorem dX14_go_41 : decode cX14_go 41 = .ok (.lastore, 1) := dk_80 (dk_at dksX14_go_1 19 rfl rfl)
theorem dX14_go_42 : decode cX14_go 42 = .ok (.aload_n 0, 1) := dk_42 (dk_at dksX14_go_1 20 rfl rfl)
theorem dX14_go_43 : decode cX14_go 43 = .ok (.getfield 44, 3) := dk_180 0 44 (dk_at dksX14_go_1 21 rfl rfl)
theorem dX14_go_46 : decode cX14_go 46 = .ok (.iload_n 3, 1) := dk_29 (dk_at dksX14_go_2 0 rfl rfl)
theorem dX14_go_47 : decode cX14_go 47 = .ok (.lconst 0, 1) := dk_9 (dk_at dksX14_go_2 1 rfl rfl)
theorem dX14_go_48 : decode cX14_go 48 = .ok (.lastore, 1) := dk_80 (dk_at dksX14_go_2 2 rfl rfl)
theorem dX14_go_49 : decode cX14_go 49 = .ok (.iinc 3 1, 3) := dk_132 3 1 (dk_at dksX14_go_2 3 rfl rfl)
theorem dX14_go_52 : decode cX14_go 52 = .ok (.goto (-43), 3) := dk_167 255 213 (dk_at dksX14_go_2 6 rfl rfl)
theorem dX14_go_55 : decode cX14_go 55 = .ok (.aload_n 0, 1) := dk_42 (dk_at dksX14_go_2 9 rfl rfl)
theorem dX14_go_56 : decode cX14_go 56 = .ok (.iload_n 2, 1) := dk_28 (dk_at dksX14_go_2 10 rfl rfl)
theorem dX14_go_57 : decode cX14_go 57 = .ok (.invokevirtual 140, 3) := dk_182 0 140 (dk_at dksX14_go_2 11 rfl rfl)
theorem dX14_go_60 : decode cX14_go 60 = .ok (.aload_n 0, 1) := dk_42 (dk_at dksX14_go_2 14 rfl rfl)
theorem dX14_go_61 : decode cX14_go 61 = .ok (.iload_n 2, 1) := dk_28 (dk_at dksX14_go_2 15 rfl rfl)
theorem dX14_go_62 : decode cX14_go 62 = .ok (.invokevirtual 143, 3) := dk_182 0 143 (dk_at dksX14_go_2 16 rfl rfl)
theorem dX14_go_65 : decode cX14_go 65 = .ok (.aload_n 0, 1) := dk_42 (dk_at dksX14_go_2 19 rfl rfl)
theorem dX14_go_66 : decode cX14_go 66 = .ok (.iload_n 2, 1) := dk_28 (dk_at dksX14_go_2 20 rfl rfl)
theorem dX14_go_67 : decode cX14_go 67 = .ok (.invokevirtual 146, 3) := dk_182 0 146 (dk_at dksX14_go_2 21 rfl rfl)
theorem dX14_go_70 : decode cX14_go 70 = .ok (.iinc 2 1, 3) := dk_132 2 1 (dk_at dksX14_go_3 0 rfl rfl)
theorem dX14_go_73 : decode cX14_go 73 = .ok (.goto (-71), 3) := dk_167 255 185 (dk_at dksX14_go_3 3 rfl rfl)
theorem dX14_go_76 : decode cX14_go 76 = .ok (.return_, 1) := dk_177 (dk_at dksX14_go_3 6 rfl rfl)
def dkwX14_findGross_11 : List UInt8 := [32, 42, 180, 0, 47, 27, 47, 101, 80, 177]
abbrev dktX14_findGross_11 : List UInt8 := dkwX14_findGross_11 ++ []
def dkwX14_findGross_10 : List UInt8 := [21, 4, 16, 50, 184, 0, 183, 133, 105, 20, 0, 175, 184, 0, 177, 184, 0, 170, 80, 42, 180, 0, 53, 27]
abbrev dktX14_findGross_10 : List UInt8 := dkwX14_findGross_10 ++ dktX14_findGross_11
def dkwX14_findGross_9 : List UInt8 := [27, 9, 32, 21, 4, 133, 105, 20, 0, 175, 184, 0, 177, 184, 0, 170, 80, 42, 180, 0, 50, 27, 9, 32]
abbrev dktX14_findGross_9 : List UInt8 := dkwX14_findGross_9 ++ dktX14_findGross_10
def dkwX14_findGross_8 : List UInt8 := [185, 0, 97, 2, 0, 192, 0, 156, 27, 182, 0, 158, 192, 0, 124, 182, 0, 126, 54, 4, 42, 180, 0, 47]
abbrev dktX14_findGross_8 : List UInt8 := dkwX14_findGross_8 ++ dktX14_findGross_9
def dkwX14_findGross_7 : List UInt8 := [20, 0, 175, 184, 0, 177, 80, 132, 4, 1, 167, 255, 89, 42, 180, 0, 3, 180, 0, 180, 42, 180, 0, 65]
abbrev dktX14_findGross_7 : List UInt8 := dkwX14_findGross_7 ++ dktX14_findGross_8
def dkwX14_findGross_6 : List UInt8 := [21, 4, 92, 47, 22, 7, 97, 80, 42, 180, 0, 29, 21, 5, 22, 7, 25, 6, 182, 0, 172, 133, 105]
abbrev dktX14_findGross_6 : List UInt8 := dkwX14_findGross_6 ++ dktX14_findGross_7
def dkwX14_findGross_5 : List UInt8 := [182, 0, 163, 133, 184, 0, 166, 42, 180, 0, 35, 21, 4, 47, 101, 184, 0, 170, 55, 7, 42, 180, 0, 35]
abbrev dktX14_findGross_5 : List UInt8 := dkwX14_findGross_5 ++ dktX14_findGross_6
def dkwX14_findGross_4 : List UInt8 := [192, 0, 156, 27, 182, 0, 158, 192, 0, 161, 58, 6, 9, 42, 180, 0, 38, 21, 4, 47, 25, 6]
abbrev dktX14_findGross_4 : List UInt8 := dkwX14_findGross_4 ++ dktX14_findGross_5
def dkwX14_findGross_3 : List UInt8 := [42, 180, 0, 26, 21, 5, 47, 97, 80, 42, 180, 0, 3, 180, 0, 153, 21, 4, 185, 0, 97, 2, 0]
abbrev dktX14_findGross_3 : List UInt8 := dkwX14_findGross_3 ++ dktX14_findGross_4
def dkwX14_findGross_2 : List UInt8 := [21, 4, 46, 133, 97, 80, 32, 42, 180, 0, 26, 21, 5, 47, 97, 65, 42, 180, 0, 38, 21, 4, 92, 47]
abbrev dktX14_findGross_2 : List UInt8 := dkwX14_findGross_2 ++ dktX14_findGross_3
def dkwX14_findGross_1 : List UInt8 := [21, 5, 42, 180, 0, 15, 21, 5, 47, 42, 180, 0, 3, 180, 0, 149, 42, 180, 0, 65, 50, 27, 50]
abbrev dktX14_findGross_1 : List UInt8 := dkwX14_findGross_1 ++ dktX14_findGross_2
def dkwX14_findGross_0 : List UInt8 := [9, 65, 3, 54, 4, 21, 4, 6, 162, 0, 167, 27, 6, 104, 21, 4, 96, 54, 5, 42, 180, 0, 26]
abbrev dktX14_findGross_0 : List UInt8 := dkwX14_findGross_0 ++ dktX14_findGross_1
theorem dksX14_findGross_0 : cX14_findGross.data.toList.drop 0 = dktX14_findGross_0 := by decide +kernel
theorem dksX14_findGross_1 : cX14_findGross.data.toList.drop 23 = dktX14_findGross_1 := dk_seg dksX14_findGross_0 23 rfl rfl
theorem dksX14_findGross_2 : cX14_findGross.data.toList.drop 46 = dktX14_findGross_2 := dk_seg dksX14_findGross_1 23 rfl rfl
theorem dksX14_findGross_3 : cX14_findGross.data.toList.drop 70 = dktX14_findGross_3 := dk_seg dksX14_findGross_2 24 rfl rfl
theorem dksX14_findGross_4 : cX14_findGross.data.toList.drop 93 = dktX14_findGross_4 := dk_seg dksX14_findGross_3 23 rfl rfl
theorem dksX14_findGross_5 : cX14_findGross.data.toList.drop 115 = dktX14_findGross_5 := dk_seg dksX14_findGross_4 22 rfl rfl
theorem dksX14_findGross_6 : cX14_findGross.data.toList.drop 139 = dktX14_findGross_6 := dk_seg dksX14_findGross_5 24 rfl rfl
theorem dksX14_findGross_7 : cX14_findGross.data.toList.drop 162 = dktX14_findGross_7 := dk_seg dksX14_findGross_6 23 rfl rfl
theorem dksX14_findGross_8 : cX14_findGross.data.toList.drop 186 = dktX14_findGross_8 := dk_seg dksX14_findGross_7 24 rfl rfl
theorem dksX14_findGross_9 : cX14_findGross.data.toList.drop 210 = dktX14_findGross_9 := dk_seg dksX14_findGross_8 24 rfl rfl
theorem dksX14_findGross_10 : cX14_findGross.data.toList.drop 234 = dktX14_findGross_10 := dk_seg dksX14_findGross_9 24 rfl rfl
theorem dksX14_findGross_11 : cX14_findGross.data.toList.drop 258 = dktX14_findGross_11 := dk_seg dksX14_findGross_10 24 rfl rfl
theorem dX14_findGross_0 : decode cX14_findGross 0 = .ok (.lconst 0, 1) := dk_9 (dk_at dksX14_findGross_0 0 rfl rfl)
theorem dX14_findGross_1 : decode cX14_findGross 1 = .ok (.lstore_n 2, 1) := dk_65 (dk_at dksX14_findGross_0 1 rfl rfl)
theorem dX14_findGross_2 : decode cX14_findGross 2 = .ok (.iconst 0, 1) := dk_3 (dk_at dksX14_findGross_0 2 rfl rfl)
theorem dX14_findGross_3 : decode cX14_findGross 3 = .ok (.istore 4, 2) := dk_54 4 (dk_at dksX14_findGross_0 3 rfl rfl)
theorem dX14_findGross_5 : decode cX14_findGross 5 = .ok (.iload 4, 2) := dk_21 4 (dk_at dksX14_findGross_0 5 rfl rfl)
theorem dX14_findGross_7 : decode cX14_findGross 7 = .ok (.iconst 3, 1) := dk_6 (dk_at dksX14_findGross_0 7 rfl rfl)
theorem dX14_findGross_8 : decode cX14_findGross 8 = .ok (.if_icmp .ge 167, 3) := dk_162 0 167 (dk_at dksX14_findGross_0 8 rfl rfl)
theorem dX14_findGross_11 : decode cX14_findGross 11 = .ok (.iload_n 1, 1) := dk_27 (dk_at dksX14_findGross_0 11 rfl rfl)
theorem dX14_findGross_12 : decode cX14_findGross 12 = .ok (.iconst 3, 1) := dk_6 (dk_at dksX14_findGross_0 12 rfl rfl)
theorem dX14_findGross_13 : decode cX14_findGross 13 = .ok (.imul, 1) := dk_104 (dk_at dksX14_findGross_0 13 rfl rfl)
theorem dX14_findGross_14 : decode cX14_findGross 14 = .ok (.iload 4, 2) := dk_21 4 (dk_at dksX14_findGross_0 14 rfl rfl)
theorem dX14_findGross_16 : decode cX14_findGross 16 = .ok (.iadd, 1) := dk_96 (dk_at dksX14_findGross_0 16 rfl rfl)
theorem dX14_findGross_17 : decode cX14_findGross 17 = .ok (.istore 5, 2) := dk_54 5 (dk_at dksX14_findGross_0 17 rfl rfl)
theorem dX14_findGross_19 : decode cX14_findGross 19 = .ok (.aload_n 0, 1) := dk_42 (dk_at dksX14_findGross_0 19 rfl rfl)
theorem dX14_findGross_20 : decode cX14_findGross 20 = .ok (.getfield 26, 3) := dk_180 0 26 (dk_at dksX14_findGross_0 20 rfl rfl)
theorem dX14_findGross_23 : decode cX14_findGross 23 = .ok (.iload 5, 2) := dk_21 5 (dk_at dksX14_findGross_1 0 rfl rfl)
theorem dX14_findGross_25 : decode cX14_findGross 25 = .ok (.aload_n 0, 1) := dk_42 (dk_at dksX14_findGross_1 2 rfl rfl)
theorem dX14_findGross_26 : decode cX14_findGross 26 = .ok (.getfield 15, 3) := dk_180 0 15 (dk_at dksX14_findGross_1 3 rfl rfl)
theorem dX14_findGross_29 : decode cX14_findGross 29 = .ok (.iload 5, 2) := dk_21 5 (dk_at dksX14_findGross_1 6 rfl rfl)
theorem dX14_findGross_31 : decode cX14_findGross 31 = .ok (.laload, 1) := dk_47 (dk_at dksX14_findGross_1 8 rfl rfl)
theorem dX14_findGross_32 : decode cX14_findGross 32 = .ok (.aload_n 0, 1) := dk_42 (dk_at dksX14_findGross_1 9 rfl rfl)
theorem dX14_findGross_33 : decode cX14_findGross 33 = .ok (.getfield 3, 3) := dk_180 0 3 (dk_at dksX14_findGross_1 10 rfl rfl)
theorem dX14_findGross_36 : decode cX14_findGross 36 = .ok (.getfield 149, 3) := dk_180 0 149 (dk_at dksX14_findGross_1 13 rfl rfl)
theorem dX14_findGross_39 : decode cX14_findGross 39 = .ok (.aload_n 0, 1) := dk_42 (dk_at dksX14_findGross_1 16 rfl rfl)
theorem dX14_findGross_40 : decode cX14_findGross 40 = .ok (.getfield 65, 3) := dk_180 0 65 (dk_at dksX14_findGross_1 17 rfl rfl)
theorem dX14_findGross_43 : decode cX14_findGross 43 = .ok (.aaload, 1) := dk_50 (dk_at dksX14_findGross_1 20 rfl rfl)
theorem dX14_findGross_44 : decode cX14_findGross 44 = .ok (.iload_n 1, 1) := dk_27 (dk_at dksX14_findGross_1 21 rfl rfl)
theorem dX14_findGross_45 : decode cX14_findGross 45 = .ok (.aaload, 1) := dk_50 (dk_at dksX14_findGross_1 22 rfl rfl)
theorem dX14_findGross_46 : decode cX14_findGross 46 = .ok (.iload 4, 2) := dk_21 4 (dk_at dksX14_findGross_2 0 rfl rfl)
theorem dX14_findGross_48 : decode cX14_findGross 48 = .ok (.iaload, 1) := dk_46 (dk_at dksX14_findGross_2 2 rfl rfl)
theorem dX14_findGross_49 : decode cX14_findGross 49 = .ok (.i2l, 1) := dk_133 (dk_at dksX14_findGross_2 3 rfl rfl)
theorem dX14_findGross_50 : decode cX14_findGross 50 = .ok (.ladd, 1) := dk_97 (dk_at dksX14_findGross_2 4 rfl rfl)
theorem dX14_findGross_51 : decode cX14_findGross 51 = .ok (.lastore, 1) := dk_80 (dk_at dksX14_findGross_2 5 rfl rfl)
theorem dX14_findGross_52 : decode cX14_findGross 52 = .ok (.lload_n 2, 1) := dk_32 (dk_at dksX14_findGross_2 6 rfl rfl)
theorem dX14_findGross_53 : decode cX14_findGross 53 = .ok (.aload_n 0, 1) := dk_42 (dk_at dksX14_findGross_2 7 rfl rfl)
theorem dX14_findGross_54 : decode cX14_findGross 54 = .ok (.getfield 26, 3) := dk_180 0 26 (dk_at dksX14_findGross_2 8 rfl rfl)
theorem dX14_findGross_57 : decode cX14_findGross 57 = .ok (.iload 5, 2) := dk_21 5 (dk_at dksX14_findGross_2 11 rfl rfl)
theorem dX14_findGross_59 : decode cX14_findGross 59 = .ok (.laload, 1) := dk_47 (dk_at dksX14_findGross_2 13 rfl rfl)
theorem dX14_findGross_60 : decode cX14_findGross 60 = .ok (.ladd, 1) := dk_97 (dk_at dksX14_findGross_2 14 rfl rfl)
theorem dX14_findGross_61 : decode cX14_findGross 61 = .ok (.lstore_n 2, 1) := dk_65 (dk_at dksX14_findGross_2 15 rfl rfl)
theorem dX14_findGross_62 : decode cX14_findGross 62 = .ok (.aload_n 0, 1) := dk_42 (dk_at dksX14_findGross_2 16 rfl rfl)
theorem dX14_findGross_63 : decode cX14_findGross 63 = .ok (.getfield 38, 3) := dk_180 0 38 (dk_at dksX14_findGross_2 17 rfl rfl)
theorem dX14_findGross_66 : decode cX14_findGross 66 = .ok (.iload 4, 2) := dk_21 4 (dk_at dksX14_findGross_2 20 rfl rfl)
theorem dX14_findGross_68 : decode cX14_findGross 68 = .ok (.dup2, 1) := dk_92 (dk_at dksX14_findGross_2 22 rfl rfl)
theorem dX14_findGross_69 : decode cX14_findGross 69 = .ok (.laload, 1) := dk_47 (dk_at dksX14_findGross_2 23 rfl rfl)
theorem dX14_findGross_70 : decode cX14_findGross 70 = .ok (.aload_n 0, 1) := dk_42 (dk_at dksX14_findGross_3 0 rfl rfl)
theorem dX14_findGross_71 : decode cX14_findGross 71 = .ok (.getfield 26, 3) := dk_180 0 26 (dk_at dksX14_findGross_3 1 rfl rfl)
theorem dX14_findGross_74 : decode cX14_findGross 74 = .ok (.iload 5, 2) := dk_21 5 (dk_at dksX14_findGross_3 4 rfl rfl)
theorem dX14_findGross_76 : decode cX14_findGross 76 = .ok (.laload, 1) := dk_47 (dk_at dksX14_findGross_3 6 rfl rfl)
theorem dX14_findGross_77 : decode cX14_findGross 77 = .ok (.ladd, 1) := dk_97 (dk_at dksX14_findGross_3 7 rfl rfl)
theorem dX14_findGross_78 : decode cX14_findGross 78 = .ok (.lastore, 1) := dk_80 (dk_at dksX14_findGross_3 8 rfl rfl)
theorem dX14_findGross_79 : decode cX14_findGross 79 = .ok (.aload_n 0, 1) := dk_42 (dk_at dksX14_findGross_3 9 rfl rfl)
theorem dX14_findGross_80 : decode cX14_findGross 80 = .ok (.getfield 3, 3) := dk_180 0 3 (dk_at dksX14_findGross_3 10 rfl rfl)
theorem dX14_findGross_83 : decode cX14_findGross 83 = .ok (.getfield 153, 3) := dk_180 0 153 (dk_at dksX14_findGross_3 13 rfl rfl)
theorem dX14_findGross_86 : decode cX14_findGross 86 = .ok (.iload 4, 2) := dk_21 4 (dk_at dksX14_findGross_3 16 rfl rfl)
theorem dX14_findGross_88 : decode cX14_findGross 88 = .ok (.invokeinterface 97 2, 5) := by decide +kernel
theorem dX14_findGross_93 : decode cX14_findGross 93 = .ok (.checkcast 156, 3) := dk_192 0 156 (dk_at dksX14_findGross_4 0 rfl rfl)
theorem dX14_findGross_96 : decode cX14_findGross 96 = .ok (.iload_n 1, 1) := dk_27 (dk_at dksX14_findGross_4 3 rfl rfl)
theorem dX14_findGross_97 : decode cX14_findGross 97 = .ok (.invokevirtual 158, 3) := dk_182 0 158 (dk_at dksX14_findGross_4 4 rfl rfl)
theorem dX14_findGross_100 : decode cX14_findGross 100 = .ok (.checkcast 161, 3) := dk_192 0 161 (dk_at dksX14_findGross_4 7 rfl rfl)
theorem dX14_findGross_103 : decode cX14_findGross 103 = .ok (.astore 6, 2) := dk_58 6 (dk_at dksX14_findGross_4 10 rfl rfl)
theorem dX14_findGross_105 : decode cX14_findGross 105 = .ok (.lconst 0, 1) := dk_9 (dk_at dksX14_findGross_4 12 rfl rfl)
theorem dX14_findGross_106 : decode cX14_findGross 106 = .ok (.aload_n 0, 1) := dk_42 (dk_at dksX14_findGross_4 13 rfl rfl)
theorem dX14_findGross_107 : decode cX14_findGross 107 = .ok (.getfield 38, 3) := dk_180 0 38 (dk_at dksX14_findGross_4 14 rfl rfl)
theorem dX14_findGross_110 : decode cX14_findGross 110 = .ok (.iload 4, 2) := dk_21 4 (dk_at dksX14_findGross_4 17 rfl rfl)
theorem dX14_findGross_112 : decode cX14_findGross 112 = .ok (.laload, 1) := dk_47 (dk_at dksX14_findGross_4 19 rfl rfl)
theorem dX14_findGross_113 : decode cX14_findGross 113 = .ok (.aload 6, 2) := dk_25 6 (dk_at dksX14_findGross_4 20 rfl rfl)
theorem dX14_findGross_115 : decode cX14_findGross 115 = .ok (.invokevirtual 163, 3) := dk_182 0 163 (dk_at dksX14_findGross_5 0 rfl rfl)
theorem dX14_findGross_118 : decode cX14_findGross 118 = .ok (.i2l, 1) := dk_133 (dk_at dksX14_findGross_5 3 rfl rfl)
theorem dX14_findGross_119 : decode cX14_findGross 119 = .ok (.invokestatic 166, 3) := dk_184 0 166 (dk_at dksX14_findGross_5 4 rfl rfl)
theorem dX14_findGross_122 : decode cX14_findGross 122 = .ok (.aload_n 0, 1) := dk_42 (dk_at dksX14_findGross_5 7 rfl rfl)
theorem dX14_findGross_123 : decode cX14_findGross 123 = .ok (.getfield 35, 3) := dk_180 0 35 (dk_at dksX14_findGross_5 8 rfl rfl)
theorem dX14_findGross_126 : decode cX14_findGross 126 = .ok (.iload 4, 2) := dk_21 4 (dk_at dksX14_findGross_5 11 rfl rfl)
theorem dX14_findGross_128 : decode cX14_findGross 128 = .ok (.laload, 1) := dk_47 (dk_at dksX14_findGross_5 13 rfl rfl)
theorem dX14_findGross_129 : decode cX14_findGross 129 = .ok (.lsub, 1) := dk_101 (dk_at dksX14_findGross_5 14 rfl rfl)
theorem dX14_findGross_130 : decode cX14_findGross 130 = .ok (.invokestatic 170, 3) := dk_184 0 170 (dk_at dksX14_findGross_5 15 rfl rfl)
theorem dX14_findGross_133 : decode cX14_findGross 133 = .ok (.lstore 7, 2) := dk_55 7 (dk_at dksX14_findGross_5 18 rfl rfl)
theorem dX14_findGross_135 : decode cX14_findGross 135 = .ok (.aload_n 0, 1) := dk_42 (dk_at dksX14_findGross_5 20 rfl rfl)
theorem dX14_findGross_136 : decode cX14_findGross 136 = .ok (.getfield 35, 3) := dk_180 0 35 (dk_at dksX14_findGross_5 21 rfl rfl)
theorem dX14_findGross_139 : decode cX14_findGross 139 = .ok (.iload 4, 2) := dk_21 4 (dk_at dksX14_findGross_6 0 rfl rfl)
theorem dX14_findGross_141 : decode cX14_findGross 141 = .ok (.dup2, 1) := dk_92 (dk_at dksX14_findGross_6 2 rfl rfl)
theorem dX14_findGross_142 : decode cX14_findGross 142 = .ok (.laload, 1) := dk_47 (dk_at dksX14_findGross_6 3 rfl rfl)
theorem dX14_findGross_143 : decode cX14_findGross 143 = .ok (.lload 7, 2) := dk_22 7 (dk_at dksX14_findGross_6 4 rfl rfl)
theorem dX14_findGross_145 : decode cX14_findGross 145 = .ok (.ladd, 1) := dk_97 (dk_at dksX14_findGross_6 6 rfl rfl)
theorem dX14_findGross_146 : decode cX14_findGross 146 = .ok (.lastore, 1) := dk_80 (dk_at dksX14_findGross_6 7 rfl rfl)
theorem dX14_findGross_147 : decode cX14_findGross 147 = .ok (.aload_n 0, 1) := dk_42 (dk_at dksX14_findGross_6 8 rfl rfl)
theorem dX14_findGross_148 : decode cX14_findGross 148 = .ok (.getfield 29, 3) := dk_180 0 29 (dk_at dksX14_findGross_6 9 rfl rfl)
theorem dX14_findGross_151 : decode cX14_findGross 151 = .ok (.iload 5, 2) := dk_21 5 (dk_at dksX14_findGross_6 12 rfl rfl)
theorem dX14_findGross_153 : decode cX14_findGross 153 = .ok (.lload 7, 2) := dk_22 7 (dk_at dksX14_findGross_6 14 rfl rfl)
theorem dX14_findGross_155 : decode cX14_findGross 155 = .ok (.aload 6, 2) := dk_25 6 (dk_at dksX14_findGross_6 16 rfl rfl)
theorem dX14_findGross_157 : decode cX14_findGross 157 = .ok (.invokevirtual 172, 3) := dk_182 0 172 (dk_at dksX14_findGross_6 18 rfl rfl)
theorem dX14_findGross_160 : decode cX14_findGross 160 = .ok (.i2l, 1) := dk_133 (dk_at dksX14_findGross_6 21 rfl rfl)
theorem dX14_findGross_161 : decode cX14_findGross 161 = .ok (.lmul, 1) := dk_105 (dk_at dksX14_findGross_6 22 rfl rfl)
theorem dX14_findGross_162 : decode cX14_findGross 162 = .ok (.ldc2_w 175, 3) := dk_20 0 175 (dk_at dksX14_findGross_7 0 rfl rfl)
theorem dX14_findGross_165 : decode cX14_findGross 165 = .ok (.invokestatic 177, 3) := dk_184 0 177 (dk_at dksX14_findGross_7 3 rfl rfl)
theorem dX14_findGross_168 : decode cX14_findGross 168 = .ok (.lastore, 1) := dk_80 (dk_at dksX14_findGross_7 6 rfl rfl)
theorem dX14_findGross_169 : decode cX14_findGross 169 = .ok (.iinc 4 1, 3) := dk_132 4 1 (dk_at dksX14_findGross_7 7 rfl rfl)
theorem dX14_findGross_172 : decode cX14_findGross 172 = .ok (.goto (-167), 3) := dk_167 255 89 (dk_at dksX14_findGross_7 10 rfl rfl)
theorem dX14_findGross_175 : decode cX14_findGross 175 = .ok (.aload_n 0, 1) := dk_42 (dk_at dksX14_findGross_7 13 rfl rfl)
theorem dX14_findGross_176 : decode cX14_findGross 176 = .ok (.getfield 3, 3) := dk_180 0 3 (dk_at dksX14_findGross_7 14 rfl rfl)
theorem dX14_findGross_179 : decode cX14_findGross 179 = .ok (.getfield 180, 3) := dk_180 0 180 (dk_at dksX14_findGross_7 17 rfl rfl)
theorem dX14_findGross_182 : decode cX14_findGross 182 = .ok (.aload_n 0, 1) := dk_42 (dk_at dksX14_findGross_7 20 rfl rfl)
theorem dX14_findGross_183 : decode cX14_findGross 183 = .ok (.getfield 65, 3) := dk_180 0 65 (dk_at dksX14_findGross_7 21 rfl rfl)
theorem dX14_findGross_186 : decode cX14_findGross 186 = .ok (.invokeinterface 97 2, 5) := by decide +kernel
theorem dX14_findGross_191 : decode cX14_findGross 191 = .ok (.checkcast 156, 3) := dk_192 0 156 (dk_at dksX14_findGross_8 5 rfl rfl)
theorem dX14_findGross_194 : decode cX14_findGross 194 = .ok (.iload_n 1, 1) := dk_27 (dk_at dksX14_findGross_8 8 rfl rfl)
theorem dX14_findGross_195 : decode cX14_findGross 195 = .ok (.invokevirtual 158, 3) := dk_182 0 158 (dk_at dksX14_findGross_8 9 rfl rfl)
theorem dX14_findGross_198 : decode cX14_findGross 198 = .ok (.checkcast 124, 3) := dk_192 0 124 (dk_at dksX14_findGross_8 12 rfl rfl)
theorem dX14_findGross_201 : decode cX14_findGross 201 = .ok (.invokevirtual 126, 3) := dk_182 0 126 (dk_at dksX14_findGross_8 15 rfl rfl)
theorem dX14_findGross_204 : decode cX14_findGross 204 = .ok (.istore 4, 2) := dk_54 4 (dk_at dksX14_findGross_8 18 rfl rfl)
theorem dX14_findGross_206 : decode cX14_findGross 206 = .ok (.aload_n 0, 1) := dk_42 (dk_at dksX14_findGross_8 20 rfl rfl)
theorem dX14_findGross_207 : decode cX14_findGross 207 = .ok (.getfield 47, 3) := dk_180 0 47 (dk_at dksX14_findGross_8 21 rfl rfl)
theorem dX14_findGross_210 : decode cX14_findGross 210 = .ok (.iload_n 1, 1) := dk_27 (dk_at dksX14_findGross_9 0 rfl rfl)
theorem dX14_findGross_211 : decode cX14_findGross 211 = .ok (.lconst 0, 1) := dk_9 (dk_at dksX14_findGross_9 1 rfl rfl)
theorem dX14_findGross_212 : decode cX14_findGross 212 = .ok (.lload_n 2, 1) := dk_32 (dk_at dksX14_findGross_9 2 rfl rfl)
theorem dX14_findGross_213 : decode cX14_findGross 213 = .ok (.iload 4, 2) := dk_21 4 (dk_at dksX14_findGross_9 3 rfl rfl)
theorem dX14_findGross_215 : decode cX14_findGross 215 = .ok (.i2l, 1) := dk_133 (dk_at dksX14_findGross_9 5 rfl rfl)
theorem dX14_findGross_216 : decode cX14_findGross 216 = .ok (.lmul, 1) := dk_105 (dk_at dksX14_findGross_9 6 rfl rfl)
theorem dX14_findGross_217 : decode cX14_findGross 217 = .ok (.ldc2_w 175, 3) := dk_20 0 175 (dk_at dksX14_findGross_9 7 rfl rfl)
theorem dX14_findGross_220 : decode cX14_findGross 220 = .ok (.invokestatic 177, 3) := dk_184 0 177 (dk_at dksX14_findGross_9 10 rfl rfl)
theorem dX14_findGross_223 : decode cX14_findGross 223 = .ok (.invokestatic 170, 3) := dk_184 0 170 (dk_at dksX14_findGross_9 13 rfl rfl)
theorem dX14_findGross_226 : decode cX14_findGross 226 = .ok (.lastore, 1) := dk_80 (dk_at dksX14_findGross_9 16 rfl rfl)
theorem dX14_findGross_227 : decode cX14_findGross 227 = .ok (.aload_n 0, 1) := dk_42 (dk_at dksX14_findGross_9 17 rfl rfl)
theorem dX14_findGross_228 : decode cX14_findGross 228 = .ok (.getfield 50, 3) := dk_180 0 50 (dk_at dksX14_findGross_9 18 rfl rfl)
theorem dX14_findGross_231 : decode cX14_findGross 231 = .ok (.iload_n 1, 1) := dk_27 (dk_at dksX14_findGross_9 21 rfl rfl)
theorem dX14_findGross_232 : decode cX14_findGross 232 = .ok (.lconst 0, 1) := dk_9 (dk_at dksX14_findGross_9 22 rfl rfl)
theorem dX14_findGross_233 : decode cX14_findGross 233 = .ok (.lload_n 2, 1) := dk_32 (dk_at dksX14_findGross_9 23 rfl rfl)
theorem dX14_findGross_234 : decode cX14_findGross 234 = .ok (.iload 4, 2) := dk_21 4 (dk_at dksX14_findGross_10 0 rfl rfl)
theorem dX14_findGross_236 : decode cX14_findGross 236 = .ok (.bipush 50, 2) := dk_16 50 (dk_at dksX14_findGross_10 2 rfl rfl)
theorem dX14_findGross_238 : decode cX14_findGross 238 = .ok (.invokestatic 183, 3) := dk_184 0 183 (dk_at dksX14_findGross_10 4 rfl rfl)
theorem dX14_findGross_241 : decode cX14_findGross 241 = .ok (.i2l, 1) := dk_133 (dk_at dksX14_findGross_10 7 rfl rfl)
theorem dX14_findGross_242 : decode cX14_findGross 242 = .ok (.lmul, 1) := dk_105 (dk_at dksX14_findGross_10 8 rfl rfl)
theorem dX14_findGross_243 : decode cX14_findGross 243 = .ok (.ldc2_w 175, 3) := dk_20 0 175 (dk_at dksX14_findGross_10 9 rfl rfl)
theorem dX14_findGross_246 : decode cX14_findGross 246 = .ok (.invokestatic 177, 3) := dk_184 0 177 (dk_at dksX14_findGross_10 12 rfl rfl)
theorem dX14_findGross_249 : decode cX14_findGross 249 = .ok (.invokestatic 170, 3) := dk_184 0 170 (dk_at dksX14_findGross_10 15 rfl rfl)
theorem dX14_findGross_252 : decode cX14_findGross 252 = .ok (.lastore, 1) := dk_80 (dk_at dksX14_findGross_10 18 rfl rfl)
theorem dX14_findGross_253 : decode cX14_findGross 253 = .ok (.aload_n 0, 1) := dk_42 (dk_at dksX14_findGross_10 19 rfl rfl)
theorem dX14_findGross_254 : decode cX14_findGross 254 = .ok (.getfield 53, 3) := dk_180 0 53 (dk_at dksX14_findGross_10 20 rfl rfl)
theorem dX14_findGross_257 : decode cX14_findGross 257 = .ok (.iload_n 1, 1) := dk_27 (dk_at dksX14_findGross_10 23 rfl rfl)
theorem dX14_findGross_258 : decode cX14_findGross 258 = .ok (.lload_n 2, 1) := dk_32 (dk_at dksX14_findGross_11 0 rfl rfl)
theorem dX14_findGross_259 : decode cX14_findGross 259 = .ok (.aload_n 0, 1) := dk_42 (dk_at dksX14_findGross_11 1 rfl rfl)
theorem dX14_findGross_260 : decode cX14_findGross 260 = .ok (.getfield 47, 3) := dk_180 0 47 (dk_at dksX14_findGross_11 2 rfl rfl)
theorem dX14_findGross_263 : decode cX14_findGross 263 = .ok (.iload_n 1, 1) := dk_27 (dk_at dksX14_findGross_11 5 rfl rfl)
theorem dX14_findGross_264 : decode cX14_findGross 264 = .ok (.laload, 1) := dk_47 (dk_at dksX14_findGross_11 6 rfl rfl)
theorem dX14_findGross_265 : decode cX14_findGross 265 = .ok (.lsub, 1) := dk_101 (dk_at dksX14_findGross_11 7 rfl rfl)
theorem dX14_findGross_266 : decode cX14_findGross 266 = .ok (.lastore, 1) := dk_80 (dk_at dksX14_findGross_11 8 rfl rfl)
theorem dX14_findGross_267 : decode cX14_findGross 267 = .ok (.return_, 1) := dk_177 (dk_at dksX14_findGross_11 9 rfl rfl)
def dkwX14_findTax_8 : List UInt8 := [180, 0, 32, 21, 5, 47, 97, 101, 80, 132, 4, 1, 167, 255, 96, 177]
abbrev dktX14_findTax_8 : List UInt8 := dkwX14_findTax_8 ++ []
def dkwX14_findTax_7 : List UInt8 := [180, 0, 32, 21, 5, 47, 97, 80, 42, 180, 0, 53, 27, 92, 47, 42, 180, 0, 29, 21, 5, 47, 42]
abbrev dktX14_findTax_7 : List UInt8 := dkwX14_findTax_7 ++ dktX14_findTax_8
def dkwX14_findTax_6 : List UInt8 := [105, 20, 0, 188, 109, 42, 180, 0, 44, 21, 4, 47, 101, 80, 42, 180, 0, 44, 21, 4, 92, 47, 42]
abbrev dktX14_findTax_6 : List UInt8 := dkwX14_findTax_6 ++ dktX14_findTax_7
def dkwX14_findTax_5 : List UInt8 := [109, 55, 6, 42, 180, 0, 32, 21, 5, 42, 180, 0, 3, 21, 4, 29, 27, 22, 6, 182, 0, 190, 28, 133]
abbrev dktX14_findTax_5 : List UInt8 := dkwX14_findTax_5 ++ dktX14_findTax_6
def dkwX14_findTax_4 : List UInt8 := [167, 0, 4, 9, 101, 97, 80, 9, 42, 180, 0, 41, 21, 4, 47, 184, 0, 170, 20, 0, 188, 105, 28, 133]
abbrev dktX14_findTax_4 : List UInt8 := dkwX14_findTax_4 ++ dktX14_findTax_5
def dkwX14_findTax_3 : List UInt8 := [180, 0, 29, 21, 5, 47, 101, 21, 4, 42, 180, 0, 22, 27, 46, 160, 0, 12, 42, 180, 0, 47, 27, 47]
abbrev dktX14_findTax_3 : List UInt8 := dkwX14_findTax_3 ++ dktX14_findTax_4
def dkwX14_findTax_2 : List UInt8 := [6, 104, 21, 4, 96, 54, 5, 42, 180, 0, 41, 21, 4, 92, 47, 42, 180, 0, 26, 21, 5, 47, 42]
abbrev dktX14_findTax_2 : List UInt8 := dkwX14_findTax_2 ++ dktX14_findTax_3
def dkwX14_findTax_1 : List UInt8 := [192, 0, 156, 27, 182, 0, 158, 192, 0, 124, 182, 0, 126, 62, 3, 54, 4, 21, 4, 6, 162, 0, 160, 27]
abbrev dktX14_findTax_1 : List UInt8 := dkwX14_findTax_1 ++ dktX14_findTax_2
def dkwX14_findTax_0 : List UInt8 := [27, 16, 12, 112, 4, 96, 61, 42, 180, 0, 3, 180, 0, 185, 42, 180, 0, 65, 185, 0, 97, 2, 0]
abbrev dktX14_findTax_0 : List UInt8 := dkwX14_findTax_0 ++ dktX14_findTax_1
theorem dksX14_findTax_0 : cX14_findTax.data.toList.drop 0 = dktX14_findTax_0 := by decide +kernel
theorem dksX14_findTax_1 : cX14_findTax.data.toList.drop 23 = dktX14_findTax_1 := dk_seg dksX14_findTax_0 23 rfl rfl
theorem dksX14_findTax_2 : cX14_findTax.data.toList.drop 47 = dktX14_findTax_2 := dk_seg dksX14_findTax_1 24 rfl rfl
theorem dksX14_findTax_3 : cX14_findTax.data.toList.drop 70 = dktX14_findTax_3 := dk_seg dksX14_findTax_2 23 rfl rfl
theorem dksX14_findTax_4 : cX14_findTax.data.toList.drop 94 = dktX14_findTax_4 := dk_seg dksX14_findTax_3 24 rfl rfl
theorem dksX14_findTax_5 : cX14_findTax.data.toList.drop 118 = dktX14_findTax_5 := dk_seg dksX14_findTax_4 24 rfl rfl
theorem dksX14_findTax_6 : cX14_findTax.data.toList.drop 142 = dktX14_findTax_6 := dk_seg dksX14_findTax_5 24 rfl rfl
theorem dksX14_findTax_7 : cX14_findTax.data.toList.drop 165 = dktX14_findTax_7 := dk_seg dksX14_findTax_6 23 rfl rfl
theorem dksX14_findTax_8 : cX14_findTax.data.toList.drop 188 = dktX14_findTax_8 := dk_seg dksX14_findTax_7 23 rfl rfl
theorem dX14_findTax_0 : decode cX14_findTax 0 = .ok (.iload_n 1, 1) := dk_27 (dk_at dksX14_findTax_0 0 rfl rfl)
theorem dX14_findTax_1 : decode cX14_findTax 1 = .ok (.bipush 12, 2) := dk_16 12 (dk_at dksX14_findTax_0 1 rfl rfl)
theorem dX14_findTax_3 : decode cX14_findTax 3 = .ok (.irem, 1) := dk_112 (dk_at dksX14_findTax_0 3 rfl rfl)
theorem dX14_findTax_4 : decode cX14_findTax 4 = .ok (.iconst 1, 1) := dk_4 (dk_at dksX14_findTax_0 4 rfl rfl)
theorem dX14_findTax_5 : decode cX14_findTax 5 = .ok (.iadd, 1) := dk_96 (dk_at dksX14_findTax_0 5 rfl rfl)
theorem dX14_findTax_6 : decode cX14_findTax 6 = .ok (.istore_n 2, 1) := dk_61 (dk_at dksX14_findTax_0 6 rfl rfl)
theorem dX14_findTax_7 : decode cX14_findTax 7 = .ok (.aload_n 0, 1) := dk_42 (dk_at dksX14_findTax_0 7 rfl rfl)
theorem dX14_findTax_8 : decode cX14_findTax 8 = .ok (.getfield 3, 3) := dk_180 0 3 (dk_at dksX14_findTax_0 8 rfl rfl)
theorem dX14_findTax_11 : decode cX14_findTax 11 = .ok (.getfield 185, 3) := dk_180 0 185 (dk_at dksX14_findTax_0 11 rfl rfl)
theorem dX14_findTax_14 : decode cX14_findTax 14 = .ok (.aload_n 0, 1) := dk_42 (dk_at dksX14_findTax_0 14 rfl rfl)
theorem dX14_findTax_15 : decode cX14_findTax 15 = .ok (.getfield 65, 3) := dk_180 0 65 (dk_at dksX14_findTax_0 15 rfl rfl)
theorem dX14_findTax_18 : decode cX14_findTax 18 = .ok (.invokeinterface 97 2, 5) := by decide +kernel
theorem dX14_findTax_23 : decode cX14_findTax 23 = .ok (.checkcast 156, 3) := dk_192 0 156 (dk_at dksX14_findTax_1 0 rfl rfl)
theorem dX14_findTax_26 : decode cX14_findTax 26 = .ok (.iload_n 1, 1) := dk_27 (dk_at dksX14_findTax_1 3 rfl rfl)
theorem dX14_findTax_27 : decode cX14_findTax 27 = .ok (.invokevirtual 158, 3) := dk_182 0 158 (dk_at dksX14_findTax_1 4 rfl rfl)
theorem dX14_findTax_30 : decode cX14_findTax 30 = .ok (.checkcast 124, 3) := dk_192 0 124 (dk_at dksX14_findTax_1 7 rfl rfl)
theorem dX14_findTax_33 : decode cX14_findTax 33 = .ok (.invokevirtual 126, 3) := dk_182 0 126 (dk_at dksX14_findTax_1 10 rfl rfl)
theorem dX14_findTax_36 : decode cX14_findTax 36 = .ok (.istore_n 3, 1) := dk_62 (dk_at dksX14_findTax_1 13 rfl rfl)
theorem dX14_findTax_37 : decode cX14_findTax 37 = .ok (.iconst 0, 1) := dk_3 (dk_at dksX14_findTax_1 14 rfl rfl)
theorem dX14_findTax_38 : decode cX14_findTax 38 = .ok (.istore 4, 2) := dk_54 4 (dk_at dksX14_findTax_1 15 rfl rfl)
theorem dX14_findTax_40 : decode cX14_findTax 40 = .ok (.iload 4, 2) := dk_21 4 (dk_at dksX14_findTax_1 17 rfl rfl)
theorem dX14_findTax_42 : decode cX14_findTax 42 = .ok (.iconst 3, 1) := dk_6 (dk_at dksX14_findTax_1 19 rfl rfl)
theorem dX14_findTax_43 : decode cX14_findTax 43 = .ok (.if_icmp .ge 160, 3) := dk_162 0 160 (dk_at dksX14_findTax_1 20 rfl rfl)
theorem dX14_findTax_46 : decode cX14_findTax 46 = .ok (.iload_n 1, 1) := dk_27 (dk_at dksX14_findTax_1 23 rfl rfl)
theorem dX14_findTax_47 : decode cX14_findTax 47 = .ok (.iconst 3, 1) := dk_6 (dk_at dksX14_findTax_2 0 rfl rfl)
theorem dX14_findTax_48 : decode cX14_findTax 48 = .ok (.imul, 1) := dk_104 (dk_at dksX14_findTax_2 1 rfl rfl)
theorem dX14_findTax_49 : decode cX14_findTax 49 = .ok (.iload 4, 2) := dk_21 4 (dk_at dksX14_findTax_2 2 rfl rfl)
theorem dX14_findTax_51 : decode cX14_findTax 51 = .ok (.iadd, 1) := dk_96 (dk_at dksX14_findTax_2 4 rfl rfl)
theorem dX14_findTax_52 : decode cX14_findTax 52 = .ok (.istore 5, 2) := dk_54 5 (dk_at dksX14_findTax_2 5 rfl rfl)
theorem dX14_findTax_54 : decode cX14_findTax 54 = .ok (.aload_n 0, 1) := dk_42 (dk_at dksX14_findTax_2 7 rfl rfl)
theorem dX14_findTax_55 : decode cX14_findTax 55 = .ok (.getfield 41, 3) := dk_180 0 41 (dk_at dksX14_findTax_2 8 rfl rfl)
theorem dX14_findTax_58 : decode cX14_findTax 58 = .ok (.iload 4, 2) := dk_21 4 (dk_at dksX14_findTax_2 11 rfl rfl)
theorem dX14_findTax_60 : decode cX14_findTax 60 = .ok (.dup2, 1) := dk_92 (dk_at dksX14_findTax_2 13 rfl rfl)
theorem dX14_findTax_61 : decode cX14_findTax 61 = .ok (.laload, 1) := dk_47 (dk_at dksX14_findTax_2 14 rfl rfl)
theorem dX14_findTax_62 : decode cX14_findTax 62 = .ok (.aload_n 0, 1) := dk_42 (dk_at dksX14_findTax_2 15 rfl rfl)
theorem dX14_findTax_63 : decode cX14_findTax 63 = .ok (.getfield 26, 3) := dk_180 0 26 (dk_at dksX14_findTax_2 16 rfl rfl)
theorem dX14_findTax_66 : decode cX14_findTax 66 = .ok (.iload 5, 2) := dk_21 5 (dk_at dksX14_findTax_2 19 rfl rfl)
theorem dX14_findTax_68 : decode cX14_findTax 68 = .ok (.laload, 1) := dk_47 (dk_at dksX14_findTax_2 21 rfl rfl)
theorem dX14_findTax_69 : decode cX14_findTax 69 = .ok (.aload_n 0, 1) := dk_42 (dk_at dksX14_findTax_2 22 rfl rfl)
theorem dX14_findTax_70 : decode cX14_findTax 70 = .ok (.getfield 29, 3) := dk_180 0 29 (dk_at dksX14_findTax_3 0 rfl rfl)
theorem dX14_findTax_73 : decode cX14_findTax 73 = .ok (.iload 5, 2) := dk_21 5 (dk_at dksX14_findTax_3 3 rfl rfl)
theorem dX14_findTax_75 : decode cX14_findTax 75 = .ok (.laload, 1) := dk_47 (dk_at dksX14_findTax_3 5 rfl rfl)
theorem dX14_findTax_76 : decode cX14_findTax 76 = .ok (.lsub, 1) := dk_101 (dk_at dksX14_findTax_3 6 rfl rfl)
theorem dX14_findTax_77 : decode cX14_findTax 77 = .ok (.iload 4, 2) := dk_21 4 (dk_at dksX14_findTax_3 7 rfl rfl)
theorem dX14_findTax_79 : decode cX14_findTax 79 = .ok (.aload_n 0, 1) := dk_42 (dk_at dksX14_findTax_3 9 rfl rfl)
theorem dX14_findTax_80 : decode cX14_findTax 80 = .ok (.getfield 22, 3) := dk_180 0 22 (dk_at dksX14_findTax_3 10 rfl rfl)
theorem dX14_findTax_83 : decode cX14_findTax 83 = .ok (.iload_n 1, 1) := dk_27 (dk_at dksX14_findTax_3 13 rfl rfl)
theorem dX14_findTax_84 : decode cX14_findTax 84 = .ok (.iaload, 1) := dk_46 (dk_at dksX14_findTax_3 14 rfl rfl)
theorem dX14_findTax_85 : decode cX14_findTax 85 = .ok (.if_icmp .ne 12, 3) := dk_160 0 12 (dk_at dksX14_findTax_3 15 rfl rfl)
theorem dX14_findTax_88 : decode cX14_findTax 88 = .ok (.aload_n 0, 1) := dk_42 (dk_at dksX14_findTax_3 18 rfl rfl)
theorem dX14_findTax_89 : decode cX14_findTax 89 = .ok (.getfield 47, 3) := dk_180 0 47 (dk_at dksX14_findTax_3 19 rfl rfl)
theorem dX14_findTax_92 : decode cX14_findTax 92 = .ok (.iload_n 1, 1) := dk_27 (dk_at dksX14_findTax_3 22 rfl rfl)
theorem dX14_findTax_93 : decode cX14_findTax 93 = .ok (.laload, 1) := dk_47 (dk_at dksX14_findTax_3 23 rfl rfl)
theorem dX14_findTax_94 : decode cX14_findTax 94 = .ok (.goto 4, 3) := dk_167 0 4 (dk_at dksX14_findTax_4 0 rfl rfl)
theorem dX14_findTax_97 : decode cX14_findTax 97 = .ok (.lconst 0, 1) := dk_9 (dk_at dksX14_findTax_4 3 rfl rfl)
theorem dX14_findTax_98 : decode cX14_findTax 98 = .ok (.lsub, 1) := dk_101 (dk_at dksX14_findTax_4 4 rfl rfl)
theorem dX14_findTax_99 : decode cX14_findTax 99 = .ok (.ladd, 1) := dk_97 (dk_at dksX14_findTax_4 5 rfl rfl)
theorem dX14_findTax_100 : decode cX14_findTax 100 = .ok (.lastore, 1) := dk_80 (dk_at dksX14_findTax_4 6 rfl rfl)
theorem dX14_findTax_101 : decode cX14_findTax 101 = .ok (.lconst 0, 1) := dk_9 (dk_at dksX14_findTax_4 7 rfl rfl)
theorem dX14_findTax_102 : decode cX14_findTax 102 = .ok (.aload_n 0, 1) := dk_42 (dk_at dksX14_findTax_4 8 rfl rfl)
theorem dX14_findTax_103 : decode cX14_findTax 103 = .ok (.getfield 41, 3) := dk_180 0 41 (dk_at dksX14_findTax_4 9 rfl rfl)
theorem dX14_findTax_106 : decode cX14_findTax 106 = .ok (.iload 4, 2) := dk_21 4 (dk_at dksX14_findTax_4 12 rfl rfl)
theorem dX14_findTax_108 : decode cX14_findTax 108 = .ok (.laload, 1) := dk_47 (dk_at dksX14_findTax_4 14 rfl rfl)
theorem dX14_findTax_109 : decode cX14_findTax 109 = .ok (.invokestatic 170, 3) := dk_184 0 170 (dk_at dksX14_findTax_4 15 rfl rfl)
theorem dX14_findTax_112 : decode cX14_findTax 112 = .ok (.ldc2_w 188, 3) := dk_20 0 188 (dk_at dksX14_findTax_4 18 rfl rfl)
theorem dX14_findTax_115 : decode cX14_findTax 115 = .ok (.lmul, 1) := dk_105 (dk_at dksX14_findTax_4 21 rfl rfl)
theorem dX14_findTax_116 : decode cX14_findTax 116 = .ok (.iload_n 2, 1) := dk_28 (dk_at dksX14_findTax_4 22 rfl rfl)
theorem dX14_findTax_117 : decode cX14_findTax 117 = .ok (.i2l, 1) := dk_133 (dk_at dksX14_findTax_4 23 rfl rfl)
theorem dX14_findTax_118 : decode cX14_findTax 118 = .ok (.ldiv, 1) := dk_109 (dk_at dksX14_findTax_5 0 rfl rfl)
theorem dX14_findTax_119 : decode cX14_findTax 119 = .ok (.lstore 6, 2) := dk_55 6 (dk_at dksX14_findTax_5 1 rfl rfl)
theorem dX14_findTax_121 : decode cX14_findTax 121 = .ok (.aload_n 0, 1) := dk_42 (dk_at dksX14_findTax_5 3 rfl rfl)
theorem dX14_findTax_122 : decode cX14_findTax 122 = .ok (.getfield 32, 3) := dk_180 0 32 (dk_at dksX14_findTax_5 4 rfl rfl)
theorem dX14_findTax_125 : decode cX14_findTax 125 = .ok (.iload 5, 2) := dk_21 5 (dk_at dksX14_findTax_5 7 rfl rfl)
theorem dX14_findTax_127 : decode cX14_findTax 127 = .ok (.aload_n 0, 1) := dk_42 (dk_at dksX14_findTax_5 9 rfl rfl)
theorem dX14_findTax_128 : decode cX14_findTax 128 = .ok (.getfield 3, 3) := dk_180 0 3 (dk_at dksX14_findTax_5 10 rfl rfl)
theorem dX14_findTax_131 : decode cX14_findTax 131 = .ok (.iload 4, 2) := dk_21 4 (dk_at dksX14_findTax_5 13 rfl rfl)
theorem dX14_findTax_133 : decode cX14_findTax 133 = .ok (.iload_n 3, 1) := dk_29 (dk_at dksX14_findTax_5 15 rfl rfl)
theorem dX14_findTax_134 : decode cX14_findTax 134 = .ok (.iload_n 1, 1) := dk_27 (dk_at dksX14_findTax_5 16 rfl rfl)
theorem dX14_findTax_135 : decode cX14_findTax 135 = .ok (.lload 6, 2) := dk_22 6 (dk_at dksX14_findTax_5 17 rfl rfl)
theorem dX14_findTax_137 : decode cX14_findTax 137 = .ok (.invokevirtual 190, 3) := dk_182 0 190 (dk_at dksX14_findTax_5 19 rfl rfl)
theorem dX14_findTax_140 : decode cX14_findTax 140 = .ok (.iload_n 2, 1) := dk_28 (dk_at dksX14_findTax_5 22 rfl rfl)
theorem dX14_findTax_141 : decode cX14_findTax 141 = .ok (.i2l, 1) := dk_133 (dk_at dksX14_findTax_5 23 rfl rfl)
theorem dX14_findTax_142 : decode cX14_findTax 142 = .ok (.lmul, 1) := dk_105 (dk_at dksX14_findTax_6 0 rfl rfl)
theorem dX14_findTax_143 : decode cX14_findTax 143 = .ok (.ldc2_w 188, 3) := dk_20 0 188 (dk_at dksX14_findTax_6 1 rfl rfl)
theorem dX14_findTax_146 : decode cX14_findTax 146 = .ok (.ldiv, 1) := dk_109 (dk_at dksX14_findTax_6 4 rfl rfl)
theorem dX14_findTax_147 : decode cX14_findTax 147 = .ok (.aload_n 0, 1) := dk_42 (dk_at dksX14_findTax_6 5 rfl rfl)
theorem dX14_findTax_148 : decode cX14_findTax 148 = .ok (.getfield 44, 3) := dk_180 0 44 (dk_at dksX14_findTax_6 6 rfl rfl)
theorem dX14_findTax_151 : decode cX14_findTax 151 = .ok (.iload 4, 2) := dk_21 4 (dk_at dksX14_findTax_6 9 rfl rfl)
theorem dX14_findTax_153 : decode cX14_findTax 153 = .ok (.laload, 1) := dk_47 (dk_at dksX14_findTax_6 11 rfl rfl)
theorem dX14_findTax_154 : decode cX14_findTax 154 = .ok (.lsub, 1) := dk_101 (dk_at dksX14_findTax_6 12 rfl rfl)
theorem dX14_findTax_155 : decode cX14_findTax 155 = .ok (.lastore, 1) := dk_80 (dk_at dksX14_findTax_6 13 rfl rfl)
theorem dX14_findTax_156 : decode cX14_findTax 156 = .ok (.aload_n 0, 1) := dk_42 (dk_at dksX14_findTax_6 14 rfl rfl)
theorem dX14_findTax_157 : decode cX14_findTax 157 = .ok (.getfield 44, 3) := dk_180 0 44 (dk_at dksX14_findTax_6 15 rfl rfl)
theorem dX14_findTax_160 : decode cX14_findTax 160 = .ok (.iload 4, 2) := dk_21 4 (dk_at dksX14_findTax_6 18 rfl rfl)
theorem dX14_findTax_162 : decode cX14_findTax 162 = .ok (.dup2, 1) := dk_92 (dk_at dksX14_findTax_6 20 rfl rfl)
theorem dX14_findTax_163 : decode cX14_findTax 163 = .ok (.laload, 1) := dk_47 (dk_at dksX14_findTax_6 21 rfl rfl)
theorem dX14_findTax_164 : decode cX14_findTax 164 = .ok (.aload_n 0, 1) := dk_42 (dk_at dksX14_findTax_6 22 rfl rfl)
theorem dX14_findTax_165 : decode cX14_findTax 165 = .ok (.getfield 32, 3) := dk_180 0 32 (dk_at dksX14_findTax_7 0 rfl rfl)
theorem dX14_findTax_168 : decode cX14_findTax 168 = .ok (.iload 5, 2) := dk_21 5 (dk_at dksX14_findTax_7 3 rfl rfl)
theorem dX14_findTax_170 : decode cX14_findTax 170 = .ok (.laload, 1) := dk_47 (dk_at dksX14_findTax_7 5 rfl rfl)
theorem dX14_findTax_171 : decode cX14_findTax 171 = .ok (.ladd, 1) := dk_97 (dk_at dksX14_findTax_7 6 rfl rfl)
theorem dX14_findTax_172 : decode cX14_findTax 172 = .ok (.lastore, 1) := dk_80 (dk_at dksX14_findTax_7 7 rfl rfl)
theorem dX14_findTax_173 : decode cX14_findTax 173 = .ok (.aload_n 0, 1) := dk_42 (dk_at dksX14_findTax_7 8 rfl rfl)
theorem dX14_findTax_174 : decode cX14_findTax 174 = .ok (.getfield 53, 3) := dk_180 0 53 (dk_at dksX14_findTax_7 9 rfl rfl)
theorem dX14_findTax_177 : decode cX14_findTax 177 = .ok (.iload_n 1, 1) := dk_27 (dk_at dksX14_findTax_7 12 rfl rfl)
theorem dX14_findTax_178 : decode cX14_findTax 178 = .ok (.dup2, 1) := dk_92 (dk_at dksX14_findTax_7 13 rfl rfl)
theorem dX14_findTax_179 : decode cX14_findTax 179 = .ok (.laload, 1) := dk_47 (dk_at dksX14_findTax_7 14 rfl rfl)
theorem dX14_findTax_180 : decode cX14_findTax 180 = .ok (.aload_n 0, 1) := dk_42 (dk_at dksX14_findTax_7 15 rfl rfl)
theorem dX14_findTax_181 : decode cX14_findTax 181 = .ok (.getfield 29, 3) := dk_180 0 29 (dk_at dksX14_findTax_7 16 rfl rfl)
theorem dX14_findTax_184 : decode cX14_findTax 184 = .ok (.iload 5, 2) := dk_21 5 (dk_at dksX14_findTax_7 19 rfl rfl)
theorem dX14_findTax_186 : decode cX14_findTax 186 = .ok (.laload, 1) := dk_47 (dk_at dksX14_findTax_7 21 rfl rfl)
theorem dX14_findTax_187 : decode cX14_findTax 187 = .ok (.aload_n 0, 1) := dk_42 (dk_at dksX14_findTax_7 22 rfl rfl)
theorem dX14_findTax_188 : decode cX14_findTax 188 = .ok (.getfield 32, 3) := dk_180 0 32 (dk_at dksX14_findTax_8 0 rfl rfl)
theorem dX14_findTax_191 : decode cX14_findTax 191 = .ok (.iload 5, 2) := dk_21 5 (dk_at dksX14_findTax_8 3 rfl rfl)
theorem dX14_findTax_193 : decode cX14_findTax 193 = .ok (.laload, 1) := dk_47 (dk_at dksX14_findTax_8 5 rfl rfl)
theorem dX14_findTax_194 : decode cX14_findTax 194 = .ok (.ladd, 1) := dk_97 (dk_at dksX14_findTax_8 6 rfl rfl)
theorem dX14_findTax_195 : decode cX14_findTax 195 = .ok (.lsub, 1) := dk_101 (dk_at dksX14_findTax_8 7 rfl rfl)
theorem dX14_findTax_196 : decode cX14_findTax 196 = .ok (.lastore, 1) := dk_80 (dk_at dksX14_findTax_8 8 rfl rfl)
theorem dX14_findTax_197 : decode cX14_findTax 197 = .ok (.iinc 4 1, 3) := dk_132 4 1 (dk_at dksX14_findTax_8 9 rfl rfl)
theorem dX14_findTax_200 : decode cX14_findTax 200 = .ok (.goto (-160), 3) := dk_167 255 96 (dk_at dksX14_findTax_8 12 rfl rfl)
theorem dX14_findTax_203 : decode cX14_findTax 203 = .ok (.return_, 1) := dk_177 (dk_at dksX14_findTax_8 15 rfl rfl)
def dkwX14_findPayout_13 : List UInt8 := [32, 42, 180, 0, 62, 27, 47, 101, 80, 177]
abbrev dktX14_findPayout_13 : List UInt8 := dkwX14_findPayout_13 ++ []
def dkwX14_findPayout_12 : List UInt8 := [167, 255, 235, 42, 180, 0, 62, 27, 9, 22, 4, 32, 184, 0, 166, 184, 0, 170, 80, 42, 180, 0, 56, 27]
abbrev dktX14_findPayout_12 : List UInt8 := dkwX14_findPayout_12 ++ dktX14_findPayout_13
def dkwX14_findPayout_11 : List UInt8 := [54, 6, 21, 6, 27, 162, 0, 21, 22, 4, 42, 180, 0, 62, 21, 6, 47, 101, 55, 4, 132, 6, 1]
abbrev dktX14_findPayout_11 : List UInt8 := dkwX14_findPayout_11 ++ dktX14_findPayout_12
def dkwX14_findPayout_10 : List UInt8 := [27, 163, 0, 12, 25, 7, 182, 0, 230, 133, 167, 0, 4, 9, 97, 55, 4, 132, 6, 1, 167, 255, 181, 3]
abbrev dktX14_findPayout_10 : List UInt8 := dkwX14_findPayout_10 ++ dktX14_findPayout_11
def dkwX14_findPayout_9 : List UInt8 := [192, 0, 224, 58, 7, 22, 4, 25, 7, 182, 0, 226, 42, 180, 0, 65, 160, 0, 21, 25, 7, 182, 0, 228]
abbrev dktX14_findPayout_9 : List UInt8 := dkwX14_findPayout_9 ++ dktX14_findPayout_10
def dkwX14_findPayout_8 : List UInt8 := [185, 0, 91, 1, 0, 162, 0, 64, 42, 180, 0, 3, 180, 0, 221, 21, 6, 185, 0, 97, 2, 0]
abbrev dktX14_findPayout_8 : List UInt8 := dkwX14_findPayout_8 ++ dktX14_findPayout_9
def dkwX14_findPayout_7 : List UInt8 := [65, 132, 4, 1, 167, 255, 97, 9, 55, 4, 3, 54, 6, 21, 6, 42, 180, 0, 3, 180, 0, 221]
abbrev dktX14_findPayout_7 : List UInt8 := dkwX14_findPayout_7 ++ dktX14_findPayout_8
def dkwX14_findPayout_6 : List UInt8 := [55, 9, 42, 180, 0, 59, 21, 6, 9, 22, 9, 184, 0, 170, 80, 32, 42, 180, 0, 59, 21, 6, 47, 101]
abbrev dktX14_findPayout_6 : List UInt8 := dkwX14_findPayout_6 ++ dktX14_findPayout_7
def dkwX14_findPayout_5 : List UInt8 := [180, 0, 199, 27, 182, 0, 214, 101, 22, 7, 184, 0, 166, 32, 25, 5, 180, 0, 218, 133, 101, 184, 0, 166]
abbrev dktX14_findPayout_5 : List UInt8 := dkwX14_findPayout_5 ++ dktX14_findPayout_6
def dkwX14_findPayout_4 : List UInt8 := [180, 0, 206, 133, 105, 20, 0, 175, 184, 0, 208, 55, 7, 25, 5, 180, 0, 211, 133, 42, 25, 5]
abbrev dktX14_findPayout_4 : List UInt8 := dkwX14_findPayout_4 ++ dktX14_findPayout_5
def dkwX14_findPayout_3 : List UInt8 := [42, 180, 0, 65, 160, 0, 91, 27, 25, 5, 180, 0, 203, 161, 0, 82, 42, 180, 0, 53, 27, 47, 25, 5]
abbrev dktX14_findPayout_3 : List UInt8 := dkwX14_findPayout_3 ++ dktX14_findPayout_4
def dkwX14_findPayout_2 : List UInt8 := [16, 6, 104, 25, 5, 180, 0, 199, 96, 54, 6, 42, 180, 0, 59, 21, 6, 9, 80, 25, 5, 180, 0, 202]
abbrev dktX14_findPayout_2 : List UInt8 := dkwX14_findPayout_2 ++ dktX14_findPayout_3
def dkwX14_findPayout_1 : List UInt8 := [162, 0, 148, 42, 180, 0, 3, 180, 0, 194, 21, 4, 185, 0, 97, 2, 0, 192, 0, 197, 58, 5, 27]
abbrev dktX14_findPayout_1 : List UInt8 := dkwX14_findPayout_1 ++ dktX14_findPayout_2
def dkwX14_findPayout_0 : List UInt8 := [42, 180, 0, 53, 27, 47, 65, 3, 54, 4, 21, 4, 42, 180, 0, 3, 180, 0, 194, 185, 0, 91, 1, 0]
abbrev dktX14_findPayout_0 : List UInt8 := dkwX14_findPayout_0 ++ dktX14_findPayout_1
theorem dksX14_findPayout_0 : cX14_findPayout.data.toList.drop 0 = dktX14_findPayout_0 := by decide +kernel
theorem dksX14_findPayout_1 : cX14_findPayout.data.toList.drop 24 = dktX14_findPayout_1 := dk_seg dksX14_findPayout_0 24 rfl rfl
theorem dksX14_findPayout_2 : cX14_findPayout.data.toList.drop 47 = dktX14_findPayout_2 := dk_seg dksX14_findPayout_1 23 rfl rfl
theorem dksX14_findPayout_3 : cX14_findPayout.data.toList.drop 71 = dktX14_findPayout_3 := dk_seg dksX14_findPayout_2 24 rfl rfl
theorem dksX14_findPayout_4 : cX14_findPayout.data.toList.drop 95 = dktX14_findPayout_4 := dk_seg dksX14_findPayout_3 24 rfl rfl
theorem dksX14_findPayout_5 : cX14_findPayout.data.toList.drop 117 = dktX14_findPayout_5 := dk_seg dksX14_findPayout_4 22 rfl rfl
theorem dksX14_findPayout_6 : cX14_findPayout.data.toList.drop 141 = dktX14_findPayout_6 := dk_seg dksX14_findPayout_5 24 rfl rfl
theorem dksX14_findPayout_7 : cX14_findPayout.data.toList.drop 165 = dktX14_findPayout_7 := dk_seg dksX14_findPayout_6 24 rfl rfl
theorem dksX14_findPayout_8 : cX14_findPayout.data.toList.drop 187 = dktX14_findPayout_8 := dk_seg dksX14_findPayout_7 22 rfl rfl
theorem dksX14_findPayout_9 : cX14_findPayout.data.toList.drop 209 = dktX14_findPayout_9 := dk_seg dksX14_findPayout_8 22 rfl rfl
theorem dksX14_findPayout_10 : cX14_findPayout.data.toList.drop 233 = dktX14_findPayout_10 := dk_seg dksX14_findPayout_9 24 rfl rfl
theorem dksX14_findPayout_11 : cX14_findPayout.data.toList.drop 257 = dktX14_findPayout_11 := dk_seg dksX14_findPayout_10 24 rfl rfl
theorem dksX14_findPayout_12 : cX14_findPayout.data.toList.drop 280 = dktX14_findPayout_12 := dk_seg dksX14_findPayout_11 23 rfl rfl
theorem dksX14_findPayout_13 : cX14_findPayout.data.toList.drop 304 = dktX14_findPayout_13 := dk_seg dksX14_findPayout_12 24 rfl rfl
theorem dX14_findPayout_0 : decode cX14_findPayout 0 = .ok (.aload_n 0, 1) := dk_42 (dk_at dksX14_findPayout_0 0 rfl rfl)
theorem dX14_findPayout_1 : decode cX14_findPayout 1 = .ok (.getfield 53, 3) := dk_180 0 53 (dk_at dksX14_findPayout_0 1 rfl rfl)
theorem dX14_findPayout_4 : decode cX14_findPayout 4 = .ok (.iload_n 1, 1) := dk_27 (dk_at dksX14_findPayout_0 4 rfl rfl)
theorem dX14_findPayout_5 : decode cX14_findPayout 5 = .ok (.laload, 1) := dk_47 (dk_at dksX14_findPayout_0 5 rfl rfl)
theorem dX14_findPayout_6 : decode cX14_findPayout 6 = .ok (.lstore_n 2, 1) := dk_65 (dk_at dksX14_findPayout_0 6 rfl rfl)
theorem dX14_findPayout_7 : decode cX14_findPayout 7 = .ok (.iconst 0, 1) := dk_3 (dk_at dksX14_findPayout_0 7 rfl rfl)
theorem dX14_findPayout_8 : decode cX14_findPayout 8 = .ok (.istore 4, 2) := dk_54 4 (dk_at dksX14_findPayout_0 8 rfl rfl)
theorem dX14_findPayout_10 : decode cX14_findPayout 10 = .ok (.iload 4, 2) := dk_21 4 (dk_at dksX14_findPayout_0 10 rfl rfl)
theorem dX14_findPayout_12 : decode cX14_findPayout 12 = .ok (.aload_n 0, 1) := dk_42 (dk_at dksX14_findPayout_0 12 rfl rfl)
theorem dX14_findPayout_13 : decode cX14_findPayout 13 = .ok (.getfield 3, 3) := dk_180 0 3 (dk_at dksX14_findPayout_0 13 rfl rfl)
theorem dX14_findPayout_16 : decode cX14_findPayout 16 = .ok (.getfield 194, 3) := dk_180 0 194 (dk_at dksX14_findPayout_0 16 rfl rfl)
theorem dX14_findPayout_19 : decode cX14_findPayout 19 = .ok (.invokeinterface 91 1, 5) := by decide +kernel
theorem dX14_findPayout_24 : decode cX14_findPayout 24 = .ok (.if_icmp .ge 148, 3) := dk_162 0 148 (dk_at dksX14_findPayout_1 0 rfl rfl)
theorem dX14_findPayout_27 : decode cX14_findPayout 27 = .ok (.aload_n 0, 1) := dk_42 (dk_at dksX14_findPayout_1 3 rfl rfl)
theorem dX14_findPayout_28 : decode cX14_findPayout 28 = .ok (.getfield 3, 3) := dk_180 0 3 (dk_at dksX14_findPayout_1 4 rfl rfl)
theorem dX14_findPayout_31 : decode cX14_findPayout 31 = .ok (.getfield 194, 3) := dk_180 0 194 (dk_at dksX14_findPayout_1 7 rfl rfl)
theorem dX14_findPayout_34 : decode cX14_findPayout 34 = .ok (.iload 4, 2) := dk_21 4 (dk_at dksX14_findPayout_1 10 rfl rfl)
theorem dX14_findPayout_36 : decode cX14_findPayout 36 = .ok (.invokeinterface 97 2, 5) := by decide +kernel
theorem dX14_findPayout_41 : decode cX14_findPayout 41 = .ok (.checkcast 197, 3) := dk_192 0 197 (dk_at dksX14_findPayout_1 17 rfl rfl)
theorem dX14_findPayout_44 : decode cX14_findPayout 44 = .ok (.astore 5, 2) := dk_58 5 (dk_at dksX14_findPayout_1 20 rfl rfl)
theorem dX14_findPayout_46 : decode cX14_findPayout 46 = .ok (.iload_n 1, 1) := dk_27 (dk_at dksX14_findPayout_1 22 rfl rfl)
theorem dX14_findPayout_47 : decode cX14_findPayout 47 = .ok (.bipush 6, 2) := dk_16 6 (dk_at dksX14_findPayout_2 0 rfl rfl)
theorem dX14_findPayout_49 : decode cX14_findPayout 49 = .ok (.imul, 1) := dk_104 (dk_at dksX14_findPayout_2 2 rfl rfl)
theorem dX14_findPayout_50 : decode cX14_findPayout 50 = .ok (.aload 5, 2) := dk_25 5 (dk_at dksX14_findPayout_2 3 rfl rfl)
theorem dX14_findPayout_52 : decode cX14_findPayout 52 = .ok (.getfield 199, 3) := dk_180 0 199 (dk_at dksX14_findPayout_2 5 rfl rfl)
theorem dX14_findPayout_55 : decode cX14_findPayout 55 = .ok (.iadd, 1) := dk_96 (dk_at dksX14_findPayout_2 8 rfl rfl)
theorem dX14_findPayout_56 : decode cX14_findPayout 56 = .ok (.istore 6, 2) := dk_54 6 (dk_at dksX14_findPayout_2 9 rfl rfl)
theorem dX14_findPayout_58 : decode cX14_findPayout 58 = .ok (.aload_n 0, 1) := dk_42 (dk_at dksX14_findPayout_2 11 rfl rfl)
theorem dX14_findPayout_59 : decode cX14_findPayout 59 = .ok (.getfield 59, 3) := dk_180 0 59 (dk_at dksX14_findPayout_2 12 rfl rfl)
theorem dX14_findPayout_62 : decode cX14_findPayout 62 = .ok (.iload 6, 2) := dk_21 6 (dk_at dksX14_findPayout_2 15 rfl rfl)
theorem dX14_findPayout_64 : decode cX14_findPayout 64 = .ok (.lconst 0, 1) := dk_9 (dk_at dksX14_findPayout_2 17 rfl rfl)
theorem dX14_findPayout_65 : decode cX14_findPayout 65 = .ok (.lastore, 1) := dk_80 (dk_at dksX14_findPayout_2 18 rfl rfl)
theorem dX14_findPayout_66 : decode cX14_findPayout 66 = .ok (.aload 5, 2) := dk_25 5 (dk_at dksX14_findPayout_2 19 rfl rfl)
theorem dX14_findPayout_68 : decode cX14_findPayout 68 = .ok (.getfield 202, 3) := dk_180 0 202 (dk_at dksX14_findPayout_2 21 rfl rfl)
theorem dX14_findPayout_71 : decode cX14_findPayout 71 = .ok (.aload_n 0, 1) := dk_42 (dk_at dksX14_findPayout_3 0 rfl rfl)
theorem dX14_findPayout_72 : decode cX14_findPayout 72 = .ok (.getfield 65, 3) := dk_180 0 65 (dk_at dksX14_findPayout_3 1 rfl rfl)
theorem dX14_findPayout_75 : decode cX14_findPayout 75 = .ok (.if_icmp .ne 91, 3) := dk_160 0 91 (dk_at dksX14_findPayout_3 4 rfl rfl)
theorem dX14_findPayout_78 : decode cX14_findPayout 78 = .ok (.iload_n 1, 1) := dk_27 (dk_at dksX14_findPayout_3 7 rfl rfl)
theorem dX14_findPayout_79 : decode cX14_findPayout 79 = .ok (.aload 5, 2) := dk_25 5 (dk_at dksX14_findPayout_3 8 rfl rfl)
theorem dX14_findPayout_81 : decode cX14_findPayout 81 = .ok (.getfield 203, 3) := dk_180 0 203 (dk_at dksX14_findPayout_3 10 rfl rfl)
theorem dX14_findPayout_84 : decode cX14_findPayout 84 = .ok (.if_icmp .lt 82, 3) := dk_161 0 82 (dk_at dksX14_findPayout_3 13 rfl rfl)
theorem dX14_findPayout_87 : decode cX14_findPayout 87 = .ok (.aload_n 0, 1) := dk_42 (dk_at dksX14_findPayout_3 16 rfl rfl)
theorem dX14_findPayout_88 : decode cX14_findPayout 88 = .ok (.getfield 53, 3) := dk_180 0 53 (dk_at dksX14_findPayout_3 17 rfl rfl)
theorem dX14_findPayout_91 : decode cX14_findPayout 91 = .ok (.iload_n 1, 1) := dk_27 (dk_at dksX14_findPayout_3 20 rfl rfl)
theorem dX14_findPayout_92 : decode cX14_findPayout 92 = .ok (.laload, 1) := dk_47 (dk_at dksX14_findPayout_3 21 rfl rfl)
theorem dX14_findPayout_93 : decode cX14_findPayout 93 = .ok (.aload 5, 2) := dk_25 5 (dk_at dksX14_findPayout_3 22 rfl rfl)
theorem dX14_findPayout_95 : decode cX14_findPayout 95 = .ok (.getfield 206, 3) := dk_180 0 206 (dk_at dksX14_findPayout_4 0 rfl rfl)
theorem dX14_findPayout_98 : decode cX14_findPayout 98 = .ok (.i2l, 1) := dk_133 (dk_at dksX14_findPayout_4 3 rfl rfl)
theorem dX14_findPayout_99 : decode cX14_findPayout 99 = .ok (.lmul, 1) := dk_105 (dk_at dksX14_findPayout_4 4 rfl rfl)
theorem dX14_findPayout_100 : decode cX14_findPayout 100 = .ok (.ldc2_w 175, 3) := dk_20 0 175 (dk_at dksX14_findPayout_4 5 rfl rfl)
theorem dX14_findPayout_103 : decode cX14_findPayout 103 = .ok (.invokestatic 208, 3) := dk_184 0 208 (dk_at dksX14_findPayout_4 8 rfl rfl)
theorem dX14_findPayout_106 : decode cX14_findPayout 106 = .ok (.lstore 7, 2) := dk_55 7 (dk_at dksX14_findPayout_4 11 rfl rfl)
theorem dX14_findPayout_108 : decode cX14_findPayout 108 = .ok (.aload 5, 2) := dk_25 5 (dk_at dksX14_findPayout_4 13 rfl rfl)
theorem dX14_findPayout_110 : decode cX14_findPayout 110 = .ok (.getfield 211, 3) := dk_180 0 211 (dk_at dksX14_findPayout_4 15 rfl rfl)
theorem dX14_findPayout_113 : decode cX14_findPayout 113 = .ok (.i2l, 1) := dk_133 (dk_at dksX14_findPayout_4 18 rfl rfl)
theorem dX14_findPayout_114 : decode cX14_findPayout 114 = .ok (.aload_n 0, 1) := dk_42 (dk_at dksX14_findPayout_4 19 rfl rfl)
theorem dX14_findPayout_115 : decode cX14_findPayout 115 = .ok (.aload 5, 2) := dk_25 5 (dk_at dksX14_findPayout_4 20 rfl rfl)
theorem dX14_findPayout_117 : decode cX14_findPayout 117 = .ok (.getfield 199, 3) := dk_180 0 199 (dk_at dksX14_findPayout_5 0 rfl rfl)
theorem dX14_findPayout_120 : decode cX14_findPayout 120 = .ok (.iload_n 1, 1) := dk_27 (dk_at dksX14_findPayout_5 3 rfl rfl)
theorem dX14_findPayout_121 : decode cX14_findPayout 121 = .ok (.invokevirtual 214, 3) := dk_182 0 214 (dk_at dksX14_findPayout_5 4 rfl rfl)
theorem dX14_findPayout_124 : decode cX14_findPayout 124 = .ok (.lsub, 1) := dk_101 (dk_at dksX14_findPayout_5 7 rfl rfl)
theorem dX14_findPayout_125 : decode cX14_findPayout 125 = .ok (.lload 7, 2) := dk_22 7 (dk_at dksX14_findPayout_5 8 rfl rfl)
theorem dX14_findPayout_127 : decode cX14_findPayout 127 = .ok (.invokestatic 166, 3) := dk_184 0 166 (dk_at dksX14_findPayout_5 10 rfl rfl)
theorem dX14_findPayout_130 : decode cX14_findPayout 130 = .ok (.lload_n 2, 1) := dk_32 (dk_at dksX14_findPayout_5 13 rfl rfl)
theorem dX14_findPayout_131 : decode cX14_findPayout 131 = .ok (.aload 5, 2) := dk_25 5 (dk_at dksX14_findPayout_5 14 rfl rfl)
theorem dX14_findPayout_133 : decode cX14_findPayout 133 = .ok (.getfield 218, 3) := dk_180 0 218 (dk_at dksX14_findPayout_5 16 rfl rfl)
theorem dX14_findPayout_136 : decode cX14_findPayout 136 = .ok (.i2l, 1) := dk_133 (dk_at dksX14_findPayout_5 19 rfl rfl)
theorem dX14_findPayout_137 : decode cX14_findPayout 137 = .ok (.lsub, 1) := dk_101 (dk_at dksX14_findPayout_5 20 rfl rfl)
theorem dX14_findPayout_138 : decode cX14_findPayout 138 = .ok (.invokestatic 166, 3) := dk_184 0 166 (dk_at dksX14_findPayout_5 21 rfl rfl)
theorem dX14_findPayout_141 : decode cX14_findPayout 141 = .ok (.lstore 9, 2) := dk_55 9 (dk_at dksX14_findPayout_6 0 rfl rfl)
theorem dX14_findPayout_143 : decode cX14_findPayout 143 = .ok (.aload_n 0, 1) := dk_42 (dk_at dksX14_findPayout_6 2 rfl rfl)
theorem dX14_findPayout_144 : decode cX14_findPayout 144 = .ok (.getfield 59, 3) := dk_180 0 59 (dk_at dksX14_findPayout_6 3 rfl rfl)
theorem dX14_findPayout_147 : decode cX14_findPayout 147 = .ok (.iload 6, 2) := dk_21 6 (dk_at dksX14_findPayout_6 6 rfl rfl)
theorem dX14_findPayout_149 : decode cX14_findPayout 149 = .ok (.lconst 0, 1) := dk_9 (dk_at dksX14_findPayout_6 8 rfl rfl)
theorem dX14_findPayout_150 : decode cX14_findPayout 150 = .ok (.lload 9, 2) := dk_22 9 (dk_at dksX14_findPayout_6 9 rfl rfl)
theorem dX14_findPayout_152 : decode cX14_findPayout 152 = .ok (.invokestatic 170, 3) := dk_184 0 170 (dk_at dksX14_findPayout_6 11 rfl rfl)
theorem dX14_findPayout_155 : decode cX14_findPayout 155 = .ok (.lastore, 1) := dk_80 (dk_at dksX14_findPayout_6 14 rfl rfl)
theorem dX14_findPayout_156 : decode cX14_findPayout 156 = .ok (.lload_n 2, 1) := dk_32 (dk_at dksX14_findPayout_6 15 rfl rfl)
theorem dX14_findPayout_157 : decode cX14_findPayout 157 = .ok (.aload_n 0, 1) := dk_42 (dk_at dksX14_findPayout_6 16 rfl rfl)
theorem dX14_findPayout_158 : decode cX14_findPayout 158 = .ok (.getfield 59, 3) := dk_180 0 59 (dk_at dksX14_findPayout_6 17 rfl rfl)
theorem dX14_findPayout_161 : decode cX14_findPayout 161 = .ok (.iload 6, 2) := dk_21 6 (dk_at dksX14_findPayout_6 20 rfl rfl)
theorem dX14_findPayout_163 : decode cX14_findPayout 163 = .ok (.laload, 1) := dk_47 (dk_at dksX14_findPayout_6 22 rfl rfl)
theorem dX14_findPayout_164 : decode cX14_findPayout 164 = .ok (.lsub, 1) := dk_101 (dk_at dksX14_findPayout_6 23 rfl rfl)
theorem dX14_findPayout_165 : decode cX14_findPayout 165 = .ok (.lstore_n 2, 1) := dk_65 (dk_at dksX14_findPayout_7 0 rfl rfl)
theorem dX14_findPayout_166 : decode cX14_findPayout 166 = .ok (.iinc 4 1, 3) := dk_132 4 1 (dk_at dksX14_findPayout_7 1 rfl rfl)
theorem dX14_findPayout_169 : decode cX14_findPayout 169 = .ok (.goto (-159), 3) := dk_167 255 97 (dk_at dksX14_findPayout_7 4 rfl rfl)
theorem dX14_findPayout_172 : decode cX14_findPayout 172 = .ok (.lconst 0, 1) := dk_9 (dk_at dksX14_findPayout_7 7 rfl rfl)
theorem dX14_findPayout_173 : decode cX14_findPayout 173 = .ok (.lstore 4, 2) := dk_55 4 (dk_at dksX14_findPayout_7 8 rfl rfl)
theorem dX14_findPayout_175 : decode cX14_findPayout 175 = .ok (.iconst 0, 1) := dk_3 (dk_at dksX14_findPayout_7 10 rfl rfl)
theorem dX14_findPayout_176 : decode cX14_findPayout 176 = .ok (.istore 6, 2) := dk_54 6 (dk_at dksX14_findPayout_7 11 rfl rfl)
theorem dX14_findPayout_178 : decode cX14_findPayout 178 = .ok (.iload 6, 2) := dk_21 6 (dk_at dksX14_findPayout_7 13 rfl rfl)
theorem dX14_findPayout_180 : decode cX14_findPayout 180 = .ok (.aload_n 0, 1) := dk_42 (dk_at dksX14_findPayout_7 15 rfl rfl)
theorem dX14_findPayout_181 : decode cX14_findPayout 181 = .ok (.getfield 3, 3) := dk_180 0 3 (dk_at dksX14_findPayout_7 16 rfl rfl)
theorem dX14_findPayout_184 : decode cX14_findPayout 184 = .ok (.getfield 221, 3) := dk_180 0 221 (dk_at dksX14_findPayout_7 19 rfl rfl)
theorem dX14_findPayout_187 : decode cX14_findPayout 187 = .ok (.invokeinterface 91 1, 5) := by decide +kernel
theorem dX14_findPayout_192 : decode cX14_findPayout 192 = .ok (.if_icmp .ge 64, 3) := dk_162 0 64 (dk_at dksX14_findPayout_8 5 rfl rfl)
theorem dX14_findPayout_195 : decode cX14_findPayout 195 = .ok (.aload_n 0, 1) := dk_42 (dk_at dksX14_findPayout_8 8 rfl rfl)
theorem dX14_findPayout_196 : decode cX14_findPayout 196 = .ok (.getfield 3, 3) := dk_180 0 3 (dk_at dksX14_findPayout_8 9 rfl rfl)
theorem dX14_findPayout_199 : decode cX14_findPayout 199 = .ok (.getfield 221, 3) := dk_180 0 221 (dk_at dksX14_findPayout_8 12 rfl rfl)
theorem dX14_findPayout_202 : decode cX14_findPayout 202 = .ok (.iload 6, 2) := dk_21 6 (dk_at dksX14_findPayout_8 15 rfl rfl)
theorem dX14_findPayout_204 : decode cX14_findPayout 204 = .ok (.invokeinterface 97 2, 5) := by decide +kernel
theorem dX14_findPayout_209 : decode cX14_findPayout 209 = .ok (.checkcast 224, 3) := dk_192 0 224 (dk_at dksX14_findPayout_9 0 rfl rfl)
theorem dX14_findPayout_212 : decode cX14_findPayout 212 = .ok (.astore 7, 2) := dk_58 7 (dk_at dksX14_findPayout_9 3 rfl rfl)
theorem dX14_findPayout_214 : decode cX14_findPayout 214 = .ok (.lload 4, 2) := dk_22 4 (dk_at dksX14_findPayout_9 5 rfl rfl)
theorem dX14_findPayout_216 : decode cX14_findPayout 216 = .ok (.aload 7, 2) := dk_25 7 (dk_at dksX14_findPayout_9 7 rfl rfl)
theorem dX14_findPayout_218 : decode cX14_findPayout 218 = .ok (.invokevirtual 226, 3) := dk_182 0 226 (dk_at dksX14_findPayout_9 9 rfl rfl)
theorem dX14_findPayout_221 : decode cX14_findPayout 221 = .ok (.aload_n 0, 1) := dk_42 (dk_at dksX14_findPayout_9 12 rfl rfl)
theorem dX14_findPayout_222 : decode cX14_findPayout 222 = .ok (.getfield 65, 3) := dk_180 0 65 (dk_at dksX14_findPayout_9 13 rfl rfl)
theorem dX14_findPayout_225 : decode cX14_findPayout 225 = .ok (.if_icmp .ne 21, 3) := dk_160 0 21 (dk_at dksX14_findPayout_9 16 rfl rfl)
theorem dX14_findPayout_228 : decode cX14_findPayout 228 = .ok (.aload 7, 2) := dk_25 7 (dk_at dksX14_findPayout_9 19 rfl rfl)
theorem dX14_findPayout_230 : decode cX14_findPayout 230 = .ok (.invokevirtual 228, 3) := dk_182 0 228 (dk_at dksX14_findPayout_9 21 rfl rfl)
theorem dX14_findPayout_233 : decode cX14_findPayout 233 = .ok (.iload_n 1, 1) := dk_27 (dk_at dksX14_findPayout_10 0 rfl rfl)
theorem dX14_findPayout_234 : decode cX14_findPayout 234 = .ok (.if_icmp .gt 12, 3) := dk_163 0 12 (dk_at dksX14_findPayout_10 1 rfl rfl)
theorem dX14_findPayout_237 : decode cX14_findPayout 237 = .ok (.aload 7, 2) := dk_25 7 (dk_at dksX14_findPayout_10 4 rfl rfl)
theorem dX14_findPayout_239 : decode cX14_findPayout 239 = .ok (.invokevirtual 230, 3) := dk_182 0 230 (dk_at dksX14_findPayout_10 6 rfl rfl)
theorem dX14_findPayout_242 : decode cX14_findPayout 242 = .ok (.i2l, 1) := dk_133 (dk_at dksX14_findPayout_10 9 rfl rfl)
theorem dX14_findPayout_243 : decode cX14_findPayout 243 = .ok (.goto 4, 3) := dk_167 0 4 (dk_at dksX14_findPayout_10 10 rfl rfl)
theorem dX14_findPayout_246 : decode cX14_findPayout 246 = .ok (.lconst 0, 1) := dk_9 (dk_at dksX14_findPayout_10 13 rfl rfl)
theorem dX14_findPayout_247 : decode cX14_findPayout 247 = .ok (.ladd, 1) := dk_97 (dk_at dksX14_findPayout_10 14 rfl rfl)
theorem dX14_findPayout_248 : decode cX14_findPayout 248 = .ok (.lstore 4, 2) := dk_55 4 (dk_at dksX14_findPayout_10 15 rfl rfl)
theorem dX14_findPayout_250 : decode cX14_findPayout 250 = .ok (.iinc 6 1, 3) := dk_132 6 1 (dk_at dksX14_findPayout_10 17 rfl rfl)
theorem dX14_findPayout_253 : decode cX14_findPayout 253 = .ok (.goto (-75), 3) := dk_167 255 181 (dk_at dksX14_findPayout_10 20 rfl rfl)
theorem dX14_findPayout_256 : decode cX14_findPayout 256 = .ok (.iconst 0, 1) := dk_3 (dk_at dksX14_findPayout_10 23 rfl rfl)
theorem dX14_findPayout_257 : decode cX14_findPayout 257 = .ok (.istore 6, 2) := dk_54 6 (dk_at dksX14_findPayout_11 0 rfl rfl)
theorem dX14_findPayout_259 : decode cX14_findPayout 259 = .ok (.iload 6, 2) := dk_21 6 (dk_at dksX14_findPayout_11 2 rfl rfl)
theorem dX14_findPayout_261 : decode cX14_findPayout 261 = .ok (.iload_n 1, 1) := dk_27 (dk_at dksX14_findPayout_11 4 rfl rfl)
theorem dX14_findPayout_262 : decode cX14_findPayout 262 = .ok (.if_icmp .ge 21, 3) := dk_162 0 21 (dk_at dksX14_findPayout_11 5 rfl rfl)
theorem dX14_findPayout_265 : decode cX14_findPayout 265 = .ok (.lload 4, 2) := dk_22 4 (dk_at dksX14_findPayout_11 8 rfl rfl)
theorem dX14_findPayout_267 : decode cX14_findPayout 267 = .ok (.aload_n 0, 1) := dk_42 (dk_at dksX14_findPayout_11 10 rfl rfl)
theorem dX14_findPayout_268 : decode cX14_findPayout 268 = .ok (.getfield 62, 3) := dk_180 0 62 (dk_at dksX14_findPayout_11 11 rfl rfl)
theorem dX14_findPayout_271 : decode cX14_findPayout 271 = .ok (.iload 6, 2) := dk_21 6 (dk_at dksX14_findPayout_11 14 rfl rfl)
theorem dX14_findPayout_273 : decode cX14_findPayout 273 = .ok (.laload, 1) := dk_47 (dk_at dksX14_findPayout_11 16 rfl rfl)
theorem dX14_findPayout_274 : decode cX14_findPayout 274 = .ok (.lsub, 1) := dk_101 (dk_at dksX14_findPayout_11 17 rfl rfl)
theorem dX14_findPayout_275 : decode cX14_findPayout 275 = .ok (.lstore 4, 2) := dk_55 4 (dk_at dksX14_findPayout_11 18 rfl rfl)
theorem dX14_findPayout_277 : decode cX14_findPayout 277 = .ok (.iinc 6 1, 3) := dk_132 6 1 (dk_at dksX14_findPayout_11 20 rfl rfl)
theorem dX14_findPayout_280 : decode cX14_findPayout 280 = .ok (.goto (-21), 3) := dk_167 255 235 (dk_at dksX14_findPayout_12 0 rfl rfl)
theorem dX14_findPayout_283 : decode cX14_findPayout 283 = .ok (.aload_n 0, 1) := dk_42 (dk_at dksX14_findPayout_12 3 rfl rfl)
theorem dX14_findPayout_284 : decode cX14_findPayout 284 = .ok (.getfield 62, 3) := dk_180 0 62 (dk_at dksX14_findPayout_12 4 rfl rfl)
theorem dX14_findPayout_287 : decode cX14_findPayout 287 = .ok (.iload_n 1, 1) := dk_27 (dk_at dksX14_findPayout_12 7 rfl rfl)
theorem dX14_findPayout_288 : decode cX14_findPayout 288 = .ok (.lconst 0, 1) := dk_9 (dk_at dksX14_findPayout_12 8 rfl rfl)
theorem dX14_findPayout_289 : decode cX14_findPayout 289 = .ok (.lload 4, 2) := dk_22 4 (dk_at dksX14_findPayout_12 9 rfl rfl)
theorem dX14_findPayout_291 : decode cX14_findPayout 291 = .ok (.lload_n 2, 1) := dk_32 (dk_at dksX14_findPayout_12 11 rfl rfl)
theorem dX14_findPayout_292 : decode cX14_findPayout 292 = .ok (.invokestatic 166, 3) := dk_184 0 166 (dk_at dksX14_findPayout_12 12 rfl rfl)
theorem dX14_findPayout_295 : decode cX14_findPayout 295 = .ok (.invokestatic 170, 3) := dk_184 0 170 (dk_at dksX14_findPayout_12 15 rfl rfl)
theorem dX14_findPayout_298 : decode cX14_findPayout 298 = .ok (.lastore, 1) := dk_80 (dk_at dksX14_findPayout_12 18 rfl rfl)
theorem dX14_findPayout_299 : decode cX14_findPayout 299 = .ok (.aload_n 0, 1) := dk_42 (dk_at dksX14_findPayout_12 19 rfl rfl)
theorem dX14_findPayout_300 : decode cX14_findPayout 300 = .ok (.getfield 56, 3) := dk_180 0 56 (dk_at dksX14_findPayout_12 20 rfl rfl)
theorem dX14_findPayout_303 : decode cX14_findPayout 303 = .ok (.iload_n 1, 1) := dk_27 (dk_at dksX14_findPayout_12 23 rfl rfl)
theorem dX14_findPayout_304 : decode cX14_findPayout 304 = .ok (.lload_n 2, 1) := dk_32 (dk_at dksX14_findPayout_13 0 rfl rfl)
theorem dX14_findPayout_305 : decode cX14_findPayout 305 = .ok (.aload_n 0, 1) := dk_42 (dk_at dksX14_findPayout_13 1 rfl rfl)
theorem dX14_findPayout_306 : decode cX14_findPayout 306 = .ok (.getfield 62, 3) := dk_180 0 62 (dk_at dksX14_findPayout_13 2 rfl rfl)
theorem dX14_findPayout_309 : decode cX14_findPayout 309 = .ok (.iload_n 1, 1) := dk_27 (dk_at dksX14_findPayout_13 5 rfl rfl)
theorem dX14_findPayout_310 : decode cX14_findPayout 310 = .ok (.laload, 1) := dk_47 (dk_at dksX14_findPayout_13 6 rfl rfl)
theorem dX14_findPayout_311 : decode cX14_findPayout 311 = .ok (.lsub, 1) := dk_101 (dk_at dksX14_findPayout_13 7 rfl rfl)
theorem dX14_findPayout_312 : decode cX14_findPayout 312 = .ok (.lastore, 1) := dk_80 (dk_at dksX14_findPayout_13 8 rfl rfl)
theorem dX14_findPayout_313 : decode cX14_findPayout 313 = .ok (.return_, 1) := dk_177 (dk_at dksX14_findPayout_13 9 rfl rfl)
def dkwX14_takenBefore_1 : List UInt8 := [97, 66, 132, 5, 1, 167, 255, 232, 33, 173]
abbrev dktX14_takenBefore_1 : List UInt8 := dkwX14_takenBefore_1 ++ []
def dkwX14_takenBefore_0 : List UInt8 := [9, 66, 3, 54, 5, 21, 5, 28, 162, 0, 24, 33, 42, 180, 0, 59, 21, 5, 16, 6, 104, 27, 96, 47]
abbrev dktX14_takenBefore_0 : List UInt8 := dkwX14_takenBefore_0 ++ dktX14_takenBefore_1
theorem dksX14_takenBefore_0 : cX14_takenBefore.data.toList.drop 0 = dktX14_takenBefore_0 := by decide +kernel
theorem dksX14_takenBefore_1 : cX14_takenBefore.data.toList.drop 24 = dktX14_takenBefore_1 := dk_seg dksX14_takenBefore_0 24 rfl rfl
theorem dX14_takenBefore_0 : decode cX14_takenBefore 0 = .ok (.lconst 0, 1) := dk_9 (dk_at dksX14_takenBefore_0 0 rfl rfl)
theorem dX14_takenBefore_1 : decode cX14_takenBefore 1 = .ok (.lstore_n 3, 1) := dk_66 (dk_at dksX14_takenBefore_0 1 rfl rfl)
theorem dX14_takenBefore_2 : decode cX14_takenBefore 2 = .ok (.iconst 0, 1) := dk_3 (dk_at dksX14_takenBefore_0 2 rfl rfl)
theorem dX14_takenBefore_3 : decode cX14_takenBefore 3 = .ok (.istore 5, 2) := dk_54 5 (dk_at dksX14_takenBefore_0 3 rfl rfl)
theorem dX14_takenBefore_5 : decode cX14_takenBefore 5 = .ok (.iload 5, 2) := dk_21 5 (dk_at dksX14_takenBefore_0 5 rfl rfl)
theorem dX14_takenBefore_7 : decode cX14_takenBefore 7 = .ok (.iload_n 2, 1) := dk_28 (dk_at dksX14_takenBefore_0 7 rfl rfl)
theorem dX14_takenBefore_8 : decode cX14_takenBefore 8 = .ok (.if_icmp .ge 24, 3) := dk_162 0 24 (dk_at dksX14_takenBefore_0 8 rfl rfl)
theorem dX14_takenBefore_11 : decode cX14_takenBefore 11 = .ok (.lload_n 3, 1) := dk_33 (dk_at dksX14_takenBefore_0 11 rfl rfl)
theorem dX14_takenBefore_12 : decode cX14_takenBefore 12 = .ok (.aload_n 0, 1) := dk_42 (dk_at dksX14_takenBefore_0 12 rfl rfl)
theorem dX14_takenBefore_13 : decode cX14_takenBefore 13 = .ok (.getfield 59, 3) := dk_180 0 59 (dk_at dksX14_takenBefore_0 13 rfl rfl)
theorem dX14_takenBefore_16 : decode cX14_takenBefore 16 = .ok (.iload 5, 2) := dk_21 5 (dk_at dksX14_takenBefore_0 16 rfl rfl)
theorem dX14_takenBefore_18 : decode cX14_takenBefore 18 = .ok (.bipush 6, 2) := dk_16 6 (dk_at dksX14_takenBefore_0 18 rfl rfl)
theorem dX14_takenBefore_20 : decode cX14_takenBefore 20 = .ok (.imul, 1) := dk_104 (dk_at dksX14_takenBefore_0 20 rfl rfl)
theorem dX14_takenBefore_21 : decode cX14_takenBefore 21 = .ok (.iload_n 1, 1) := dk_27 (dk_at dksX14_takenBefore_0 21 rfl rfl)
theorem dX14_takenBefore_22 : decode cX14_takenBefore 22 = .ok (.iadd, 1) := dk_96 (dk_at dksX14_takenBefore_0 22 rfl rfl)
theorem dX14_takenBefore_23 : decode cX14_takenBefore 23 = .ok (.laload, 1) := dk_47 (dk_at dksX14_takenBefore_0 23 rfl rfl)
theorem dX14_takenBefore_24 : decode cX14_takenBefore 24 = .ok (.ladd, 1) := dk_97 (dk_at dksX14_takenBefore_1 0 rfl rfl)
theorem dX14_takenBefore_25 : decode cX14_takenBefore 25 = .ok (.lstore_n 3, 1) := dk_66 (dk_at dksX14_takenBefore_1 1 rfl rfl)
theorem dX14_takenBefore_26 : decode cX14_takenBefore 26 = .ok (.iinc 5 1, 3) := dk_132 5 1 (dk_at dksX14_takenBefore_1 2 rfl rfl)
theorem dX14_takenBefore_29 : decode cX14_takenBefore 29 = .ok (.goto (-24), 3) := dk_167 255 232 (dk_at dksX14_takenBefore_1 5 rfl rfl)
theorem dX14_takenBefore_32 : decode cX14_takenBefore 32 = .ok (.lload_n 3, 1) := dk_33 (dk_at dksX14_takenBefore_1 8 rfl rfl)
theorem dX14_takenBefore_33 : decode cX14_takenBefore 33 = .ok (.lreturn, 1) := dk_173 (dk_at dksX14_takenBefore_1 9 rfl rfl)
def dkwX14_in_1 : List UInt8 := [132, 5, 1, 167, 255, 236, 33, 173]
abbrev dktX14_in_1 : List UInt8 := dkwX14_in_1 ++ []
def dkwX14_in_0 : List UInt8 := [9, 66, 3, 54, 5, 21, 5, 6, 162, 0, 20, 33, 44, 27, 6, 104, 21, 5, 96, 47, 97, 66]
abbrev dktX14_in_0 : List UInt8 := dkwX14_in_0 ++ dktX14_in_1
theorem dksX14_in_0 : cX14_in.data.toList.drop 0 = dktX14_in_0 := by decide +kernel
theorem dksX14_in_1 : cX14_in.data.toList.drop 22 = dktX14_in_1 := dk_seg dksX14_in_0 22 rfl rfl
theorem dX14_in_0 : decode cX14_in 0 = .ok (.lconst 0, 1) := dk_9 (dk_at dksX14_in_0 0 rfl rfl)
theorem dX14_in_1 : decode cX14_in 1 = .ok (.lstore_n 3, 1) := dk_66 (dk_at dksX14_in_0 1 rfl rfl)
theorem dX14_in_2 : decode cX14_in 2 = .ok (.iconst 0, 1) := dk_3 (dk_at dksX14_in_0 2 rfl rfl)
theorem dX14_in_3 : decode cX14_in 3 = .ok (.istore 5, 2) := dk_54 5 (dk_at dksX14_in_0 3 rfl rfl)
theorem dX14_in_5 : decode cX14_in 5 = .ok (.iload 5, 2) := dk_21 5 (dk_at dksX14_in_0 5 rfl rfl)
theorem dX14_in_7 : decode cX14_in 7 = .ok (.iconst 3, 1) := dk_6 (dk_at dksX14_in_0 7 rfl rfl)
theorem dX14_in_8 : decode cX14_in 8 = .ok (.if_icmp .ge 20, 3) := dk_162 0 20 (dk_at dksX14_in_0 8 rfl rfl)
theorem dX14_in_11 : decode cX14_in 11 = .ok (.lload_n 3, 1) := dk_33 (dk_at dksX14_in_0 11 rfl rfl)
theorem dX14_in_12 : decode cX14_in 12 = .ok (.aload_n 2, 1) := dk_44 (dk_at dksX14_in_0 12 rfl rfl)
theorem dX14_in_13 : decode cX14_in 13 = .ok (.iload_n 1, 1) := dk_27 (dk_at dksX14_in_0 13 rfl rfl)
theorem dX14_in_14 : decode cX14_in 14 = .ok (.iconst 3, 1) := dk_6 (dk_at dksX14_in_0 14 rfl rfl)
theorem dX14_in_15 : decode cX14_in 15 = .ok (.imul, 1) := dk_104 (dk_at dksX14_in_0 15 rfl rfl)
theorem dX14_in_16 : decode cX14_in 16 = .ok (.iload 5, 2) := dk_21 5 (dk_at dksX14_in_0 16 rfl rfl)
theorem dX14_in_18 : decode cX14_in 18 = .ok (.iadd, 1) := dk_96 (dk_at dksX14_in_0 18 rfl rfl)
theorem dX14_in_19 : decode cX14_in 19 = .ok (.laload, 1) := dk_47 (dk_at dksX14_in_0 19 rfl rfl)
theorem dX14_in_20 : decode cX14_in 20 = .ok (.ladd, 1) := dk_97 (dk_at dksX14_in_0 20 rfl rfl)
theorem dX14_in_21 : decode cX14_in 21 = .ok (.lstore_n 3, 1) := dk_66 (dk_at dksX14_in_0 21 rfl rfl)
theorem dX14_in_22 : decode cX14_in 22 = .ok (.iinc 5 1, 3) := dk_132 5 1 (dk_at dksX14_in_1 0 rfl rfl)
theorem dX14_in_25 : decode cX14_in 25 = .ok (.goto (-20), 3) := dk_167 255 236 (dk_at dksX14_in_1 3 rfl rfl)
theorem dX14_in_28 : decode cX14_in 28 = .ok (.lload_n 3, 1) := dk_33 (dk_at dksX14_in_1 6 rfl rfl)
theorem dX14_in_29 : decode cX14_in 29 = .ok (.lreturn, 1) := dk_173 (dk_at dksX14_in_1 7 rfl rfl)
def dkwX14_allTaken_1 : List UInt8 := [47, 97, 65, 132, 4, 1, 167, 255, 231, 32, 173]
abbrev dktX14_allTaken_1 : List UInt8 := dkwX14_allTaken_1 ++ []
def dkwX14_allTaken_0 : List UInt8 := [9, 65, 3, 54, 4, 21, 4, 16, 6, 162, 0, 24, 32, 42, 180, 0, 59, 27, 16, 6, 104, 21, 4, 96]
abbrev dktX14_allTaken_0 : List UInt8 := dkwX14_allTaken_0 ++ dktX14_allTaken_1
theorem dksX14_allTaken_0 : cX14_allTaken.data.toList.drop 0 = dktX14_allTaken_0 := by decide +kernel
theorem dksX14_allTaken_1 : cX14_allTaken.data.toList.drop 24 = dktX14_allTaken_1 := dk_seg dksX14_allTaken_0 24 rfl rfl
theorem dX14_allTaken_0 : decode cX14_allTaken 0 = .ok (.lconst 0, 1) := dk_9 (dk_at dksX14_allTaken_0 0 rfl rfl)
theorem dX14_allTaken_1 : decode cX14_allTaken 1 = .ok (.lstore_n 2, 1) := dk_65 (dk_at dksX14_allTaken_0 1 rfl rfl)
theorem dX14_allTaken_2 : decode cX14_allTaken 2 = .ok (.iconst 0, 1) := dk_3 (dk_at dksX14_allTaken_0 2 rfl rfl)
theorem dX14_allTaken_3 : decode cX14_allTaken 3 = .ok (.istore 4, 2) := dk_54 4 (dk_at dksX14_allTaken_0 3 rfl rfl)
theorem dX14_allTaken_5 : decode cX14_allTaken 5 = .ok (.iload 4, 2) := dk_21 4 (dk_at dksX14_allTaken_0 5 rfl rfl)
theorem dX14_allTaken_7 : decode cX14_allTaken 7 = .ok (.bipush 6, 2) := dk_16 6 (dk_at dksX14_allTaken_0 7 rfl rfl)
theorem dX14_allTaken_9 : decode cX14_allTaken 9 = .ok (.if_icmp .ge 24, 3) := dk_162 0 24 (dk_at dksX14_allTaken_0 9 rfl rfl)
theorem dX14_allTaken_12 : decode cX14_allTaken 12 = .ok (.lload_n 2, 1) := dk_32 (dk_at dksX14_allTaken_0 12 rfl rfl)
theorem dX14_allTaken_13 : decode cX14_allTaken 13 = .ok (.aload_n 0, 1) := dk_42 (dk_at dksX14_allTaken_0 13 rfl rfl)
theorem dX14_allTaken_14 : decode cX14_allTaken 14 = .ok (.getfield 59, 3) := dk_180 0 59 (dk_at dksX14_allTaken_0 14 rfl rfl)
theorem dX14_allTaken_17 : decode cX14_allTaken 17 = .ok (.iload_n 1, 1) := dk_27 (dk_at dksX14_allTaken_0 17 rfl rfl)
theorem dX14_allTaken_18 : decode cX14_allTaken 18 = .ok (.bipush 6, 2) := dk_16 6 (dk_at dksX14_allTaken_0 18 rfl rfl)
theorem dX14_allTaken_20 : decode cX14_allTaken 20 = .ok (.imul, 1) := dk_104 (dk_at dksX14_allTaken_0 20 rfl rfl)
theorem dX14_allTaken_21 : decode cX14_allTaken 21 = .ok (.iload 4, 2) := dk_21 4 (dk_at dksX14_allTaken_0 21 rfl rfl)
theorem dX14_allTaken_23 : decode cX14_allTaken 23 = .ok (.iadd, 1) := dk_96 (dk_at dksX14_allTaken_0 23 rfl rfl)
theorem dX14_allTaken_24 : decode cX14_allTaken 24 = .ok (.laload, 1) := dk_47 (dk_at dksX14_allTaken_1 0 rfl rfl)
theorem dX14_allTaken_25 : decode cX14_allTaken 25 = .ok (.ladd, 1) := dk_97 (dk_at dksX14_allTaken_1 1 rfl rfl)
theorem dX14_allTaken_26 : decode cX14_allTaken 26 = .ok (.lstore_n 2, 1) := dk_65 (dk_at dksX14_allTaken_1 2 rfl rfl)
theorem dX14_allTaken_27 : decode cX14_allTaken 27 = .ok (.iinc 4 1, 3) := dk_132 4 1 (dk_at dksX14_allTaken_1 3 rfl rfl)
theorem dX14_allTaken_30 : decode cX14_allTaken 30 = .ok (.goto (-25), 3) := dk_167 255 231 (dk_at dksX14_allTaken_1 6 rfl rfl)
theorem dX14_allTaken_33 : decode cX14_allTaken 33 = .ok (.lload_n 2, 1) := dk_32 (dk_at dksX14_allTaken_1 9 rfl rfl)
theorem dX14_allTaken_34 : decode cX14_allTaken 34 = .ok (.lreturn, 1) := dk_173 (dk_at dksX14_allTaken_1 10 rfl rfl)
def dkwX14_payouts_1 : List UInt8 := [167, 255, 237, 32, 173]
abbrev dktX14_payouts_1 : List UInt8 := dkwX14_payouts_1 ++ []
def dkwX14_payouts_0 : List UInt8 := [9, 65, 3, 54, 4, 21, 4, 27, 162, 0, 19, 32, 42, 180, 0, 56, 21, 4, 47, 97, 65, 132, 4, 1]
abbrev dktX14_payouts_0 : List UInt8 := dkwX14_payouts_0 ++ dktX14_payouts_1
theorem dksX14_payouts_0 : cX14_payouts.data.toList.drop 0 = dktX14_payouts_0 := by decide +kernel
theorem dksX14_payouts_1 : cX14_payouts.data.toList.drop 24 = dktX14_payouts_1 := dk_seg dksX14_payouts_0 24 rfl rfl
theorem dX14_payouts_0 : decode cX14_payouts 0 = .ok (.lconst 0, 1) := dk_9 (dk_at dksX14_payouts_0 0 rfl rfl)
theorem dX14_payouts_1 : decode cX14_payouts 1 = .ok (.lstore_n 2, 1) := dk_65 (dk_at dksX14_payouts_0 1 rfl rfl)
theorem dX14_payouts_2 : decode cX14_payouts 2 = .ok (.iconst 0, 1) := dk_3 (dk_at dksX14_payouts_0 2 rfl rfl)
theorem dX14_payouts_3 : decode cX14_payouts 3 = .ok (.istore 4, 2) := dk_54 4 (dk_at dksX14_payouts_0 3 rfl rfl)
theorem dX14_payouts_5 : decode cX14_payouts 5 = .ok (.iload 4, 2) := dk_21 4 (dk_at dksX14_payouts_0 5 rfl rfl)
theorem dX14_payouts_7 : decode cX14_payouts 7 = .ok (.iload_n 1, 1) := dk_27 (dk_at dksX14_payouts_0 7 rfl rfl)
theorem dX14_payouts_8 : decode cX14_payouts 8 = .ok (.if_icmp .ge 19, 3) := dk_162 0 19 (dk_at dksX14_payouts_0 8 rfl rfl)
theorem dX14_payouts_11 : decode cX14_payouts 11 = .ok (.lload_n 2, 1) := dk_32 (dk_at dksX14_payouts_0 11 rfl rfl)
theorem dX14_payouts_12 : decode cX14_payouts 12 = .ok (.aload_n 0, 1) := dk_42 (dk_at dksX14_payouts_0 12 rfl rfl)
theorem dX14_payouts_13 : decode cX14_payouts 13 = .ok (.getfield 56, 3) := dk_180 0 56 (dk_at dksX14_payouts_0 13 rfl rfl)
theorem dX14_payouts_16 : decode cX14_payouts 16 = .ok (.iload 4, 2) := dk_21 4 (dk_at dksX14_payouts_0 16 rfl rfl)
theorem dX14_payouts_18 : decode cX14_payouts 18 = .ok (.laload, 1) := dk_47 (dk_at dksX14_payouts_0 18 rfl rfl)
theorem dX14_payouts_19 : decode cX14_payouts 19 = .ok (.ladd, 1) := dk_97 (dk_at dksX14_payouts_0 19 rfl rfl)
theorem dX14_payouts_20 : decode cX14_payouts 20 = .ok (.lstore_n 2, 1) := dk_65 (dk_at dksX14_payouts_0 20 rfl rfl)
theorem dX14_payouts_21 : decode cX14_payouts 21 = .ok (.iinc 4 1, 3) := dk_132 4 1 (dk_at dksX14_payouts_0 21 rfl rfl)
theorem dX14_payouts_24 : decode cX14_payouts 24 = .ok (.goto (-19), 3) := dk_167 255 237 (dk_at dksX14_payouts_1 0 rfl rfl)
theorem dX14_payouts_27 : decode cX14_payouts 27 = .ok (.lload_n 2, 1) := dk_32 (dk_at dksX14_payouts_1 3 rfl rfl)
theorem dX14_payouts_28 : decode cX14_payouts 28 = .ok (.lreturn, 1) := dk_173 (dk_at dksX14_payouts_1 4 rfl rfl)
def dkwX15_init_1 : List UInt8 := [181, 0, 19, 42, 21, 5, 181, 0, 22, 42, 21, 6, 181, 0, 25, 42, 21, 7, 181, 0, 28, 177]
abbrev dktX15_init_1 : List UInt8 := dkwX15_init_1 ++ []
def dkwX15_init_0 : List UInt8 := [42, 183, 0, 1, 42, 27, 181, 0, 7, 42, 28, 181, 0, 13, 42, 29, 181, 0, 16, 42, 21, 4]
abbrev dktX15_init_0 : List UInt8 := dkwX15_init_0 ++ dktX15_init_1
theorem dksX15_init_0 : cX15_init.data.toList.drop 0 = dktX15_init_0 := by decide +kernel
theorem dksX15_init_1 : cX15_init.data.toList.drop 22 = dktX15_init_1 := dk_seg dksX15_init_0 22 rfl rfl
theorem dX15_init_0 : decode cX15_init 0 = .ok (.aload_n 0, 1) := dk_42 (dk_at dksX15_init_0 0 rfl rfl)
theorem dX15_init_1 : decode cX15_init 1 = .ok (.invokespecial 1, 3) := dk_183 0 1 (dk_at dksX15_init_0 1 rfl rfl)
theorem dX15_init_4 : decode cX15_init 4 = .ok (.aload_n 0, 1) := dk_42 (dk_at dksX15_init_0 4 rfl rfl)
theorem dX15_init_5 : decode cX15_init 5 = .ok (.iload_n 1, 1) := dk_27 (dk_at dksX15_init_0 5 rfl rfl)
theorem dX15_init_6 : decode cX15_init 6 = .ok (.putfield 7, 3) := dk_181 0 7 (dk_at dksX15_init_0 6 rfl rfl)
theorem dX15_init_9 : decode cX15_init 9 = .ok (.aload_n 0, 1) := dk_42 (dk_at dksX15_init_0 9 rfl rfl)
theorem dX15_init_10 : decode cX15_init 10 = .ok (.iload_n 2, 1) := dk_28 (dk_at dksX15_init_0 10 rfl rfl)
theorem dX15_init_11 : decode cX15_init 11 = .ok (.putfield 13, 3) := dk_181 0 13 (dk_at dksX15_init_0 11 rfl rfl)
theorem dX15_init_14 : decode cX15_init 14 = .ok (.aload_n 0, 1) := dk_42 (dk_at dksX15_init_0 14 rfl rfl)
theorem dX15_init_15 : decode cX15_init 15 = .ok (.iload_n 3, 1) := dk_29 (dk_at dksX15_init_0 15 rfl rfl)
theorem dX15_init_16 : decode cX15_init 16 = .ok (.putfield 16, 3) := dk_181 0 16 (dk_at dksX15_init_0 16 rfl rfl)
theorem dX15_init_19 : decode cX15_init 19 = .ok (.aload_n 0, 1) := dk_42 (dk_at dksX15_init_0 19 rfl rfl)
theorem dX15_init_20 : decode cX15_init 20 = .ok (.iload 4, 2) := dk_21 4 (dk_at dksX15_init_0 20 rfl rfl)
theorem dX15_init_22 : decode cX15_init 22 = .ok (.putfield 19, 3) := dk_181 0 19 (dk_at dksX15_init_1 0 rfl rfl)
theorem dX15_init_25 : decode cX15_init 25 = .ok (.aload_n 0, 1) := dk_42 (dk_at dksX15_init_1 3 rfl rfl)
theorem dX15_init_26 : decode cX15_init 26 = .ok (.iload 5, 2) := dk_21 5 (dk_at dksX15_init_1 4 rfl rfl)
theorem dX15_init_28 : decode cX15_init 28 = .ok (.putfield 22, 3) := dk_181 0 22 (dk_at dksX15_init_1 6 rfl rfl)
theorem dX15_init_31 : decode cX15_init 31 = .ok (.aload_n 0, 1) := dk_42 (dk_at dksX15_init_1 9 rfl rfl)
theorem dX15_init_32 : decode cX15_init 32 = .ok (.iload 6, 2) := dk_21 6 (dk_at dksX15_init_1 10 rfl rfl)
theorem dX15_init_34 : decode cX15_init 34 = .ok (.putfield 25, 3) := dk_181 0 25 (dk_at dksX15_init_1 12 rfl rfl)
theorem dX15_init_37 : decode cX15_init 37 = .ok (.aload_n 0, 1) := dk_42 (dk_at dksX15_init_1 15 rfl rfl)
theorem dX15_init_38 : decode cX15_init 38 = .ok (.iload 7, 2) := dk_21 7 (dk_at dksX15_init_1 16 rfl rfl)
theorem dX15_init_40 : decode cX15_init 40 = .ok (.putfield 28, 3) := dk_181 0 28 (dk_at dksX15_init_1 18 rfl rfl)
theorem dX15_init_43 : decode cX15_init 43 = .ok (.return_, 1) := dk_177 (dk_at dksX15_init_1 21 rfl rfl)
def dkwX16_compare_0 : List UInt8 := [42, 43, 192, 0, 8, 44, 192, 0, 8, 182, 0, 16, 172]
abbrev dktX16_compare_0 : List UInt8 := dkwX16_compare_0 ++ []
theorem dksX16_compare_0 : cX16_compare.data.toList.drop 0 = dktX16_compare_0 := by decide +kernel
theorem dX16_compare_0 : decode cX16_compare 0 = .ok (.aload_n 0, 1) := dk_42 (dk_at dksX16_compare_0 0 rfl rfl)
theorem dX16_compare_1 : decode cX16_compare 1 = .ok (.aload_n 1, 1) := dk_43 (dk_at dksX16_compare_0 1 rfl rfl)
theorem dX16_compare_2 : decode cX16_compare 2 = .ok (.checkcast 8, 3) := dk_192 0 8 (dk_at dksX16_compare_0 2 rfl rfl)
theorem dX16_compare_5 : decode cX16_compare 5 = .ok (.aload_n 2, 1) := dk_44 (dk_at dksX16_compare_0 5 rfl rfl)
theorem dX16_compare_6 : decode cX16_compare 6 = .ok (.checkcast 8, 3) := dk_192 0 8 (dk_at dksX16_compare_0 6 rfl rfl)
theorem dX16_compare_9 : decode cX16_compare 9 = .ok (.invokevirtual 16, 3) := dk_182 0 16 (dk_at dksX16_compare_0 9 rfl rfl)
theorem dX16_compare_12 : decode cX16_compare 12 = .ok (.ireturn, 1) := dk_172 (dk_at dksX16_compare_0 12 rfl rfl)
def dkwX16_compare_2_1 : List UInt8 := [180, 0, 7, 44, 180, 0, 7, 100, 172]
abbrev dktX16_compare_2_1 : List UInt8 := dkwX16_compare_2_1 ++ []
def dkwX16_compare_2_0 : List UInt8 := [43, 180, 0, 7, 44, 180, 0, 7, 160, 0, 15, 43, 180, 0, 13, 44, 180, 0, 13, 100, 167, 0, 12, 43]
abbrev dktX16_compare_2_0 : List UInt8 := dkwX16_compare_2_0 ++ dktX16_compare_2_1
theorem dksX16_compare_2_0 : cX16_compare_2.data.toList.drop 0 = dktX16_compare_2_0 := by decide +kernel
theorem dksX16_compare_2_1 : cX16_compare_2.data.toList.drop 24 = dktX16_compare_2_1 := dk_seg dksX16_compare_2_0 24 rfl rfl
theorem dX16_compare_2_0 : decode cX16_compare_2 0 = .ok (.aload_n 1, 1) := dk_43 (dk_at dksX16_compare_2_0 0 rfl rfl)
theorem dX16_compare_2_1 : decode cX16_compare_2 1 = .ok (.getfield 7, 3) := dk_180 0 7 (dk_at dksX16_compare_2_0 1 rfl rfl)
theorem dX16_compare_2_4 : decode cX16_compare_2 4 = .ok (.aload_n 2, 1) := dk_44 (dk_at dksX16_compare_2_0 4 rfl rfl)
theorem dX16_compare_2_5 : decode cX16_compare_2 5 = .ok (.getfield 7, 3) := dk_180 0 7 (dk_at dksX16_compare_2_0 5 rfl rfl)
theorem dX16_compare_2_8 : decode cX16_compare_2 8 = .ok (.if_icmp .ne 15, 3) := dk_160 0 15 (dk_at dksX16_compare_2_0 8 rfl rfl)
theorem dX16_compare_2_11 : decode cX16_compare_2 11 = .ok (.aload_n 1, 1) := dk_43 (dk_at dksX16_compare_2_0 11 rfl rfl)
theorem dX16_compare_2_12 : decode cX16_compare_2 12 = .ok (.getfield 13, 3) := dk_180 0 13 (dk_at dksX16_compare_2_0 12 rfl rfl)
theorem dX16_compare_2_15 : decode cX16_compare_2 15 = .ok (.aload_n 2, 1) := dk_44 (dk_at dksX16_compare_2_0 15 rfl rfl)
theorem dX16_compare_2_16 : decode cX16_compare_2 16 = .ok (.getfield 13, 3) := dk_180 0 13 (dk_at dksX16_compare_2_0 16 rfl rfl)
theorem dX16_compare_2_19 : decode cX16_compare_2 19 = .ok (.isub, 1) := dk_100 (dk_at dksX16_compare_2_0 19 rfl rfl)
theorem dX16_compare_2_20 : decode cX16_compare_2 20 = .ok (.goto 12, 3) := dk_167 0 12 (dk_at dksX16_compare_2_0 20 rfl rfl)
theorem dX16_compare_2_23 : decode cX16_compare_2 23 = .ok (.aload_n 1, 1) := dk_43 (dk_at dksX16_compare_2_0 23 rfl rfl)
theorem dX16_compare_2_24 : decode cX16_compare_2 24 = .ok (.getfield 7, 3) := dk_180 0 7 (dk_at dksX16_compare_2_1 0 rfl rfl)
theorem dX16_compare_2_27 : decode cX16_compare_2 27 = .ok (.aload_n 2, 1) := dk_44 (dk_at dksX16_compare_2_1 3 rfl rfl)
theorem dX16_compare_2_28 : decode cX16_compare_2 28 = .ok (.getfield 7, 3) := dk_180 0 7 (dk_at dksX16_compare_2_1 4 rfl rfl)
theorem dX16_compare_2_31 : decode cX16_compare_2 31 = .ok (.isub, 1) := dk_100 (dk_at dksX16_compare_2_1 7 rfl rfl)
theorem dX16_compare_2_32 : decode cX16_compare_2 32 = .ok (.ireturn, 1) := dk_172 (dk_at dksX16_compare_2_1 8 rfl rfl)
theorem dX16_init_0 : decode cX16_init 0 = .ok (.aload_n 0, 1) := by decide +kernel
theorem dX16_init_1 : decode cX16_init 1 = .ok (.invokespecial 1, 3) := by decide +kernel
theorem dX16_init_4 : decode cX16_init 4 = .ok (.return_, 1) := by decide +kernel
theorem dX17_person_0 : decode cX17_person 0 = .ok (.aload_n 0, 1) := by decide +kernel
theorem dX17_person_1 : decode cX17_person 1 = .ok (.getfield 7, 3) := by decide +kernel
theorem dX17_person_4 : decode cX17_person 4 = .ok (.ireturn, 1) := by decide +kernel
theorem dX17_month_0 : decode cX17_month 0 = .ok (.aload_n 0, 1) := by decide +kernel
theorem dX17_month_1 : decode cX17_month 1 = .ok (.getfield 13, 3) := by decide +kernel
theorem dX17_month_4 : decode cX17_month 4 = .ok (.ireturn, 1) := by decide +kernel
theorem dX17_cents_0 : decode cX17_cents 0 = .ok (.aload_n 0, 1) := by decide +kernel
theorem dX17_cents_1 : decode cX17_cents 1 = .ok (.getfield 16, 3) := by decide +kernel
theorem dX17_cents_4 : decode cX17_cents 4 = .ok (.ireturn, 1) := by decide +kernel
def dkwX17_init_0 : List UInt8 := [42, 183, 0, 1, 42, 27, 181, 0, 7, 42, 28, 181, 0, 13, 42, 29, 181, 0, 16, 177]
abbrev dktX17_init_0 : List UInt8 := dkwX17_init_0 ++ []
theorem dksX17_init_0 : cX17_init.data.toList.drop 0 = dktX17_init_0 := by decide +kernel
theorem dX17_init_0 : decode cX17_init 0 = .ok (.aload_n 0, 1) := dk_42 (dk_at dksX17_init_0 0 rfl rfl)
theorem dX17_init_1 : decode cX17_init 1 = .ok (.invokespecial 1, 3) := dk_183 0 1 (dk_at dksX17_init_0 1 rfl rfl)
theorem dX17_init_4 : decode cX17_init 4 = .ok (.aload_n 0, 1) := dk_42 (dk_at dksX17_init_0 4 rfl rfl)
theorem dX17_init_5 : decode cX17_init 5 = .ok (.iload_n 1, 1) := dk_27 (dk_at dksX17_init_0 5 rfl rfl)
theorem dX17_init_6 : decode cX17_init 6 = .ok (.putfield 7, 3) := dk_181 0 7 (dk_at dksX17_init_0 6 rfl rfl)
theorem dX17_init_9 : decode cX17_init 9 = .ok (.aload_n 0, 1) := dk_42 (dk_at dksX17_init_0 9 rfl rfl)
theorem dX17_init_10 : decode cX17_init 10 = .ok (.iload_n 2, 1) := dk_28 (dk_at dksX17_init_0 10 rfl rfl)
theorem dX17_init_11 : decode cX17_init 11 = .ok (.putfield 13, 3) := dk_181 0 13 (dk_at dksX17_init_0 11 rfl rfl)
theorem dX17_init_14 : decode cX17_init 14 = .ok (.aload_n 0, 1) := dk_42 (dk_at dksX17_init_0 14 rfl rfl)
theorem dX17_init_15 : decode cX17_init 15 = .ok (.iload_n 3, 1) := dk_29 (dk_at dksX17_init_0 15 rfl rfl)
theorem dX17_init_16 : decode cX17_init 16 = .ok (.putfield 16, 3) := dk_181 0 16 (dk_at dksX17_init_0 16 rfl rfl)
theorem dX17_init_19 : decode cX17_init 19 = .ok (.return_, 1) := dk_177 (dk_at dksX17_init_0 19 rfl rfl)
def dkwX18_init_0 : List UInt8 := [42, 183, 0, 1, 42, 27, 181, 0, 7, 42, 28, 181, 0, 13, 42, 33, 181, 0, 16, 177]
abbrev dktX18_init_0 : List UInt8 := dkwX18_init_0 ++ []
theorem dksX18_init_0 : cX18_init.data.toList.drop 0 = dktX18_init_0 := by decide +kernel
theorem dX18_init_0 : decode cX18_init 0 = .ok (.aload_n 0, 1) := dk_42 (dk_at dksX18_init_0 0 rfl rfl)
theorem dX18_init_1 : decode cX18_init 1 = .ok (.invokespecial 1, 3) := dk_183 0 1 (dk_at dksX18_init_0 1 rfl rfl)
theorem dX18_init_4 : decode cX18_init 4 = .ok (.aload_n 0, 1) := dk_42 (dk_at dksX18_init_0 4 rfl rfl)
theorem dX18_init_5 : decode cX18_init 5 = .ok (.iload_n 1, 1) := dk_27 (dk_at dksX18_init_0 5 rfl rfl)
theorem dX18_init_6 : decode cX18_init 6 = .ok (.putfield 7, 3) := dk_181 0 7 (dk_at dksX18_init_0 6 rfl rfl)
theorem dX18_init_9 : decode cX18_init 9 = .ok (.aload_n 0, 1) := dk_42 (dk_at dksX18_init_0 9 rfl rfl)
theorem dX18_init_10 : decode cX18_init 10 = .ok (.iload_n 2, 1) := dk_28 (dk_at dksX18_init_0 10 rfl rfl)
theorem dX18_init_11 : decode cX18_init 11 = .ok (.putfield 13, 3) := dk_181 0 13 (dk_at dksX18_init_0 11 rfl rfl)
theorem dX18_init_14 : decode cX18_init 14 = .ok (.aload_n 0, 1) := dk_42 (dk_at dksX18_init_0 14 rfl rfl)
theorem dX18_init_15 : decode cX18_init 15 = .ok (.lload_n 3, 1) := dk_33 (dk_at dksX18_init_0 15 rfl rfl)
theorem dX18_init_16 : decode cX18_init 16 = .ok (.putfield 16, 3) := dk_181 0 16 (dk_at dksX18_init_0 16 rfl rfl)
theorem dX18_init_19 : decode cX18_init 19 = .ok (.return_, 1) := dk_177 (dk_at dksX18_init_0 19 rfl rfl)
