set_option maxRecDepth 100000
def dkwX1_init_14 : List UInt8 := [185, 0, 97, 2, 0, 87, 132, 1, 1, 167, 255, 205, 177]
abbrev dktX1_init_14 : List UInt8 := dkwX1_init_14 ++ []
def dkwX1_init_13 : List UInt8 := [185, 0, 97, 2, 0, 87, 42, 180, 0, 128, 187, 0, 153, 89, 3, 184, 0, 77, 183, 0, 160]
abbrev dktX1_init_13 : List UInt8 := dkwX1_init_13 ++ dktX1_init_14
def dkwX1_init_12 : List UInt8 := [60, 27, 16, 6, 162, 0, 51, 42, 180, 0, 125, 187, 0, 153, 89, 3, 184, 0, 77, 183, 0, 160]
abbrev dktX1_init_12 : List UInt8 := dkwX1_init_12 ++ dktX1_init_13
def dkwX1_init_11 : List UInt8 := [185, 0, 97, 2, 0, 87, 42, 180, 0, 122, 44, 185, 0, 97, 2, 0, 87, 132, 1, 1, 167, 255, 161, 3]
abbrev dktX1_init_11 : List UInt8 := dkwX1_init_11 ++ dktX1_init_12
def dkwX1_init_10 : List UInt8 := [185, 0, 97, 2, 0, 87, 44, 187, 0, 153, 89, 187, 0, 53, 89, 183, 0, 55, 183, 0, 160]
abbrev dktX1_init_10 : List UInt8 := dkwX1_init_10 ++ dktX1_init_11
def dkwX1_init_9 : List UInt8 := [87, 187, 0, 53, 89, 183, 0, 55, 77, 44, 187, 0, 153, 89, 187, 0, 53, 89, 183, 0, 55, 183, 0, 160]
abbrev dktX1_init_9 : List UInt8 := dkwX1_init_9 ++ dktX1_init_10
def dkwX1_init_8 : List UInt8 := [180, 0, 119, 187, 0, 153, 89, 187, 0, 155, 89, 3, 3, 183, 0, 157, 183, 0, 160, 185, 0, 97, 2, 0]
abbrev dktX1_init_8 : List UInt8 := dkwX1_init_8 ++ dktX1_init_9
def dkwX1_init_7 : List UInt8 := [181, 0, 145, 42, 6, 16, 24, 197, 0, 148, 2, 181, 0, 150, 3, 60, 27, 6, 162, 0, 96, 42]
abbrev dktX1_init_7 : List UInt8 := dkwX1_init_7 ++ dktX1_init_8
def dkwX1_init_6 : List UInt8 := [181, 0, 137, 42, 187, 0, 53, 89, 183, 0, 55, 181, 0, 140, 42, 6, 16, 24, 5, 197, 0, 143, 3]
abbrev dktX1_init_6 : List UInt8 := dkwX1_init_6 ++ dktX1_init_7
def dkwX1_init_5 : List UInt8 := [181, 0, 131, 42, 187, 0, 53, 89, 183, 0, 55, 181, 0, 134, 42, 187, 0, 53, 89, 183, 0, 55]
abbrev dktX1_init_5 : List UInt8 := dkwX1_init_5 ++ dktX1_init_6
def dkwX1_init_4 : List UInt8 := [181, 0, 125, 42, 187, 0, 53, 89, 183, 0, 55, 181, 0, 128, 42, 187, 0, 53, 89, 183, 0, 55]
abbrev dktX1_init_4 : List UInt8 := dkwX1_init_4 ++ dktX1_init_5
def dkwX1_init_3 : List UInt8 := [181, 0, 119, 42, 187, 0, 53, 89, 183, 0, 55, 181, 0, 122, 42, 187, 0, 53, 89, 183, 0, 55]
abbrev dktX1_init_3 : List UInt8 := dkwX1_init_3 ++ dktX1_init_4
def dkwX1_init_2 : List UInt8 := [181, 0, 111, 42, 16, 6, 16, 24, 6, 197, 0, 114, 3, 181, 0, 116, 42, 187, 0, 53, 89, 183, 0, 55]
abbrev dktX1_init_2 : List UInt8 := dkwX1_init_2 ++ dktX1_init_3
def dkwX1_init_1 : List UInt8 := [181, 0, 105, 42, 187, 0, 53, 89, 183, 0, 55, 181, 0, 108, 42, 187, 0, 53, 89, 183, 0, 55]
abbrev dktX1_init_1 : List UInt8 := dkwX1_init_1 ++ dktX1_init_2
def dkwX1_init_0 : List UInt8 := [42, 183, 0, 98, 42, 187, 0, 53, 89, 183, 0, 55, 181, 0, 101, 42, 187, 0, 53, 89, 183, 0, 55]
abbrev dktX1_init_0 : List UInt8 := dkwX1_init_0 ++ dktX1_init_1
theorem dksX1_init_0 : cX1_init.data.toList.drop 0 = dktX1_init_0 := by decide +kernel
theorem dksX1_init_1 : cX1_init.data.toList.drop 23 = dktX1_init_1 := dk_seg dksX1_init_0 23 rfl rfl
theorem dksX1_init_2 : cX1_init.data.toList.drop 45 = dktX1_init_2 := dk_seg dksX1_init_1 22 rfl rfl
theorem dksX1_init_3 : cX1_init.data.toList.drop 69 = dktX1_init_3 := dk_seg dksX1_init_2 24 rfl rfl
theorem dksX1_init_4 : cX1_init.data.toList.drop 91 = dktX1_init_4 := dk_seg dksX1_init_3 22 rfl rfl
theorem dksX1_init_5 : cX1_init.data.toList.drop 113 = dktX1_init_5 := dk_seg dksX1_init_4 22 rfl rfl
theorem dksX1_init_6 : cX1_init.data.toList.drop 135 = dktX1_init_6 := dk_seg dksX1_init_5 22 rfl rfl
theorem dksX1_init_7 : cX1_init.data.toList.drop 158 = dktX1_init_7 := dk_seg dksX1_init_6 23 rfl rfl
theorem dksX1_init_8 : cX1_init.data.toList.drop 180 = dktX1_init_8 := dk_seg dksX1_init_7 22 rfl rfl
theorem dksX1_init_9 : cX1_init.data.toList.drop 204 = dktX1_init_9 := dk_seg dksX1_init_8 24 rfl rfl
theorem dksX1_init_10 : cX1_init.data.toList.drop 228 = dktX1_init_10 := dk_seg dksX1_init_9 24 rfl rfl
theorem dksX1_init_11 : cX1_init.data.toList.drop 249 = dktX1_init_11 := dk_seg dksX1_init_10 21 rfl rfl
theorem dksX1_init_12 : cX1_init.data.toList.drop 273 = dktX1_init_12 := dk_seg dksX1_init_11 24 rfl rfl
theorem dksX1_init_13 : cX1_init.data.toList.drop 295 = dktX1_init_13 := dk_seg dksX1_init_12 22 rfl rfl
theorem dksX1_init_14 : cX1_init.data.toList.drop 316 = dktX1_init_14 := dk_seg dksX1_init_13 21 rfl rfl
theorem dX1_init_0 : decode cX1_init 0 = .ok (.aload_n 0, 1) := dk_42 (dk_at dksX1_init_0 0 rfl rfl)
theorem dX1_init_1 : decode cX1_init 1 = .ok (.invokespecial 98, 3) := dk_183 0 98 (dk_at dksX1_init_0 1 rfl rfl)
theorem dX1_init_4 : decode cX1_init 4 = .ok (.aload_n 0, 1) := dk_42 (dk_at dksX1_init_0 4 rfl rfl)
theorem dX1_init_5 : decode cX1_init 5 = .ok (.new 53, 3) := dk_187 0 53 (dk_at dksX1_init_0 5 rfl rfl)
theorem dX1_init_8 : decode cX1_init 8 = .ok (.dup, 1) := dk_89 (dk_at dksX1_init_0 8 rfl rfl)
theorem dX1_init_9 : decode cX1_init 9 = .ok (.invokespecial 55, 3) := dk_183 0 55 (dk_at dksX1_init_0 9 rfl rfl)
theorem dX1_init_12 : decode cX1_init 12 = .ok (.putfield 101, 3) := dk_181 0 101 (dk_at dksX1_init_0 12 rfl rfl)
theorem dX1_init_15 : decode cX1_init 15 = .ok (.aload_n 0, 1) := dk_42 (dk_at dksX1_init_0 15 rfl rfl)
theorem dX1_init_16 : decode cX1_init 16 = .ok (.new 53, 3) := dk_187 0 53 (dk_at dksX1_init_0 16 rfl rfl)
theorem dX1_init_19 : decode cX1_init 19 = .ok (.dup, 1) := dk_89 (dk_at dksX1_init_0 19 rfl rfl)
theorem dX1_init_20 : decode cX1_init 20 = .ok (.invokespecial 55, 3) := dk_183 0 55 (dk_at dksX1_init_0 20 rfl rfl)
theorem dX1_init_23 : decode cX1_init 23 = .ok (.putfield 105, 3) := dk_181 0 105 (dk_at dksX1_init_1 0 rfl rfl)
theorem dX1_init_26 : decode cX1_init 26 = .ok (.aload_n 0, 1) := dk_42 (dk_at dksX1_init_1 3 rfl rfl)
theorem dX1_init_27 : decode cX1_init 27 = .ok (.new 53, 3) := dk_187 0 53 (dk_at dksX1_init_1 4 rfl rfl)
theorem dX1_init_30 : decode cX1_init 30 = .ok (.dup, 1) := dk_89 (dk_at dksX1_init_1 7 rfl rfl)
theorem dX1_init_31 : decode cX1_init 31 = .ok (.invokespecial 55, 3) := dk_183 0 55 (dk_at dksX1_init_1 8 rfl rfl)
theorem dX1_init_34 : decode cX1_init 34 = .ok (.putfield 108, 3) := dk_181 0 108 (dk_at dksX1_init_1 11 rfl rfl)
theorem dX1_init_37 : decode cX1_init 37 = .ok (.aload_n 0, 1) := dk_42 (dk_at dksX1_init_1 14 rfl rfl)
theorem dX1_init_38 : decode cX1_init 38 = .ok (.new 53, 3) := dk_187 0 53 (dk_at dksX1_init_1 15 rfl rfl)
theorem dX1_init_41 : decode cX1_init 41 = .ok (.dup, 1) := dk_89 (dk_at dksX1_init_1 18 rfl rfl)
theorem dX1_init_42 : decode cX1_init 42 = .ok (.invokespecial 55, 3) := dk_183 0 55 (dk_at dksX1_init_1 19 rfl rfl)
theorem dX1_init_45 : decode cX1_init 45 = .ok (.putfield 111, 3) := dk_181 0 111 (dk_at dksX1_init_2 0 rfl rfl)
theorem dX1_init_48 : decode cX1_init 48 = .ok (.aload_n 0, 1) := dk_42 (dk_at dksX1_init_2 3 rfl rfl)
theorem dX1_init_49 : decode cX1_init 49 = .ok (.bipush 6, 2) := dk_16 6 (dk_at dksX1_init_2 4 rfl rfl)
theorem dX1_init_51 : decode cX1_init 51 = .ok (.bipush 24, 2) := dk_16 24 (dk_at dksX1_init_2 6 rfl rfl)
theorem dX1_init_53 : decode cX1_init 53 = .ok (.iconst 3, 1) := dk_6 (dk_at dksX1_init_2 8 rfl rfl)
theorem dX1_init_54 : decode cX1_init 54 = .ok (.multianewarray 114 3, 4) := by decide +kernel
theorem dX1_init_58 : decode cX1_init 58 = .ok (.putfield 116, 3) := dk_181 0 116 (dk_at dksX1_init_2 13 rfl rfl)
theorem dX1_init_61 : decode cX1_init 61 = .ok (.aload_n 0, 1) := dk_42 (dk_at dksX1_init_2 16 rfl rfl)
theorem dX1_init_62 : decode cX1_init 62 = .ok (.new 53, 3) := dk_187 0 53 (dk_at dksX1_init_2 17 rfl rfl)
theorem dX1_init_65 : decode cX1_init 65 = .ok (.dup, 1) := dk_89 (dk_at dksX1_init_2 20 rfl rfl)
theorem dX1_init_66 : decode cX1_init 66 = .ok (.invokespecial 55, 3) := dk_183 0 55 (dk_at dksX1_init_2 21 rfl rfl)
theorem dX1_init_69 : decode cX1_init 69 = .ok (.putfield 119, 3) := dk_181 0 119 (dk_at dksX1_init_3 0 rfl rfl)
theorem dX1_init_72 : decode cX1_init 72 = .ok (.aload_n 0, 1) := dk_42 (dk_at dksX1_init_3 3 rfl rfl)
theorem dX1_init_73 : decode cX1_init 73 = .ok (.new 53, 3) := dk_187 0 53 (dk_at dksX1_init_3 4 rfl rfl)
theorem dX1_init_76 : decode cX1_init 76 = .ok (.dup, 1) := dk_89 (dk_at dksX1_init_3 7 rfl rfl)
theorem dX1_init_77 : decode cX1_init 77 = .ok (.invokespecial 55, 3) := dk_183 0 55 (dk_at dksX1_init_3 8 rfl rfl)
theorem dX1_init_80 : decode cX1_init 80 = .ok (.putfield 122, 3) := dk_181 0 122 (dk_at dksX1_init_3 11 rfl rfl)
theorem dX1_init_83 : decode cX1_init 83 = .ok (.aload_n 0, 1) := dk_42 (dk_at dksX1_init_3 14 rfl rfl)
theorem dX1_init_84 : decode cX1_init 84 = .ok (.new 53, 3) := dk_187 0 53 (dk_at dksX1_init_3 15 rfl rfl)
theorem dX1_init_87 : decode cX1_init 87 = .ok (.dup, 1) := dk_89 (dk_at dksX1_init_3 18 rfl rfl)
theorem dX1_init_88 : decode cX1_init 88 = .ok (.invokespecial 55, 3) := dk_183 0 55 (dk_at dksX1_init_3 19 rfl rfl)
theorem dX1_init_91 : decode cX1_init 91 = .ok (.putfield 125, 3) := dk_181 0 125 (dk_at dksX1_init_4 0 rfl rfl)
theorem dX1_init_94 : decode cX1_init 94 = .ok (.aload_n 0, 1) := dk_42 (dk_at dksX1_init_4 3 rfl rfl)
theorem dX1_init_95 : decode cX1_init 95 = .ok (.new 53, 3) := dk_187 0 53 (dk_at dksX1_init_4 4 rfl rfl)
theorem dX1_init_98 : decode cX1_init 98 = .ok (.dup, 1) := dk_89 (dk_at dksX1_init_4 7 rfl rfl)
theorem dX1_init_99 : decode cX1_init 99 = .ok (.invokespecial 55, 3) := dk_183 0 55 (dk_at dksX1_init_4 8 rfl rfl)
theorem dX1_init_102 : decode cX1_init 102 = .ok (.putfield 128, 3) := dk_181 0 128 (dk_at dksX1_init_4 11 rfl rfl)
theorem dX1_init_105 : decode cX1_init 105 = .ok (.aload_n 0, 1) := dk_42 (dk_at dksX1_init_4 14 rfl rfl)
theorem dX1_init_106 : decode cX1_init 106 = .ok (.new 53, 3) := dk_187 0 53 (dk_at dksX1_init_4 15 rfl rfl)
theorem dX1_init_109 : decode cX1_init 109 = .ok (.dup, 1) := dk_89 (dk_at dksX1_init_4 18 rfl rfl)
theorem dX1_init_110 : decode cX1_init 110 = .ok (.invokespecial 55, 3) := dk_183 0 55 (dk_at dksX1_init_4 19 rfl rfl)
theorem dX1_init_113 : decode cX1_init 113 = .ok (.putfield 131, 3) := dk_181 0 131 (dk_at dksX1_init_5 0 rfl rfl)
theorem dX1_init_116 : decode cX1_init 116 = .ok (.aload_n 0, 1) := dk_42 (dk_at dksX1_init_5 3 rfl rfl)
theorem dX1_init_117 : decode cX1_init 117 = .ok (.new 53, 3) := dk_187 0 53 (dk_at dksX1_init_5 4 rfl rfl)
theorem dX1_init_120 : decode cX1_init 120 = .ok (.dup, 1) := dk_89 (dk_at dksX1_init_5 7 rfl rfl)
theorem dX1_init_121 : decode cX1_init 121 = .ok (.invokespecial 55, 3) := dk_183 0 55 (dk_at dksX1_init_5 8 rfl rfl)
theorem dX1_init_124 : decode cX1_init 124 = .ok (.putfield 134, 3) := dk_181 0 134 (dk_at dksX1_init_5 11 rfl rfl)
theorem dX1_init_127 : decode cX1_init 127 = .ok (.aload_n 0, 1) := dk_42 (dk_at dksX1_init_5 14 rfl rfl)
theorem dX1_init_128 : decode cX1_init 128 = .ok (.new 53, 3) := dk_187 0 53 (dk_at dksX1_init_5 15 rfl rfl)
theorem dX1_init_131 : decode cX1_init 131 = .ok (.dup, 1) := dk_89 (dk_at dksX1_init_5 18 rfl rfl)
theorem dX1_init_132 : decode cX1_init 132 = .ok (.invokespecial 55, 3) := dk_183 0 55 (dk_at dksX1_init_5 19 rfl rfl)
theorem dX1_init_135 : decode cX1_init 135 = .ok (.putfield 137, 3) := dk_181 0 137 (dk_at dksX1_init_6 0 rfl rfl)
theorem dX1_init_138 : decode cX1_init 138 = .ok (.aload_n 0, 1) := dk_42 (dk_at dksX1_init_6 3 rfl rfl)
theorem dX1_init_139 : decode cX1_init 139 = .ok (.new 53, 3) := dk_187 0 53 (dk_at dksX1_init_6 4 rfl rfl)
theorem dX1_init_142 : decode cX1_init 142 = .ok (.dup, 1) := dk_89 (dk_at dksX1_init_6 7 rfl rfl)
theorem dX1_init_143 : decode cX1_init 143 = .ok (.invokespecial 55, 3) := dk_183 0 55 (dk_at dksX1_init_6 8 rfl rfl)
theorem dX1_init_146 : decode cX1_init 146 = .ok (.putfield 140, 3) := dk_181 0 140 (dk_at dksX1_init_6 11 rfl rfl)
theorem dX1_init_149 : decode cX1_init 149 = .ok (.aload_n 0, 1) := dk_42 (dk_at dksX1_init_6 14 rfl rfl)
theorem dX1_init_150 : decode cX1_init 150 = .ok (.iconst 3, 1) := dk_6 (dk_at dksX1_init_6 15 rfl rfl)
theorem dX1_init_151 : decode cX1_init 151 = .ok (.bipush 24, 2) := dk_16 24 (dk_at dksX1_init_6 16 rfl rfl)
theorem dX1_init_153 : decode cX1_init 153 = .ok (.iconst 2, 1) := dk_5 (dk_at dksX1_init_6 18 rfl rfl)
theorem dX1_init_154 : decode cX1_init 154 = .ok (.multianewarray 143 3, 4) := by decide +kernel
theorem dX1_init_158 : decode cX1_init 158 = .ok (.putfield 145, 3) := dk_181 0 145 (dk_at dksX1_init_7 0 rfl rfl)
theorem dX1_init_161 : decode cX1_init 161 = .ok (.aload_n 0, 1) := dk_42 (dk_at dksX1_init_7 3 rfl rfl)
theorem dX1_init_162 : decode cX1_init 162 = .ok (.iconst 3, 1) := dk_6 (dk_at dksX1_init_7 4 rfl rfl)
theorem dX1_init_163 : decode cX1_init 163 = .ok (.bipush 24, 2) := dk_16 24 (dk_at dksX1_init_7 5 rfl rfl)
theorem dX1_init_165 : decode cX1_init 165 = .ok (.multianewarray 148 2, 4) := by decide +kernel
theorem dX1_init_169 : decode cX1_init 169 = .ok (.putfield 150, 3) := dk_181 0 150 (dk_at dksX1_init_7 11 rfl rfl)
theorem dX1_init_172 : decode cX1_init 172 = .ok (.iconst 0, 1) := dk_3 (dk_at dksX1_init_7 14 rfl rfl)
theorem dX1_init_173 : decode cX1_init 173 = .ok (.istore_n 1, 1) := dk_60 (dk_at dksX1_init_7 15 rfl rfl)
theorem dX1_init_174 : decode cX1_init 174 = .ok (.iload_n 1, 1) := dk_27 (dk_at dksX1_init_7 16 rfl rfl)
theorem dX1_init_175 : decode cX1_init 175 = .ok (.iconst 3, 1) := dk_6 (dk_at dksX1_init_7 17 rfl rfl)
theorem dX1_init_176 : decode cX1_init 176 = .ok (.if_icmp .ge 96, 3) := dk_162 0 96 (dk_at dksX1_init_7 18 rfl rfl)
theorem dX1_init_179 : decode cX1_init 179 = .ok (.aload_n 0, 1) := dk_42 (dk_at dksX1_init_7 21 rfl rfl)
theorem dX1_init_180 : decode cX1_init 180 = .ok (.getfield 119, 3) := dk_180 0 119 (dk_at dksX1_init_8 0 rfl rfl)
theorem dX1_init_183 : decode cX1_init 183 = .ok (.new 153, 3) := dk_187 0 153 (dk_at dksX1_init_8 3 rfl rfl)
theorem dX1_init_186 : decode cX1_init 186 = .ok (.dup, 1) := dk_89 (dk_at dksX1_init_8 6 rfl rfl)
theorem dX1_init_187 : decode cX1_init 187 = .ok (.new 155, 3) := dk_187 0 155 (dk_at dksX1_init_8 7 rfl rfl)
theorem dX1_init_190 : decode cX1_init 190 = .ok (.dup, 1) := dk_89 (dk_at dksX1_init_8 10 rfl rfl)
theorem dX1_init_191 : decode cX1_init 191 = .ok (.iconst 0, 1) := dk_3 (dk_at dksX1_init_8 11 rfl rfl)
theorem dX1_init_192 : decode cX1_init 192 = .ok (.iconst 0, 1) := dk_3 (dk_at dksX1_init_8 12 rfl rfl)
theorem dX1_init_193 : decode cX1_init 193 = .ok (.invokespecial 157, 3) := dk_183 0 157 (dk_at dksX1_init_8 13 rfl rfl)
theorem dX1_init_196 : decode cX1_init 196 = .ok (.invokespecial 160, 3) := dk_183 0 160 (dk_at dksX1_init_8 16 rfl rfl)
theorem dX1_init_199 : decode cX1_init 199 = .ok (.invokeinterface 97 2, 5) := by decide +kernel
theorem dX1_init_204 : decode cX1_init 204 = .ok (.pop, 1) := dk_87 (dk_at dksX1_init_9 0 rfl rfl)
theorem dX1_init_205 : decode cX1_init 205 = .ok (.new 53, 3) := dk_187 0 53 (dk_at dksX1_init_9 1 rfl rfl)
theorem dX1_init_208 : decode cX1_init 208 = .ok (.dup, 1) := dk_89 (dk_at dksX1_init_9 4 rfl rfl)
theorem dX1_init_209 : decode cX1_init 209 = .ok (.invokespecial 55, 3) := dk_183 0 55 (dk_at dksX1_init_9 5 rfl rfl)
theorem dX1_init_212 : decode cX1_init 212 = .ok (.astore_n 2, 1) := dk_77 (dk_at dksX1_init_9 8 rfl rfl)
theorem dX1_init_213 : decode cX1_init 213 = .ok (.aload_n 2, 1) := dk_44 (dk_at dksX1_init_9 9 rfl rfl)
theorem dX1_init_214 : decode cX1_init 214 = .ok (.new 153, 3) := dk_187 0 153 (dk_at dksX1_init_9 10 rfl rfl)
theorem dX1_init_217 : decode cX1_init 217 = .ok (.dup, 1) := dk_89 (dk_at dksX1_init_9 13 rfl rfl)
theorem dX1_init_218 : decode cX1_init 218 = .ok (.new 53, 3) := dk_187 0 53 (dk_at dksX1_init_9 14 rfl rfl)
theorem dX1_init_221 : decode cX1_init 221 = .ok (.dup, 1) := dk_89 (dk_at dksX1_init_9 17 rfl rfl)
theorem dX1_init_222 : decode cX1_init 222 = .ok (.invokespecial 55, 3) := dk_183 0 55 (dk_at dksX1_init_9 18 rfl rfl)
theorem dX1_init_225 : decode cX1_init 225 = .ok (.invokespecial 160, 3) := dk_183 0 160 (dk_at dksX1_init_9 21 rfl rfl)
theorem dX1_init_228 : decode cX1_init 228 = .ok (.invokeinterface 97 2, 5) := by decide +kernel
theorem dX1_init_233 : decode cX1_init 233 = .ok (.pop, 1) := dk_87 (dk_at dksX1_init_10 5 rfl rfl)
theorem dX1_init_234 : decode cX1_init 234 = .ok (.aload_n 2, 1) := dk_44 (dk_at dksX1_init_10 6 rfl rfl)
theorem dX1_init_235 : decode cX1_init 235 = .ok (.new 153, 3) := dk_187 0 153 (dk_at dksX1_init_10 7 rfl rfl)
theorem dX1_init_238 : decode cX1_init 238 = .ok (.dup, 1) := dk_89 (dk_at dksX1_init_10 10 rfl rfl)
theorem dX1_init_239 : decode cX1_init 239 = .ok (.new 53, 3) := dk_187 0 53 (dk_at dksX1_init_10 11 rfl rfl)
theorem dX1_init_242 : decode cX1_init 242 = .ok (.dup, 1) := dk_89 (dk_at dksX1_init_10 14 rfl rfl)
theorem dX1_init_243 : decode cX1_init 243 = .ok (.invokespecial 55, 3) := dk_183 0 55 (dk_at dksX1_init_10 15 rfl rfl)
theorem dX1_init_246 : decode cX1_init 246 = .ok (.invokespecial 160, 3) := dk_183 0 160 (dk_at dksX1_init_10 18 rfl rfl)
theorem dX1_init_249 : decode cX1_init 249 = .ok (.invokeinterface 97 2, 5) := by decide +kernel
theorem dX1_init_254 : decode cX1_init 254 = .ok (.pop, 1) := dk_87 (dk_at dksX1_init_11 5 rfl rfl)
theorem dX1_init_255 : decode cX1_init 255 = .ok (.aload_n 0, 1) := dk_42 (dk_at dksX1_init_11 6 rfl rfl)
theorem dX1_init_256 : decode cX1_init 256 = .ok (.getfield 122, 3) := dk_180 0 122 (dk_at dksX1_init_11 7 rfl rfl)
theorem dX1_init_259 : decode cX1_init 259 = .ok (.aload_n 2, 1) := dk_44 (dk_at dksX1_init_11 10 rfl rfl)
theorem dX1_init_260 : decode cX1_init 260 = .ok (.invokeinterface 97 2, 5) := by decide +kernel
theorem dX1_init_265 : decode cX1_init 265 = .ok (.pop, 1) := dk_87 (dk_at dksX1_init_11 16 rfl rfl)
theorem dX1_init_266 : decode cX1_init 266 = .ok (.iinc 1 1, 3) := dk_132 1 1 (dk_at dksX1_init_11 17 rfl rfl)
theorem dX1_init_269 : decode cX1_init 269 = .ok (.goto (-95), 3) := dk_167 255 161 (dk_at dksX1_init_11 20 rfl rfl)
theorem dX1_init_272 : decode cX1_init 272 = .ok (.iconst 0, 1) := dk_3 (dk_at dksX1_init_11 23 rfl rfl)
theorem dX1_init_273 : decode cX1_init 273 = .ok (.istore_n 1, 1) := dk_60 (dk_at dksX1_init_12 0 rfl rfl)
theorem dX1_init_274 : decode cX1_init 274 = .ok (.iload_n 1, 1) := dk_27 (dk_at dksX1_init_12 1 rfl rfl)
theorem dX1_init_275 : decode cX1_init 275 = .ok (.bipush 6, 2) := dk_16 6 (dk_at dksX1_init_12 2 rfl rfl)
theorem dX1_init_277 : decode cX1_init 277 = .ok (.if_icmp .ge 51, 3) := dk_162 0 51 (dk_at dksX1_init_12 4 rfl rfl)
theorem dX1_init_280 : decode cX1_init 280 = .ok (.aload_n 0, 1) := dk_42 (dk_at dksX1_init_12 7 rfl rfl)
theorem dX1_init_281 : decode cX1_init 281 = .ok (.getfield 125, 3) := dk_180 0 125 (dk_at dksX1_init_12 8 rfl rfl)
theorem dX1_init_284 : decode cX1_init 284 = .ok (.new 153, 3) := dk_187 0 153 (dk_at dksX1_init_12 11 rfl rfl)
theorem dX1_init_287 : decode cX1_init 287 = .ok (.dup, 1) := dk_89 (dk_at dksX1_init_12 14 rfl rfl)
theorem dX1_init_288 : decode cX1_init 288 = .ok (.iconst 0, 1) := dk_3 (dk_at dksX1_init_12 15 rfl rfl)
theorem dX1_init_289 : decode cX1_init 289 = .ok (.invokestatic 77, 3) := dk_184 0 77 (dk_at dksX1_init_12 16 rfl rfl)
theorem dX1_init_292 : decode cX1_init 292 = .ok (.invokespecial 160, 3) := dk_183 0 160 (dk_at dksX1_init_12 19 rfl rfl)
theorem dX1_init_295 : decode cX1_init 295 = .ok (.invokeinterface 97 2, 5) := by decide +kernel
theorem dX1_init_300 : decode cX1_init 300 = .ok (.pop, 1) := dk_87 (dk_at dksX1_init_13 5 rfl rfl)
theorem dX1_init_301 : decode cX1_init 301 = .ok (.aload_n 0, 1) := dk_42 (dk_at dksX1_init_13 6 rfl rfl)
theorem dX1_init_302 : decode cX1_init 302 = .ok (.getfield 128, 3) := dk_180 0 128 (dk_at dksX1_init_13 7 rfl rfl)
theorem dX1_init_305 : decode cX1_init 305 = .ok (.new 153, 3) := dk_187 0 153 (dk_at dksX1_init_13 10 rfl rfl)
theorem dX1_init_308 : decode cX1_init 308 = .ok (.dup, 1) := dk_89 (dk_at dksX1_init_13 13 rfl rfl)
theorem dX1_init_309 : decode cX1_init 309 = .ok (.iconst 0, 1) := dk_3 (dk_at dksX1_init_13 14 rfl rfl)
theorem dX1_init_310 : decode cX1_init 310 = .ok (.invokestatic 77, 3) := dk_184 0 77 (dk_at dksX1_init_13 15 rfl rfl)
theorem dX1_init_313 : decode cX1_init 313 = .ok (.invokespecial 160, 3) := dk_183 0 160 (dk_at dksX1_init_13 18 rfl rfl)
theorem dX1_init_316 : decode cX1_init 316 = .ok (.invokeinterface 97 2, 5) := by decide +kernel
theorem dX1_init_321 : decode cX1_init 321 = .ok (.pop, 1) := dk_87 (dk_at dksX1_init_14 5 rfl rfl)
theorem dX1_init_322 : decode cX1_init 322 = .ok (.iinc 1 1, 3) := dk_132 1 1 (dk_at dksX1_init_14 6 rfl rfl)
theorem dX1_init_325 : decode cX1_init 325 = .ok (.goto (-51), 3) := dk_167 255 205 (dk_at dksX1_init_14 9 rfl rfl)
theorem dX1_init_328 : decode cX1_init 328 = .ok (.return_, 1) := dk_177 (dk_at dksX1_init_14 12 rfl rfl)
theorem dX1_open_0 : decode cX1_open 0 = .ok (.aload_n 0, 1) := by decide +kernel
theorem dX1_open_1 : decode cX1_open 1 = .ok (.getfield 444, 3) := by decide +kernel
theorem dX1_open_4 : decode cX1_open 4 = .ok (.ireturn, 1) := by decide +kernel
def dkwX1_payments_0 : List UInt8 := [42, 180, 0, 140, 185, 0, 62, 1, 0, 172]
abbrev dktX1_payments_0 : List UInt8 := dkwX1_payments_0 ++ []
theorem dksX1_payments_0 : cX1_payments.data.toList.drop 0 = dktX1_payments_0 := by decide +kernel
theorem dX1_payments_0 : decode cX1_payments 0 = .ok (.aload_n 0, 1) := dk_42 (dk_at dksX1_payments_0 0 rfl rfl)
theorem dX1_payments_1 : decode cX1_payments 1 = .ok (.getfield 140, 3) := dk_180 0 140 (dk_at dksX1_payments_0 1 rfl rfl)
theorem dX1_payments_4 : decode cX1_payments 4 = .ok (.invokeinterface 62 1, 5) := by decide +kernel
theorem dX1_payments_9 : decode cX1_payments 9 = .ok (.ireturn, 1) := dk_172 (dk_at dksX1_payments_0 9 rfl rfl)
def dkwX1_contract_5 : List UInt8 := [185, 0, 62, 1, 0, 4, 100, 172]
abbrev dktX1_contract_5 : List UInt8 := dkwX1_contract_5 ++ []
def dkwX1_contract_4 : List UInt8 := [21, 4, 21, 5, 21, 6, 21, 7, 183, 1, 16, 185, 0, 97, 2, 0, 87, 42, 180, 0, 101]
abbrev dktX1_contract_4 : List UInt8 := dkwX1_contract_4 ++ dktX1_contract_5
def dkwX1_contract_3 : List UInt8 := [16, 10, 162, 0, 7, 4, 167, 0, 4, 3, 184, 1, 12, 42, 180, 0, 101, 187, 0, 188, 89, 27, 28, 29]
abbrev dktX1_contract_3 : List UInt8 := dkwX1_contract_3 ++ dktX1_contract_4
def dkwX1_contract_2 : List UInt8 := [184, 1, 7, 87, 21, 7, 3, 19, 1, 11, 184, 1, 7, 87, 42, 180, 0, 101, 185, 0, 62, 1, 0]
abbrev dktX1_contract_2 : List UInt8 := dkwX1_contract_2 ++ dktX1_contract_3
def dkwX1_contract_1 : List UInt8 := [17, 2, 208, 184, 0, 251, 87, 21, 4, 29, 17, 2, 208, 184, 1, 7, 87, 21, 6, 16, 60, 17, 2, 88]
abbrev dktX1_contract_1 : List UInt8 := dkwX1_contract_1 ++ dktX1_contract_2
def dkwX1_contract_0 : List UInt8 := [27, 16, 6, 184, 0, 251, 87, 28, 6, 184, 0, 251, 87, 29, 17, 2, 208, 184, 0, 251, 87, 21, 4]
abbrev dktX1_contract_0 : List UInt8 := dkwX1_contract_0 ++ dktX1_contract_1
theorem dksX1_contract_0 : cX1_contract.data.toList.drop 0 = dktX1_contract_0 := by decide +kernel
theorem dksX1_contract_1 : cX1_contract.data.toList.drop 23 = dktX1_contract_1 := dk_seg dksX1_contract_0 23 rfl rfl
theorem dksX1_contract_2 : cX1_contract.data.toList.drop 47 = dktX1_contract_2 := dk_seg dksX1_contract_1 24 rfl rfl
theorem dksX1_contract_3 : cX1_contract.data.toList.drop 70 = dktX1_contract_3 := dk_seg dksX1_contract_2 23 rfl rfl
theorem dksX1_contract_4 : cX1_contract.data.toList.drop 94 = dktX1_contract_4 := dk_seg dksX1_contract_3 24 rfl rfl
theorem dksX1_contract_5 : cX1_contract.data.toList.drop 115 = dktX1_contract_5 := dk_seg dksX1_contract_4 21 rfl rfl
theorem dX1_contract_0 : decode cX1_contract 0 = .ok (.iload_n 1, 1) := dk_27 (dk_at dksX1_contract_0 0 rfl rfl)
theorem dX1_contract_1 : decode cX1_contract 1 = .ok (.bipush 6, 2) := dk_16 6 (dk_at dksX1_contract_0 1 rfl rfl)
theorem dX1_contract_3 : decode cX1_contract 3 = .ok (.invokestatic 251, 3) := dk_184 0 251 (dk_at dksX1_contract_0 3 rfl rfl)
theorem dX1_contract_6 : decode cX1_contract 6 = .ok (.pop, 1) := dk_87 (dk_at dksX1_contract_0 6 rfl rfl)
theorem dX1_contract_7 : decode cX1_contract 7 = .ok (.iload_n 2, 1) := dk_28 (dk_at dksX1_contract_0 7 rfl rfl)
theorem dX1_contract_8 : decode cX1_contract 8 = .ok (.iconst 3, 1) := dk_6 (dk_at dksX1_contract_0 8 rfl rfl)
theorem dX1_contract_9 : decode cX1_contract 9 = .ok (.invokestatic 251, 3) := dk_184 0 251 (dk_at dksX1_contract_0 9 rfl rfl)
theorem dX1_contract_12 : decode cX1_contract 12 = .ok (.pop, 1) := dk_87 (dk_at dksX1_contract_0 12 rfl rfl)
theorem dX1_contract_13 : decode cX1_contract 13 = .ok (.iload_n 3, 1) := dk_29 (dk_at dksX1_contract_0 13 rfl rfl)
theorem dX1_contract_14 : decode cX1_contract 14 = .ok (.sipush 720, 3) := dk_17 2 208 (dk_at dksX1_contract_0 14 rfl rfl)
theorem dX1_contract_17 : decode cX1_contract 17 = .ok (.invokestatic 251, 3) := dk_184 0 251 (dk_at dksX1_contract_0 17 rfl rfl)
theorem dX1_contract_20 : decode cX1_contract 20 = .ok (.pop, 1) := dk_87 (dk_at dksX1_contract_0 20 rfl rfl)
theorem dX1_contract_21 : decode cX1_contract 21 = .ok (.iload 4, 2) := dk_21 4 (dk_at dksX1_contract_0 21 rfl rfl)
theorem dX1_contract_23 : decode cX1_contract 23 = .ok (.sipush 720, 3) := dk_17 2 208 (dk_at dksX1_contract_1 0 rfl rfl)
theorem dX1_contract_26 : decode cX1_contract 26 = .ok (.invokestatic 251, 3) := dk_184 0 251 (dk_at dksX1_contract_1 3 rfl rfl)
theorem dX1_contract_29 : decode cX1_contract 29 = .ok (.pop, 1) := dk_87 (dk_at dksX1_contract_1 6 rfl rfl)
theorem dX1_contract_30 : decode cX1_contract 30 = .ok (.iload 4, 2) := dk_21 4 (dk_at dksX1_contract_1 7 rfl rfl)
theorem dX1_contract_32 : decode cX1_contract 32 = .ok (.iload_n 3, 1) := dk_29 (dk_at dksX1_contract_1 9 rfl rfl)
theorem dX1_contract_33 : decode cX1_contract 33 = .ok (.sipush 720, 3) := dk_17 2 208 (dk_at dksX1_contract_1 10 rfl rfl)
theorem dX1_contract_36 : decode cX1_contract 36 = .ok (.invokestatic 263, 3) := dk_184 1 7 (dk_at dksX1_contract_1 13 rfl rfl)
theorem dX1_contract_39 : decode cX1_contract 39 = .ok (.pop, 1) := dk_87 (dk_at dksX1_contract_1 16 rfl rfl)
theorem dX1_contract_40 : decode cX1_contract 40 = .ok (.iload 6, 2) := dk_21 6 (dk_at dksX1_contract_1 17 rfl rfl)
theorem dX1_contract_42 : decode cX1_contract 42 = .ok (.bipush 60, 2) := dk_16 60 (dk_at dksX1_contract_1 19 rfl rfl)
theorem dX1_contract_44 : decode cX1_contract 44 = .ok (.sipush 600, 3) := dk_17 2 88 (dk_at dksX1_contract_1 21 rfl rfl)
theorem dX1_contract_47 : decode cX1_contract 47 = .ok (.invokestatic 263, 3) := dk_184 1 7 (dk_at dksX1_contract_2 0 rfl rfl)
theorem dX1_contract_50 : decode cX1_contract 50 = .ok (.pop, 1) := dk_87 (dk_at dksX1_contract_2 3 rfl rfl)
theorem dX1_contract_51 : decode cX1_contract 51 = .ok (.iload 7, 2) := dk_21 7 (dk_at dksX1_contract_2 4 rfl rfl)
theorem dX1_contract_53 : decode cX1_contract 53 = .ok (.iconst 0, 1) := dk_3 (dk_at dksX1_contract_2 6 rfl rfl)
theorem dX1_contract_54 : decode cX1_contract 54 = .ok (.ldc_w 267, 3) := dk_19 1 11 (dk_at dksX1_contract_2 7 rfl rfl)
theorem dX1_contract_57 : decode cX1_contract 57 = .ok (.invokestatic 263, 3) := dk_184 1 7 (dk_at dksX1_contract_2 10 rfl rfl)
theorem dX1_contract_60 : decode cX1_contract 60 = .ok (.pop, 1) := dk_87 (dk_at dksX1_contract_2 13 rfl rfl)
theorem dX1_contract_61 : decode cX1_contract 61 = .ok (.aload_n 0, 1) := dk_42 (dk_at dksX1_contract_2 14 rfl rfl)
theorem dX1_contract_62 : decode cX1_contract 62 = .ok (.getfield 101, 3) := dk_180 0 101 (dk_at dksX1_contract_2 15 rfl rfl)
theorem dX1_contract_65 : decode cX1_contract 65 = .ok (.invokeinterface 62 1, 5) := by decide +kernel
theorem dX1_contract_70 : decode cX1_contract 70 = .ok (.bipush 10, 2) := dk_16 10 (dk_at dksX1_contract_3 0 rfl rfl)
theorem dX1_contract_72 : decode cX1_contract 72 = .ok (.if_icmp .ge 7, 3) := dk_162 0 7 (dk_at dksX1_contract_3 2 rfl rfl)
theorem dX1_contract_75 : decode cX1_contract 75 = .ok (.iconst 1, 1) := dk_4 (dk_at dksX1_contract_3 5 rfl rfl)
theorem dX1_contract_76 : decode cX1_contract 76 = .ok (.goto 4, 3) := dk_167 0 4 (dk_at dksX1_contract_3 6 rfl rfl)
theorem dX1_contract_79 : decode cX1_contract 79 = .ok (.iconst 0, 1) := dk_3 (dk_at dksX1_contract_3 9 rfl rfl)
theorem dX1_contract_80 : decode cX1_contract 80 = .ok (.invokestatic 268, 3) := dk_184 1 12 (dk_at dksX1_contract_3 10 rfl rfl)
theorem dX1_contract_83 : decode cX1_contract 83 = .ok (.aload_n 0, 1) := dk_42 (dk_at dksX1_contract_3 13 rfl rfl)
theorem dX1_contract_84 : decode cX1_contract 84 = .ok (.getfield 101, 3) := dk_180 0 101 (dk_at dksX1_contract_3 14 rfl rfl)
theorem dX1_contract_87 : decode cX1_contract 87 = .ok (.new 188, 3) := dk_187 0 188 (dk_at dksX1_contract_3 17 rfl rfl)
theorem dX1_contract_90 : decode cX1_contract 90 = .ok (.dup, 1) := dk_89 (dk_at dksX1_contract_3 20 rfl rfl)
theorem dX1_contract_91 : decode cX1_contract 91 = .ok (.iload_n 1, 1) := dk_27 (dk_at dksX1_contract_3 21 rfl rfl)
theorem dX1_contract_92 : decode cX1_contract 92 = .ok (.iload_n 2, 1) := dk_28 (dk_at dksX1_contract_3 22 rfl rfl)
theorem dX1_contract_93 : decode cX1_contract 93 = .ok (.iload_n 3, 1) := dk_29 (dk_at dksX1_contract_3 23 rfl rfl)
theorem dX1_contract_94 : decode cX1_contract 94 = .ok (.iload 4, 2) := dk_21 4 (dk_at dksX1_contract_4 0 rfl rfl)
theorem dX1_contract_96 : decode cX1_contract 96 = .ok (.iload 5, 2) := dk_21 5 (dk_at dksX1_contract_4 2 rfl rfl)
theorem dX1_contract_98 : decode cX1_contract 98 = .ok (.iload 6, 2) := dk_21 6 (dk_at dksX1_contract_4 4 rfl rfl)
theorem dX1_contract_100 : decode cX1_contract 100 = .ok (.iload 7, 2) := dk_21 7 (dk_at dksX1_contract_4 6 rfl rfl)
theorem dX1_contract_102 : decode cX1_contract 102 = .ok (.invokespecial 272, 3) := dk_183 1 16 (dk_at dksX1_contract_4 8 rfl rfl)
theorem dX1_contract_105 : decode cX1_contract 105 = .ok (.invokeinterface 97 2, 5) := by decide +kernel
theorem dX1_contract_110 : decode cX1_contract 110 = .ok (.pop, 1) := dk_87 (dk_at dksX1_contract_4 16 rfl rfl)
theorem dX1_contract_111 : decode cX1_contract 111 = .ok (.aload_n 0, 1) := dk_42 (dk_at dksX1_contract_4 17 rfl rfl)
theorem dX1_contract_112 : decode cX1_contract 112 = .ok (.getfield 101, 3) := dk_180 0 101 (dk_at dksX1_contract_4 18 rfl rfl)
theorem dX1_contract_115 : decode cX1_contract 115 = .ok (.invokeinterface 62 1, 5) := by decide +kernel
theorem dX1_contract_120 : decode cX1_contract 120 = .ok (.iconst 1, 1) := dk_4 (dk_at dksX1_contract_5 5 rfl rfl)
theorem dX1_contract_121 : decode cX1_contract 121 = .ok (.isub, 1) := dk_100 (dk_at dksX1_contract_5 6 rfl rfl)
theorem dX1_contract_122 : decode cX1_contract 122 = .ok (.ireturn, 1) := dk_172 (dk_at dksX1_contract_5 7 rfl rfl)
def dkwX1_at_0 : List UInt8 := [26, 155, 0, 8, 26, 27, 161, 0, 13, 187, 0, 234, 89, 18, 236, 183, 0, 238, 191, 26, 172]
abbrev dktX1_at_0 : List UInt8 := dkwX1_at_0 ++ []
theorem dksX1_at_0 : cX1_at.data.toList.drop 0 = dktX1_at_0 := by decide +kernel
theorem dX1_at_0 : decode cX1_at 0 = .ok (.iload_n 0, 1) := dk_26 (dk_at dksX1_at_0 0 rfl rfl)
theorem dX1_at_1 : decode cX1_at 1 = .ok (.ifCond .lt 8, 3) := dk_155 0 8 (dk_at dksX1_at_0 1 rfl rfl)
theorem dX1_at_4 : decode cX1_at 4 = .ok (.iload_n 0, 1) := dk_26 (dk_at dksX1_at_0 4 rfl rfl)
theorem dX1_at_5 : decode cX1_at 5 = .ok (.iload_n 1, 1) := dk_27 (dk_at dksX1_at_0 5 rfl rfl)
theorem dX1_at_6 : decode cX1_at 6 = .ok (.if_icmp .lt 13, 3) := dk_161 0 13 (dk_at dksX1_at_0 6 rfl rfl)
theorem dX1_at_9 : decode cX1_at 9 = .ok (.new 234, 3) := dk_187 0 234 (dk_at dksX1_at_0 9 rfl rfl)
theorem dX1_at_12 : decode cX1_at 12 = .ok (.dup, 1) := dk_89 (dk_at dksX1_at_0 12 rfl rfl)
theorem dX1_at_13 : decode cX1_at 13 = .ok (.ldc 236, 2) := dk_18 236 (dk_at dksX1_at_0 13 rfl rfl)
theorem dX1_at_15 : decode cX1_at 15 = .ok (.invokespecial 238, 3) := dk_183 0 238 (dk_at dksX1_at_0 15 rfl rfl)
theorem dX1_at_18 : decode cX1_at 18 = .ok (.athrow, 1) := dk_191 (dk_at dksX1_at_0 18 rfl rfl)
theorem dX1_at_19 : decode cX1_at 19 = .ok (.iload_n 0, 1) := dk_26 (dk_at dksX1_at_0 19 rfl rfl)
theorem dX1_at_20 : decode cX1_at 20 = .ok (.ireturn, 1) := dk_172 (dk_at dksX1_at_0 20 rfl rfl)
def dkwX1_in_0 : List UInt8 := [26, 27, 161, 0, 8, 26, 28, 164, 0, 13, 187, 0, 241, 89, 18, 243, 183, 0, 245, 191, 26, 172]
abbrev dktX1_in_0 : List UInt8 := dkwX1_in_0 ++ []
theorem dksX1_in_0 : cX1_in.data.toList.drop 0 = dktX1_in_0 := by decide +kernel
theorem dX1_in_0 : decode cX1_in 0 = .ok (.iload_n 0, 1) := dk_26 (dk_at dksX1_in_0 0 rfl rfl)
theorem dX1_in_1 : decode cX1_in 1 = .ok (.iload_n 1, 1) := dk_27 (dk_at dksX1_in_0 1 rfl rfl)
theorem dX1_in_2 : decode cX1_in 2 = .ok (.if_icmp .lt 8, 3) := dk_161 0 8 (dk_at dksX1_in_0 2 rfl rfl)
theorem dX1_in_5 : decode cX1_in 5 = .ok (.iload_n 0, 1) := dk_26 (dk_at dksX1_in_0 5 rfl rfl)
theorem dX1_in_6 : decode cX1_in 6 = .ok (.iload_n 2, 1) := dk_28 (dk_at dksX1_in_0 6 rfl rfl)
theorem dX1_in_7 : decode cX1_in 7 = .ok (.if_icmp .le 13, 3) := dk_164 0 13 (dk_at dksX1_in_0 7 rfl rfl)
theorem dX1_in_10 : decode cX1_in 10 = .ok (.new 241, 3) := dk_187 0 241 (dk_at dksX1_in_0 10 rfl rfl)
theorem dX1_in_13 : decode cX1_in 13 = .ok (.dup, 1) := dk_89 (dk_at dksX1_in_0 13 rfl rfl)
theorem dX1_in_14 : decode cX1_in 14 = .ok (.ldc 243, 2) := dk_18 243 (dk_at dksX1_in_0 14 rfl rfl)
theorem dX1_in_16 : decode cX1_in 16 = .ok (.invokespecial 245, 3) := dk_183 0 245 (dk_at dksX1_in_0 16 rfl rfl)
theorem dX1_in_19 : decode cX1_in 19 = .ok (.athrow, 1) := dk_191 (dk_at dksX1_in_0 19 rfl rfl)
theorem dX1_in_20 : decode cX1_in 20 = .ok (.iload_n 0, 1) := dk_26 (dk_at dksX1_in_0 20 rfl rfl)
theorem dX1_in_21 : decode cX1_in 21 = .ok (.ireturn, 1) := dk_172 (dk_at dksX1_in_0 21 rfl rfl)
def dkwX1_must_0 : List UInt8 := [26, 154, 0, 13, 187, 0, 246, 89, 18, 248, 183, 0, 250, 191, 177]
abbrev dktX1_must_0 : List UInt8 := dkwX1_must_0 ++ []
theorem dksX1_must_0 : cX1_must.data.toList.drop 0 = dktX1_must_0 := by decide +kernel
theorem dX1_must_0 : decode cX1_must 0 = .ok (.iload_n 0, 1) := dk_26 (dk_at dksX1_must_0 0 rfl rfl)
theorem dX1_must_1 : decode cX1_must 1 = .ok (.ifCond .ne 13, 3) := dk_154 0 13 (dk_at dksX1_must_0 1 rfl rfl)
theorem dX1_must_4 : decode cX1_must 4 = .ok (.new 246, 3) := dk_187 0 246 (dk_at dksX1_must_0 4 rfl rfl)
theorem dX1_must_7 : decode cX1_must 7 = .ok (.dup, 1) := dk_89 (dk_at dksX1_must_0 7 rfl rfl)
theorem dX1_must_8 : decode cX1_must 8 = .ok (.ldc 248, 2) := dk_18 248 (dk_at dksX1_must_0 8 rfl rfl)
theorem dX1_must_10 : decode cX1_must 10 = .ok (.invokespecial 250, 3) := dk_183 0 250 (dk_at dksX1_must_0 10 rfl rfl)
theorem dX1_must_13 : decode cX1_must 13 = .ok (.athrow, 1) := dk_191 (dk_at dksX1_must_0 13 rfl rfl)
theorem dX1_must_14 : decode cX1_must 14 = .ok (.return_, 1) := dk_177 (dk_at dksX1_must_0 14 rfl rfl)
def dkwX1_pay_1 : List UInt8 := [25, 4, 28, 182, 1, 19, 54, 5, 25, 4, 28, 29, 182, 1, 22, 21, 5, 172]
abbrev dktX1_pay_1 : List UInt8 := dkwX1_pay_1 ++ []
def dkwX1_pay_0 : List UInt8 := [42, 27, 182, 0, 254, 58, 4, 28, 17, 2, 208, 184, 0, 251, 87, 29, 3, 19, 1, 11, 184, 1, 7, 87]
abbrev dktX1_pay_0 : List UInt8 := dkwX1_pay_0 ++ dktX1_pay_1
theorem dksX1_pay_0 : cX1_pay.data.toList.drop 0 = dktX1_pay_0 := by decide +kernel
theorem dksX1_pay_1 : cX1_pay.data.toList.drop 24 = dktX1_pay_1 := dk_seg dksX1_pay_0 24 rfl rfl
theorem dX1_pay_0 : decode cX1_pay 0 = .ok (.aload_n 0, 1) := dk_42 (dk_at dksX1_pay_0 0 rfl rfl)
theorem dX1_pay_1 : decode cX1_pay 1 = .ok (.iload_n 1, 1) := dk_27 (dk_at dksX1_pay_0 1 rfl rfl)
theorem dX1_pay_2 : decode cX1_pay 2 = .ok (.invokevirtual 254, 3) := dk_182 0 254 (dk_at dksX1_pay_0 2 rfl rfl)
theorem dX1_pay_5 : decode cX1_pay 5 = .ok (.astore 4, 2) := dk_58 4 (dk_at dksX1_pay_0 5 rfl rfl)
theorem dX1_pay_7 : decode cX1_pay 7 = .ok (.iload_n 2, 1) := dk_28 (dk_at dksX1_pay_0 7 rfl rfl)
theorem dX1_pay_8 : decode cX1_pay 8 = .ok (.sipush 720, 3) := dk_17 2 208 (dk_at dksX1_pay_0 8 rfl rfl)
theorem dX1_pay_11 : decode cX1_pay 11 = .ok (.invokestatic 251, 3) := dk_184 0 251 (dk_at dksX1_pay_0 11 rfl rfl)
theorem dX1_pay_14 : decode cX1_pay 14 = .ok (.pop, 1) := dk_87 (dk_at dksX1_pay_0 14 rfl rfl)
theorem dX1_pay_15 : decode cX1_pay 15 = .ok (.iload_n 3, 1) := dk_29 (dk_at dksX1_pay_0 15 rfl rfl)
theorem dX1_pay_16 : decode cX1_pay 16 = .ok (.iconst 0, 1) := dk_3 (dk_at dksX1_pay_0 16 rfl rfl)
theorem dX1_pay_17 : decode cX1_pay 17 = .ok (.ldc_w 267, 3) := dk_19 1 11 (dk_at dksX1_pay_0 17 rfl rfl)
theorem dX1_pay_20 : decode cX1_pay 20 = .ok (.invokestatic 263, 3) := dk_184 1 7 (dk_at dksX1_pay_0 20 rfl rfl)
theorem dX1_pay_23 : decode cX1_pay 23 = .ok (.pop, 1) := dk_87 (dk_at dksX1_pay_0 23 rfl rfl)
theorem dX1_pay_24 : decode cX1_pay 24 = .ok (.aload 4, 2) := dk_25 4 (dk_at dksX1_pay_1 0 rfl rfl)
theorem dX1_pay_26 : decode cX1_pay 26 = .ok (.iload_n 2, 1) := dk_28 (dk_at dksX1_pay_1 2 rfl rfl)
theorem dX1_pay_27 : decode cX1_pay 27 = .ok (.invokevirtual 275, 3) := dk_182 1 19 (dk_at dksX1_pay_1 3 rfl rfl)
theorem dX1_pay_30 : decode cX1_pay 30 = .ok (.istore 5, 2) := dk_54 5 (dk_at dksX1_pay_1 6 rfl rfl)
theorem dX1_pay_32 : decode cX1_pay 32 = .ok (.aload 4, 2) := dk_25 4 (dk_at dksX1_pay_1 8 rfl rfl)
theorem dX1_pay_34 : decode cX1_pay 34 = .ok (.iload_n 2, 1) := dk_28 (dk_at dksX1_pay_1 10 rfl rfl)
theorem dX1_pay_35 : decode cX1_pay 35 = .ok (.iload_n 3, 1) := dk_29 (dk_at dksX1_pay_1 11 rfl rfl)
theorem dX1_pay_36 : decode cX1_pay 36 = .ok (.invokevirtual 278, 3) := dk_182 1 22 (dk_at dksX1_pay_1 12 rfl rfl)
theorem dX1_pay_39 : decode cX1_pay 39 = .ok (.iload 5, 2) := dk_21 5 (dk_at dksX1_pay_1 15 rfl rfl)
theorem dX1_pay_41 : decode cX1_pay 41 = .ok (.ireturn, 1) := dk_172 (dk_at dksX1_pay_1 17 rfl rfl)
def dkwX1_contractAt_1 : List UInt8 := [192, 0, 188, 176]
abbrev dktX1_contractAt_1 : List UInt8 := dkwX1_contractAt_1 ++ []
def dkwX1_contractAt_0 : List UInt8 := [42, 180, 0, 101, 27, 42, 180, 0, 101, 185, 0, 62, 1, 0, 184, 0, 251, 185, 0, 67, 2, 0]
abbrev dktX1_contractAt_0 : List UInt8 := dkwX1_contractAt_0 ++ dktX1_contractAt_1
theorem dksX1_contractAt_0 : cX1_contractAt.data.toList.drop 0 = dktX1_contractAt_0 := by decide +kernel
theorem dksX1_contractAt_1 : cX1_contractAt.data.toList.drop 22 = dktX1_contractAt_1 := dk_seg dksX1_contractAt_0 22 rfl rfl
theorem dX1_contractAt_0 : decode cX1_contractAt 0 = .ok (.aload_n 0, 1) := dk_42 (dk_at dksX1_contractAt_0 0 rfl rfl)
theorem dX1_contractAt_1 : decode cX1_contractAt 1 = .ok (.getfield 101, 3) := dk_180 0 101 (dk_at dksX1_contractAt_0 1 rfl rfl)
theorem dX1_contractAt_4 : decode cX1_contractAt 4 = .ok (.iload_n 1, 1) := dk_27 (dk_at dksX1_contractAt_0 4 rfl rfl)
theorem dX1_contractAt_5 : decode cX1_contractAt 5 = .ok (.aload_n 0, 1) := dk_42 (dk_at dksX1_contractAt_0 5 rfl rfl)
theorem dX1_contractAt_6 : decode cX1_contractAt 6 = .ok (.getfield 101, 3) := dk_180 0 101 (dk_at dksX1_contractAt_0 6 rfl rfl)
theorem dX1_contractAt_9 : decode cX1_contractAt 9 = .ok (.invokeinterface 62 1, 5) := by decide +kernel
theorem dX1_contractAt_14 : decode cX1_contractAt 14 = .ok (.invokestatic 251, 3) := dk_184 0 251 (dk_at dksX1_contractAt_0 14 rfl rfl)
theorem dX1_contractAt_17 : decode cX1_contractAt 17 = .ok (.invokeinterface 67 2, 5) := by decide +kernel
theorem dX1_contractAt_22 : decode cX1_contractAt 22 = .ok (.checkcast 188, 3) := dk_192 0 188 (dk_at dksX1_contractAt_1 0 rfl rfl)
theorem dX1_contractAt_25 : decode cX1_contractAt 25 = .ok (.areturn, 1) := dk_176 (dk_at dksX1_contractAt_1 3 rfl rfl)
def dkwX1_shift_4 : List UInt8 := [180, 1, 36, 4, 96, 181, 1, 36, 42, 180, 1, 36, 172]
abbrev dktX1_shift_4 : List UInt8 := dkwX1_shift_4 ++ []
def dkwX1_shift_3 : List UInt8 := [182, 1, 39, 153, 0, 7, 4, 167, 0, 4, 3, 184, 1, 12, 25, 5, 25, 8, 182, 1, 43, 42, 89]
abbrev dktX1_shift_3 : List UInt8 := dkwX1_shift_3 ++ dktX1_shift_4
def dkwX1_shift_2 : List UInt8 := [21, 4, 133, 97, 183, 1, 33, 58, 8, 42, 180, 1, 36, 16, 40, 162, 0, 17, 25, 5, 25, 8]
abbrev dktX1_shift_2 : List UInt8 := dkwX1_shift_2 ++ dktX1_shift_3
def dkwX1_shift_1 : List UInt8 := [184, 1, 7, 87, 28, 133, 20, 1, 29, 105, 29, 133, 97, 55, 6, 187, 1, 31, 89, 22, 6, 22, 6]
abbrev dktX1_shift_1 : List UInt8 := dkwX1_shift_1 ++ dktX1_shift_2
def dkwX1_shift_0 : List UInt8 := [42, 27, 28, 182, 1, 25, 58, 5, 29, 3, 17, 5, 159, 184, 1, 7, 87, 21, 4, 4, 17, 5, 160]
abbrev dktX1_shift_0 : List UInt8 := dkwX1_shift_0 ++ dktX1_shift_1
theorem dksX1_shift_0 : cX1_shift.data.toList.drop 0 = dktX1_shift_0 := by decide +kernel
theorem dksX1_shift_1 : cX1_shift.data.toList.drop 23 = dktX1_shift_1 := dk_seg dksX1_shift_0 23 rfl rfl
theorem dksX1_shift_2 : cX1_shift.data.toList.drop 46 = dktX1_shift_2 := dk_seg dksX1_shift_1 23 rfl rfl
theorem dksX1_shift_3 : cX1_shift.data.toList.drop 68 = dktX1_shift_3 := dk_seg dksX1_shift_2 22 rfl rfl
theorem dksX1_shift_4 : cX1_shift.data.toList.drop 91 = dktX1_shift_4 := dk_seg dksX1_shift_3 23 rfl rfl
theorem dX1_shift_0 : decode cX1_shift 0 = .ok (.aload_n 0, 1) := dk_42 (dk_at dksX1_shift_0 0 rfl rfl)
theorem dX1_shift_1 : decode cX1_shift 1 = .ok (.iload_n 1, 1) := dk_27 (dk_at dksX1_shift_0 1 rfl rfl)
theorem dX1_shift_2 : decode cX1_shift 2 = .ok (.iload_n 2, 1) := dk_28 (dk_at dksX1_shift_0 2 rfl rfl)
theorem dX1_shift_3 : decode cX1_shift 3 = .ok (.invokevirtual 281, 3) := dk_182 1 25 (dk_at dksX1_shift_0 3 rfl rfl)
theorem dX1_shift_6 : decode cX1_shift 6 = .ok (.astore 5, 2) := dk_58 5 (dk_at dksX1_shift_0 6 rfl rfl)
theorem dX1_shift_8 : decode cX1_shift 8 = .ok (.iload_n 3, 1) := dk_29 (dk_at dksX1_shift_0 8 rfl rfl)
theorem dX1_shift_9 : decode cX1_shift 9 = .ok (.iconst 0, 1) := dk_3 (dk_at dksX1_shift_0 9 rfl rfl)
theorem dX1_shift_10 : decode cX1_shift 10 = .ok (.sipush 1439, 3) := dk_17 5 159 (dk_at dksX1_shift_0 10 rfl rfl)
theorem dX1_shift_13 : decode cX1_shift 13 = .ok (.invokestatic 263, 3) := dk_184 1 7 (dk_at dksX1_shift_0 13 rfl rfl)
theorem dX1_shift_16 : decode cX1_shift 16 = .ok (.pop, 1) := dk_87 (dk_at dksX1_shift_0 16 rfl rfl)
theorem dX1_shift_17 : decode cX1_shift 17 = .ok (.iload 4, 2) := dk_21 4 (dk_at dksX1_shift_0 17 rfl rfl)
theorem dX1_shift_19 : decode cX1_shift 19 = .ok (.iconst 1, 1) := dk_4 (dk_at dksX1_shift_0 19 rfl rfl)
theorem dX1_shift_20 : decode cX1_shift 20 = .ok (.sipush 1440, 3) := dk_17 5 160 (dk_at dksX1_shift_0 20 rfl rfl)
theorem dX1_shift_23 : decode cX1_shift 23 = .ok (.invokestatic 263, 3) := dk_184 1 7 (dk_at dksX1_shift_1 0 rfl rfl)
theorem dX1_shift_26 : decode cX1_shift 26 = .ok (.pop, 1) := dk_87 (dk_at dksX1_shift_1 3 rfl rfl)
theorem dX1_shift_27 : decode cX1_shift 27 = .ok (.iload_n 2, 1) := dk_28 (dk_at dksX1_shift_1 4 rfl rfl)
theorem dX1_shift_28 : decode cX1_shift 28 = .ok (.i2l, 1) := dk_133 (dk_at dksX1_shift_1 5 rfl rfl)
theorem dX1_shift_29 : decode cX1_shift 29 = .ok (.ldc2_w 285, 3) := dk_20 1 29 (dk_at dksX1_shift_1 6 rfl rfl)
theorem dX1_shift_32 : decode cX1_shift 32 = .ok (.lmul, 1) := dk_105 (dk_at dksX1_shift_1 9 rfl rfl)
theorem dX1_shift_33 : decode cX1_shift 33 = .ok (.iload_n 3, 1) := dk_29 (dk_at dksX1_shift_1 10 rfl rfl)
theorem dX1_shift_34 : decode cX1_shift 34 = .ok (.i2l, 1) := dk_133 (dk_at dksX1_shift_1 11 rfl rfl)
theorem dX1_shift_35 : decode cX1_shift 35 = .ok (.ladd, 1) := dk_97 (dk_at dksX1_shift_1 12 rfl rfl)
theorem dX1_shift_36 : decode cX1_shift 36 = .ok (.lstore 6, 2) := dk_55 6 (dk_at dksX1_shift_1 13 rfl rfl)
theorem dX1_shift_38 : decode cX1_shift 38 = .ok (.new 287, 3) := dk_187 1 31 (dk_at dksX1_shift_1 15 rfl rfl)
theorem dX1_shift_41 : decode cX1_shift 41 = .ok (.dup, 1) := dk_89 (dk_at dksX1_shift_1 18 rfl rfl)
theorem dX1_shift_42 : decode cX1_shift 42 = .ok (.lload 6, 2) := dk_22 6 (dk_at dksX1_shift_1 19 rfl rfl)
theorem dX1_shift_44 : decode cX1_shift 44 = .ok (.lload 6, 2) := dk_22 6 (dk_at dksX1_shift_1 21 rfl rfl)
theorem dX1_shift_46 : decode cX1_shift 46 = .ok (.iload 4, 2) := dk_21 4 (dk_at dksX1_shift_2 0 rfl rfl)
theorem dX1_shift_48 : decode cX1_shift 48 = .ok (.i2l, 1) := dk_133 (dk_at dksX1_shift_2 2 rfl rfl)
theorem dX1_shift_49 : decode cX1_shift 49 = .ok (.ladd, 1) := dk_97 (dk_at dksX1_shift_2 3 rfl rfl)
theorem dX1_shift_50 : decode cX1_shift 50 = .ok (.invokespecial 289, 3) := dk_183 1 33 (dk_at dksX1_shift_2 4 rfl rfl)
theorem dX1_shift_53 : decode cX1_shift 53 = .ok (.astore 8, 2) := dk_58 8 (dk_at dksX1_shift_2 7 rfl rfl)
theorem dX1_shift_55 : decode cX1_shift 55 = .ok (.aload_n 0, 1) := dk_42 (dk_at dksX1_shift_2 9 rfl rfl)
theorem dX1_shift_56 : decode cX1_shift 56 = .ok (.getfield 292, 3) := dk_180 1 36 (dk_at dksX1_shift_2 10 rfl rfl)
theorem dX1_shift_59 : decode cX1_shift 59 = .ok (.bipush 40, 2) := dk_16 40 (dk_at dksX1_shift_2 13 rfl rfl)
theorem dX1_shift_61 : decode cX1_shift 61 = .ok (.if_icmp .ge 17, 3) := dk_162 0 17 (dk_at dksX1_shift_2 15 rfl rfl)
theorem dX1_shift_64 : decode cX1_shift 64 = .ok (.aload 5, 2) := dk_25 5 (dk_at dksX1_shift_2 18 rfl rfl)
theorem dX1_shift_66 : decode cX1_shift 66 = .ok (.aload 8, 2) := dk_25 8 (dk_at dksX1_shift_2 20 rfl rfl)
theorem dX1_shift_68 : decode cX1_shift 68 = .ok (.invokevirtual 295, 3) := dk_182 1 39 (dk_at dksX1_shift_3 0 rfl rfl)
theorem dX1_shift_71 : decode cX1_shift 71 = .ok (.ifCond .eq 7, 3) := dk_153 0 7 (dk_at dksX1_shift_3 3 rfl rfl)
theorem dX1_shift_74 : decode cX1_shift 74 = .ok (.iconst 1, 1) := dk_4 (dk_at dksX1_shift_3 6 rfl rfl)
theorem dX1_shift_75 : decode cX1_shift 75 = .ok (.goto 4, 3) := dk_167 0 4 (dk_at dksX1_shift_3 7 rfl rfl)
theorem dX1_shift_78 : decode cX1_shift 78 = .ok (.iconst 0, 1) := dk_3 (dk_at dksX1_shift_3 10 rfl rfl)
theorem dX1_shift_79 : decode cX1_shift 79 = .ok (.invokestatic 268, 3) := dk_184 1 12 (dk_at dksX1_shift_3 11 rfl rfl)
theorem dX1_shift_82 : decode cX1_shift 82 = .ok (.aload 5, 2) := dk_25 5 (dk_at dksX1_shift_3 14 rfl rfl)
theorem dX1_shift_84 : decode cX1_shift 84 = .ok (.aload 8, 2) := dk_25 8 (dk_at dksX1_shift_3 16 rfl rfl)
theorem dX1_shift_86 : decode cX1_shift 86 = .ok (.invokevirtual 299, 3) := dk_182 1 43 (dk_at dksX1_shift_3 18 rfl rfl)
theorem dX1_shift_89 : decode cX1_shift 89 = .ok (.aload_n 0, 1) := dk_42 (dk_at dksX1_shift_3 21 rfl rfl)
theorem dX1_shift_90 : decode cX1_shift 90 = .ok (.dup, 1) := dk_89 (dk_at dksX1_shift_3 22 rfl rfl)
theorem dX1_shift_91 : decode cX1_shift 91 = .ok (.getfield 292, 3) := dk_180 1 36 (dk_at dksX1_shift_4 0 rfl rfl)
theorem dX1_shift_94 : decode cX1_shift 94 = .ok (.iconst 1, 1) := dk_4 (dk_at dksX1_shift_4 3 rfl rfl)
theorem dX1_shift_95 : decode cX1_shift 95 = .ok (.iadd, 1) := dk_96 (dk_at dksX1_shift_4 4 rfl rfl)
theorem dX1_shift_96 : decode cX1_shift 96 = .ok (.putfield 292, 3) := dk_181 1 36 (dk_at dksX1_shift_4 5 rfl rfl)
theorem dX1_shift_99 : decode cX1_shift 99 = .ok (.aload_n 0, 1) := dk_42 (dk_at dksX1_shift_4 8 rfl rfl)
theorem dX1_shift_100 : decode cX1_shift 100 = .ok (.getfield 292, 3) := dk_180 1 36 (dk_at dksX1_shift_4 9 rfl rfl)
theorem dX1_shift_103 : decode cX1_shift 103 = .ok (.ireturn, 1) := dk_172 (dk_at dksX1_shift_4 12 rfl rfl)
def dkwX1_contractOn_1 : List UInt8 := [191, 45, 176]
abbrev dktX1_contractOn_1 : List UInt8 := dkwX1_contractOn_1 ++ []
def dkwX1_contractOn_0 : List UInt8 := [42, 27, 182, 0, 254, 78, 45, 28, 182, 1, 2, 154, 0, 14, 187, 0, 234, 89, 19, 1, 5, 183, 0, 238]
abbrev dktX1_contractOn_0 : List UInt8 := dkwX1_contractOn_0 ++ dktX1_contractOn_1
theorem dksX1_contractOn_0 : cX1_contractOn.data.toList.drop 0 = dktX1_contractOn_0 := by decide +kernel
theorem dksX1_contractOn_1 : cX1_contractOn.data.toList.drop 24 = dktX1_contractOn_1 := dk_seg dksX1_contractOn_0 24 rfl rfl
theorem dX1_contractOn_0 : decode cX1_contractOn 0 = .ok (.aload_n 0, 1) := dk_42 (dk_at dksX1_contractOn_0 0 rfl rfl)
theorem dX1_contractOn_1 : decode cX1_contractOn 1 = .ok (.iload_n 1, 1) := dk_27 (dk_at dksX1_contractOn_0 1 rfl rfl)
theorem dX1_contractOn_2 : decode cX1_contractOn 2 = .ok (.invokevirtual 254, 3) := dk_182 0 254 (dk_at dksX1_contractOn_0 2 rfl rfl)
theorem dX1_contractOn_5 : decode cX1_contractOn 5 = .ok (.astore_n 3, 1) := dk_78 (dk_at dksX1_contractOn_0 5 rfl rfl)
theorem dX1_contractOn_6 : decode cX1_contractOn 6 = .ok (.aload_n 3, 1) := dk_45 (dk_at dksX1_contractOn_0 6 rfl rfl)
theorem dX1_contractOn_7 : decode cX1_contractOn 7 = .ok (.iload_n 2, 1) := dk_28 (dk_at dksX1_contractOn_0 7 rfl rfl)
theorem dX1_contractOn_8 : decode cX1_contractOn 8 = .ok (.invokevirtual 258, 3) := dk_182 1 2 (dk_at dksX1_contractOn_0 8 rfl rfl)
theorem dX1_contractOn_11 : decode cX1_contractOn 11 = .ok (.ifCond .ne 14, 3) := dk_154 0 14 (dk_at dksX1_contractOn_0 11 rfl rfl)
theorem dX1_contractOn_14 : decode cX1_contractOn 14 = .ok (.new 234, 3) := dk_187 0 234 (dk_at dksX1_contractOn_0 14 rfl rfl)
theorem dX1_contractOn_17 : decode cX1_contractOn 17 = .ok (.dup, 1) := dk_89 (dk_at dksX1_contractOn_0 17 rfl rfl)
theorem dX1_contractOn_18 : decode cX1_contractOn 18 = .ok (.ldc_w 261, 3) := dk_19 1 5 (dk_at dksX1_contractOn_0 18 rfl rfl)
theorem dX1_contractOn_21 : decode cX1_contractOn 21 = .ok (.invokespecial 238, 3) := dk_183 0 238 (dk_at dksX1_contractOn_0 21 rfl rfl)
theorem dX1_contractOn_24 : decode cX1_contractOn 24 = .ok (.athrow, 1) := dk_191 (dk_at dksX1_contractOn_1 0 rfl rfl)
theorem dX1_contractOn_25 : decode cX1_contractOn 25 = .ok (.aload_n 3, 1) := dk_45 (dk_at dksX1_contractOn_1 1 rfl rfl)
theorem dX1_contractOn_26 : decode cX1_contractOn 26 = .ok (.areturn, 1) := dk_176 (dk_at dksX1_contractOn_1 2 rfl rfl)
def dkwX1_minutes_0 : List UInt8 := [42, 27, 182, 0, 254, 78, 45, 180, 1, 46, 28, 17, 2, 208, 184, 0, 251, 46, 172]
abbrev dktX1_minutes_0 : List UInt8 := dkwX1_minutes_0 ++ []
theorem dksX1_minutes_0 : cX1_minutes.data.toList.drop 0 = dktX1_minutes_0 := by decide +kernel
theorem dX1_minutes_0 : decode cX1_minutes 0 = .ok (.aload_n 0, 1) := dk_42 (dk_at dksX1_minutes_0 0 rfl rfl)
theorem dX1_minutes_1 : decode cX1_minutes 1 = .ok (.iload_n 1, 1) := dk_27 (dk_at dksX1_minutes_0 1 rfl rfl)
theorem dX1_minutes_2 : decode cX1_minutes 2 = .ok (.invokevirtual 254, 3) := dk_182 0 254 (dk_at dksX1_minutes_0 2 rfl rfl)
theorem dX1_minutes_5 : decode cX1_minutes 5 = .ok (.astore_n 3, 1) := dk_78 (dk_at dksX1_minutes_0 5 rfl rfl)
theorem dX1_minutes_6 : decode cX1_minutes 6 = .ok (.aload_n 3, 1) := dk_45 (dk_at dksX1_minutes_0 6 rfl rfl)
theorem dX1_minutes_7 : decode cX1_minutes 7 = .ok (.getfield 302, 3) := dk_180 1 46 (dk_at dksX1_minutes_0 7 rfl rfl)
theorem dX1_minutes_10 : decode cX1_minutes 10 = .ok (.iload_n 2, 1) := dk_28 (dk_at dksX1_minutes_0 10 rfl rfl)
theorem dX1_minutes_11 : decode cX1_minutes 11 = .ok (.sipush 720, 3) := dk_17 2 208 (dk_at dksX1_minutes_0 11 rfl rfl)
theorem dX1_minutes_14 : decode cX1_minutes 14 = .ok (.invokestatic 251, 3) := dk_184 0 251 (dk_at dksX1_minutes_0 14 rfl rfl)
theorem dX1_minutes_17 : decode cX1_minutes 17 = .ok (.iaload, 1) := dk_46 (dk_at dksX1_minutes_0 17 rfl rfl)
theorem dX1_minutes_18 : decode cX1_minutes 18 = .ok (.ireturn, 1) := dk_172 (dk_at dksX1_minutes_0 18 rfl rfl)
def dkwX1_overtime_0 : List UInt8 := [42, 27, 182, 0, 254, 78, 45, 28, 16, 103, 184, 0, 251, 182, 1, 50, 172]
abbrev dktX1_overtime_0 : List UInt8 := dkwX1_overtime_0 ++ []
theorem dksX1_overtime_0 : cX1_overtime.data.toList.drop 0 = dktX1_overtime_0 := by decide +kernel
theorem dX1_overtime_0 : decode cX1_overtime 0 = .ok (.aload_n 0, 1) := dk_42 (dk_at dksX1_overtime_0 0 rfl rfl)
theorem dX1_overtime_1 : decode cX1_overtime 1 = .ok (.iload_n 1, 1) := dk_27 (dk_at dksX1_overtime_0 1 rfl rfl)
theorem dX1_overtime_2 : decode cX1_overtime 2 = .ok (.invokevirtual 254, 3) := dk_182 0 254 (dk_at dksX1_overtime_0 2 rfl rfl)
theorem dX1_overtime_5 : decode cX1_overtime 5 = .ok (.astore_n 3, 1) := dk_78 (dk_at dksX1_overtime_0 5 rfl rfl)
theorem dX1_overtime_6 : decode cX1_overtime 6 = .ok (.aload_n 3, 1) := dk_45 (dk_at dksX1_overtime_0 6 rfl rfl)
theorem dX1_overtime_7 : decode cX1_overtime 7 = .ok (.iload_n 2, 1) := dk_28 (dk_at dksX1_overtime_0 7 rfl rfl)
theorem dX1_overtime_8 : decode cX1_overtime 8 = .ok (.bipush 103, 2) := dk_16 103 (dk_at dksX1_overtime_0 8 rfl rfl)
theorem dX1_overtime_10 : decode cX1_overtime 10 = .ok (.invokestatic 251, 3) := dk_184 0 251 (dk_at dksX1_overtime_0 10 rfl rfl)
theorem dX1_overtime_13 : decode cX1_overtime 13 = .ok (.invokevirtual 306, 3) := dk_182 1 50 (dk_at dksX1_overtime_0 13 rfl rfl)
theorem dX1_overtime_16 : decode cX1_overtime 16 = .ok (.ireturn, 1) := dk_172 (dk_at dksX1_overtime_0 16 rfl rfl)
def dkwX1_base_1 : List UInt8 := [182, 1, 57, 173]
abbrev dktX1_base_1 : List UInt8 := dkwX1_base_1 ++ []
def dkwX1_base_0 : List UInt8 := [42, 27, 182, 0, 254, 78, 28, 16, 24, 184, 0, 251, 87, 42, 45, 180, 1, 53, 182, 1, 54, 42, 45, 28]
abbrev dktX1_base_0 : List UInt8 := dkwX1_base_0 ++ dktX1_base_1
theorem dksX1_base_0 : cX1_base.data.toList.drop 0 = dktX1_base_0 := by decide +kernel
theorem dksX1_base_1 : cX1_base.data.toList.drop 24 = dktX1_base_1 := dk_seg dksX1_base_0 24 rfl rfl
theorem dX1_base_0 : decode cX1_base 0 = .ok (.aload_n 0, 1) := dk_42 (dk_at dksX1_base_0 0 rfl rfl)
theorem dX1_base_1 : decode cX1_base 1 = .ok (.iload_n 1, 1) := dk_27 (dk_at dksX1_base_0 1 rfl rfl)
theorem dX1_base_2 : decode cX1_base 2 = .ok (.invokevirtual 254, 3) := dk_182 0 254 (dk_at dksX1_base_0 2 rfl rfl)
theorem dX1_base_5 : decode cX1_base 5 = .ok (.astore_n 3, 1) := dk_78 (dk_at dksX1_base_0 5 rfl rfl)
theorem dX1_base_6 : decode cX1_base 6 = .ok (.iload_n 2, 1) := dk_28 (dk_at dksX1_base_0 6 rfl rfl)
theorem dX1_base_7 : decode cX1_base 7 = .ok (.bipush 24, 2) := dk_16 24 (dk_at dksX1_base_0 7 rfl rfl)
theorem dX1_base_9 : decode cX1_base 9 = .ok (.invokestatic 251, 3) := dk_184 0 251 (dk_at dksX1_base_0 9 rfl rfl)
theorem dX1_base_12 : decode cX1_base 12 = .ok (.pop, 1) := dk_87 (dk_at dksX1_base_0 12 rfl rfl)
theorem dX1_base_13 : decode cX1_base 13 = .ok (.aload_n 0, 1) := dk_42 (dk_at dksX1_base_0 13 rfl rfl)
theorem dX1_base_14 : decode cX1_base 14 = .ok (.aload_n 3, 1) := dk_45 (dk_at dksX1_base_0 14 rfl rfl)
theorem dX1_base_15 : decode cX1_base 15 = .ok (.getfield 309, 3) := dk_180 1 53 (dk_at dksX1_base_0 15 rfl rfl)
theorem dX1_base_18 : decode cX1_base 18 = .ok (.invokevirtual 310, 3) := dk_182 1 54 (dk_at dksX1_base_0 18 rfl rfl)
theorem dX1_base_21 : decode cX1_base 21 = .ok (.aload_n 0, 1) := dk_42 (dk_at dksX1_base_0 21 rfl rfl)
theorem dX1_base_22 : decode cX1_base 22 = .ok (.aload_n 3, 1) := dk_45 (dk_at dksX1_base_0 22 rfl rfl)
theorem dX1_base_23 : decode cX1_base 23 = .ok (.iload_n 2, 1) := dk_28 (dk_at dksX1_base_0 23 rfl rfl)
theorem dX1_base_24 : decode cX1_base 24 = .ok (.invokevirtual 313, 3) := dk_182 1 57 (dk_at dksX1_base_1 0 rfl rfl)
theorem dX1_base_27 : decode cX1_base 27 = .ok (.lreturn, 1) := dk_173 (dk_at dksX1_base_1 3 rfl rfl)
def dkwX1_findLeave_1 : List UInt8 := [182, 0, 183, 177]
abbrev dktX1_findLeave_1 : List UInt8 := dkwX1_findLeave_1 ++ []
def dkwX1_findLeave_0 : List UInt8 := [187, 0, 174, 89, 42, 27, 183, 0, 176, 77, 44, 17, 2, 207, 182, 0, 179, 62, 44, 17, 2, 207]
abbrev dktX1_findLeave_0 : List UInt8 := dkwX1_findLeave_0 ++ dktX1_findLeave_1
theorem dksX1_findLeave_0 : cX1_findLeave.data.toList.drop 0 = dktX1_findLeave_0 := by decide +kernel
theorem dksX1_findLeave_1 : cX1_findLeave.data.toList.drop 22 = dktX1_findLeave_1 := dk_seg dksX1_findLeave_0 22 rfl rfl
theorem dX1_findLeave_0 : decode cX1_findLeave 0 = .ok (.new 174, 3) := dk_187 0 174 (dk_at dksX1_findLeave_0 0 rfl rfl)
theorem dX1_findLeave_3 : decode cX1_findLeave 3 = .ok (.dup, 1) := dk_89 (dk_at dksX1_findLeave_0 3 rfl rfl)
theorem dX1_findLeave_4 : decode cX1_findLeave 4 = .ok (.aload_n 0, 1) := dk_42 (dk_at dksX1_findLeave_0 4 rfl rfl)
theorem dX1_findLeave_5 : decode cX1_findLeave 5 = .ok (.iload_n 1, 1) := dk_27 (dk_at dksX1_findLeave_0 5 rfl rfl)
theorem dX1_findLeave_6 : decode cX1_findLeave 6 = .ok (.invokespecial 176, 3) := dk_183 0 176 (dk_at dksX1_findLeave_0 6 rfl rfl)
theorem dX1_findLeave_9 : decode cX1_findLeave 9 = .ok (.astore_n 2, 1) := dk_77 (dk_at dksX1_findLeave_0 9 rfl rfl)
theorem dX1_findLeave_10 : decode cX1_findLeave 10 = .ok (.aload_n 2, 1) := dk_44 (dk_at dksX1_findLeave_0 10 rfl rfl)
theorem dX1_findLeave_11 : decode cX1_findLeave 11 = .ok (.sipush 719, 3) := dk_17 2 207 (dk_at dksX1_findLeave_0 11 rfl rfl)
theorem dX1_findLeave_14 : decode cX1_findLeave 14 = .ok (.invokevirtual 179, 3) := dk_182 0 179 (dk_at dksX1_findLeave_0 14 rfl rfl)
theorem dX1_findLeave_17 : decode cX1_findLeave 17 = .ok (.istore_n 3, 1) := dk_62 (dk_at dksX1_findLeave_0 17 rfl rfl)
theorem dX1_findLeave_18 : decode cX1_findLeave 18 = .ok (.aload_n 2, 1) := dk_44 (dk_at dksX1_findLeave_0 18 rfl rfl)
theorem dX1_findLeave_19 : decode cX1_findLeave 19 = .ok (.sipush 719, 3) := dk_17 2 207 (dk_at dksX1_findLeave_0 19 rfl rfl)
theorem dX1_findLeave_22 : decode cX1_findLeave 22 = .ok (.invokevirtual 183, 3) := dk_182 0 183 (dk_at dksX1_findLeave_1 0 rfl rfl)
theorem dX1_findLeave_25 : decode cX1_findLeave 25 = .ok (.return_, 1) := dk_177 (dk_at dksX1_findLeave_1 3 rfl rfl)
def dkwX1_baseOf_3 : List UInt8 := [25, 6, 180, 0, 199, 182, 0, 207, 167, 0, 4, 9, 97, 66, 132, 5, 1, 167, 255, 178, 33, 173]
abbrev dktX1_baseOf_3 : List UInt8 := dkwX1_baseOf_3 ++ []
def dkwX1_baseOf_2 : List UInt8 := [166, 0, 35, 25, 6, 180, 0, 199, 16, 30, 108, 28, 160, 0, 23, 25, 6, 180, 0, 203, 153, 0, 15, 43]
abbrev dktX1_baseOf_2 : List UInt8 := dkwX1_baseOf_2 ++ dktX1_baseOf_3
def dkwX1_baseOf_1 : List UInt8 := [180, 0, 105, 21, 5, 185, 0, 67, 2, 0, 192, 0, 193, 58, 6, 33, 25, 6, 180, 0, 195, 43]
abbrev dktX1_baseOf_1 : List UInt8 := dkwX1_baseOf_1 ++ dktX1_baseOf_2
def dkwX1_baseOf_0 : List UInt8 := [43, 28, 182, 0, 187, 66, 3, 54, 5, 21, 5, 42, 180, 0, 105, 185, 0, 62, 1, 0, 162, 0, 70, 42]
abbrev dktX1_baseOf_0 : List UInt8 := dkwX1_baseOf_0 ++ dktX1_baseOf_1
theorem dksX1_baseOf_0 : cX1_baseOf.data.toList.drop 0 = dktX1_baseOf_0 := by decide +kernel
theorem dksX1_baseOf_1 : cX1_baseOf.data.toList.drop 24 = dktX1_baseOf_1 := dk_seg dksX1_baseOf_0 24 rfl rfl
theorem dksX1_baseOf_2 : cX1_baseOf.data.toList.drop 46 = dktX1_baseOf_2 := dk_seg dksX1_baseOf_1 22 rfl rfl
theorem dksX1_baseOf_3 : cX1_baseOf.data.toList.drop 70 = dktX1_baseOf_3 := dk_seg dksX1_baseOf_2 24 rfl rfl
theorem dX1_baseOf_0 : decode cX1_baseOf 0 = .ok (.aload_n 1, 1) := dk_43 (dk_at dksX1_baseOf_0 0 rfl rfl)
theorem dX1_baseOf_1 : decode cX1_baseOf 1 = .ok (.iload_n 2, 1) := dk_28 (dk_at dksX1_baseOf_0 1 rfl rfl)
theorem dX1_baseOf_2 : decode cX1_baseOf 2 = .ok (.invokevirtual 187, 3) := dk_182 0 187 (dk_at dksX1_baseOf_0 2 rfl rfl)
theorem dX1_baseOf_5 : decode cX1_baseOf 5 = .ok (.lstore_n 3, 1) := dk_66 (dk_at dksX1_baseOf_0 5 rfl rfl)
theorem dX1_baseOf_6 : decode cX1_baseOf 6 = .ok (.iconst 0, 1) := dk_3 (dk_at dksX1_baseOf_0 6 rfl rfl)
theorem dX1_baseOf_7 : decode cX1_baseOf 7 = .ok (.istore 5, 2) := dk_54 5 (dk_at dksX1_baseOf_0 7 rfl rfl)
theorem dX1_baseOf_9 : decode cX1_baseOf 9 = .ok (.iload 5, 2) := dk_21 5 (dk_at dksX1_baseOf_0 9 rfl rfl)
theorem dX1_baseOf_11 : decode cX1_baseOf 11 = .ok (.aload_n 0, 1) := dk_42 (dk_at dksX1_baseOf_0 11 rfl rfl)
theorem dX1_baseOf_12 : decode cX1_baseOf 12 = .ok (.getfield 105, 3) := dk_180 0 105 (dk_at dksX1_baseOf_0 12 rfl rfl)
theorem dX1_baseOf_15 : decode cX1_baseOf 15 = .ok (.invokeinterface 62 1, 5) := by decide +kernel
theorem dX1_baseOf_20 : decode cX1_baseOf 20 = .ok (.if_icmp .ge 70, 3) := dk_162 0 70 (dk_at dksX1_baseOf_0 20 rfl rfl)
theorem dX1_baseOf_23 : decode cX1_baseOf 23 = .ok (.aload_n 0, 1) := dk_42 (dk_at dksX1_baseOf_0 23 rfl rfl)
theorem dX1_baseOf_24 : decode cX1_baseOf 24 = .ok (.getfield 105, 3) := dk_180 0 105 (dk_at dksX1_baseOf_1 0 rfl rfl)
theorem dX1_baseOf_27 : decode cX1_baseOf 27 = .ok (.iload 5, 2) := dk_21 5 (dk_at dksX1_baseOf_1 3 rfl rfl)
theorem dX1_baseOf_29 : decode cX1_baseOf 29 = .ok (.invokeinterface 67 2, 5) := by decide +kernel
theorem dX1_baseOf_34 : decode cX1_baseOf 34 = .ok (.checkcast 193, 3) := dk_192 0 193 (dk_at dksX1_baseOf_1 10 rfl rfl)
theorem dX1_baseOf_37 : decode cX1_baseOf 37 = .ok (.astore 6, 2) := dk_58 6 (dk_at dksX1_baseOf_1 13 rfl rfl)
theorem dX1_baseOf_39 : decode cX1_baseOf 39 = .ok (.lload_n 3, 1) := dk_33 (dk_at dksX1_baseOf_1 15 rfl rfl)
theorem dX1_baseOf_40 : decode cX1_baseOf 40 = .ok (.aload 6, 2) := dk_25 6 (dk_at dksX1_baseOf_1 16 rfl rfl)
theorem dX1_baseOf_42 : decode cX1_baseOf 42 = .ok (.getfield 195, 3) := dk_180 0 195 (dk_at dksX1_baseOf_1 18 rfl rfl)
theorem dX1_baseOf_45 : decode cX1_baseOf 45 = .ok (.aload_n 1, 1) := dk_43 (dk_at dksX1_baseOf_1 21 rfl rfl)
theorem dX1_baseOf_46 : decode cX1_baseOf 46 = .ok (.if_acmp .ne 35, 3) := dk_166 0 35 (dk_at dksX1_baseOf_2 0 rfl rfl)
theorem dX1_baseOf_49 : decode cX1_baseOf 49 = .ok (.aload 6, 2) := dk_25 6 (dk_at dksX1_baseOf_2 3 rfl rfl)
theorem dX1_baseOf_51 : decode cX1_baseOf 51 = .ok (.getfield 199, 3) := dk_180 0 199 (dk_at dksX1_baseOf_2 5 rfl rfl)
theorem dX1_baseOf_54 : decode cX1_baseOf 54 = .ok (.bipush 30, 2) := dk_16 30 (dk_at dksX1_baseOf_2 8 rfl rfl)
theorem dX1_baseOf_56 : decode cX1_baseOf 56 = .ok (.idiv, 1) := dk_108 (dk_at dksX1_baseOf_2 10 rfl rfl)
theorem dX1_baseOf_57 : decode cX1_baseOf 57 = .ok (.iload_n 2, 1) := dk_28 (dk_at dksX1_baseOf_2 11 rfl rfl)
theorem dX1_baseOf_58 : decode cX1_baseOf 58 = .ok (.if_icmp .ne 23, 3) := dk_160 0 23 (dk_at dksX1_baseOf_2 12 rfl rfl)
theorem dX1_baseOf_61 : decode cX1_baseOf 61 = .ok (.aload 6, 2) := dk_25 6 (dk_at dksX1_baseOf_2 15 rfl rfl)
theorem dX1_baseOf_63 : decode cX1_baseOf 63 = .ok (.getfield 203, 3) := dk_180 0 203 (dk_at dksX1_baseOf_2 17 rfl rfl)
theorem dX1_baseOf_66 : decode cX1_baseOf 66 = .ok (.ifCond .eq 15, 3) := dk_153 0 15 (dk_at dksX1_baseOf_2 20 rfl rfl)
theorem dX1_baseOf_69 : decode cX1_baseOf 69 = .ok (.aload_n 1, 1) := dk_43 (dk_at dksX1_baseOf_2 23 rfl rfl)
theorem dX1_baseOf_70 : decode cX1_baseOf 70 = .ok (.aload 6, 2) := dk_25 6 (dk_at dksX1_baseOf_3 0 rfl rfl)
theorem dX1_baseOf_72 : decode cX1_baseOf 72 = .ok (.getfield 199, 3) := dk_180 0 199 (dk_at dksX1_baseOf_3 2 rfl rfl)
theorem dX1_baseOf_75 : decode cX1_baseOf 75 = .ok (.invokevirtual 207, 3) := dk_182 0 207 (dk_at dksX1_baseOf_3 5 rfl rfl)
theorem dX1_baseOf_78 : decode cX1_baseOf 78 = .ok (.goto 4, 3) := dk_167 0 4 (dk_at dksX1_baseOf_3 8 rfl rfl)
theorem dX1_baseOf_81 : decode cX1_baseOf 81 = .ok (.lconst 0, 1) := dk_9 (dk_at dksX1_baseOf_3 11 rfl rfl)
theorem dX1_baseOf_82 : decode cX1_baseOf 82 = .ok (.ladd, 1) := dk_97 (dk_at dksX1_baseOf_3 12 rfl rfl)
theorem dX1_baseOf_83 : decode cX1_baseOf 83 = .ok (.lstore_n 3, 1) := dk_66 (dk_at dksX1_baseOf_3 13 rfl rfl)
theorem dX1_baseOf_84 : decode cX1_baseOf 84 = .ok (.iinc 5 1, 3) := dk_132 5 1 (dk_at dksX1_baseOf_3 14 rfl rfl)
theorem dX1_baseOf_87 : decode cX1_baseOf 87 = .ok (.goto (-78), 3) := dk_167 255 178 (dk_at dksX1_baseOf_3 17 rfl rfl)
theorem dX1_baseOf_90 : decode cX1_baseOf 90 = .ok (.lload_n 3, 1) := dk_33 (dk_at dksX1_baseOf_3 20 rfl rfl)
theorem dX1_baseOf_91 : decode cX1_baseOf 91 = .ok (.lreturn, 1) := dk_173 (dk_at dksX1_baseOf_3 21 rfl rfl)
def dkwX1_rounded_0 : List UInt8 := [20, 0, 3, 30, 105, 32, 97, 20, 0, 3, 32, 105, 184, 0, 5, 173]
abbrev dktX1_rounded_0 : List UInt8 := dkwX1_rounded_0 ++ []
theorem dksX1_rounded_0 : cX1_rounded.data.toList.drop 0 = dktX1_rounded_0 := by decide +kernel
theorem dX1_rounded_0 : decode cX1_rounded 0 = .ok (.ldc2_w 3, 3) := dk_20 0 3 (dk_at dksX1_rounded_0 0 rfl rfl)
theorem dX1_rounded_3 : decode cX1_rounded 3 = .ok (.lload_n 0, 1) := dk_30 (dk_at dksX1_rounded_0 3 rfl rfl)
theorem dX1_rounded_4 : decode cX1_rounded 4 = .ok (.lmul, 1) := dk_105 (dk_at dksX1_rounded_0 4 rfl rfl)
theorem dX1_rounded_5 : decode cX1_rounded 5 = .ok (.lload_n 2, 1) := dk_32 (dk_at dksX1_rounded_0 5 rfl rfl)
theorem dX1_rounded_6 : decode cX1_rounded 6 = .ok (.ladd, 1) := dk_97 (dk_at dksX1_rounded_0 6 rfl rfl)
theorem dX1_rounded_7 : decode cX1_rounded 7 = .ok (.ldc2_w 3, 3) := dk_20 0 3 (dk_at dksX1_rounded_0 7 rfl rfl)
theorem dX1_rounded_10 : decode cX1_rounded 10 = .ok (.lload_n 2, 1) := dk_32 (dk_at dksX1_rounded_0 10 rfl rfl)
theorem dX1_rounded_11 : decode cX1_rounded 11 = .ok (.lmul, 1) := dk_105 (dk_at dksX1_rounded_0 11 rfl rfl)
theorem dX1_rounded_12 : decode cX1_rounded 12 = .ok (.invokestatic 5, 3) := dk_184 0 5 (dk_at dksX1_rounded_0 12 rfl rfl)
theorem dX1_rounded_15 : decode cX1_rounded 15 = .ok (.lreturn, 1) := dk_173 (dk_at dksX1_rounded_0 15 rfl rfl)
def dkwX1_leaveRule_1 : List UInt8 := [87, 42, 27, 181, 1, 61, 42, 28, 181, 1, 64, 42, 29, 181, 1, 67, 177]
abbrev dktX1_leaveRule_1 : List UInt8 := dkwX1_leaveRule_1 ++ []
def dkwX1_leaveRule_0 : List UInt8 := [27, 3, 16, 50, 184, 1, 7, 87, 28, 3, 17, 1, 244, 184, 1, 7, 87, 29, 4, 16, 12, 184, 1, 7]
abbrev dktX1_leaveRule_0 : List UInt8 := dkwX1_leaveRule_0 ++ dktX1_leaveRule_1
theorem dksX1_leaveRule_0 : cX1_leaveRule.data.toList.drop 0 = dktX1_leaveRule_0 := by decide +kernel
theorem dksX1_leaveRule_1 : cX1_leaveRule.data.toList.drop 24 = dktX1_leaveRule_1 := dk_seg dksX1_leaveRule_0 24 rfl rfl
theorem dX1_leaveRule_0 : decode cX1_leaveRule 0 = .ok (.iload_n 1, 1) := dk_27 (dk_at dksX1_leaveRule_0 0 rfl rfl)
theorem dX1_leaveRule_1 : decode cX1_leaveRule 1 = .ok (.iconst 0, 1) := dk_3 (dk_at dksX1_leaveRule_0 1 rfl rfl)
theorem dX1_leaveRule_2 : decode cX1_leaveRule 2 = .ok (.bipush 50, 2) := dk_16 50 (dk_at dksX1_leaveRule_0 2 rfl rfl)
theorem dX1_leaveRule_4 : decode cX1_leaveRule 4 = .ok (.invokestatic 263, 3) := dk_184 1 7 (dk_at dksX1_leaveRule_0 4 rfl rfl)
theorem dX1_leaveRule_7 : decode cX1_leaveRule 7 = .ok (.pop, 1) := dk_87 (dk_at dksX1_leaveRule_0 7 rfl rfl)
theorem dX1_leaveRule_8 : decode cX1_leaveRule 8 = .ok (.iload_n 2, 1) := dk_28 (dk_at dksX1_leaveRule_0 8 rfl rfl)
theorem dX1_leaveRule_9 : decode cX1_leaveRule 9 = .ok (.iconst 0, 1) := dk_3 (dk_at dksX1_leaveRule_0 9 rfl rfl)
theorem dX1_leaveRule_10 : decode cX1_leaveRule 10 = .ok (.sipush 500, 3) := dk_17 1 244 (dk_at dksX1_leaveRule_0 10 rfl rfl)
theorem dX1_leaveRule_13 : decode cX1_leaveRule 13 = .ok (.invokestatic 263, 3) := dk_184 1 7 (dk_at dksX1_leaveRule_0 13 rfl rfl)
theorem dX1_leaveRule_16 : decode cX1_leaveRule 16 = .ok (.pop, 1) := dk_87 (dk_at dksX1_leaveRule_0 16 rfl rfl)
theorem dX1_leaveRule_17 : decode cX1_leaveRule 17 = .ok (.iload_n 3, 1) := dk_29 (dk_at dksX1_leaveRule_0 17 rfl rfl)
theorem dX1_leaveRule_18 : decode cX1_leaveRule 18 = .ok (.iconst 1, 1) := dk_4 (dk_at dksX1_leaveRule_0 18 rfl rfl)
theorem dX1_leaveRule_19 : decode cX1_leaveRule 19 = .ok (.bipush 12, 2) := dk_16 12 (dk_at dksX1_leaveRule_0 19 rfl rfl)
theorem dX1_leaveRule_21 : decode cX1_leaveRule 21 = .ok (.invokestatic 263, 3) := dk_184 1 7 (dk_at dksX1_leaveRule_0 21 rfl rfl)
theorem dX1_leaveRule_24 : decode cX1_leaveRule 24 = .ok (.pop, 1) := dk_87 (dk_at dksX1_leaveRule_1 0 rfl rfl)
theorem dX1_leaveRule_25 : decode cX1_leaveRule 25 = .ok (.aload_n 0, 1) := dk_42 (dk_at dksX1_leaveRule_1 1 rfl rfl)
theorem dX1_leaveRule_26 : decode cX1_leaveRule 26 = .ok (.iload_n 1, 1) := dk_27 (dk_at dksX1_leaveRule_1 2 rfl rfl)
theorem dX1_leaveRule_27 : decode cX1_leaveRule 27 = .ok (.putfield 317, 3) := dk_181 1 61 (dk_at dksX1_leaveRule_1 3 rfl rfl)
theorem dX1_leaveRule_30 : decode cX1_leaveRule 30 = .ok (.aload_n 0, 1) := dk_42 (dk_at dksX1_leaveRule_1 6 rfl rfl)
theorem dX1_leaveRule_31 : decode cX1_leaveRule 31 = .ok (.iload_n 2, 1) := dk_28 (dk_at dksX1_leaveRule_1 7 rfl rfl)
theorem dX1_leaveRule_32 : decode cX1_leaveRule 32 = .ok (.putfield 320, 3) := dk_181 1 64 (dk_at dksX1_leaveRule_1 8 rfl rfl)
theorem dX1_leaveRule_35 : decode cX1_leaveRule 35 = .ok (.aload_n 0, 1) := dk_42 (dk_at dksX1_leaveRule_1 11 rfl rfl)
theorem dX1_leaveRule_36 : decode cX1_leaveRule 36 = .ok (.iload_n 3, 1) := dk_29 (dk_at dksX1_leaveRule_1 12 rfl rfl)
theorem dX1_leaveRule_37 : decode cX1_leaveRule 37 = .ok (.putfield 323, 3) := dk_181 1 67 (dk_at dksX1_leaveRule_1 13 rfl rfl)
theorem dX1_leaveRule_40 : decode cX1_leaveRule 40 = .ok (.return_, 1) := dk_177 (dk_at dksX1_leaveRule_1 16 rfl rfl)
def dkwX1_leave_2 : List UInt8 := [185, 0, 97, 2, 0, 87, 42, 45, 180, 1, 53, 182, 1, 54, 25, 4, 180, 0, 203, 172]
abbrev dktX1_leave_2 : List UInt8 := dkwX1_leave_2 ++ []
def dkwX1_leave_1 : List UInt8 := [167, 0, 4, 3, 184, 1, 12, 187, 0, 193, 89, 45, 28, 183, 1, 70, 58, 4, 42, 180, 0, 105, 25, 4]
abbrev dktX1_leave_1 : List UInt8 := dkwX1_leave_1 ++ dktX1_leave_2
def dkwX1_leave_0 : List UInt8 := [42, 27, 28, 182, 1, 25, 78, 42, 180, 0, 105, 185, 0, 62, 1, 0, 16, 30, 162, 0, 7, 4]
abbrev dktX1_leave_0 : List UInt8 := dkwX1_leave_0 ++ dktX1_leave_1
theorem dksX1_leave_0 : cX1_leave.data.toList.drop 0 = dktX1_leave_0 := by decide +kernel
theorem dksX1_leave_1 : cX1_leave.data.toList.drop 22 = dktX1_leave_1 := dk_seg dksX1_leave_0 22 rfl rfl
theorem dksX1_leave_2 : cX1_leave.data.toList.drop 46 = dktX1_leave_2 := dk_seg dksX1_leave_1 24 rfl rfl
theorem dX1_leave_0 : decode cX1_leave 0 = .ok (.aload_n 0, 1) := dk_42 (dk_at dksX1_leave_0 0 rfl rfl)
theorem dX1_leave_1 : decode cX1_leave 1 = .ok (.iload_n 1, 1) := dk_27 (dk_at dksX1_leave_0 1 rfl rfl)
theorem dX1_leave_2 : decode cX1_leave 2 = .ok (.iload_n 2, 1) := dk_28 (dk_at dksX1_leave_0 2 rfl rfl)
theorem dX1_leave_3 : decode cX1_leave 3 = .ok (.invokevirtual 281, 3) := dk_182 1 25 (dk_at dksX1_leave_0 3 rfl rfl)
theorem dX1_leave_6 : decode cX1_leave 6 = .ok (.astore_n 3, 1) := dk_78 (dk_at dksX1_leave_0 6 rfl rfl)
theorem dX1_leave_7 : decode cX1_leave 7 = .ok (.aload_n 0, 1) := dk_42 (dk_at dksX1_leave_0 7 rfl rfl)
theorem dX1_leave_8 : decode cX1_leave 8 = .ok (.getfield 105, 3) := dk_180 0 105 (dk_at dksX1_leave_0 8 rfl rfl)
theorem dX1_leave_11 : decode cX1_leave 11 = .ok (.invokeinterface 62 1, 5) := by decide +kernel
theorem dX1_leave_16 : decode cX1_leave 16 = .ok (.bipush 30, 2) := dk_16 30 (dk_at dksX1_leave_0 16 rfl rfl)
theorem dX1_leave_18 : decode cX1_leave 18 = .ok (.if_icmp .ge 7, 3) := dk_162 0 7 (dk_at dksX1_leave_0 18 rfl rfl)
theorem dX1_leave_21 : decode cX1_leave 21 = .ok (.iconst 1, 1) := dk_4 (dk_at dksX1_leave_0 21 rfl rfl)
theorem dX1_leave_22 : decode cX1_leave 22 = .ok (.goto 4, 3) := dk_167 0 4 (dk_at dksX1_leave_1 0 rfl rfl)
theorem dX1_leave_25 : decode cX1_leave 25 = .ok (.iconst 0, 1) := dk_3 (dk_at dksX1_leave_1 3 rfl rfl)
theorem dX1_leave_26 : decode cX1_leave 26 = .ok (.invokestatic 268, 3) := dk_184 1 12 (dk_at dksX1_leave_1 4 rfl rfl)
theorem dX1_leave_29 : decode cX1_leave 29 = .ok (.new 193, 3) := dk_187 0 193 (dk_at dksX1_leave_1 7 rfl rfl)
theorem dX1_leave_32 : decode cX1_leave 32 = .ok (.dup, 1) := dk_89 (dk_at dksX1_leave_1 10 rfl rfl)
theorem dX1_leave_33 : decode cX1_leave 33 = .ok (.aload_n 3, 1) := dk_45 (dk_at dksX1_leave_1 11 rfl rfl)
theorem dX1_leave_34 : decode cX1_leave 34 = .ok (.iload_n 2, 1) := dk_28 (dk_at dksX1_leave_1 12 rfl rfl)
theorem dX1_leave_35 : decode cX1_leave 35 = .ok (.invokespecial 326, 3) := dk_183 1 70 (dk_at dksX1_leave_1 13 rfl rfl)
theorem dX1_leave_38 : decode cX1_leave 38 = .ok (.astore 4, 2) := dk_58 4 (dk_at dksX1_leave_1 16 rfl rfl)
theorem dX1_leave_40 : decode cX1_leave 40 = .ok (.aload_n 0, 1) := dk_42 (dk_at dksX1_leave_1 18 rfl rfl)
theorem dX1_leave_41 : decode cX1_leave 41 = .ok (.getfield 105, 3) := dk_180 0 105 (dk_at dksX1_leave_1 19 rfl rfl)
theorem dX1_leave_44 : decode cX1_leave 44 = .ok (.aload 4, 2) := dk_25 4 (dk_at dksX1_leave_1 22 rfl rfl)
theorem dX1_leave_46 : decode cX1_leave 46 = .ok (.invokeinterface 97 2, 5) := by decide +kernel
theorem dX1_leave_51 : decode cX1_leave 51 = .ok (.pop, 1) := dk_87 (dk_at dksX1_leave_2 5 rfl rfl)
theorem dX1_leave_52 : decode cX1_leave 52 = .ok (.aload_n 0, 1) := dk_42 (dk_at dksX1_leave_2 6 rfl rfl)
theorem dX1_leave_53 : decode cX1_leave 53 = .ok (.aload_n 3, 1) := dk_45 (dk_at dksX1_leave_2 7 rfl rfl)
theorem dX1_leave_54 : decode cX1_leave 54 = .ok (.getfield 309, 3) := dk_180 1 53 (dk_at dksX1_leave_2 8 rfl rfl)
theorem dX1_leave_57 : decode cX1_leave 57 = .ok (.invokevirtual 310, 3) := dk_182 1 54 (dk_at dksX1_leave_2 11 rfl rfl)
theorem dX1_leave_60 : decode cX1_leave 60 = .ok (.aload 4, 2) := dk_25 4 (dk_at dksX1_leave_2 14 rfl rfl)
theorem dX1_leave_62 : decode cX1_leave 62 = .ok (.getfield 203, 3) := dk_180 0 203 (dk_at dksX1_leave_2 16 rfl rfl)
theorem dX1_leave_65 : decode cX1_leave 65 = .ok (.ireturn, 1) := dk_172 (dk_at dksX1_leave_2 19 rfl rfl)
def dkwX1_leaveLeft_1 : List UInt8 := [182, 0, 179, 172]
abbrev dktX1_leaveLeft_1 : List UInt8 := dkwX1_leaveLeft_1 ++ []
def dkwX1_leaveLeft_0 : List UInt8 := [27, 16, 6, 184, 0, 251, 87, 187, 0, 174, 89, 42, 27, 183, 0, 176, 28, 17, 2, 208, 184, 0, 251]
abbrev dktX1_leaveLeft_0 : List UInt8 := dkwX1_leaveLeft_0 ++ dktX1_leaveLeft_1
theorem dksX1_leaveLeft_0 : cX1_leaveLeft.data.toList.drop 0 = dktX1_leaveLeft_0 := by decide +kernel
theorem dksX1_leaveLeft_1 : cX1_leaveLeft.data.toList.drop 23 = dktX1_leaveLeft_1 := dk_seg dksX1_leaveLeft_0 23 rfl rfl
theorem dX1_leaveLeft_0 : decode cX1_leaveLeft 0 = .ok (.iload_n 1, 1) := dk_27 (dk_at dksX1_leaveLeft_0 0 rfl rfl)
theorem dX1_leaveLeft_1 : decode cX1_leaveLeft 1 = .ok (.bipush 6, 2) := dk_16 6 (dk_at dksX1_leaveLeft_0 1 rfl rfl)
theorem dX1_leaveLeft_3 : decode cX1_leaveLeft 3 = .ok (.invokestatic 251, 3) := dk_184 0 251 (dk_at dksX1_leaveLeft_0 3 rfl rfl)
theorem dX1_leaveLeft_6 : decode cX1_leaveLeft 6 = .ok (.pop, 1) := dk_87 (dk_at dksX1_leaveLeft_0 6 rfl rfl)
theorem dX1_leaveLeft_7 : decode cX1_leaveLeft 7 = .ok (.new 174, 3) := dk_187 0 174 (dk_at dksX1_leaveLeft_0 7 rfl rfl)
theorem dX1_leaveLeft_10 : decode cX1_leaveLeft 10 = .ok (.dup, 1) := dk_89 (dk_at dksX1_leaveLeft_0 10 rfl rfl)
theorem dX1_leaveLeft_11 : decode cX1_leaveLeft 11 = .ok (.aload_n 0, 1) := dk_42 (dk_at dksX1_leaveLeft_0 11 rfl rfl)
theorem dX1_leaveLeft_12 : decode cX1_leaveLeft 12 = .ok (.iload_n 1, 1) := dk_27 (dk_at dksX1_leaveLeft_0 12 rfl rfl)
theorem dX1_leaveLeft_13 : decode cX1_leaveLeft 13 = .ok (.invokespecial 176, 3) := dk_183 0 176 (dk_at dksX1_leaveLeft_0 13 rfl rfl)
theorem dX1_leaveLeft_16 : decode cX1_leaveLeft 16 = .ok (.iload_n 2, 1) := dk_28 (dk_at dksX1_leaveLeft_0 16 rfl rfl)
theorem dX1_leaveLeft_17 : decode cX1_leaveLeft 17 = .ok (.sipush 720, 3) := dk_17 2 208 (dk_at dksX1_leaveLeft_0 17 rfl rfl)
theorem dX1_leaveLeft_20 : decode cX1_leaveLeft 20 = .ok (.invokestatic 251, 3) := dk_184 0 251 (dk_at dksX1_leaveLeft_0 20 rfl rfl)
theorem dX1_leaveLeft_23 : decode cX1_leaveLeft 23 = .ok (.invokevirtual 179, 3) := dk_182 0 179 (dk_at dksX1_leaveLeft_1 0 rfl rfl)
theorem dX1_leaveLeft_26 : decode cX1_leaveLeft 26 = .ok (.ireturn, 1) := dk_172 (dk_at dksX1_leaveLeft_1 3 rfl rfl)
def dkwX1_word_5 : List UInt8 := [185, 0, 62, 1, 0, 172]
abbrev dktX1_word_5 : List UInt8 := dkwX1_word_5 ++ []
def dkwX1_word_4 : List UInt8 := [167, 0, 4, 3, 184, 1, 12, 42, 180, 0, 108, 45, 185, 0, 97, 2, 0, 87, 42, 180, 0, 108]
abbrev dktX1_word_4 : List UInt8 := dkwX1_word_4 ++ dktX1_word_5
def dkwX1_word_3 : List UInt8 := [185, 0, 62, 1, 0, 16, 10, 162, 0, 18, 42, 182, 1, 88, 45, 184, 1, 75, 161, 0, 7, 4]
abbrev dktX1_word_3 : List UInt8 := dkwX1_word_3 ++ dktX1_word_4
def dkwX1_word_2 : List UInt8 := [187, 1, 84, 89, 28, 19, 1, 86, 19, 1, 11, 184, 1, 7, 183, 1, 87, 78, 42, 180, 0, 108]
abbrev dktX1_word_2 : List UInt8 := dkwX1_word_2 ++ dktX1_word_3
def dkwX1_word_1 : List UInt8 := [187, 1, 81, 89, 28, 3, 8, 184, 1, 7, 183, 1, 83, 78, 167, 0, 26, 27, 6, 160, 0, 21]
abbrev dktX1_word_1 : List UInt8 := dkwX1_word_1 ++ dktX1_word_2
def dkwX1_word_0 : List UInt8 := [27, 3, 16, 9, 184, 1, 7, 87, 187, 0, 11, 89, 27, 183, 1, 79, 78, 27, 5, 160, 0, 20]
abbrev dktX1_word_0 : List UInt8 := dkwX1_word_0 ++ dktX1_word_1
theorem dksX1_word_0 : cX1_word.data.toList.drop 0 = dktX1_word_0 := by decide +kernel
theorem dksX1_word_1 : cX1_word.data.toList.drop 22 = dktX1_word_1 := dk_seg dksX1_word_0 22 rfl rfl
theorem dksX1_word_2 : cX1_word.data.toList.drop 44 = dktX1_word_2 := dk_seg dksX1_word_1 22 rfl rfl
theorem dksX1_word_3 : cX1_word.data.toList.drop 66 = dktX1_word_3 := dk_seg dksX1_word_2 22 rfl rfl
theorem dksX1_word_4 : cX1_word.data.toList.drop 88 = dktX1_word_4 := dk_seg dksX1_word_3 22 rfl rfl
theorem dksX1_word_5 : cX1_word.data.toList.drop 110 = dktX1_word_5 := dk_seg dksX1_word_4 22 rfl rfl
theorem dX1_word_0 : decode cX1_word 0 = .ok (.iload_n 1, 1) := dk_27 (dk_at dksX1_word_0 0 rfl rfl)
theorem dX1_word_1 : decode cX1_word 1 = .ok (.iconst 0, 1) := dk_3 (dk_at dksX1_word_0 1 rfl rfl)
theorem dX1_word_2 : decode cX1_word 2 = .ok (.bipush 9, 2) := dk_16 9 (dk_at dksX1_word_0 2 rfl rfl)
theorem dX1_word_4 : decode cX1_word 4 = .ok (.invokestatic 263, 3) := dk_184 1 7 (dk_at dksX1_word_0 4 rfl rfl)
theorem dX1_word_7 : decode cX1_word 7 = .ok (.pop, 1) := dk_87 (dk_at dksX1_word_0 7 rfl rfl)
theorem dX1_word_8 : decode cX1_word 8 = .ok (.new 11, 3) := dk_187 0 11 (dk_at dksX1_word_0 8 rfl rfl)
theorem dX1_word_11 : decode cX1_word 11 = .ok (.dup, 1) := dk_89 (dk_at dksX1_word_0 11 rfl rfl)
theorem dX1_word_12 : decode cX1_word 12 = .ok (.iload_n 1, 1) := dk_27 (dk_at dksX1_word_0 12 rfl rfl)
theorem dX1_word_13 : decode cX1_word 13 = .ok (.invokespecial 335, 3) := dk_183 1 79 (dk_at dksX1_word_0 13 rfl rfl)
theorem dX1_word_16 : decode cX1_word 16 = .ok (.astore_n 3, 1) := dk_78 (dk_at dksX1_word_0 16 rfl rfl)
theorem dX1_word_17 : decode cX1_word 17 = .ok (.iload_n 1, 1) := dk_27 (dk_at dksX1_word_0 17 rfl rfl)
theorem dX1_word_18 : decode cX1_word 18 = .ok (.iconst 2, 1) := dk_5 (dk_at dksX1_word_0 18 rfl rfl)
theorem dX1_word_19 : decode cX1_word 19 = .ok (.if_icmp .ne 20, 3) := dk_160 0 20 (dk_at dksX1_word_0 19 rfl rfl)
theorem dX1_word_22 : decode cX1_word 22 = .ok (.new 337, 3) := dk_187 1 81 (dk_at dksX1_word_1 0 rfl rfl)
theorem dX1_word_25 : decode cX1_word 25 = .ok (.dup, 1) := dk_89 (dk_at dksX1_word_1 3 rfl rfl)
theorem dX1_word_26 : decode cX1_word 26 = .ok (.iload_n 2, 1) := dk_28 (dk_at dksX1_word_1 4 rfl rfl)
theorem dX1_word_27 : decode cX1_word 27 = .ok (.iconst 0, 1) := dk_3 (dk_at dksX1_word_1 5 rfl rfl)
theorem dX1_word_28 : decode cX1_word 28 = .ok (.iconst 5, 1) := dk_8 (dk_at dksX1_word_1 6 rfl rfl)
theorem dX1_word_29 : decode cX1_word 29 = .ok (.invokestatic 263, 3) := dk_184 1 7 (dk_at dksX1_word_1 7 rfl rfl)
theorem dX1_word_32 : decode cX1_word 32 = .ok (.invokespecial 339, 3) := dk_183 1 83 (dk_at dksX1_word_1 10 rfl rfl)
theorem dX1_word_35 : decode cX1_word 35 = .ok (.astore_n 3, 1) := dk_78 (dk_at dksX1_word_1 13 rfl rfl)
theorem dX1_word_36 : decode cX1_word 36 = .ok (.goto 26, 3) := dk_167 0 26 (dk_at dksX1_word_1 14 rfl rfl)
theorem dX1_word_39 : decode cX1_word 39 = .ok (.iload_n 1, 1) := dk_27 (dk_at dksX1_word_1 17 rfl rfl)
theorem dX1_word_40 : decode cX1_word 40 = .ok (.iconst 3, 1) := dk_6 (dk_at dksX1_word_1 18 rfl rfl)
theorem dX1_word_41 : decode cX1_word 41 = .ok (.if_icmp .ne 21, 3) := dk_160 0 21 (dk_at dksX1_word_1 19 rfl rfl)
theorem dX1_word_44 : decode cX1_word 44 = .ok (.new 340, 3) := dk_187 1 84 (dk_at dksX1_word_2 0 rfl rfl)
theorem dX1_word_47 : decode cX1_word 47 = .ok (.dup, 1) := dk_89 (dk_at dksX1_word_2 3 rfl rfl)
theorem dX1_word_48 : decode cX1_word 48 = .ok (.iload_n 2, 1) := dk_28 (dk_at dksX1_word_2 4 rfl rfl)
theorem dX1_word_49 : decode cX1_word 49 = .ok (.ldc_w 342, 3) := dk_19 1 86 (dk_at dksX1_word_2 5 rfl rfl)
theorem dX1_word_52 : decode cX1_word 52 = .ok (.ldc_w 267, 3) := dk_19 1 11 (dk_at dksX1_word_2 8 rfl rfl)
theorem dX1_word_55 : decode cX1_word 55 = .ok (.invokestatic 263, 3) := dk_184 1 7 (dk_at dksX1_word_2 11 rfl rfl)
theorem dX1_word_58 : decode cX1_word 58 = .ok (.invokespecial 343, 3) := dk_183 1 87 (dk_at dksX1_word_2 14 rfl rfl)
theorem dX1_word_61 : decode cX1_word 61 = .ok (.astore_n 3, 1) := dk_78 (dk_at dksX1_word_2 17 rfl rfl)
theorem dX1_word_62 : decode cX1_word 62 = .ok (.aload_n 0, 1) := dk_42 (dk_at dksX1_word_2 18 rfl rfl)
theorem dX1_word_63 : decode cX1_word 63 = .ok (.getfield 108, 3) := dk_180 0 108 (dk_at dksX1_word_2 19 rfl rfl)
theorem dX1_word_66 : decode cX1_word 66 = .ok (.invokeinterface 62 1, 5) := by decide +kernel
theorem dX1_word_71 : decode cX1_word 71 = .ok (.bipush 10, 2) := dk_16 10 (dk_at dksX1_word_3 5 rfl rfl)
theorem dX1_word_73 : decode cX1_word 73 = .ok (.if_icmp .ge 18, 3) := dk_162 0 18 (dk_at dksX1_word_3 7 rfl rfl)
theorem dX1_word_76 : decode cX1_word 76 = .ok (.aload_n 0, 1) := dk_42 (dk_at dksX1_word_3 10 rfl rfl)
theorem dX1_word_77 : decode cX1_word 77 = .ok (.invokevirtual 344, 3) := dk_182 1 88 (dk_at dksX1_word_3 11 rfl rfl)
theorem dX1_word_80 : decode cX1_word 80 = .ok (.aload_n 3, 1) := dk_45 (dk_at dksX1_word_3 14 rfl rfl)
theorem dX1_word_81 : decode cX1_word 81 = .ok (.invokestatic 331, 3) := dk_184 1 75 (dk_at dksX1_word_3 15 rfl rfl)
theorem dX1_word_84 : decode cX1_word 84 = .ok (.if_icmp .lt 7, 3) := dk_161 0 7 (dk_at dksX1_word_3 18 rfl rfl)
theorem dX1_word_87 : decode cX1_word 87 = .ok (.iconst 1, 1) := dk_4 (dk_at dksX1_word_3 21 rfl rfl)
theorem dX1_word_88 : decode cX1_word 88 = .ok (.goto 4, 3) := dk_167 0 4 (dk_at dksX1_word_4 0 rfl rfl)
theorem dX1_word_91 : decode cX1_word 91 = .ok (.iconst 0, 1) := dk_3 (dk_at dksX1_word_4 3 rfl rfl)
theorem dX1_word_92 : decode cX1_word 92 = .ok (.invokestatic 268, 3) := dk_184 1 12 (dk_at dksX1_word_4 4 rfl rfl)
theorem dX1_word_95 : decode cX1_word 95 = .ok (.aload_n 0, 1) := dk_42 (dk_at dksX1_word_4 7 rfl rfl)
theorem dX1_word_96 : decode cX1_word 96 = .ok (.getfield 108, 3) := dk_180 0 108 (dk_at dksX1_word_4 8 rfl rfl)
theorem dX1_word_99 : decode cX1_word 99 = .ok (.aload_n 3, 1) := dk_45 (dk_at dksX1_word_4 11 rfl rfl)
theorem dX1_word_100 : decode cX1_word 100 = .ok (.invokeinterface 97 2, 5) := by decide +kernel
theorem dX1_word_105 : decode cX1_word 105 = .ok (.pop, 1) := dk_87 (dk_at dksX1_word_4 17 rfl rfl)
theorem dX1_word_106 : decode cX1_word 106 = .ok (.aload_n 0, 1) := dk_42 (dk_at dksX1_word_4 18 rfl rfl)
theorem dX1_word_107 : decode cX1_word 107 = .ok (.getfield 108, 3) := dk_180 0 108 (dk_at dksX1_word_4 19 rfl rfl)
theorem dX1_word_110 : decode cX1_word 110 = .ok (.invokeinterface 62 1, 5) := by decide +kernel
theorem dX1_word_115 : decode cX1_word 115 = .ok (.ireturn, 1) := dk_172 (dk_at dksX1_word_5 5 rfl rfl)
def dkwX1_high_1 : List UInt8 := [185, 0, 219, 1, 0, 192, 1, 73, 78, 27, 4, 45, 184, 1, 75, 100, 96, 60, 167, 255, 228, 27, 172]
abbrev dktX1_high_1 : List UInt8 := dkwX1_high_1 ++ []
def dkwX1_high_0 : List UInt8 := [3, 60, 42, 180, 0, 108, 185, 0, 210, 1, 0, 77, 44, 185, 0, 214, 1, 0, 153, 0, 25, 44]
abbrev dktX1_high_0 : List UInt8 := dkwX1_high_0 ++ dktX1_high_1
theorem dksX1_high_0 : cX1_high.data.toList.drop 0 = dktX1_high_0 := by decide +kernel
theorem dksX1_high_1 : cX1_high.data.toList.drop 22 = dktX1_high_1 := dk_seg dksX1_high_0 22 rfl rfl
theorem dX1_high_0 : decode cX1_high 0 = .ok (.iconst 0, 1) := dk_3 (dk_at dksX1_high_0 0 rfl rfl)
theorem dX1_high_1 : decode cX1_high 1 = .ok (.istore_n 1, 1) := dk_60 (dk_at dksX1_high_0 1 rfl rfl)
theorem dX1_high_2 : decode cX1_high 2 = .ok (.aload_n 0, 1) := dk_42 (dk_at dksX1_high_0 2 rfl rfl)
theorem dX1_high_3 : decode cX1_high 3 = .ok (.getfield 108, 3) := dk_180 0 108 (dk_at dksX1_high_0 3 rfl rfl)
theorem dX1_high_6 : decode cX1_high 6 = .ok (.invokeinterface 210 1, 5) := by decide +kernel
theorem dX1_high_11 : decode cX1_high 11 = .ok (.astore_n 2, 1) := dk_77 (dk_at dksX1_high_0 11 rfl rfl)
theorem dX1_high_12 : decode cX1_high 12 = .ok (.aload_n 2, 1) := dk_44 (dk_at dksX1_high_0 12 rfl rfl)
theorem dX1_high_13 : decode cX1_high 13 = .ok (.invokeinterface 214 1, 5) := by decide +kernel
theorem dX1_high_18 : decode cX1_high 18 = .ok (.ifCond .eq 25, 3) := dk_153 0 25 (dk_at dksX1_high_0 18 rfl rfl)
theorem dX1_high_21 : decode cX1_high 21 = .ok (.aload_n 2, 1) := dk_44 (dk_at dksX1_high_0 21 rfl rfl)
theorem dX1_high_22 : decode cX1_high 22 = .ok (.invokeinterface 219 1, 5) := by decide +kernel
theorem dX1_high_27 : decode cX1_high 27 = .ok (.checkcast 329, 3) := dk_192 1 73 (dk_at dksX1_high_1 5 rfl rfl)
theorem dX1_high_30 : decode cX1_high 30 = .ok (.astore_n 3, 1) := dk_78 (dk_at dksX1_high_1 8 rfl rfl)
theorem dX1_high_31 : decode cX1_high 31 = .ok (.iload_n 1, 1) := dk_27 (dk_at dksX1_high_1 9 rfl rfl)
theorem dX1_high_32 : decode cX1_high 32 = .ok (.iconst 1, 1) := dk_4 (dk_at dksX1_high_1 10 rfl rfl)
theorem dX1_high_33 : decode cX1_high 33 = .ok (.aload_n 3, 1) := dk_45 (dk_at dksX1_high_1 11 rfl rfl)
theorem dX1_high_34 : decode cX1_high 34 = .ok (.invokestatic 331, 3) := dk_184 1 75 (dk_at dksX1_high_1 12 rfl rfl)
theorem dX1_high_37 : decode cX1_high 37 = .ok (.isub, 1) := dk_100 (dk_at dksX1_high_1 15 rfl rfl)
theorem dX1_high_38 : decode cX1_high 38 = .ok (.iadd, 1) := dk_96 (dk_at dksX1_high_1 16 rfl rfl)
theorem dX1_high_39 : decode cX1_high 39 = .ok (.istore_n 1, 1) := dk_60 (dk_at dksX1_high_1 17 rfl rfl)
theorem dX1_high_40 : decode cX1_high 40 = .ok (.goto (-28), 3) := dk_167 255 228 (dk_at dksX1_high_1 18 rfl rfl)
theorem dX1_high_43 : decode cX1_high 43 = .ok (.iload_n 1, 1) := dk_27 (dk_at dksX1_high_1 21 rfl rfl)
theorem dX1_high_44 : decode cX1_high 44 = .ok (.ireturn, 1) := dk_172 (dk_at dksX1_high_1 22 rfl rfl)
def dkwX1_takes_1 : List UInt8 := [3, 172]
abbrev dktX1_takes_1 : List UInt8 := dkwX1_takes_1 ++ []
def dkwX1_takes_0 : List UInt8 := [42, 193, 0, 11, 153, 0, 20, 42, 192, 0, 11, 76, 43, 182, 0, 13, 7, 161, 0, 7, 5, 167, 0, 4]
abbrev dktX1_takes_0 : List UInt8 := dkwX1_takes_0 ++ dktX1_takes_1
theorem dksX1_takes_0 : cX1_takes.data.toList.drop 0 = dktX1_takes_0 := by decide +kernel
theorem dksX1_takes_1 : cX1_takes.data.toList.drop 24 = dktX1_takes_1 := dk_seg dksX1_takes_0 24 rfl rfl
theorem dX1_takes_0 : decode cX1_takes 0 = .ok (.aload_n 0, 1) := dk_42 (dk_at dksX1_takes_0 0 rfl rfl)
theorem dX1_takes_1 : decode cX1_takes 1 = .ok (.instanceof 11, 3) := dk_193 0 11 (dk_at dksX1_takes_0 1 rfl rfl)
theorem dX1_takes_4 : decode cX1_takes 4 = .ok (.ifCond .eq 20, 3) := dk_153 0 20 (dk_at dksX1_takes_0 4 rfl rfl)
theorem dX1_takes_7 : decode cX1_takes 7 = .ok (.aload_n 0, 1) := dk_42 (dk_at dksX1_takes_0 7 rfl rfl)
theorem dX1_takes_8 : decode cX1_takes 8 = .ok (.checkcast 11, 3) := dk_192 0 11 (dk_at dksX1_takes_0 8 rfl rfl)
theorem dX1_takes_11 : decode cX1_takes 11 = .ok (.astore_n 1, 1) := dk_76 (dk_at dksX1_takes_0 11 rfl rfl)
theorem dX1_takes_12 : decode cX1_takes 12 = .ok (.aload_n 1, 1) := dk_43 (dk_at dksX1_takes_0 12 rfl rfl)
theorem dX1_takes_13 : decode cX1_takes 13 = .ok (.invokevirtual 13, 3) := dk_182 0 13 (dk_at dksX1_takes_0 13 rfl rfl)
theorem dX1_takes_16 : decode cX1_takes 16 = .ok (.iconst 4, 1) := dk_7 (dk_at dksX1_takes_0 16 rfl rfl)
theorem dX1_takes_17 : decode cX1_takes 17 = .ok (.if_icmp .lt 7, 3) := dk_161 0 7 (dk_at dksX1_takes_0 17 rfl rfl)
theorem dX1_takes_20 : decode cX1_takes 20 = .ok (.iconst 2, 1) := dk_5 (dk_at dksX1_takes_0 20 rfl rfl)
theorem dX1_takes_21 : decode cX1_takes 21 = .ok (.goto 4, 3) := dk_167 0 4 (dk_at dksX1_takes_0 21 rfl rfl)
theorem dX1_takes_24 : decode cX1_takes 24 = .ok (.iconst 0, 1) := dk_3 (dk_at dksX1_takes_1 0 rfl rfl)
theorem dX1_takes_25 : decode cX1_takes 25 = .ok (.ireturn, 1) := dk_172 (dk_at dksX1_takes_1 1 rfl rfl)
def dkwX1_element_7 : List UInt8 := [185, 0, 62, 1, 0, 172]
abbrev dktX1_element_7 : List UInt8 := dkwX1_element_7 ++ []
def dkwX1_element_6 : List UInt8 := [184, 1, 12, 42, 45, 181, 0, 111, 42, 187, 0, 53, 89, 183, 0, 55, 181, 0, 108, 42, 180, 0, 111]
abbrev dktX1_element_6 : List UInt8 := dkwX1_element_6 ++ dktX1_element_7
def dkwX1_element_5 : List UInt8 := [184, 1, 104, 185, 0, 62, 1, 0, 45, 185, 0, 62, 1, 0, 160, 0, 7, 4, 167, 0, 4, 3]
abbrev dktX1_element_5 : List UInt8 := dkwX1_element_5 ++ dktX1_element_6
def dkwX1_element_4 : List UInt8 := [185, 0, 97, 2, 0, 87, 167, 0, 17, 45, 27, 25, 4, 185, 1, 100, 3, 0, 192, 0, 71, 58, 5, 45]
abbrev dktX1_element_4 : List UInt8 := dkwX1_element_4 ++ dktX1_element_5
def dkwX1_element_3 : List UInt8 := [180, 0, 108, 28, 183, 1, 97, 58, 4, 27, 45, 185, 0, 62, 1, 0, 160, 0, 15, 45, 25, 4]
abbrev dktX1_element_3 : List UInt8 := dkwX1_element_3 ++ dktX1_element_4
def dkwX1_element_2 : List UInt8 := [187, 0, 53, 89, 183, 0, 55, 78, 45, 42, 180, 0, 111, 185, 1, 93, 2, 0, 87, 187, 0, 71, 89, 42]
abbrev dktX1_element_2 : List UInt8 := dkwX1_element_2 ++ dktX1_element_3
def dkwX1_element_1 : List UInt8 := [16, 63, 184, 1, 7, 87, 42, 182, 1, 88, 4, 160, 0, 7, 4, 167, 0, 4, 3, 184, 1, 12]
abbrev dktX1_element_1 : List UInt8 := dkwX1_element_1 ++ dktX1_element_2
def dkwX1_element_0 : List UInt8 := [27, 16, 6, 42, 180, 0, 111, 185, 0, 62, 1, 0, 4, 96, 184, 1, 91, 184, 0, 251, 87, 28, 3]
abbrev dktX1_element_0 : List UInt8 := dkwX1_element_0 ++ dktX1_element_1
theorem dksX1_element_0 : cX1_element.data.toList.drop 0 = dktX1_element_0 := by decide +kernel
theorem dksX1_element_1 : cX1_element.data.toList.drop 23 = dktX1_element_1 := dk_seg dksX1_element_0 23 rfl rfl
theorem dksX1_element_2 : cX1_element.data.toList.drop 45 = dktX1_element_2 := dk_seg dksX1_element_1 22 rfl rfl
theorem dksX1_element_3 : cX1_element.data.toList.drop 69 = dktX1_element_3 := dk_seg dksX1_element_2 24 rfl rfl
theorem dksX1_element_4 : cX1_element.data.toList.drop 91 = dktX1_element_4 := dk_seg dksX1_element_3 22 rfl rfl
theorem dksX1_element_5 : cX1_element.data.toList.drop 115 = dktX1_element_5 := dk_seg dksX1_element_4 24 rfl rfl
theorem dksX1_element_6 : cX1_element.data.toList.drop 137 = dktX1_element_6 := dk_seg dksX1_element_5 22 rfl rfl
theorem dksX1_element_7 : cX1_element.data.toList.drop 160 = dktX1_element_7 := dk_seg dksX1_element_6 23 rfl rfl
theorem dX1_element_0 : decode cX1_element 0 = .ok (.iload_n 1, 1) := dk_27 (dk_at dksX1_element_0 0 rfl rfl)
theorem dX1_element_1 : decode cX1_element 1 = .ok (.bipush 6, 2) := dk_16 6 (dk_at dksX1_element_0 1 rfl rfl)
theorem dX1_element_3 : decode cX1_element 3 = .ok (.aload_n 0, 1) := dk_42 (dk_at dksX1_element_0 3 rfl rfl)
theorem dX1_element_4 : decode cX1_element 4 = .ok (.getfield 111, 3) := dk_180 0 111 (dk_at dksX1_element_0 4 rfl rfl)
theorem dX1_element_7 : decode cX1_element 7 = .ok (.invokeinterface 62 1, 5) := by decide +kernel
theorem dX1_element_12 : decode cX1_element 12 = .ok (.iconst 1, 1) := dk_4 (dk_at dksX1_element_0 12 rfl rfl)
theorem dX1_element_13 : decode cX1_element 13 = .ok (.iadd, 1) := dk_96 (dk_at dksX1_element_0 13 rfl rfl)
theorem dX1_element_14 : decode cX1_element 14 = .ok (.invokestatic 347, 3) := dk_184 1 91 (dk_at dksX1_element_0 14 rfl rfl)
theorem dX1_element_17 : decode cX1_element 17 = .ok (.invokestatic 251, 3) := dk_184 0 251 (dk_at dksX1_element_0 17 rfl rfl)
theorem dX1_element_20 : decode cX1_element 20 = .ok (.pop, 1) := dk_87 (dk_at dksX1_element_0 20 rfl rfl)
theorem dX1_element_21 : decode cX1_element 21 = .ok (.iload_n 2, 1) := dk_28 (dk_at dksX1_element_0 21 rfl rfl)
theorem dX1_element_22 : decode cX1_element 22 = .ok (.iconst 0, 1) := dk_3 (dk_at dksX1_element_0 22 rfl rfl)
theorem dX1_element_23 : decode cX1_element 23 = .ok (.bipush 63, 2) := dk_16 63 (dk_at dksX1_element_1 0 rfl rfl)
theorem dX1_element_25 : decode cX1_element 25 = .ok (.invokestatic 263, 3) := dk_184 1 7 (dk_at dksX1_element_1 2 rfl rfl)
theorem dX1_element_28 : decode cX1_element 28 = .ok (.pop, 1) := dk_87 (dk_at dksX1_element_1 5 rfl rfl)
theorem dX1_element_29 : decode cX1_element 29 = .ok (.aload_n 0, 1) := dk_42 (dk_at dksX1_element_1 6 rfl rfl)
theorem dX1_element_30 : decode cX1_element 30 = .ok (.invokevirtual 344, 3) := dk_182 1 88 (dk_at dksX1_element_1 7 rfl rfl)
theorem dX1_element_33 : decode cX1_element 33 = .ok (.iconst 1, 1) := dk_4 (dk_at dksX1_element_1 10 rfl rfl)
theorem dX1_element_34 : decode cX1_element 34 = .ok (.if_icmp .ne 7, 3) := dk_160 0 7 (dk_at dksX1_element_1 11 rfl rfl)
theorem dX1_element_37 : decode cX1_element 37 = .ok (.iconst 1, 1) := dk_4 (dk_at dksX1_element_1 14 rfl rfl)
theorem dX1_element_38 : decode cX1_element 38 = .ok (.goto 4, 3) := dk_167 0 4 (dk_at dksX1_element_1 15 rfl rfl)
theorem dX1_element_41 : decode cX1_element 41 = .ok (.iconst 0, 1) := dk_3 (dk_at dksX1_element_1 18 rfl rfl)
theorem dX1_element_42 : decode cX1_element 42 = .ok (.invokestatic 268, 3) := dk_184 1 12 (dk_at dksX1_element_1 19 rfl rfl)
theorem dX1_element_45 : decode cX1_element 45 = .ok (.new 53, 3) := dk_187 0 53 (dk_at dksX1_element_2 0 rfl rfl)
theorem dX1_element_48 : decode cX1_element 48 = .ok (.dup, 1) := dk_89 (dk_at dksX1_element_2 3 rfl rfl)
theorem dX1_element_49 : decode cX1_element 49 = .ok (.invokespecial 55, 3) := dk_183 0 55 (dk_at dksX1_element_2 4 rfl rfl)
theorem dX1_element_52 : decode cX1_element 52 = .ok (.astore_n 3, 1) := dk_78 (dk_at dksX1_element_2 7 rfl rfl)
theorem dX1_element_53 : decode cX1_element 53 = .ok (.aload_n 3, 1) := dk_45 (dk_at dksX1_element_2 8 rfl rfl)
theorem dX1_element_54 : decode cX1_element 54 = .ok (.aload_n 0, 1) := dk_42 (dk_at dksX1_element_2 9 rfl rfl)
theorem dX1_element_55 : decode cX1_element 55 = .ok (.getfield 111, 3) := dk_180 0 111 (dk_at dksX1_element_2 10 rfl rfl)
theorem dX1_element_58 : decode cX1_element 58 = .ok (.invokeinterface 349 2, 5) := by decide +kernel
theorem dX1_element_63 : decode cX1_element 63 = .ok (.pop, 1) := dk_87 (dk_at dksX1_element_2 18 rfl rfl)
theorem dX1_element_64 : decode cX1_element 64 = .ok (.new 71, 3) := dk_187 0 71 (dk_at dksX1_element_2 19 rfl rfl)
theorem dX1_element_67 : decode cX1_element 67 = .ok (.dup, 1) := dk_89 (dk_at dksX1_element_2 22 rfl rfl)
theorem dX1_element_68 : decode cX1_element 68 = .ok (.aload_n 0, 1) := dk_42 (dk_at dksX1_element_2 23 rfl rfl)
theorem dX1_element_69 : decode cX1_element 69 = .ok (.getfield 108, 3) := dk_180 0 108 (dk_at dksX1_element_3 0 rfl rfl)
theorem dX1_element_72 : decode cX1_element 72 = .ok (.iload_n 2, 1) := dk_28 (dk_at dksX1_element_3 3 rfl rfl)
theorem dX1_element_73 : decode cX1_element 73 = .ok (.invokespecial 353, 3) := dk_183 1 97 (dk_at dksX1_element_3 4 rfl rfl)
theorem dX1_element_76 : decode cX1_element 76 = .ok (.astore 4, 2) := dk_58 4 (dk_at dksX1_element_3 7 rfl rfl)
theorem dX1_element_78 : decode cX1_element 78 = .ok (.iload_n 1, 1) := dk_27 (dk_at dksX1_element_3 9 rfl rfl)
theorem dX1_element_79 : decode cX1_element 79 = .ok (.aload_n 3, 1) := dk_45 (dk_at dksX1_element_3 10 rfl rfl)
theorem dX1_element_80 : decode cX1_element 80 = .ok (.invokeinterface 62 1, 5) := by decide +kernel
theorem dX1_element_85 : decode cX1_element 85 = .ok (.if_icmp .ne 15, 3) := dk_160 0 15 (dk_at dksX1_element_3 16 rfl rfl)
theorem dX1_element_88 : decode cX1_element 88 = .ok (.aload_n 3, 1) := dk_45 (dk_at dksX1_element_3 19 rfl rfl)
theorem dX1_element_89 : decode cX1_element 89 = .ok (.aload 4, 2) := dk_25 4 (dk_at dksX1_element_3 20 rfl rfl)
theorem dX1_element_91 : decode cX1_element 91 = .ok (.invokeinterface 97 2, 5) := by decide +kernel
theorem dX1_element_96 : decode cX1_element 96 = .ok (.pop, 1) := dk_87 (dk_at dksX1_element_4 5 rfl rfl)
theorem dX1_element_97 : decode cX1_element 97 = .ok (.goto 17, 3) := dk_167 0 17 (dk_at dksX1_element_4 6 rfl rfl)
theorem dX1_element_100 : decode cX1_element 100 = .ok (.aload_n 3, 1) := dk_45 (dk_at dksX1_element_4 9 rfl rfl)
theorem dX1_element_101 : decode cX1_element 101 = .ok (.iload_n 1, 1) := dk_27 (dk_at dksX1_element_4 10 rfl rfl)
theorem dX1_element_102 : decode cX1_element 102 = .ok (.aload 4, 2) := dk_25 4 (dk_at dksX1_element_4 11 rfl rfl)
theorem dX1_element_104 : decode cX1_element 104 = .ok (.invokeinterface 356 3, 5) := by decide +kernel
theorem dX1_element_109 : decode cX1_element 109 = .ok (.checkcast 71, 3) := dk_192 0 71 (dk_at dksX1_element_4 18 rfl rfl)
theorem dX1_element_112 : decode cX1_element 112 = .ok (.astore 5, 2) := dk_58 5 (dk_at dksX1_element_4 21 rfl rfl)
theorem dX1_element_114 : decode cX1_element 114 = .ok (.aload_n 3, 1) := dk_45 (dk_at dksX1_element_4 23 rfl rfl)
theorem dX1_element_115 : decode cX1_element 115 = .ok (.invokestatic 360, 3) := dk_184 1 104 (dk_at dksX1_element_5 0 rfl rfl)
theorem dX1_element_118 : decode cX1_element 118 = .ok (.invokeinterface 62 1, 5) := by decide +kernel
theorem dX1_element_123 : decode cX1_element 123 = .ok (.aload_n 3, 1) := dk_45 (dk_at dksX1_element_5 8 rfl rfl)
theorem dX1_element_124 : decode cX1_element 124 = .ok (.invokeinterface 62 1, 5) := by decide +kernel
theorem dX1_element_129 : decode cX1_element 129 = .ok (.if_icmp .ne 7, 3) := dk_160 0 7 (dk_at dksX1_element_5 14 rfl rfl)
theorem dX1_element_132 : decode cX1_element 132 = .ok (.iconst 1, 1) := dk_4 (dk_at dksX1_element_5 17 rfl rfl)
theorem dX1_element_133 : decode cX1_element 133 = .ok (.goto 4, 3) := dk_167 0 4 (dk_at dksX1_element_5 18 rfl rfl)
theorem dX1_element_136 : decode cX1_element 136 = .ok (.iconst 0, 1) := dk_3 (dk_at dksX1_element_5 21 rfl rfl)
theorem dX1_element_137 : decode cX1_element 137 = .ok (.invokestatic 268, 3) := dk_184 1 12 (dk_at dksX1_element_6 0 rfl rfl)
theorem dX1_element_140 : decode cX1_element 140 = .ok (.aload_n 0, 1) := dk_42 (dk_at dksX1_element_6 3 rfl rfl)
theorem dX1_element_141 : decode cX1_element 141 = .ok (.aload_n 3, 1) := dk_45 (dk_at dksX1_element_6 4 rfl rfl)
theorem dX1_element_142 : decode cX1_element 142 = .ok (.putfield 111, 3) := dk_181 0 111 (dk_at dksX1_element_6 5 rfl rfl)
theorem dX1_element_145 : decode cX1_element 145 = .ok (.aload_n 0, 1) := dk_42 (dk_at dksX1_element_6 8 rfl rfl)
theorem dX1_element_146 : decode cX1_element 146 = .ok (.new 53, 3) := dk_187 0 53 (dk_at dksX1_element_6 9 rfl rfl)
theorem dX1_element_149 : decode cX1_element 149 = .ok (.dup, 1) := dk_89 (dk_at dksX1_element_6 12 rfl rfl)
theorem dX1_element_150 : decode cX1_element 150 = .ok (.invokespecial 55, 3) := dk_183 0 55 (dk_at dksX1_element_6 13 rfl rfl)
theorem dX1_element_153 : decode cX1_element 153 = .ok (.putfield 108, 3) := dk_181 0 108 (dk_at dksX1_element_6 16 rfl rfl)
theorem dX1_element_156 : decode cX1_element 156 = .ok (.aload_n 0, 1) := dk_42 (dk_at dksX1_element_6 19 rfl rfl)
theorem dX1_element_157 : decode cX1_element 157 = .ok (.getfield 111, 3) := dk_180 0 111 (dk_at dksX1_element_6 20 rfl rfl)
theorem dX1_element_160 : decode cX1_element 160 = .ok (.invokeinterface 62 1, 5) := by decide +kernel
theorem dX1_element_165 : decode cX1_element 165 = .ok (.ireturn, 1) := dk_172 (dk_at dksX1_element_7 5 rfl rfl)
def dkwX1_orderOf_8 : List UInt8 := [182, 0, 83, 87, 132, 5, 1, 167, 255, 202, 167, 255, 165, 43, 176]
abbrev dktX1_orderOf_8 : List UInt8 := dkwX1_orderOf_8 ++ []
def dkwX1_orderOf_7 : List UInt8 := [153, 0, 28, 45, 21, 5, 92, 46, 4, 100, 79, 45, 21, 5, 46, 154, 0, 13, 44, 21, 5, 184, 0, 77]
abbrev dktX1_orderOf_7 : List UInt8 := dkwX1_orderOf_7 ++ dktX1_orderOf_8
def dkwX1_orderOf_6 : List UInt8 := [21, 5, 45, 190, 162, 0, 53, 42, 21, 5, 185, 0, 67, 2, 0, 192, 0, 71, 21, 4, 182, 0, 73]
abbrev dktX1_orderOf_6 : List UInt8 := dkwX1_orderOf_6 ++ dktX1_orderOf_7
def dkwX1_orderOf_5 : List UInt8 := [192, 0, 78, 182, 0, 94, 54, 4, 43, 21, 4, 184, 0, 77, 185, 0, 97, 2, 0, 87, 3, 54, 5]
abbrev dktX1_orderOf_5 : List UInt8 := dkwX1_orderOf_5 ++ dktX1_orderOf_6
def dkwX1_orderOf_4 : List UInt8 := [184, 0, 77, 182, 0, 83, 87, 132, 4, 1, 167, 255, 182, 44, 182, 0, 86, 154, 0, 90, 44, 182, 0, 90]
abbrev dktX1_orderOf_4 : List UInt8 := dkwX1_orderOf_4 ++ dktX1_orderOf_5
def dkwX1_orderOf_3 : List UInt8 := [167, 0, 4, 3, 96, 79, 132, 5, 1, 167, 255, 215, 45, 21, 4, 46, 154, 0, 13, 44, 21, 4]
abbrev dktX1_orderOf_3 : List UInt8 := dkwX1_orderOf_3 ++ dktX1_orderOf_4
def dkwX1_orderOf_2 : List UInt8 := [92, 46, 42, 21, 4, 185, 0, 67, 2, 0, 192, 0, 71, 21, 5, 182, 0, 73, 153, 0, 7, 4]
abbrev dktX1_orderOf_2 : List UInt8 := dkwX1_orderOf_2 ++ dktX1_orderOf_3
def dkwX1_orderOf_1 : List UInt8 := [78, 3, 54, 4, 21, 4, 45, 190, 162, 0, 73, 3, 54, 5, 21, 5, 45, 190, 162, 0, 40, 45, 21, 4]
abbrev dktX1_orderOf_1 : List UInt8 := dkwX1_orderOf_1 ++ dktX1_orderOf_2
def dkwX1_orderOf_0 : List UInt8 := [187, 0, 53, 89, 183, 0, 55, 76, 187, 0, 59, 89, 183, 0, 61, 77, 42, 185, 0, 62, 1, 0, 188, 10]
abbrev dktX1_orderOf_0 : List UInt8 := dkwX1_orderOf_0 ++ dktX1_orderOf_1
theorem dksX1_orderOf_0 : cX1_orderOf.data.toList.drop 0 = dktX1_orderOf_0 := by decide +kernel
theorem dksX1_orderOf_1 : cX1_orderOf.data.toList.drop 24 = dktX1_orderOf_1 := dk_seg dksX1_orderOf_0 24 rfl rfl
theorem dksX1_orderOf_2 : cX1_orderOf.data.toList.drop 48 = dktX1_orderOf_2 := dk_seg dksX1_orderOf_1 24 rfl rfl
theorem dksX1_orderOf_3 : cX1_orderOf.data.toList.drop 70 = dktX1_orderOf_3 := dk_seg dksX1_orderOf_2 22 rfl rfl
theorem dksX1_orderOf_4 : cX1_orderOf.data.toList.drop 92 = dktX1_orderOf_4 := dk_seg dksX1_orderOf_3 22 rfl rfl
theorem dksX1_orderOf_5 : cX1_orderOf.data.toList.drop 116 = dktX1_orderOf_5 := dk_seg dksX1_orderOf_4 24 rfl rfl
theorem dksX1_orderOf_6 : cX1_orderOf.data.toList.drop 139 = dktX1_orderOf_6 := dk_seg dksX1_orderOf_5 23 rfl rfl
theorem dksX1_orderOf_7 : cX1_orderOf.data.toList.drop 162 = dktX1_orderOf_7 := dk_seg dksX1_orderOf_6 23 rfl rfl
theorem dksX1_orderOf_8 : cX1_orderOf.data.toList.drop 186 = dktX1_orderOf_8 := dk_seg dksX1_orderOf_7 24 rfl rfl
theorem dX1_orderOf_0 : decode cX1_orderOf 0 = .ok (.new 53, 3) := dk_187 0 53 (dk_at dksX1_orderOf_0 0 rfl rfl)
theorem dX1_orderOf_3 : decode cX1_orderOf 3 = .ok (.dup, 1) := dk_89 (dk_at dksX1_orderOf_0 3 rfl rfl)
theorem dX1_orderOf_4 : decode cX1_orderOf 4 = .ok (.invokespecial 55, 3) := dk_183 0 55 (dk_at dksX1_orderOf_0 4 rfl rfl)
theorem dX1_orderOf_7 : decode cX1_orderOf 7 = .ok (.astore_n 1, 1) := dk_76 (dk_at dksX1_orderOf_0 7 rfl rfl)
theorem dX1_orderOf_8 : decode cX1_orderOf 8 = .ok (.new 59, 3) := dk_187 0 59 (dk_at dksX1_orderOf_0 8 rfl rfl)
theorem dX1_orderOf_11 : decode cX1_orderOf 11 = .ok (.dup, 1) := dk_89 (dk_at dksX1_orderOf_0 11 rfl rfl)
theorem dX1_orderOf_12 : decode cX1_orderOf 12 = .ok (.invokespecial 61, 3) := dk_183 0 61 (dk_at dksX1_orderOf_0 12 rfl rfl)
theorem dX1_orderOf_15 : decode cX1_orderOf 15 = .ok (.astore_n 2, 1) := dk_77 (dk_at dksX1_orderOf_0 15 rfl rfl)
theorem dX1_orderOf_16 : decode cX1_orderOf 16 = .ok (.aload_n 0, 1) := dk_42 (dk_at dksX1_orderOf_0 16 rfl rfl)
theorem dX1_orderOf_17 : decode cX1_orderOf 17 = .ok (.invokeinterface 62 1, 5) := by decide +kernel
theorem dX1_orderOf_22 : decode cX1_orderOf 22 = .ok (.newarray .int, 2) := dk_188_10 (dk_at dksX1_orderOf_0 22 rfl rfl)
theorem dX1_orderOf_24 : decode cX1_orderOf 24 = .ok (.astore_n 3, 1) := dk_78 (dk_at dksX1_orderOf_1 0 rfl rfl)
theorem dX1_orderOf_25 : decode cX1_orderOf 25 = .ok (.iconst 0, 1) := dk_3 (dk_at dksX1_orderOf_1 1 rfl rfl)
theorem dX1_orderOf_26 : decode cX1_orderOf 26 = .ok (.istore 4, 2) := dk_54 4 (dk_at dksX1_orderOf_1 2 rfl rfl)
theorem dX1_orderOf_28 : decode cX1_orderOf 28 = .ok (.iload 4, 2) := dk_21 4 (dk_at dksX1_orderOf_1 4 rfl rfl)
theorem dX1_orderOf_30 : decode cX1_orderOf 30 = .ok (.aload_n 3, 1) := dk_45 (dk_at dksX1_orderOf_1 6 rfl rfl)
theorem dX1_orderOf_31 : decode cX1_orderOf 31 = .ok (.arraylength, 1) := dk_190 (dk_at dksX1_orderOf_1 7 rfl rfl)
theorem dX1_orderOf_32 : decode cX1_orderOf 32 = .ok (.if_icmp .ge 73, 3) := dk_162 0 73 (dk_at dksX1_orderOf_1 8 rfl rfl)
theorem dX1_orderOf_35 : decode cX1_orderOf 35 = .ok (.iconst 0, 1) := dk_3 (dk_at dksX1_orderOf_1 11 rfl rfl)
theorem dX1_orderOf_36 : decode cX1_orderOf 36 = .ok (.istore 5, 2) := dk_54 5 (dk_at dksX1_orderOf_1 12 rfl rfl)
theorem dX1_orderOf_38 : decode cX1_orderOf 38 = .ok (.iload 5, 2) := dk_21 5 (dk_at dksX1_orderOf_1 14 rfl rfl)
theorem dX1_orderOf_40 : decode cX1_orderOf 40 = .ok (.aload_n 3, 1) := dk_45 (dk_at dksX1_orderOf_1 16 rfl rfl)
theorem dX1_orderOf_41 : decode cX1_orderOf 41 = .ok (.arraylength, 1) := dk_190 (dk_at dksX1_orderOf_1 17 rfl rfl)
theorem dX1_orderOf_42 : decode cX1_orderOf 42 = .ok (.if_icmp .ge 40, 3) := dk_162 0 40 (dk_at dksX1_orderOf_1 18 rfl rfl)
theorem dX1_orderOf_45 : decode cX1_orderOf 45 = .ok (.aload_n 3, 1) := dk_45 (dk_at dksX1_orderOf_1 21 rfl rfl)
theorem dX1_orderOf_46 : decode cX1_orderOf 46 = .ok (.iload 4, 2) := dk_21 4 (dk_at dksX1_orderOf_1 22 rfl rfl)
theorem dX1_orderOf_48 : decode cX1_orderOf 48 = .ok (.dup2, 1) := dk_92 (dk_at dksX1_orderOf_2 0 rfl rfl)
theorem dX1_orderOf_49 : decode cX1_orderOf 49 = .ok (.iaload, 1) := dk_46 (dk_at dksX1_orderOf_2 1 rfl rfl)
theorem dX1_orderOf_50 : decode cX1_orderOf 50 = .ok (.aload_n 0, 1) := dk_42 (dk_at dksX1_orderOf_2 2 rfl rfl)
theorem dX1_orderOf_51 : decode cX1_orderOf 51 = .ok (.iload 4, 2) := dk_21 4 (dk_at dksX1_orderOf_2 3 rfl rfl)
theorem dX1_orderOf_53 : decode cX1_orderOf 53 = .ok (.invokeinterface 67 2, 5) := by decide +kernel
theorem dX1_orderOf_58 : decode cX1_orderOf 58 = .ok (.checkcast 71, 3) := dk_192 0 71 (dk_at dksX1_orderOf_2 10 rfl rfl)
theorem dX1_orderOf_61 : decode cX1_orderOf 61 = .ok (.iload 5, 2) := dk_21 5 (dk_at dksX1_orderOf_2 13 rfl rfl)
theorem dX1_orderOf_63 : decode cX1_orderOf 63 = .ok (.invokevirtual 73, 3) := dk_182 0 73 (dk_at dksX1_orderOf_2 15 rfl rfl)
theorem dX1_orderOf_66 : decode cX1_orderOf 66 = .ok (.ifCond .eq 7, 3) := dk_153 0 7 (dk_at dksX1_orderOf_2 18 rfl rfl)
theorem dX1_orderOf_69 : decode cX1_orderOf 69 = .ok (.iconst 1, 1) := dk_4 (dk_at dksX1_orderOf_2 21 rfl rfl)
theorem dX1_orderOf_70 : decode cX1_orderOf 70 = .ok (.goto 4, 3) := dk_167 0 4 (dk_at dksX1_orderOf_3 0 rfl rfl)
theorem dX1_orderOf_73 : decode cX1_orderOf 73 = .ok (.iconst 0, 1) := dk_3 (dk_at dksX1_orderOf_3 3 rfl rfl)
theorem dX1_orderOf_74 : decode cX1_orderOf 74 = .ok (.iadd, 1) := dk_96 (dk_at dksX1_orderOf_3 4 rfl rfl)
theorem dX1_orderOf_75 : decode cX1_orderOf 75 = .ok (.iastore, 1) := dk_79 (dk_at dksX1_orderOf_3 5 rfl rfl)
theorem dX1_orderOf_76 : decode cX1_orderOf 76 = .ok (.iinc 5 1, 3) := dk_132 5 1 (dk_at dksX1_orderOf_3 6 rfl rfl)
theorem dX1_orderOf_79 : decode cX1_orderOf 79 = .ok (.goto (-41), 3) := dk_167 255 215 (dk_at dksX1_orderOf_3 9 rfl rfl)
theorem dX1_orderOf_82 : decode cX1_orderOf 82 = .ok (.aload_n 3, 1) := dk_45 (dk_at dksX1_orderOf_3 12 rfl rfl)
theorem dX1_orderOf_83 : decode cX1_orderOf 83 = .ok (.iload 4, 2) := dk_21 4 (dk_at dksX1_orderOf_3 13 rfl rfl)
theorem dX1_orderOf_85 : decode cX1_orderOf 85 = .ok (.iaload, 1) := dk_46 (dk_at dksX1_orderOf_3 15 rfl rfl)
theorem dX1_orderOf_86 : decode cX1_orderOf 86 = .ok (.ifCond .ne 13, 3) := dk_154 0 13 (dk_at dksX1_orderOf_3 16 rfl rfl)
theorem dX1_orderOf_89 : decode cX1_orderOf 89 = .ok (.aload_n 2, 1) := dk_44 (dk_at dksX1_orderOf_3 19 rfl rfl)
theorem dX1_orderOf_90 : decode cX1_orderOf 90 = .ok (.iload 4, 2) := dk_21 4 (dk_at dksX1_orderOf_3 20 rfl rfl)
theorem dX1_orderOf_92 : decode cX1_orderOf 92 = .ok (.invokestatic 77, 3) := dk_184 0 77 (dk_at dksX1_orderOf_4 0 rfl rfl)
theorem dX1_orderOf_95 : decode cX1_orderOf 95 = .ok (.invokevirtual 83, 3) := dk_182 0 83 (dk_at dksX1_orderOf_4 3 rfl rfl)
theorem dX1_orderOf_98 : decode cX1_orderOf 98 = .ok (.pop, 1) := dk_87 (dk_at dksX1_orderOf_4 6 rfl rfl)
theorem dX1_orderOf_99 : decode cX1_orderOf 99 = .ok (.iinc 4 1, 3) := dk_132 4 1 (dk_at dksX1_orderOf_4 7 rfl rfl)
theorem dX1_orderOf_102 : decode cX1_orderOf 102 = .ok (.goto (-74), 3) := dk_167 255 182 (dk_at dksX1_orderOf_4 10 rfl rfl)
theorem dX1_orderOf_105 : decode cX1_orderOf 105 = .ok (.aload_n 2, 1) := dk_44 (dk_at dksX1_orderOf_4 13 rfl rfl)
theorem dX1_orderOf_106 : decode cX1_orderOf 106 = .ok (.invokevirtual 86, 3) := dk_182 0 86 (dk_at dksX1_orderOf_4 14 rfl rfl)
theorem dX1_orderOf_109 : decode cX1_orderOf 109 = .ok (.ifCond .ne 90, 3) := dk_154 0 90 (dk_at dksX1_orderOf_4 17 rfl rfl)
theorem dX1_orderOf_112 : decode cX1_orderOf 112 = .ok (.aload_n 2, 1) := dk_44 (dk_at dksX1_orderOf_4 20 rfl rfl)
theorem dX1_orderOf_113 : decode cX1_orderOf 113 = .ok (.invokevirtual 90, 3) := dk_182 0 90 (dk_at dksX1_orderOf_4 21 rfl rfl)
theorem dX1_orderOf_116 : decode cX1_orderOf 116 = .ok (.checkcast 78, 3) := dk_192 0 78 (dk_at dksX1_orderOf_5 0 rfl rfl)
theorem dX1_orderOf_119 : decode cX1_orderOf 119 = .ok (.invokevirtual 94, 3) := dk_182 0 94 (dk_at dksX1_orderOf_5 3 rfl rfl)
theorem dX1_orderOf_122 : decode cX1_orderOf 122 = .ok (.istore 4, 2) := dk_54 4 (dk_at dksX1_orderOf_5 6 rfl rfl)
theorem dX1_orderOf_124 : decode cX1_orderOf 124 = .ok (.aload_n 1, 1) := dk_43 (dk_at dksX1_orderOf_5 8 rfl rfl)
theorem dX1_orderOf_125 : decode cX1_orderOf 125 = .ok (.iload 4, 2) := dk_21 4 (dk_at dksX1_orderOf_5 9 rfl rfl)
theorem dX1_orderOf_127 : decode cX1_orderOf 127 = .ok (.invokestatic 77, 3) := dk_184 0 77 (dk_at dksX1_orderOf_5 11 rfl rfl)
theorem dX1_orderOf_130 : decode cX1_orderOf 130 = .ok (.invokeinterface 97 2, 5) := by decide +kernel
theorem dX1_orderOf_135 : decode cX1_orderOf 135 = .ok (.pop, 1) := dk_87 (dk_at dksX1_orderOf_5 19 rfl rfl)
theorem dX1_orderOf_136 : decode cX1_orderOf 136 = .ok (.iconst 0, 1) := dk_3 (dk_at dksX1_orderOf_5 20 rfl rfl)
theorem dX1_orderOf_137 : decode cX1_orderOf 137 = .ok (.istore 5, 2) := dk_54 5 (dk_at dksX1_orderOf_5 21 rfl rfl)
theorem dX1_orderOf_139 : decode cX1_orderOf 139 = .ok (.iload 5, 2) := dk_21 5 (dk_at dksX1_orderOf_6 0 rfl rfl)
theorem dX1_orderOf_141 : decode cX1_orderOf 141 = .ok (.aload_n 3, 1) := dk_45 (dk_at dksX1_orderOf_6 2 rfl rfl)
theorem dX1_orderOf_142 : decode cX1_orderOf 142 = .ok (.arraylength, 1) := dk_190 (dk_at dksX1_orderOf_6 3 rfl rfl)
theorem dX1_orderOf_143 : decode cX1_orderOf 143 = .ok (.if_icmp .ge 53, 3) := dk_162 0 53 (dk_at dksX1_orderOf_6 4 rfl rfl)
theorem dX1_orderOf_146 : decode cX1_orderOf 146 = .ok (.aload_n 0, 1) := dk_42 (dk_at dksX1_orderOf_6 7 rfl rfl)
theorem dX1_orderOf_147 : decode cX1_orderOf 147 = .ok (.iload 5, 2) := dk_21 5 (dk_at dksX1_orderOf_6 8 rfl rfl)
theorem dX1_orderOf_149 : decode cX1_orderOf 149 = .ok (.invokeinterface 67 2, 5) := by decide +kernel
theorem dX1_orderOf_154 : decode cX1_orderOf 154 = .ok (.checkcast 71, 3) := dk_192 0 71 (dk_at dksX1_orderOf_6 15 rfl rfl)
theorem dX1_orderOf_157 : decode cX1_orderOf 157 = .ok (.iload 4, 2) := dk_21 4 (dk_at dksX1_orderOf_6 18 rfl rfl)
theorem dX1_orderOf_159 : decode cX1_orderOf 159 = .ok (.invokevirtual 73, 3) := dk_182 0 73 (dk_at dksX1_orderOf_6 20 rfl rfl)
theorem dX1_orderOf_162 : decode cX1_orderOf 162 = .ok (.ifCond .eq 28, 3) := dk_153 0 28 (dk_at dksX1_orderOf_7 0 rfl rfl)
theorem dX1_orderOf_165 : decode cX1_orderOf 165 = .ok (.aload_n 3, 1) := dk_45 (dk_at dksX1_orderOf_7 3 rfl rfl)
theorem dX1_orderOf_166 : decode cX1_orderOf 166 = .ok (.iload 5, 2) := dk_21 5 (dk_at dksX1_orderOf_7 4 rfl rfl)
theorem dX1_orderOf_168 : decode cX1_orderOf 168 = .ok (.dup2, 1) := dk_92 (dk_at dksX1_orderOf_7 6 rfl rfl)
theorem dX1_orderOf_169 : decode cX1_orderOf 169 = .ok (.iaload, 1) := dk_46 (dk_at dksX1_orderOf_7 7 rfl rfl)
theorem dX1_orderOf_170 : decode cX1_orderOf 170 = .ok (.iconst 1, 1) := dk_4 (dk_at dksX1_orderOf_7 8 rfl rfl)
theorem dX1_orderOf_171 : decode cX1_orderOf 171 = .ok (.isub, 1) := dk_100 (dk_at dksX1_orderOf_7 9 rfl rfl)
theorem dX1_orderOf_172 : decode cX1_orderOf 172 = .ok (.iastore, 1) := dk_79 (dk_at dksX1_orderOf_7 10 rfl rfl)
theorem dX1_orderOf_173 : decode cX1_orderOf 173 = .ok (.aload_n 3, 1) := dk_45 (dk_at dksX1_orderOf_7 11 rfl rfl)
theorem dX1_orderOf_174 : decode cX1_orderOf 174 = .ok (.iload 5, 2) := dk_21 5 (dk_at dksX1_orderOf_7 12 rfl rfl)
theorem dX1_orderOf_176 : decode cX1_orderOf 176 = .ok (.iaload, 1) := dk_46 (dk_at dksX1_orderOf_7 14 rfl rfl)
theorem dX1_orderOf_177 : decode cX1_orderOf 177 = .ok (.ifCond .ne 13, 3) := dk_154 0 13 (dk_at dksX1_orderOf_7 15 rfl rfl)
theorem dX1_orderOf_180 : decode cX1_orderOf 180 = .ok (.aload_n 2, 1) := dk_44 (dk_at dksX1_orderOf_7 18 rfl rfl)
theorem dX1_orderOf_181 : decode cX1_orderOf 181 = .ok (.iload 5, 2) := dk_21 5 (dk_at dksX1_orderOf_7 19 rfl rfl)
theorem dX1_orderOf_183 : decode cX1_orderOf 183 = .ok (.invokestatic 77, 3) := dk_184 0 77 (dk_at dksX1_orderOf_7 21 rfl rfl)
theorem dX1_orderOf_186 : decode cX1_orderOf 186 = .ok (.invokevirtual 83, 3) := dk_182 0 83 (dk_at dksX1_orderOf_8 0 rfl rfl)
theorem dX1_orderOf_189 : decode cX1_orderOf 189 = .ok (.pop, 1) := dk_87 (dk_at dksX1_orderOf_8 3 rfl rfl)
theorem dX1_orderOf_190 : decode cX1_orderOf 190 = .ok (.iinc 5 1, 3) := dk_132 5 1 (dk_at dksX1_orderOf_8 4 rfl rfl)
theorem dX1_orderOf_193 : decode cX1_orderOf 193 = .ok (.goto (-54), 3) := dk_167 255 202 (dk_at dksX1_orderOf_8 7 rfl rfl)
theorem dX1_orderOf_196 : decode cX1_orderOf 196 = .ok (.goto (-91), 3) := dk_167 255 165 (dk_at dksX1_orderOf_8 10 rfl rfl)
theorem dX1_orderOf_199 : decode cX1_orderOf 199 = .ok (.aload_n 1, 1) := dk_43 (dk_at dksX1_orderOf_8 13 rfl rfl)
theorem dX1_orderOf_200 : decode cX1_orderOf 200 = .ok (.areturn, 1) := dk_176 (dk_at dksX1_orderOf_8 14 rfl rfl)
def dkwX1_order_1 : List UInt8 := [192, 0, 78, 182, 0, 94, 172]
abbrev dktX1_order_1 : List UInt8 := dkwX1_order_1 ++ []
def dkwX1_order_0 : List UInt8 := [42, 180, 0, 111, 184, 1, 104, 77, 44, 27, 44, 185, 0, 62, 1, 0, 184, 0, 251, 185, 0, 67, 2, 0]
abbrev dktX1_order_0 : List UInt8 := dkwX1_order_0 ++ dktX1_order_1
theorem dksX1_order_0 : cX1_order.data.toList.drop 0 = dktX1_order_0 := by decide +kernel
theorem dksX1_order_1 : cX1_order.data.toList.drop 24 = dktX1_order_1 := dk_seg dksX1_order_0 24 rfl rfl
theorem dX1_order_0 : decode cX1_order 0 = .ok (.aload_n 0, 1) := dk_42 (dk_at dksX1_order_0 0 rfl rfl)
theorem dX1_order_1 : decode cX1_order 1 = .ok (.getfield 111, 3) := dk_180 0 111 (dk_at dksX1_order_0 1 rfl rfl)
theorem dX1_order_4 : decode cX1_order 4 = .ok (.invokestatic 360, 3) := dk_184 1 104 (dk_at dksX1_order_0 4 rfl rfl)
theorem dX1_order_7 : decode cX1_order 7 = .ok (.astore_n 2, 1) := dk_77 (dk_at dksX1_order_0 7 rfl rfl)
theorem dX1_order_8 : decode cX1_order 8 = .ok (.aload_n 2, 1) := dk_44 (dk_at dksX1_order_0 8 rfl rfl)
theorem dX1_order_9 : decode cX1_order 9 = .ok (.iload_n 1, 1) := dk_27 (dk_at dksX1_order_0 9 rfl rfl)
theorem dX1_order_10 : decode cX1_order 10 = .ok (.aload_n 2, 1) := dk_44 (dk_at dksX1_order_0 10 rfl rfl)
theorem dX1_order_11 : decode cX1_order 11 = .ok (.invokeinterface 62 1, 5) := by decide +kernel
theorem dX1_order_16 : decode cX1_order 16 = .ok (.invokestatic 251, 3) := dk_184 0 251 (dk_at dksX1_order_0 16 rfl rfl)
theorem dX1_order_19 : decode cX1_order 19 = .ok (.invokeinterface 67 2, 5) := by decide +kernel
theorem dX1_order_24 : decode cX1_order 24 = .ok (.checkcast 78, 3) := dk_192 0 78 (dk_at dksX1_order_1 0 rfl rfl)
theorem dX1_order_27 : decode cX1_order 27 = .ok (.invokevirtual 94, 3) := dk_182 0 94 (dk_at dksX1_order_1 3 rfl rfl)
theorem dX1_order_30 : decode cX1_order 30 = .ok (.ireturn, 1) := dk_172 (dk_at dksX1_order_1 6 rfl rfl)
def dkwX1_bonus_2 : List UInt8 := [184, 1, 7, 79, 21, 5, 172]
abbrev dktX1_bonus_2 : List UInt8 := dkwX1_bonus_2 ++ []
def dkwX1_bonus_1 : List UInt8 := [184, 0, 251, 46, 54, 5, 42, 180, 0, 116, 27, 50, 28, 50, 29, 21, 4, 19, 1, 108, 19, 1, 109]
abbrev dktX1_bonus_1 : List UInt8 := dkwX1_bonus_1 ++ dktX1_bonus_2
def dkwX1_bonus_0 : List UInt8 := [27, 16, 6, 184, 0, 251, 87, 28, 16, 24, 184, 0, 251, 87, 42, 180, 0, 116, 27, 50, 28, 50, 29, 6]
abbrev dktX1_bonus_0 : List UInt8 := dkwX1_bonus_0 ++ dktX1_bonus_1
theorem dksX1_bonus_0 : cX1_bonus.data.toList.drop 0 = dktX1_bonus_0 := by decide +kernel
theorem dksX1_bonus_1 : cX1_bonus.data.toList.drop 24 = dktX1_bonus_1 := dk_seg dksX1_bonus_0 24 rfl rfl
theorem dksX1_bonus_2 : cX1_bonus.data.toList.drop 47 = dktX1_bonus_2 := dk_seg dksX1_bonus_1 23 rfl rfl
theorem dX1_bonus_0 : decode cX1_bonus 0 = .ok (.iload_n 1, 1) := dk_27 (dk_at dksX1_bonus_0 0 rfl rfl)
theorem dX1_bonus_1 : decode cX1_bonus 1 = .ok (.bipush 6, 2) := dk_16 6 (dk_at dksX1_bonus_0 1 rfl rfl)
theorem dX1_bonus_3 : decode cX1_bonus 3 = .ok (.invokestatic 251, 3) := dk_184 0 251 (dk_at dksX1_bonus_0 3 rfl rfl)
theorem dX1_bonus_6 : decode cX1_bonus 6 = .ok (.pop, 1) := dk_87 (dk_at dksX1_bonus_0 6 rfl rfl)
theorem dX1_bonus_7 : decode cX1_bonus 7 = .ok (.iload_n 2, 1) := dk_28 (dk_at dksX1_bonus_0 7 rfl rfl)
theorem dX1_bonus_8 : decode cX1_bonus 8 = .ok (.bipush 24, 2) := dk_16 24 (dk_at dksX1_bonus_0 8 rfl rfl)
theorem dX1_bonus_10 : decode cX1_bonus 10 = .ok (.invokestatic 251, 3) := dk_184 0 251 (dk_at dksX1_bonus_0 10 rfl rfl)
theorem dX1_bonus_13 : decode cX1_bonus 13 = .ok (.pop, 1) := dk_87 (dk_at dksX1_bonus_0 13 rfl rfl)
theorem dX1_bonus_14 : decode cX1_bonus 14 = .ok (.aload_n 0, 1) := dk_42 (dk_at dksX1_bonus_0 14 rfl rfl)
theorem dX1_bonus_15 : decode cX1_bonus 15 = .ok (.getfield 116, 3) := dk_180 0 116 (dk_at dksX1_bonus_0 15 rfl rfl)
theorem dX1_bonus_18 : decode cX1_bonus 18 = .ok (.iload_n 1, 1) := dk_27 (dk_at dksX1_bonus_0 18 rfl rfl)
theorem dX1_bonus_19 : decode cX1_bonus 19 = .ok (.aaload, 1) := dk_50 (dk_at dksX1_bonus_0 19 rfl rfl)
theorem dX1_bonus_20 : decode cX1_bonus 20 = .ok (.iload_n 2, 1) := dk_28 (dk_at dksX1_bonus_0 20 rfl rfl)
theorem dX1_bonus_21 : decode cX1_bonus 21 = .ok (.aaload, 1) := dk_50 (dk_at dksX1_bonus_0 21 rfl rfl)
theorem dX1_bonus_22 : decode cX1_bonus 22 = .ok (.iload_n 3, 1) := dk_29 (dk_at dksX1_bonus_0 22 rfl rfl)
theorem dX1_bonus_23 : decode cX1_bonus 23 = .ok (.iconst 3, 1) := dk_6 (dk_at dksX1_bonus_0 23 rfl rfl)
theorem dX1_bonus_24 : decode cX1_bonus 24 = .ok (.invokestatic 251, 3) := dk_184 0 251 (dk_at dksX1_bonus_1 0 rfl rfl)
theorem dX1_bonus_27 : decode cX1_bonus 27 = .ok (.iaload, 1) := dk_46 (dk_at dksX1_bonus_1 3 rfl rfl)
theorem dX1_bonus_28 : decode cX1_bonus 28 = .ok (.istore 5, 2) := dk_54 5 (dk_at dksX1_bonus_1 4 rfl rfl)
theorem dX1_bonus_30 : decode cX1_bonus 30 = .ok (.aload_n 0, 1) := dk_42 (dk_at dksX1_bonus_1 6 rfl rfl)
theorem dX1_bonus_31 : decode cX1_bonus 31 = .ok (.getfield 116, 3) := dk_180 0 116 (dk_at dksX1_bonus_1 7 rfl rfl)
theorem dX1_bonus_34 : decode cX1_bonus 34 = .ok (.iload_n 1, 1) := dk_27 (dk_at dksX1_bonus_1 10 rfl rfl)
theorem dX1_bonus_35 : decode cX1_bonus 35 = .ok (.aaload, 1) := dk_50 (dk_at dksX1_bonus_1 11 rfl rfl)
theorem dX1_bonus_36 : decode cX1_bonus 36 = .ok (.iload_n 2, 1) := dk_28 (dk_at dksX1_bonus_1 12 rfl rfl)
theorem dX1_bonus_37 : decode cX1_bonus 37 = .ok (.aaload, 1) := dk_50 (dk_at dksX1_bonus_1 13 rfl rfl)
theorem dX1_bonus_38 : decode cX1_bonus 38 = .ok (.iload_n 3, 1) := dk_29 (dk_at dksX1_bonus_1 14 rfl rfl)
theorem dX1_bonus_39 : decode cX1_bonus 39 = .ok (.iload 4, 2) := dk_21 4 (dk_at dksX1_bonus_1 15 rfl rfl)
theorem dX1_bonus_41 : decode cX1_bonus 41 = .ok (.ldc_w 364, 3) := dk_19 1 108 (dk_at dksX1_bonus_1 17 rfl rfl)
theorem dX1_bonus_44 : decode cX1_bonus 44 = .ok (.ldc_w 365, 3) := dk_19 1 109 (dk_at dksX1_bonus_1 20 rfl rfl)
theorem dX1_bonus_47 : decode cX1_bonus 47 = .ok (.invokestatic 263, 3) := dk_184 1 7 (dk_at dksX1_bonus_2 0 rfl rfl)
theorem dX1_bonus_50 : decode cX1_bonus 50 = .ok (.iastore, 1) := dk_79 (dk_at dksX1_bonus_2 3 rfl rfl)
theorem dX1_bonus_51 : decode cX1_bonus 51 = .ok (.iload 5, 2) := dk_21 5 (dk_at dksX1_bonus_2 4 rfl rfl)
theorem dX1_bonus_53 : decode cX1_bonus 53 = .ok (.ireturn, 1) := dk_172 (dk_at dksX1_bonus_2 6 rfl rfl)
def dkwX1_contribution_2 : List UInt8 := [184, 1, 7, 183, 0, 157, 182, 1, 111, 177]
abbrev dktX1_contribution_2 : List UInt8 := dkwX1_contribution_2 ++ []
def dkwX1_contribution_1 : List UInt8 := [192, 0, 153, 28, 187, 0, 155, 89, 29, 3, 17, 1, 244, 184, 1, 7, 21, 4, 3, 19, 1, 110]
abbrev dktX1_contribution_1 : List UInt8 := dkwX1_contribution_1 ++ dktX1_contribution_2
def dkwX1_contribution_0 : List UInt8 := [27, 6, 184, 0, 251, 87, 28, 16, 24, 184, 0, 251, 87, 42, 180, 0, 119, 27, 185, 0, 67, 2, 0]
abbrev dktX1_contribution_0 : List UInt8 := dkwX1_contribution_0 ++ dktX1_contribution_1
theorem dksX1_contribution_0 : cX1_contribution.data.toList.drop 0 = dktX1_contribution_0 := by decide +kernel
theorem dksX1_contribution_1 : cX1_contribution.data.toList.drop 23 = dktX1_contribution_1 := dk_seg dksX1_contribution_0 23 rfl rfl
theorem dksX1_contribution_2 : cX1_contribution.data.toList.drop 45 = dktX1_contribution_2 := dk_seg dksX1_contribution_1 22 rfl rfl
theorem dX1_contribution_0 : decode cX1_contribution 0 = .ok (.iload_n 1, 1) := dk_27 (dk_at dksX1_contribution_0 0 rfl rfl)
theorem dX1_contribution_1 : decode cX1_contribution 1 = .ok (.iconst 3, 1) := dk_6 (dk_at dksX1_contribution_0 1 rfl rfl)
theorem dX1_contribution_2 : decode cX1_contribution 2 = .ok (.invokestatic 251, 3) := dk_184 0 251 (dk_at dksX1_contribution_0 2 rfl rfl)
theorem dX1_contribution_5 : decode cX1_contribution 5 = .ok (.pop, 1) := dk_87 (dk_at dksX1_contribution_0 5 rfl rfl)
theorem dX1_contribution_6 : decode cX1_contribution 6 = .ok (.iload_n 2, 1) := dk_28 (dk_at dksX1_contribution_0 6 rfl rfl)
theorem dX1_contribution_7 : decode cX1_contribution 7 = .ok (.bipush 24, 2) := dk_16 24 (dk_at dksX1_contribution_0 7 rfl rfl)
theorem dX1_contribution_9 : decode cX1_contribution 9 = .ok (.invokestatic 251, 3) := dk_184 0 251 (dk_at dksX1_contribution_0 9 rfl rfl)
theorem dX1_contribution_12 : decode cX1_contribution 12 = .ok (.pop, 1) := dk_87 (dk_at dksX1_contribution_0 12 rfl rfl)
theorem dX1_contribution_13 : decode cX1_contribution 13 = .ok (.aload_n 0, 1) := dk_42 (dk_at dksX1_contribution_0 13 rfl rfl)
theorem dX1_contribution_14 : decode cX1_contribution 14 = .ok (.getfield 119, 3) := dk_180 0 119 (dk_at dksX1_contribution_0 14 rfl rfl)
theorem dX1_contribution_17 : decode cX1_contribution 17 = .ok (.iload_n 1, 1) := dk_27 (dk_at dksX1_contribution_0 17 rfl rfl)
theorem dX1_contribution_18 : decode cX1_contribution 18 = .ok (.invokeinterface 67 2, 5) := by decide +kernel
theorem dX1_contribution_23 : decode cX1_contribution 23 = .ok (.checkcast 153, 3) := dk_192 0 153 (dk_at dksX1_contribution_1 0 rfl rfl)
theorem dX1_contribution_26 : decode cX1_contribution 26 = .ok (.iload_n 2, 1) := dk_28 (dk_at dksX1_contribution_1 3 rfl rfl)
theorem dX1_contribution_27 : decode cX1_contribution 27 = .ok (.new 155, 3) := dk_187 0 155 (dk_at dksX1_contribution_1 4 rfl rfl)
theorem dX1_contribution_30 : decode cX1_contribution 30 = .ok (.dup, 1) := dk_89 (dk_at dksX1_contribution_1 7 rfl rfl)
theorem dX1_contribution_31 : decode cX1_contribution 31 = .ok (.iload_n 3, 1) := dk_29 (dk_at dksX1_contribution_1 8 rfl rfl)
theorem dX1_contribution_32 : decode cX1_contribution 32 = .ok (.iconst 0, 1) := dk_3 (dk_at dksX1_contribution_1 9 rfl rfl)
theorem dX1_contribution_33 : decode cX1_contribution 33 = .ok (.sipush 500, 3) := dk_17 1 244 (dk_at dksX1_contribution_1 10 rfl rfl)
theorem dX1_contribution_36 : decode cX1_contribution 36 = .ok (.invokestatic 263, 3) := dk_184 1 7 (dk_at dksX1_contribution_1 13 rfl rfl)
theorem dX1_contribution_39 : decode cX1_contribution 39 = .ok (.iload 4, 2) := dk_21 4 (dk_at dksX1_contribution_1 16 rfl rfl)
theorem dX1_contribution_41 : decode cX1_contribution 41 = .ok (.iconst 0, 1) := dk_3 (dk_at dksX1_contribution_1 18 rfl rfl)
theorem dX1_contribution_42 : decode cX1_contribution 42 = .ok (.ldc_w 366, 3) := dk_19 1 110 (dk_at dksX1_contribution_1 19 rfl rfl)
theorem dX1_contribution_45 : decode cX1_contribution 45 = .ok (.invokestatic 263, 3) := dk_184 1 7 (dk_at dksX1_contribution_2 0 rfl rfl)
theorem dX1_contribution_48 : decode cX1_contribution 48 = .ok (.invokespecial 157, 3) := dk_183 0 157 (dk_at dksX1_contribution_2 3 rfl rfl)
theorem dX1_contribution_51 : decode cX1_contribution 51 = .ok (.invokevirtual 367, 3) := dk_182 1 111 (dk_at dksX1_contribution_2 6 rfl rfl)
theorem dX1_contribution_54 : decode cX1_contribution 54 = .ok (.return_, 1) := dk_177 (dk_at dksX1_contribution_2 9 rfl rfl)
def dkwX1_bracket_7 : List UInt8 := [183, 1, 118, 185, 0, 97, 2, 0, 87, 25, 7, 185, 0, 62, 1, 0, 172]
abbrev dktX1_bracket_7 : List UInt8 := dkwX1_bracket_7 ++ []
def dkwX1_bracket_6 : List UInt8 := [183, 0, 55, 58, 7, 25, 6, 29, 25, 7, 182, 1, 111, 25, 7, 187, 0, 166, 89, 21, 4, 21, 5]
abbrev dktX1_bracket_6 : List UInt8 := dkwX1_bracket_6 ++ dktX1_bracket_7
def dkwX1_bracket_5 : List UInt8 := [162, 0, 7, 4, 167, 0, 4, 3, 54, 8, 21, 8, 184, 1, 12, 25, 7, 199, 0, 20, 187, 0, 53, 89]
abbrev dktX1_bracket_5 : List UInt8 := dkwX1_bracket_5 ++ dktX1_bracket_6
def dkwX1_bracket_4 : List UInt8 := [25, 7, 25, 7, 185, 0, 62, 1, 0, 4, 100, 185, 0, 67, 2, 0, 192, 0, 166, 182, 0, 168, 21, 4]
abbrev dktX1_bracket_4 : List UInt8 := dkwX1_bracket_4 ++ dktX1_bracket_5
def dkwX1_bracket_3 : List UInt8 := [182, 1, 115, 192, 0, 63, 58, 7, 25, 7, 198, 0, 41, 25, 7, 185, 0, 62, 1, 0, 7, 162, 0, 34]
abbrev dktX1_bracket_3 : List UInt8 := dkwX1_bracket_3 ++ dktX1_bracket_4
def dkwX1_bracket_2 : List UInt8 := [185, 0, 67, 2, 0, 192, 0, 63, 28, 185, 0, 67, 2, 0, 192, 0, 153, 58, 6, 25, 6, 29]
abbrev dktX1_bracket_2 : List UInt8 := dkwX1_bracket_2 ++ dktX1_bracket_3
def dkwX1_bracket_1 : List UInt8 := [19, 1, 114, 184, 1, 7, 87, 21, 5, 3, 17, 3, 132, 184, 1, 7, 87, 42, 180, 0, 122, 27]
abbrev dktX1_bracket_1 : List UInt8 := dkwX1_bracket_1 ++ dktX1_bracket_2
def dkwX1_bracket_0 : List UInt8 := [27, 6, 184, 0, 251, 87, 29, 16, 24, 184, 0, 251, 87, 28, 3, 4, 184, 1, 7, 87, 21, 4, 4]
abbrev dktX1_bracket_0 : List UInt8 := dkwX1_bracket_0 ++ dktX1_bracket_1
theorem dksX1_bracket_0 : cX1_bracket.data.toList.drop 0 = dktX1_bracket_0 := by decide +kernel
theorem dksX1_bracket_1 : cX1_bracket.data.toList.drop 23 = dktX1_bracket_1 := dk_seg dksX1_bracket_0 23 rfl rfl
theorem dksX1_bracket_2 : cX1_bracket.data.toList.drop 45 = dktX1_bracket_2 := dk_seg dksX1_bracket_1 22 rfl rfl
theorem dksX1_bracket_3 : cX1_bracket.data.toList.drop 67 = dktX1_bracket_3 := dk_seg dksX1_bracket_2 22 rfl rfl
theorem dksX1_bracket_4 : cX1_bracket.data.toList.drop 91 = dktX1_bracket_4 := dk_seg dksX1_bracket_3 24 rfl rfl
theorem dksX1_bracket_5 : cX1_bracket.data.toList.drop 115 = dktX1_bracket_5 := dk_seg dksX1_bracket_4 24 rfl rfl
theorem dksX1_bracket_6 : cX1_bracket.data.toList.drop 139 = dktX1_bracket_6 := dk_seg dksX1_bracket_5 24 rfl rfl
theorem dksX1_bracket_7 : cX1_bracket.data.toList.drop 162 = dktX1_bracket_7 := dk_seg dksX1_bracket_6 23 rfl rfl
theorem dX1_bracket_0 : decode cX1_bracket 0 = .ok (.iload_n 1, 1) := dk_27 (dk_at dksX1_bracket_0 0 rfl rfl)
theorem dX1_bracket_1 : decode cX1_bracket 1 = .ok (.iconst 3, 1) := dk_6 (dk_at dksX1_bracket_0 1 rfl rfl)
theorem dX1_bracket_2 : decode cX1_bracket 2 = .ok (.invokestatic 251, 3) := dk_184 0 251 (dk_at dksX1_bracket_0 2 rfl rfl)
theorem dX1_bracket_5 : decode cX1_bracket 5 = .ok (.pop, 1) := dk_87 (dk_at dksX1_bracket_0 5 rfl rfl)
theorem dX1_bracket_6 : decode cX1_bracket 6 = .ok (.iload_n 3, 1) := dk_29 (dk_at dksX1_bracket_0 6 rfl rfl)
theorem dX1_bracket_7 : decode cX1_bracket 7 = .ok (.bipush 24, 2) := dk_16 24 (dk_at dksX1_bracket_0 7 rfl rfl)
theorem dX1_bracket_9 : decode cX1_bracket 9 = .ok (.invokestatic 251, 3) := dk_184 0 251 (dk_at dksX1_bracket_0 9 rfl rfl)
theorem dX1_bracket_12 : decode cX1_bracket 12 = .ok (.pop, 1) := dk_87 (dk_at dksX1_bracket_0 12 rfl rfl)
theorem dX1_bracket_13 : decode cX1_bracket 13 = .ok (.iload_n 2, 1) := dk_28 (dk_at dksX1_bracket_0 13 rfl rfl)
theorem dX1_bracket_14 : decode cX1_bracket 14 = .ok (.iconst 0, 1) := dk_3 (dk_at dksX1_bracket_0 14 rfl rfl)
theorem dX1_bracket_15 : decode cX1_bracket 15 = .ok (.iconst 1, 1) := dk_4 (dk_at dksX1_bracket_0 15 rfl rfl)
theorem dX1_bracket_16 : decode cX1_bracket 16 = .ok (.invokestatic 263, 3) := dk_184 1 7 (dk_at dksX1_bracket_0 16 rfl rfl)
theorem dX1_bracket_19 : decode cX1_bracket 19 = .ok (.pop, 1) := dk_87 (dk_at dksX1_bracket_0 19 rfl rfl)
theorem dX1_bracket_20 : decode cX1_bracket 20 = .ok (.iload 4, 2) := dk_21 4 (dk_at dksX1_bracket_0 20 rfl rfl)
theorem dX1_bracket_22 : decode cX1_bracket 22 = .ok (.iconst 1, 1) := dk_4 (dk_at dksX1_bracket_0 22 rfl rfl)
theorem dX1_bracket_23 : decode cX1_bracket 23 = .ok (.ldc_w 370, 3) := dk_19 1 114 (dk_at dksX1_bracket_1 0 rfl rfl)
theorem dX1_bracket_26 : decode cX1_bracket 26 = .ok (.invokestatic 263, 3) := dk_184 1 7 (dk_at dksX1_bracket_1 3 rfl rfl)
theorem dX1_bracket_29 : decode cX1_bracket 29 = .ok (.pop, 1) := dk_87 (dk_at dksX1_bracket_1 6 rfl rfl)
theorem dX1_bracket_30 : decode cX1_bracket 30 = .ok (.iload 5, 2) := dk_21 5 (dk_at dksX1_bracket_1 7 rfl rfl)
theorem dX1_bracket_32 : decode cX1_bracket 32 = .ok (.iconst 0, 1) := dk_3 (dk_at dksX1_bracket_1 9 rfl rfl)
theorem dX1_bracket_33 : decode cX1_bracket 33 = .ok (.sipush 900, 3) := dk_17 3 132 (dk_at dksX1_bracket_1 10 rfl rfl)
theorem dX1_bracket_36 : decode cX1_bracket 36 = .ok (.invokestatic 263, 3) := dk_184 1 7 (dk_at dksX1_bracket_1 13 rfl rfl)
theorem dX1_bracket_39 : decode cX1_bracket 39 = .ok (.pop, 1) := dk_87 (dk_at dksX1_bracket_1 16 rfl rfl)
theorem dX1_bracket_40 : decode cX1_bracket 40 = .ok (.aload_n 0, 1) := dk_42 (dk_at dksX1_bracket_1 17 rfl rfl)
theorem dX1_bracket_41 : decode cX1_bracket 41 = .ok (.getfield 122, 3) := dk_180 0 122 (dk_at dksX1_bracket_1 18 rfl rfl)
theorem dX1_bracket_44 : decode cX1_bracket 44 = .ok (.iload_n 1, 1) := dk_27 (dk_at dksX1_bracket_1 21 rfl rfl)
theorem dX1_bracket_45 : decode cX1_bracket 45 = .ok (.invokeinterface 67 2, 5) := by decide +kernel
theorem dX1_bracket_50 : decode cX1_bracket 50 = .ok (.checkcast 63, 3) := dk_192 0 63 (dk_at dksX1_bracket_2 5 rfl rfl)
theorem dX1_bracket_53 : decode cX1_bracket 53 = .ok (.iload_n 2, 1) := dk_28 (dk_at dksX1_bracket_2 8 rfl rfl)
theorem dX1_bracket_54 : decode cX1_bracket 54 = .ok (.invokeinterface 67 2, 5) := by decide +kernel
theorem dX1_bracket_59 : decode cX1_bracket 59 = .ok (.checkcast 153, 3) := dk_192 0 153 (dk_at dksX1_bracket_2 14 rfl rfl)
theorem dX1_bracket_62 : decode cX1_bracket 62 = .ok (.astore 6, 2) := dk_58 6 (dk_at dksX1_bracket_2 17 rfl rfl)
theorem dX1_bracket_64 : decode cX1_bracket 64 = .ok (.aload 6, 2) := dk_25 6 (dk_at dksX1_bracket_2 19 rfl rfl)
theorem dX1_bracket_66 : decode cX1_bracket 66 = .ok (.iload_n 3, 1) := dk_29 (dk_at dksX1_bracket_2 21 rfl rfl)
theorem dX1_bracket_67 : decode cX1_bracket 67 = .ok (.invokevirtual 371, 3) := dk_182 1 115 (dk_at dksX1_bracket_3 0 rfl rfl)
theorem dX1_bracket_70 : decode cX1_bracket 70 = .ok (.checkcast 63, 3) := dk_192 0 63 (dk_at dksX1_bracket_3 3 rfl rfl)
theorem dX1_bracket_73 : decode cX1_bracket 73 = .ok (.astore 7, 2) := dk_58 7 (dk_at dksX1_bracket_3 6 rfl rfl)
theorem dX1_bracket_75 : decode cX1_bracket 75 = .ok (.aload 7, 2) := dk_25 7 (dk_at dksX1_bracket_3 8 rfl rfl)
theorem dX1_bracket_77 : decode cX1_bracket 77 = .ok (.ifnull 41, 3) := dk_198 0 41 (dk_at dksX1_bracket_3 10 rfl rfl)
theorem dX1_bracket_80 : decode cX1_bracket 80 = .ok (.aload 7, 2) := dk_25 7 (dk_at dksX1_bracket_3 13 rfl rfl)
theorem dX1_bracket_82 : decode cX1_bracket 82 = .ok (.invokeinterface 62 1, 5) := by decide +kernel
theorem dX1_bracket_87 : decode cX1_bracket 87 = .ok (.iconst 4, 1) := dk_7 (dk_at dksX1_bracket_3 20 rfl rfl)
theorem dX1_bracket_88 : decode cX1_bracket 88 = .ok (.if_icmp .ge 34, 3) := dk_162 0 34 (dk_at dksX1_bracket_3 21 rfl rfl)
theorem dX1_bracket_91 : decode cX1_bracket 91 = .ok (.aload 7, 2) := dk_25 7 (dk_at dksX1_bracket_4 0 rfl rfl)
theorem dX1_bracket_93 : decode cX1_bracket 93 = .ok (.aload 7, 2) := dk_25 7 (dk_at dksX1_bracket_4 2 rfl rfl)
theorem dX1_bracket_95 : decode cX1_bracket 95 = .ok (.invokeinterface 62 1, 5) := by decide +kernel
theorem dX1_bracket_100 : decode cX1_bracket 100 = .ok (.iconst 1, 1) := dk_4 (dk_at dksX1_bracket_4 9 rfl rfl)
theorem dX1_bracket_101 : decode cX1_bracket 101 = .ok (.isub, 1) := dk_100 (dk_at dksX1_bracket_4 10 rfl rfl)
theorem dX1_bracket_102 : decode cX1_bracket 102 = .ok (.invokeinterface 67 2, 5) := by decide +kernel
theorem dX1_bracket_107 : decode cX1_bracket 107 = .ok (.checkcast 166, 3) := dk_192 0 166 (dk_at dksX1_bracket_4 16 rfl rfl)
theorem dX1_bracket_110 : decode cX1_bracket 110 = .ok (.invokevirtual 168, 3) := dk_182 0 168 (dk_at dksX1_bracket_4 19 rfl rfl)
theorem dX1_bracket_113 : decode cX1_bracket 113 = .ok (.iload 4, 2) := dk_21 4 (dk_at dksX1_bracket_4 22 rfl rfl)
theorem dX1_bracket_115 : decode cX1_bracket 115 = .ok (.if_icmp .ge 7, 3) := dk_162 0 7 (dk_at dksX1_bracket_5 0 rfl rfl)
theorem dX1_bracket_118 : decode cX1_bracket 118 = .ok (.iconst 1, 1) := dk_4 (dk_at dksX1_bracket_5 3 rfl rfl)
theorem dX1_bracket_119 : decode cX1_bracket 119 = .ok (.goto 4, 3) := dk_167 0 4 (dk_at dksX1_bracket_5 4 rfl rfl)
theorem dX1_bracket_122 : decode cX1_bracket 122 = .ok (.iconst 0, 1) := dk_3 (dk_at dksX1_bracket_5 7 rfl rfl)
theorem dX1_bracket_123 : decode cX1_bracket 123 = .ok (.istore 8, 2) := dk_54 8 (dk_at dksX1_bracket_5 8 rfl rfl)
theorem dX1_bracket_125 : decode cX1_bracket 125 = .ok (.iload 8, 2) := dk_21 8 (dk_at dksX1_bracket_5 10 rfl rfl)
theorem dX1_bracket_127 : decode cX1_bracket 127 = .ok (.invokestatic 268, 3) := dk_184 1 12 (dk_at dksX1_bracket_5 12 rfl rfl)
theorem dX1_bracket_130 : decode cX1_bracket 130 = .ok (.aload 7, 2) := dk_25 7 (dk_at dksX1_bracket_5 15 rfl rfl)
theorem dX1_bracket_132 : decode cX1_bracket 132 = .ok (.ifnonnull 20, 3) := dk_199 0 20 (dk_at dksX1_bracket_5 17 rfl rfl)
theorem dX1_bracket_135 : decode cX1_bracket 135 = .ok (.new 53, 3) := dk_187 0 53 (dk_at dksX1_bracket_5 20 rfl rfl)
theorem dX1_bracket_138 : decode cX1_bracket 138 = .ok (.dup, 1) := dk_89 (dk_at dksX1_bracket_5 23 rfl rfl)
theorem dX1_bracket_139 : decode cX1_bracket 139 = .ok (.invokespecial 55, 3) := dk_183 0 55 (dk_at dksX1_bracket_6 0 rfl rfl)
theorem dX1_bracket_142 : decode cX1_bracket 142 = .ok (.astore 7, 2) := dk_58 7 (dk_at dksX1_bracket_6 3 rfl rfl)
theorem dX1_bracket_144 : decode cX1_bracket 144 = .ok (.aload 6, 2) := dk_25 6 (dk_at dksX1_bracket_6 5 rfl rfl)
theorem dX1_bracket_146 : decode cX1_bracket 146 = .ok (.iload_n 3, 1) := dk_29 (dk_at dksX1_bracket_6 7 rfl rfl)
theorem dX1_bracket_147 : decode cX1_bracket 147 = .ok (.aload 7, 2) := dk_25 7 (dk_at dksX1_bracket_6 8 rfl rfl)
theorem dX1_bracket_149 : decode cX1_bracket 149 = .ok (.invokevirtual 367, 3) := dk_182 1 111 (dk_at dksX1_bracket_6 10 rfl rfl)
theorem dX1_bracket_152 : decode cX1_bracket 152 = .ok (.aload 7, 2) := dk_25 7 (dk_at dksX1_bracket_6 13 rfl rfl)
theorem dX1_bracket_154 : decode cX1_bracket 154 = .ok (.new 166, 3) := dk_187 0 166 (dk_at dksX1_bracket_6 15 rfl rfl)
theorem dX1_bracket_157 : decode cX1_bracket 157 = .ok (.dup, 1) := dk_89 (dk_at dksX1_bracket_6 18 rfl rfl)
theorem dX1_bracket_158 : decode cX1_bracket 158 = .ok (.iload 4, 2) := dk_21 4 (dk_at dksX1_bracket_6 19 rfl rfl)
theorem dX1_bracket_160 : decode cX1_bracket 160 = .ok (.iload 5, 2) := dk_21 5 (dk_at dksX1_bracket_6 21 rfl rfl)
theorem dX1_bracket_162 : decode cX1_bracket 162 = .ok (.invokespecial 374, 3) := dk_183 1 118 (dk_at dksX1_bracket_7 0 rfl rfl)
theorem dX1_bracket_165 : decode cX1_bracket 165 = .ok (.invokeinterface 97 2, 5) := by decide +kernel
theorem dX1_bracket_170 : decode cX1_bracket 170 = .ok (.pop, 1) := dk_87 (dk_at dksX1_bracket_7 8 rfl rfl)
theorem dX1_bracket_171 : decode cX1_bracket 171 = .ok (.aload 7, 2) := dk_25 7 (dk_at dksX1_bracket_7 9 rfl rfl)
theorem dX1_bracket_173 : decode cX1_bracket 173 = .ok (.invokeinterface 62 1, 5) := by decide +kernel
theorem dX1_bracket_178 : decode cX1_bracket 178 = .ok (.ireturn, 1) := dk_172 (dk_at dksX1_bracket_7 16 rfl rfl)
def dkwX1_state_1 : List UInt8 := [192, 0, 153, 28, 29, 3, 4, 184, 1, 7, 184, 0, 77, 182, 1, 111, 177]
abbrev dktX1_state_1 : List UInt8 := dkwX1_state_1 ++ []
def dkwX1_state_0 : List UInt8 := [27, 16, 6, 184, 0, 251, 87, 28, 16, 24, 184, 0, 251, 87, 42, 180, 0, 125, 27, 185, 0, 67, 2, 0]
abbrev dktX1_state_0 : List UInt8 := dkwX1_state_0 ++ dktX1_state_1
theorem dksX1_state_0 : cX1_state.data.toList.drop 0 = dktX1_state_0 := by decide +kernel
theorem dksX1_state_1 : cX1_state.data.toList.drop 24 = dktX1_state_1 := dk_seg dksX1_state_0 24 rfl rfl
theorem dX1_state_0 : decode cX1_state 0 = .ok (.iload_n 1, 1) := dk_27 (dk_at dksX1_state_0 0 rfl rfl)
theorem dX1_state_1 : decode cX1_state 1 = .ok (.bipush 6, 2) := dk_16 6 (dk_at dksX1_state_0 1 rfl rfl)
theorem dX1_state_3 : decode cX1_state 3 = .ok (.invokestatic 251, 3) := dk_184 0 251 (dk_at dksX1_state_0 3 rfl rfl)
theorem dX1_state_6 : decode cX1_state 6 = .ok (.pop, 1) := dk_87 (dk_at dksX1_state_0 6 rfl rfl)
theorem dX1_state_7 : decode cX1_state 7 = .ok (.iload_n 2, 1) := dk_28 (dk_at dksX1_state_0 7 rfl rfl)
theorem dX1_state_8 : decode cX1_state 8 = .ok (.bipush 24, 2) := dk_16 24 (dk_at dksX1_state_0 8 rfl rfl)
theorem dX1_state_10 : decode cX1_state 10 = .ok (.invokestatic 251, 3) := dk_184 0 251 (dk_at dksX1_state_0 10 rfl rfl)
theorem dX1_state_13 : decode cX1_state 13 = .ok (.pop, 1) := dk_87 (dk_at dksX1_state_0 13 rfl rfl)
theorem dX1_state_14 : decode cX1_state 14 = .ok (.aload_n 0, 1) := dk_42 (dk_at dksX1_state_0 14 rfl rfl)
theorem dX1_state_15 : decode cX1_state 15 = .ok (.getfield 125, 3) := dk_180 0 125 (dk_at dksX1_state_0 15 rfl rfl)
theorem dX1_state_18 : decode cX1_state 18 = .ok (.iload_n 1, 1) := dk_27 (dk_at dksX1_state_0 18 rfl rfl)
theorem dX1_state_19 : decode cX1_state 19 = .ok (.invokeinterface 67 2, 5) := by decide +kernel
theorem dX1_state_24 : decode cX1_state 24 = .ok (.checkcast 153, 3) := dk_192 0 153 (dk_at dksX1_state_1 0 rfl rfl)
theorem dX1_state_27 : decode cX1_state 27 = .ok (.iload_n 2, 1) := dk_28 (dk_at dksX1_state_1 3 rfl rfl)
theorem dX1_state_28 : decode cX1_state 28 = .ok (.iload_n 3, 1) := dk_29 (dk_at dksX1_state_1 4 rfl rfl)
theorem dX1_state_29 : decode cX1_state 29 = .ok (.iconst 0, 1) := dk_3 (dk_at dksX1_state_1 5 rfl rfl)
theorem dX1_state_30 : decode cX1_state 30 = .ok (.iconst 1, 1) := dk_4 (dk_at dksX1_state_1 6 rfl rfl)
theorem dX1_state_31 : decode cX1_state 31 = .ok (.invokestatic 263, 3) := dk_184 1 7 (dk_at dksX1_state_1 7 rfl rfl)
theorem dX1_state_34 : decode cX1_state 34 = .ok (.invokestatic 77, 3) := dk_184 0 77 (dk_at dksX1_state_1 10 rfl rfl)
theorem dX1_state_37 : decode cX1_state 37 = .ok (.invokevirtual 367, 3) := dk_182 1 111 (dk_at dksX1_state_1 13 rfl rfl)
theorem dX1_state_40 : decode cX1_state 40 = .ok (.return_, 1) := dk_177 (dk_at dksX1_state_1 16 rfl rfl)
def dkwX1_pension_1 : List UInt8 := [192, 0, 153, 28, 29, 3, 17, 0, 200, 184, 1, 7, 184, 0, 77, 182, 1, 111, 177]
abbrev dktX1_pension_1 : List UInt8 := dkwX1_pension_1 ++ []
def dkwX1_pension_0 : List UInt8 := [27, 16, 6, 184, 0, 251, 87, 28, 16, 24, 184, 0, 251, 87, 42, 180, 0, 128, 27, 185, 0, 67, 2, 0]
abbrev dktX1_pension_0 : List UInt8 := dkwX1_pension_0 ++ dktX1_pension_1
theorem dksX1_pension_0 : cX1_pension.data.toList.drop 0 = dktX1_pension_0 := by decide +kernel
theorem dksX1_pension_1 : cX1_pension.data.toList.drop 24 = dktX1_pension_1 := dk_seg dksX1_pension_0 24 rfl rfl
theorem dX1_pension_0 : decode cX1_pension 0 = .ok (.iload_n 1, 1) := dk_27 (dk_at dksX1_pension_0 0 rfl rfl)
theorem dX1_pension_1 : decode cX1_pension 1 = .ok (.bipush 6, 2) := dk_16 6 (dk_at dksX1_pension_0 1 rfl rfl)
theorem dX1_pension_3 : decode cX1_pension 3 = .ok (.invokestatic 251, 3) := dk_184 0 251 (dk_at dksX1_pension_0 3 rfl rfl)
theorem dX1_pension_6 : decode cX1_pension 6 = .ok (.pop, 1) := dk_87 (dk_at dksX1_pension_0 6 rfl rfl)
theorem dX1_pension_7 : decode cX1_pension 7 = .ok (.iload_n 2, 1) := dk_28 (dk_at dksX1_pension_0 7 rfl rfl)
theorem dX1_pension_8 : decode cX1_pension 8 = .ok (.bipush 24, 2) := dk_16 24 (dk_at dksX1_pension_0 8 rfl rfl)
theorem dX1_pension_10 : decode cX1_pension 10 = .ok (.invokestatic 251, 3) := dk_184 0 251 (dk_at dksX1_pension_0 10 rfl rfl)
theorem dX1_pension_13 : decode cX1_pension 13 = .ok (.pop, 1) := dk_87 (dk_at dksX1_pension_0 13 rfl rfl)
theorem dX1_pension_14 : decode cX1_pension 14 = .ok (.aload_n 0, 1) := dk_42 (dk_at dksX1_pension_0 14 rfl rfl)
theorem dX1_pension_15 : decode cX1_pension 15 = .ok (.getfield 128, 3) := dk_180 0 128 (dk_at dksX1_pension_0 15 rfl rfl)
theorem dX1_pension_18 : decode cX1_pension 18 = .ok (.iload_n 1, 1) := dk_27 (dk_at dksX1_pension_0 18 rfl rfl)
theorem dX1_pension_19 : decode cX1_pension 19 = .ok (.invokeinterface 67 2, 5) := by decide +kernel
theorem dX1_pension_24 : decode cX1_pension 24 = .ok (.checkcast 153, 3) := dk_192 0 153 (dk_at dksX1_pension_1 0 rfl rfl)
theorem dX1_pension_27 : decode cX1_pension 27 = .ok (.iload_n 2, 1) := dk_28 (dk_at dksX1_pension_1 3 rfl rfl)
theorem dX1_pension_28 : decode cX1_pension 28 = .ok (.iload_n 3, 1) := dk_29 (dk_at dksX1_pension_1 4 rfl rfl)
theorem dX1_pension_29 : decode cX1_pension 29 = .ok (.iconst 0, 1) := dk_3 (dk_at dksX1_pension_1 5 rfl rfl)
theorem dX1_pension_30 : decode cX1_pension 30 = .ok (.sipush 200, 3) := dk_17 0 200 (dk_at dksX1_pension_1 6 rfl rfl)
theorem dX1_pension_33 : decode cX1_pension 33 = .ok (.invokestatic 263, 3) := dk_184 1 7 (dk_at dksX1_pension_1 9 rfl rfl)
theorem dX1_pension_36 : decode cX1_pension 36 = .ok (.invokestatic 77, 3) := dk_184 0 77 (dk_at dksX1_pension_1 12 rfl rfl)
theorem dX1_pension_39 : decode cX1_pension 39 = .ok (.invokevirtual 367, 3) := dk_182 1 111 (dk_at dksX1_pension_1 15 rfl rfl)
theorem dX1_pension_42 : decode cX1_pension 42 = .ok (.return_, 1) := dk_177 (dk_at dksX1_pension_1 18 rfl rfl)
def dkwX1_yearTax_2 : List UInt8 := [28, 29, 22, 4, 182, 1, 121, 173]
abbrev dktX1_yearTax_2 : List UInt8 := dkwX1_yearTax_2 ++ []
def dkwX1_yearTax_1 : List UInt8 := [155, 0, 12, 22, 4, 20, 1, 119, 148, 158, 0, 13, 187, 0, 241, 89, 18, 243, 183, 0, 245, 191, 42, 27]
abbrev dktX1_yearTax_1 : List UInt8 := dkwX1_yearTax_1 ++ dktX1_yearTax_2
def dkwX1_yearTax_0 : List UInt8 := [27, 6, 184, 0, 251, 87, 29, 16, 24, 184, 0, 251, 87, 28, 3, 4, 184, 1, 7, 87, 22, 4, 9, 148]
abbrev dktX1_yearTax_0 : List UInt8 := dkwX1_yearTax_0 ++ dktX1_yearTax_1
theorem dksX1_yearTax_0 : cX1_yearTax.data.toList.drop 0 = dktX1_yearTax_0 := by decide +kernel
theorem dksX1_yearTax_1 : cX1_yearTax.data.toList.drop 24 = dktX1_yearTax_1 := dk_seg dksX1_yearTax_0 24 rfl rfl
theorem dksX1_yearTax_2 : cX1_yearTax.data.toList.drop 48 = dktX1_yearTax_2 := dk_seg dksX1_yearTax_1 24 rfl rfl
theorem dX1_yearTax_0 : decode cX1_yearTax 0 = .ok (.iload_n 1, 1) := dk_27 (dk_at dksX1_yearTax_0 0 rfl rfl)
theorem dX1_yearTax_1 : decode cX1_yearTax 1 = .ok (.iconst 3, 1) := dk_6 (dk_at dksX1_yearTax_0 1 rfl rfl)
theorem dX1_yearTax_2 : decode cX1_yearTax 2 = .ok (.invokestatic 251, 3) := dk_184 0 251 (dk_at dksX1_yearTax_0 2 rfl rfl)
theorem dX1_yearTax_5 : decode cX1_yearTax 5 = .ok (.pop, 1) := dk_87 (dk_at dksX1_yearTax_0 5 rfl rfl)
theorem dX1_yearTax_6 : decode cX1_yearTax 6 = .ok (.iload_n 3, 1) := dk_29 (dk_at dksX1_yearTax_0 6 rfl rfl)
theorem dX1_yearTax_7 : decode cX1_yearTax 7 = .ok (.bipush 24, 2) := dk_16 24 (dk_at dksX1_yearTax_0 7 rfl rfl)
theorem dX1_yearTax_9 : decode cX1_yearTax 9 = .ok (.invokestatic 251, 3) := dk_184 0 251 (dk_at dksX1_yearTax_0 9 rfl rfl)
theorem dX1_yearTax_12 : decode cX1_yearTax 12 = .ok (.pop, 1) := dk_87 (dk_at dksX1_yearTax_0 12 rfl rfl)
theorem dX1_yearTax_13 : decode cX1_yearTax 13 = .ok (.iload_n 2, 1) := dk_28 (dk_at dksX1_yearTax_0 13 rfl rfl)
theorem dX1_yearTax_14 : decode cX1_yearTax 14 = .ok (.iconst 0, 1) := dk_3 (dk_at dksX1_yearTax_0 14 rfl rfl)
theorem dX1_yearTax_15 : decode cX1_yearTax 15 = .ok (.iconst 1, 1) := dk_4 (dk_at dksX1_yearTax_0 15 rfl rfl)
theorem dX1_yearTax_16 : decode cX1_yearTax 16 = .ok (.invokestatic 263, 3) := dk_184 1 7 (dk_at dksX1_yearTax_0 16 rfl rfl)
theorem dX1_yearTax_19 : decode cX1_yearTax 19 = .ok (.pop, 1) := dk_87 (dk_at dksX1_yearTax_0 19 rfl rfl)
theorem dX1_yearTax_20 : decode cX1_yearTax 20 = .ok (.lload 4, 2) := dk_22 4 (dk_at dksX1_yearTax_0 20 rfl rfl)
theorem dX1_yearTax_22 : decode cX1_yearTax 22 = .ok (.lconst 0, 1) := dk_9 (dk_at dksX1_yearTax_0 22 rfl rfl)
theorem dX1_yearTax_23 : decode cX1_yearTax 23 = .ok (.lcmp, 1) := dk_148 (dk_at dksX1_yearTax_0 23 rfl rfl)
theorem dX1_yearTax_24 : decode cX1_yearTax 24 = .ok (.ifCond .lt 12, 3) := dk_155 0 12 (dk_at dksX1_yearTax_1 0 rfl rfl)
theorem dX1_yearTax_27 : decode cX1_yearTax 27 = .ok (.lload 4, 2) := dk_22 4 (dk_at dksX1_yearTax_1 3 rfl rfl)
theorem dX1_yearTax_29 : decode cX1_yearTax 29 = .ok (.ldc2_w 375, 3) := dk_20 1 119 (dk_at dksX1_yearTax_1 5 rfl rfl)
theorem dX1_yearTax_32 : decode cX1_yearTax 32 = .ok (.lcmp, 1) := dk_148 (dk_at dksX1_yearTax_1 8 rfl rfl)
theorem dX1_yearTax_33 : decode cX1_yearTax 33 = .ok (.ifCond .le 13, 3) := dk_158 0 13 (dk_at dksX1_yearTax_1 9 rfl rfl)
theorem dX1_yearTax_36 : decode cX1_yearTax 36 = .ok (.new 241, 3) := dk_187 0 241 (dk_at dksX1_yearTax_1 12 rfl rfl)
theorem dX1_yearTax_39 : decode cX1_yearTax 39 = .ok (.dup, 1) := dk_89 (dk_at dksX1_yearTax_1 15 rfl rfl)
theorem dX1_yearTax_40 : decode cX1_yearTax 40 = .ok (.ldc 243, 2) := dk_18 243 (dk_at dksX1_yearTax_1 16 rfl rfl)
theorem dX1_yearTax_42 : decode cX1_yearTax 42 = .ok (.invokespecial 245, 3) := dk_183 0 245 (dk_at dksX1_yearTax_1 18 rfl rfl)
theorem dX1_yearTax_45 : decode cX1_yearTax 45 = .ok (.athrow, 1) := dk_191 (dk_at dksX1_yearTax_1 21 rfl rfl)
theorem dX1_yearTax_46 : decode cX1_yearTax 46 = .ok (.aload_n 0, 1) := dk_42 (dk_at dksX1_yearTax_1 22 rfl rfl)
theorem dX1_yearTax_47 : decode cX1_yearTax 47 = .ok (.iload_n 1, 1) := dk_27 (dk_at dksX1_yearTax_1 23 rfl rfl)
theorem dX1_yearTax_48 : decode cX1_yearTax 48 = .ok (.iload_n 2, 1) := dk_28 (dk_at dksX1_yearTax_2 0 rfl rfl)
theorem dX1_yearTax_49 : decode cX1_yearTax 49 = .ok (.iload_n 3, 1) := dk_29 (dk_at dksX1_yearTax_2 1 rfl rfl)
theorem dX1_yearTax_50 : decode cX1_yearTax 50 = .ok (.lload 4, 2) := dk_22 4 (dk_at dksX1_yearTax_2 2 rfl rfl)
theorem dX1_yearTax_52 : decode cX1_yearTax 52 = .ok (.invokevirtual 377, 3) := dk_182 1 121 (dk_at dksX1_yearTax_2 4 rfl rfl)
theorem dX1_yearTax_55 : decode cX1_yearTax 55 = .ok (.lreturn, 1) := dk_173 (dk_at dksX1_yearTax_2 7 rfl rfl)
def dkwX1_taxOf_5 : List UInt8 := [132, 11, 1, 167, 255, 181, 22, 7, 173]
abbrev dktX1_taxOf_5 : List UInt8 := dkwX1_taxOf_5 ++ []
def dkwX1_taxOf_4 : List UInt8 := [25, 12, 182, 0, 171, 133, 105, 20, 0, 38, 109, 97, 55, 7, 25, 12, 182, 0, 168, 133, 55, 9]
abbrev dktX1_taxOf_4 : List UInt8 := dkwX1_taxOf_4 ++ dktX1_taxOf_5
def dkwX1_taxOf_3 : List UInt8 := [22, 4, 25, 12, 182, 0, 168, 133, 184, 0, 43, 22, 9, 101, 184, 0, 46, 55, 13, 22, 7, 22, 13]
abbrev dktX1_taxOf_3 : List UInt8 := dkwX1_taxOf_3 ++ dktX1_taxOf_4
def dkwX1_taxOf_2 : List UInt8 := [185, 0, 62, 1, 0, 162, 0, 69, 25, 6, 21, 11, 185, 0, 67, 2, 0, 192, 0, 166, 58, 12, 9]
abbrev dktX1_taxOf_2 : List UInt8 := dkwX1_taxOf_2 ++ dktX1_taxOf_3
def dkwX1_taxOf_1 : List UInt8 := [182, 0, 163, 192, 0, 63, 58, 6, 9, 55, 7, 9, 55, 9, 3, 54, 11, 21, 11, 25, 6]
abbrev dktX1_taxOf_1 : List UInt8 := dkwX1_taxOf_1 ++ dktX1_taxOf_2
def dkwX1_taxOf_0 : List UInt8 := [42, 180, 0, 122, 27, 185, 0, 67, 2, 0, 192, 0, 63, 28, 185, 0, 67, 2, 0, 192, 0, 153, 29]
abbrev dktX1_taxOf_0 : List UInt8 := dkwX1_taxOf_0 ++ dktX1_taxOf_1
theorem dksX1_taxOf_0 : cX1_taxOf.data.toList.drop 0 = dktX1_taxOf_0 := by decide +kernel
theorem dksX1_taxOf_1 : cX1_taxOf.data.toList.drop 23 = dktX1_taxOf_1 := dk_seg dksX1_taxOf_0 23 rfl rfl
theorem dksX1_taxOf_2 : cX1_taxOf.data.toList.drop 44 = dktX1_taxOf_2 := dk_seg dksX1_taxOf_1 21 rfl rfl
theorem dksX1_taxOf_3 : cX1_taxOf.data.toList.drop 67 = dktX1_taxOf_3 := dk_seg dksX1_taxOf_2 23 rfl rfl
theorem dksX1_taxOf_4 : cX1_taxOf.data.toList.drop 90 = dktX1_taxOf_4 := dk_seg dksX1_taxOf_3 23 rfl rfl
theorem dksX1_taxOf_5 : cX1_taxOf.data.toList.drop 112 = dktX1_taxOf_5 := dk_seg dksX1_taxOf_4 22 rfl rfl
theorem dX1_taxOf_0 : decode cX1_taxOf 0 = .ok (.aload_n 0, 1) := dk_42 (dk_at dksX1_taxOf_0 0 rfl rfl)
theorem dX1_taxOf_1 : decode cX1_taxOf 1 = .ok (.getfield 122, 3) := dk_180 0 122 (dk_at dksX1_taxOf_0 1 rfl rfl)
theorem dX1_taxOf_4 : decode cX1_taxOf 4 = .ok (.iload_n 1, 1) := dk_27 (dk_at dksX1_taxOf_0 4 rfl rfl)
theorem dX1_taxOf_5 : decode cX1_taxOf 5 = .ok (.invokeinterface 67 2, 5) := by decide +kernel
theorem dX1_taxOf_10 : decode cX1_taxOf 10 = .ok (.checkcast 63, 3) := dk_192 0 63 (dk_at dksX1_taxOf_0 10 rfl rfl)
theorem dX1_taxOf_13 : decode cX1_taxOf 13 = .ok (.iload_n 2, 1) := dk_28 (dk_at dksX1_taxOf_0 13 rfl rfl)
theorem dX1_taxOf_14 : decode cX1_taxOf 14 = .ok (.invokeinterface 67 2, 5) := by decide +kernel
theorem dX1_taxOf_19 : decode cX1_taxOf 19 = .ok (.checkcast 153, 3) := dk_192 0 153 (dk_at dksX1_taxOf_0 19 rfl rfl)
theorem dX1_taxOf_22 : decode cX1_taxOf 22 = .ok (.iload_n 3, 1) := dk_29 (dk_at dksX1_taxOf_0 22 rfl rfl)
theorem dX1_taxOf_23 : decode cX1_taxOf 23 = .ok (.invokevirtual 163, 3) := dk_182 0 163 (dk_at dksX1_taxOf_1 0 rfl rfl)
theorem dX1_taxOf_26 : decode cX1_taxOf 26 = .ok (.checkcast 63, 3) := dk_192 0 63 (dk_at dksX1_taxOf_1 3 rfl rfl)
theorem dX1_taxOf_29 : decode cX1_taxOf 29 = .ok (.astore 6, 2) := dk_58 6 (dk_at dksX1_taxOf_1 6 rfl rfl)
theorem dX1_taxOf_31 : decode cX1_taxOf 31 = .ok (.lconst 0, 1) := dk_9 (dk_at dksX1_taxOf_1 8 rfl rfl)
theorem dX1_taxOf_32 : decode cX1_taxOf 32 = .ok (.lstore 7, 2) := dk_55 7 (dk_at dksX1_taxOf_1 9 rfl rfl)
theorem dX1_taxOf_34 : decode cX1_taxOf 34 = .ok (.lconst 0, 1) := dk_9 (dk_at dksX1_taxOf_1 11 rfl rfl)
theorem dX1_taxOf_35 : decode cX1_taxOf 35 = .ok (.lstore 9, 2) := dk_55 9 (dk_at dksX1_taxOf_1 12 rfl rfl)
theorem dX1_taxOf_37 : decode cX1_taxOf 37 = .ok (.iconst 0, 1) := dk_3 (dk_at dksX1_taxOf_1 14 rfl rfl)
theorem dX1_taxOf_38 : decode cX1_taxOf 38 = .ok (.istore 11, 2) := dk_54 11 (dk_at dksX1_taxOf_1 15 rfl rfl)
theorem dX1_taxOf_40 : decode cX1_taxOf 40 = .ok (.iload 11, 2) := dk_21 11 (dk_at dksX1_taxOf_1 17 rfl rfl)
theorem dX1_taxOf_42 : decode cX1_taxOf 42 = .ok (.aload 6, 2) := dk_25 6 (dk_at dksX1_taxOf_1 19 rfl rfl)
theorem dX1_taxOf_44 : decode cX1_taxOf 44 = .ok (.invokeinterface 62 1, 5) := by decide +kernel
theorem dX1_taxOf_49 : decode cX1_taxOf 49 = .ok (.if_icmp .ge 69, 3) := dk_162 0 69 (dk_at dksX1_taxOf_2 5 rfl rfl)
theorem dX1_taxOf_52 : decode cX1_taxOf 52 = .ok (.aload 6, 2) := dk_25 6 (dk_at dksX1_taxOf_2 8 rfl rfl)
theorem dX1_taxOf_54 : decode cX1_taxOf 54 = .ok (.iload 11, 2) := dk_21 11 (dk_at dksX1_taxOf_2 10 rfl rfl)
theorem dX1_taxOf_56 : decode cX1_taxOf 56 = .ok (.invokeinterface 67 2, 5) := by decide +kernel
theorem dX1_taxOf_61 : decode cX1_taxOf 61 = .ok (.checkcast 166, 3) := dk_192 0 166 (dk_at dksX1_taxOf_2 17 rfl rfl)
theorem dX1_taxOf_64 : decode cX1_taxOf 64 = .ok (.astore 12, 2) := dk_58 12 (dk_at dksX1_taxOf_2 20 rfl rfl)
theorem dX1_taxOf_66 : decode cX1_taxOf 66 = .ok (.lconst 0, 1) := dk_9 (dk_at dksX1_taxOf_2 22 rfl rfl)
theorem dX1_taxOf_67 : decode cX1_taxOf 67 = .ok (.lload 4, 2) := dk_22 4 (dk_at dksX1_taxOf_3 0 rfl rfl)
theorem dX1_taxOf_69 : decode cX1_taxOf 69 = .ok (.aload 12, 2) := dk_25 12 (dk_at dksX1_taxOf_3 2 rfl rfl)
theorem dX1_taxOf_71 : decode cX1_taxOf 71 = .ok (.invokevirtual 168, 3) := dk_182 0 168 (dk_at dksX1_taxOf_3 4 rfl rfl)
theorem dX1_taxOf_74 : decode cX1_taxOf 74 = .ok (.i2l, 1) := dk_133 (dk_at dksX1_taxOf_3 7 rfl rfl)
theorem dX1_taxOf_75 : decode cX1_taxOf 75 = .ok (.invokestatic 43, 3) := dk_184 0 43 (dk_at dksX1_taxOf_3 8 rfl rfl)
theorem dX1_taxOf_78 : decode cX1_taxOf 78 = .ok (.lload 9, 2) := dk_22 9 (dk_at dksX1_taxOf_3 11 rfl rfl)
theorem dX1_taxOf_80 : decode cX1_taxOf 80 = .ok (.lsub, 1) := dk_101 (dk_at dksX1_taxOf_3 13 rfl rfl)
theorem dX1_taxOf_81 : decode cX1_taxOf 81 = .ok (.invokestatic 46, 3) := dk_184 0 46 (dk_at dksX1_taxOf_3 14 rfl rfl)
theorem dX1_taxOf_84 : decode cX1_taxOf 84 = .ok (.lstore 13, 2) := dk_55 13 (dk_at dksX1_taxOf_3 17 rfl rfl)
theorem dX1_taxOf_86 : decode cX1_taxOf 86 = .ok (.lload 7, 2) := dk_22 7 (dk_at dksX1_taxOf_3 19 rfl rfl)
theorem dX1_taxOf_88 : decode cX1_taxOf 88 = .ok (.lload 13, 2) := dk_22 13 (dk_at dksX1_taxOf_3 21 rfl rfl)
theorem dX1_taxOf_90 : decode cX1_taxOf 90 = .ok (.aload 12, 2) := dk_25 12 (dk_at dksX1_taxOf_4 0 rfl rfl)
theorem dX1_taxOf_92 : decode cX1_taxOf 92 = .ok (.invokevirtual 171, 3) := dk_182 0 171 (dk_at dksX1_taxOf_4 2 rfl rfl)
theorem dX1_taxOf_95 : decode cX1_taxOf 95 = .ok (.i2l, 1) := dk_133 (dk_at dksX1_taxOf_4 5 rfl rfl)
theorem dX1_taxOf_96 : decode cX1_taxOf 96 = .ok (.lmul, 1) := dk_105 (dk_at dksX1_taxOf_4 6 rfl rfl)
theorem dX1_taxOf_97 : decode cX1_taxOf 97 = .ok (.ldc2_w 38, 3) := dk_20 0 38 (dk_at dksX1_taxOf_4 7 rfl rfl)
theorem dX1_taxOf_100 : decode cX1_taxOf 100 = .ok (.ldiv, 1) := dk_109 (dk_at dksX1_taxOf_4 10 rfl rfl)
theorem dX1_taxOf_101 : decode cX1_taxOf 101 = .ok (.ladd, 1) := dk_97 (dk_at dksX1_taxOf_4 11 rfl rfl)
theorem dX1_taxOf_102 : decode cX1_taxOf 102 = .ok (.lstore 7, 2) := dk_55 7 (dk_at dksX1_taxOf_4 12 rfl rfl)
theorem dX1_taxOf_104 : decode cX1_taxOf 104 = .ok (.aload 12, 2) := dk_25 12 (dk_at dksX1_taxOf_4 14 rfl rfl)
theorem dX1_taxOf_106 : decode cX1_taxOf 106 = .ok (.invokevirtual 168, 3) := dk_182 0 168 (dk_at dksX1_taxOf_4 16 rfl rfl)
theorem dX1_taxOf_109 : decode cX1_taxOf 109 = .ok (.i2l, 1) := dk_133 (dk_at dksX1_taxOf_4 19 rfl rfl)
theorem dX1_taxOf_110 : decode cX1_taxOf 110 = .ok (.lstore 9, 2) := dk_55 9 (dk_at dksX1_taxOf_4 20 rfl rfl)
theorem dX1_taxOf_112 : decode cX1_taxOf 112 = .ok (.iinc 11 1, 3) := dk_132 11 1 (dk_at dksX1_taxOf_5 0 rfl rfl)
theorem dX1_taxOf_115 : decode cX1_taxOf 115 = .ok (.goto (-75), 3) := dk_167 255 181 (dk_at dksX1_taxOf_5 3 rfl rfl)
theorem dX1_taxOf_118 : decode cX1_taxOf 118 = .ok (.lload 7, 2) := dk_22 7 (dk_at dksX1_taxOf_5 6 rfl rfl)
theorem dX1_taxOf_120 : decode cX1_taxOf 120 = .ok (.lreturn, 1) := dk_173 (dk_at dksX1_taxOf_5 8 rfl rfl)
def dkwX1_slip_6 : List UInt8 := [180, 1, 153, 28, 47, 173]
abbrev dktX1_slip_6 : List UInt8 := dkwX1_slip_6 ++ []
def dkwX1_slip_5 : List UInt8 := [180, 1, 144, 28, 47, 173, 25, 4, 28, 182, 1, 147, 173, 25, 4, 180, 1, 150, 28, 47, 173, 25, 4]
abbrev dktX1_slip_5 : List UInt8 := dkwX1_slip_5 ++ dktX1_slip_6
def dkwX1_slip_4 : List UInt8 := [25, 4, 180, 1, 138, 28, 47, 173, 25, 4, 28, 25, 4, 180, 1, 141, 182, 1, 132, 173, 25, 4]
abbrev dktX1_slip_4 : List UInt8 := dkwX1_slip_4 ++ dktX1_slip_5
def dkwX1_slip_3 : List UInt8 := [25, 4, 28, 25, 4, 180, 1, 128, 182, 1, 132, 173, 25, 4, 28, 25, 4, 180, 1, 135, 182, 1, 132, 173]
abbrev dktX1_slip_3 : List UInt8 := dkwX1_slip_3 ++ dktX1_slip_4
def dkwX1_slip_2 : List UInt8 := [170, 0, 0, 0, 0, 109, 0, 0, 0, 0, 0, 0, 0, 6, 0, 0, 0, 42, 0, 0, 0, 54, 0, 0, 0, 66, 0, 0, 0, 74, 0, 0, 0, 86, 0, 0, 0, 94, 0, 0, 0, 101]
abbrev dktX1_slip_2 : List UInt8 := dkwX1_slip_2 ++ dktX1_slip_3
def dkwX1_slip_1 : List UInt8 := [187, 1, 125, 89, 42, 27, 183, 1, 127, 58, 4, 29]
abbrev dktX1_slip_1 : List UInt8 := dkwX1_slip_1 ++ dktX1_slip_2
def dkwX1_slip_0 : List UInt8 := [27, 16, 6, 184, 0, 251, 87, 28, 16, 24, 184, 0, 251, 87, 29, 3, 16, 7, 184, 1, 7, 87]
abbrev dktX1_slip_0 : List UInt8 := dkwX1_slip_0 ++ dktX1_slip_1
theorem dksX1_slip_0 : cX1_slip.data.toList.drop 0 = dktX1_slip_0 := by decide +kernel
theorem dksX1_slip_1 : cX1_slip.data.toList.drop 22 = dktX1_slip_1 := dk_seg dksX1_slip_0 22 rfl rfl
theorem dksX1_slip_2 : cX1_slip.data.toList.drop 34 = dktX1_slip_2 := dk_seg dksX1_slip_1 12 rfl rfl
theorem dksX1_slip_3 : cX1_slip.data.toList.drop 76 = dktX1_slip_3 := dk_seg dksX1_slip_2 42 rfl rfl
theorem dksX1_slip_4 : cX1_slip.data.toList.drop 100 = dktX1_slip_4 := dk_seg dksX1_slip_3 24 rfl rfl
theorem dksX1_slip_5 : cX1_slip.data.toList.drop 122 = dktX1_slip_5 := dk_seg dksX1_slip_4 22 rfl rfl
theorem dksX1_slip_6 : cX1_slip.data.toList.drop 145 = dktX1_slip_6 := dk_seg dksX1_slip_5 23 rfl rfl
theorem dX1_slip_0 : decode cX1_slip 0 = .ok (.iload_n 1, 1) := dk_27 (dk_at dksX1_slip_0 0 rfl rfl)
theorem dX1_slip_1 : decode cX1_slip 1 = .ok (.bipush 6, 2) := dk_16 6 (dk_at dksX1_slip_0 1 rfl rfl)
theorem dX1_slip_3 : decode cX1_slip 3 = .ok (.invokestatic 251, 3) := dk_184 0 251 (dk_at dksX1_slip_0 3 rfl rfl)
theorem dX1_slip_6 : decode cX1_slip 6 = .ok (.pop, 1) := dk_87 (dk_at dksX1_slip_0 6 rfl rfl)
theorem dX1_slip_7 : decode cX1_slip 7 = .ok (.iload_n 2, 1) := dk_28 (dk_at dksX1_slip_0 7 rfl rfl)
theorem dX1_slip_8 : decode cX1_slip 8 = .ok (.bipush 24, 2) := dk_16 24 (dk_at dksX1_slip_0 8 rfl rfl)
theorem dX1_slip_10 : decode cX1_slip 10 = .ok (.invokestatic 251, 3) := dk_184 0 251 (dk_at dksX1_slip_0 10 rfl rfl)
theorem dX1_slip_13 : decode cX1_slip 13 = .ok (.pop, 1) := dk_87 (dk_at dksX1_slip_0 13 rfl rfl)
theorem dX1_slip_14 : decode cX1_slip 14 = .ok (.iload_n 3, 1) := dk_29 (dk_at dksX1_slip_0 14 rfl rfl)
theorem dX1_slip_15 : decode cX1_slip 15 = .ok (.iconst 0, 1) := dk_3 (dk_at dksX1_slip_0 15 rfl rfl)
theorem dX1_slip_16 : decode cX1_slip 16 = .ok (.bipush 7, 2) := dk_16 7 (dk_at dksX1_slip_0 16 rfl rfl)
theorem dX1_slip_18 : decode cX1_slip 18 = .ok (.invokestatic 263, 3) := dk_184 1 7 (dk_at dksX1_slip_0 18 rfl rfl)
theorem dX1_slip_21 : decode cX1_slip 21 = .ok (.pop, 1) := dk_87 (dk_at dksX1_slip_0 21 rfl rfl)
theorem dX1_slip_22 : decode cX1_slip 22 = .ok (.new 381, 3) := dk_187 1 125 (dk_at dksX1_slip_1 0 rfl rfl)
theorem dX1_slip_25 : decode cX1_slip 25 = .ok (.dup, 1) := dk_89 (dk_at dksX1_slip_1 3 rfl rfl)
theorem dX1_slip_26 : decode cX1_slip 26 = .ok (.aload_n 0, 1) := dk_42 (dk_at dksX1_slip_1 4 rfl rfl)
theorem dX1_slip_27 : decode cX1_slip 27 = .ok (.iload_n 1, 1) := dk_27 (dk_at dksX1_slip_1 5 rfl rfl)
theorem dX1_slip_28 : decode cX1_slip 28 = .ok (.invokespecial 383, 3) := dk_183 1 127 (dk_at dksX1_slip_1 6 rfl rfl)
theorem dX1_slip_31 : decode cX1_slip 31 = .ok (.astore 4, 2) := dk_58 4 (dk_at dksX1_slip_1 9 rfl rfl)
theorem dX1_slip_33 : decode cX1_slip 33 = .ok (.iload_n 3, 1) := dk_29 (dk_at dksX1_slip_1 11 rfl rfl)
theorem dX1_slip_34 : decode cX1_slip 34 = .ok (.tableswitch 109 0 6 #[42, 54, 66, 74, 86, 94, 101], 42) := by decide +kernel
theorem dX1_slip_76 : decode cX1_slip 76 = .ok (.aload 4, 2) := dk_25 4 (dk_at dksX1_slip_3 0 rfl rfl)
theorem dX1_slip_78 : decode cX1_slip 78 = .ok (.iload_n 2, 1) := dk_28 (dk_at dksX1_slip_3 2 rfl rfl)
theorem dX1_slip_79 : decode cX1_slip 79 = .ok (.aload 4, 2) := dk_25 4 (dk_at dksX1_slip_3 3 rfl rfl)
theorem dX1_slip_81 : decode cX1_slip 81 = .ok (.getfield 384, 3) := dk_180 1 128 (dk_at dksX1_slip_3 5 rfl rfl)
theorem dX1_slip_84 : decode cX1_slip 84 = .ok (.invokevirtual 388, 3) := dk_182 1 132 (dk_at dksX1_slip_3 8 rfl rfl)
theorem dX1_slip_87 : decode cX1_slip 87 = .ok (.lreturn, 1) := dk_173 (dk_at dksX1_slip_3 11 rfl rfl)
theorem dX1_slip_88 : decode cX1_slip 88 = .ok (.aload 4, 2) := dk_25 4 (dk_at dksX1_slip_3 12 rfl rfl)
theorem dX1_slip_90 : decode cX1_slip 90 = .ok (.iload_n 2, 1) := dk_28 (dk_at dksX1_slip_3 14 rfl rfl)
theorem dX1_slip_91 : decode cX1_slip 91 = .ok (.aload 4, 2) := dk_25 4 (dk_at dksX1_slip_3 15 rfl rfl)
theorem dX1_slip_93 : decode cX1_slip 93 = .ok (.getfield 391, 3) := dk_180 1 135 (dk_at dksX1_slip_3 17 rfl rfl)
theorem dX1_slip_96 : decode cX1_slip 96 = .ok (.invokevirtual 388, 3) := dk_182 1 132 (dk_at dksX1_slip_3 20 rfl rfl)
theorem dX1_slip_99 : decode cX1_slip 99 = .ok (.lreturn, 1) := dk_173 (dk_at dksX1_slip_3 23 rfl rfl)
theorem dX1_slip_100 : decode cX1_slip 100 = .ok (.aload 4, 2) := dk_25 4 (dk_at dksX1_slip_4 0 rfl rfl)
theorem dX1_slip_102 : decode cX1_slip 102 = .ok (.getfield 394, 3) := dk_180 1 138 (dk_at dksX1_slip_4 2 rfl rfl)
theorem dX1_slip_105 : decode cX1_slip 105 = .ok (.iload_n 2, 1) := dk_28 (dk_at dksX1_slip_4 5 rfl rfl)
theorem dX1_slip_106 : decode cX1_slip 106 = .ok (.laload, 1) := dk_47 (dk_at dksX1_slip_4 6 rfl rfl)
theorem dX1_slip_107 : decode cX1_slip 107 = .ok (.lreturn, 1) := dk_173 (dk_at dksX1_slip_4 7 rfl rfl)
theorem dX1_slip_108 : decode cX1_slip 108 = .ok (.aload 4, 2) := dk_25 4 (dk_at dksX1_slip_4 8 rfl rfl)
theorem dX1_slip_110 : decode cX1_slip 110 = .ok (.iload_n 2, 1) := dk_28 (dk_at dksX1_slip_4 10 rfl rfl)
theorem dX1_slip_111 : decode cX1_slip 111 = .ok (.aload 4, 2) := dk_25 4 (dk_at dksX1_slip_4 11 rfl rfl)
theorem dX1_slip_113 : decode cX1_slip 113 = .ok (.getfield 397, 3) := dk_180 1 141 (dk_at dksX1_slip_4 13 rfl rfl)
theorem dX1_slip_116 : decode cX1_slip 116 = .ok (.invokevirtual 388, 3) := dk_182 1 132 (dk_at dksX1_slip_4 16 rfl rfl)
theorem dX1_slip_119 : decode cX1_slip 119 = .ok (.lreturn, 1) := dk_173 (dk_at dksX1_slip_4 19 rfl rfl)
theorem dX1_slip_120 : decode cX1_slip 120 = .ok (.aload 4, 2) := dk_25 4 (dk_at dksX1_slip_4 20 rfl rfl)
theorem dX1_slip_122 : decode cX1_slip 122 = .ok (.getfield 400, 3) := dk_180 1 144 (dk_at dksX1_slip_5 0 rfl rfl)
theorem dX1_slip_125 : decode cX1_slip 125 = .ok (.iload_n 2, 1) := dk_28 (dk_at dksX1_slip_5 3 rfl rfl)
theorem dX1_slip_126 : decode cX1_slip 126 = .ok (.laload, 1) := dk_47 (dk_at dksX1_slip_5 4 rfl rfl)
theorem dX1_slip_127 : decode cX1_slip 127 = .ok (.lreturn, 1) := dk_173 (dk_at dksX1_slip_5 5 rfl rfl)
theorem dX1_slip_128 : decode cX1_slip 128 = .ok (.aload 4, 2) := dk_25 4 (dk_at dksX1_slip_5 6 rfl rfl)
theorem dX1_slip_130 : decode cX1_slip 130 = .ok (.iload_n 2, 1) := dk_28 (dk_at dksX1_slip_5 8 rfl rfl)
theorem dX1_slip_131 : decode cX1_slip 131 = .ok (.invokevirtual 403, 3) := dk_182 1 147 (dk_at dksX1_slip_5 9 rfl rfl)
theorem dX1_slip_134 : decode cX1_slip 134 = .ok (.lreturn, 1) := dk_173 (dk_at dksX1_slip_5 12 rfl rfl)
theorem dX1_slip_135 : decode cX1_slip 135 = .ok (.aload 4, 2) := dk_25 4 (dk_at dksX1_slip_5 13 rfl rfl)
theorem dX1_slip_137 : decode cX1_slip 137 = .ok (.getfield 406, 3) := dk_180 1 150 (dk_at dksX1_slip_5 15 rfl rfl)
theorem dX1_slip_140 : decode cX1_slip 140 = .ok (.iload_n 2, 1) := dk_28 (dk_at dksX1_slip_5 18 rfl rfl)
theorem dX1_slip_141 : decode cX1_slip 141 = .ok (.laload, 1) := dk_47 (dk_at dksX1_slip_5 19 rfl rfl)
theorem dX1_slip_142 : decode cX1_slip 142 = .ok (.lreturn, 1) := dk_173 (dk_at dksX1_slip_5 20 rfl rfl)
theorem dX1_slip_143 : decode cX1_slip 143 = .ok (.aload 4, 2) := dk_25 4 (dk_at dksX1_slip_5 21 rfl rfl)
theorem dX1_slip_145 : decode cX1_slip 145 = .ok (.getfield 409, 3) := dk_180 1 153 (dk_at dksX1_slip_6 0 rfl rfl)
theorem dX1_slip_148 : decode cX1_slip 148 = .ok (.iload_n 2, 1) := dk_28 (dk_at dksX1_slip_6 3 rfl rfl)
theorem dX1_slip_149 : decode cX1_slip 149 = .ok (.laload, 1) := dk_47 (dk_at dksX1_slip_6 4 rfl rfl)
theorem dX1_slip_150 : decode cX1_slip 150 = .ok (.lreturn, 1) := dk_173 (dk_at dksX1_slip_6 5 rfl rfl)
def dkwX1_bounded_0 : List UInt8 := [20, 0, 49, 20, 0, 51, 30, 184, 0, 43, 184, 0, 46, 173]
abbrev dktX1_bounded_0 : List UInt8 := dkwX1_bounded_0 ++ []
theorem dksX1_bounded_0 : cX1_bounded.data.toList.drop 0 = dktX1_bounded_0 := by decide +kernel
theorem dX1_bounded_0 : decode cX1_bounded 0 = .ok (.ldc2_w 49, 3) := dk_20 0 49 (dk_at dksX1_bounded_0 0 rfl rfl)
theorem dX1_bounded_3 : decode cX1_bounded 3 = .ok (.ldc2_w 51, 3) := dk_20 0 51 (dk_at dksX1_bounded_0 3 rfl rfl)
theorem dX1_bounded_6 : decode cX1_bounded 6 = .ok (.lload_n 0, 1) := dk_30 (dk_at dksX1_bounded_0 6 rfl rfl)
theorem dX1_bounded_7 : decode cX1_bounded 7 = .ok (.invokestatic 43, 3) := dk_184 0 43 (dk_at dksX1_bounded_0 7 rfl rfl)
theorem dX1_bounded_10 : decode cX1_bounded 10 = .ok (.invokestatic 46, 3) := dk_184 0 46 (dk_at dksX1_bounded_0 10 rfl rfl)
theorem dX1_bounded_13 : decode cX1_bounded 13 = .ok (.lreturn, 1) := dk_173 (dk_at dksX1_bounded_0 13 rfl rfl)
def dkwX1_nameOf_2 : List UInt8 := [18, 17, 176, 18, 19, 176, 18, 21, 176, 18, 23, 176, 18, 25, 176, 18, 27, 176]
abbrev dktX1_nameOf_2 : List UInt8 := dkwX1_nameOf_2 ++ []
def dkwX1_nameOf_1 : List UInt8 := [170, 0, 0, 0, 0, 0, 50, 0, 0, 0, 4, 0, 0, 0, 8, 0, 0, 0, 35, 0, 0, 0, 38, 0, 0, 0, 41, 0, 0, 0, 44, 0, 0, 0, 47]
abbrev dktX1_nameOf_1 : List UInt8 := dkwX1_nameOf_1 ++ dktX1_nameOf_2
def dkwX1_nameOf_0 : List UInt8 := [26]
abbrev dktX1_nameOf_0 : List UInt8 := dkwX1_nameOf_0 ++ dktX1_nameOf_1
theorem dksX1_nameOf_0 : cX1_nameOf.data.toList.drop 0 = dktX1_nameOf_0 := by decide +kernel
theorem dksX1_nameOf_1 : cX1_nameOf.data.toList.drop 1 = dktX1_nameOf_1 := dk_seg dksX1_nameOf_0 1 rfl rfl
theorem dksX1_nameOf_2 : cX1_nameOf.data.toList.drop 36 = dktX1_nameOf_2 := dk_seg dksX1_nameOf_1 35 rfl rfl
theorem dX1_nameOf_0 : decode cX1_nameOf 0 = .ok (.iload_n 0, 1) := dk_26 (dk_at dksX1_nameOf_0 0 rfl rfl)
theorem dX1_nameOf_1 : decode cX1_nameOf 1 = .ok (.tableswitch 50 4 8 #[35, 38, 41, 44, 47], 35) := by decide +kernel
theorem dX1_nameOf_36 : decode cX1_nameOf 36 = .ok (.ldc 17, 2) := dk_18 17 (dk_at dksX1_nameOf_2 0 rfl rfl)
theorem dX1_nameOf_38 : decode cX1_nameOf 38 = .ok (.areturn, 1) := dk_176 (dk_at dksX1_nameOf_2 2 rfl rfl)
theorem dX1_nameOf_39 : decode cX1_nameOf 39 = .ok (.ldc 19, 2) := dk_18 19 (dk_at dksX1_nameOf_2 3 rfl rfl)
theorem dX1_nameOf_41 : decode cX1_nameOf 41 = .ok (.areturn, 1) := dk_176 (dk_at dksX1_nameOf_2 5 rfl rfl)
theorem dX1_nameOf_42 : decode cX1_nameOf 42 = .ok (.ldc 21, 2) := dk_18 21 (dk_at dksX1_nameOf_2 6 rfl rfl)
theorem dX1_nameOf_44 : decode cX1_nameOf 44 = .ok (.areturn, 1) := dk_176 (dk_at dksX1_nameOf_2 8 rfl rfl)
theorem dX1_nameOf_45 : decode cX1_nameOf 45 = .ok (.ldc 23, 2) := dk_18 23 (dk_at dksX1_nameOf_2 9 rfl rfl)
theorem dX1_nameOf_47 : decode cX1_nameOf 47 = .ok (.areturn, 1) := dk_176 (dk_at dksX1_nameOf_2 11 rfl rfl)
theorem dX1_nameOf_48 : decode cX1_nameOf 48 = .ok (.ldc 25, 2) := dk_18 25 (dk_at dksX1_nameOf_2 12 rfl rfl)
theorem dX1_nameOf_50 : decode cX1_nameOf 50 = .ok (.areturn, 1) := dk_176 (dk_at dksX1_nameOf_2 14 rfl rfl)
theorem dX1_nameOf_51 : decode cX1_nameOf 51 = .ok (.ldc 27, 2) := dk_18 27 (dk_at dksX1_nameOf_2 15 rfl rfl)
theorem dX1_nameOf_53 : decode cX1_nameOf 53 = .ok (.areturn, 1) := dk_176 (dk_at dksX1_nameOf_2 17 rfl rfl)
def dkwX1_join_8 : List UInt8 := [184, 0, 43, 173, 31, 33, 184, 0, 46, 173]
abbrev dktX1_join_8 : List UInt8 := dkwX1_join_8 ++ []
def dkwX1_join_7 : List UInt8 := [31, 33, 97, 173, 31, 33, 101, 173, 31, 33, 105, 173, 31, 33, 105, 20, 0, 38, 184, 0, 40, 173, 31, 33]
abbrev dktX1_join_7 : List UInt8 := dkwX1_join_7 ++ dktX1_join_8
def dkwX1_join_6 : List UInt8 := [170, 0, 0, 0, 61, 0, 0, 0, 0, 0, 0, 0, 4, 0, 0, 0, 33, 0, 0, 0, 37, 0, 0, 0, 41, 0, 0, 0, 45, 0, 0, 0, 55]
abbrev dktX1_join_6 : List UInt8 := dkwX1_join_6 ++ dktX1_join_7
def dkwX1_join_5 : List UInt8 := [182, 0, 34, 153, 0, 6, 7, 54, 6, 21, 6]
abbrev dktX1_join_5 : List UInt8 := dkwX1_join_5 ++ dktX1_join_6
def dkwX1_join_4 : List UInt8 := [167, 0, 32, 25, 5, 18, 23, 182, 0, 34, 153, 0, 22, 6, 54, 6, 167, 0, 16, 25, 5, 18, 25]
abbrev dktX1_join_4 : List UInt8 := dkwX1_join_4 ++ dktX1_join_5
def dkwX1_join_3 : List UInt8 := [153, 0, 54, 4, 54, 6, 167, 0, 48, 25, 5, 18, 21, 182, 0, 34, 153, 0, 38, 5, 54, 6]
abbrev dktX1_join_3 : List UInt8 := dkwX1_join_3 ++ dktX1_join_4
def dkwX1_join_2 : List UInt8 := [25, 5, 18, 17, 182, 0, 34, 153, 0, 70, 3, 54, 6, 167, 0, 64, 25, 5, 18, 19, 182, 0, 34]
abbrev dktX1_join_2 : List UInt8 := dkwX1_join_2 ++ dktX1_join_3
def dkwX1_join_1 : List UInt8 := [171, 0, 0, 0, 126, 0, 0, 0, 5, 190, 16, 172, 6, 0, 0, 0, 113, 0, 52, 141, 154, 0, 0, 0, 49, 6, 49, 104, 112, 0, 0, 0, 65, 6, 148, 7, 70, 0, 0, 0, 81, 26, 18, 216, 204, 0, 0, 0, 97]
abbrev dktX1_join_1 : List UInt8 := dkwX1_join_1 ++ dktX1_join_2
def dkwX1_join_0 : List UInt8 := [42, 58, 5, 2, 54, 6, 25, 5, 182, 0, 29]
abbrev dktX1_join_0 : List UInt8 := dkwX1_join_0 ++ dktX1_join_1
theorem dksX1_join_0 : cX1_join.data.toList.drop 0 = dktX1_join_0 := by decide +kernel
theorem dksX1_join_1 : cX1_join.data.toList.drop 11 = dktX1_join_1 := dk_seg dksX1_join_0 11 rfl rfl
theorem dksX1_join_2 : cX1_join.data.toList.drop 60 = dktX1_join_2 := dk_seg dksX1_join_1 49 rfl rfl
theorem dksX1_join_3 : cX1_join.data.toList.drop 83 = dktX1_join_3 := dk_seg dksX1_join_2 23 rfl rfl
theorem dksX1_join_4 : cX1_join.data.toList.drop 105 = dktX1_join_4 := dk_seg dksX1_join_3 22 rfl rfl
theorem dksX1_join_5 : cX1_join.data.toList.drop 128 = dktX1_join_5 := dk_seg dksX1_join_4 23 rfl rfl
theorem dksX1_join_6 : cX1_join.data.toList.drop 139 = dktX1_join_6 := dk_seg dksX1_join_5 11 rfl rfl
theorem dksX1_join_7 : cX1_join.data.toList.drop 172 = dktX1_join_7 := dk_seg dksX1_join_6 33 rfl rfl
theorem dksX1_join_8 : cX1_join.data.toList.drop 196 = dktX1_join_8 := dk_seg dksX1_join_7 24 rfl rfl
theorem dX1_join_0 : decode cX1_join 0 = .ok (.aload_n 0, 1) := dk_42 (dk_at dksX1_join_0 0 rfl rfl)
theorem dX1_join_1 : decode cX1_join 1 = .ok (.astore 5, 2) := dk_58 5 (dk_at dksX1_join_0 1 rfl rfl)
theorem dX1_join_3 : decode cX1_join 3 = .ok (.iconst (-1), 1) := dk_2 (dk_at dksX1_join_0 3 rfl rfl)
theorem dX1_join_4 : decode cX1_join 4 = .ok (.istore 6, 2) := dk_54 6 (dk_at dksX1_join_0 4 rfl rfl)
theorem dX1_join_6 : decode cX1_join 6 = .ok (.aload 5, 2) := dk_25 5 (dk_at dksX1_join_0 6 rfl rfl)
theorem dX1_join_8 : decode cX1_join 8 = .ok (.invokevirtual 29, 3) := dk_182 0 29 (dk_at dksX1_join_0 8 rfl rfl)
theorem dX1_join_11 : decode cX1_join 11 = .ok (.lookupswitch 126 #[(-1106203642, 113), (3444122, 49), (103901296, 65), (110364486, 81), (437442764, 97)], 49) := by decide +kernel
theorem dX1_join_60 : decode cX1_join 60 = .ok (.aload 5, 2) := dk_25 5 (dk_at dksX1_join_2 0 rfl rfl)
theorem dX1_join_62 : decode cX1_join 62 = .ok (.ldc 17, 2) := dk_18 17 (dk_at dksX1_join_2 2 rfl rfl)
theorem dX1_join_64 : decode cX1_join 64 = .ok (.invokevirtual 34, 3) := dk_182 0 34 (dk_at dksX1_join_2 4 rfl rfl)
theorem dX1_join_67 : decode cX1_join 67 = .ok (.ifCond .eq 70, 3) := dk_153 0 70 (dk_at dksX1_join_2 7 rfl rfl)
theorem dX1_join_70 : decode cX1_join 70 = .ok (.iconst 0, 1) := dk_3 (dk_at dksX1_join_2 10 rfl rfl)
theorem dX1_join_71 : decode cX1_join 71 = .ok (.istore 6, 2) := dk_54 6 (dk_at dksX1_join_2 11 rfl rfl)
theorem dX1_join_73 : decode cX1_join 73 = .ok (.goto 64, 3) := dk_167 0 64 (dk_at dksX1_join_2 13 rfl rfl)
theorem dX1_join_76 : decode cX1_join 76 = .ok (.aload 5, 2) := dk_25 5 (dk_at dksX1_join_2 16 rfl rfl)
theorem dX1_join_78 : decode cX1_join 78 = .ok (.ldc 19, 2) := dk_18 19 (dk_at dksX1_join_2 18 rfl rfl)
theorem dX1_join_80 : decode cX1_join 80 = .ok (.invokevirtual 34, 3) := dk_182 0 34 (dk_at dksX1_join_2 20 rfl rfl)
theorem dX1_join_83 : decode cX1_join 83 = .ok (.ifCond .eq 54, 3) := dk_153 0 54 (dk_at dksX1_join_3 0 rfl rfl)
theorem dX1_join_86 : decode cX1_join 86 = .ok (.iconst 1, 1) := dk_4 (dk_at dksX1_join_3 3 rfl rfl)
theorem dX1_join_87 : decode cX1_join 87 = .ok (.istore 6, 2) := dk_54 6 (dk_at dksX1_join_3 4 rfl rfl)
theorem dX1_join_89 : decode cX1_join 89 = .ok (.goto 48, 3) := dk_167 0 48 (dk_at dksX1_join_3 6 rfl rfl)
theorem dX1_join_92 : decode cX1_join 92 = .ok (.aload 5, 2) := dk_25 5 (dk_at dksX1_join_3 9 rfl rfl)
theorem dX1_join_94 : decode cX1_join 94 = .ok (.ldc 21, 2) := dk_18 21 (dk_at dksX1_join_3 11 rfl rfl)
theorem dX1_join_96 : decode cX1_join 96 = .ok (.invokevirtual 34, 3) := dk_182 0 34 (dk_at dksX1_join_3 13 rfl rfl)
theorem dX1_join_99 : decode cX1_join 99 = .ok (.ifCond .eq 38, 3) := dk_153 0 38 (dk_at dksX1_join_3 16 rfl rfl)
theorem dX1_join_102 : decode cX1_join 102 = .ok (.iconst 2, 1) := dk_5 (dk_at dksX1_join_3 19 rfl rfl)
theorem dX1_join_103 : decode cX1_join 103 = .ok (.istore 6, 2) := dk_54 6 (dk_at dksX1_join_3 20 rfl rfl)
theorem dX1_join_105 : decode cX1_join 105 = .ok (.goto 32, 3) := dk_167 0 32 (dk_at dksX1_join_4 0 rfl rfl)
theorem dX1_join_108 : decode cX1_join 108 = .ok (.aload 5, 2) := dk_25 5 (dk_at dksX1_join_4 3 rfl rfl)
theorem dX1_join_110 : decode cX1_join 110 = .ok (.ldc 23, 2) := dk_18 23 (dk_at dksX1_join_4 5 rfl rfl)
theorem dX1_join_112 : decode cX1_join 112 = .ok (.invokevirtual 34, 3) := dk_182 0 34 (dk_at dksX1_join_4 7 rfl rfl)
theorem dX1_join_115 : decode cX1_join 115 = .ok (.ifCond .eq 22, 3) := dk_153 0 22 (dk_at dksX1_join_4 10 rfl rfl)
theorem dX1_join_118 : decode cX1_join 118 = .ok (.iconst 3, 1) := dk_6 (dk_at dksX1_join_4 13 rfl rfl)
theorem dX1_join_119 : decode cX1_join 119 = .ok (.istore 6, 2) := dk_54 6 (dk_at dksX1_join_4 14 rfl rfl)
theorem dX1_join_121 : decode cX1_join 121 = .ok (.goto 16, 3) := dk_167 0 16 (dk_at dksX1_join_4 16 rfl rfl)
theorem dX1_join_124 : decode cX1_join 124 = .ok (.aload 5, 2) := dk_25 5 (dk_at dksX1_join_4 19 rfl rfl)
theorem dX1_join_126 : decode cX1_join 126 = .ok (.ldc 25, 2) := dk_18 25 (dk_at dksX1_join_4 21 rfl rfl)
theorem dX1_join_128 : decode cX1_join 128 = .ok (.invokevirtual 34, 3) := dk_182 0 34 (dk_at dksX1_join_5 0 rfl rfl)
theorem dX1_join_131 : decode cX1_join 131 = .ok (.ifCond .eq 6, 3) := dk_153 0 6 (dk_at dksX1_join_5 3 rfl rfl)
theorem dX1_join_134 : decode cX1_join 134 = .ok (.iconst 4, 1) := dk_7 (dk_at dksX1_join_5 6 rfl rfl)
theorem dX1_join_135 : decode cX1_join 135 = .ok (.istore 6, 2) := dk_54 6 (dk_at dksX1_join_5 7 rfl rfl)
theorem dX1_join_137 : decode cX1_join 137 = .ok (.iload 6, 2) := dk_21 6 (dk_at dksX1_join_5 9 rfl rfl)
theorem dX1_join_139 : decode cX1_join 139 = .ok (.tableswitch 61 0 4 #[33, 37, 41, 45, 55], 33) := by decide +kernel
theorem dX1_join_172 : decode cX1_join 172 = .ok (.lload_n 1, 1) := dk_31 (dk_at dksX1_join_7 0 rfl rfl)
theorem dX1_join_173 : decode cX1_join 173 = .ok (.lload_n 3, 1) := dk_33 (dk_at dksX1_join_7 1 rfl rfl)
theorem dX1_join_174 : decode cX1_join 174 = .ok (.ladd, 1) := dk_97 (dk_at dksX1_join_7 2 rfl rfl)
theorem dX1_join_175 : decode cX1_join 175 = .ok (.lreturn, 1) := dk_173 (dk_at dksX1_join_7 3 rfl rfl)
theorem dX1_join_176 : decode cX1_join 176 = .ok (.lload_n 1, 1) := dk_31 (dk_at dksX1_join_7 4 rfl rfl)
theorem dX1_join_177 : decode cX1_join 177 = .ok (.lload_n 3, 1) := dk_33 (dk_at dksX1_join_7 5 rfl rfl)
theorem dX1_join_178 : decode cX1_join 178 = .ok (.lsub, 1) := dk_101 (dk_at dksX1_join_7 6 rfl rfl)
theorem dX1_join_179 : decode cX1_join 179 = .ok (.lreturn, 1) := dk_173 (dk_at dksX1_join_7 7 rfl rfl)
theorem dX1_join_180 : decode cX1_join 180 = .ok (.lload_n 1, 1) := dk_31 (dk_at dksX1_join_7 8 rfl rfl)
theorem dX1_join_181 : decode cX1_join 181 = .ok (.lload_n 3, 1) := dk_33 (dk_at dksX1_join_7 9 rfl rfl)
theorem dX1_join_182 : decode cX1_join 182 = .ok (.lmul, 1) := dk_105 (dk_at dksX1_join_7 10 rfl rfl)
theorem dX1_join_183 : decode cX1_join 183 = .ok (.lreturn, 1) := dk_173 (dk_at dksX1_join_7 11 rfl rfl)
theorem dX1_join_184 : decode cX1_join 184 = .ok (.lload_n 1, 1) := dk_31 (dk_at dksX1_join_7 12 rfl rfl)
theorem dX1_join_185 : decode cX1_join 185 = .ok (.lload_n 3, 1) := dk_33 (dk_at dksX1_join_7 13 rfl rfl)
theorem dX1_join_186 : decode cX1_join 186 = .ok (.lmul, 1) := dk_105 (dk_at dksX1_join_7 14 rfl rfl)
theorem dX1_join_187 : decode cX1_join 187 = .ok (.ldc2_w 38, 3) := dk_20 0 38 (dk_at dksX1_join_7 15 rfl rfl)
theorem dX1_join_190 : decode cX1_join 190 = .ok (.invokestatic 40, 3) := dk_184 0 40 (dk_at dksX1_join_7 18 rfl rfl)
theorem dX1_join_193 : decode cX1_join 193 = .ok (.lreturn, 1) := dk_173 (dk_at dksX1_join_7 21 rfl rfl)
theorem dX1_join_194 : decode cX1_join 194 = .ok (.lload_n 1, 1) := dk_31 (dk_at dksX1_join_7 22 rfl rfl)
theorem dX1_join_195 : decode cX1_join 195 = .ok (.lload_n 3, 1) := dk_33 (dk_at dksX1_join_7 23 rfl rfl)
theorem dX1_join_196 : decode cX1_join 196 = .ok (.invokestatic 43, 3) := dk_184 0 43 (dk_at dksX1_join_8 0 rfl rfl)
theorem dX1_join_199 : decode cX1_join 199 = .ok (.lreturn, 1) := dk_173 (dk_at dksX1_join_8 3 rfl rfl)
theorem dX1_join_200 : decode cX1_join 200 = .ok (.lload_n 1, 1) := dk_31 (dk_at dksX1_join_8 4 rfl rfl)
theorem dX1_join_201 : decode cX1_join 201 = .ok (.lload_n 3, 1) := dk_33 (dk_at dksX1_join_8 5 rfl rfl)
theorem dX1_join_202 : decode cX1_join 202 = .ok (.invokestatic 46, 3) := dk_184 0 46 (dk_at dksX1_join_8 6 rfl rfl)
theorem dX1_join_205 : decode cX1_join 205 = .ok (.lreturn, 1) := dk_173 (dk_at dksX1_join_8 9 rfl rfl)
def dkwX1_slipIn_4 : List UInt8 := [180, 1, 135, 58, 6, 25, 6, 28, 6, 104, 29, 96, 47, 173]
abbrev dktX1_slipIn_4 : List UInt8 := dkwX1_slipIn_4 ++ []
def dkwX1_slipIn_3 : List UInt8 := [180, 1, 128, 167, 0, 22, 21, 4, 6, 160, 0, 11, 25, 5, 180, 1, 141, 167, 0, 8, 25, 5]
abbrev dktX1_slipIn_3 : List UInt8 := dkwX1_slipIn_3 ++ dktX1_slipIn_4
def dkwX1_slipIn_2 : List UInt8 := [183, 0, 245, 191, 187, 1, 125, 89, 42, 27, 183, 1, 127, 58, 5, 21, 4, 154, 0, 11, 25, 5]
abbrev dktX1_slipIn_2 : List UInt8 := dkwX1_slipIn_2 ++ dktX1_slipIn_3
def dkwX1_slipIn_1 : List UInt8 := [153, 0, 26, 21, 4, 4, 159, 0, 20, 21, 4, 6, 159, 0, 14, 187, 0, 241, 89, 19, 1, 156]
abbrev dktX1_slipIn_1 : List UInt8 := dkwX1_slipIn_1 ++ dktX1_slipIn_2
def dkwX1_slipIn_0 : List UInt8 := [27, 16, 6, 184, 0, 251, 87, 28, 16, 24, 184, 0, 251, 87, 29, 6, 184, 0, 251, 87, 21, 4]
abbrev dktX1_slipIn_0 : List UInt8 := dkwX1_slipIn_0 ++ dktX1_slipIn_1
theorem dksX1_slipIn_0 : cX1_slipIn.data.toList.drop 0 = dktX1_slipIn_0 := by decide +kernel
theorem dksX1_slipIn_1 : cX1_slipIn.data.toList.drop 22 = dktX1_slipIn_1 := dk_seg dksX1_slipIn_0 22 rfl rfl
theorem dksX1_slipIn_2 : cX1_slipIn.data.toList.drop 44 = dktX1_slipIn_2 := dk_seg dksX1_slipIn_1 22 rfl rfl
theorem dksX1_slipIn_3 : cX1_slipIn.data.toList.drop 66 = dktX1_slipIn_3 := dk_seg dksX1_slipIn_2 22 rfl rfl
theorem dksX1_slipIn_4 : cX1_slipIn.data.toList.drop 88 = dktX1_slipIn_4 := dk_seg dksX1_slipIn_3 22 rfl rfl
theorem dX1_slipIn_0 : decode cX1_slipIn 0 = .ok (.iload_n 1, 1) := dk_27 (dk_at dksX1_slipIn_0 0 rfl rfl)
theorem dX1_slipIn_1 : decode cX1_slipIn 1 = .ok (.bipush 6, 2) := dk_16 6 (dk_at dksX1_slipIn_0 1 rfl rfl)
theorem dX1_slipIn_3 : decode cX1_slipIn 3 = .ok (.invokestatic 251, 3) := dk_184 0 251 (dk_at dksX1_slipIn_0 3 rfl rfl)
theorem dX1_slipIn_6 : decode cX1_slipIn 6 = .ok (.pop, 1) := dk_87 (dk_at dksX1_slipIn_0 6 rfl rfl)
theorem dX1_slipIn_7 : decode cX1_slipIn 7 = .ok (.iload_n 2, 1) := dk_28 (dk_at dksX1_slipIn_0 7 rfl rfl)
theorem dX1_slipIn_8 : decode cX1_slipIn 8 = .ok (.bipush 24, 2) := dk_16 24 (dk_at dksX1_slipIn_0 8 rfl rfl)
theorem dX1_slipIn_10 : decode cX1_slipIn 10 = .ok (.invokestatic 251, 3) := dk_184 0 251 (dk_at dksX1_slipIn_0 10 rfl rfl)
theorem dX1_slipIn_13 : decode cX1_slipIn 13 = .ok (.pop, 1) := dk_87 (dk_at dksX1_slipIn_0 13 rfl rfl)
theorem dX1_slipIn_14 : decode cX1_slipIn 14 = .ok (.iload_n 3, 1) := dk_29 (dk_at dksX1_slipIn_0 14 rfl rfl)
theorem dX1_slipIn_15 : decode cX1_slipIn 15 = .ok (.iconst 3, 1) := dk_6 (dk_at dksX1_slipIn_0 15 rfl rfl)
theorem dX1_slipIn_16 : decode cX1_slipIn 16 = .ok (.invokestatic 251, 3) := dk_184 0 251 (dk_at dksX1_slipIn_0 16 rfl rfl)
theorem dX1_slipIn_19 : decode cX1_slipIn 19 = .ok (.pop, 1) := dk_87 (dk_at dksX1_slipIn_0 19 rfl rfl)
theorem dX1_slipIn_20 : decode cX1_slipIn 20 = .ok (.iload 4, 2) := dk_21 4 (dk_at dksX1_slipIn_0 20 rfl rfl)
theorem dX1_slipIn_22 : decode cX1_slipIn 22 = .ok (.ifCond .eq 26, 3) := dk_153 0 26 (dk_at dksX1_slipIn_1 0 rfl rfl)
theorem dX1_slipIn_25 : decode cX1_slipIn 25 = .ok (.iload 4, 2) := dk_21 4 (dk_at dksX1_slipIn_1 3 rfl rfl)
theorem dX1_slipIn_27 : decode cX1_slipIn 27 = .ok (.iconst 1, 1) := dk_4 (dk_at dksX1_slipIn_1 5 rfl rfl)
theorem dX1_slipIn_28 : decode cX1_slipIn 28 = .ok (.if_icmp .eq 20, 3) := dk_159 0 20 (dk_at dksX1_slipIn_1 6 rfl rfl)
theorem dX1_slipIn_31 : decode cX1_slipIn 31 = .ok (.iload 4, 2) := dk_21 4 (dk_at dksX1_slipIn_1 9 rfl rfl)
theorem dX1_slipIn_33 : decode cX1_slipIn 33 = .ok (.iconst 3, 1) := dk_6 (dk_at dksX1_slipIn_1 11 rfl rfl)
theorem dX1_slipIn_34 : decode cX1_slipIn 34 = .ok (.if_icmp .eq 14, 3) := dk_159 0 14 (dk_at dksX1_slipIn_1 12 rfl rfl)
theorem dX1_slipIn_37 : decode cX1_slipIn 37 = .ok (.new 241, 3) := dk_187 0 241 (dk_at dksX1_slipIn_1 15 rfl rfl)
theorem dX1_slipIn_40 : decode cX1_slipIn 40 = .ok (.dup, 1) := dk_89 (dk_at dksX1_slipIn_1 18 rfl rfl)
theorem dX1_slipIn_41 : decode cX1_slipIn 41 = .ok (.ldc_w 412, 3) := dk_19 1 156 (dk_at dksX1_slipIn_1 19 rfl rfl)
theorem dX1_slipIn_44 : decode cX1_slipIn 44 = .ok (.invokespecial 245, 3) := dk_183 0 245 (dk_at dksX1_slipIn_2 0 rfl rfl)
theorem dX1_slipIn_47 : decode cX1_slipIn 47 = .ok (.athrow, 1) := dk_191 (dk_at dksX1_slipIn_2 3 rfl rfl)
theorem dX1_slipIn_48 : decode cX1_slipIn 48 = .ok (.new 381, 3) := dk_187 1 125 (dk_at dksX1_slipIn_2 4 rfl rfl)
theorem dX1_slipIn_51 : decode cX1_slipIn 51 = .ok (.dup, 1) := dk_89 (dk_at dksX1_slipIn_2 7 rfl rfl)
theorem dX1_slipIn_52 : decode cX1_slipIn 52 = .ok (.aload_n 0, 1) := dk_42 (dk_at dksX1_slipIn_2 8 rfl rfl)
theorem dX1_slipIn_53 : decode cX1_slipIn 53 = .ok (.iload_n 1, 1) := dk_27 (dk_at dksX1_slipIn_2 9 rfl rfl)
theorem dX1_slipIn_54 : decode cX1_slipIn 54 = .ok (.invokespecial 383, 3) := dk_183 1 127 (dk_at dksX1_slipIn_2 10 rfl rfl)
theorem dX1_slipIn_57 : decode cX1_slipIn 57 = .ok (.astore 5, 2) := dk_58 5 (dk_at dksX1_slipIn_2 13 rfl rfl)
theorem dX1_slipIn_59 : decode cX1_slipIn 59 = .ok (.iload 4, 2) := dk_21 4 (dk_at dksX1_slipIn_2 15 rfl rfl)
theorem dX1_slipIn_61 : decode cX1_slipIn 61 = .ok (.ifCond .ne 11, 3) := dk_154 0 11 (dk_at dksX1_slipIn_2 17 rfl rfl)
theorem dX1_slipIn_64 : decode cX1_slipIn 64 = .ok (.aload 5, 2) := dk_25 5 (dk_at dksX1_slipIn_2 20 rfl rfl)
theorem dX1_slipIn_66 : decode cX1_slipIn 66 = .ok (.getfield 384, 3) := dk_180 1 128 (dk_at dksX1_slipIn_3 0 rfl rfl)
theorem dX1_slipIn_69 : decode cX1_slipIn 69 = .ok (.goto 22, 3) := dk_167 0 22 (dk_at dksX1_slipIn_3 3 rfl rfl)
theorem dX1_slipIn_72 : decode cX1_slipIn 72 = .ok (.iload 4, 2) := dk_21 4 (dk_at dksX1_slipIn_3 6 rfl rfl)
theorem dX1_slipIn_74 : decode cX1_slipIn 74 = .ok (.iconst 3, 1) := dk_6 (dk_at dksX1_slipIn_3 8 rfl rfl)
theorem dX1_slipIn_75 : decode cX1_slipIn 75 = .ok (.if_icmp .ne 11, 3) := dk_160 0 11 (dk_at dksX1_slipIn_3 9 rfl rfl)
theorem dX1_slipIn_78 : decode cX1_slipIn 78 = .ok (.aload 5, 2) := dk_25 5 (dk_at dksX1_slipIn_3 12 rfl rfl)
theorem dX1_slipIn_80 : decode cX1_slipIn 80 = .ok (.getfield 397, 3) := dk_180 1 141 (dk_at dksX1_slipIn_3 14 rfl rfl)
theorem dX1_slipIn_83 : decode cX1_slipIn 83 = .ok (.goto 8, 3) := dk_167 0 8 (dk_at dksX1_slipIn_3 17 rfl rfl)
theorem dX1_slipIn_86 : decode cX1_slipIn 86 = .ok (.aload 5, 2) := dk_25 5 (dk_at dksX1_slipIn_3 20 rfl rfl)
theorem dX1_slipIn_88 : decode cX1_slipIn 88 = .ok (.getfield 391, 3) := dk_180 1 135 (dk_at dksX1_slipIn_4 0 rfl rfl)
theorem dX1_slipIn_91 : decode cX1_slipIn 91 = .ok (.astore 6, 2) := dk_58 6 (dk_at dksX1_slipIn_4 3 rfl rfl)
theorem dX1_slipIn_93 : decode cX1_slipIn 93 = .ok (.aload 6, 2) := dk_25 6 (dk_at dksX1_slipIn_4 5 rfl rfl)
theorem dX1_slipIn_95 : decode cX1_slipIn 95 = .ok (.iload_n 2, 1) := dk_28 (dk_at dksX1_slipIn_4 7 rfl rfl)
theorem dX1_slipIn_96 : decode cX1_slipIn 96 = .ok (.iconst 3, 1) := dk_6 (dk_at dksX1_slipIn_4 8 rfl rfl)
theorem dX1_slipIn_97 : decode cX1_slipIn 97 = .ok (.imul, 1) := dk_104 (dk_at dksX1_slipIn_4 9 rfl rfl)
theorem dX1_slipIn_98 : decode cX1_slipIn 98 = .ok (.iload_n 3, 1) := dk_29 (dk_at dksX1_slipIn_4 10 rfl rfl)
theorem dX1_slipIn_99 : decode cX1_slipIn 99 = .ok (.iadd, 1) := dk_96 (dk_at dksX1_slipIn_4 11 rfl rfl)
theorem dX1_slipIn_100 : decode cX1_slipIn 100 = .ok (.laload, 1) := dk_47 (dk_at dksX1_slipIn_4 12 rfl rfl)
theorem dX1_slipIn_101 : decode cX1_slipIn 101 = .ok (.lreturn, 1) := dk_173 (dk_at dksX1_slipIn_4 13 rfl rfl)
def dkwX1_elementOf_1 : List UInt8 := [184, 0, 251, 87, 187, 1, 125, 89, 42, 28, 183, 1, 127, 180, 1, 158, 29, 16, 6, 104, 27, 96, 47, 173]
abbrev dktX1_elementOf_1 : List UInt8 := dkwX1_elementOf_1 ++ []
def dkwX1_elementOf_0 : List UInt8 := [27, 42, 180, 0, 111, 185, 0, 62, 1, 0, 184, 0, 251, 87, 28, 16, 6, 184, 0, 251, 87, 29, 16, 24]
abbrev dktX1_elementOf_0 : List UInt8 := dkwX1_elementOf_0 ++ dktX1_elementOf_1
theorem dksX1_elementOf_0 : cX1_elementOf.data.toList.drop 0 = dktX1_elementOf_0 := by decide +kernel
theorem dksX1_elementOf_1 : cX1_elementOf.data.toList.drop 24 = dktX1_elementOf_1 := dk_seg dksX1_elementOf_0 24 rfl rfl
theorem dX1_elementOf_0 : decode cX1_elementOf 0 = .ok (.iload_n 1, 1) := dk_27 (dk_at dksX1_elementOf_0 0 rfl rfl)
theorem dX1_elementOf_1 : decode cX1_elementOf 1 = .ok (.aload_n 0, 1) := dk_42 (dk_at dksX1_elementOf_0 1 rfl rfl)
theorem dX1_elementOf_2 : decode cX1_elementOf 2 = .ok (.getfield 111, 3) := dk_180 0 111 (dk_at dksX1_elementOf_0 2 rfl rfl)
theorem dX1_elementOf_5 : decode cX1_elementOf 5 = .ok (.invokeinterface 62 1, 5) := by decide +kernel
theorem dX1_elementOf_10 : decode cX1_elementOf 10 = .ok (.invokestatic 251, 3) := dk_184 0 251 (dk_at dksX1_elementOf_0 10 rfl rfl)
theorem dX1_elementOf_13 : decode cX1_elementOf 13 = .ok (.pop, 1) := dk_87 (dk_at dksX1_elementOf_0 13 rfl rfl)
theorem dX1_elementOf_14 : decode cX1_elementOf 14 = .ok (.iload_n 2, 1) := dk_28 (dk_at dksX1_elementOf_0 14 rfl rfl)
theorem dX1_elementOf_15 : decode cX1_elementOf 15 = .ok (.bipush 6, 2) := dk_16 6 (dk_at dksX1_elementOf_0 15 rfl rfl)
theorem dX1_elementOf_17 : decode cX1_elementOf 17 = .ok (.invokestatic 251, 3) := dk_184 0 251 (dk_at dksX1_elementOf_0 17 rfl rfl)
theorem dX1_elementOf_20 : decode cX1_elementOf 20 = .ok (.pop, 1) := dk_87 (dk_at dksX1_elementOf_0 20 rfl rfl)
theorem dX1_elementOf_21 : decode cX1_elementOf 21 = .ok (.iload_n 3, 1) := dk_29 (dk_at dksX1_elementOf_0 21 rfl rfl)
theorem dX1_elementOf_22 : decode cX1_elementOf 22 = .ok (.bipush 24, 2) := dk_16 24 (dk_at dksX1_elementOf_0 22 rfl rfl)
theorem dX1_elementOf_24 : decode cX1_elementOf 24 = .ok (.invokestatic 251, 3) := dk_184 0 251 (dk_at dksX1_elementOf_1 0 rfl rfl)
theorem dX1_elementOf_27 : decode cX1_elementOf 27 = .ok (.pop, 1) := dk_87 (dk_at dksX1_elementOf_1 3 rfl rfl)
theorem dX1_elementOf_28 : decode cX1_elementOf 28 = .ok (.new 381, 3) := dk_187 1 125 (dk_at dksX1_elementOf_1 4 rfl rfl)
theorem dX1_elementOf_31 : decode cX1_elementOf 31 = .ok (.dup, 1) := dk_89 (dk_at dksX1_elementOf_1 7 rfl rfl)
theorem dX1_elementOf_32 : decode cX1_elementOf 32 = .ok (.aload_n 0, 1) := dk_42 (dk_at dksX1_elementOf_1 8 rfl rfl)
theorem dX1_elementOf_33 : decode cX1_elementOf 33 = .ok (.iload_n 2, 1) := dk_28 (dk_at dksX1_elementOf_1 9 rfl rfl)
theorem dX1_elementOf_34 : decode cX1_elementOf 34 = .ok (.invokespecial 383, 3) := dk_183 1 127 (dk_at dksX1_elementOf_1 10 rfl rfl)
theorem dX1_elementOf_37 : decode cX1_elementOf 37 = .ok (.getfield 414, 3) := dk_180 1 158 (dk_at dksX1_elementOf_1 13 rfl rfl)
theorem dX1_elementOf_40 : decode cX1_elementOf 40 = .ok (.iload_n 3, 1) := dk_29 (dk_at dksX1_elementOf_1 16 rfl rfl)
theorem dX1_elementOf_41 : decode cX1_elementOf 41 = .ok (.bipush 6, 2) := dk_16 6 (dk_at dksX1_elementOf_1 17 rfl rfl)
theorem dX1_elementOf_43 : decode cX1_elementOf 43 = .ok (.imul, 1) := dk_104 (dk_at dksX1_elementOf_1 19 rfl rfl)
theorem dX1_elementOf_44 : decode cX1_elementOf 44 = .ok (.iload_n 1, 1) := dk_27 (dk_at dksX1_elementOf_1 20 rfl rfl)
theorem dX1_elementOf_45 : decode cX1_elementOf 45 = .ok (.iadd, 1) := dk_96 (dk_at dksX1_elementOf_1 21 rfl rfl)
theorem dX1_elementOf_46 : decode cX1_elementOf 46 = .ok (.laload, 1) := dk_47 (dk_at dksX1_elementOf_1 22 rfl rfl)
theorem dX1_elementOf_47 : decode cX1_elementOf 47 = .ok (.lreturn, 1) := dk_173 (dk_at dksX1_elementOf_1 23 rfl rfl)
def dkwX1_pensionOf_4 : List UInt8 := [21, 8, 16, 6, 161, 0, 8, 22, 6, 167, 0, 4, 9, 97, 173]
abbrev dktX1_pensionOf_4 : List UInt8 := dkwX1_pensionOf_4 ++ []
def dkwX1_pensionOf_3 : List UInt8 := [21, 9, 47, 9, 148, 158, 0, 7, 4, 167, 0, 4, 3, 96, 54, 8, 132, 9, 1, 167, 255, 201, 22, 4]
abbrev dktX1_pensionOf_3 : List UInt8 := dkwX1_pensionOf_3 ++ dktX1_pensionOf_4
def dkwX1_pensionOf_2 : List UInt8 := [21, 9, 47, 97, 55, 4, 22, 6, 45, 180, 1, 153, 21, 9, 47, 97, 55, 6, 21, 8, 45, 180, 1, 138]
abbrev dktX1_pensionOf_2 : List UInt8 := dkwX1_pensionOf_2 ++ dktX1_pensionOf_3
def dkwX1_pensionOf_1 : List UInt8 := [9, 55, 4, 9, 55, 6, 3, 54, 8, 3, 54, 9, 21, 9, 28, 163, 0, 55, 22, 4, 45, 180, 1, 138]
abbrev dktX1_pensionOf_1 : List UInt8 := dkwX1_pensionOf_1 ++ dktX1_pensionOf_2
def dkwX1_pensionOf_0 : List UInt8 := [27, 16, 6, 184, 0, 251, 87, 28, 16, 24, 184, 0, 251, 87, 187, 1, 125, 89, 42, 27, 183, 1, 127, 78]
abbrev dktX1_pensionOf_0 : List UInt8 := dkwX1_pensionOf_0 ++ dktX1_pensionOf_1
theorem dksX1_pensionOf_0 : cX1_pensionOf.data.toList.drop 0 = dktX1_pensionOf_0 := by decide +kernel
theorem dksX1_pensionOf_1 : cX1_pensionOf.data.toList.drop 24 = dktX1_pensionOf_1 := dk_seg dksX1_pensionOf_0 24 rfl rfl
theorem dksX1_pensionOf_2 : cX1_pensionOf.data.toList.drop 48 = dktX1_pensionOf_2 := dk_seg dksX1_pensionOf_1 24 rfl rfl
theorem dksX1_pensionOf_3 : cX1_pensionOf.data.toList.drop 72 = dktX1_pensionOf_3 := dk_seg dksX1_pensionOf_2 24 rfl rfl
theorem dksX1_pensionOf_4 : cX1_pensionOf.data.toList.drop 96 = dktX1_pensionOf_4 := dk_seg dksX1_pensionOf_3 24 rfl rfl
theorem dX1_pensionOf_0 : decode cX1_pensionOf 0 = .ok (.iload_n 1, 1) := dk_27 (dk_at dksX1_pensionOf_0 0 rfl rfl)
theorem dX1_pensionOf_1 : decode cX1_pensionOf 1 = .ok (.bipush 6, 2) := dk_16 6 (dk_at dksX1_pensionOf_0 1 rfl rfl)
theorem dX1_pensionOf_3 : decode cX1_pensionOf 3 = .ok (.invokestatic 251, 3) := dk_184 0 251 (dk_at dksX1_pensionOf_0 3 rfl rfl)
theorem dX1_pensionOf_6 : decode cX1_pensionOf 6 = .ok (.pop, 1) := dk_87 (dk_at dksX1_pensionOf_0 6 rfl rfl)
theorem dX1_pensionOf_7 : decode cX1_pensionOf 7 = .ok (.iload_n 2, 1) := dk_28 (dk_at dksX1_pensionOf_0 7 rfl rfl)
theorem dX1_pensionOf_8 : decode cX1_pensionOf 8 = .ok (.bipush 24, 2) := dk_16 24 (dk_at dksX1_pensionOf_0 8 rfl rfl)
theorem dX1_pensionOf_10 : decode cX1_pensionOf 10 = .ok (.invokestatic 251, 3) := dk_184 0 251 (dk_at dksX1_pensionOf_0 10 rfl rfl)
theorem dX1_pensionOf_13 : decode cX1_pensionOf 13 = .ok (.pop, 1) := dk_87 (dk_at dksX1_pensionOf_0 13 rfl rfl)
theorem dX1_pensionOf_14 : decode cX1_pensionOf 14 = .ok (.new 381, 3) := dk_187 1 125 (dk_at dksX1_pensionOf_0 14 rfl rfl)
theorem dX1_pensionOf_17 : decode cX1_pensionOf 17 = .ok (.dup, 1) := dk_89 (dk_at dksX1_pensionOf_0 17 rfl rfl)
theorem dX1_pensionOf_18 : decode cX1_pensionOf 18 = .ok (.aload_n 0, 1) := dk_42 (dk_at dksX1_pensionOf_0 18 rfl rfl)
theorem dX1_pensionOf_19 : decode cX1_pensionOf 19 = .ok (.iload_n 1, 1) := dk_27 (dk_at dksX1_pensionOf_0 19 rfl rfl)
theorem dX1_pensionOf_20 : decode cX1_pensionOf 20 = .ok (.invokespecial 383, 3) := dk_183 1 127 (dk_at dksX1_pensionOf_0 20 rfl rfl)
theorem dX1_pensionOf_23 : decode cX1_pensionOf 23 = .ok (.astore_n 3, 1) := dk_78 (dk_at dksX1_pensionOf_0 23 rfl rfl)
theorem dX1_pensionOf_24 : decode cX1_pensionOf 24 = .ok (.lconst 0, 1) := dk_9 (dk_at dksX1_pensionOf_1 0 rfl rfl)
theorem dX1_pensionOf_25 : decode cX1_pensionOf 25 = .ok (.lstore 4, 2) := dk_55 4 (dk_at dksX1_pensionOf_1 1 rfl rfl)
theorem dX1_pensionOf_27 : decode cX1_pensionOf 27 = .ok (.lconst 0, 1) := dk_9 (dk_at dksX1_pensionOf_1 3 rfl rfl)
theorem dX1_pensionOf_28 : decode cX1_pensionOf 28 = .ok (.lstore 6, 2) := dk_55 6 (dk_at dksX1_pensionOf_1 4 rfl rfl)
theorem dX1_pensionOf_30 : decode cX1_pensionOf 30 = .ok (.iconst 0, 1) := dk_3 (dk_at dksX1_pensionOf_1 6 rfl rfl)
theorem dX1_pensionOf_31 : decode cX1_pensionOf 31 = .ok (.istore 8, 2) := dk_54 8 (dk_at dksX1_pensionOf_1 7 rfl rfl)
theorem dX1_pensionOf_33 : decode cX1_pensionOf 33 = .ok (.iconst 0, 1) := dk_3 (dk_at dksX1_pensionOf_1 9 rfl rfl)
theorem dX1_pensionOf_34 : decode cX1_pensionOf 34 = .ok (.istore 9, 2) := dk_54 9 (dk_at dksX1_pensionOf_1 10 rfl rfl)
theorem dX1_pensionOf_36 : decode cX1_pensionOf 36 = .ok (.iload 9, 2) := dk_21 9 (dk_at dksX1_pensionOf_1 12 rfl rfl)
theorem dX1_pensionOf_38 : decode cX1_pensionOf 38 = .ok (.iload_n 2, 1) := dk_28 (dk_at dksX1_pensionOf_1 14 rfl rfl)
theorem dX1_pensionOf_39 : decode cX1_pensionOf 39 = .ok (.if_icmp .gt 55, 3) := dk_163 0 55 (dk_at dksX1_pensionOf_1 15 rfl rfl)
theorem dX1_pensionOf_42 : decode cX1_pensionOf 42 = .ok (.lload 4, 2) := dk_22 4 (dk_at dksX1_pensionOf_1 18 rfl rfl)
theorem dX1_pensionOf_44 : decode cX1_pensionOf 44 = .ok (.aload_n 3, 1) := dk_45 (dk_at dksX1_pensionOf_1 20 rfl rfl)
theorem dX1_pensionOf_45 : decode cX1_pensionOf 45 = .ok (.getfield 394, 3) := dk_180 1 138 (dk_at dksX1_pensionOf_1 21 rfl rfl)
theorem dX1_pensionOf_48 : decode cX1_pensionOf 48 = .ok (.iload 9, 2) := dk_21 9 (dk_at dksX1_pensionOf_2 0 rfl rfl)
theorem dX1_pensionOf_50 : decode cX1_pensionOf 50 = .ok (.laload, 1) := dk_47 (dk_at dksX1_pensionOf_2 2 rfl rfl)
theorem dX1_pensionOf_51 : decode cX1_pensionOf 51 = .ok (.ladd, 1) := dk_97 (dk_at dksX1_pensionOf_2 3 rfl rfl)
theorem dX1_pensionOf_52 : decode cX1_pensionOf 52 = .ok (.lstore 4, 2) := dk_55 4 (dk_at dksX1_pensionOf_2 4 rfl rfl)
theorem dX1_pensionOf_54 : decode cX1_pensionOf 54 = .ok (.lload 6, 2) := dk_22 6 (dk_at dksX1_pensionOf_2 6 rfl rfl)
theorem dX1_pensionOf_56 : decode cX1_pensionOf 56 = .ok (.aload_n 3, 1) := dk_45 (dk_at dksX1_pensionOf_2 8 rfl rfl)
theorem dX1_pensionOf_57 : decode cX1_pensionOf 57 = .ok (.getfield 409, 3) := dk_180 1 153 (dk_at dksX1_pensionOf_2 9 rfl rfl)
theorem dX1_pensionOf_60 : decode cX1_pensionOf 60 = .ok (.iload 9, 2) := dk_21 9 (dk_at dksX1_pensionOf_2 12 rfl rfl)
theorem dX1_pensionOf_62 : decode cX1_pensionOf 62 = .ok (.laload, 1) := dk_47 (dk_at dksX1_pensionOf_2 14 rfl rfl)
theorem dX1_pensionOf_63 : decode cX1_pensionOf 63 = .ok (.ladd, 1) := dk_97 (dk_at dksX1_pensionOf_2 15 rfl rfl)
theorem dX1_pensionOf_64 : decode cX1_pensionOf 64 = .ok (.lstore 6, 2) := dk_55 6 (dk_at dksX1_pensionOf_2 16 rfl rfl)
theorem dX1_pensionOf_66 : decode cX1_pensionOf 66 = .ok (.iload 8, 2) := dk_21 8 (dk_at dksX1_pensionOf_2 18 rfl rfl)
theorem dX1_pensionOf_68 : decode cX1_pensionOf 68 = .ok (.aload_n 3, 1) := dk_45 (dk_at dksX1_pensionOf_2 20 rfl rfl)
theorem dX1_pensionOf_69 : decode cX1_pensionOf 69 = .ok (.getfield 394, 3) := dk_180 1 138 (dk_at dksX1_pensionOf_2 21 rfl rfl)
theorem dX1_pensionOf_72 : decode cX1_pensionOf 72 = .ok (.iload 9, 2) := dk_21 9 (dk_at dksX1_pensionOf_3 0 rfl rfl)
theorem dX1_pensionOf_74 : decode cX1_pensionOf 74 = .ok (.laload, 1) := dk_47 (dk_at dksX1_pensionOf_3 2 rfl rfl)
theorem dX1_pensionOf_75 : decode cX1_pensionOf 75 = .ok (.lconst 0, 1) := dk_9 (dk_at dksX1_pensionOf_3 3 rfl rfl)
theorem dX1_pensionOf_76 : decode cX1_pensionOf 76 = .ok (.lcmp, 1) := dk_148 (dk_at dksX1_pensionOf_3 4 rfl rfl)
theorem dX1_pensionOf_77 : decode cX1_pensionOf 77 = .ok (.ifCond .le 7, 3) := dk_158 0 7 (dk_at dksX1_pensionOf_3 5 rfl rfl)
theorem dX1_pensionOf_80 : decode cX1_pensionOf 80 = .ok (.iconst 1, 1) := dk_4 (dk_at dksX1_pensionOf_3 8 rfl rfl)
theorem dX1_pensionOf_81 : decode cX1_pensionOf 81 = .ok (.goto 4, 3) := dk_167 0 4 (dk_at dksX1_pensionOf_3 9 rfl rfl)
theorem dX1_pensionOf_84 : decode cX1_pensionOf 84 = .ok (.iconst 0, 1) := dk_3 (dk_at dksX1_pensionOf_3 12 rfl rfl)
theorem dX1_pensionOf_85 : decode cX1_pensionOf 85 = .ok (.iadd, 1) := dk_96 (dk_at dksX1_pensionOf_3 13 rfl rfl)
theorem dX1_pensionOf_86 : decode cX1_pensionOf 86 = .ok (.istore 8, 2) := dk_54 8 (dk_at dksX1_pensionOf_3 14 rfl rfl)
theorem dX1_pensionOf_88 : decode cX1_pensionOf 88 = .ok (.iinc 9 1, 3) := dk_132 9 1 (dk_at dksX1_pensionOf_3 16 rfl rfl)
theorem dX1_pensionOf_91 : decode cX1_pensionOf 91 = .ok (.goto (-55), 3) := dk_167 255 201 (dk_at dksX1_pensionOf_3 19 rfl rfl)
theorem dX1_pensionOf_94 : decode cX1_pensionOf 94 = .ok (.lload 4, 2) := dk_22 4 (dk_at dksX1_pensionOf_3 22 rfl rfl)
theorem dX1_pensionOf_96 : decode cX1_pensionOf 96 = .ok (.iload 8, 2) := dk_21 8 (dk_at dksX1_pensionOf_4 0 rfl rfl)
theorem dX1_pensionOf_98 : decode cX1_pensionOf 98 = .ok (.bipush 6, 2) := dk_16 6 (dk_at dksX1_pensionOf_4 2 rfl rfl)
theorem dX1_pensionOf_100 : decode cX1_pensionOf 100 = .ok (.if_icmp .lt 8, 3) := dk_161 0 8 (dk_at dksX1_pensionOf_4 4 rfl rfl)
theorem dX1_pensionOf_103 : decode cX1_pensionOf 103 = .ok (.lload 6, 2) := dk_22 6 (dk_at dksX1_pensionOf_4 7 rfl rfl)
theorem dX1_pensionOf_105 : decode cX1_pensionOf 105 = .ok (.goto 4, 3) := dk_167 0 4 (dk_at dksX1_pensionOf_4 9 rfl rfl)
theorem dX1_pensionOf_108 : decode cX1_pensionOf 108 = .ok (.lconst 0, 1) := dk_9 (dk_at dksX1_pensionOf_4 12 rfl rfl)
theorem dX1_pensionOf_109 : decode cX1_pensionOf 109 = .ok (.ladd, 1) := dk_97 (dk_at dksX1_pensionOf_4 13 rfl rfl)
theorem dX1_pensionOf_110 : decode cX1_pensionOf 110 = .ok (.lreturn, 1) := dk_173 (dk_at dksX1_pensionOf_4 14 rfl rfl)
def dkwX1_grossFor_6 : List UInt8 := [21, 6, 79, 25, 5, 180, 1, 144, 28, 47, 22, 7, 148, 156, 0, 7, 2, 167, 0, 5, 21, 9, 172]
abbrev dktX1_grossFor_6 : List UInt8 := dkwX1_grossFor_6 ++ []
def dkwX1_grossFor_5 : List UInt8 := [25, 5, 28, 4, 96, 182, 1, 161, 132, 10, 1, 167, 255, 201, 42, 180, 0, 116, 27, 50, 28, 50, 29]
abbrev dktX1_grossFor_5 : List UInt8 := dkwX1_grossFor_5 ++ dktX1_grossFor_6
def dkwX1_grossFor_4 : List UInt8 := [21, 10, 17, 39, 16, 104, 54, 9, 42, 180, 0, 116, 27, 50, 28, 50, 29, 21, 6, 21, 9, 96, 79]
abbrev dktX1_grossFor_4 : List UInt8 := dkwX1_grossFor_4 ++ dktX1_grossFor_5
def dkwX1_grossFor_3 : List UInt8 := [54, 10, 21, 10, 17, 0, 200, 163, 0, 53, 25, 5, 180, 1, 144, 28, 47, 22, 7, 148, 156, 0, 40]
abbrev dktX1_grossFor_3 : List UInt8 := dkwX1_grossFor_3 ++ dktX1_grossFor_4
def dkwX1_grossFor_2 : List UInt8 := [28, 50, 29, 46, 54, 6, 25, 5, 180, 1, 144, 28, 47, 21, 4, 133, 97, 55, 7, 3, 54, 9, 4]
abbrev dktX1_grossFor_2 : List UInt8 := dkwX1_grossFor_2 ++ dktX1_grossFor_3
def dkwX1_grossFor_1 : List UInt8 := [19, 1, 11, 184, 1, 7, 87, 187, 1, 125, 89, 42, 27, 183, 1, 127, 58, 5, 42, 180, 0, 116, 27, 50]
abbrev dktX1_grossFor_1 : List UInt8 := dkwX1_grossFor_1 ++ dktX1_grossFor_2
def dkwX1_grossFor_0 : List UInt8 := [27, 16, 6, 184, 0, 251, 87, 28, 16, 24, 184, 0, 251, 87, 29, 6, 184, 0, 251, 87, 21, 4, 4]
abbrev dktX1_grossFor_0 : List UInt8 := dkwX1_grossFor_0 ++ dktX1_grossFor_1
theorem dksX1_grossFor_0 : cX1_grossFor.data.toList.drop 0 = dktX1_grossFor_0 := by decide +kernel
theorem dksX1_grossFor_1 : cX1_grossFor.data.toList.drop 23 = dktX1_grossFor_1 := dk_seg dksX1_grossFor_0 23 rfl rfl
theorem dksX1_grossFor_2 : cX1_grossFor.data.toList.drop 47 = dktX1_grossFor_2 := dk_seg dksX1_grossFor_1 24 rfl rfl
theorem dksX1_grossFor_3 : cX1_grossFor.data.toList.drop 70 = dktX1_grossFor_3 := dk_seg dksX1_grossFor_2 23 rfl rfl
theorem dksX1_grossFor_4 : cX1_grossFor.data.toList.drop 93 = dktX1_grossFor_4 := dk_seg dksX1_grossFor_3 23 rfl rfl
theorem dksX1_grossFor_5 : cX1_grossFor.data.toList.drop 116 = dktX1_grossFor_5 := dk_seg dksX1_grossFor_4 23 rfl rfl
theorem dksX1_grossFor_6 : cX1_grossFor.data.toList.drop 139 = dktX1_grossFor_6 := dk_seg dksX1_grossFor_5 23 rfl rfl
theorem dX1_grossFor_0 : decode cX1_grossFor 0 = .ok (.iload_n 1, 1) := dk_27 (dk_at dksX1_grossFor_0 0 rfl rfl)
theorem dX1_grossFor_1 : decode cX1_grossFor 1 = .ok (.bipush 6, 2) := dk_16 6 (dk_at dksX1_grossFor_0 1 rfl rfl)
theorem dX1_grossFor_3 : decode cX1_grossFor 3 = .ok (.invokestatic 251, 3) := dk_184 0 251 (dk_at dksX1_grossFor_0 3 rfl rfl)
theorem dX1_grossFor_6 : decode cX1_grossFor 6 = .ok (.pop, 1) := dk_87 (dk_at dksX1_grossFor_0 6 rfl rfl)
theorem dX1_grossFor_7 : decode cX1_grossFor 7 = .ok (.iload_n 2, 1) := dk_28 (dk_at dksX1_grossFor_0 7 rfl rfl)
theorem dX1_grossFor_8 : decode cX1_grossFor 8 = .ok (.bipush 24, 2) := dk_16 24 (dk_at dksX1_grossFor_0 8 rfl rfl)
theorem dX1_grossFor_10 : decode cX1_grossFor 10 = .ok (.invokestatic 251, 3) := dk_184 0 251 (dk_at dksX1_grossFor_0 10 rfl rfl)
theorem dX1_grossFor_13 : decode cX1_grossFor 13 = .ok (.pop, 1) := dk_87 (dk_at dksX1_grossFor_0 13 rfl rfl)
theorem dX1_grossFor_14 : decode cX1_grossFor 14 = .ok (.iload_n 3, 1) := dk_29 (dk_at dksX1_grossFor_0 14 rfl rfl)
theorem dX1_grossFor_15 : decode cX1_grossFor 15 = .ok (.iconst 3, 1) := dk_6 (dk_at dksX1_grossFor_0 15 rfl rfl)
theorem dX1_grossFor_16 : decode cX1_grossFor 16 = .ok (.invokestatic 251, 3) := dk_184 0 251 (dk_at dksX1_grossFor_0 16 rfl rfl)
theorem dX1_grossFor_19 : decode cX1_grossFor 19 = .ok (.pop, 1) := dk_87 (dk_at dksX1_grossFor_0 19 rfl rfl)
theorem dX1_grossFor_20 : decode cX1_grossFor 20 = .ok (.iload 4, 2) := dk_21 4 (dk_at dksX1_grossFor_0 20 rfl rfl)
theorem dX1_grossFor_22 : decode cX1_grossFor 22 = .ok (.iconst 1, 1) := dk_4 (dk_at dksX1_grossFor_0 22 rfl rfl)
theorem dX1_grossFor_23 : decode cX1_grossFor 23 = .ok (.ldc_w 267, 3) := dk_19 1 11 (dk_at dksX1_grossFor_1 0 rfl rfl)
theorem dX1_grossFor_26 : decode cX1_grossFor 26 = .ok (.invokestatic 263, 3) := dk_184 1 7 (dk_at dksX1_grossFor_1 3 rfl rfl)
theorem dX1_grossFor_29 : decode cX1_grossFor 29 = .ok (.pop, 1) := dk_87 (dk_at dksX1_grossFor_1 6 rfl rfl)
theorem dX1_grossFor_30 : decode cX1_grossFor 30 = .ok (.new 381, 3) := dk_187 1 125 (dk_at dksX1_grossFor_1 7 rfl rfl)
theorem dX1_grossFor_33 : decode cX1_grossFor 33 = .ok (.dup, 1) := dk_89 (dk_at dksX1_grossFor_1 10 rfl rfl)
theorem dX1_grossFor_34 : decode cX1_grossFor 34 = .ok (.aload_n 0, 1) := dk_42 (dk_at dksX1_grossFor_1 11 rfl rfl)
theorem dX1_grossFor_35 : decode cX1_grossFor 35 = .ok (.iload_n 1, 1) := dk_27 (dk_at dksX1_grossFor_1 12 rfl rfl)
theorem dX1_grossFor_36 : decode cX1_grossFor 36 = .ok (.invokespecial 383, 3) := dk_183 1 127 (dk_at dksX1_grossFor_1 13 rfl rfl)
theorem dX1_grossFor_39 : decode cX1_grossFor 39 = .ok (.astore 5, 2) := dk_58 5 (dk_at dksX1_grossFor_1 16 rfl rfl)
theorem dX1_grossFor_41 : decode cX1_grossFor 41 = .ok (.aload_n 0, 1) := dk_42 (dk_at dksX1_grossFor_1 18 rfl rfl)
theorem dX1_grossFor_42 : decode cX1_grossFor 42 = .ok (.getfield 116, 3) := dk_180 0 116 (dk_at dksX1_grossFor_1 19 rfl rfl)
theorem dX1_grossFor_45 : decode cX1_grossFor 45 = .ok (.iload_n 1, 1) := dk_27 (dk_at dksX1_grossFor_1 22 rfl rfl)
theorem dX1_grossFor_46 : decode cX1_grossFor 46 = .ok (.aaload, 1) := dk_50 (dk_at dksX1_grossFor_1 23 rfl rfl)
theorem dX1_grossFor_47 : decode cX1_grossFor 47 = .ok (.iload_n 2, 1) := dk_28 (dk_at dksX1_grossFor_2 0 rfl rfl)
theorem dX1_grossFor_48 : decode cX1_grossFor 48 = .ok (.aaload, 1) := dk_50 (dk_at dksX1_grossFor_2 1 rfl rfl)
theorem dX1_grossFor_49 : decode cX1_grossFor 49 = .ok (.iload_n 3, 1) := dk_29 (dk_at dksX1_grossFor_2 2 rfl rfl)
theorem dX1_grossFor_50 : decode cX1_grossFor 50 = .ok (.iaload, 1) := dk_46 (dk_at dksX1_grossFor_2 3 rfl rfl)
theorem dX1_grossFor_51 : decode cX1_grossFor 51 = .ok (.istore 6, 2) := dk_54 6 (dk_at dksX1_grossFor_2 4 rfl rfl)
theorem dX1_grossFor_53 : decode cX1_grossFor 53 = .ok (.aload 5, 2) := dk_25 5 (dk_at dksX1_grossFor_2 6 rfl rfl)
theorem dX1_grossFor_55 : decode cX1_grossFor 55 = .ok (.getfield 400, 3) := dk_180 1 144 (dk_at dksX1_grossFor_2 8 rfl rfl)
theorem dX1_grossFor_58 : decode cX1_grossFor 58 = .ok (.iload_n 2, 1) := dk_28 (dk_at dksX1_grossFor_2 11 rfl rfl)
theorem dX1_grossFor_59 : decode cX1_grossFor 59 = .ok (.laload, 1) := dk_47 (dk_at dksX1_grossFor_2 12 rfl rfl)
theorem dX1_grossFor_60 : decode cX1_grossFor 60 = .ok (.iload 4, 2) := dk_21 4 (dk_at dksX1_grossFor_2 13 rfl rfl)
theorem dX1_grossFor_62 : decode cX1_grossFor 62 = .ok (.i2l, 1) := dk_133 (dk_at dksX1_grossFor_2 15 rfl rfl)
theorem dX1_grossFor_63 : decode cX1_grossFor 63 = .ok (.ladd, 1) := dk_97 (dk_at dksX1_grossFor_2 16 rfl rfl)
theorem dX1_grossFor_64 : decode cX1_grossFor 64 = .ok (.lstore 7, 2) := dk_55 7 (dk_at dksX1_grossFor_2 17 rfl rfl)
theorem dX1_grossFor_66 : decode cX1_grossFor 66 = .ok (.iconst 0, 1) := dk_3 (dk_at dksX1_grossFor_2 19 rfl rfl)
theorem dX1_grossFor_67 : decode cX1_grossFor 67 = .ok (.istore 9, 2) := dk_54 9 (dk_at dksX1_grossFor_2 20 rfl rfl)
theorem dX1_grossFor_69 : decode cX1_grossFor 69 = .ok (.iconst 1, 1) := dk_4 (dk_at dksX1_grossFor_2 22 rfl rfl)
theorem dX1_grossFor_70 : decode cX1_grossFor 70 = .ok (.istore 10, 2) := dk_54 10 (dk_at dksX1_grossFor_3 0 rfl rfl)
theorem dX1_grossFor_72 : decode cX1_grossFor 72 = .ok (.iload 10, 2) := dk_21 10 (dk_at dksX1_grossFor_3 2 rfl rfl)
theorem dX1_grossFor_74 : decode cX1_grossFor 74 = .ok (.sipush 200, 3) := dk_17 0 200 (dk_at dksX1_grossFor_3 4 rfl rfl)
theorem dX1_grossFor_77 : decode cX1_grossFor 77 = .ok (.if_icmp .gt 53, 3) := dk_163 0 53 (dk_at dksX1_grossFor_3 7 rfl rfl)
theorem dX1_grossFor_80 : decode cX1_grossFor 80 = .ok (.aload 5, 2) := dk_25 5 (dk_at dksX1_grossFor_3 10 rfl rfl)
theorem dX1_grossFor_82 : decode cX1_grossFor 82 = .ok (.getfield 400, 3) := dk_180 1 144 (dk_at dksX1_grossFor_3 12 rfl rfl)
theorem dX1_grossFor_85 : decode cX1_grossFor 85 = .ok (.iload_n 2, 1) := dk_28 (dk_at dksX1_grossFor_3 15 rfl rfl)
theorem dX1_grossFor_86 : decode cX1_grossFor 86 = .ok (.laload, 1) := dk_47 (dk_at dksX1_grossFor_3 16 rfl rfl)
theorem dX1_grossFor_87 : decode cX1_grossFor 87 = .ok (.lload 7, 2) := dk_22 7 (dk_at dksX1_grossFor_3 17 rfl rfl)
theorem dX1_grossFor_89 : decode cX1_grossFor 89 = .ok (.lcmp, 1) := dk_148 (dk_at dksX1_grossFor_3 19 rfl rfl)
theorem dX1_grossFor_90 : decode cX1_grossFor 90 = .ok (.ifCond .ge 40, 3) := dk_156 0 40 (dk_at dksX1_grossFor_3 20 rfl rfl)
theorem dX1_grossFor_93 : decode cX1_grossFor 93 = .ok (.iload 10, 2) := dk_21 10 (dk_at dksX1_grossFor_4 0 rfl rfl)
theorem dX1_grossFor_95 : decode cX1_grossFor 95 = .ok (.sipush 10000, 3) := dk_17 39 16 (dk_at dksX1_grossFor_4 2 rfl rfl)
theorem dX1_grossFor_98 : decode cX1_grossFor 98 = .ok (.imul, 1) := dk_104 (dk_at dksX1_grossFor_4 5 rfl rfl)
theorem dX1_grossFor_99 : decode cX1_grossFor 99 = .ok (.istore 9, 2) := dk_54 9 (dk_at dksX1_grossFor_4 6 rfl rfl)
theorem dX1_grossFor_101 : decode cX1_grossFor 101 = .ok (.aload_n 0, 1) := dk_42 (dk_at dksX1_grossFor_4 8 rfl rfl)
theorem dX1_grossFor_102 : decode cX1_grossFor 102 = .ok (.getfield 116, 3) := dk_180 0 116 (dk_at dksX1_grossFor_4 9 rfl rfl)
theorem dX1_grossFor_105 : decode cX1_grossFor 105 = .ok (.iload_n 1, 1) := dk_27 (dk_at dksX1_grossFor_4 12 rfl rfl)
theorem dX1_grossFor_106 : decode cX1_grossFor 106 = .ok (.aaload, 1) := dk_50 (dk_at dksX1_grossFor_4 13 rfl rfl)
theorem dX1_grossFor_107 : decode cX1_grossFor 107 = .ok (.iload_n 2, 1) := dk_28 (dk_at dksX1_grossFor_4 14 rfl rfl)
theorem dX1_grossFor_108 : decode cX1_grossFor 108 = .ok (.aaload, 1) := dk_50 (dk_at dksX1_grossFor_4 15 rfl rfl)
theorem dX1_grossFor_109 : decode cX1_grossFor 109 = .ok (.iload_n 3, 1) := dk_29 (dk_at dksX1_grossFor_4 16 rfl rfl)
theorem dX1_grossFor_110 : decode cX1_grossFor 110 = .ok (.iload 6, 2) := dk_21 6 (dk_at dksX1_grossFor_4 17 rfl rfl)
theorem dX1_grossFor_112 : decode cX1_grossFor 112 = .ok (.iload 9, 2) := dk_21 9 (dk_at dksX1_grossFor_4 19 rfl rfl)
theorem dX1_grossFor_114 : decode cX1_grossFor 114 = .ok (.iadd, 1) := dk_96 (dk_at dksX1_grossFor_4 21 rfl rfl)
theorem dX1_grossFor_115 : decode cX1_grossFor 115 = .ok (.iastore, 1) := dk_79 (dk_at dksX1_grossFor_4 22 rfl rfl)
theorem dX1_grossFor_116 : decode cX1_grossFor 116 = .ok (.aload 5, 2) := dk_25 5 (dk_at dksX1_grossFor_5 0 rfl rfl)
theorem dX1_grossFor_118 : decode cX1_grossFor 118 = .ok (.iload_n 2, 1) := dk_28 (dk_at dksX1_grossFor_5 2 rfl rfl)
theorem dX1_grossFor_119 : decode cX1_grossFor 119 = .ok (.iconst 1, 1) := dk_4 (dk_at dksX1_grossFor_5 3 rfl rfl)
theorem dX1_grossFor_120 : decode cX1_grossFor 120 = .ok (.iadd, 1) := dk_96 (dk_at dksX1_grossFor_5 4 rfl rfl)
theorem dX1_grossFor_121 : decode cX1_grossFor 121 = .ok (.invokevirtual 417, 3) := dk_182 1 161 (dk_at dksX1_grossFor_5 5 rfl rfl)
theorem dX1_grossFor_124 : decode cX1_grossFor 124 = .ok (.iinc 10 1, 3) := dk_132 10 1 (dk_at dksX1_grossFor_5 8 rfl rfl)
theorem dX1_grossFor_127 : decode cX1_grossFor 127 = .ok (.goto (-55), 3) := dk_167 255 201 (dk_at dksX1_grossFor_5 11 rfl rfl)
theorem dX1_grossFor_130 : decode cX1_grossFor 130 = .ok (.aload_n 0, 1) := dk_42 (dk_at dksX1_grossFor_5 14 rfl rfl)
theorem dX1_grossFor_131 : decode cX1_grossFor 131 = .ok (.getfield 116, 3) := dk_180 0 116 (dk_at dksX1_grossFor_5 15 rfl rfl)
theorem dX1_grossFor_134 : decode cX1_grossFor 134 = .ok (.iload_n 1, 1) := dk_27 (dk_at dksX1_grossFor_5 18 rfl rfl)
theorem dX1_grossFor_135 : decode cX1_grossFor 135 = .ok (.aaload, 1) := dk_50 (dk_at dksX1_grossFor_5 19 rfl rfl)
theorem dX1_grossFor_136 : decode cX1_grossFor 136 = .ok (.iload_n 2, 1) := dk_28 (dk_at dksX1_grossFor_5 20 rfl rfl)
theorem dX1_grossFor_137 : decode cX1_grossFor 137 = .ok (.aaload, 1) := dk_50 (dk_at dksX1_grossFor_5 21 rfl rfl)
theorem dX1_grossFor_138 : decode cX1_grossFor 138 = .ok (.iload_n 3, 1) := dk_29 (dk_at dksX1_grossFor_5 22 rfl rfl)
theorem dX1_grossFor_139 : decode cX1_grossFor 139 = .ok (.iload 6, 2) := dk_21 6 (dk_at dksX1_grossFor_6 0 rfl rfl)
theorem dX1_grossFor_141 : decode cX1_grossFor 141 = .ok (.iastore, 1) := dk_79 (dk_at dksX1_grossFor_6 2 rfl rfl)
theorem dX1_grossFor_142 : decode cX1_grossFor 142 = .ok (.aload 5, 2) := dk_25 5 (dk_at dksX1_grossFor_6 3 rfl rfl)
theorem dX1_grossFor_144 : decode cX1_grossFor 144 = .ok (.getfield 400, 3) := dk_180 1 144 (dk_at dksX1_grossFor_6 5 rfl rfl)
theorem dX1_grossFor_147 : decode cX1_grossFor 147 = .ok (.iload_n 2, 1) := dk_28 (dk_at dksX1_grossFor_6 8 rfl rfl)
theorem dX1_grossFor_148 : decode cX1_grossFor 148 = .ok (.laload, 1) := dk_47 (dk_at dksX1_grossFor_6 9 rfl rfl)
theorem dX1_grossFor_149 : decode cX1_grossFor 149 = .ok (.lload 7, 2) := dk_22 7 (dk_at dksX1_grossFor_6 10 rfl rfl)
theorem dX1_grossFor_151 : decode cX1_grossFor 151 = .ok (.lcmp, 1) := dk_148 (dk_at dksX1_grossFor_6 12 rfl rfl)
theorem dX1_grossFor_152 : decode cX1_grossFor 152 = .ok (.ifCond .ge 7, 3) := dk_156 0 7 (dk_at dksX1_grossFor_6 13 rfl rfl)
theorem dX1_grossFor_155 : decode cX1_grossFor 155 = .ok (.iconst (-1), 1) := dk_2 (dk_at dksX1_grossFor_6 16 rfl rfl)
theorem dX1_grossFor_156 : decode cX1_grossFor 156 = .ok (.goto 5, 3) := dk_167 0 5 (dk_at dksX1_grossFor_6 17 rfl rfl)
theorem dX1_grossFor_159 : decode cX1_grossFor 159 = .ok (.iload 9, 2) := dk_21 9 (dk_at dksX1_grossFor_6 20 rfl rfl)
theorem dX1_grossFor_161 : decode cX1_grossFor 161 = .ok (.ireturn, 1) := dk_172 (dk_at dksX1_grossFor_6 22 rfl rfl)
def dkwX1_garnish_8 : List UInt8 := [180, 1, 180, 172]
abbrev dktX1_garnish_8 : List UInt8 := dkwX1_garnish_8 ++ []
def dkwX1_garnish_7 : List UInt8 := [156, 0, 9, 132, 9, 255, 167, 255, 220, 42, 180, 0, 134, 21, 9, 25, 7, 185, 1, 178, 3, 0, 25, 7]
abbrev dktX1_garnish_7 : List UInt8 := dkwX1_garnish_7 ++ dktX1_garnish_8
def dkwX1_garnish_6 : List UInt8 := [25, 7, 42, 180, 0, 134, 21, 9, 4, 100, 185, 0, 67, 2, 0, 192, 1, 164, 185, 1, 172, 3, 0]
abbrev dktX1_garnish_6 : List UInt8 := dkwX1_garnish_6 ++ dktX1_garnish_7
def dkwX1_garnish_5 : List UInt8 := [183, 1, 171, 58, 8, 42, 180, 0, 134, 185, 0, 62, 1, 0, 54, 9, 21, 9, 158, 0, 37, 25, 8]
abbrev dktX1_garnish_5 : List UInt8 := dkwX1_garnish_5 ++ dktX1_garnish_6
def dkwX1_garnish_4 : List UInt8 := [21, 6, 183, 1, 166, 58, 7, 42, 180, 0, 131, 25, 7, 185, 0, 97, 2, 0, 87, 187, 1, 169, 89]
abbrev dktX1_garnish_4 : List UInt8 := dkwX1_garnish_4 ++ dktX1_garnish_5
def dkwX1_garnish_3 : List UInt8 := [184, 1, 12, 187, 1, 164, 89, 42, 180, 0, 131, 185, 0, 62, 1, 0, 27, 28, 29, 21, 4, 21, 5]
abbrev dktX1_garnish_3 : List UInt8 := dkwX1_garnish_3 ++ dktX1_garnish_4
def dkwX1_garnish_2 : List UInt8 := [184, 1, 7, 87, 42, 180, 0, 131, 185, 0, 62, 1, 0, 16, 6, 162, 0, 7, 4, 167, 0, 4, 3]
abbrev dktX1_garnish_2 : List UInt8 := dkwX1_garnish_2 ++ dktX1_garnish_3
def dkwX1_garnish_1 : List UInt8 := [4, 19, 1, 110, 184, 1, 7, 87, 21, 5, 4, 17, 3, 232, 184, 1, 7, 87, 21, 6, 3, 19, 1, 110]
abbrev dktX1_garnish_1 : List UInt8 := dkwX1_garnish_1 ++ dktX1_garnish_2
def dkwX1_garnish_0 : List UInt8 := [27, 16, 6, 184, 0, 251, 87, 28, 16, 24, 184, 0, 251, 87, 29, 3, 16, 9, 184, 1, 7, 87, 21, 4]
abbrev dktX1_garnish_0 : List UInt8 := dkwX1_garnish_0 ++ dktX1_garnish_1
theorem dksX1_garnish_0 : cX1_garnish.data.toList.drop 0 = dktX1_garnish_0 := by decide +kernel
theorem dksX1_garnish_1 : cX1_garnish.data.toList.drop 24 = dktX1_garnish_1 := dk_seg dksX1_garnish_0 24 rfl rfl
theorem dksX1_garnish_2 : cX1_garnish.data.toList.drop 48 = dktX1_garnish_2 := dk_seg dksX1_garnish_1 24 rfl rfl
theorem dksX1_garnish_3 : cX1_garnish.data.toList.drop 71 = dktX1_garnish_3 := dk_seg dksX1_garnish_2 23 rfl rfl
theorem dksX1_garnish_4 : cX1_garnish.data.toList.drop 94 = dktX1_garnish_4 := dk_seg dksX1_garnish_3 23 rfl rfl
theorem dksX1_garnish_5 : cX1_garnish.data.toList.drop 117 = dktX1_garnish_5 := dk_seg dksX1_garnish_4 23 rfl rfl
theorem dksX1_garnish_6 : cX1_garnish.data.toList.drop 140 = dktX1_garnish_6 := dk_seg dksX1_garnish_5 23 rfl rfl
theorem dksX1_garnish_7 : cX1_garnish.data.toList.drop 163 = dktX1_garnish_7 := dk_seg dksX1_garnish_6 23 rfl rfl
theorem dksX1_garnish_8 : cX1_garnish.data.toList.drop 187 = dktX1_garnish_8 := dk_seg dksX1_garnish_7 24 rfl rfl
theorem dX1_garnish_0 : decode cX1_garnish 0 = .ok (.iload_n 1, 1) := dk_27 (dk_at dksX1_garnish_0 0 rfl rfl)
theorem dX1_garnish_1 : decode cX1_garnish 1 = .ok (.bipush 6, 2) := dk_16 6 (dk_at dksX1_garnish_0 1 rfl rfl)
theorem dX1_garnish_3 : decode cX1_garnish 3 = .ok (.invokestatic 251, 3) := dk_184 0 251 (dk_at dksX1_garnish_0 3 rfl rfl)
theorem dX1_garnish_6 : decode cX1_garnish 6 = .ok (.pop, 1) := dk_87 (dk_at dksX1_garnish_0 6 rfl rfl)
theorem dX1_garnish_7 : decode cX1_garnish 7 = .ok (.iload_n 2, 1) := dk_28 (dk_at dksX1_garnish_0 7 rfl rfl)
theorem dX1_garnish_8 : decode cX1_garnish 8 = .ok (.bipush 24, 2) := dk_16 24 (dk_at dksX1_garnish_0 8 rfl rfl)
theorem dX1_garnish_10 : decode cX1_garnish 10 = .ok (.invokestatic 251, 3) := dk_184 0 251 (dk_at dksX1_garnish_0 10 rfl rfl)
theorem dX1_garnish_13 : decode cX1_garnish 13 = .ok (.pop, 1) := dk_87 (dk_at dksX1_garnish_0 13 rfl rfl)
theorem dX1_garnish_14 : decode cX1_garnish 14 = .ok (.iload_n 3, 1) := dk_29 (dk_at dksX1_garnish_0 14 rfl rfl)
theorem dX1_garnish_15 : decode cX1_garnish 15 = .ok (.iconst 0, 1) := dk_3 (dk_at dksX1_garnish_0 15 rfl rfl)
theorem dX1_garnish_16 : decode cX1_garnish 16 = .ok (.bipush 9, 2) := dk_16 9 (dk_at dksX1_garnish_0 16 rfl rfl)
theorem dX1_garnish_18 : decode cX1_garnish 18 = .ok (.invokestatic 263, 3) := dk_184 1 7 (dk_at dksX1_garnish_0 18 rfl rfl)
theorem dX1_garnish_21 : decode cX1_garnish 21 = .ok (.pop, 1) := dk_87 (dk_at dksX1_garnish_0 21 rfl rfl)
theorem dX1_garnish_22 : decode cX1_garnish 22 = .ok (.iload 4, 2) := dk_21 4 (dk_at dksX1_garnish_0 22 rfl rfl)
theorem dX1_garnish_24 : decode cX1_garnish 24 = .ok (.iconst 1, 1) := dk_4 (dk_at dksX1_garnish_1 0 rfl rfl)
theorem dX1_garnish_25 : decode cX1_garnish 25 = .ok (.ldc_w 366, 3) := dk_19 1 110 (dk_at dksX1_garnish_1 1 rfl rfl)
theorem dX1_garnish_28 : decode cX1_garnish 28 = .ok (.invokestatic 263, 3) := dk_184 1 7 (dk_at dksX1_garnish_1 4 rfl rfl)
theorem dX1_garnish_31 : decode cX1_garnish 31 = .ok (.pop, 1) := dk_87 (dk_at dksX1_garnish_1 7 rfl rfl)
theorem dX1_garnish_32 : decode cX1_garnish 32 = .ok (.iload 5, 2) := dk_21 5 (dk_at dksX1_garnish_1 8 rfl rfl)
theorem dX1_garnish_34 : decode cX1_garnish 34 = .ok (.iconst 1, 1) := dk_4 (dk_at dksX1_garnish_1 10 rfl rfl)
theorem dX1_garnish_35 : decode cX1_garnish 35 = .ok (.sipush 1000, 3) := dk_17 3 232 (dk_at dksX1_garnish_1 11 rfl rfl)
theorem dX1_garnish_38 : decode cX1_garnish 38 = .ok (.invokestatic 263, 3) := dk_184 1 7 (dk_at dksX1_garnish_1 14 rfl rfl)
theorem dX1_garnish_41 : decode cX1_garnish 41 = .ok (.pop, 1) := dk_87 (dk_at dksX1_garnish_1 17 rfl rfl)
theorem dX1_garnish_42 : decode cX1_garnish 42 = .ok (.iload 6, 2) := dk_21 6 (dk_at dksX1_garnish_1 18 rfl rfl)
theorem dX1_garnish_44 : decode cX1_garnish 44 = .ok (.iconst 0, 1) := dk_3 (dk_at dksX1_garnish_1 20 rfl rfl)
theorem dX1_garnish_45 : decode cX1_garnish 45 = .ok (.ldc_w 366, 3) := dk_19 1 110 (dk_at dksX1_garnish_1 21 rfl rfl)
theorem dX1_garnish_48 : decode cX1_garnish 48 = .ok (.invokestatic 263, 3) := dk_184 1 7 (dk_at dksX1_garnish_2 0 rfl rfl)
theorem dX1_garnish_51 : decode cX1_garnish 51 = .ok (.pop, 1) := dk_87 (dk_at dksX1_garnish_2 3 rfl rfl)
theorem dX1_garnish_52 : decode cX1_garnish 52 = .ok (.aload_n 0, 1) := dk_42 (dk_at dksX1_garnish_2 4 rfl rfl)
theorem dX1_garnish_53 : decode cX1_garnish 53 = .ok (.getfield 131, 3) := dk_180 0 131 (dk_at dksX1_garnish_2 5 rfl rfl)
theorem dX1_garnish_56 : decode cX1_garnish 56 = .ok (.invokeinterface 62 1, 5) := by decide +kernel
theorem dX1_garnish_61 : decode cX1_garnish 61 = .ok (.bipush 6, 2) := dk_16 6 (dk_at dksX1_garnish_2 13 rfl rfl)
theorem dX1_garnish_63 : decode cX1_garnish 63 = .ok (.if_icmp .ge 7, 3) := dk_162 0 7 (dk_at dksX1_garnish_2 15 rfl rfl)
theorem dX1_garnish_66 : decode cX1_garnish 66 = .ok (.iconst 1, 1) := dk_4 (dk_at dksX1_garnish_2 18 rfl rfl)
theorem dX1_garnish_67 : decode cX1_garnish 67 = .ok (.goto 4, 3) := dk_167 0 4 (dk_at dksX1_garnish_2 19 rfl rfl)
theorem dX1_garnish_70 : decode cX1_garnish 70 = .ok (.iconst 0, 1) := dk_3 (dk_at dksX1_garnish_2 22 rfl rfl)
theorem dX1_garnish_71 : decode cX1_garnish 71 = .ok (.invokestatic 268, 3) := dk_184 1 12 (dk_at dksX1_garnish_3 0 rfl rfl)
theorem dX1_garnish_74 : decode cX1_garnish 74 = .ok (.new 420, 3) := dk_187 1 164 (dk_at dksX1_garnish_3 3 rfl rfl)
theorem dX1_garnish_77 : decode cX1_garnish 77 = .ok (.dup, 1) := dk_89 (dk_at dksX1_garnish_3 6 rfl rfl)
theorem dX1_garnish_78 : decode cX1_garnish 78 = .ok (.aload_n 0, 1) := dk_42 (dk_at dksX1_garnish_3 7 rfl rfl)
theorem dX1_garnish_79 : decode cX1_garnish 79 = .ok (.getfield 131, 3) := dk_180 0 131 (dk_at dksX1_garnish_3 8 rfl rfl)
theorem dX1_garnish_82 : decode cX1_garnish 82 = .ok (.invokeinterface 62 1, 5) := by decide +kernel
theorem dX1_garnish_87 : decode cX1_garnish 87 = .ok (.iload_n 1, 1) := dk_27 (dk_at dksX1_garnish_3 16 rfl rfl)
theorem dX1_garnish_88 : decode cX1_garnish 88 = .ok (.iload_n 2, 1) := dk_28 (dk_at dksX1_garnish_3 17 rfl rfl)
theorem dX1_garnish_89 : decode cX1_garnish 89 = .ok (.iload_n 3, 1) := dk_29 (dk_at dksX1_garnish_3 18 rfl rfl)
theorem dX1_garnish_90 : decode cX1_garnish 90 = .ok (.iload 4, 2) := dk_21 4 (dk_at dksX1_garnish_3 19 rfl rfl)
theorem dX1_garnish_92 : decode cX1_garnish 92 = .ok (.iload 5, 2) := dk_21 5 (dk_at dksX1_garnish_3 21 rfl rfl)
theorem dX1_garnish_94 : decode cX1_garnish 94 = .ok (.iload 6, 2) := dk_21 6 (dk_at dksX1_garnish_4 0 rfl rfl)
theorem dX1_garnish_96 : decode cX1_garnish 96 = .ok (.invokespecial 422, 3) := dk_183 1 166 (dk_at dksX1_garnish_4 2 rfl rfl)
theorem dX1_garnish_99 : decode cX1_garnish 99 = .ok (.astore 7, 2) := dk_58 7 (dk_at dksX1_garnish_4 5 rfl rfl)
theorem dX1_garnish_101 : decode cX1_garnish 101 = .ok (.aload_n 0, 1) := dk_42 (dk_at dksX1_garnish_4 7 rfl rfl)
theorem dX1_garnish_102 : decode cX1_garnish 102 = .ok (.getfield 131, 3) := dk_180 0 131 (dk_at dksX1_garnish_4 8 rfl rfl)
theorem dX1_garnish_105 : decode cX1_garnish 105 = .ok (.aload 7, 2) := dk_25 7 (dk_at dksX1_garnish_4 11 rfl rfl)
theorem dX1_garnish_107 : decode cX1_garnish 107 = .ok (.invokeinterface 97 2, 5) := by decide +kernel
theorem dX1_garnish_112 : decode cX1_garnish 112 = .ok (.pop, 1) := dk_87 (dk_at dksX1_garnish_4 18 rfl rfl)
theorem dX1_garnish_113 : decode cX1_garnish 113 = .ok (.new 425, 3) := dk_187 1 169 (dk_at dksX1_garnish_4 19 rfl rfl)
theorem dX1_garnish_116 : decode cX1_garnish 116 = .ok (.dup, 1) := dk_89 (dk_at dksX1_garnish_4 22 rfl rfl)
theorem dX1_garnish_117 : decode cX1_garnish 117 = .ok (.invokespecial 427, 3) := dk_183 1 171 (dk_at dksX1_garnish_5 0 rfl rfl)
theorem dX1_garnish_120 : decode cX1_garnish 120 = .ok (.astore 8, 2) := dk_58 8 (dk_at dksX1_garnish_5 3 rfl rfl)
theorem dX1_garnish_122 : decode cX1_garnish 122 = .ok (.aload_n 0, 1) := dk_42 (dk_at dksX1_garnish_5 5 rfl rfl)
theorem dX1_garnish_123 : decode cX1_garnish 123 = .ok (.getfield 134, 3) := dk_180 0 134 (dk_at dksX1_garnish_5 6 rfl rfl)
theorem dX1_garnish_126 : decode cX1_garnish 126 = .ok (.invokeinterface 62 1, 5) := by decide +kernel
theorem dX1_garnish_131 : decode cX1_garnish 131 = .ok (.istore 9, 2) := dk_54 9 (dk_at dksX1_garnish_5 14 rfl rfl)
theorem dX1_garnish_133 : decode cX1_garnish 133 = .ok (.iload 9, 2) := dk_21 9 (dk_at dksX1_garnish_5 16 rfl rfl)
theorem dX1_garnish_135 : decode cX1_garnish 135 = .ok (.ifCond .le 37, 3) := dk_158 0 37 (dk_at dksX1_garnish_5 18 rfl rfl)
theorem dX1_garnish_138 : decode cX1_garnish 138 = .ok (.aload 8, 2) := dk_25 8 (dk_at dksX1_garnish_5 21 rfl rfl)
theorem dX1_garnish_140 : decode cX1_garnish 140 = .ok (.aload 7, 2) := dk_25 7 (dk_at dksX1_garnish_6 0 rfl rfl)
theorem dX1_garnish_142 : decode cX1_garnish 142 = .ok (.aload_n 0, 1) := dk_42 (dk_at dksX1_garnish_6 2 rfl rfl)
theorem dX1_garnish_143 : decode cX1_garnish 143 = .ok (.getfield 134, 3) := dk_180 0 134 (dk_at dksX1_garnish_6 3 rfl rfl)
theorem dX1_garnish_146 : decode cX1_garnish 146 = .ok (.iload 9, 2) := dk_21 9 (dk_at dksX1_garnish_6 6 rfl rfl)
theorem dX1_garnish_148 : decode cX1_garnish 148 = .ok (.iconst 1, 1) := dk_4 (dk_at dksX1_garnish_6 8 rfl rfl)
theorem dX1_garnish_149 : decode cX1_garnish 149 = .ok (.isub, 1) := dk_100 (dk_at dksX1_garnish_6 9 rfl rfl)
theorem dX1_garnish_150 : decode cX1_garnish 150 = .ok (.invokeinterface 67 2, 5) := by decide +kernel
theorem dX1_garnish_155 : decode cX1_garnish 155 = .ok (.checkcast 420, 3) := dk_192 1 164 (dk_at dksX1_garnish_6 15 rfl rfl)
theorem dX1_garnish_158 : decode cX1_garnish 158 = .ok (.invokeinterface 428 3, 5) := by decide +kernel
theorem dX1_garnish_163 : decode cX1_garnish 163 = .ok (.ifCond .ge 9, 3) := dk_156 0 9 (dk_at dksX1_garnish_7 0 rfl rfl)
theorem dX1_garnish_166 : decode cX1_garnish 166 = .ok (.iinc 9 (-1), 3) := dk_132 9 255 (dk_at dksX1_garnish_7 3 rfl rfl)
theorem dX1_garnish_169 : decode cX1_garnish 169 = .ok (.goto (-36), 3) := dk_167 255 220 (dk_at dksX1_garnish_7 6 rfl rfl)
theorem dX1_garnish_172 : decode cX1_garnish 172 = .ok (.aload_n 0, 1) := dk_42 (dk_at dksX1_garnish_7 9 rfl rfl)
theorem dX1_garnish_173 : decode cX1_garnish 173 = .ok (.getfield 134, 3) := dk_180 0 134 (dk_at dksX1_garnish_7 10 rfl rfl)
theorem dX1_garnish_176 : decode cX1_garnish 176 = .ok (.iload 9, 2) := dk_21 9 (dk_at dksX1_garnish_7 13 rfl rfl)
theorem dX1_garnish_178 : decode cX1_garnish 178 = .ok (.aload 7, 2) := dk_25 7 (dk_at dksX1_garnish_7 15 rfl rfl)
theorem dX1_garnish_180 : decode cX1_garnish 180 = .ok (.invokeinterface 434 3, 5) := by decide +kernel
theorem dX1_garnish_185 : decode cX1_garnish 185 = .ok (.aload 7, 2) := dk_25 7 (dk_at dksX1_garnish_7 22 rfl rfl)
theorem dX1_garnish_187 : decode cX1_garnish 187 = .ok (.getfield 436, 3) := dk_180 1 180 (dk_at dksX1_garnish_8 0 rfl rfl)
theorem dX1_garnish_190 : decode cX1_garnish 190 = .ok (.ireturn, 1) := dk_172 (dk_at dksX1_garnish_8 3 rfl rfl)
def dkwX1_takenBy_2 : List UInt8 := [28, 4, 96, 182, 1, 184, 173]
abbrev dktX1_takenBy_2 : List UInt8 := dkwX1_takenBy_2 ++ []
def dkwX1_takenBy_1 : List UInt8 := [192, 1, 164, 78, 28, 16, 24, 184, 0, 251, 87, 187, 1, 125, 89, 42, 45, 180, 1, 183, 183, 1, 127, 27]
abbrev dktX1_takenBy_1 : List UInt8 := dkwX1_takenBy_1 ++ dktX1_takenBy_2
def dkwX1_takenBy_0 : List UInt8 := [42, 180, 0, 131, 27, 42, 180, 0, 131, 185, 0, 62, 1, 0, 184, 0, 251, 185, 0, 67, 2, 0]
abbrev dktX1_takenBy_0 : List UInt8 := dkwX1_takenBy_0 ++ dktX1_takenBy_1
theorem dksX1_takenBy_0 : cX1_takenBy.data.toList.drop 0 = dktX1_takenBy_0 := by decide +kernel
theorem dksX1_takenBy_1 : cX1_takenBy.data.toList.drop 22 = dktX1_takenBy_1 := dk_seg dksX1_takenBy_0 22 rfl rfl
theorem dksX1_takenBy_2 : cX1_takenBy.data.toList.drop 46 = dktX1_takenBy_2 := dk_seg dksX1_takenBy_1 24 rfl rfl
theorem dX1_takenBy_0 : decode cX1_takenBy 0 = .ok (.aload_n 0, 1) := dk_42 (dk_at dksX1_takenBy_0 0 rfl rfl)
theorem dX1_takenBy_1 : decode cX1_takenBy 1 = .ok (.getfield 131, 3) := dk_180 0 131 (dk_at dksX1_takenBy_0 1 rfl rfl)
theorem dX1_takenBy_4 : decode cX1_takenBy 4 = .ok (.iload_n 1, 1) := dk_27 (dk_at dksX1_takenBy_0 4 rfl rfl)
theorem dX1_takenBy_5 : decode cX1_takenBy 5 = .ok (.aload_n 0, 1) := dk_42 (dk_at dksX1_takenBy_0 5 rfl rfl)
theorem dX1_takenBy_6 : decode cX1_takenBy 6 = .ok (.getfield 131, 3) := dk_180 0 131 (dk_at dksX1_takenBy_0 6 rfl rfl)
theorem dX1_takenBy_9 : decode cX1_takenBy 9 = .ok (.invokeinterface 62 1, 5) := by decide +kernel
theorem dX1_takenBy_14 : decode cX1_takenBy 14 = .ok (.invokestatic 251, 3) := dk_184 0 251 (dk_at dksX1_takenBy_0 14 rfl rfl)
theorem dX1_takenBy_17 : decode cX1_takenBy 17 = .ok (.invokeinterface 67 2, 5) := by decide +kernel
theorem dX1_takenBy_22 : decode cX1_takenBy 22 = .ok (.checkcast 420, 3) := dk_192 1 164 (dk_at dksX1_takenBy_1 0 rfl rfl)
theorem dX1_takenBy_25 : decode cX1_takenBy 25 = .ok (.astore_n 3, 1) := dk_78 (dk_at dksX1_takenBy_1 3 rfl rfl)
theorem dX1_takenBy_26 : decode cX1_takenBy 26 = .ok (.iload_n 2, 1) := dk_28 (dk_at dksX1_takenBy_1 4 rfl rfl)
theorem dX1_takenBy_27 : decode cX1_takenBy 27 = .ok (.bipush 24, 2) := dk_16 24 (dk_at dksX1_takenBy_1 5 rfl rfl)
theorem dX1_takenBy_29 : decode cX1_takenBy 29 = .ok (.invokestatic 251, 3) := dk_184 0 251 (dk_at dksX1_takenBy_1 7 rfl rfl)
theorem dX1_takenBy_32 : decode cX1_takenBy 32 = .ok (.pop, 1) := dk_87 (dk_at dksX1_takenBy_1 10 rfl rfl)
theorem dX1_takenBy_33 : decode cX1_takenBy 33 = .ok (.new 381, 3) := dk_187 1 125 (dk_at dksX1_takenBy_1 11 rfl rfl)
theorem dX1_takenBy_36 : decode cX1_takenBy 36 = .ok (.dup, 1) := dk_89 (dk_at dksX1_takenBy_1 14 rfl rfl)
theorem dX1_takenBy_37 : decode cX1_takenBy 37 = .ok (.aload_n 0, 1) := dk_42 (dk_at dksX1_takenBy_1 15 rfl rfl)
theorem dX1_takenBy_38 : decode cX1_takenBy 38 = .ok (.aload_n 3, 1) := dk_45 (dk_at dksX1_takenBy_1 16 rfl rfl)
theorem dX1_takenBy_39 : decode cX1_takenBy 39 = .ok (.getfield 439, 3) := dk_180 1 183 (dk_at dksX1_takenBy_1 17 rfl rfl)
theorem dX1_takenBy_42 : decode cX1_takenBy 42 = .ok (.invokespecial 383, 3) := dk_183 1 127 (dk_at dksX1_takenBy_1 20 rfl rfl)
theorem dX1_takenBy_45 : decode cX1_takenBy 45 = .ok (.iload_n 1, 1) := dk_27 (dk_at dksX1_takenBy_1 23 rfl rfl)
theorem dX1_takenBy_46 : decode cX1_takenBy 46 = .ok (.iload_n 2, 1) := dk_28 (dk_at dksX1_takenBy_2 0 rfl rfl)
theorem dX1_takenBy_47 : decode cX1_takenBy 47 = .ok (.iconst 1, 1) := dk_4 (dk_at dksX1_takenBy_2 1 rfl rfl)
theorem dX1_takenBy_48 : decode cX1_takenBy 48 = .ok (.iadd, 1) := dk_96 (dk_at dksX1_takenBy_2 2 rfl rfl)
theorem dX1_takenBy_49 : decode cX1_takenBy 49 = .ok (.invokevirtual 440, 3) := dk_182 1 184 (dk_at dksX1_takenBy_2 3 rfl rfl)
theorem dX1_takenBy_52 : decode cX1_takenBy 52 = .ok (.lreturn, 1) := dk_173 (dk_at dksX1_takenBy_2 6 rfl rfl)
def dkwX1_advance_5 : List UInt8 := [33, 173]
abbrev dktX1_advance_5 : List UInt8 := dkwX1_advance_5 ++ []
def dkwX1_advance_4 : List UInt8 := [25, 6, 182, 1, 196, 27, 160, 0, 12, 25, 6, 182, 1, 198, 133, 167, 0, 4, 9, 97, 66, 167, 255, 212]
abbrev dktX1_advance_4 : List UInt8 := dkwX1_advance_4 ++ dktX1_advance_5
def dkwX1_advance_3 : List UInt8 := [25, 5, 185, 0, 214, 1, 0, 153, 0, 40, 25, 5, 185, 0, 219, 1, 0, 192, 1, 191, 58, 6, 33]
abbrev dktX1_advance_3 : List UInt8 := dkwX1_advance_3 ++ dktX1_advance_4
def dkwX1_advance_2 : List UInt8 := [28, 183, 1, 193, 185, 0, 97, 2, 0, 87, 9, 66, 42, 180, 0, 137, 185, 0, 210, 1, 0, 58, 5]
abbrev dktX1_advance_2 : List UInt8 := dkwX1_advance_2 ++ dktX1_advance_3
def dkwX1_advance_1 : List UInt8 := [162, 0, 7, 4, 167, 0, 4, 3, 184, 1, 12, 42, 180, 0, 137, 187, 1, 191, 89, 27, 42, 180, 1, 188]
abbrev dktX1_advance_1 : List UInt8 := dkwX1_advance_1 ++ dktX1_advance_2
def dkwX1_advance_0 : List UInt8 := [27, 16, 6, 184, 0, 251, 87, 28, 4, 19, 1, 11, 184, 1, 7, 87, 42, 180, 1, 188, 16, 24]
abbrev dktX1_advance_0 : List UInt8 := dkwX1_advance_0 ++ dktX1_advance_1
theorem dksX1_advance_0 : cX1_advance.data.toList.drop 0 = dktX1_advance_0 := by decide +kernel
theorem dksX1_advance_1 : cX1_advance.data.toList.drop 22 = dktX1_advance_1 := dk_seg dksX1_advance_0 22 rfl rfl
theorem dksX1_advance_2 : cX1_advance.data.toList.drop 46 = dktX1_advance_2 := dk_seg dksX1_advance_1 24 rfl rfl
theorem dksX1_advance_3 : cX1_advance.data.toList.drop 69 = dktX1_advance_3 := dk_seg dksX1_advance_2 23 rfl rfl
theorem dksX1_advance_4 : cX1_advance.data.toList.drop 92 = dktX1_advance_4 := dk_seg dksX1_advance_3 23 rfl rfl
theorem dksX1_advance_5 : cX1_advance.data.toList.drop 116 = dktX1_advance_5 := dk_seg dksX1_advance_4 24 rfl rfl
theorem dX1_advance_0 : decode cX1_advance 0 = .ok (.iload_n 1, 1) := dk_27 (dk_at dksX1_advance_0 0 rfl rfl)
theorem dX1_advance_1 : decode cX1_advance 1 = .ok (.bipush 6, 2) := dk_16 6 (dk_at dksX1_advance_0 1 rfl rfl)
theorem dX1_advance_3 : decode cX1_advance 3 = .ok (.invokestatic 251, 3) := dk_184 0 251 (dk_at dksX1_advance_0 3 rfl rfl)
theorem dX1_advance_6 : decode cX1_advance 6 = .ok (.pop, 1) := dk_87 (dk_at dksX1_advance_0 6 rfl rfl)
theorem dX1_advance_7 : decode cX1_advance 7 = .ok (.iload_n 2, 1) := dk_28 (dk_at dksX1_advance_0 7 rfl rfl)
theorem dX1_advance_8 : decode cX1_advance 8 = .ok (.iconst 1, 1) := dk_4 (dk_at dksX1_advance_0 8 rfl rfl)
theorem dX1_advance_9 : decode cX1_advance 9 = .ok (.ldc_w 267, 3) := dk_19 1 11 (dk_at dksX1_advance_0 9 rfl rfl)
theorem dX1_advance_12 : decode cX1_advance 12 = .ok (.invokestatic 263, 3) := dk_184 1 7 (dk_at dksX1_advance_0 12 rfl rfl)
theorem dX1_advance_15 : decode cX1_advance 15 = .ok (.pop, 1) := dk_87 (dk_at dksX1_advance_0 15 rfl rfl)
theorem dX1_advance_16 : decode cX1_advance 16 = .ok (.aload_n 0, 1) := dk_42 (dk_at dksX1_advance_0 16 rfl rfl)
theorem dX1_advance_17 : decode cX1_advance 17 = .ok (.getfield 444, 3) := dk_180 1 188 (dk_at dksX1_advance_0 17 rfl rfl)
theorem dX1_advance_20 : decode cX1_advance 20 = .ok (.bipush 24, 2) := dk_16 24 (dk_at dksX1_advance_0 20 rfl rfl)
theorem dX1_advance_22 : decode cX1_advance 22 = .ok (.if_icmp .ge 7, 3) := dk_162 0 7 (dk_at dksX1_advance_1 0 rfl rfl)
theorem dX1_advance_25 : decode cX1_advance 25 = .ok (.iconst 1, 1) := dk_4 (dk_at dksX1_advance_1 3 rfl rfl)
theorem dX1_advance_26 : decode cX1_advance 26 = .ok (.goto 4, 3) := dk_167 0 4 (dk_at dksX1_advance_1 4 rfl rfl)
theorem dX1_advance_29 : decode cX1_advance 29 = .ok (.iconst 0, 1) := dk_3 (dk_at dksX1_advance_1 7 rfl rfl)
theorem dX1_advance_30 : decode cX1_advance 30 = .ok (.invokestatic 268, 3) := dk_184 1 12 (dk_at dksX1_advance_1 8 rfl rfl)
theorem dX1_advance_33 : decode cX1_advance 33 = .ok (.aload_n 0, 1) := dk_42 (dk_at dksX1_advance_1 11 rfl rfl)
theorem dX1_advance_34 : decode cX1_advance 34 = .ok (.getfield 137, 3) := dk_180 0 137 (dk_at dksX1_advance_1 12 rfl rfl)
theorem dX1_advance_37 : decode cX1_advance 37 = .ok (.new 447, 3) := dk_187 1 191 (dk_at dksX1_advance_1 15 rfl rfl)
theorem dX1_advance_40 : decode cX1_advance 40 = .ok (.dup, 1) := dk_89 (dk_at dksX1_advance_1 18 rfl rfl)
theorem dX1_advance_41 : decode cX1_advance 41 = .ok (.iload_n 1, 1) := dk_27 (dk_at dksX1_advance_1 19 rfl rfl)
theorem dX1_advance_42 : decode cX1_advance 42 = .ok (.aload_n 0, 1) := dk_42 (dk_at dksX1_advance_1 20 rfl rfl)
theorem dX1_advance_43 : decode cX1_advance 43 = .ok (.getfield 444, 3) := dk_180 1 188 (dk_at dksX1_advance_1 21 rfl rfl)
theorem dX1_advance_46 : decode cX1_advance 46 = .ok (.iload_n 2, 1) := dk_28 (dk_at dksX1_advance_2 0 rfl rfl)
theorem dX1_advance_47 : decode cX1_advance 47 = .ok (.invokespecial 449, 3) := dk_183 1 193 (dk_at dksX1_advance_2 1 rfl rfl)
theorem dX1_advance_50 : decode cX1_advance 50 = .ok (.invokeinterface 97 2, 5) := by decide +kernel
theorem dX1_advance_55 : decode cX1_advance 55 = .ok (.pop, 1) := dk_87 (dk_at dksX1_advance_2 9 rfl rfl)
theorem dX1_advance_56 : decode cX1_advance 56 = .ok (.lconst 0, 1) := dk_9 (dk_at dksX1_advance_2 10 rfl rfl)
theorem dX1_advance_57 : decode cX1_advance 57 = .ok (.lstore_n 3, 1) := dk_66 (dk_at dksX1_advance_2 11 rfl rfl)
theorem dX1_advance_58 : decode cX1_advance 58 = .ok (.aload_n 0, 1) := dk_42 (dk_at dksX1_advance_2 12 rfl rfl)
theorem dX1_advance_59 : decode cX1_advance 59 = .ok (.getfield 137, 3) := dk_180 0 137 (dk_at dksX1_advance_2 13 rfl rfl)
theorem dX1_advance_62 : decode cX1_advance 62 = .ok (.invokeinterface 210 1, 5) := by decide +kernel
theorem dX1_advance_67 : decode cX1_advance 67 = .ok (.astore 5, 2) := dk_58 5 (dk_at dksX1_advance_2 21 rfl rfl)
theorem dX1_advance_69 : decode cX1_advance 69 = .ok (.aload 5, 2) := dk_25 5 (dk_at dksX1_advance_3 0 rfl rfl)
theorem dX1_advance_71 : decode cX1_advance 71 = .ok (.invokeinterface 214 1, 5) := by decide +kernel
theorem dX1_advance_76 : decode cX1_advance 76 = .ok (.ifCond .eq 40, 3) := dk_153 0 40 (dk_at dksX1_advance_3 7 rfl rfl)
theorem dX1_advance_79 : decode cX1_advance 79 = .ok (.aload 5, 2) := dk_25 5 (dk_at dksX1_advance_3 10 rfl rfl)
theorem dX1_advance_81 : decode cX1_advance 81 = .ok (.invokeinterface 219 1, 5) := by decide +kernel
theorem dX1_advance_86 : decode cX1_advance 86 = .ok (.checkcast 447, 3) := dk_192 1 191 (dk_at dksX1_advance_3 17 rfl rfl)
theorem dX1_advance_89 : decode cX1_advance 89 = .ok (.astore 6, 2) := dk_58 6 (dk_at dksX1_advance_3 20 rfl rfl)
theorem dX1_advance_91 : decode cX1_advance 91 = .ok (.lload_n 3, 1) := dk_33 (dk_at dksX1_advance_3 22 rfl rfl)
theorem dX1_advance_92 : decode cX1_advance 92 = .ok (.aload 6, 2) := dk_25 6 (dk_at dksX1_advance_4 0 rfl rfl)
theorem dX1_advance_94 : decode cX1_advance 94 = .ok (.invokevirtual 452, 3) := dk_182 1 196 (dk_at dksX1_advance_4 2 rfl rfl)
theorem dX1_advance_97 : decode cX1_advance 97 = .ok (.iload_n 1, 1) := dk_27 (dk_at dksX1_advance_4 5 rfl rfl)
theorem dX1_advance_98 : decode cX1_advance 98 = .ok (.if_icmp .ne 12, 3) := dk_160 0 12 (dk_at dksX1_advance_4 6 rfl rfl)
theorem dX1_advance_101 : decode cX1_advance 101 = .ok (.aload 6, 2) := dk_25 6 (dk_at dksX1_advance_4 9 rfl rfl)
theorem dX1_advance_103 : decode cX1_advance 103 = .ok (.invokevirtual 454, 3) := dk_182 1 198 (dk_at dksX1_advance_4 11 rfl rfl)
theorem dX1_advance_106 : decode cX1_advance 106 = .ok (.i2l, 1) := dk_133 (dk_at dksX1_advance_4 14 rfl rfl)
theorem dX1_advance_107 : decode cX1_advance 107 = .ok (.goto 4, 3) := dk_167 0 4 (dk_at dksX1_advance_4 15 rfl rfl)
theorem dX1_advance_110 : decode cX1_advance 110 = .ok (.lconst 0, 1) := dk_9 (dk_at dksX1_advance_4 18 rfl rfl)
theorem dX1_advance_111 : decode cX1_advance 111 = .ok (.ladd, 1) := dk_97 (dk_at dksX1_advance_4 19 rfl rfl)
theorem dX1_advance_112 : decode cX1_advance 112 = .ok (.lstore_n 3, 1) := dk_66 (dk_at dksX1_advance_4 20 rfl rfl)
theorem dX1_advance_113 : decode cX1_advance 113 = .ok (.goto (-44), 3) := dk_167 255 212 (dk_at dksX1_advance_4 21 rfl rfl)
theorem dX1_advance_116 : decode cX1_advance 116 = .ok (.lload_n 3, 1) := dk_33 (dk_at dksX1_advance_5 0 rfl rfl)
theorem dX1_advance_117 : decode cX1_advance 117 = .ok (.lreturn, 1) := dk_173 (dk_at dksX1_advance_5 1 rfl rfl)
def dkwX1_close_14 : List UInt8 := [180, 1, 188, 4, 96, 181, 1, 188, 42, 180, 0, 140, 185, 0, 62, 1, 0, 27, 100, 172]
abbrev dktX1_close_14 : List UInt8 := dkwX1_close_14 ++ []
def dkwX1_close_13 : List UInt8 := [21, 4, 44, 29, 50, 21, 4, 50, 83, 132, 4, 1, 167, 255, 148, 132, 3, 1, 167, 255, 134, 42, 89]
abbrev dktX1_close_13 : List UInt8 := dkwX1_close_13 ++ dktX1_close_14
def dkwX1_close_12 : List UInt8 := [180, 1, 188, 162, 0, 12, 21, 6, 153, 0, 7, 4, 167, 0, 4, 3, 96, 79, 42, 180, 0, 145, 29, 50]
abbrev dktX1_close_12 : List UInt8 := dkwX1_close_12 ++ dktX1_close_13
def dkwX1_close_11 : List UInt8 := [153, 0, 7, 4, 167, 0, 4, 3, 54, 6, 42, 180, 0, 150, 29, 50, 21, 4, 92, 46, 21, 4, 42]
abbrev dktX1_close_11 : List UInt8 := dkwX1_close_11 ++ dktX1_close_12
def dkwX1_close_10 : List UInt8 := [21, 4, 50, 3, 47, 148, 154, 0, 19, 25, 5, 4, 47, 44, 29, 50, 21, 4, 50, 4, 47, 148]
abbrev dktX1_close_10 : List UInt8 := dkwX1_close_10 ++ dktX1_close_11
def dkwX1_close_9 : List UInt8 := [180, 1, 188, 163, 0, 105, 42, 180, 0, 145, 29, 50, 21, 4, 50, 58, 5, 25, 5, 3, 47, 44, 29, 50]
abbrev dktX1_close_9 : List UInt8 := dkwX1_close_9 ++ dktX1_close_10
def dkwX1_close_8 : List UInt8 := [167, 255, 179, 132, 3, 1, 167, 255, 103, 3, 62, 29, 6, 162, 0, 123, 3, 54, 4, 21, 4, 42]
abbrev dktX1_close_8 : List UInt8 := dkwX1_close_8 ++ dktX1_close_9
def dkwX1_close_7 : List UInt8 := [25, 4, 180, 1, 141, 21, 7, 6, 104, 21, 8, 96, 47, 97, 80, 132, 8, 1, 167, 255, 197, 132, 7, 1]
abbrev dktX1_close_7 : List UInt8 := dkwX1_close_7 ++ dktX1_close_8
def dkwX1_close_6 : List UInt8 := [180, 1, 135, 21, 7, 6, 104, 21, 8, 96, 47, 97, 80, 44, 21, 8, 50, 21, 7, 50, 4, 92, 47]
abbrev dktX1_close_6 : List UInt8 := dkwX1_close_6 ++ dktX1_close_7
def dkwX1_close_5 : List UInt8 := [163, 0, 74, 3, 54, 8, 21, 8, 6, 162, 0, 59, 44, 21, 8, 50, 21, 7, 50, 3, 92, 47, 25, 4]
abbrev dktX1_close_5 : List UInt8 := dkwX1_close_5 ++ dktX1_close_6
def dkwX1_close_4 : List UInt8 := [180, 1, 188, 22, 5, 183, 1, 206, 185, 0, 97, 2, 0, 87, 3, 54, 7, 21, 7, 42, 180, 1, 188]
abbrev dktX1_close_4 : List UInt8 := dkwX1_close_4 ++ dktX1_close_5
def dkwX1_close_3 : List UInt8 := [182, 1, 203, 101, 55, 5, 22, 5, 9, 148, 158, 0, 27, 42, 180, 0, 140, 187, 0, 222, 89, 29, 42]
abbrev dktX1_close_3 : List UInt8 := dkwX1_close_3 ++ dktX1_close_4
def dkwX1_close_2 : List UInt8 := [187, 1, 125, 89, 42, 29, 183, 1, 127, 58, 4, 25, 4, 42, 180, 1, 188, 4, 96, 182, 1, 200, 42, 29]
abbrev dktX1_close_2 : List UInt8 := dkwX1_close_2 ++ dktX1_close_3
def dkwX1_close_1 : List UInt8 := [185, 0, 62, 1, 0, 60, 6, 16, 24, 5, 197, 0, 143, 3, 77, 3, 62, 29, 16, 6, 162, 0, 153]
abbrev dktX1_close_1 : List UInt8 := dkwX1_close_1 ++ dktX1_close_2
def dkwX1_close_0 : List UInt8 := [42, 180, 1, 188, 16, 24, 162, 0, 7, 4, 167, 0, 4, 3, 184, 1, 12, 42, 180, 0, 140]
abbrev dktX1_close_0 : List UInt8 := dkwX1_close_0 ++ dktX1_close_1
theorem dksX1_close_0 : cX1_close.data.toList.drop 0 = dktX1_close_0 := by decide +kernel
theorem dksX1_close_1 : cX1_close.data.toList.drop 21 = dktX1_close_1 := dk_seg dksX1_close_0 21 rfl rfl
theorem dksX1_close_2 : cX1_close.data.toList.drop 44 = dktX1_close_2 := dk_seg dksX1_close_1 23 rfl rfl
theorem dksX1_close_3 : cX1_close.data.toList.drop 68 = dktX1_close_3 := dk_seg dksX1_close_2 24 rfl rfl
theorem dksX1_close_4 : cX1_close.data.toList.drop 91 = dktX1_close_4 := dk_seg dksX1_close_3 23 rfl rfl
theorem dksX1_close_5 : cX1_close.data.toList.drop 114 = dktX1_close_5 := dk_seg dksX1_close_4 23 rfl rfl
theorem dksX1_close_6 : cX1_close.data.toList.drop 138 = dktX1_close_6 := dk_seg dksX1_close_5 24 rfl rfl
theorem dksX1_close_7 : cX1_close.data.toList.drop 161 = dktX1_close_7 := dk_seg dksX1_close_6 23 rfl rfl
theorem dksX1_close_8 : cX1_close.data.toList.drop 185 = dktX1_close_8 := dk_seg dksX1_close_7 24 rfl rfl
theorem dksX1_close_9 : cX1_close.data.toList.drop 207 = dktX1_close_9 := dk_seg dksX1_close_8 22 rfl rfl
theorem dksX1_close_10 : cX1_close.data.toList.drop 231 = dktX1_close_10 := dk_seg dksX1_close_9 24 rfl rfl
theorem dksX1_close_11 : cX1_close.data.toList.drop 253 = dktX1_close_11 := dk_seg dksX1_close_10 22 rfl rfl
theorem dksX1_close_12 : cX1_close.data.toList.drop 276 = dktX1_close_12 := dk_seg dksX1_close_11 23 rfl rfl
theorem dksX1_close_13 : cX1_close.data.toList.drop 300 = dktX1_close_13 := dk_seg dksX1_close_12 24 rfl rfl
theorem dksX1_close_14 : cX1_close.data.toList.drop 323 = dktX1_close_14 := dk_seg dksX1_close_13 23 rfl rfl
theorem dX1_close_0 : decode cX1_close 0 = .ok (.aload_n 0, 1) := dk_42 (dk_at dksX1_close_0 0 rfl rfl)
theorem dX1_close_1 : decode cX1_close 1 = .ok (.getfield 444, 3) := dk_180 1 188 (dk_at dksX1_close_0 1 rfl rfl)
theorem dX1_close_4 : decode cX1_close 4 = .ok (.bipush 24, 2) := dk_16 24 (dk_at dksX1_close_0 4 rfl rfl)
theorem dX1_close_6 : decode cX1_close 6 = .ok (.if_icmp .ge 7, 3) := dk_162 0 7 (dk_at dksX1_close_0 6 rfl rfl)
theorem dX1_close_9 : decode cX1_close 9 = .ok (.iconst 1, 1) := dk_4 (dk_at dksX1_close_0 9 rfl rfl)
theorem dX1_close_10 : decode cX1_close 10 = .ok (.goto 4, 3) := dk_167 0 4 (dk_at dksX1_close_0 10 rfl rfl)
theorem dX1_close_13 : decode cX1_close 13 = .ok (.iconst 0, 1) := dk_3 (dk_at dksX1_close_0 13 rfl rfl)
theorem dX1_close_14 : decode cX1_close 14 = .ok (.invokestatic 268, 3) := dk_184 1 12 (dk_at dksX1_close_0 14 rfl rfl)
theorem dX1_close_17 : decode cX1_close 17 = .ok (.aload_n 0, 1) := dk_42 (dk_at dksX1_close_0 17 rfl rfl)
theorem dX1_close_18 : decode cX1_close 18 = .ok (.getfield 140, 3) := dk_180 0 140 (dk_at dksX1_close_0 18 rfl rfl)
theorem dX1_close_21 : decode cX1_close 21 = .ok (.invokeinterface 62 1, 5) := by decide +kernel
theorem dX1_close_26 : decode cX1_close 26 = .ok (.istore_n 1, 1) := dk_60 (dk_at dksX1_close_1 5 rfl rfl)
theorem dX1_close_27 : decode cX1_close 27 = .ok (.iconst 3, 1) := dk_6 (dk_at dksX1_close_1 6 rfl rfl)
theorem dX1_close_28 : decode cX1_close 28 = .ok (.bipush 24, 2) := dk_16 24 (dk_at dksX1_close_1 7 rfl rfl)
theorem dX1_close_30 : decode cX1_close 30 = .ok (.iconst 2, 1) := dk_5 (dk_at dksX1_close_1 9 rfl rfl)
theorem dX1_close_31 : decode cX1_close 31 = .ok (.multianewarray 143 3, 4) := by decide +kernel
theorem dX1_close_35 : decode cX1_close 35 = .ok (.astore_n 2, 1) := dk_77 (dk_at dksX1_close_1 14 rfl rfl)
theorem dX1_close_36 : decode cX1_close 36 = .ok (.iconst 0, 1) := dk_3 (dk_at dksX1_close_1 15 rfl rfl)
theorem dX1_close_37 : decode cX1_close 37 = .ok (.istore_n 3, 1) := dk_62 (dk_at dksX1_close_1 16 rfl rfl)
theorem dX1_close_38 : decode cX1_close 38 = .ok (.iload_n 3, 1) := dk_29 (dk_at dksX1_close_1 17 rfl rfl)
theorem dX1_close_39 : decode cX1_close 39 = .ok (.bipush 6, 2) := dk_16 6 (dk_at dksX1_close_1 18 rfl rfl)
theorem dX1_close_41 : decode cX1_close 41 = .ok (.if_icmp .ge 153, 3) := dk_162 0 153 (dk_at dksX1_close_1 20 rfl rfl)
theorem dX1_close_44 : decode cX1_close 44 = .ok (.new 381, 3) := dk_187 1 125 (dk_at dksX1_close_2 0 rfl rfl)
theorem dX1_close_47 : decode cX1_close 47 = .ok (.dup, 1) := dk_89 (dk_at dksX1_close_2 3 rfl rfl)
theorem dX1_close_48 : decode cX1_close 48 = .ok (.aload_n 0, 1) := dk_42 (dk_at dksX1_close_2 4 rfl rfl)
theorem dX1_close_49 : decode cX1_close 49 = .ok (.iload_n 3, 1) := dk_29 (dk_at dksX1_close_2 5 rfl rfl)
theorem dX1_close_50 : decode cX1_close 50 = .ok (.invokespecial 383, 3) := dk_183 1 127 (dk_at dksX1_close_2 6 rfl rfl)
theorem dX1_close_53 : decode cX1_close 53 = .ok (.astore 4, 2) := dk_58 4 (dk_at dksX1_close_2 9 rfl rfl)
theorem dX1_close_55 : decode cX1_close 55 = .ok (.aload 4, 2) := dk_25 4 (dk_at dksX1_close_2 11 rfl rfl)
theorem dX1_close_57 : decode cX1_close 57 = .ok (.aload_n 0, 1) := dk_42 (dk_at dksX1_close_2 13 rfl rfl)
theorem dX1_close_58 : decode cX1_close 58 = .ok (.getfield 444, 3) := dk_180 1 188 (dk_at dksX1_close_2 14 rfl rfl)
theorem dX1_close_61 : decode cX1_close 61 = .ok (.iconst 1, 1) := dk_4 (dk_at dksX1_close_2 17 rfl rfl)
theorem dX1_close_62 : decode cX1_close 62 = .ok (.iadd, 1) := dk_96 (dk_at dksX1_close_2 18 rfl rfl)
theorem dX1_close_63 : decode cX1_close 63 = .ok (.invokevirtual 456, 3) := dk_182 1 200 (dk_at dksX1_close_2 19 rfl rfl)
theorem dX1_close_66 : decode cX1_close 66 = .ok (.aload_n 0, 1) := dk_42 (dk_at dksX1_close_2 22 rfl rfl)
theorem dX1_close_67 : decode cX1_close 67 = .ok (.iload_n 3, 1) := dk_29 (dk_at dksX1_close_2 23 rfl rfl)
theorem dX1_close_68 : decode cX1_close 68 = .ok (.invokevirtual 459, 3) := dk_182 1 203 (dk_at dksX1_close_3 0 rfl rfl)
theorem dX1_close_71 : decode cX1_close 71 = .ok (.lsub, 1) := dk_101 (dk_at dksX1_close_3 3 rfl rfl)
theorem dX1_close_72 : decode cX1_close 72 = .ok (.lstore 5, 2) := dk_55 5 (dk_at dksX1_close_3 4 rfl rfl)
theorem dX1_close_74 : decode cX1_close 74 = .ok (.lload 5, 2) := dk_22 5 (dk_at dksX1_close_3 6 rfl rfl)
theorem dX1_close_76 : decode cX1_close 76 = .ok (.lconst 0, 1) := dk_9 (dk_at dksX1_close_3 8 rfl rfl)
theorem dX1_close_77 : decode cX1_close 77 = .ok (.lcmp, 1) := dk_148 (dk_at dksX1_close_3 9 rfl rfl)
theorem dX1_close_78 : decode cX1_close 78 = .ok (.ifCond .le 27, 3) := dk_158 0 27 (dk_at dksX1_close_3 10 rfl rfl)
theorem dX1_close_81 : decode cX1_close 81 = .ok (.aload_n 0, 1) := dk_42 (dk_at dksX1_close_3 13 rfl rfl)
theorem dX1_close_82 : decode cX1_close 82 = .ok (.getfield 140, 3) := dk_180 0 140 (dk_at dksX1_close_3 14 rfl rfl)
theorem dX1_close_85 : decode cX1_close 85 = .ok (.new 222, 3) := dk_187 0 222 (dk_at dksX1_close_3 17 rfl rfl)
theorem dX1_close_88 : decode cX1_close 88 = .ok (.dup, 1) := dk_89 (dk_at dksX1_close_3 20 rfl rfl)
theorem dX1_close_89 : decode cX1_close 89 = .ok (.iload_n 3, 1) := dk_29 (dk_at dksX1_close_3 21 rfl rfl)
theorem dX1_close_90 : decode cX1_close 90 = .ok (.aload_n 0, 1) := dk_42 (dk_at dksX1_close_3 22 rfl rfl)
theorem dX1_close_91 : decode cX1_close 91 = .ok (.getfield 444, 3) := dk_180 1 188 (dk_at dksX1_close_4 0 rfl rfl)
theorem dX1_close_94 : decode cX1_close 94 = .ok (.lload 5, 2) := dk_22 5 (dk_at dksX1_close_4 3 rfl rfl)
theorem dX1_close_96 : decode cX1_close 96 = .ok (.invokespecial 462, 3) := dk_183 1 206 (dk_at dksX1_close_4 5 rfl rfl)
theorem dX1_close_99 : decode cX1_close 99 = .ok (.invokeinterface 97 2, 5) := by decide +kernel
theorem dX1_close_104 : decode cX1_close 104 = .ok (.pop, 1) := dk_87 (dk_at dksX1_close_4 13 rfl rfl)
theorem dX1_close_105 : decode cX1_close 105 = .ok (.iconst 0, 1) := dk_3 (dk_at dksX1_close_4 14 rfl rfl)
theorem dX1_close_106 : decode cX1_close 106 = .ok (.istore 7, 2) := dk_54 7 (dk_at dksX1_close_4 15 rfl rfl)
theorem dX1_close_108 : decode cX1_close 108 = .ok (.iload 7, 2) := dk_21 7 (dk_at dksX1_close_4 17 rfl rfl)
theorem dX1_close_110 : decode cX1_close 110 = .ok (.aload_n 0, 1) := dk_42 (dk_at dksX1_close_4 19 rfl rfl)
theorem dX1_close_111 : decode cX1_close 111 = .ok (.getfield 444, 3) := dk_180 1 188 (dk_at dksX1_close_4 20 rfl rfl)
theorem dX1_close_114 : decode cX1_close 114 = .ok (.if_icmp .gt 74, 3) := dk_163 0 74 (dk_at dksX1_close_5 0 rfl rfl)
theorem dX1_close_117 : decode cX1_close 117 = .ok (.iconst 0, 1) := dk_3 (dk_at dksX1_close_5 3 rfl rfl)
theorem dX1_close_118 : decode cX1_close 118 = .ok (.istore 8, 2) := dk_54 8 (dk_at dksX1_close_5 4 rfl rfl)
theorem dX1_close_120 : decode cX1_close 120 = .ok (.iload 8, 2) := dk_21 8 (dk_at dksX1_close_5 6 rfl rfl)
theorem dX1_close_122 : decode cX1_close 122 = .ok (.iconst 3, 1) := dk_6 (dk_at dksX1_close_5 8 rfl rfl)
theorem dX1_close_123 : decode cX1_close 123 = .ok (.if_icmp .ge 59, 3) := dk_162 0 59 (dk_at dksX1_close_5 9 rfl rfl)
theorem dX1_close_126 : decode cX1_close 126 = .ok (.aload_n 2, 1) := dk_44 (dk_at dksX1_close_5 12 rfl rfl)
theorem dX1_close_127 : decode cX1_close 127 = .ok (.iload 8, 2) := dk_21 8 (dk_at dksX1_close_5 13 rfl rfl)
theorem dX1_close_129 : decode cX1_close 129 = .ok (.aaload, 1) := dk_50 (dk_at dksX1_close_5 15 rfl rfl)
theorem dX1_close_130 : decode cX1_close 130 = .ok (.iload 7, 2) := dk_21 7 (dk_at dksX1_close_5 16 rfl rfl)
theorem dX1_close_132 : decode cX1_close 132 = .ok (.aaload, 1) := dk_50 (dk_at dksX1_close_5 18 rfl rfl)
theorem dX1_close_133 : decode cX1_close 133 = .ok (.iconst 0, 1) := dk_3 (dk_at dksX1_close_5 19 rfl rfl)
theorem dX1_close_134 : decode cX1_close 134 = .ok (.dup2, 1) := dk_92 (dk_at dksX1_close_5 20 rfl rfl)
theorem dX1_close_135 : decode cX1_close 135 = .ok (.laload, 1) := dk_47 (dk_at dksX1_close_5 21 rfl rfl)
theorem dX1_close_136 : decode cX1_close 136 = .ok (.aload 4, 2) := dk_25 4 (dk_at dksX1_close_5 22 rfl rfl)
theorem dX1_close_138 : decode cX1_close 138 = .ok (.getfield 391, 3) := dk_180 1 135 (dk_at dksX1_close_6 0 rfl rfl)
theorem dX1_close_141 : decode cX1_close 141 = .ok (.iload 7, 2) := dk_21 7 (dk_at dksX1_close_6 3 rfl rfl)
theorem dX1_close_143 : decode cX1_close 143 = .ok (.iconst 3, 1) := dk_6 (dk_at dksX1_close_6 5 rfl rfl)
theorem dX1_close_144 : decode cX1_close 144 = .ok (.imul, 1) := dk_104 (dk_at dksX1_close_6 6 rfl rfl)
theorem dX1_close_145 : decode cX1_close 145 = .ok (.iload 8, 2) := dk_21 8 (dk_at dksX1_close_6 7 rfl rfl)
theorem dX1_close_147 : decode cX1_close 147 = .ok (.iadd, 1) := dk_96 (dk_at dksX1_close_6 9 rfl rfl)
theorem dX1_close_148 : decode cX1_close 148 = .ok (.laload, 1) := dk_47 (dk_at dksX1_close_6 10 rfl rfl)
theorem dX1_close_149 : decode cX1_close 149 = .ok (.ladd, 1) := dk_97 (dk_at dksX1_close_6 11 rfl rfl)
theorem dX1_close_150 : decode cX1_close 150 = .ok (.lastore, 1) := dk_80 (dk_at dksX1_close_6 12 rfl rfl)
theorem dX1_close_151 : decode cX1_close 151 = .ok (.aload_n 2, 1) := dk_44 (dk_at dksX1_close_6 13 rfl rfl)
theorem dX1_close_152 : decode cX1_close 152 = .ok (.iload 8, 2) := dk_21 8 (dk_at dksX1_close_6 14 rfl rfl)
theorem dX1_close_154 : decode cX1_close 154 = .ok (.aaload, 1) := dk_50 (dk_at dksX1_close_6 16 rfl rfl)
theorem dX1_close_155 : decode cX1_close 155 = .ok (.iload 7, 2) := dk_21 7 (dk_at dksX1_close_6 17 rfl rfl)
theorem dX1_close_157 : decode cX1_close 157 = .ok (.aaload, 1) := dk_50 (dk_at dksX1_close_6 19 rfl rfl)
theorem dX1_close_158 : decode cX1_close 158 = .ok (.iconst 1, 1) := dk_4 (dk_at dksX1_close_6 20 rfl rfl)
theorem dX1_close_159 : decode cX1_close 159 = .ok (.dup2, 1) := dk_92 (dk_at dksX1_close_6 21 rfl rfl)
theorem dX1_close_160 : decode cX1_close 160 = .ok (.laload, 1) := dk_47 (dk_at dksX1_close_6 22 rfl rfl)
theorem dX1_close_161 : decode cX1_close 161 = .ok (.aload 4, 2) := dk_25 4 (dk_at dksX1_close_7 0 rfl rfl)
theorem dX1_close_163 : decode cX1_close 163 = .ok (.getfield 397, 3) := dk_180 1 141 (dk_at dksX1_close_7 2 rfl rfl)
theorem dX1_close_166 : decode cX1_close 166 = .ok (.iload 7, 2) := dk_21 7 (dk_at dksX1_close_7 5 rfl rfl)
theorem dX1_close_168 : decode cX1_close 168 = .ok (.iconst 3, 1) := dk_6 (dk_at dksX1_close_7 7 rfl rfl)
theorem dX1_close_169 : decode cX1_close 169 = .ok (.imul, 1) := dk_104 (dk_at dksX1_close_7 8 rfl rfl)
theorem dX1_close_170 : decode cX1_close 170 = .ok (.iload 8, 2) := dk_21 8 (dk_at dksX1_close_7 9 rfl rfl)
theorem dX1_close_172 : decode cX1_close 172 = .ok (.iadd, 1) := dk_96 (dk_at dksX1_close_7 11 rfl rfl)
theorem dX1_close_173 : decode cX1_close 173 = .ok (.laload, 1) := dk_47 (dk_at dksX1_close_7 12 rfl rfl)
theorem dX1_close_174 : decode cX1_close 174 = .ok (.ladd, 1) := dk_97 (dk_at dksX1_close_7 13 rfl rfl)
theorem dX1_close_175 : decode cX1_close 175 = .ok (.lastore, 1) := dk_80 (dk_at dksX1_close_7 14 rfl rfl)
theorem dX1_close_176 : decode cX1_close 176 = .ok (.iinc 8 1, 3) := dk_132 8 1 (dk_at dksX1_close_7 15 rfl rfl)
theorem dX1_close_179 : decode cX1_close 179 = .ok (.goto (-59), 3) := dk_167 255 197 (dk_at dksX1_close_7 18 rfl rfl)
theorem dX1_close_182 : decode cX1_close 182 = .ok (.iinc 7 1, 3) := dk_132 7 1 (dk_at dksX1_close_7 21 rfl rfl)
theorem dX1_close_185 : decode cX1_close 185 = .ok (.goto (-77), 3) := dk_167 255 179 (dk_at dksX1_close_8 0 rfl rfl)
theorem dX1_close_188 : decode cX1_close 188 = .ok (.iinc 3 1, 3) := dk_132 3 1 (dk_at dksX1_close_8 3 rfl rfl)
theorem dX1_close_191 : decode cX1_close 191 = .ok (.goto (-153), 3) := dk_167 255 103 (dk_at dksX1_close_8 6 rfl rfl)
theorem dX1_close_194 : decode cX1_close 194 = .ok (.iconst 0, 1) := dk_3 (dk_at dksX1_close_8 9 rfl rfl)
theorem dX1_close_195 : decode cX1_close 195 = .ok (.istore_n 3, 1) := dk_62 (dk_at dksX1_close_8 10 rfl rfl)
theorem dX1_close_196 : decode cX1_close 196 = .ok (.iload_n 3, 1) := dk_29 (dk_at dksX1_close_8 11 rfl rfl)
theorem dX1_close_197 : decode cX1_close 197 = .ok (.iconst 3, 1) := dk_6 (dk_at dksX1_close_8 12 rfl rfl)
theorem dX1_close_198 : decode cX1_close 198 = .ok (.if_icmp .ge 123, 3) := dk_162 0 123 (dk_at dksX1_close_8 13 rfl rfl)
theorem dX1_close_201 : decode cX1_close 201 = .ok (.iconst 0, 1) := dk_3 (dk_at dksX1_close_8 16 rfl rfl)
theorem dX1_close_202 : decode cX1_close 202 = .ok (.istore 4, 2) := dk_54 4 (dk_at dksX1_close_8 17 rfl rfl)
theorem dX1_close_204 : decode cX1_close 204 = .ok (.iload 4, 2) := dk_21 4 (dk_at dksX1_close_8 19 rfl rfl)
theorem dX1_close_206 : decode cX1_close 206 = .ok (.aload_n 0, 1) := dk_42 (dk_at dksX1_close_8 21 rfl rfl)
theorem dX1_close_207 : decode cX1_close 207 = .ok (.getfield 444, 3) := dk_180 1 188 (dk_at dksX1_close_9 0 rfl rfl)
theorem dX1_close_210 : decode cX1_close 210 = .ok (.if_icmp .gt 105, 3) := dk_163 0 105 (dk_at dksX1_close_9 3 rfl rfl)
theorem dX1_close_213 : decode cX1_close 213 = .ok (.aload_n 0, 1) := dk_42 (dk_at dksX1_close_9 6 rfl rfl)
theorem dX1_close_214 : decode cX1_close 214 = .ok (.getfield 145, 3) := dk_180 0 145 (dk_at dksX1_close_9 7 rfl rfl)
theorem dX1_close_217 : decode cX1_close 217 = .ok (.iload_n 3, 1) := dk_29 (dk_at dksX1_close_9 10 rfl rfl)
theorem dX1_close_218 : decode cX1_close 218 = .ok (.aaload, 1) := dk_50 (dk_at dksX1_close_9 11 rfl rfl)
theorem dX1_close_219 : decode cX1_close 219 = .ok (.iload 4, 2) := dk_21 4 (dk_at dksX1_close_9 12 rfl rfl)
theorem dX1_close_221 : decode cX1_close 221 = .ok (.aaload, 1) := dk_50 (dk_at dksX1_close_9 14 rfl rfl)
theorem dX1_close_222 : decode cX1_close 222 = .ok (.astore 5, 2) := dk_58 5 (dk_at dksX1_close_9 15 rfl rfl)
theorem dX1_close_224 : decode cX1_close 224 = .ok (.aload 5, 2) := dk_25 5 (dk_at dksX1_close_9 17 rfl rfl)
theorem dX1_close_226 : decode cX1_close 226 = .ok (.iconst 0, 1) := dk_3 (dk_at dksX1_close_9 19 rfl rfl)
theorem dX1_close_227 : decode cX1_close 227 = .ok (.laload, 1) := dk_47 (dk_at dksX1_close_9 20 rfl rfl)
theorem dX1_close_228 : decode cX1_close 228 = .ok (.aload_n 2, 1) := dk_44 (dk_at dksX1_close_9 21 rfl rfl)
theorem dX1_close_229 : decode cX1_close 229 = .ok (.iload_n 3, 1) := dk_29 (dk_at dksX1_close_9 22 rfl rfl)
theorem dX1_close_230 : decode cX1_close 230 = .ok (.aaload, 1) := dk_50 (dk_at dksX1_close_9 23 rfl rfl)
theorem dX1_close_231 : decode cX1_close 231 = .ok (.iload 4, 2) := dk_21 4 (dk_at dksX1_close_10 0 rfl rfl)
theorem dX1_close_233 : decode cX1_close 233 = .ok (.aaload, 1) := dk_50 (dk_at dksX1_close_10 2 rfl rfl)
theorem dX1_close_234 : decode cX1_close 234 = .ok (.iconst 0, 1) := dk_3 (dk_at dksX1_close_10 3 rfl rfl)
theorem dX1_close_235 : decode cX1_close 235 = .ok (.laload, 1) := dk_47 (dk_at dksX1_close_10 4 rfl rfl)
theorem dX1_close_236 : decode cX1_close 236 = .ok (.lcmp, 1) := dk_148 (dk_at dksX1_close_10 5 rfl rfl)
theorem dX1_close_237 : decode cX1_close 237 = .ok (.ifCond .ne 19, 3) := dk_154 0 19 (dk_at dksX1_close_10 6 rfl rfl)
theorem dX1_close_240 : decode cX1_close 240 = .ok (.aload 5, 2) := dk_25 5 (dk_at dksX1_close_10 9 rfl rfl)
theorem dX1_close_242 : decode cX1_close 242 = .ok (.iconst 1, 1) := dk_4 (dk_at dksX1_close_10 11 rfl rfl)
theorem dX1_close_243 : decode cX1_close 243 = .ok (.laload, 1) := dk_47 (dk_at dksX1_close_10 12 rfl rfl)
theorem dX1_close_244 : decode cX1_close 244 = .ok (.aload_n 2, 1) := dk_44 (dk_at dksX1_close_10 13 rfl rfl)
theorem dX1_close_245 : decode cX1_close 245 = .ok (.iload_n 3, 1) := dk_29 (dk_at dksX1_close_10 14 rfl rfl)
theorem dX1_close_246 : decode cX1_close 246 = .ok (.aaload, 1) := dk_50 (dk_at dksX1_close_10 15 rfl rfl)
theorem dX1_close_247 : decode cX1_close 247 = .ok (.iload 4, 2) := dk_21 4 (dk_at dksX1_close_10 16 rfl rfl)
theorem dX1_close_249 : decode cX1_close 249 = .ok (.aaload, 1) := dk_50 (dk_at dksX1_close_10 18 rfl rfl)
theorem dX1_close_250 : decode cX1_close 250 = .ok (.iconst 1, 1) := dk_4 (dk_at dksX1_close_10 19 rfl rfl)
theorem dX1_close_251 : decode cX1_close 251 = .ok (.laload, 1) := dk_47 (dk_at dksX1_close_10 20 rfl rfl)
theorem dX1_close_252 : decode cX1_close 252 = .ok (.lcmp, 1) := dk_148 (dk_at dksX1_close_10 21 rfl rfl)
theorem dX1_close_253 : decode cX1_close 253 = .ok (.ifCond .eq 7, 3) := dk_153 0 7 (dk_at dksX1_close_11 0 rfl rfl)
theorem dX1_close_256 : decode cX1_close 256 = .ok (.iconst 1, 1) := dk_4 (dk_at dksX1_close_11 3 rfl rfl)
theorem dX1_close_257 : decode cX1_close 257 = .ok (.goto 4, 3) := dk_167 0 4 (dk_at dksX1_close_11 4 rfl rfl)
theorem dX1_close_260 : decode cX1_close 260 = .ok (.iconst 0, 1) := dk_3 (dk_at dksX1_close_11 7 rfl rfl)
theorem dX1_close_261 : decode cX1_close 261 = .ok (.istore 6, 2) := dk_54 6 (dk_at dksX1_close_11 8 rfl rfl)
theorem dX1_close_263 : decode cX1_close 263 = .ok (.aload_n 0, 1) := dk_42 (dk_at dksX1_close_11 10 rfl rfl)
theorem dX1_close_264 : decode cX1_close 264 = .ok (.getfield 150, 3) := dk_180 0 150 (dk_at dksX1_close_11 11 rfl rfl)
theorem dX1_close_267 : decode cX1_close 267 = .ok (.iload_n 3, 1) := dk_29 (dk_at dksX1_close_11 14 rfl rfl)
theorem dX1_close_268 : decode cX1_close 268 = .ok (.aaload, 1) := dk_50 (dk_at dksX1_close_11 15 rfl rfl)
theorem dX1_close_269 : decode cX1_close 269 = .ok (.iload 4, 2) := dk_21 4 (dk_at dksX1_close_11 16 rfl rfl)
theorem dX1_close_271 : decode cX1_close 271 = .ok (.dup2, 1) := dk_92 (dk_at dksX1_close_11 18 rfl rfl)
theorem dX1_close_272 : decode cX1_close 272 = .ok (.iaload, 1) := dk_46 (dk_at dksX1_close_11 19 rfl rfl)
theorem dX1_close_273 : decode cX1_close 273 = .ok (.iload 4, 2) := dk_21 4 (dk_at dksX1_close_11 20 rfl rfl)
theorem dX1_close_275 : decode cX1_close 275 = .ok (.aload_n 0, 1) := dk_42 (dk_at dksX1_close_11 22 rfl rfl)
theorem dX1_close_276 : decode cX1_close 276 = .ok (.getfield 444, 3) := dk_180 1 188 (dk_at dksX1_close_12 0 rfl rfl)
theorem dX1_close_279 : decode cX1_close 279 = .ok (.if_icmp .ge 12, 3) := dk_162 0 12 (dk_at dksX1_close_12 3 rfl rfl)
theorem dX1_close_282 : decode cX1_close 282 = .ok (.iload 6, 2) := dk_21 6 (dk_at dksX1_close_12 6 rfl rfl)
theorem dX1_close_284 : decode cX1_close 284 = .ok (.ifCond .eq 7, 3) := dk_153 0 7 (dk_at dksX1_close_12 8 rfl rfl)
theorem dX1_close_287 : decode cX1_close 287 = .ok (.iconst 1, 1) := dk_4 (dk_at dksX1_close_12 11 rfl rfl)
theorem dX1_close_288 : decode cX1_close 288 = .ok (.goto 4, 3) := dk_167 0 4 (dk_at dksX1_close_12 12 rfl rfl)
theorem dX1_close_291 : decode cX1_close 291 = .ok (.iconst 0, 1) := dk_3 (dk_at dksX1_close_12 15 rfl rfl)
theorem dX1_close_292 : decode cX1_close 292 = .ok (.iadd, 1) := dk_96 (dk_at dksX1_close_12 16 rfl rfl)
theorem dX1_close_293 : decode cX1_close 293 = .ok (.iastore, 1) := dk_79 (dk_at dksX1_close_12 17 rfl rfl)
theorem dX1_close_294 : decode cX1_close 294 = .ok (.aload_n 0, 1) := dk_42 (dk_at dksX1_close_12 18 rfl rfl)
theorem dX1_close_295 : decode cX1_close 295 = .ok (.getfield 145, 3) := dk_180 0 145 (dk_at dksX1_close_12 19 rfl rfl)
theorem dX1_close_298 : decode cX1_close 298 = .ok (.iload_n 3, 1) := dk_29 (dk_at dksX1_close_12 22 rfl rfl)
theorem dX1_close_299 : decode cX1_close 299 = .ok (.aaload, 1) := dk_50 (dk_at dksX1_close_12 23 rfl rfl)
theorem dX1_close_300 : decode cX1_close 300 = .ok (.iload 4, 2) := dk_21 4 (dk_at dksX1_close_13 0 rfl rfl)
theorem dX1_close_302 : decode cX1_close 302 = .ok (.aload_n 2, 1) := dk_44 (dk_at dksX1_close_13 2 rfl rfl)
theorem dX1_close_303 : decode cX1_close 303 = .ok (.iload_n 3, 1) := dk_29 (dk_at dksX1_close_13 3 rfl rfl)
theorem dX1_close_304 : decode cX1_close 304 = .ok (.aaload, 1) := dk_50 (dk_at dksX1_close_13 4 rfl rfl)
theorem dX1_close_305 : decode cX1_close 305 = .ok (.iload 4, 2) := dk_21 4 (dk_at dksX1_close_13 5 rfl rfl)
theorem dX1_close_307 : decode cX1_close 307 = .ok (.aaload, 1) := dk_50 (dk_at dksX1_close_13 7 rfl rfl)
theorem dX1_close_308 : decode cX1_close 308 = .ok (.aastore, 1) := dk_83 (dk_at dksX1_close_13 8 rfl rfl)
theorem dX1_close_309 : decode cX1_close 309 = .ok (.iinc 4 1, 3) := dk_132 4 1 (dk_at dksX1_close_13 9 rfl rfl)
theorem dX1_close_312 : decode cX1_close 312 = .ok (.goto (-108), 3) := dk_167 255 148 (dk_at dksX1_close_13 12 rfl rfl)
theorem dX1_close_315 : decode cX1_close 315 = .ok (.iinc 3 1, 3) := dk_132 3 1 (dk_at dksX1_close_13 15 rfl rfl)
theorem dX1_close_318 : decode cX1_close 318 = .ok (.goto (-122), 3) := dk_167 255 134 (dk_at dksX1_close_13 18 rfl rfl)
theorem dX1_close_321 : decode cX1_close 321 = .ok (.aload_n 0, 1) := dk_42 (dk_at dksX1_close_13 21 rfl rfl)
theorem dX1_close_322 : decode cX1_close 322 = .ok (.dup, 1) := dk_89 (dk_at dksX1_close_13 22 rfl rfl)
theorem dX1_close_323 : decode cX1_close 323 = .ok (.getfield 444, 3) := dk_180 1 188 (dk_at dksX1_close_14 0 rfl rfl)
theorem dX1_close_326 : decode cX1_close 326 = .ok (.iconst 1, 1) := dk_4 (dk_at dksX1_close_14 3 rfl rfl)
theorem dX1_close_327 : decode cX1_close 327 = .ok (.iadd, 1) := dk_96 (dk_at dksX1_close_14 4 rfl rfl)
theorem dX1_close_328 : decode cX1_close 328 = .ok (.putfield 444, 3) := dk_181 1 188 (dk_at dksX1_close_14 5 rfl rfl)
theorem dX1_close_331 : decode cX1_close 331 = .ok (.aload_n 0, 1) := dk_42 (dk_at dksX1_close_14 8 rfl rfl)
theorem dX1_close_332 : decode cX1_close 332 = .ok (.getfield 140, 3) := dk_180 0 140 (dk_at dksX1_close_14 9 rfl rfl)
theorem dX1_close_335 : decode cX1_close 335 = .ok (.invokeinterface 62 1, 5) := by decide +kernel
theorem dX1_close_340 : decode cX1_close 340 = .ok (.iload_n 1, 1) := dk_27 (dk_at dksX1_close_14 17 rfl rfl)
theorem dX1_close_341 : decode cX1_close 341 = .ok (.isub, 1) := dk_100 (dk_at dksX1_close_14 18 rfl rfl)
theorem dX1_close_342 : decode cX1_close 342 = .ok (.ireturn, 1) := dk_172 (dk_at dksX1_close_14 19 rfl rfl)
def dkwX1_paidTo_2 : List UInt8 := [180, 0, 227, 154, 0, 11, 25, 5, 180, 0, 230, 167, 0, 4, 9, 97, 65, 167, 255, 205, 32, 173]
abbrev dktX1_paidTo_2 : List UInt8 := dkwX1_paidTo_2 ++ []
def dkwX1_paidTo_1 : List UInt8 := [25, 4, 185, 0, 219, 1, 0, 192, 0, 222, 58, 5, 32, 25, 5, 180, 0, 224, 27, 160, 0, 19, 25, 5]
abbrev dktX1_paidTo_1 : List UInt8 := dkwX1_paidTo_1 ++ dktX1_paidTo_2
def dkwX1_paidTo_0 : List UInt8 := [9, 65, 42, 180, 0, 140, 185, 0, 210, 1, 0, 58, 4, 25, 4, 185, 0, 214, 1, 0, 153, 0, 47]
abbrev dktX1_paidTo_0 : List UInt8 := dkwX1_paidTo_0 ++ dktX1_paidTo_1
theorem dksX1_paidTo_0 : cX1_paidTo.data.toList.drop 0 = dktX1_paidTo_0 := by decide +kernel
theorem dksX1_paidTo_1 : cX1_paidTo.data.toList.drop 23 = dktX1_paidTo_1 := dk_seg dksX1_paidTo_0 23 rfl rfl
theorem dksX1_paidTo_2 : cX1_paidTo.data.toList.drop 47 = dktX1_paidTo_2 := dk_seg dksX1_paidTo_1 24 rfl rfl
theorem dX1_paidTo_0 : decode cX1_paidTo 0 = .ok (.lconst 0, 1) := dk_9 (dk_at dksX1_paidTo_0 0 rfl rfl)
theorem dX1_paidTo_1 : decode cX1_paidTo 1 = .ok (.lstore_n 2, 1) := dk_65 (dk_at dksX1_paidTo_0 1 rfl rfl)
theorem dX1_paidTo_2 : decode cX1_paidTo 2 = .ok (.aload_n 0, 1) := dk_42 (dk_at dksX1_paidTo_0 2 rfl rfl)
theorem dX1_paidTo_3 : decode cX1_paidTo 3 = .ok (.getfield 140, 3) := dk_180 0 140 (dk_at dksX1_paidTo_0 3 rfl rfl)
theorem dX1_paidTo_6 : decode cX1_paidTo 6 = .ok (.invokeinterface 210 1, 5) := by decide +kernel
theorem dX1_paidTo_11 : decode cX1_paidTo 11 = .ok (.astore 4, 2) := dk_58 4 (dk_at dksX1_paidTo_0 11 rfl rfl)
theorem dX1_paidTo_13 : decode cX1_paidTo 13 = .ok (.aload 4, 2) := dk_25 4 (dk_at dksX1_paidTo_0 13 rfl rfl)
theorem dX1_paidTo_15 : decode cX1_paidTo 15 = .ok (.invokeinterface 214 1, 5) := by decide +kernel
theorem dX1_paidTo_20 : decode cX1_paidTo 20 = .ok (.ifCond .eq 47, 3) := dk_153 0 47 (dk_at dksX1_paidTo_0 20 rfl rfl)
theorem dX1_paidTo_23 : decode cX1_paidTo 23 = .ok (.aload 4, 2) := dk_25 4 (dk_at dksX1_paidTo_1 0 rfl rfl)
theorem dX1_paidTo_25 : decode cX1_paidTo 25 = .ok (.invokeinterface 219 1, 5) := by decide +kernel
theorem dX1_paidTo_30 : decode cX1_paidTo 30 = .ok (.checkcast 222, 3) := dk_192 0 222 (dk_at dksX1_paidTo_1 7 rfl rfl)
theorem dX1_paidTo_33 : decode cX1_paidTo 33 = .ok (.astore 5, 2) := dk_58 5 (dk_at dksX1_paidTo_1 10 rfl rfl)
theorem dX1_paidTo_35 : decode cX1_paidTo 35 = .ok (.lload_n 2, 1) := dk_32 (dk_at dksX1_paidTo_1 12 rfl rfl)
theorem dX1_paidTo_36 : decode cX1_paidTo 36 = .ok (.aload 5, 2) := dk_25 5 (dk_at dksX1_paidTo_1 13 rfl rfl)
theorem dX1_paidTo_38 : decode cX1_paidTo 38 = .ok (.getfield 224, 3) := dk_180 0 224 (dk_at dksX1_paidTo_1 15 rfl rfl)
theorem dX1_paidTo_41 : decode cX1_paidTo 41 = .ok (.iload_n 1, 1) := dk_27 (dk_at dksX1_paidTo_1 18 rfl rfl)
theorem dX1_paidTo_42 : decode cX1_paidTo 42 = .ok (.if_icmp .ne 19, 3) := dk_160 0 19 (dk_at dksX1_paidTo_1 19 rfl rfl)
theorem dX1_paidTo_45 : decode cX1_paidTo 45 = .ok (.aload 5, 2) := dk_25 5 (dk_at dksX1_paidTo_1 22 rfl rfl)
theorem dX1_paidTo_47 : decode cX1_paidTo 47 = .ok (.getfield 227, 3) := dk_180 0 227 (dk_at dksX1_paidTo_2 0 rfl rfl)
theorem dX1_paidTo_50 : decode cX1_paidTo 50 = .ok (.ifCond .ne 11, 3) := dk_154 0 11 (dk_at dksX1_paidTo_2 3 rfl rfl)
theorem dX1_paidTo_53 : decode cX1_paidTo 53 = .ok (.aload 5, 2) := dk_25 5 (dk_at dksX1_paidTo_2 6 rfl rfl)
theorem dX1_paidTo_55 : decode cX1_paidTo 55 = .ok (.getfield 230, 3) := dk_180 0 230 (dk_at dksX1_paidTo_2 8 rfl rfl)
theorem dX1_paidTo_58 : decode cX1_paidTo 58 = .ok (.goto 4, 3) := dk_167 0 4 (dk_at dksX1_paidTo_2 11 rfl rfl)
theorem dX1_paidTo_61 : decode cX1_paidTo 61 = .ok (.lconst 0, 1) := dk_9 (dk_at dksX1_paidTo_2 14 rfl rfl)
theorem dX1_paidTo_62 : decode cX1_paidTo 62 = .ok (.ladd, 1) := dk_97 (dk_at dksX1_paidTo_2 15 rfl rfl)
theorem dX1_paidTo_63 : decode cX1_paidTo 63 = .ok (.lstore_n 2, 1) := dk_65 (dk_at dksX1_paidTo_2 16 rfl rfl)
theorem dX1_paidTo_64 : decode cX1_paidTo 64 = .ok (.goto (-51), 3) := dk_167 255 205 (dk_at dksX1_paidTo_2 17 rfl rfl)
theorem dX1_paidTo_67 : decode cX1_paidTo 67 = .ok (.lload_n 2, 1) := dk_32 (dk_at dksX1_paidTo_2 20 rfl rfl)
theorem dX1_paidTo_68 : decode cX1_paidTo 68 = .ok (.lreturn, 1) := dk_173 (dk_at dksX1_paidTo_2 21 rfl rfl)
def dkwX1_payment_4 : List UInt8 := [10, 167, 0, 4, 9, 173]
abbrev dktX1_payment_4 : List UInt8 := dkwX1_payment_4 ++ []
def dkwX1_payment_3 : List UInt8 := [45, 180, 0, 224, 133, 173, 45, 180, 1, 209, 133, 173, 45, 180, 0, 230, 173, 45, 180, 0, 227, 153, 0, 7]
abbrev dktX1_payment_3 : List UInt8 := dkwX1_payment_3 ++ dktX1_payment_4
def dkwX1_payment_2 : List UInt8 := [170, 0, 0, 0, 0, 0, 0, 45, 0, 0, 0, 0, 0, 0, 0, 2, 0, 0, 0, 28, 0, 0, 0, 34, 0, 0, 0, 40]
abbrev dktX1_payment_2 : List UInt8 := dkwX1_payment_2 ++ dktX1_payment_3
def dkwX1_payment_1 : List UInt8 := [192, 0, 222, 78, 28, 3, 6, 184, 1, 7]
abbrev dktX1_payment_1 : List UInt8 := dkwX1_payment_1 ++ dktX1_payment_2
def dkwX1_payment_0 : List UInt8 := [42, 180, 0, 140, 27, 42, 180, 0, 140, 185, 0, 62, 1, 0, 184, 0, 251, 185, 0, 67, 2, 0]
abbrev dktX1_payment_0 : List UInt8 := dkwX1_payment_0 ++ dktX1_payment_1
theorem dksX1_payment_0 : cX1_payment.data.toList.drop 0 = dktX1_payment_0 := by decide +kernel
theorem dksX1_payment_1 : cX1_payment.data.toList.drop 22 = dktX1_payment_1 := dk_seg dksX1_payment_0 22 rfl rfl
theorem dksX1_payment_2 : cX1_payment.data.toList.drop 32 = dktX1_payment_2 := dk_seg dksX1_payment_1 10 rfl rfl
theorem dksX1_payment_3 : cX1_payment.data.toList.drop 60 = dktX1_payment_3 := dk_seg dksX1_payment_2 28 rfl rfl
theorem dksX1_payment_4 : cX1_payment.data.toList.drop 84 = dktX1_payment_4 := dk_seg dksX1_payment_3 24 rfl rfl
theorem dX1_payment_0 : decode cX1_payment 0 = .ok (.aload_n 0, 1) := dk_42 (dk_at dksX1_payment_0 0 rfl rfl)
theorem dX1_payment_1 : decode cX1_payment 1 = .ok (.getfield 140, 3) := dk_180 0 140 (dk_at dksX1_payment_0 1 rfl rfl)
theorem dX1_payment_4 : decode cX1_payment 4 = .ok (.iload_n 1, 1) := dk_27 (dk_at dksX1_payment_0 4 rfl rfl)
theorem dX1_payment_5 : decode cX1_payment 5 = .ok (.aload_n 0, 1) := dk_42 (dk_at dksX1_payment_0 5 rfl rfl)
theorem dX1_payment_6 : decode cX1_payment 6 = .ok (.getfield 140, 3) := dk_180 0 140 (dk_at dksX1_payment_0 6 rfl rfl)
theorem dX1_payment_9 : decode cX1_payment 9 = .ok (.invokeinterface 62 1, 5) := by decide +kernel
theorem dX1_payment_14 : decode cX1_payment 14 = .ok (.invokestatic 251, 3) := dk_184 0 251 (dk_at dksX1_payment_0 14 rfl rfl)
theorem dX1_payment_17 : decode cX1_payment 17 = .ok (.invokeinterface 67 2, 5) := by decide +kernel
theorem dX1_payment_22 : decode cX1_payment 22 = .ok (.checkcast 222, 3) := dk_192 0 222 (dk_at dksX1_payment_1 0 rfl rfl)
theorem dX1_payment_25 : decode cX1_payment 25 = .ok (.astore_n 3, 1) := dk_78 (dk_at dksX1_payment_1 3 rfl rfl)
theorem dX1_payment_26 : decode cX1_payment 26 = .ok (.iload_n 2, 1) := dk_28 (dk_at dksX1_payment_1 4 rfl rfl)
theorem dX1_payment_27 : decode cX1_payment 27 = .ok (.iconst 0, 1) := dk_3 (dk_at dksX1_payment_1 5 rfl rfl)
theorem dX1_payment_28 : decode cX1_payment 28 = .ok (.iconst 3, 1) := dk_6 (dk_at dksX1_payment_1 6 rfl rfl)
theorem dX1_payment_29 : decode cX1_payment 29 = .ok (.invokestatic 263, 3) := dk_184 1 7 (dk_at dksX1_payment_1 7 rfl rfl)
theorem dX1_payment_32 : decode cX1_payment 32 = .ok (.tableswitch 45 0 2 #[28, 34, 40], 28) := by decide +kernel
theorem dX1_payment_60 : decode cX1_payment 60 = .ok (.aload_n 3, 1) := dk_45 (dk_at dksX1_payment_3 0 rfl rfl)
theorem dX1_payment_61 : decode cX1_payment 61 = .ok (.getfield 224, 3) := dk_180 0 224 (dk_at dksX1_payment_3 1 rfl rfl)
theorem dX1_payment_64 : decode cX1_payment 64 = .ok (.i2l, 1) := dk_133 (dk_at dksX1_payment_3 4 rfl rfl)
theorem dX1_payment_65 : decode cX1_payment 65 = .ok (.lreturn, 1) := dk_173 (dk_at dksX1_payment_3 5 rfl rfl)
theorem dX1_payment_66 : decode cX1_payment 66 = .ok (.aload_n 3, 1) := dk_45 (dk_at dksX1_payment_3 6 rfl rfl)
theorem dX1_payment_67 : decode cX1_payment 67 = .ok (.getfield 465, 3) := dk_180 1 209 (dk_at dksX1_payment_3 7 rfl rfl)
theorem dX1_payment_70 : decode cX1_payment 70 = .ok (.i2l, 1) := dk_133 (dk_at dksX1_payment_3 10 rfl rfl)
theorem dX1_payment_71 : decode cX1_payment 71 = .ok (.lreturn, 1) := dk_173 (dk_at dksX1_payment_3 11 rfl rfl)
theorem dX1_payment_72 : decode cX1_payment 72 = .ok (.aload_n 3, 1) := dk_45 (dk_at dksX1_payment_3 12 rfl rfl)
theorem dX1_payment_73 : decode cX1_payment 73 = .ok (.getfield 230, 3) := dk_180 0 230 (dk_at dksX1_payment_3 13 rfl rfl)
theorem dX1_payment_76 : decode cX1_payment 76 = .ok (.lreturn, 1) := dk_173 (dk_at dksX1_payment_3 16 rfl rfl)
theorem dX1_payment_77 : decode cX1_payment 77 = .ok (.aload_n 3, 1) := dk_45 (dk_at dksX1_payment_3 17 rfl rfl)
theorem dX1_payment_78 : decode cX1_payment 78 = .ok (.getfield 227, 3) := dk_180 0 227 (dk_at dksX1_payment_3 18 rfl rfl)
theorem dX1_payment_81 : decode cX1_payment 81 = .ok (.ifCond .eq 7, 3) := dk_153 0 7 (dk_at dksX1_payment_3 21 rfl rfl)
theorem dX1_payment_84 : decode cX1_payment 84 = .ok (.lconst 1, 1) := dk_10 (dk_at dksX1_payment_4 0 rfl rfl)
theorem dX1_payment_85 : decode cX1_payment 85 = .ok (.goto 4, 3) := dk_167 0 4 (dk_at dksX1_payment_4 1 rfl rfl)
theorem dX1_payment_88 : decode cX1_payment 88 = .ok (.lconst 0, 1) := dk_9 (dk_at dksX1_payment_4 4 rfl rfl)
theorem dX1_payment_89 : decode cX1_payment 89 = .ok (.lreturn, 1) := dk_173 (dk_at dksX1_payment_4 5 rfl rfl)
def dkwX1_comeBack_2 : List UInt8 := [44, 180, 0, 230, 173]
abbrev dktX1_comeBack_2 : List UInt8 := dkwX1_comeBack_2 ++ []
def dkwX1_comeBack_1 : List UInt8 := [192, 0, 222, 77, 44, 180, 0, 227, 154, 0, 7, 4, 167, 0, 4, 3, 184, 1, 12, 44, 4, 181, 0, 227]
abbrev dktX1_comeBack_1 : List UInt8 := dkwX1_comeBack_1 ++ dktX1_comeBack_2
def dkwX1_comeBack_0 : List UInt8 := [42, 180, 0, 140, 27, 42, 180, 0, 140, 185, 0, 62, 1, 0, 184, 0, 251, 185, 0, 67, 2, 0]
abbrev dktX1_comeBack_0 : List UInt8 := dkwX1_comeBack_0 ++ dktX1_comeBack_1
theorem dksX1_comeBack_0 : cX1_comeBack.data.toList.drop 0 = dktX1_comeBack_0 := by decide +kernel
theorem dksX1_comeBack_1 : cX1_comeBack.data.toList.drop 22 = dktX1_comeBack_1 := dk_seg dksX1_comeBack_0 22 rfl rfl
theorem dksX1_comeBack_2 : cX1_comeBack.data.toList.drop 46 = dktX1_comeBack_2 := dk_seg dksX1_comeBack_1 24 rfl rfl
theorem dX1_comeBack_0 : decode cX1_comeBack 0 = .ok (.aload_n 0, 1) := dk_42 (dk_at dksX1_comeBack_0 0 rfl rfl)
theorem dX1_comeBack_1 : decode cX1_comeBack 1 = .ok (.getfield 140, 3) := dk_180 0 140 (dk_at dksX1_comeBack_0 1 rfl rfl)
theorem dX1_comeBack_4 : decode cX1_comeBack 4 = .ok (.iload_n 1, 1) := dk_27 (dk_at dksX1_comeBack_0 4 rfl rfl)
theorem dX1_comeBack_5 : decode cX1_comeBack 5 = .ok (.aload_n 0, 1) := dk_42 (dk_at dksX1_comeBack_0 5 rfl rfl)
theorem dX1_comeBack_6 : decode cX1_comeBack 6 = .ok (.getfield 140, 3) := dk_180 0 140 (dk_at dksX1_comeBack_0 6 rfl rfl)
theorem dX1_comeBack_9 : decode cX1_comeBack 9 = .ok (.invokeinterface 62 1, 5) := by decide +kernel
theorem dX1_comeBack_14 : decode cX1_comeBack 14 = .ok (.invokestatic 251, 3) := dk_184 0 251 (dk_at dksX1_comeBack_0 14 rfl rfl)
theorem dX1_comeBack_17 : decode cX1_comeBack 17 = .ok (.invokeinterface 67 2, 5) := by decide +kernel
theorem dX1_comeBack_22 : decode cX1_comeBack 22 = .ok (.checkcast 222, 3) := dk_192 0 222 (dk_at dksX1_comeBack_1 0 rfl rfl)
theorem dX1_comeBack_25 : decode cX1_comeBack 25 = .ok (.astore_n 2, 1) := dk_77 (dk_at dksX1_comeBack_1 3 rfl rfl)
theorem dX1_comeBack_26 : decode cX1_comeBack 26 = .ok (.aload_n 2, 1) := dk_44 (dk_at dksX1_comeBack_1 4 rfl rfl)
theorem dX1_comeBack_27 : decode cX1_comeBack 27 = .ok (.getfield 227, 3) := dk_180 0 227 (dk_at dksX1_comeBack_1 5 rfl rfl)
theorem dX1_comeBack_30 : decode cX1_comeBack 30 = .ok (.ifCond .ne 7, 3) := dk_154 0 7 (dk_at dksX1_comeBack_1 8 rfl rfl)
theorem dX1_comeBack_33 : decode cX1_comeBack 33 = .ok (.iconst 1, 1) := dk_4 (dk_at dksX1_comeBack_1 11 rfl rfl)
theorem dX1_comeBack_34 : decode cX1_comeBack 34 = .ok (.goto 4, 3) := dk_167 0 4 (dk_at dksX1_comeBack_1 12 rfl rfl)
theorem dX1_comeBack_37 : decode cX1_comeBack 37 = .ok (.iconst 0, 1) := dk_3 (dk_at dksX1_comeBack_1 15 rfl rfl)
theorem dX1_comeBack_38 : decode cX1_comeBack 38 = .ok (.invokestatic 268, 3) := dk_184 1 12 (dk_at dksX1_comeBack_1 16 rfl rfl)
theorem dX1_comeBack_41 : decode cX1_comeBack 41 = .ok (.aload_n 2, 1) := dk_44 (dk_at dksX1_comeBack_1 19 rfl rfl)
theorem dX1_comeBack_42 : decode cX1_comeBack 42 = .ok (.iconst 1, 1) := dk_4 (dk_at dksX1_comeBack_1 20 rfl rfl)
theorem dX1_comeBack_43 : decode cX1_comeBack 43 = .ok (.putfield 227, 3) := dk_181 0 227 (dk_at dksX1_comeBack_1 21 rfl rfl)
theorem dX1_comeBack_46 : decode cX1_comeBack 46 = .ok (.aload_n 2, 1) := dk_44 (dk_at dksX1_comeBack_2 0 rfl rfl)
theorem dX1_comeBack_47 : decode cX1_comeBack 47 = .ok (.getfield 230, 3) := dk_180 0 230 (dk_at dksX1_comeBack_2 1 rfl rfl)
theorem dX1_comeBack_50 : decode cX1_comeBack 50 = .ok (.lreturn, 1) := dk_173 (dk_at dksX1_comeBack_2 4 rfl rfl)
def dkwX1_owed_1 : List UInt8 := [184, 1, 91, 182, 1, 200, 42, 27, 182, 1, 203, 101, 173]
abbrev dktX1_owed_1 : List UInt8 := dkwX1_owed_1 ++ []
def dkwX1_owed_0 : List UInt8 := [27, 16, 6, 184, 0, 251, 87, 187, 1, 125, 89, 42, 27, 183, 1, 127, 16, 24, 42, 180, 1, 188, 4, 96]
abbrev dktX1_owed_0 : List UInt8 := dkwX1_owed_0 ++ dktX1_owed_1
theorem dksX1_owed_0 : cX1_owed.data.toList.drop 0 = dktX1_owed_0 := by decide +kernel
theorem dksX1_owed_1 : cX1_owed.data.toList.drop 24 = dktX1_owed_1 := dk_seg dksX1_owed_0 24 rfl rfl
theorem dX1_owed_0 : decode cX1_owed 0 = .ok (.iload_n 1, 1) := dk_27 (dk_at dksX1_owed_0 0 rfl rfl)
theorem dX1_owed_1 : decode cX1_owed 1 = .ok (.bipush 6, 2) := dk_16 6 (dk_at dksX1_owed_0 1 rfl rfl)
theorem dX1_owed_3 : decode cX1_owed 3 = .ok (.invokestatic 251, 3) := dk_184 0 251 (dk_at dksX1_owed_0 3 rfl rfl)
theorem dX1_owed_6 : decode cX1_owed 6 = .ok (.pop, 1) := dk_87 (dk_at dksX1_owed_0 6 rfl rfl)
theorem dX1_owed_7 : decode cX1_owed 7 = .ok (.new 381, 3) := dk_187 1 125 (dk_at dksX1_owed_0 7 rfl rfl)
theorem dX1_owed_10 : decode cX1_owed 10 = .ok (.dup, 1) := dk_89 (dk_at dksX1_owed_0 10 rfl rfl)
theorem dX1_owed_11 : decode cX1_owed 11 = .ok (.aload_n 0, 1) := dk_42 (dk_at dksX1_owed_0 11 rfl rfl)
theorem dX1_owed_12 : decode cX1_owed 12 = .ok (.iload_n 1, 1) := dk_27 (dk_at dksX1_owed_0 12 rfl rfl)
theorem dX1_owed_13 : decode cX1_owed 13 = .ok (.invokespecial 383, 3) := dk_183 1 127 (dk_at dksX1_owed_0 13 rfl rfl)
theorem dX1_owed_16 : decode cX1_owed 16 = .ok (.bipush 24, 2) := dk_16 24 (dk_at dksX1_owed_0 16 rfl rfl)
theorem dX1_owed_18 : decode cX1_owed 18 = .ok (.aload_n 0, 1) := dk_42 (dk_at dksX1_owed_0 18 rfl rfl)
theorem dX1_owed_19 : decode cX1_owed 19 = .ok (.getfield 444, 3) := dk_180 1 188 (dk_at dksX1_owed_0 19 rfl rfl)
theorem dX1_owed_22 : decode cX1_owed 22 = .ok (.iconst 1, 1) := dk_4 (dk_at dksX1_owed_0 22 rfl rfl)
theorem dX1_owed_23 : decode cX1_owed 23 = .ok (.iadd, 1) := dk_96 (dk_at dksX1_owed_0 23 rfl rfl)
theorem dX1_owed_24 : decode cX1_owed 24 = .ok (.invokestatic 347, 3) := dk_184 1 91 (dk_at dksX1_owed_1 0 rfl rfl)
theorem dX1_owed_27 : decode cX1_owed 27 = .ok (.invokevirtual 456, 3) := dk_182 1 200 (dk_at dksX1_owed_1 3 rfl rfl)
theorem dX1_owed_30 : decode cX1_owed 30 = .ok (.aload_n 0, 1) := dk_42 (dk_at dksX1_owed_1 6 rfl rfl)
theorem dX1_owed_31 : decode cX1_owed 31 = .ok (.iload_n 1, 1) := dk_27 (dk_at dksX1_owed_1 7 rfl rfl)
theorem dX1_owed_32 : decode cX1_owed 32 = .ok (.invokevirtual 459, 3) := dk_182 1 203 (dk_at dksX1_owed_1 8 rfl rfl)
theorem dX1_owed_35 : decode cX1_owed 35 = .ok (.lsub, 1) := dk_101 (dk_at dksX1_owed_1 11 rfl rfl)
theorem dX1_owed_36 : decode cX1_owed 36 = .ok (.lreturn, 1) := dk_173 (dk_at dksX1_owed_1 12 rfl rfl)
def dkwX1_filed_1 : List UInt8 := [167, 0, 4, 3, 47, 173]
abbrev dktX1_filed_1 : List UInt8 := dkwX1_filed_1 ++ []
def dkwX1_filed_0 : List UInt8 := [27, 6, 184, 0, 251, 87, 42, 180, 0, 145, 27, 50, 28, 16, 24, 184, 0, 251, 50, 29, 153, 0, 7, 4]
abbrev dktX1_filed_0 : List UInt8 := dkwX1_filed_0 ++ dktX1_filed_1
theorem dksX1_filed_0 : cX1_filed.data.toList.drop 0 = dktX1_filed_0 := by decide +kernel
theorem dksX1_filed_1 : cX1_filed.data.toList.drop 24 = dktX1_filed_1 := dk_seg dksX1_filed_0 24 rfl rfl
theorem dX1_filed_0 : decode cX1_filed 0 = .ok (.iload_n 1, 1) := dk_27 (dk_at dksX1_filed_0 0 rfl rfl)
theorem dX1_filed_1 : decode cX1_filed 1 = .ok (.iconst 3, 1) := dk_6 (dk_at dksX1_filed_0 1 rfl rfl)
theorem dX1_filed_2 : decode cX1_filed 2 = .ok (.invokestatic 251, 3) := dk_184 0 251 (dk_at dksX1_filed_0 2 rfl rfl)
theorem dX1_filed_5 : decode cX1_filed 5 = .ok (.pop, 1) := dk_87 (dk_at dksX1_filed_0 5 rfl rfl)
theorem dX1_filed_6 : decode cX1_filed 6 = .ok (.aload_n 0, 1) := dk_42 (dk_at dksX1_filed_0 6 rfl rfl)
theorem dX1_filed_7 : decode cX1_filed 7 = .ok (.getfield 145, 3) := dk_180 0 145 (dk_at dksX1_filed_0 7 rfl rfl)
theorem dX1_filed_10 : decode cX1_filed 10 = .ok (.iload_n 1, 1) := dk_27 (dk_at dksX1_filed_0 10 rfl rfl)
theorem dX1_filed_11 : decode cX1_filed 11 = .ok (.aaload, 1) := dk_50 (dk_at dksX1_filed_0 11 rfl rfl)
theorem dX1_filed_12 : decode cX1_filed 12 = .ok (.iload_n 2, 1) := dk_28 (dk_at dksX1_filed_0 12 rfl rfl)
theorem dX1_filed_13 : decode cX1_filed 13 = .ok (.bipush 24, 2) := dk_16 24 (dk_at dksX1_filed_0 13 rfl rfl)
theorem dX1_filed_15 : decode cX1_filed 15 = .ok (.invokestatic 251, 3) := dk_184 0 251 (dk_at dksX1_filed_0 15 rfl rfl)
theorem dX1_filed_18 : decode cX1_filed 18 = .ok (.aaload, 1) := dk_50 (dk_at dksX1_filed_0 18 rfl rfl)
theorem dX1_filed_19 : decode cX1_filed 19 = .ok (.iload_n 3, 1) := dk_29 (dk_at dksX1_filed_0 19 rfl rfl)
theorem dX1_filed_20 : decode cX1_filed 20 = .ok (.ifCond .eq 7, 3) := dk_153 0 7 (dk_at dksX1_filed_0 20 rfl rfl)
theorem dX1_filed_23 : decode cX1_filed 23 = .ok (.iconst 1, 1) := dk_4 (dk_at dksX1_filed_0 23 rfl rfl)
theorem dX1_filed_24 : decode cX1_filed 24 = .ok (.goto 4, 3) := dk_167 0 4 (dk_at dksX1_filed_1 0 rfl rfl)
theorem dX1_filed_27 : decode cX1_filed 27 = .ok (.iconst 0, 1) := dk_3 (dk_at dksX1_filed_1 3 rfl rfl)
theorem dX1_filed_28 : decode cX1_filed 28 = .ok (.laload, 1) := dk_47 (dk_at dksX1_filed_1 4 rfl rfl)
theorem dX1_filed_29 : decode cX1_filed 29 = .ok (.lreturn, 1) := dk_173 (dk_at dksX1_filed_1 5 rfl rfl)
def dkwX1_corrections_0 : List UInt8 := [27, 6, 184, 0, 251, 87, 42, 180, 0, 150, 27, 50, 28, 16, 24, 184, 0, 251, 46, 172]
abbrev dktX1_corrections_0 : List UInt8 := dkwX1_corrections_0 ++ []
theorem dksX1_corrections_0 : cX1_corrections.data.toList.drop 0 = dktX1_corrections_0 := by decide +kernel
theorem dX1_corrections_0 : decode cX1_corrections 0 = .ok (.iload_n 1, 1) := dk_27 (dk_at dksX1_corrections_0 0 rfl rfl)
theorem dX1_corrections_1 : decode cX1_corrections 1 = .ok (.iconst 3, 1) := dk_6 (dk_at dksX1_corrections_0 1 rfl rfl)
theorem dX1_corrections_2 : decode cX1_corrections 2 = .ok (.invokestatic 251, 3) := dk_184 0 251 (dk_at dksX1_corrections_0 2 rfl rfl)
theorem dX1_corrections_5 : decode cX1_corrections 5 = .ok (.pop, 1) := dk_87 (dk_at dksX1_corrections_0 5 rfl rfl)
theorem dX1_corrections_6 : decode cX1_corrections 6 = .ok (.aload_n 0, 1) := dk_42 (dk_at dksX1_corrections_0 6 rfl rfl)
theorem dX1_corrections_7 : decode cX1_corrections 7 = .ok (.getfield 150, 3) := dk_180 0 150 (dk_at dksX1_corrections_0 7 rfl rfl)
theorem dX1_corrections_10 : decode cX1_corrections 10 = .ok (.iload_n 1, 1) := dk_27 (dk_at dksX1_corrections_0 10 rfl rfl)
theorem dX1_corrections_11 : decode cX1_corrections 11 = .ok (.aaload, 1) := dk_50 (dk_at dksX1_corrections_0 11 rfl rfl)
theorem dX1_corrections_12 : decode cX1_corrections 12 = .ok (.iload_n 2, 1) := dk_28 (dk_at dksX1_corrections_0 12 rfl rfl)
theorem dX1_corrections_13 : decode cX1_corrections 13 = .ok (.bipush 24, 2) := dk_16 24 (dk_at dksX1_corrections_0 13 rfl rfl)
theorem dX1_corrections_15 : decode cX1_corrections 15 = .ok (.invokestatic 251, 3) := dk_184 0 251 (dk_at dksX1_corrections_0 15 rfl rfl)
theorem dX1_corrections_18 : decode cX1_corrections 18 = .ok (.iaload, 1) := dk_46 (dk_at dksX1_corrections_0 18 rfl rfl)
theorem dX1_corrections_19 : decode cX1_corrections 19 = .ok (.ireturn, 1) := dk_172 (dk_at dksX1_corrections_0 19 rfl rfl)
