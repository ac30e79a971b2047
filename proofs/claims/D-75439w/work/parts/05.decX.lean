set_option maxRecDepth 100000
def dkwX1_init_2 : List UInt8 := [42, 187, 0, 122, 89, 183, 0, 124, 181, 0, 125, 177]
abbrev dktX1_init_2 : List UInt8 := dkwX1_init_2 ++ []
def dkwX1_init_1 : List UInt8 := [187, 0, 107, 89, 183, 0, 109, 181, 0, 110, 42, 17, 3, 232, 188, 8, 181, 0, 114, 42, 2, 181, 0, 118]
abbrev dktX1_init_1 : List UInt8 := dkwX1_init_1 ++ dktX1_init_2
def dkwX1_init_0 : List UInt8 := [42, 183, 0, 92, 42, 187, 0, 95, 89, 187, 0, 97, 89, 183, 0, 99, 183, 0, 100, 181, 0, 103, 42]
abbrev dktX1_init_0 : List UInt8 := dkwX1_init_0 ++ dktX1_init_1
theorem dksX1_init_0 : cX1_init.data.toList.drop 0 = dktX1_init_0 := by decide +kernel
theorem dksX1_init_1 : cX1_init.data.toList.drop 23 = dktX1_init_1 := dk_seg dksX1_init_0 23 rfl rfl
theorem dksX1_init_2 : cX1_init.data.toList.drop 47 = dktX1_init_2 := dk_seg dksX1_init_1 24 rfl rfl
theorem dX1_init_0 : decode cX1_init 0 = .ok (.aload_n 0, 1) := dk_42 (dk_at dksX1_init_0 0 rfl rfl)
theorem dX1_init_1 : decode cX1_init 1 = .ok (.invokespecial 92, 3) := dk_183 0 92 (dk_at dksX1_init_0 1 rfl rfl)
theorem dX1_init_4 : decode cX1_init 4 = .ok (.aload_n 0, 1) := dk_42 (dk_at dksX1_init_0 4 rfl rfl)
theorem dX1_init_5 : decode cX1_init 5 = .ok (.new 95, 3) := dk_187 0 95 (dk_at dksX1_init_0 5 rfl rfl)
theorem dX1_init_8 : decode cX1_init 8 = .ok (.dup, 1) := dk_89 (dk_at dksX1_init_0 8 rfl rfl)
theorem dX1_init_9 : decode cX1_init 9 = .ok (.new 97, 3) := dk_187 0 97 (dk_at dksX1_init_0 9 rfl rfl)
theorem dX1_init_12 : decode cX1_init 12 = .ok (.dup, 1) := dk_89 (dk_at dksX1_init_0 12 rfl rfl)
theorem dX1_init_13 : decode cX1_init 13 = .ok (.invokespecial 99, 3) := dk_183 0 99 (dk_at dksX1_init_0 13 rfl rfl)
theorem dX1_init_16 : decode cX1_init 16 = .ok (.invokespecial 100, 3) := dk_183 0 100 (dk_at dksX1_init_0 16 rfl rfl)
theorem dX1_init_19 : decode cX1_init 19 = .ok (.putfield 103, 3) := dk_181 0 103 (dk_at dksX1_init_0 19 rfl rfl)
theorem dX1_init_22 : decode cX1_init 22 = .ok (.aload_n 0, 1) := dk_42 (dk_at dksX1_init_0 22 rfl rfl)
theorem dX1_init_23 : decode cX1_init 23 = .ok (.new 107, 3) := dk_187 0 107 (dk_at dksX1_init_1 0 rfl rfl)
theorem dX1_init_26 : decode cX1_init 26 = .ok (.dup, 1) := dk_89 (dk_at dksX1_init_1 3 rfl rfl)
theorem dX1_init_27 : decode cX1_init 27 = .ok (.invokespecial 109, 3) := dk_183 0 109 (dk_at dksX1_init_1 4 rfl rfl)
theorem dX1_init_30 : decode cX1_init 30 = .ok (.putfield 110, 3) := dk_181 0 110 (dk_at dksX1_init_1 7 rfl rfl)
theorem dX1_init_33 : decode cX1_init 33 = .ok (.aload_n 0, 1) := dk_42 (dk_at dksX1_init_1 10 rfl rfl)
theorem dX1_init_34 : decode cX1_init 34 = .ok (.sipush 1000, 3) := dk_17 3 232 (dk_at dksX1_init_1 11 rfl rfl)
theorem dX1_init_37 : decode cX1_init 37 = .ok (.newarray .byte, 2) := dk_188_8 (dk_at dksX1_init_1 14 rfl rfl)
theorem dX1_init_39 : decode cX1_init 39 = .ok (.putfield 114, 3) := dk_181 0 114 (dk_at dksX1_init_1 16 rfl rfl)
theorem dX1_init_42 : decode cX1_init 42 = .ok (.aload_n 0, 1) := dk_42 (dk_at dksX1_init_1 19 rfl rfl)
theorem dX1_init_43 : decode cX1_init 43 = .ok (.iconst (-1), 1) := dk_2 (dk_at dksX1_init_1 20 rfl rfl)
theorem dX1_init_44 : decode cX1_init 44 = .ok (.putfield 118, 3) := dk_181 0 118 (dk_at dksX1_init_1 21 rfl rfl)
theorem dX1_init_47 : decode cX1_init 47 = .ok (.aload_n 0, 1) := dk_42 (dk_at dksX1_init_2 0 rfl rfl)
theorem dX1_init_48 : decode cX1_init 48 = .ok (.new 122, 3) := dk_187 0 122 (dk_at dksX1_init_2 1 rfl rfl)
theorem dX1_init_51 : decode cX1_init 51 = .ok (.dup, 1) := dk_89 (dk_at dksX1_init_2 4 rfl rfl)
theorem dX1_init_52 : decode cX1_init 52 = .ok (.invokespecial 124, 3) := dk_183 0 124 (dk_at dksX1_init_2 5 rfl rfl)
theorem dX1_init_55 : decode cX1_init 55 = .ok (.putfield 125, 3) := dk_181 0 125 (dk_at dksX1_init_2 8 rfl rfl)
theorem dX1_init_58 : decode cX1_init 58 = .ok (.return_, 1) := dk_177 (dk_at dksX1_init_2 11 rfl rfl)
def dkwX1_load_3 : List UInt8 := [61, 42, 3, 181, 0, 129, 28, 172, 78, 42, 3, 181, 0, 129, 45, 191]
abbrev dktX1_load_3 : List UInt8 := dkwX1_load_3 ++ []
def dkwX1_load_2 : List UInt8 := [181, 0, 129, 28, 172, 76, 42, 43, 180, 0, 185, 181, 0, 164, 42, 43, 180, 0, 188, 181, 0, 118, 16, 252]
abbrev dktX1_load_2 : List UInt8 := dkwX1_load_2 ++ dktX1_load_3
def dkwX1_load_1 : List UInt8 := [180, 0, 103, 182, 0, 161, 42, 43, 181, 0, 103, 42, 180, 0, 103, 180, 0, 176, 182, 0, 180, 61, 42, 3]
abbrev dktX1_load_1 : List UInt8 := dkwX1_load_1 ++ dktX1_load_2
def dkwX1_load_0 : List UInt8 := [42, 3, 181, 0, 164, 42, 2, 181, 0, 118, 187, 0, 167, 89, 42, 183, 0, 169, 182, 0, 172, 76, 42, 42]
abbrev dktX1_load_0 : List UInt8 := dkwX1_load_0 ++ dktX1_load_1
theorem dksX1_load_0 : cX1_load.data.toList.drop 0 = dktX1_load_0 := by decide +kernel
theorem dksX1_load_1 : cX1_load.data.toList.drop 24 = dktX1_load_1 := dk_seg dksX1_load_0 24 rfl rfl
theorem dksX1_load_2 : cX1_load.data.toList.drop 48 = dktX1_load_2 := dk_seg dksX1_load_1 24 rfl rfl
theorem dksX1_load_3 : cX1_load.data.toList.drop 72 = dktX1_load_3 := dk_seg dksX1_load_2 24 rfl rfl
theorem dX1_load_0 : decode cX1_load 0 = .ok (.aload_n 0, 1) := dk_42 (dk_at dksX1_load_0 0 rfl rfl)
theorem dX1_load_1 : decode cX1_load 1 = .ok (.iconst 0, 1) := dk_3 (dk_at dksX1_load_0 1 rfl rfl)
theorem dX1_load_2 : decode cX1_load 2 = .ok (.putfield 164, 3) := dk_181 0 164 (dk_at dksX1_load_0 2 rfl rfl)
theorem dX1_load_5 : decode cX1_load 5 = .ok (.aload_n 0, 1) := dk_42 (dk_at dksX1_load_0 5 rfl rfl)
theorem dX1_load_6 : decode cX1_load 6 = .ok (.iconst (-1), 1) := dk_2 (dk_at dksX1_load_0 6 rfl rfl)
theorem dX1_load_7 : decode cX1_load 7 = .ok (.putfield 118, 3) := dk_181 0 118 (dk_at dksX1_load_0 7 rfl rfl)
theorem dX1_load_10 : decode cX1_load 10 = .ok (.new 167, 3) := dk_187 0 167 (dk_at dksX1_load_0 10 rfl rfl)
theorem dX1_load_13 : decode cX1_load 13 = .ok (.dup, 1) := dk_89 (dk_at dksX1_load_0 13 rfl rfl)
theorem dX1_load_14 : decode cX1_load 14 = .ok (.aload_n 0, 1) := dk_42 (dk_at dksX1_load_0 14 rfl rfl)
theorem dX1_load_15 : decode cX1_load 15 = .ok (.invokespecial 169, 3) := dk_183 0 169 (dk_at dksX1_load_0 15 rfl rfl)
theorem dX1_load_18 : decode cX1_load 18 = .ok (.invokevirtual 172, 3) := dk_182 0 172 (dk_at dksX1_load_0 18 rfl rfl)
theorem dX1_load_21 : decode cX1_load 21 = .ok (.astore_n 1, 1) := dk_76 (dk_at dksX1_load_0 21 rfl rfl)
theorem dX1_load_22 : decode cX1_load 22 = .ok (.aload_n 0, 1) := dk_42 (dk_at dksX1_load_0 22 rfl rfl)
theorem dX1_load_23 : decode cX1_load 23 = .ok (.aload_n 0, 1) := dk_42 (dk_at dksX1_load_0 23 rfl rfl)
theorem dX1_load_24 : decode cX1_load 24 = .ok (.getfield 103, 3) := dk_180 0 103 (dk_at dksX1_load_1 0 rfl rfl)
theorem dX1_load_27 : decode cX1_load 27 = .ok (.invokevirtual 161, 3) := dk_182 0 161 (dk_at dksX1_load_1 3 rfl rfl)
theorem dX1_load_30 : decode cX1_load 30 = .ok (.aload_n 0, 1) := dk_42 (dk_at dksX1_load_1 6 rfl rfl)
theorem dX1_load_31 : decode cX1_load 31 = .ok (.aload_n 1, 1) := dk_43 (dk_at dksX1_load_1 7 rfl rfl)
theorem dX1_load_32 : decode cX1_load 32 = .ok (.putfield 103, 3) := dk_181 0 103 (dk_at dksX1_load_1 8 rfl rfl)
theorem dX1_load_35 : decode cX1_load 35 = .ok (.aload_n 0, 1) := dk_42 (dk_at dksX1_load_1 11 rfl rfl)
theorem dX1_load_36 : decode cX1_load 36 = .ok (.getfield 103, 3) := dk_180 0 103 (dk_at dksX1_load_1 12 rfl rfl)
theorem dX1_load_39 : decode cX1_load 39 = .ok (.getfield 176, 3) := dk_180 0 176 (dk_at dksX1_load_1 15 rfl rfl)
theorem dX1_load_42 : decode cX1_load 42 = .ok (.invokevirtual 180, 3) := dk_182 0 180 (dk_at dksX1_load_1 18 rfl rfl)
theorem dX1_load_45 : decode cX1_load 45 = .ok (.istore_n 2, 1) := dk_61 (dk_at dksX1_load_1 21 rfl rfl)
theorem dX1_load_46 : decode cX1_load 46 = .ok (.aload_n 0, 1) := dk_42 (dk_at dksX1_load_1 22 rfl rfl)
theorem dX1_load_47 : decode cX1_load 47 = .ok (.iconst 0, 1) := dk_3 (dk_at dksX1_load_1 23 rfl rfl)
theorem dX1_load_48 : decode cX1_load 48 = .ok (.putfield 129, 3) := dk_181 0 129 (dk_at dksX1_load_2 0 rfl rfl)
theorem dX1_load_51 : decode cX1_load 51 = .ok (.iload_n 2, 1) := dk_28 (dk_at dksX1_load_2 3 rfl rfl)
theorem dX1_load_52 : decode cX1_load 52 = .ok (.ireturn, 1) := dk_172 (dk_at dksX1_load_2 4 rfl rfl)
theorem dX1_load_53 : decode cX1_load 53 = .ok (.astore_n 1, 1) := dk_76 (dk_at dksX1_load_2 5 rfl rfl)
theorem dX1_load_54 : decode cX1_load 54 = .ok (.aload_n 0, 1) := dk_42 (dk_at dksX1_load_2 6 rfl rfl)
theorem dX1_load_55 : decode cX1_load 55 = .ok (.aload_n 1, 1) := dk_43 (dk_at dksX1_load_2 7 rfl rfl)
theorem dX1_load_56 : decode cX1_load 56 = .ok (.getfield 185, 3) := dk_180 0 185 (dk_at dksX1_load_2 8 rfl rfl)
theorem dX1_load_59 : decode cX1_load 59 = .ok (.putfield 164, 3) := dk_181 0 164 (dk_at dksX1_load_2 11 rfl rfl)
theorem dX1_load_62 : decode cX1_load 62 = .ok (.aload_n 0, 1) := dk_42 (dk_at dksX1_load_2 14 rfl rfl)
theorem dX1_load_63 : decode cX1_load 63 = .ok (.aload_n 1, 1) := dk_43 (dk_at dksX1_load_2 15 rfl rfl)
theorem dX1_load_64 : decode cX1_load 64 = .ok (.getfield 188, 3) := dk_180 0 188 (dk_at dksX1_load_2 16 rfl rfl)
theorem dX1_load_67 : decode cX1_load 67 = .ok (.putfield 118, 3) := dk_181 0 118 (dk_at dksX1_load_2 19 rfl rfl)
theorem dX1_load_70 : decode cX1_load 70 = .ok (.bipush (-4), 2) := dk_16 252 (dk_at dksX1_load_2 22 rfl rfl)
theorem dX1_load_72 : decode cX1_load 72 = .ok (.istore_n 2, 1) := dk_61 (dk_at dksX1_load_3 0 rfl rfl)
theorem dX1_load_73 : decode cX1_load 73 = .ok (.aload_n 0, 1) := dk_42 (dk_at dksX1_load_3 1 rfl rfl)
theorem dX1_load_74 : decode cX1_load 74 = .ok (.iconst 0, 1) := dk_3 (dk_at dksX1_load_3 2 rfl rfl)
theorem dX1_load_75 : decode cX1_load 75 = .ok (.putfield 129, 3) := dk_181 0 129 (dk_at dksX1_load_3 3 rfl rfl)
theorem dX1_load_78 : decode cX1_load 78 = .ok (.iload_n 2, 1) := dk_28 (dk_at dksX1_load_3 6 rfl rfl)
theorem dX1_load_79 : decode cX1_load 79 = .ok (.ireturn, 1) := dk_172 (dk_at dksX1_load_3 7 rfl rfl)
theorem dX1_load_80 : decode cX1_load 80 = .ok (.astore_n 3, 1) := dk_78 (dk_at dksX1_load_3 8 rfl rfl)
theorem dX1_load_81 : decode cX1_load 81 = .ok (.aload_n 0, 1) := dk_42 (dk_at dksX1_load_3 9 rfl rfl)
theorem dX1_load_82 : decode cX1_load 82 = .ok (.iconst 0, 1) := dk_3 (dk_at dksX1_load_3 10 rfl rfl)
theorem dX1_load_83 : decode cX1_load 83 = .ok (.putfield 129, 3) := dk_181 0 129 (dk_at dksX1_load_3 11 rfl rfl)
theorem dX1_load_86 : decode cX1_load 86 = .ok (.aload_n 3, 1) := dk_45 (dk_at dksX1_load_3 14 rfl rfl)
theorem dX1_load_87 : decode cX1_load 87 = .ok (.athrow, 1) := dk_191 (dk_at dksX1_load_3 15 rfl rfl)
def dkwX1_inRange_0 : List UInt8 := [30, 32, 148, 155, 0, 14, 30, 22, 4, 148, 157, 0, 7, 4, 167, 0, 4, 3, 172]
abbrev dktX1_inRange_0 : List UInt8 := dkwX1_inRange_0 ++ []
theorem dksX1_inRange_0 : cX1_inRange.data.toList.drop 0 = dktX1_inRange_0 := by decide +kernel
theorem dX1_inRange_0 : decode cX1_inRange 0 = .ok (.lload_n 0, 1) := dk_30 (dk_at dksX1_inRange_0 0 rfl rfl)
theorem dX1_inRange_1 : decode cX1_inRange 1 = .ok (.lload_n 2, 1) := dk_32 (dk_at dksX1_inRange_0 1 rfl rfl)
theorem dX1_inRange_2 : decode cX1_inRange 2 = .ok (.lcmp, 1) := dk_148 (dk_at dksX1_inRange_0 2 rfl rfl)
theorem dX1_inRange_3 : decode cX1_inRange 3 = .ok (.ifCond .lt 14, 3) := dk_155 0 14 (dk_at dksX1_inRange_0 3 rfl rfl)
theorem dX1_inRange_6 : decode cX1_inRange 6 = .ok (.lload_n 0, 1) := dk_30 (dk_at dksX1_inRange_0 6 rfl rfl)
theorem dX1_inRange_7 : decode cX1_inRange 7 = .ok (.lload 4, 2) := dk_22 4 (dk_at dksX1_inRange_0 7 rfl rfl)
theorem dX1_inRange_9 : decode cX1_inRange 9 = .ok (.lcmp, 1) := dk_148 (dk_at dksX1_inRange_0 9 rfl rfl)
theorem dX1_inRange_10 : decode cX1_inRange 10 = .ok (.ifCond .gt 7, 3) := dk_157 0 7 (dk_at dksX1_inRange_0 10 rfl rfl)
theorem dX1_inRange_13 : decode cX1_inRange 13 = .ok (.iconst 1, 1) := dk_4 (dk_at dksX1_inRange_0 13 rfl rfl)
theorem dX1_inRange_14 : decode cX1_inRange 14 = .ok (.goto 4, 3) := dk_167 0 4 (dk_at dksX1_inRange_0 14 rfl rfl)
theorem dX1_inRange_17 : decode cX1_inRange 17 = .ok (.iconst 0, 1) := dk_3 (dk_at dksX1_inRange_0 17 rfl rfl)
theorem dX1_inRange_18 : decode cX1_inRange 18 = .ok (.ireturn, 1) := dk_172 (dk_at dksX1_inRange_0 18 rfl rfl)
def dkwX1_isKeyword_18 : List UInt8 := [4, 167, 0, 16, 42, 184, 0, 88, 2, 159, 0, 7, 4, 167, 0, 4, 3, 172]
abbrev dktX1_isKeyword_18 : List UInt8 := dkwX1_isKeyword_18 ++ []
def dkwX1_isKeyword_17 : List UInt8 := [170, 0, 0, 0, 0, 0, 0, 116, 0, 0, 0, 0, 0, 0, 0, 23, 0, 0, 0, 112, 0, 0, 0, 112, 0, 0, 0, 112, 0, 0, 0, 112, 0, 0, 0, 112, 0, 0, 0, 112, 0, 0, 0, 112, 0, 0, 0, 112, 0, 0, 0, 112, 0, 0, 0, 112, 0, 0, 0, 112, 0, 0, 0, 112, 0, 0, 0, 112, 0, 0, 0, 112, 0, 0, 0, 112, 0, 0, 0, 112, 0, 0, 0, 112, 0, 0, 0, 112, 0, 0, 0, 112, 0, 0, 0, 112, 0, 0, 0, 112, 0, 0, 0, 112, 0, 0, 0, 112, 0, 0, 0, 112]
abbrev dktX1_isKeyword_17 : List UInt8 := dkwX1_isKeyword_17 ++ dktX1_isKeyword_18
def dkwX1_isKeyword_16 : List UInt8 := [16, 22, 61, 167, 0, 15, 43, 18, 86, 182, 0, 24, 153, 0, 6, 16, 23, 61, 28]
abbrev dktX1_isKeyword_16 : List UInt8 := dkwX1_isKeyword_16 ++ dktX1_isKeyword_17
def dkwX1_isKeyword_15 : List UInt8 := [43, 18, 82, 182, 0, 24, 153, 0, 36, 16, 21, 61, 167, 0, 30, 43, 18, 84, 182, 0, 24, 153, 0, 21]
abbrev dktX1_isKeyword_15 : List UInt8 := dkwX1_isKeyword_15 ++ dktX1_isKeyword_16
def dkwX1_isKeyword_14 : List UInt8 := [153, 0, 66, 16, 19, 61, 167, 0, 60, 43, 18, 80, 182, 0, 24, 153, 0, 51, 16, 20, 61, 167, 0, 45]
abbrev dktX1_isKeyword_14 : List UInt8 := dkwX1_isKeyword_14 ++ dktX1_isKeyword_15
def dkwX1_isKeyword_13 : List UInt8 := [167, 0, 90, 43, 18, 76, 182, 0, 24, 153, 0, 81, 16, 18, 61, 167, 0, 75, 43, 18, 78, 182, 0, 24]
abbrev dktX1_isKeyword_13 : List UInt8 := dkwX1_isKeyword_13 ++ dktX1_isKeyword_14
def dkwX1_isKeyword_12 : List UInt8 := [182, 0, 24, 153, 0, 111, 16, 16, 61, 167, 0, 105, 43, 18, 74, 182, 0, 24, 153, 0, 96, 16, 17, 61]
abbrev dktX1_isKeyword_12 : List UInt8 := dkwX1_isKeyword_12 ++ dktX1_isKeyword_13
def dkwX1_isKeyword_11 : List UInt8 := [16, 14, 61, 167, 0, 135, 43, 18, 70, 182, 0, 24, 153, 0, 126, 16, 15, 61, 167, 0, 120, 43, 18, 72]
abbrev dktX1_isKeyword_11 : List UInt8 := dkwX1_isKeyword_11 ++ dktX1_isKeyword_12
def dkwX1_isKeyword_10 : List UInt8 := [43, 18, 66, 182, 0, 24, 153, 0, 156, 16, 13, 61, 167, 0, 150, 43, 18, 68, 182, 0, 24, 153, 0, 141]
abbrev dktX1_isKeyword_10 : List UInt8 := dkwX1_isKeyword_10 ++ dktX1_isKeyword_11
def dkwX1_isKeyword_9 : List UInt8 := [153, 0, 186, 16, 11, 61, 167, 0, 180, 43, 18, 64, 182, 0, 24, 153, 0, 171, 16, 12, 61, 167, 0, 165]
abbrev dktX1_isKeyword_9 : List UInt8 := dkwX1_isKeyword_9 ++ dktX1_isKeyword_10
def dkwX1_isKeyword_8 : List UInt8 := [167, 0, 210, 43, 18, 60, 182, 0, 24, 153, 0, 201, 16, 10, 61, 167, 0, 195, 43, 18, 62, 182, 0, 24]
abbrev dktX1_isKeyword_8 : List UInt8 := dkwX1_isKeyword_8 ++ dktX1_isKeyword_9
def dkwX1_isKeyword_7 : List UInt8 := [182, 0, 24, 153, 0, 231, 16, 8, 61, 167, 0, 225, 43, 18, 58, 182, 0, 24, 153, 0, 216, 16, 9, 61]
abbrev dktX1_isKeyword_7 : List UInt8 := dkwX1_isKeyword_7 ++ dktX1_isKeyword_8
def dkwX1_isKeyword_6 : List UInt8 := [61, 167, 0, 255, 43, 18, 54, 182, 0, 24, 153, 0, 246, 16, 7, 61, 167, 0, 240, 43, 18, 56]
abbrev dktX1_isKeyword_6 : List UInt8 := dkwX1_isKeyword_6 ++ dktX1_isKeyword_7
def dkwX1_isKeyword_5 : List UInt8 := [18, 50, 182, 0, 24, 153, 1, 19, 8, 61, 167, 1, 14, 43, 18, 52, 182, 0, 24, 153, 1, 5, 16, 6]
abbrev dktX1_isKeyword_5 : List UInt8 := dkwX1_isKeyword_5 ++ dktX1_isKeyword_6
def dkwX1_isKeyword_4 : List UInt8 := [153, 1, 47, 6, 61, 167, 1, 42, 43, 18, 48, 182, 0, 24, 153, 1, 33, 7, 61, 167, 1, 28, 43]
abbrev dktX1_isKeyword_4 : List UInt8 := dkwX1_isKeyword_4 ++ dktX1_isKeyword_5
def dkwX1_isKeyword_3 : List UInt8 := [61, 167, 1, 70, 43, 18, 44, 182, 0, 24, 153, 1, 61, 5, 61, 167, 1, 56, 43, 18, 46, 182, 0, 24]
abbrev dktX1_isKeyword_3 : List UInt8 := dkwX1_isKeyword_3 ++ dktX1_isKeyword_4
def dkwX1_isKeyword_2 : List UInt8 := [43, 18, 40, 182, 0, 24, 153, 1, 89, 3, 61, 167, 1, 84, 43, 18, 42, 182, 0, 24, 153, 1, 75, 4]
abbrev dktX1_isKeyword_2 : List UInt8 := dkwX1_isKeyword_2 ++ dktX1_isKeyword_3
def dkwX1_isKeyword_1 : List UInt8 := [171, 0, 0, 0, 0, 0, 2, 43, 0, 0, 0, 24, 137, 169, 134, 0, 0, 0, 1, 242, 171, 175, 146, 15, 0, 0, 1, 212, 173, 175, 37, 162, 0, 0, 1, 4, 176, 159, 116, 82, 0, 0, 1, 62, 183, 53, 30, 157, 0, 0, 1, 32, 208, 92, 168, 190, 0, 0, 0, 204, 209, 11, 219, 240, 0, 0, 0, 232, 0, 0, 12, 51, 0, 0, 2, 1, 0, 0, 13, 215, 0, 0, 1, 92, 0, 0, 13, 223, 0, 0, 2, 16, 0, 1, 121, 215, 0, 0, 1, 227, 0, 1, 122, 82, 0, 0, 1, 77, 0, 1, 130, 66, 0, 0, 1, 137, 0, 1, 142, 214, 0, 0, 1, 152, 0, 1, 161, 146, 0, 0, 1, 122, 0, 1, 173, 111, 0, 0, 2, 31, 0, 1, 175, 78, 0, 0, 1, 167, 0, 45, 191, 47, 0, 0, 1, 107, 0, 53, 206, 113, 0, 0, 1, 182, 5, 167, 81, 15, 0, 0, 0, 246, 6, 52, 56, 117, 0, 0, 1, 47, 6, 116, 79, 132, 0, 0, 1, 18, 63, 253, 152, 184, 0, 0, 1, 197, 111, 39, 64, 9, 0, 0, 0, 218]
abbrev dktX1_isKeyword_1 : List UInt8 := dkwX1_isKeyword_1 ++ dktX1_isKeyword_2
def dkwX1_isKeyword_0 : List UInt8 := [42, 76, 2, 61, 43, 182, 0, 16]
abbrev dktX1_isKeyword_0 : List UInt8 := dkwX1_isKeyword_0 ++ dktX1_isKeyword_1
theorem dksX1_isKeyword_0 : cX1_isKeyword.data.toList.drop 0 = dktX1_isKeyword_0 := by decide +kernel
theorem dksX1_isKeyword_1 : cX1_isKeyword.data.toList.drop 8 = dktX1_isKeyword_1 := dk_seg dksX1_isKeyword_0 8 rfl rfl
theorem dksX1_isKeyword_2 : cX1_isKeyword.data.toList.drop 212 = dktX1_isKeyword_2 := dk_seg dksX1_isKeyword_1 204 rfl rfl
theorem dksX1_isKeyword_3 : cX1_isKeyword.data.toList.drop 236 = dktX1_isKeyword_3 := dk_seg dksX1_isKeyword_2 24 rfl rfl
theorem dksX1_isKeyword_4 : cX1_isKeyword.data.toList.drop 260 = dktX1_isKeyword_4 := dk_seg dksX1_isKeyword_3 24 rfl rfl
theorem dksX1_isKeyword_5 : cX1_isKeyword.data.toList.drop 283 = dktX1_isKeyword_5 := dk_seg dksX1_isKeyword_4 23 rfl rfl
theorem dksX1_isKeyword_6 : cX1_isKeyword.data.toList.drop 307 = dktX1_isKeyword_6 := dk_seg dksX1_isKeyword_5 24 rfl rfl
theorem dksX1_isKeyword_7 : cX1_isKeyword.data.toList.drop 329 = dktX1_isKeyword_7 := dk_seg dksX1_isKeyword_6 22 rfl rfl
theorem dksX1_isKeyword_8 : cX1_isKeyword.data.toList.drop 353 = dktX1_isKeyword_8 := dk_seg dksX1_isKeyword_7 24 rfl rfl
theorem dksX1_isKeyword_9 : cX1_isKeyword.data.toList.drop 377 = dktX1_isKeyword_9 := dk_seg dksX1_isKeyword_8 24 rfl rfl
theorem dksX1_isKeyword_10 : cX1_isKeyword.data.toList.drop 401 = dktX1_isKeyword_10 := dk_seg dksX1_isKeyword_9 24 rfl rfl
theorem dksX1_isKeyword_11 : cX1_isKeyword.data.toList.drop 425 = dktX1_isKeyword_11 := dk_seg dksX1_isKeyword_10 24 rfl rfl
theorem dksX1_isKeyword_12 : cX1_isKeyword.data.toList.drop 449 = dktX1_isKeyword_12 := dk_seg dksX1_isKeyword_11 24 rfl rfl
theorem dksX1_isKeyword_13 : cX1_isKeyword.data.toList.drop 473 = dktX1_isKeyword_13 := dk_seg dksX1_isKeyword_12 24 rfl rfl
theorem dksX1_isKeyword_14 : cX1_isKeyword.data.toList.drop 497 = dktX1_isKeyword_14 := dk_seg dksX1_isKeyword_13 24 rfl rfl
theorem dksX1_isKeyword_15 : cX1_isKeyword.data.toList.drop 521 = dktX1_isKeyword_15 := dk_seg dksX1_isKeyword_14 24 rfl rfl
theorem dksX1_isKeyword_16 : cX1_isKeyword.data.toList.drop 545 = dktX1_isKeyword_16 := dk_seg dksX1_isKeyword_15 24 rfl rfl
theorem dksX1_isKeyword_17 : cX1_isKeyword.data.toList.drop 564 = dktX1_isKeyword_17 := dk_seg dksX1_isKeyword_16 19 rfl rfl
theorem dksX1_isKeyword_18 : cX1_isKeyword.data.toList.drop 676 = dktX1_isKeyword_18 := dk_seg dksX1_isKeyword_17 112 rfl rfl
theorem dX1_isKeyword_0 : decode cX1_isKeyword 0 = .ok (.aload_n 0, 1) := dk_42 (dk_at dksX1_isKeyword_0 0 rfl rfl)
theorem dX1_isKeyword_1 : decode cX1_isKeyword 1 = .ok (.astore_n 1, 1) := dk_76 (dk_at dksX1_isKeyword_0 1 rfl rfl)
theorem dX1_isKeyword_2 : decode cX1_isKeyword 2 = .ok (.iconst (-1), 1) := dk_2 (dk_at dksX1_isKeyword_0 2 rfl rfl)
theorem dX1_isKeyword_3 : decode cX1_isKeyword 3 = .ok (.istore_n 2, 1) := dk_61 (dk_at dksX1_isKeyword_0 3 rfl rfl)
theorem dX1_isKeyword_4 : decode cX1_isKeyword 4 = .ok (.aload_n 1, 1) := dk_43 (dk_at dksX1_isKeyword_0 4 rfl rfl)
theorem dX1_isKeyword_5 : decode cX1_isKeyword 5 = .ok (.invokevirtual 16, 3) := dk_182 0 16 (dk_at dksX1_isKeyword_0 5 rfl rfl)
theorem dX1_isKeyword_8 : decode cX1_isKeyword 8 = .ok (.lookupswitch 555 #[(-1985378816, 498), (-1414557169, 468), (-1381030494, 260), (-1331727278, 318), (-1221255523, 288), (-799233858, 204), (-787751952, 232), (3123, 513), (3543, 348), (3551, 528), (96727, 483), (96850, 333), (98882, 393), (102102, 408), (106898, 378), (109935, 543), (110414, 423), (2998063, 363), (3526257, 438), (94851343, 246), (104085621, 303), (108285828, 274), (1073584312, 453), (1864843273, 218)], 204) := by decide +kernel
theorem dX1_isKeyword_212 : decode cX1_isKeyword 212 = .ok (.aload_n 1, 1) := dk_43 (dk_at dksX1_isKeyword_2 0 rfl rfl)
theorem dX1_isKeyword_213 : decode cX1_isKeyword 213 = .ok (.ldc 40, 2) := dk_18 40 (dk_at dksX1_isKeyword_2 1 rfl rfl)
theorem dX1_isKeyword_215 : decode cX1_isKeyword 215 = .ok (.invokevirtual 24, 3) := dk_182 0 24 (dk_at dksX1_isKeyword_2 3 rfl rfl)
theorem dX1_isKeyword_218 : decode cX1_isKeyword 218 = .ok (.ifCond .eq 345, 3) := dk_153 1 89 (dk_at dksX1_isKeyword_2 6 rfl rfl)
theorem dX1_isKeyword_221 : decode cX1_isKeyword 221 = .ok (.iconst 0, 1) := dk_3 (dk_at dksX1_isKeyword_2 9 rfl rfl)
theorem dX1_isKeyword_222 : decode cX1_isKeyword 222 = .ok (.istore_n 2, 1) := dk_61 (dk_at dksX1_isKeyword_2 10 rfl rfl)
theorem dX1_isKeyword_223 : decode cX1_isKeyword 223 = .ok (.goto 340, 3) := dk_167 1 84 (dk_at dksX1_isKeyword_2 11 rfl rfl)
theorem dX1_isKeyword_226 : decode cX1_isKeyword 226 = .ok (.aload_n 1, 1) := dk_43 (dk_at dksX1_isKeyword_2 14 rfl rfl)
theorem dX1_isKeyword_227 : decode cX1_isKeyword 227 = .ok (.ldc 42, 2) := dk_18 42 (dk_at dksX1_isKeyword_2 15 rfl rfl)
theorem dX1_isKeyword_229 : decode cX1_isKeyword 229 = .ok (.invokevirtual 24, 3) := dk_182 0 24 (dk_at dksX1_isKeyword_2 17 rfl rfl)
theorem dX1_isKeyword_232 : decode cX1_isKeyword 232 = .ok (.ifCond .eq 331, 3) := dk_153 1 75 (dk_at dksX1_isKeyword_2 20 rfl rfl)
theorem dX1_isKeyword_235 : decode cX1_isKeyword 235 = .ok (.iconst 1, 1) := dk_4 (dk_at dksX1_isKeyword_2 23 rfl rfl)
theorem dX1_isKeyword_236 : decode cX1_isKeyword 236 = .ok (.istore_n 2, 1) := dk_61 (dk_at dksX1_isKeyword_3 0 rfl rfl)
theorem dX1_isKeyword_237 : decode cX1_isKeyword 237 = .ok (.goto 326, 3) := dk_167 1 70 (dk_at dksX1_isKeyword_3 1 rfl rfl)
theorem dX1_isKeyword_240 : decode cX1_isKeyword 240 = .ok (.aload_n 1, 1) := dk_43 (dk_at dksX1_isKeyword_3 4 rfl rfl)
theorem dX1_isKeyword_241 : decode cX1_isKeyword 241 = .ok (.ldc 44, 2) := dk_18 44 (dk_at dksX1_isKeyword_3 5 rfl rfl)
theorem dX1_isKeyword_243 : decode cX1_isKeyword 243 = .ok (.invokevirtual 24, 3) := dk_182 0 24 (dk_at dksX1_isKeyword_3 7 rfl rfl)
theorem dX1_isKeyword_246 : decode cX1_isKeyword 246 = .ok (.ifCond .eq 317, 3) := dk_153 1 61 (dk_at dksX1_isKeyword_3 10 rfl rfl)
theorem dX1_isKeyword_249 : decode cX1_isKeyword 249 = .ok (.iconst 2, 1) := dk_5 (dk_at dksX1_isKeyword_3 13 rfl rfl)
theorem dX1_isKeyword_250 : decode cX1_isKeyword 250 = .ok (.istore_n 2, 1) := dk_61 (dk_at dksX1_isKeyword_3 14 rfl rfl)
theorem dX1_isKeyword_251 : decode cX1_isKeyword 251 = .ok (.goto 312, 3) := dk_167 1 56 (dk_at dksX1_isKeyword_3 15 rfl rfl)
theorem dX1_isKeyword_254 : decode cX1_isKeyword 254 = .ok (.aload_n 1, 1) := dk_43 (dk_at dksX1_isKeyword_3 18 rfl rfl)
theorem dX1_isKeyword_255 : decode cX1_isKeyword 255 = .ok (.ldc 46, 2) := dk_18 46 (dk_at dksX1_isKeyword_3 19 rfl rfl)
theorem dX1_isKeyword_257 : decode cX1_isKeyword 257 = .ok (.invokevirtual 24, 3) := dk_182 0 24 (dk_at dksX1_isKeyword_3 21 rfl rfl)
theorem dX1_isKeyword_260 : decode cX1_isKeyword 260 = .ok (.ifCond .eq 303, 3) := dk_153 1 47 (dk_at dksX1_isKeyword_4 0 rfl rfl)
theorem dX1_isKeyword_263 : decode cX1_isKeyword 263 = .ok (.iconst 3, 1) := dk_6 (dk_at dksX1_isKeyword_4 3 rfl rfl)
theorem dX1_isKeyword_264 : decode cX1_isKeyword 264 = .ok (.istore_n 2, 1) := dk_61 (dk_at dksX1_isKeyword_4 4 rfl rfl)
theorem dX1_isKeyword_265 : decode cX1_isKeyword 265 = .ok (.goto 298, 3) := dk_167 1 42 (dk_at dksX1_isKeyword_4 5 rfl rfl)
theorem dX1_isKeyword_268 : decode cX1_isKeyword 268 = .ok (.aload_n 1, 1) := dk_43 (dk_at dksX1_isKeyword_4 8 rfl rfl)
theorem dX1_isKeyword_269 : decode cX1_isKeyword 269 = .ok (.ldc 48, 2) := dk_18 48 (dk_at dksX1_isKeyword_4 9 rfl rfl)
theorem dX1_isKeyword_271 : decode cX1_isKeyword 271 = .ok (.invokevirtual 24, 3) := dk_182 0 24 (dk_at dksX1_isKeyword_4 11 rfl rfl)
theorem dX1_isKeyword_274 : decode cX1_isKeyword 274 = .ok (.ifCond .eq 289, 3) := dk_153 1 33 (dk_at dksX1_isKeyword_4 14 rfl rfl)
theorem dX1_isKeyword_277 : decode cX1_isKeyword 277 = .ok (.iconst 4, 1) := dk_7 (dk_at dksX1_isKeyword_4 17 rfl rfl)
theorem dX1_isKeyword_278 : decode cX1_isKeyword 278 = .ok (.istore_n 2, 1) := dk_61 (dk_at dksX1_isKeyword_4 18 rfl rfl)
theorem dX1_isKeyword_279 : decode cX1_isKeyword 279 = .ok (.goto 284, 3) := dk_167 1 28 (dk_at dksX1_isKeyword_4 19 rfl rfl)
theorem dX1_isKeyword_282 : decode cX1_isKeyword 282 = .ok (.aload_n 1, 1) := dk_43 (dk_at dksX1_isKeyword_4 22 rfl rfl)
theorem dX1_isKeyword_283 : decode cX1_isKeyword 283 = .ok (.ldc 50, 2) := dk_18 50 (dk_at dksX1_isKeyword_5 0 rfl rfl)
theorem dX1_isKeyword_285 : decode cX1_isKeyword 285 = .ok (.invokevirtual 24, 3) := dk_182 0 24 (dk_at dksX1_isKeyword_5 2 rfl rfl)
theorem dX1_isKeyword_288 : decode cX1_isKeyword 288 = .ok (.ifCond .eq 275, 3) := dk_153 1 19 (dk_at dksX1_isKeyword_5 5 rfl rfl)
theorem dX1_isKeyword_291 : decode cX1_isKeyword 291 = .ok (.iconst 5, 1) := dk_8 (dk_at dksX1_isKeyword_5 8 rfl rfl)
theorem dX1_isKeyword_292 : decode cX1_isKeyword 292 = .ok (.istore_n 2, 1) := dk_61 (dk_at dksX1_isKeyword_5 9 rfl rfl)
theorem dX1_isKeyword_293 : decode cX1_isKeyword 293 = .ok (.goto 270, 3) := dk_167 1 14 (dk_at dksX1_isKeyword_5 10 rfl rfl)
theorem dX1_isKeyword_296 : decode cX1_isKeyword 296 = .ok (.aload_n 1, 1) := dk_43 (dk_at dksX1_isKeyword_5 13 rfl rfl)
theorem dX1_isKeyword_297 : decode cX1_isKeyword 297 = .ok (.ldc 52, 2) := dk_18 52 (dk_at dksX1_isKeyword_5 14 rfl rfl)
theorem dX1_isKeyword_299 : decode cX1_isKeyword 299 = .ok (.invokevirtual 24, 3) := dk_182 0 24 (dk_at dksX1_isKeyword_5 16 rfl rfl)
theorem dX1_isKeyword_302 : decode cX1_isKeyword 302 = .ok (.ifCond .eq 261, 3) := dk_153 1 5 (dk_at dksX1_isKeyword_5 19 rfl rfl)
theorem dX1_isKeyword_305 : decode cX1_isKeyword 305 = .ok (.bipush 6, 2) := dk_16 6 (dk_at dksX1_isKeyword_5 22 rfl rfl)
theorem dX1_isKeyword_307 : decode cX1_isKeyword 307 = .ok (.istore_n 2, 1) := dk_61 (dk_at dksX1_isKeyword_6 0 rfl rfl)
theorem dX1_isKeyword_308 : decode cX1_isKeyword 308 = .ok (.goto 255, 3) := dk_167 0 255 (dk_at dksX1_isKeyword_6 1 rfl rfl)
theorem dX1_isKeyword_311 : decode cX1_isKeyword 311 = .ok (.aload_n 1, 1) := dk_43 (dk_at dksX1_isKeyword_6 4 rfl rfl)
theorem dX1_isKeyword_312 : decode cX1_isKeyword 312 = .ok (.ldc 54, 2) := dk_18 54 (dk_at dksX1_isKeyword_6 5 rfl rfl)
theorem dX1_isKeyword_314 : decode cX1_isKeyword 314 = .ok (.invokevirtual 24, 3) := dk_182 0 24 (dk_at dksX1_isKeyword_6 7 rfl rfl)
theorem dX1_isKeyword_317 : decode cX1_isKeyword 317 = .ok (.ifCond .eq 246, 3) := dk_153 0 246 (dk_at dksX1_isKeyword_6 10 rfl rfl)
theorem dX1_isKeyword_320 : decode cX1_isKeyword 320 = .ok (.bipush 7, 2) := dk_16 7 (dk_at dksX1_isKeyword_6 13 rfl rfl)
theorem dX1_isKeyword_322 : decode cX1_isKeyword 322 = .ok (.istore_n 2, 1) := dk_61 (dk_at dksX1_isKeyword_6 15 rfl rfl)
theorem dX1_isKeyword_323 : decode cX1_isKeyword 323 = .ok (.goto 240, 3) := dk_167 0 240 (dk_at dksX1_isKeyword_6 16 rfl rfl)
theorem dX1_isKeyword_326 : decode cX1_isKeyword 326 = .ok (.aload_n 1, 1) := dk_43 (dk_at dksX1_isKeyword_6 19 rfl rfl)
theorem dX1_isKeyword_327 : decode cX1_isKeyword 327 = .ok (.ldc 56, 2) := dk_18 56 (dk_at dksX1_isKeyword_6 20 rfl rfl)
theorem dX1_isKeyword_329 : decode cX1_isKeyword 329 = .ok (.invokevirtual 24, 3) := dk_182 0 24 (dk_at dksX1_isKeyword_7 0 rfl rfl)
theorem dX1_isKeyword_332 : decode cX1_isKeyword 332 = .ok (.ifCond .eq 231, 3) := dk_153 0 231 (dk_at dksX1_isKeyword_7 3 rfl rfl)
theorem dX1_isKeyword_335 : decode cX1_isKeyword 335 = .ok (.bipush 8, 2) := dk_16 8 (dk_at dksX1_isKeyword_7 6 rfl rfl)
theorem dX1_isKeyword_337 : decode cX1_isKeyword 337 = .ok (.istore_n 2, 1) := dk_61 (dk_at dksX1_isKeyword_7 8 rfl rfl)
theorem dX1_isKeyword_338 : decode cX1_isKeyword 338 = .ok (.goto 225, 3) := dk_167 0 225 (dk_at dksX1_isKeyword_7 9 rfl rfl)
theorem dX1_isKeyword_341 : decode cX1_isKeyword 341 = .ok (.aload_n 1, 1) := dk_43 (dk_at dksX1_isKeyword_7 12 rfl rfl)
theorem dX1_isKeyword_342 : decode cX1_isKeyword 342 = .ok (.ldc 58, 2) := dk_18 58 (dk_at dksX1_isKeyword_7 13 rfl rfl)
theorem dX1_isKeyword_344 : decode cX1_isKeyword 344 = .ok (.invokevirtual 24, 3) := dk_182 0 24 (dk_at dksX1_isKeyword_7 15 rfl rfl)
theorem dX1_isKeyword_347 : decode cX1_isKeyword 347 = .ok (.ifCond .eq 216, 3) := dk_153 0 216 (dk_at dksX1_isKeyword_7 18 rfl rfl)
theorem dX1_isKeyword_350 : decode cX1_isKeyword 350 = .ok (.bipush 9, 2) := dk_16 9 (dk_at dksX1_isKeyword_7 21 rfl rfl)
theorem dX1_isKeyword_352 : decode cX1_isKeyword 352 = .ok (.istore_n 2, 1) := dk_61 (dk_at dksX1_isKeyword_7 23 rfl rfl)
theorem dX1_isKeyword_353 : decode cX1_isKeyword 353 = .ok (.goto 210, 3) := dk_167 0 210 (dk_at dksX1_isKeyword_8 0 rfl rfl)
theorem dX1_isKeyword_356 : decode cX1_isKeyword 356 = .ok (.aload_n 1, 1) := dk_43 (dk_at dksX1_isKeyword_8 3 rfl rfl)
theorem dX1_isKeyword_357 : decode cX1_isKeyword 357 = .ok (.ldc 60, 2) := dk_18 60 (dk_at dksX1_isKeyword_8 4 rfl rfl)
theorem dX1_isKeyword_359 : decode cX1_isKeyword 359 = .ok (.invokevirtual 24, 3) := dk_182 0 24 (dk_at dksX1_isKeyword_8 6 rfl rfl)
theorem dX1_isKeyword_362 : decode cX1_isKeyword 362 = .ok (.ifCond .eq 201, 3) := dk_153 0 201 (dk_at dksX1_isKeyword_8 9 rfl rfl)
theorem dX1_isKeyword_365 : decode cX1_isKeyword 365 = .ok (.bipush 10, 2) := dk_16 10 (dk_at dksX1_isKeyword_8 12 rfl rfl)
theorem dX1_isKeyword_367 : decode cX1_isKeyword 367 = .ok (.istore_n 2, 1) := dk_61 (dk_at dksX1_isKeyword_8 14 rfl rfl)
theorem dX1_isKeyword_368 : decode cX1_isKeyword 368 = .ok (.goto 195, 3) := dk_167 0 195 (dk_at dksX1_isKeyword_8 15 rfl rfl)
theorem dX1_isKeyword_371 : decode cX1_isKeyword 371 = .ok (.aload_n 1, 1) := dk_43 (dk_at dksX1_isKeyword_8 18 rfl rfl)
theorem dX1_isKeyword_372 : decode cX1_isKeyword 372 = .ok (.ldc 62, 2) := dk_18 62 (dk_at dksX1_isKeyword_8 19 rfl rfl)
theorem dX1_isKeyword_374 : decode cX1_isKeyword 374 = .ok (.invokevirtual 24, 3) := dk_182 0 24 (dk_at dksX1_isKeyword_8 21 rfl rfl)
theorem dX1_isKeyword_377 : decode cX1_isKeyword 377 = .ok (.ifCond .eq 186, 3) := dk_153 0 186 (dk_at dksX1_isKeyword_9 0 rfl rfl)
theorem dX1_isKeyword_380 : decode cX1_isKeyword 380 = .ok (.bipush 11, 2) := dk_16 11 (dk_at dksX1_isKeyword_9 3 rfl rfl)
theorem dX1_isKeyword_382 : decode cX1_isKeyword 382 = .ok (.istore_n 2, 1) := dk_61 (dk_at dksX1_isKeyword_9 5 rfl rfl)
theorem dX1_isKeyword_383 : decode cX1_isKeyword 383 = .ok (.goto 180, 3) := dk_167 0 180 (dk_at dksX1_isKeyword_9 6 rfl rfl)
theorem dX1_isKeyword_386 : decode cX1_isKeyword 386 = .ok (.aload_n 1, 1) := dk_43 (dk_at dksX1_isKeyword_9 9 rfl rfl)
theorem dX1_isKeyword_387 : decode cX1_isKeyword 387 = .ok (.ldc 64, 2) := dk_18 64 (dk_at dksX1_isKeyword_9 10 rfl rfl)
theorem dX1_isKeyword_389 : decode cX1_isKeyword 389 = .ok (.invokevirtual 24, 3) := dk_182 0 24 (dk_at dksX1_isKeyword_9 12 rfl rfl)
theorem dX1_isKeyword_392 : decode cX1_isKeyword 392 = .ok (.ifCond .eq 171, 3) := dk_153 0 171 (dk_at dksX1_isKeyword_9 15 rfl rfl)
theorem dX1_isKeyword_395 : decode cX1_isKeyword 395 = .ok (.bipush 12, 2) := dk_16 12 (dk_at dksX1_isKeyword_9 18 rfl rfl)
theorem dX1_isKeyword_397 : decode cX1_isKeyword 397 = .ok (.istore_n 2, 1) := dk_61 (dk_at dksX1_isKeyword_9 20 rfl rfl)
theorem dX1_isKeyword_398 : decode cX1_isKeyword 398 = .ok (.goto 165, 3) := dk_167 0 165 (dk_at dksX1_isKeyword_9 21 rfl rfl)
theorem dX1_isKeyword_401 : decode cX1_isKeyword 401 = .ok (.aload_n 1, 1) := dk_43 (dk_at dksX1_isKeyword_10 0 rfl rfl)
theorem dX1_isKeyword_402 : decode cX1_isKeyword 402 = .ok (.ldc 66, 2) := dk_18 66 (dk_at dksX1_isKeyword_10 1 rfl rfl)
theorem dX1_isKeyword_404 : decode cX1_isKeyword 404 = .ok (.invokevirtual 24, 3) := dk_182 0 24 (dk_at dksX1_isKeyword_10 3 rfl rfl)
theorem dX1_isKeyword_407 : decode cX1_isKeyword 407 = .ok (.ifCond .eq 156, 3) := dk_153 0 156 (dk_at dksX1_isKeyword_10 6 rfl rfl)
theorem dX1_isKeyword_410 : decode cX1_isKeyword 410 = .ok (.bipush 13, 2) := dk_16 13 (dk_at dksX1_isKeyword_10 9 rfl rfl)
theorem dX1_isKeyword_412 : decode cX1_isKeyword 412 = .ok (.istore_n 2, 1) := dk_61 (dk_at dksX1_isKeyword_10 11 rfl rfl)
theorem dX1_isKeyword_413 : decode cX1_isKeyword 413 = .ok (.goto 150, 3) := dk_167 0 150 (dk_at dksX1_isKeyword_10 12 rfl rfl)
theorem dX1_isKeyword_416 : decode cX1_isKeyword 416 = .ok (.aload_n 1, 1) := dk_43 (dk_at dksX1_isKeyword_10 15 rfl rfl)
theorem dX1_isKeyword_417 : decode cX1_isKeyword 417 = .ok (.ldc 68, 2) := dk_18 68 (dk_at dksX1_isKeyword_10 16 rfl rfl)
theorem dX1_isKeyword_419 : decode cX1_isKeyword 419 = .ok (.invokevirtual 24, 3) := dk_182 0 24 (dk_at dksX1_isKeyword_10 18 rfl rfl)
theorem dX1_isKeyword_422 : decode cX1_isKeyword 422 = .ok (.ifCond .eq 141, 3) := dk_153 0 141 (dk_at dksX1_isKeyword_10 21 rfl rfl)
theorem dX1_isKeyword_425 : decode cX1_isKeyword 425 = .ok (.bipush 14, 2) := dk_16 14 (dk_at dksX1_isKeyword_11 0 rfl rfl)
theorem dX1_isKeyword_427 : decode cX1_isKeyword 427 = .ok (.istore_n 2, 1) := dk_61 (dk_at dksX1_isKeyword_11 2 rfl rfl)
theorem dX1_isKeyword_428 : decode cX1_isKeyword 428 = .ok (.goto 135, 3) := dk_167 0 135 (dk_at dksX1_isKeyword_11 3 rfl rfl)
theorem dX1_isKeyword_431 : decode cX1_isKeyword 431 = .ok (.aload_n 1, 1) := dk_43 (dk_at dksX1_isKeyword_11 6 rfl rfl)
theorem dX1_isKeyword_432 : decode cX1_isKeyword 432 = .ok (.ldc 70, 2) := dk_18 70 (dk_at dksX1_isKeyword_11 7 rfl rfl)
theorem dX1_isKeyword_434 : decode cX1_isKeyword 434 = .ok (.invokevirtual 24, 3) := dk_182 0 24 (dk_at dksX1_isKeyword_11 9 rfl rfl)
theorem dX1_isKeyword_437 : decode cX1_isKeyword 437 = .ok (.ifCond .eq 126, 3) := dk_153 0 126 (dk_at dksX1_isKeyword_11 12 rfl rfl)
theorem dX1_isKeyword_440 : decode cX1_isKeyword 440 = .ok (.bipush 15, 2) := dk_16 15 (dk_at dksX1_isKeyword_11 15 rfl rfl)
theorem dX1_isKeyword_442 : decode cX1_isKeyword 442 = .ok (.istore_n 2, 1) := dk_61 (dk_at dksX1_isKeyword_11 17 rfl rfl)
theorem dX1_isKeyword_443 : decode cX1_isKeyword 443 = .ok (.goto 120, 3) := dk_167 0 120 (dk_at dksX1_isKeyword_11 18 rfl rfl)
theorem dX1_isKeyword_446 : decode cX1_isKeyword 446 = .ok (.aload_n 1, 1) := dk_43 (dk_at dksX1_isKeyword_11 21 rfl rfl)
theorem dX1_isKeyword_447 : decode cX1_isKeyword 447 = .ok (.ldc 72, 2) := dk_18 72 (dk_at dksX1_isKeyword_11 22 rfl rfl)
theorem dX1_isKeyword_449 : decode cX1_isKeyword 449 = .ok (.invokevirtual 24, 3) := dk_182 0 24 (dk_at dksX1_isKeyword_12 0 rfl rfl)
theorem dX1_isKeyword_452 : decode cX1_isKeyword 452 = .ok (.ifCond .eq 111, 3) := dk_153 0 111 (dk_at dksX1_isKeyword_12 3 rfl rfl)
theorem dX1_isKeyword_455 : decode cX1_isKeyword 455 = .ok (.bipush 16, 2) := dk_16 16 (dk_at dksX1_isKeyword_12 6 rfl rfl)
theorem dX1_isKeyword_457 : decode cX1_isKeyword 457 = .ok (.istore_n 2, 1) := dk_61 (dk_at dksX1_isKeyword_12 8 rfl rfl)
theorem dX1_isKeyword_458 : decode cX1_isKeyword 458 = .ok (.goto 105, 3) := dk_167 0 105 (dk_at dksX1_isKeyword_12 9 rfl rfl)
theorem dX1_isKeyword_461 : decode cX1_isKeyword 461 = .ok (.aload_n 1, 1) := dk_43 (dk_at dksX1_isKeyword_12 12 rfl rfl)
theorem dX1_isKeyword_462 : decode cX1_isKeyword 462 = .ok (.ldc 74, 2) := dk_18 74 (dk_at dksX1_isKeyword_12 13 rfl rfl)
theorem dX1_isKeyword_464 : decode cX1_isKeyword 464 = .ok (.invokevirtual 24, 3) := dk_182 0 24 (dk_at dksX1_isKeyword_12 15 rfl rfl)
theorem dX1_isKeyword_467 : decode cX1_isKeyword 467 = .ok (.ifCond .eq 96, 3) := dk_153 0 96 (dk_at dksX1_isKeyword_12 18 rfl rfl)
theorem dX1_isKeyword_470 : decode cX1_isKeyword 470 = .ok (.bipush 17, 2) := dk_16 17 (dk_at dksX1_isKeyword_12 21 rfl rfl)
theorem dX1_isKeyword_472 : decode cX1_isKeyword 472 = .ok (.istore_n 2, 1) := dk_61 (dk_at dksX1_isKeyword_12 23 rfl rfl)
theorem dX1_isKeyword_473 : decode cX1_isKeyword 473 = .ok (.goto 90, 3) := dk_167 0 90 (dk_at dksX1_isKeyword_13 0 rfl rfl)
theorem dX1_isKeyword_476 : decode cX1_isKeyword 476 = .ok (.aload_n 1, 1) := dk_43 (dk_at dksX1_isKeyword_13 3 rfl rfl)
theorem dX1_isKeyword_477 : decode cX1_isKeyword 477 = .ok (.ldc 76, 2) := dk_18 76 (dk_at dksX1_isKeyword_13 4 rfl rfl)
theorem dX1_isKeyword_479 : decode cX1_isKeyword 479 = .ok (.invokevirtual 24, 3) := dk_182 0 24 (dk_at dksX1_isKeyword_13 6 rfl rfl)
theorem dX1_isKeyword_482 : decode cX1_isKeyword 482 = .ok (.ifCond .eq 81, 3) := dk_153 0 81 (dk_at dksX1_isKeyword_13 9 rfl rfl)
theorem dX1_isKeyword_485 : decode cX1_isKeyword 485 = .ok (.bipush 18, 2) := dk_16 18 (dk_at dksX1_isKeyword_13 12 rfl rfl)
theorem dX1_isKeyword_487 : decode cX1_isKeyword 487 = .ok (.istore_n 2, 1) := dk_61 (dk_at dksX1_isKeyword_13 14 rfl rfl)
theorem dX1_isKeyword_488 : decode cX1_isKeyword 488 = .ok (.goto 75, 3) := dk_167 0 75 (dk_at dksX1_isKeyword_13 15 rfl rfl)
theorem dX1_isKeyword_491 : decode cX1_isKeyword 491 = .ok (.aload_n 1, 1) := dk_43 (dk_at dksX1_isKeyword_13 18 rfl rfl)
theorem dX1_isKeyword_492 : decode cX1_isKeyword 492 = .ok (.ldc 78, 2) := dk_18 78 (dk_at dksX1_isKeyword_13 19 rfl rfl)
theorem dX1_isKeyword_494 : decode cX1_isKeyword 494 = .ok (.invokevirtual 24, 3) := dk_182 0 24 (dk_at dksX1_isKeyword_13 21 rfl rfl)
theorem dX1_isKeyword_497 : decode cX1_isKeyword 497 = .ok (.ifCond .eq 66, 3) := dk_153 0 66 (dk_at dksX1_isKeyword_14 0 rfl rfl)
theorem dX1_isKeyword_500 : decode cX1_isKeyword 500 = .ok (.bipush 19, 2) := dk_16 19 (dk_at dksX1_isKeyword_14 3 rfl rfl)
theorem dX1_isKeyword_502 : decode cX1_isKeyword 502 = .ok (.istore_n 2, 1) := dk_61 (dk_at dksX1_isKeyword_14 5 rfl rfl)
theorem dX1_isKeyword_503 : decode cX1_isKeyword 503 = .ok (.goto 60, 3) := dk_167 0 60 (dk_at dksX1_isKeyword_14 6 rfl rfl)
theorem dX1_isKeyword_506 : decode cX1_isKeyword 506 = .ok (.aload_n 1, 1) := dk_43 (dk_at dksX1_isKeyword_14 9 rfl rfl)
theorem dX1_isKeyword_507 : decode cX1_isKeyword 507 = .ok (.ldc 80, 2) := dk_18 80 (dk_at dksX1_isKeyword_14 10 rfl rfl)
theorem dX1_isKeyword_509 : decode cX1_isKeyword 509 = .ok (.invokevirtual 24, 3) := dk_182 0 24 (dk_at dksX1_isKeyword_14 12 rfl rfl)
theorem dX1_isKeyword_512 : decode cX1_isKeyword 512 = .ok (.ifCond .eq 51, 3) := dk_153 0 51 (dk_at dksX1_isKeyword_14 15 rfl rfl)
theorem dX1_isKeyword_515 : decode cX1_isKeyword 515 = .ok (.bipush 20, 2) := dk_16 20 (dk_at dksX1_isKeyword_14 18 rfl rfl)
theorem dX1_isKeyword_517 : decode cX1_isKeyword 517 = .ok (.istore_n 2, 1) := dk_61 (dk_at dksX1_isKeyword_14 20 rfl rfl)
theorem dX1_isKeyword_518 : decode cX1_isKeyword 518 = .ok (.goto 45, 3) := dk_167 0 45 (dk_at dksX1_isKeyword_14 21 rfl rfl)
theorem dX1_isKeyword_521 : decode cX1_isKeyword 521 = .ok (.aload_n 1, 1) := dk_43 (dk_at dksX1_isKeyword_15 0 rfl rfl)
theorem dX1_isKeyword_522 : decode cX1_isKeyword 522 = .ok (.ldc 82, 2) := dk_18 82 (dk_at dksX1_isKeyword_15 1 rfl rfl)
theorem dX1_isKeyword_524 : decode cX1_isKeyword 524 = .ok (.invokevirtual 24, 3) := dk_182 0 24 (dk_at dksX1_isKeyword_15 3 rfl rfl)
theorem dX1_isKeyword_527 : decode cX1_isKeyword 527 = .ok (.ifCond .eq 36, 3) := dk_153 0 36 (dk_at dksX1_isKeyword_15 6 rfl rfl)
theorem dX1_isKeyword_530 : decode cX1_isKeyword 530 = .ok (.bipush 21, 2) := dk_16 21 (dk_at dksX1_isKeyword_15 9 rfl rfl)
theorem dX1_isKeyword_532 : decode cX1_isKeyword 532 = .ok (.istore_n 2, 1) := dk_61 (dk_at dksX1_isKeyword_15 11 rfl rfl)
theorem dX1_isKeyword_533 : decode cX1_isKeyword 533 = .ok (.goto 30, 3) := dk_167 0 30 (dk_at dksX1_isKeyword_15 12 rfl rfl)
theorem dX1_isKeyword_536 : decode cX1_isKeyword 536 = .ok (.aload_n 1, 1) := dk_43 (dk_at dksX1_isKeyword_15 15 rfl rfl)
theorem dX1_isKeyword_537 : decode cX1_isKeyword 537 = .ok (.ldc 84, 2) := dk_18 84 (dk_at dksX1_isKeyword_15 16 rfl rfl)
theorem dX1_isKeyword_539 : decode cX1_isKeyword 539 = .ok (.invokevirtual 24, 3) := dk_182 0 24 (dk_at dksX1_isKeyword_15 18 rfl rfl)
theorem dX1_isKeyword_542 : decode cX1_isKeyword 542 = .ok (.ifCond .eq 21, 3) := dk_153 0 21 (dk_at dksX1_isKeyword_15 21 rfl rfl)
theorem dX1_isKeyword_545 : decode cX1_isKeyword 545 = .ok (.bipush 22, 2) := dk_16 22 (dk_at dksX1_isKeyword_16 0 rfl rfl)
theorem dX1_isKeyword_547 : decode cX1_isKeyword 547 = .ok (.istore_n 2, 1) := dk_61 (dk_at dksX1_isKeyword_16 2 rfl rfl)
theorem dX1_isKeyword_548 : decode cX1_isKeyword 548 = .ok (.goto 15, 3) := dk_167 0 15 (dk_at dksX1_isKeyword_16 3 rfl rfl)
theorem dX1_isKeyword_551 : decode cX1_isKeyword 551 = .ok (.aload_n 1, 1) := dk_43 (dk_at dksX1_isKeyword_16 6 rfl rfl)
theorem dX1_isKeyword_552 : decode cX1_isKeyword 552 = .ok (.ldc 86, 2) := dk_18 86 (dk_at dksX1_isKeyword_16 7 rfl rfl)
theorem dX1_isKeyword_554 : decode cX1_isKeyword 554 = .ok (.invokevirtual 24, 3) := dk_182 0 24 (dk_at dksX1_isKeyword_16 9 rfl rfl)
theorem dX1_isKeyword_557 : decode cX1_isKeyword 557 = .ok (.ifCond .eq 6, 3) := dk_153 0 6 (dk_at dksX1_isKeyword_16 12 rfl rfl)
theorem dX1_isKeyword_560 : decode cX1_isKeyword 560 = .ok (.bipush 23, 2) := dk_16 23 (dk_at dksX1_isKeyword_16 15 rfl rfl)
theorem dX1_isKeyword_562 : decode cX1_isKeyword 562 = .ok (.istore_n 2, 1) := dk_61 (dk_at dksX1_isKeyword_16 17 rfl rfl)
theorem dX1_isKeyword_563 : decode cX1_isKeyword 563 = .ok (.iload_n 2, 1) := dk_28 (dk_at dksX1_isKeyword_16 18 rfl rfl)
theorem dX1_isKeyword_564 : decode cX1_isKeyword 564 = .ok (.tableswitch 116 0 23 #[112, 112, 112, 112, 112, 112, 112, 112, 112, 112, 112, 112, 112, 112, 112, 112, 112, 112, 112, 112, 112, 112, 112, 112], 112) := by decide +kernel
theorem dX1_isKeyword_676 : decode cX1_isKeyword 676 = .ok (.iconst 1, 1) := dk_4 (dk_at dksX1_isKeyword_18 0 rfl rfl)
theorem dX1_isKeyword_677 : decode cX1_isKeyword 677 = .ok (.goto 16, 3) := dk_167 0 16 (dk_at dksX1_isKeyword_18 1 rfl rfl)
theorem dX1_isKeyword_680 : decode cX1_isKeyword 680 = .ok (.aload_n 0, 1) := dk_42 (dk_at dksX1_isKeyword_18 4 rfl rfl)
theorem dX1_isKeyword_681 : decode cX1_isKeyword 681 = .ok (.invokestatic 88, 3) := dk_184 0 88 (dk_at dksX1_isKeyword_18 5 rfl rfl)
theorem dX1_isKeyword_684 : decode cX1_isKeyword 684 = .ok (.iconst (-1), 1) := dk_2 (dk_at dksX1_isKeyword_18 8 rfl rfl)
theorem dX1_isKeyword_685 : decode cX1_isKeyword 685 = .ok (.if_icmp .eq 7, 3) := dk_159 0 7 (dk_at dksX1_isKeyword_18 9 rfl rfl)
theorem dX1_isKeyword_688 : decode cX1_isKeyword 688 = .ok (.iconst 1, 1) := dk_4 (dk_at dksX1_isKeyword_18 12 rfl rfl)
theorem dX1_isKeyword_689 : decode cX1_isKeyword 689 = .ok (.goto 4, 3) := dk_167 0 4 (dk_at dksX1_isKeyword_18 13 rfl rfl)
theorem dX1_isKeyword_692 : decode cX1_isKeyword 692 = .ok (.iconst 0, 1) := dk_3 (dk_at dksX1_isKeyword_18 16 rfl rfl)
theorem dX1_isKeyword_693 : decode cX1_isKeyword 693 = .ok (.ireturn, 1) := dk_172 (dk_at dksX1_isKeyword_18 17 rfl rfl)
def dkwX1_featureOf_8 : List UInt8 := [2, 172]
abbrev dktX1_featureOf_8 : List UInt8 := dkwX1_featureOf_8 ++ []
def dkwX1_featureOf_7 : List UInt8 := [3, 167, 0, 24, 4, 167, 0, 20, 5, 167, 0, 16, 6, 167, 0, 12, 7, 167, 0, 8, 8, 167, 0, 4]
abbrev dktX1_featureOf_7 : List UInt8 := dkwX1_featureOf_7 ++ dktX1_featureOf_8
def dkwX1_featureOf_6 : List UInt8 := [170, 0, 0, 0, 0, 62, 0, 0, 0, 0, 0, 0, 0, 5, 0, 0, 0, 38, 0, 0, 0, 42, 0, 0, 0, 46, 0, 0, 0, 50, 0, 0, 0, 54, 0, 0, 0, 58]
abbrev dktX1_featureOf_6 : List UInt8 := dkwX1_featureOf_6 ++ dktX1_featureOf_7
def dkwX1_featureOf_5 : List UInt8 := [18, 36, 182, 0, 24, 153, 0, 5, 8, 61, 28]
abbrev dktX1_featureOf_5 : List UInt8 := dkwX1_featureOf_5 ++ dktX1_featureOf_6
def dkwX1_featureOf_4 : List UInt8 := [153, 0, 33, 6, 61, 167, 0, 28, 43, 18, 34, 182, 0, 24, 153, 0, 19, 7, 61, 167, 0, 14, 43]
abbrev dktX1_featureOf_4 : List UInt8 := dkwX1_featureOf_4 ++ dktX1_featureOf_5
def dkwX1_featureOf_3 : List UInt8 := [61, 167, 0, 56, 43, 18, 30, 182, 0, 24, 153, 0, 47, 5, 61, 167, 0, 42, 43, 18, 32, 182, 0, 24]
abbrev dktX1_featureOf_3 : List UInt8 := dkwX1_featureOf_3 ++ dktX1_featureOf_4
def dkwX1_featureOf_2 : List UInt8 := [43, 18, 22, 182, 0, 24, 153, 0, 75, 3, 61, 167, 0, 70, 43, 18, 28, 182, 0, 24, 153, 0, 61, 4]
abbrev dktX1_featureOf_2 : List UInt8 := dkwX1_featureOf_2 ++ dktX1_featureOf_3
def dkwX1_featureOf_1 : List UInt8 := [171, 0, 0, 0, 0, 0, 0, 141, 0, 0, 0, 6, 174, 215, 19, 176, 0, 0, 0, 116, 178, 151, 50, 136, 0, 0, 0, 130, 0, 47, 255, 121, 0, 0, 0, 88, 0, 51, 19, 197, 0, 0, 0, 74, 0, 52, 112, 223, 0, 0, 0, 60, 6, 138, 209, 207, 0, 0, 0, 102]
abbrev dktX1_featureOf_1 : List UInt8 := dkwX1_featureOf_1 ++ dktX1_featureOf_2
def dkwX1_featureOf_0 : List UInt8 := [42, 76, 2, 61, 43, 182, 0, 16]
abbrev dktX1_featureOf_0 : List UInt8 := dkwX1_featureOf_0 ++ dktX1_featureOf_1
theorem dksX1_featureOf_0 : cX1_featureOf.data.toList.drop 0 = dktX1_featureOf_0 := by decide +kernel
theorem dksX1_featureOf_1 : cX1_featureOf.data.toList.drop 8 = dktX1_featureOf_1 := dk_seg dksX1_featureOf_0 8 rfl rfl
theorem dksX1_featureOf_2 : cX1_featureOf.data.toList.drop 68 = dktX1_featureOf_2 := dk_seg dksX1_featureOf_1 60 rfl rfl
theorem dksX1_featureOf_3 : cX1_featureOf.data.toList.drop 92 = dktX1_featureOf_3 := dk_seg dksX1_featureOf_2 24 rfl rfl
theorem dksX1_featureOf_4 : cX1_featureOf.data.toList.drop 116 = dktX1_featureOf_4 := dk_seg dksX1_featureOf_3 24 rfl rfl
theorem dksX1_featureOf_5 : cX1_featureOf.data.toList.drop 139 = dktX1_featureOf_5 := dk_seg dksX1_featureOf_4 23 rfl rfl
theorem dksX1_featureOf_6 : cX1_featureOf.data.toList.drop 150 = dktX1_featureOf_6 := dk_seg dksX1_featureOf_5 11 rfl rfl
theorem dksX1_featureOf_7 : cX1_featureOf.data.toList.drop 188 = dktX1_featureOf_7 := dk_seg dksX1_featureOf_6 38 rfl rfl
theorem dksX1_featureOf_8 : cX1_featureOf.data.toList.drop 212 = dktX1_featureOf_8 := dk_seg dksX1_featureOf_7 24 rfl rfl
theorem dX1_featureOf_0 : decode cX1_featureOf 0 = .ok (.aload_n 0, 1) := dk_42 (dk_at dksX1_featureOf_0 0 rfl rfl)
theorem dX1_featureOf_1 : decode cX1_featureOf 1 = .ok (.astore_n 1, 1) := dk_76 (dk_at dksX1_featureOf_0 1 rfl rfl)
theorem dX1_featureOf_2 : decode cX1_featureOf 2 = .ok (.iconst (-1), 1) := dk_2 (dk_at dksX1_featureOf_0 2 rfl rfl)
theorem dX1_featureOf_3 : decode cX1_featureOf 3 = .ok (.istore_n 2, 1) := dk_61 (dk_at dksX1_featureOf_0 3 rfl rfl)
theorem dX1_featureOf_4 : decode cX1_featureOf 4 = .ok (.aload_n 1, 1) := dk_43 (dk_at dksX1_featureOf_0 4 rfl rfl)
theorem dX1_featureOf_5 : decode cX1_featureOf 5 = .ok (.invokevirtual 16, 3) := dk_182 0 16 (dk_at dksX1_featureOf_0 5 rfl rfl)
theorem dX1_featureOf_8 : decode cX1_featureOf 8 = .ok (.lookupswitch 141 #[(-1361636432, 116), (-1298713976, 130), (3145593, 88), (3347397, 74), (3436767, 60), (109760975, 102)], 60) := by decide +kernel
theorem dX1_featureOf_68 : decode cX1_featureOf 68 = .ok (.aload_n 1, 1) := dk_43 (dk_at dksX1_featureOf_2 0 rfl rfl)
theorem dX1_featureOf_69 : decode cX1_featureOf 69 = .ok (.ldc 22, 2) := dk_18 22 (dk_at dksX1_featureOf_2 1 rfl rfl)
theorem dX1_featureOf_71 : decode cX1_featureOf 71 = .ok (.invokevirtual 24, 3) := dk_182 0 24 (dk_at dksX1_featureOf_2 3 rfl rfl)
theorem dX1_featureOf_74 : decode cX1_featureOf 74 = .ok (.ifCond .eq 75, 3) := dk_153 0 75 (dk_at dksX1_featureOf_2 6 rfl rfl)
theorem dX1_featureOf_77 : decode cX1_featureOf 77 = .ok (.iconst 0, 1) := dk_3 (dk_at dksX1_featureOf_2 9 rfl rfl)
theorem dX1_featureOf_78 : decode cX1_featureOf 78 = .ok (.istore_n 2, 1) := dk_61 (dk_at dksX1_featureOf_2 10 rfl rfl)
theorem dX1_featureOf_79 : decode cX1_featureOf 79 = .ok (.goto 70, 3) := dk_167 0 70 (dk_at dksX1_featureOf_2 11 rfl rfl)
theorem dX1_featureOf_82 : decode cX1_featureOf 82 = .ok (.aload_n 1, 1) := dk_43 (dk_at dksX1_featureOf_2 14 rfl rfl)
theorem dX1_featureOf_83 : decode cX1_featureOf 83 = .ok (.ldc 28, 2) := dk_18 28 (dk_at dksX1_featureOf_2 15 rfl rfl)
theorem dX1_featureOf_85 : decode cX1_featureOf 85 = .ok (.invokevirtual 24, 3) := dk_182 0 24 (dk_at dksX1_featureOf_2 17 rfl rfl)
theorem dX1_featureOf_88 : decode cX1_featureOf 88 = .ok (.ifCond .eq 61, 3) := dk_153 0 61 (dk_at dksX1_featureOf_2 20 rfl rfl)
theorem dX1_featureOf_91 : decode cX1_featureOf 91 = .ok (.iconst 1, 1) := dk_4 (dk_at dksX1_featureOf_2 23 rfl rfl)
theorem dX1_featureOf_92 : decode cX1_featureOf 92 = .ok (.istore_n 2, 1) := dk_61 (dk_at dksX1_featureOf_3 0 rfl rfl)
theorem dX1_featureOf_93 : decode cX1_featureOf 93 = .ok (.goto 56, 3) := dk_167 0 56 (dk_at dksX1_featureOf_3 1 rfl rfl)
theorem dX1_featureOf_96 : decode cX1_featureOf 96 = .ok (.aload_n 1, 1) := dk_43 (dk_at dksX1_featureOf_3 4 rfl rfl)
theorem dX1_featureOf_97 : decode cX1_featureOf 97 = .ok (.ldc 30, 2) := dk_18 30 (dk_at dksX1_featureOf_3 5 rfl rfl)
theorem dX1_featureOf_99 : decode cX1_featureOf 99 = .ok (.invokevirtual 24, 3) := dk_182 0 24 (dk_at dksX1_featureOf_3 7 rfl rfl)
theorem dX1_featureOf_102 : decode cX1_featureOf 102 = .ok (.ifCond .eq 47, 3) := dk_153 0 47 (dk_at dksX1_featureOf_3 10 rfl rfl)
theorem dX1_featureOf_105 : decode cX1_featureOf 105 = .ok (.iconst 2, 1) := dk_5 (dk_at dksX1_featureOf_3 13 rfl rfl)
theorem dX1_featureOf_106 : decode cX1_featureOf 106 = .ok (.istore_n 2, 1) := dk_61 (dk_at dksX1_featureOf_3 14 rfl rfl)
theorem dX1_featureOf_107 : decode cX1_featureOf 107 = .ok (.goto 42, 3) := dk_167 0 42 (dk_at dksX1_featureOf_3 15 rfl rfl)
theorem dX1_featureOf_110 : decode cX1_featureOf 110 = .ok (.aload_n 1, 1) := dk_43 (dk_at dksX1_featureOf_3 18 rfl rfl)
theorem dX1_featureOf_111 : decode cX1_featureOf 111 = .ok (.ldc 32, 2) := dk_18 32 (dk_at dksX1_featureOf_3 19 rfl rfl)
theorem dX1_featureOf_113 : decode cX1_featureOf 113 = .ok (.invokevirtual 24, 3) := dk_182 0 24 (dk_at dksX1_featureOf_3 21 rfl rfl)
theorem dX1_featureOf_116 : decode cX1_featureOf 116 = .ok (.ifCond .eq 33, 3) := dk_153 0 33 (dk_at dksX1_featureOf_4 0 rfl rfl)
theorem dX1_featureOf_119 : decode cX1_featureOf 119 = .ok (.iconst 3, 1) := dk_6 (dk_at dksX1_featureOf_4 3 rfl rfl)
theorem dX1_featureOf_120 : decode cX1_featureOf 120 = .ok (.istore_n 2, 1) := dk_61 (dk_at dksX1_featureOf_4 4 rfl rfl)
theorem dX1_featureOf_121 : decode cX1_featureOf 121 = .ok (.goto 28, 3) := dk_167 0 28 (dk_at dksX1_featureOf_4 5 rfl rfl)
theorem dX1_featureOf_124 : decode cX1_featureOf 124 = .ok (.aload_n 1, 1) := dk_43 (dk_at dksX1_featureOf_4 8 rfl rfl)
theorem dX1_featureOf_125 : decode cX1_featureOf 125 = .ok (.ldc 34, 2) := dk_18 34 (dk_at dksX1_featureOf_4 9 rfl rfl)
theorem dX1_featureOf_127 : decode cX1_featureOf 127 = .ok (.invokevirtual 24, 3) := dk_182 0 24 (dk_at dksX1_featureOf_4 11 rfl rfl)
theorem dX1_featureOf_130 : decode cX1_featureOf 130 = .ok (.ifCond .eq 19, 3) := dk_153 0 19 (dk_at dksX1_featureOf_4 14 rfl rfl)
theorem dX1_featureOf_133 : decode cX1_featureOf 133 = .ok (.iconst 4, 1) := dk_7 (dk_at dksX1_featureOf_4 17 rfl rfl)
theorem dX1_featureOf_134 : decode cX1_featureOf 134 = .ok (.istore_n 2, 1) := dk_61 (dk_at dksX1_featureOf_4 18 rfl rfl)
theorem dX1_featureOf_135 : decode cX1_featureOf 135 = .ok (.goto 14, 3) := dk_167 0 14 (dk_at dksX1_featureOf_4 19 rfl rfl)
theorem dX1_featureOf_138 : decode cX1_featureOf 138 = .ok (.aload_n 1, 1) := dk_43 (dk_at dksX1_featureOf_4 22 rfl rfl)
theorem dX1_featureOf_139 : decode cX1_featureOf 139 = .ok (.ldc 36, 2) := dk_18 36 (dk_at dksX1_featureOf_5 0 rfl rfl)
theorem dX1_featureOf_141 : decode cX1_featureOf 141 = .ok (.invokevirtual 24, 3) := dk_182 0 24 (dk_at dksX1_featureOf_5 2 rfl rfl)
theorem dX1_featureOf_144 : decode cX1_featureOf 144 = .ok (.ifCond .eq 5, 3) := dk_153 0 5 (dk_at dksX1_featureOf_5 5 rfl rfl)
theorem dX1_featureOf_147 : decode cX1_featureOf 147 = .ok (.iconst 5, 1) := dk_8 (dk_at dksX1_featureOf_5 8 rfl rfl)
theorem dX1_featureOf_148 : decode cX1_featureOf 148 = .ok (.istore_n 2, 1) := dk_61 (dk_at dksX1_featureOf_5 9 rfl rfl)
theorem dX1_featureOf_149 : decode cX1_featureOf 149 = .ok (.iload_n 2, 1) := dk_28 (dk_at dksX1_featureOf_5 10 rfl rfl)
theorem dX1_featureOf_150 : decode cX1_featureOf 150 = .ok (.tableswitch 62 0 5 #[38, 42, 46, 50, 54, 58], 38) := by decide +kernel
theorem dX1_featureOf_188 : decode cX1_featureOf 188 = .ok (.iconst 0, 1) := dk_3 (dk_at dksX1_featureOf_7 0 rfl rfl)
theorem dX1_featureOf_189 : decode cX1_featureOf 189 = .ok (.goto 24, 3) := dk_167 0 24 (dk_at dksX1_featureOf_7 1 rfl rfl)
theorem dX1_featureOf_192 : decode cX1_featureOf 192 = .ok (.iconst 1, 1) := dk_4 (dk_at dksX1_featureOf_7 4 rfl rfl)
theorem dX1_featureOf_193 : decode cX1_featureOf 193 = .ok (.goto 20, 3) := dk_167 0 20 (dk_at dksX1_featureOf_7 5 rfl rfl)
theorem dX1_featureOf_196 : decode cX1_featureOf 196 = .ok (.iconst 2, 1) := dk_5 (dk_at dksX1_featureOf_7 8 rfl rfl)
theorem dX1_featureOf_197 : decode cX1_featureOf 197 = .ok (.goto 16, 3) := dk_167 0 16 (dk_at dksX1_featureOf_7 9 rfl rfl)
theorem dX1_featureOf_200 : decode cX1_featureOf 200 = .ok (.iconst 3, 1) := dk_6 (dk_at dksX1_featureOf_7 12 rfl rfl)
theorem dX1_featureOf_201 : decode cX1_featureOf 201 = .ok (.goto 12, 3) := dk_167 0 12 (dk_at dksX1_featureOf_7 13 rfl rfl)
theorem dX1_featureOf_204 : decode cX1_featureOf 204 = .ok (.iconst 4, 1) := dk_7 (dk_at dksX1_featureOf_7 16 rfl rfl)
theorem dX1_featureOf_205 : decode cX1_featureOf 205 = .ok (.goto 8, 3) := dk_167 0 8 (dk_at dksX1_featureOf_7 17 rfl rfl)
theorem dX1_featureOf_208 : decode cX1_featureOf 208 = .ok (.iconst 5, 1) := dk_8 (dk_at dksX1_featureOf_7 20 rfl rfl)
theorem dX1_featureOf_209 : decode cX1_featureOf 209 = .ok (.goto 4, 3) := dk_167 0 4 (dk_at dksX1_featureOf_7 21 rfl rfl)
theorem dX1_featureOf_212 : decode cX1_featureOf 212 = .ok (.iconst (-1), 1) := dk_2 (dk_at dksX1_featureOf_8 0 rfl rfl)
theorem dX1_featureOf_213 : decode cX1_featureOf 213 = .ok (.ireturn, 1) := dk_172 (dk_at dksX1_featureOf_8 1 rfl rfl)
def dkwX1_keep_1 : List UInt8 := [43, 182, 0, 154, 177]
abbrev dktX1_keep_1 : List UInt8 := dkwX1_keep_1 ++ []
def dkwX1_keep_0 : List UInt8 := [42, 180, 0, 110, 182, 0, 147, 16, 6, 160, 0, 11, 42, 180, 0, 110, 182, 0, 150, 87, 42, 180, 0, 110]
abbrev dktX1_keep_0 : List UInt8 := dkwX1_keep_0 ++ dktX1_keep_1
theorem dksX1_keep_0 : cX1_keep.data.toList.drop 0 = dktX1_keep_0 := by decide +kernel
theorem dksX1_keep_1 : cX1_keep.data.toList.drop 24 = dktX1_keep_1 := dk_seg dksX1_keep_0 24 rfl rfl
theorem dX1_keep_0 : decode cX1_keep 0 = .ok (.aload_n 0, 1) := dk_42 (dk_at dksX1_keep_0 0 rfl rfl)
theorem dX1_keep_1 : decode cX1_keep 1 = .ok (.getfield 110, 3) := dk_180 0 110 (dk_at dksX1_keep_0 1 rfl rfl)
theorem dX1_keep_4 : decode cX1_keep 4 = .ok (.invokevirtual 147, 3) := dk_182 0 147 (dk_at dksX1_keep_0 4 rfl rfl)
theorem dX1_keep_7 : decode cX1_keep 7 = .ok (.bipush 6, 2) := dk_16 6 (dk_at dksX1_keep_0 7 rfl rfl)
theorem dX1_keep_9 : decode cX1_keep 9 = .ok (.if_icmp .ne 11, 3) := dk_160 0 11 (dk_at dksX1_keep_0 9 rfl rfl)
theorem dX1_keep_12 : decode cX1_keep 12 = .ok (.aload_n 0, 1) := dk_42 (dk_at dksX1_keep_0 12 rfl rfl)
theorem dX1_keep_13 : decode cX1_keep 13 = .ok (.getfield 110, 3) := dk_180 0 110 (dk_at dksX1_keep_0 13 rfl rfl)
theorem dX1_keep_16 : decode cX1_keep 16 = .ok (.invokevirtual 150, 3) := dk_182 0 150 (dk_at dksX1_keep_0 16 rfl rfl)
theorem dX1_keep_19 : decode cX1_keep 19 = .ok (.pop, 1) := dk_87 (dk_at dksX1_keep_0 19 rfl rfl)
theorem dX1_keep_20 : decode cX1_keep 20 = .ok (.aload_n 0, 1) := dk_42 (dk_at dksX1_keep_0 20 rfl rfl)
theorem dX1_keep_21 : decode cX1_keep 21 = .ok (.getfield 110, 3) := dk_180 0 110 (dk_at dksX1_keep_0 21 rfl rfl)
theorem dX1_keep_24 : decode cX1_keep 24 = .ok (.aload_n 1, 1) := dk_43 (dk_at dksX1_keep_1 0 rfl rfl)
theorem dX1_keep_25 : decode cX1_keep 25 = .ok (.invokevirtual 154, 3) := dk_182 0 154 (dk_at dksX1_keep_1 1 rfl rfl)
theorem dX1_keep_28 : decode cX1_keep 28 = .ok (.return_, 1) := dk_177 (dk_at dksX1_keep_1 4 rfl rfl)
theorem dX1_errorCode_0 : decode cX1_errorCode 0 = .ok (.aload_n 0, 1) := by decide +kernel
theorem dX1_errorCode_1 : decode cX1_errorCode 1 = .ok (.getfield 164, 3) := by decide +kernel
theorem dX1_errorCode_4 : decode cX1_errorCode 4 = .ok (.ireturn, 1) := by decide +kernel
theorem dX1_errorPosition_0 : decode cX1_errorPosition 0 = .ok (.aload_n 0, 1) := by decide +kernel
theorem dX1_errorPosition_1 : decode cX1_errorPosition 1 = .ok (.getfield 118, 3) := by decide +kernel
theorem dX1_errorPosition_4 : decode cX1_errorPosition 4 = .ok (.ireturn, 1) := by decide +kernel
def dkwX1_find_0 : List UInt8 := [42, 182, 0, 199, 76, 42, 3, 181, 0, 129, 42, 180, 0, 103, 43, 182, 0, 202, 172]
abbrev dktX1_find_0 : List UInt8 := dkwX1_find_0 ++ []
theorem dksX1_find_0 : cX1_find.data.toList.drop 0 = dktX1_find_0 := by decide +kernel
theorem dX1_find_0 : decode cX1_find 0 = .ok (.aload_n 0, 1) := dk_42 (dk_at dksX1_find_0 0 rfl rfl)
theorem dX1_find_1 : decode cX1_find 1 = .ok (.invokevirtual 199, 3) := dk_182 0 199 (dk_at dksX1_find_0 1 rfl rfl)
theorem dX1_find_4 : decode cX1_find 4 = .ok (.astore_n 1, 1) := dk_76 (dk_at dksX1_find_0 4 rfl rfl)
theorem dX1_find_5 : decode cX1_find 5 = .ok (.aload_n 0, 1) := dk_42 (dk_at dksX1_find_0 5 rfl rfl)
theorem dX1_find_6 : decode cX1_find 6 = .ok (.iconst 0, 1) := dk_3 (dk_at dksX1_find_0 6 rfl rfl)
theorem dX1_find_7 : decode cX1_find 7 = .ok (.putfield 129, 3) := dk_181 0 129 (dk_at dksX1_find_0 7 rfl rfl)
theorem dX1_find_10 : decode cX1_find 10 = .ok (.aload_n 0, 1) := dk_42 (dk_at dksX1_find_0 10 rfl rfl)
theorem dX1_find_11 : decode cX1_find 11 = .ok (.getfield 103, 3) := dk_180 0 103 (dk_at dksX1_find_0 11 rfl rfl)
theorem dX1_find_14 : decode cX1_find 14 = .ok (.aload_n 1, 1) := dk_43 (dk_at dksX1_find_0 14 rfl rfl)
theorem dX1_find_15 : decode cX1_find 15 = .ok (.invokevirtual 202, 3) := dk_182 0 202 (dk_at dksX1_find_0 15 rfl rfl)
theorem dX1_find_18 : decode cX1_find 18 = .ok (.ireturn, 1) := dk_172 (dk_at dksX1_find_0 18 rfl rfl)
def dkwX1_text_1 : List UInt8 := [51, 17, 0, 255, 126, 146, 182, 0, 191, 87, 132, 2, 1, 167, 255, 229, 43, 182, 0, 195, 176]
abbrev dktX1_text_1 : List UInt8 := dkwX1_text_1 ++ []
def dkwX1_text_0 : List UInt8 := [187, 0, 122, 89, 183, 0, 124, 76, 3, 61, 28, 42, 180, 0, 129, 162, 0, 25, 43, 42, 180, 0, 114, 28]
abbrev dktX1_text_0 : List UInt8 := dkwX1_text_0 ++ dktX1_text_1
theorem dksX1_text_0 : cX1_text.data.toList.drop 0 = dktX1_text_0 := by decide +kernel
theorem dksX1_text_1 : cX1_text.data.toList.drop 24 = dktX1_text_1 := dk_seg dksX1_text_0 24 rfl rfl
theorem dX1_text_0 : decode cX1_text 0 = .ok (.new 122, 3) := dk_187 0 122 (dk_at dksX1_text_0 0 rfl rfl)
theorem dX1_text_3 : decode cX1_text 3 = .ok (.dup, 1) := dk_89 (dk_at dksX1_text_0 3 rfl rfl)
theorem dX1_text_4 : decode cX1_text 4 = .ok (.invokespecial 124, 3) := dk_183 0 124 (dk_at dksX1_text_0 4 rfl rfl)
theorem dX1_text_7 : decode cX1_text 7 = .ok (.astore_n 1, 1) := dk_76 (dk_at dksX1_text_0 7 rfl rfl)
theorem dX1_text_8 : decode cX1_text 8 = .ok (.iconst 0, 1) := dk_3 (dk_at dksX1_text_0 8 rfl rfl)
theorem dX1_text_9 : decode cX1_text 9 = .ok (.istore_n 2, 1) := dk_61 (dk_at dksX1_text_0 9 rfl rfl)
theorem dX1_text_10 : decode cX1_text 10 = .ok (.iload_n 2, 1) := dk_28 (dk_at dksX1_text_0 10 rfl rfl)
theorem dX1_text_11 : decode cX1_text 11 = .ok (.aload_n 0, 1) := dk_42 (dk_at dksX1_text_0 11 rfl rfl)
theorem dX1_text_12 : decode cX1_text 12 = .ok (.getfield 129, 3) := dk_180 0 129 (dk_at dksX1_text_0 12 rfl rfl)
theorem dX1_text_15 : decode cX1_text 15 = .ok (.if_icmp .ge 25, 3) := dk_162 0 25 (dk_at dksX1_text_0 15 rfl rfl)
theorem dX1_text_18 : decode cX1_text 18 = .ok (.aload_n 1, 1) := dk_43 (dk_at dksX1_text_0 18 rfl rfl)
theorem dX1_text_19 : decode cX1_text 19 = .ok (.aload_n 0, 1) := dk_42 (dk_at dksX1_text_0 19 rfl rfl)
theorem dX1_text_20 : decode cX1_text 20 = .ok (.getfield 114, 3) := dk_180 0 114 (dk_at dksX1_text_0 20 rfl rfl)
theorem dX1_text_23 : decode cX1_text 23 = .ok (.iload_n 2, 1) := dk_28 (dk_at dksX1_text_0 23 rfl rfl)
theorem dX1_text_24 : decode cX1_text 24 = .ok (.baload, 1) := dk_51 (dk_at dksX1_text_1 0 rfl rfl)
theorem dX1_text_25 : decode cX1_text 25 = .ok (.sipush 255, 3) := dk_17 0 255 (dk_at dksX1_text_1 1 rfl rfl)
theorem dX1_text_28 : decode cX1_text 28 = .ok (.iand, 1) := dk_126 (dk_at dksX1_text_1 4 rfl rfl)
theorem dX1_text_29 : decode cX1_text 29 = .ok (.i2c, 1) := dk_146 (dk_at dksX1_text_1 5 rfl rfl)
theorem dX1_text_30 : decode cX1_text 30 = .ok (.invokevirtual 191, 3) := dk_182 0 191 (dk_at dksX1_text_1 6 rfl rfl)
theorem dX1_text_33 : decode cX1_text 33 = .ok (.pop, 1) := dk_87 (dk_at dksX1_text_1 9 rfl rfl)
theorem dX1_text_34 : decode cX1_text 34 = .ok (.iinc 2 1, 3) := dk_132 2 1 (dk_at dksX1_text_1 10 rfl rfl)
theorem dX1_text_37 : decode cX1_text 37 = .ok (.goto (-27), 3) := dk_167 255 229 (dk_at dksX1_text_1 13 rfl rfl)
theorem dX1_text_40 : decode cX1_text 40 = .ok (.aload_n 1, 1) := dk_43 (dk_at dksX1_text_1 16 rfl rfl)
theorem dX1_text_41 : decode cX1_text 41 = .ok (.invokevirtual 195, 3) := dk_182 0 195 (dk_at dksX1_text_1 17 rfl rfl)
theorem dX1_text_44 : decode cX1_text 44 = .ok (.areturn, 1) := dk_176 (dk_at dksX1_text_1 20 rfl rfl)
def dkwX1_now_0 : List UInt8 := [42, 180, 0, 103, 180, 0, 239, 172]
abbrev dktX1_now_0 : List UInt8 := dkwX1_now_0 ++ []
theorem dksX1_now_0 : cX1_now.data.toList.drop 0 = dktX1_now_0 := by decide +kernel
theorem dX1_now_0 : decode cX1_now 0 = .ok (.aload_n 0, 1) := dk_42 (dk_at dksX1_now_0 0 rfl rfl)
theorem dX1_now_1 : decode cX1_now 1 = .ok (.getfield 103, 3) := dk_180 0 103 (dk_at dksX1_now_0 1 rfl rfl)
theorem dX1_now_4 : decode cX1_now 4 = .ok (.getfield 239, 3) := dk_180 0 239 (dk_at dksX1_now_0 4 rfl rfl)
theorem dX1_now_7 : decode cX1_now 7 = .ok (.ireturn, 1) := dk_172 (dk_at dksX1_now_0 7 rfl rfl)
def dkwX1_losePower_2 : List UInt8 := [182, 1, 185, 172]
abbrev dktX1_losePower_2 : List UInt8 := dkwX1_losePower_2 ++ []
def dkwX1_losePower_1 : List UInt8 := [180, 0, 103, 180, 0, 176, 27, 182, 0, 245, 192, 0, 249, 182, 1, 182, 132, 1, 1, 167, 255, 222, 42]
abbrev dktX1_losePower_1 : List UInt8 := dkwX1_losePower_1 ++ dktX1_losePower_2
def dkwX1_losePower_0 : List UInt8 := [42, 182, 1, 27, 87, 3, 60, 27, 42, 180, 0, 103, 180, 0, 176, 182, 0, 180, 162, 0, 26, 42]
abbrev dktX1_losePower_0 : List UInt8 := dkwX1_losePower_0 ++ dktX1_losePower_1
theorem dksX1_losePower_0 : cX1_losePower.data.toList.drop 0 = dktX1_losePower_0 := by decide +kernel
theorem dksX1_losePower_1 : cX1_losePower.data.toList.drop 22 = dktX1_losePower_1 := dk_seg dksX1_losePower_0 22 rfl rfl
theorem dksX1_losePower_2 : cX1_losePower.data.toList.drop 45 = dktX1_losePower_2 := dk_seg dksX1_losePower_1 23 rfl rfl
theorem dX1_losePower_0 : decode cX1_losePower 0 = .ok (.aload_n 0, 1) := dk_42 (dk_at dksX1_losePower_0 0 rfl rfl)
theorem dX1_losePower_1 : decode cX1_losePower 1 = .ok (.invokevirtual 283, 3) := dk_182 1 27 (dk_at dksX1_losePower_0 1 rfl rfl)
theorem dX1_losePower_4 : decode cX1_losePower 4 = .ok (.pop, 1) := dk_87 (dk_at dksX1_losePower_0 4 rfl rfl)
theorem dX1_losePower_5 : decode cX1_losePower 5 = .ok (.iconst 0, 1) := dk_3 (dk_at dksX1_losePower_0 5 rfl rfl)
theorem dX1_losePower_6 : decode cX1_losePower 6 = .ok (.istore_n 1, 1) := dk_60 (dk_at dksX1_losePower_0 6 rfl rfl)
theorem dX1_losePower_7 : decode cX1_losePower 7 = .ok (.iload_n 1, 1) := dk_27 (dk_at dksX1_losePower_0 7 rfl rfl)
theorem dX1_losePower_8 : decode cX1_losePower 8 = .ok (.aload_n 0, 1) := dk_42 (dk_at dksX1_losePower_0 8 rfl rfl)
theorem dX1_losePower_9 : decode cX1_losePower 9 = .ok (.getfield 103, 3) := dk_180 0 103 (dk_at dksX1_losePower_0 9 rfl rfl)
theorem dX1_losePower_12 : decode cX1_losePower 12 = .ok (.getfield 176, 3) := dk_180 0 176 (dk_at dksX1_losePower_0 12 rfl rfl)
theorem dX1_losePower_15 : decode cX1_losePower 15 = .ok (.invokevirtual 180, 3) := dk_182 0 180 (dk_at dksX1_losePower_0 15 rfl rfl)
theorem dX1_losePower_18 : decode cX1_losePower 18 = .ok (.if_icmp .ge 26, 3) := dk_162 0 26 (dk_at dksX1_losePower_0 18 rfl rfl)
theorem dX1_losePower_21 : decode cX1_losePower 21 = .ok (.aload_n 0, 1) := dk_42 (dk_at dksX1_losePower_0 21 rfl rfl)
theorem dX1_losePower_22 : decode cX1_losePower 22 = .ok (.getfield 103, 3) := dk_180 0 103 (dk_at dksX1_losePower_1 0 rfl rfl)
theorem dX1_losePower_25 : decode cX1_losePower 25 = .ok (.getfield 176, 3) := dk_180 0 176 (dk_at dksX1_losePower_1 3 rfl rfl)
theorem dX1_losePower_28 : decode cX1_losePower 28 = .ok (.iload_n 1, 1) := dk_27 (dk_at dksX1_losePower_1 6 rfl rfl)
theorem dX1_losePower_29 : decode cX1_losePower 29 = .ok (.invokevirtual 245, 3) := dk_182 0 245 (dk_at dksX1_losePower_1 7 rfl rfl)
theorem dX1_losePower_32 : decode cX1_losePower 32 = .ok (.checkcast 249, 3) := dk_192 0 249 (dk_at dksX1_losePower_1 10 rfl rfl)
theorem dX1_losePower_35 : decode cX1_losePower 35 = .ok (.invokevirtual 438, 3) := dk_182 1 182 (dk_at dksX1_losePower_1 13 rfl rfl)
theorem dX1_losePower_38 : decode cX1_losePower 38 = .ok (.iinc 1 1, 3) := dk_132 1 1 (dk_at dksX1_losePower_1 16 rfl rfl)
theorem dX1_losePower_41 : decode cX1_losePower 41 = .ok (.goto (-34), 3) := dk_167 255 222 (dk_at dksX1_losePower_1 19 rfl rfl)
theorem dX1_losePower_44 : decode cX1_losePower 44 = .ok (.aload_n 0, 1) := dk_42 (dk_at dksX1_losePower_1 22 rfl rfl)
theorem dX1_losePower_45 : decode cX1_losePower 45 = .ok (.invokevirtual 441, 3) := dk_182 1 185 (dk_at dksX1_losePower_2 0 rfl rfl)
theorem dX1_losePower_48 : decode cX1_losePower 48 = .ok (.ireturn, 1) := dk_172 (dk_at dksX1_losePower_2 3 rfl rfl)
def dkwX1_remember_0 : List UInt8 := [42, 187, 0, 95, 89, 42, 180, 0, 103, 183, 0, 158, 182, 0, 161, 42, 180, 0, 103, 176]
abbrev dktX1_remember_0 : List UInt8 := dkwX1_remember_0 ++ []
theorem dksX1_remember_0 : cX1_remember.data.toList.drop 0 = dktX1_remember_0 := by decide +kernel
theorem dX1_remember_0 : decode cX1_remember 0 = .ok (.aload_n 0, 1) := dk_42 (dk_at dksX1_remember_0 0 rfl rfl)
theorem dX1_remember_1 : decode cX1_remember 1 = .ok (.new 95, 3) := dk_187 0 95 (dk_at dksX1_remember_0 1 rfl rfl)
theorem dX1_remember_4 : decode cX1_remember 4 = .ok (.dup, 1) := dk_89 (dk_at dksX1_remember_0 4 rfl rfl)
theorem dX1_remember_5 : decode cX1_remember 5 = .ok (.aload_n 0, 1) := dk_42 (dk_at dksX1_remember_0 5 rfl rfl)
theorem dX1_remember_6 : decode cX1_remember 6 = .ok (.getfield 103, 3) := dk_180 0 103 (dk_at dksX1_remember_0 6 rfl rfl)
theorem dX1_remember_9 : decode cX1_remember 9 = .ok (.invokespecial 158, 3) := dk_183 0 158 (dk_at dksX1_remember_0 9 rfl rfl)
theorem dX1_remember_12 : decode cX1_remember 12 = .ok (.invokevirtual 161, 3) := dk_182 0 161 (dk_at dksX1_remember_0 12 rfl rfl)
theorem dX1_remember_15 : decode cX1_remember 15 = .ok (.aload_n 0, 1) := dk_42 (dk_at dksX1_remember_0 15 rfl rfl)
theorem dX1_remember_16 : decode cX1_remember 16 = .ok (.getfield 103, 3) := dk_180 0 103 (dk_at dksX1_remember_0 16 rfl rfl)
theorem dX1_remember_19 : decode cX1_remember 19 = .ok (.areturn, 1) := dk_176 (dk_at dksX1_remember_0 19 rfl rfl)
def dkwX1_memoryCount_0 : List UInt8 := [42, 180, 0, 103, 180, 1, 188, 182, 0, 147, 172]
abbrev dktX1_memoryCount_0 : List UInt8 := dkwX1_memoryCount_0 ++ []
theorem dksX1_memoryCount_0 : cX1_memoryCount.data.toList.drop 0 = dktX1_memoryCount_0 := by decide +kernel
theorem dX1_memoryCount_0 : decode cX1_memoryCount 0 = .ok (.aload_n 0, 1) := dk_42 (dk_at dksX1_memoryCount_0 0 rfl rfl)
theorem dX1_memoryCount_1 : decode cX1_memoryCount 1 = .ok (.getfield 103, 3) := dk_180 0 103 (dk_at dksX1_memoryCount_0 1 rfl rfl)
theorem dX1_memoryCount_4 : decode cX1_memoryCount 4 = .ok (.getfield 444, 3) := dk_180 1 188 (dk_at dksX1_memoryCount_0 4 rfl rfl)
theorem dX1_memoryCount_7 : decode cX1_memoryCount 7 = .ok (.invokevirtual 147, 3) := dk_182 0 147 (dk_at dksX1_memoryCount_0 7 rfl rfl)
theorem dX1_memoryCount_10 : decode cX1_memoryCount 10 = .ok (.ireturn, 1) := dk_172 (dk_at dksX1_memoryCount_0 10 rfl rfl)
def dkwX1_clearMemory_0 : List UInt8 := [42, 182, 1, 27, 180, 1, 188, 182, 0, 147, 60, 42, 180, 0, 103, 180, 1, 188, 182, 1, 211, 27, 172]
abbrev dktX1_clearMemory_0 : List UInt8 := dkwX1_clearMemory_0 ++ []
theorem dksX1_clearMemory_0 : cX1_clearMemory.data.toList.drop 0 = dktX1_clearMemory_0 := by decide +kernel
theorem dX1_clearMemory_0 : decode cX1_clearMemory 0 = .ok (.aload_n 0, 1) := dk_42 (dk_at dksX1_clearMemory_0 0 rfl rfl)
theorem dX1_clearMemory_1 : decode cX1_clearMemory 1 = .ok (.invokevirtual 283, 3) := dk_182 1 27 (dk_at dksX1_clearMemory_0 1 rfl rfl)
theorem dX1_clearMemory_4 : decode cX1_clearMemory 4 = .ok (.getfield 444, 3) := dk_180 1 188 (dk_at dksX1_clearMemory_0 4 rfl rfl)
theorem dX1_clearMemory_7 : decode cX1_clearMemory 7 = .ok (.invokevirtual 147, 3) := dk_182 0 147 (dk_at dksX1_clearMemory_0 7 rfl rfl)
theorem dX1_clearMemory_10 : decode cX1_clearMemory 10 = .ok (.istore_n 1, 1) := dk_60 (dk_at dksX1_clearMemory_0 10 rfl rfl)
theorem dX1_clearMemory_11 : decode cX1_clearMemory 11 = .ok (.aload_n 0, 1) := dk_42 (dk_at dksX1_clearMemory_0 11 rfl rfl)
theorem dX1_clearMemory_12 : decode cX1_clearMemory 12 = .ok (.getfield 103, 3) := dk_180 0 103 (dk_at dksX1_clearMemory_0 12 rfl rfl)
theorem dX1_clearMemory_15 : decode cX1_clearMemory 15 = .ok (.getfield 444, 3) := dk_180 1 188 (dk_at dksX1_clearMemory_0 15 rfl rfl)
theorem dX1_clearMemory_18 : decode cX1_clearMemory 18 = .ok (.invokevirtual 467, 3) := dk_182 1 211 (dk_at dksX1_clearMemory_0 18 rfl rfl)
theorem dX1_clearMemory_21 : decode cX1_clearMemory 21 = .ok (.iload_n 1, 1) := dk_27 (dk_at dksX1_clearMemory_0 21 rfl rfl)
theorem dX1_clearMemory_22 : decode cX1_clearMemory 22 = .ok (.ireturn, 1) := dk_172 (dk_at dksX1_clearMemory_0 22 rfl rfl)
def dkwX1_totalMean_2 : List UInt8 := [158, 0, 12, 35, 45, 180, 1, 84, 4, 48, 98, 68, 132, 2, 1, 167, 255, 201, 35, 174]
abbrev dktX1_totalMean_2 : List UInt8 := dkwX1_totalMean_2 ++ []
def dkwX1_totalMean_1 : List UInt8 := [180, 0, 176, 28, 182, 0, 245, 192, 0, 249, 78, 45, 180, 1, 55, 154, 0, 19, 45, 180, 1, 69]
abbrev dktX1_totalMean_1 : List UInt8 := dkwX1_totalMean_1 ++ dktX1_totalMean_2
def dkwX1_totalMean_0 : List UInt8 := [11, 68, 3, 61, 28, 42, 180, 0, 103, 180, 0, 176, 182, 0, 180, 162, 0, 47, 42, 180, 0, 103]
abbrev dktX1_totalMean_0 : List UInt8 := dkwX1_totalMean_0 ++ dktX1_totalMean_1
theorem dksX1_totalMean_0 : cX1_totalMean.data.toList.drop 0 = dktX1_totalMean_0 := by decide +kernel
theorem dksX1_totalMean_1 : cX1_totalMean.data.toList.drop 22 = dktX1_totalMean_1 := dk_seg dksX1_totalMean_0 22 rfl rfl
theorem dksX1_totalMean_2 : cX1_totalMean.data.toList.drop 44 = dktX1_totalMean_2 := dk_seg dksX1_totalMean_1 22 rfl rfl
theorem dX1_totalMean_0 : decode cX1_totalMean 0 = .ok (.fconst 0, 1) := dk_11 (dk_at dksX1_totalMean_0 0 rfl rfl)
theorem dX1_totalMean_1 : decode cX1_totalMean 1 = .ok (.fstore_n 1, 1) := dk_68 (dk_at dksX1_totalMean_0 1 rfl rfl)
theorem dX1_totalMean_2 : decode cX1_totalMean 2 = .ok (.iconst 0, 1) := dk_3 (dk_at dksX1_totalMean_0 2 rfl rfl)
theorem dX1_totalMean_3 : decode cX1_totalMean 3 = .ok (.istore_n 2, 1) := dk_61 (dk_at dksX1_totalMean_0 3 rfl rfl)
theorem dX1_totalMean_4 : decode cX1_totalMean 4 = .ok (.iload_n 2, 1) := dk_28 (dk_at dksX1_totalMean_0 4 rfl rfl)
theorem dX1_totalMean_5 : decode cX1_totalMean 5 = .ok (.aload_n 0, 1) := dk_42 (dk_at dksX1_totalMean_0 5 rfl rfl)
theorem dX1_totalMean_6 : decode cX1_totalMean 6 = .ok (.getfield 103, 3) := dk_180 0 103 (dk_at dksX1_totalMean_0 6 rfl rfl)
theorem dX1_totalMean_9 : decode cX1_totalMean 9 = .ok (.getfield 176, 3) := dk_180 0 176 (dk_at dksX1_totalMean_0 9 rfl rfl)
theorem dX1_totalMean_12 : decode cX1_totalMean 12 = .ok (.invokevirtual 180, 3) := dk_182 0 180 (dk_at dksX1_totalMean_0 12 rfl rfl)
theorem dX1_totalMean_15 : decode cX1_totalMean 15 = .ok (.if_icmp .ge 47, 3) := dk_162 0 47 (dk_at dksX1_totalMean_0 15 rfl rfl)
theorem dX1_totalMean_18 : decode cX1_totalMean 18 = .ok (.aload_n 0, 1) := dk_42 (dk_at dksX1_totalMean_0 18 rfl rfl)
theorem dX1_totalMean_19 : decode cX1_totalMean 19 = .ok (.getfield 103, 3) := dk_180 0 103 (dk_at dksX1_totalMean_0 19 rfl rfl)
theorem dX1_totalMean_22 : decode cX1_totalMean 22 = .ok (.getfield 176, 3) := dk_180 0 176 (dk_at dksX1_totalMean_1 0 rfl rfl)
theorem dX1_totalMean_25 : decode cX1_totalMean 25 = .ok (.iload_n 2, 1) := dk_28 (dk_at dksX1_totalMean_1 3 rfl rfl)
theorem dX1_totalMean_26 : decode cX1_totalMean 26 = .ok (.invokevirtual 245, 3) := dk_182 0 245 (dk_at dksX1_totalMean_1 4 rfl rfl)
theorem dX1_totalMean_29 : decode cX1_totalMean 29 = .ok (.checkcast 249, 3) := dk_192 0 249 (dk_at dksX1_totalMean_1 7 rfl rfl)
theorem dX1_totalMean_32 : decode cX1_totalMean 32 = .ok (.astore_n 3, 1) := dk_78 (dk_at dksX1_totalMean_1 10 rfl rfl)
theorem dX1_totalMean_33 : decode cX1_totalMean 33 = .ok (.aload_n 3, 1) := dk_45 (dk_at dksX1_totalMean_1 11 rfl rfl)
theorem dX1_totalMean_34 : decode cX1_totalMean 34 = .ok (.getfield 311, 3) := dk_180 1 55 (dk_at dksX1_totalMean_1 12 rfl rfl)
theorem dX1_totalMean_37 : decode cX1_totalMean 37 = .ok (.ifCond .ne 19, 3) := dk_154 0 19 (dk_at dksX1_totalMean_1 15 rfl rfl)
theorem dX1_totalMean_40 : decode cX1_totalMean 40 = .ok (.aload_n 3, 1) := dk_45 (dk_at dksX1_totalMean_1 18 rfl rfl)
theorem dX1_totalMean_41 : decode cX1_totalMean 41 = .ok (.getfield 325, 3) := dk_180 1 69 (dk_at dksX1_totalMean_1 19 rfl rfl)
theorem dX1_totalMean_44 : decode cX1_totalMean 44 = .ok (.ifCond .le 12, 3) := dk_158 0 12 (dk_at dksX1_totalMean_2 0 rfl rfl)
theorem dX1_totalMean_47 : decode cX1_totalMean 47 = .ok (.fload_n 1, 1) := dk_35 (dk_at dksX1_totalMean_2 3 rfl rfl)
theorem dX1_totalMean_48 : decode cX1_totalMean 48 = .ok (.aload_n 3, 1) := dk_45 (dk_at dksX1_totalMean_2 4 rfl rfl)
theorem dX1_totalMean_49 : decode cX1_totalMean 49 = .ok (.getfield 340, 3) := dk_180 1 84 (dk_at dksX1_totalMean_2 5 rfl rfl)
theorem dX1_totalMean_52 : decode cX1_totalMean 52 = .ok (.iconst 1, 1) := dk_4 (dk_at dksX1_totalMean_2 8 rfl rfl)
theorem dX1_totalMean_53 : decode cX1_totalMean 53 = .ok (.faload, 1) := dk_48 (dk_at dksX1_totalMean_2 9 rfl rfl)
theorem dX1_totalMean_54 : decode cX1_totalMean 54 = .ok (.fadd, 1) := dk_98 (dk_at dksX1_totalMean_2 10 rfl rfl)
theorem dX1_totalMean_55 : decode cX1_totalMean 55 = .ok (.fstore_n 1, 1) := dk_68 (dk_at dksX1_totalMean_2 11 rfl rfl)
theorem dX1_totalMean_56 : decode cX1_totalMean 56 = .ok (.iinc 2 1, 3) := dk_132 2 1 (dk_at dksX1_totalMean_2 12 rfl rfl)
theorem dX1_totalMean_59 : decode cX1_totalMean 59 = .ok (.goto (-55), 3) := dk_167 255 201 (dk_at dksX1_totalMean_2 15 rfl rfl)
theorem dX1_totalMean_62 : decode cX1_totalMean 62 = .ok (.fload_n 1, 1) := dk_35 (dk_at dksX1_totalMean_2 18 rfl rfl)
theorem dX1_totalMean_63 : decode cX1_totalMean 63 = .ok (.freturn, 1) := dk_174 (dk_at dksX1_totalMean_2 19 rfl rfl)
def dkwX1_undoCount_0 : List UInt8 := [42, 180, 0, 110, 182, 0, 147, 172]
abbrev dktX1_undoCount_0 : List UInt8 := dkwX1_undoCount_0 ++ []
theorem dksX1_undoCount_0 : cX1_undoCount.data.toList.drop 0 = dktX1_undoCount_0 := by decide +kernel
theorem dX1_undoCount_0 : decode cX1_undoCount 0 = .ok (.aload_n 0, 1) := dk_42 (dk_at dksX1_undoCount_0 0 rfl rfl)
theorem dX1_undoCount_1 : decode cX1_undoCount 1 = .ok (.getfield 110, 3) := dk_180 0 110 (dk_at dksX1_undoCount_0 1 rfl rfl)
theorem dX1_undoCount_4 : decode cX1_undoCount 4 = .ok (.invokevirtual 147, 3) := dk_182 0 147 (dk_at dksX1_undoCount_0 4 rfl rfl)
theorem dX1_undoCount_7 : decode cX1_undoCount 7 = .ok (.ireturn, 1) := dk_172 (dk_at dksX1_undoCount_0 7 rfl rfl)
def dkwX1_append_2 : List UInt8 := [182, 0, 136, 42, 180, 0, 129, 172]
abbrev dktX1_append_2 : List UInt8 := dkwX1_append_2 ++ []
def dkwX1_append_1 : List UInt8 := [182, 0, 136, 42, 28, 182, 0, 136, 42, 29, 182, 0, 136, 42, 21, 4, 182, 0, 136, 42, 21, 5]
abbrev dktX1_append_1 : List UInt8 := dkwX1_append_1 ++ dktX1_append_2
def dkwX1_append_0 : List UInt8 := [42, 180, 0, 129, 16, 20, 96, 17, 3, 232, 163, 0, 7, 4, 167, 0, 4, 3, 184, 0, 132, 42, 27]
abbrev dktX1_append_0 : List UInt8 := dkwX1_append_0 ++ dktX1_append_1
theorem dksX1_append_0 : cX1_append.data.toList.drop 0 = dktX1_append_0 := by decide +kernel
theorem dksX1_append_1 : cX1_append.data.toList.drop 23 = dktX1_append_1 := dk_seg dksX1_append_0 23 rfl rfl
theorem dksX1_append_2 : cX1_append.data.toList.drop 45 = dktX1_append_2 := dk_seg dksX1_append_1 22 rfl rfl
theorem dX1_append_0 : decode cX1_append 0 = .ok (.aload_n 0, 1) := dk_42 (dk_at dksX1_append_0 0 rfl rfl)
theorem dX1_append_1 : decode cX1_append 1 = .ok (.getfield 129, 3) := dk_180 0 129 (dk_at dksX1_append_0 1 rfl rfl)
theorem dX1_append_4 : decode cX1_append 4 = .ok (.bipush 20, 2) := dk_16 20 (dk_at dksX1_append_0 4 rfl rfl)
theorem dX1_append_6 : decode cX1_append 6 = .ok (.iadd, 1) := dk_96 (dk_at dksX1_append_0 6 rfl rfl)
theorem dX1_append_7 : decode cX1_append 7 = .ok (.sipush 1000, 3) := dk_17 3 232 (dk_at dksX1_append_0 7 rfl rfl)
theorem dX1_append_10 : decode cX1_append 10 = .ok (.if_icmp .gt 7, 3) := dk_163 0 7 (dk_at dksX1_append_0 10 rfl rfl)
theorem dX1_append_13 : decode cX1_append 13 = .ok (.iconst 1, 1) := dk_4 (dk_at dksX1_append_0 13 rfl rfl)
theorem dX1_append_14 : decode cX1_append 14 = .ok (.goto 4, 3) := dk_167 0 4 (dk_at dksX1_append_0 14 rfl rfl)
theorem dX1_append_17 : decode cX1_append 17 = .ok (.iconst 0, 1) := dk_3 (dk_at dksX1_append_0 17 rfl rfl)
theorem dX1_append_18 : decode cX1_append 18 = .ok (.invokestatic 132, 3) := dk_184 0 132 (dk_at dksX1_append_0 18 rfl rfl)
theorem dX1_append_21 : decode cX1_append 21 = .ok (.aload_n 0, 1) := dk_42 (dk_at dksX1_append_0 21 rfl rfl)
theorem dX1_append_22 : decode cX1_append 22 = .ok (.iload_n 1, 1) := dk_27 (dk_at dksX1_append_0 22 rfl rfl)
theorem dX1_append_23 : decode cX1_append 23 = .ok (.invokevirtual 136, 3) := dk_182 0 136 (dk_at dksX1_append_1 0 rfl rfl)
theorem dX1_append_26 : decode cX1_append 26 = .ok (.aload_n 0, 1) := dk_42 (dk_at dksX1_append_1 3 rfl rfl)
theorem dX1_append_27 : decode cX1_append 27 = .ok (.iload_n 2, 1) := dk_28 (dk_at dksX1_append_1 4 rfl rfl)
theorem dX1_append_28 : decode cX1_append 28 = .ok (.invokevirtual 136, 3) := dk_182 0 136 (dk_at dksX1_append_1 5 rfl rfl)
theorem dX1_append_31 : decode cX1_append 31 = .ok (.aload_n 0, 1) := dk_42 (dk_at dksX1_append_1 8 rfl rfl)
theorem dX1_append_32 : decode cX1_append 32 = .ok (.iload_n 3, 1) := dk_29 (dk_at dksX1_append_1 9 rfl rfl)
theorem dX1_append_33 : decode cX1_append 33 = .ok (.invokevirtual 136, 3) := dk_182 0 136 (dk_at dksX1_append_1 10 rfl rfl)
theorem dX1_append_36 : decode cX1_append 36 = .ok (.aload_n 0, 1) := dk_42 (dk_at dksX1_append_1 13 rfl rfl)
theorem dX1_append_37 : decode cX1_append 37 = .ok (.iload 4, 2) := dk_21 4 (dk_at dksX1_append_1 14 rfl rfl)
theorem dX1_append_39 : decode cX1_append 39 = .ok (.invokevirtual 136, 3) := dk_182 0 136 (dk_at dksX1_append_1 16 rfl rfl)
theorem dX1_append_42 : decode cX1_append 42 = .ok (.aload_n 0, 1) := dk_42 (dk_at dksX1_append_1 19 rfl rfl)
theorem dX1_append_43 : decode cX1_append 43 = .ok (.iload 5, 2) := dk_21 5 (dk_at dksX1_append_1 20 rfl rfl)
theorem dX1_append_45 : decode cX1_append 45 = .ok (.invokevirtual 136, 3) := dk_182 0 136 (dk_at dksX1_append_2 0 rfl rfl)
theorem dX1_append_48 : decode cX1_append 48 = .ok (.aload_n 0, 1) := dk_42 (dk_at dksX1_append_2 3 rfl rfl)
theorem dX1_append_49 : decode cX1_append 49 = .ok (.getfield 129, 3) := dk_180 0 129 (dk_at dksX1_append_2 4 rfl rfl)
theorem dX1_append_52 : decode cX1_append 52 = .ok (.ireturn, 1) := dk_172 (dk_at dksX1_append_2 7 rfl rfl)
def dkwX1_requireState_0 : List UInt8 := [26, 154, 0, 11, 187, 0, 7, 89, 183, 0, 9, 191, 177]
abbrev dktX1_requireState_0 : List UInt8 := dkwX1_requireState_0 ++ []
theorem dksX1_requireState_0 : cX1_requireState.data.toList.drop 0 = dktX1_requireState_0 := by decide +kernel
theorem dX1_requireState_0 : decode cX1_requireState 0 = .ok (.iload_n 0, 1) := dk_26 (dk_at dksX1_requireState_0 0 rfl rfl)
theorem dX1_requireState_1 : decode cX1_requireState 1 = .ok (.ifCond .ne 11, 3) := dk_154 0 11 (dk_at dksX1_requireState_0 1 rfl rfl)
theorem dX1_requireState_4 : decode cX1_requireState 4 = .ok (.new 7, 3) := dk_187 0 7 (dk_at dksX1_requireState_0 4 rfl rfl)
theorem dX1_requireState_7 : decode cX1_requireState 7 = .ok (.dup, 1) := dk_89 (dk_at dksX1_requireState_0 7 rfl rfl)
theorem dX1_requireState_8 : decode cX1_requireState 8 = .ok (.invokespecial 9, 3) := dk_183 0 9 (dk_at dksX1_requireState_0 8 rfl rfl)
theorem dX1_requireState_11 : decode cX1_requireState 11 = .ok (.athrow, 1) := dk_191 (dk_at dksX1_requireState_0 11 rfl rfl)
theorem dX1_requireState_12 : decode cX1_requireState 12 = .ok (.return_, 1) := dk_177 (dk_at dksX1_requireState_0 12 rfl rfl)
def dkwX1_appendWord_1 : List UInt8 := [180, 0, 129, 4, 96, 181, 0, 129, 132, 2, 248, 167, 255, 226, 177]
abbrev dktX1_appendWord_1 : List UInt8 := dkwX1_appendWord_1 ++ []
def dkwX1_appendWord_0 : List UInt8 := [16, 24, 61, 28, 155, 0, 32, 42, 180, 0, 114, 42, 180, 0, 129, 27, 28, 122, 145, 84, 42, 89]
abbrev dktX1_appendWord_0 : List UInt8 := dkwX1_appendWord_0 ++ dktX1_appendWord_1
theorem dksX1_appendWord_0 : cX1_appendWord.data.toList.drop 0 = dktX1_appendWord_0 := by decide +kernel
theorem dksX1_appendWord_1 : cX1_appendWord.data.toList.drop 22 = dktX1_appendWord_1 := dk_seg dksX1_appendWord_0 22 rfl rfl
theorem dX1_appendWord_0 : decode cX1_appendWord 0 = .ok (.bipush 24, 2) := dk_16 24 (dk_at dksX1_appendWord_0 0 rfl rfl)
theorem dX1_appendWord_2 : decode cX1_appendWord 2 = .ok (.istore_n 2, 1) := dk_61 (dk_at dksX1_appendWord_0 2 rfl rfl)
theorem dX1_appendWord_3 : decode cX1_appendWord 3 = .ok (.iload_n 2, 1) := dk_28 (dk_at dksX1_appendWord_0 3 rfl rfl)
theorem dX1_appendWord_4 : decode cX1_appendWord 4 = .ok (.ifCond .lt 32, 3) := dk_155 0 32 (dk_at dksX1_appendWord_0 4 rfl rfl)
theorem dX1_appendWord_7 : decode cX1_appendWord 7 = .ok (.aload_n 0, 1) := dk_42 (dk_at dksX1_appendWord_0 7 rfl rfl)
theorem dX1_appendWord_8 : decode cX1_appendWord 8 = .ok (.getfield 114, 3) := dk_180 0 114 (dk_at dksX1_appendWord_0 8 rfl rfl)
theorem dX1_appendWord_11 : decode cX1_appendWord 11 = .ok (.aload_n 0, 1) := dk_42 (dk_at dksX1_appendWord_0 11 rfl rfl)
theorem dX1_appendWord_12 : decode cX1_appendWord 12 = .ok (.getfield 129, 3) := dk_180 0 129 (dk_at dksX1_appendWord_0 12 rfl rfl)
theorem dX1_appendWord_15 : decode cX1_appendWord 15 = .ok (.iload_n 1, 1) := dk_27 (dk_at dksX1_appendWord_0 15 rfl rfl)
theorem dX1_appendWord_16 : decode cX1_appendWord 16 = .ok (.iload_n 2, 1) := dk_28 (dk_at dksX1_appendWord_0 16 rfl rfl)
theorem dX1_appendWord_17 : decode cX1_appendWord 17 = .ok (.ishr, 1) := dk_122 (dk_at dksX1_appendWord_0 17 rfl rfl)
theorem dX1_appendWord_18 : decode cX1_appendWord 18 = .ok (.i2b, 1) := dk_145 (dk_at dksX1_appendWord_0 18 rfl rfl)
theorem dX1_appendWord_19 : decode cX1_appendWord 19 = .ok (.bastore, 1) := dk_84 (dk_at dksX1_appendWord_0 19 rfl rfl)
theorem dX1_appendWord_20 : decode cX1_appendWord 20 = .ok (.aload_n 0, 1) := dk_42 (dk_at dksX1_appendWord_0 20 rfl rfl)
theorem dX1_appendWord_21 : decode cX1_appendWord 21 = .ok (.dup, 1) := dk_89 (dk_at dksX1_appendWord_0 21 rfl rfl)
theorem dX1_appendWord_22 : decode cX1_appendWord 22 = .ok (.getfield 129, 3) := dk_180 0 129 (dk_at dksX1_appendWord_1 0 rfl rfl)
theorem dX1_appendWord_25 : decode cX1_appendWord 25 = .ok (.iconst 1, 1) := dk_4 (dk_at dksX1_appendWord_1 3 rfl rfl)
theorem dX1_appendWord_26 : decode cX1_appendWord 26 = .ok (.iadd, 1) := dk_96 (dk_at dksX1_appendWord_1 4 rfl rfl)
theorem dX1_appendWord_27 : decode cX1_appendWord 27 = .ok (.putfield 129, 3) := dk_181 0 129 (dk_at dksX1_appendWord_1 5 rfl rfl)
theorem dX1_appendWord_30 : decode cX1_appendWord 30 = .ok (.iinc 2 (-8), 3) := dk_132 2 248 (dk_at dksX1_appendWord_1 8 rfl rfl)
theorem dX1_appendWord_33 : decode cX1_appendWord 33 = .ok (.goto (-30), 3) := dk_167 255 226 (dk_at dksX1_appendWord_1 11 rfl rfl)
theorem dX1_appendWord_36 : decode cX1_appendWord 36 = .ok (.return_, 1) := dk_177 (dk_at dksX1_appendWord_1 14 rfl rfl)
def dkwX1_truncate_0 : List UInt8 := [27, 133, 9, 42, 180, 0, 129, 133, 184, 0, 140, 184, 0, 144, 42, 27, 181, 0, 129, 177]
abbrev dktX1_truncate_0 : List UInt8 := dkwX1_truncate_0 ++ []
theorem dksX1_truncate_0 : cX1_truncate.data.toList.drop 0 = dktX1_truncate_0 := by decide +kernel
theorem dX1_truncate_0 : decode cX1_truncate 0 = .ok (.iload_n 1, 1) := dk_27 (dk_at dksX1_truncate_0 0 rfl rfl)
theorem dX1_truncate_1 : decode cX1_truncate 1 = .ok (.i2l, 1) := dk_133 (dk_at dksX1_truncate_0 1 rfl rfl)
theorem dX1_truncate_2 : decode cX1_truncate 2 = .ok (.lconst 0, 1) := dk_9 (dk_at dksX1_truncate_0 2 rfl rfl)
theorem dX1_truncate_3 : decode cX1_truncate 3 = .ok (.aload_n 0, 1) := dk_42 (dk_at dksX1_truncate_0 3 rfl rfl)
theorem dX1_truncate_4 : decode cX1_truncate 4 = .ok (.getfield 129, 3) := dk_180 0 129 (dk_at dksX1_truncate_0 4 rfl rfl)
theorem dX1_truncate_7 : decode cX1_truncate 7 = .ok (.i2l, 1) := dk_133 (dk_at dksX1_truncate_0 7 rfl rfl)
theorem dX1_truncate_8 : decode cX1_truncate 8 = .ok (.invokestatic 140, 3) := dk_184 0 140 (dk_at dksX1_truncate_0 8 rfl rfl)
theorem dX1_truncate_11 : decode cX1_truncate 11 = .ok (.invokestatic 144, 3) := dk_184 0 144 (dk_at dksX1_truncate_0 11 rfl rfl)
theorem dX1_truncate_14 : decode cX1_truncate 14 = .ok (.aload_n 0, 1) := dk_42 (dk_at dksX1_truncate_0 14 rfl rfl)
theorem dX1_truncate_15 : decode cX1_truncate 15 = .ok (.iload_n 1, 1) := dk_27 (dk_at dksX1_truncate_0 15 rfl rfl)
theorem dX1_truncate_16 : decode cX1_truncate 16 = .ok (.putfield 129, 3) := dk_181 0 129 (dk_at dksX1_truncate_0 16 rfl rfl)
theorem dX1_truncate_19 : decode cX1_truncate 19 = .ok (.return_, 1) := dk_177 (dk_at dksX1_truncate_0 19 rfl rfl)
def dkwX1_requireArgument_0 : List UInt8 := [26, 154, 0, 11, 187, 0, 1, 89, 183, 0, 3, 191, 177]
abbrev dktX1_requireArgument_0 : List UInt8 := dkwX1_requireArgument_0 ++ []
theorem dksX1_requireArgument_0 : cX1_requireArgument.data.toList.drop 0 = dktX1_requireArgument_0 := by decide +kernel
theorem dX1_requireArgument_0 : decode cX1_requireArgument 0 = .ok (.iload_n 0, 1) := dk_26 (dk_at dksX1_requireArgument_0 0 rfl rfl)
theorem dX1_requireArgument_1 : decode cX1_requireArgument 1 = .ok (.ifCond .ne 11, 3) := dk_154 0 11 (dk_at dksX1_requireArgument_0 1 rfl rfl)
theorem dX1_requireArgument_4 : decode cX1_requireArgument 4 = .ok (.new 1, 3) := dk_187 0 1 (dk_at dksX1_requireArgument_0 4 rfl rfl)
theorem dX1_requireArgument_7 : decode cX1_requireArgument 7 = .ok (.dup, 1) := dk_89 (dk_at dksX1_requireArgument_0 7 rfl rfl)
theorem dX1_requireArgument_8 : decode cX1_requireArgument 8 = .ok (.invokespecial 3, 3) := dk_183 0 3 (dk_at dksX1_requireArgument_0 8 rfl rfl)
theorem dX1_requireArgument_11 : decode cX1_requireArgument 11 = .ok (.athrow, 1) := dk_191 (dk_at dksX1_requireArgument_0 11 rfl rfl)
theorem dX1_requireArgument_12 : decode cX1_requireArgument 12 = .ok (.return_, 1) := dk_177 (dk_at dksX1_requireArgument_0 12 rfl rfl)
def dkwX1_count_5 : List UInt8 := [180, 0, 235, 167, 0, 10, 42, 180, 0, 103, 180, 0, 237, 172]
abbrev dktX1_count_5 : List UInt8 := dkwX1_count_5 ++ []
def dkwX1_count_4 : List UInt8 := [182, 0, 230, 167, 0, 33, 42, 180, 0, 103, 180, 0, 205, 180, 0, 233, 167, 0, 20, 42, 180, 0, 103]
abbrev dktX1_count_4 : List UInt8 := dkwX1_count_4 ++ dktX1_count_5
def dkwX1_count_3 : List UInt8 := [167, 0, 59, 42, 180, 0, 103, 180, 0, 223, 182, 0, 180, 167, 0, 46, 42, 180, 0, 103, 180, 0, 226]
abbrev dktX1_count_3 : List UInt8 := dkwX1_count_3 ++ dktX1_count_4
def dkwX1_count_2 : List UInt8 := [42, 180, 0, 103, 180, 0, 176, 182, 0, 180, 167, 0, 73, 42, 182, 0, 217, 167, 0, 66, 42, 182, 0, 220]
abbrev dktX1_count_2 : List UInt8 := dkwX1_count_2 ++ dktX1_count_3
def dkwX1_count_1 : List UInt8 := [170, 0, 0, 0, 0, 0, 119, 0, 0, 0, 0, 0, 0, 0, 6, 0, 0, 0, 43, 0, 0, 0, 56, 0, 0, 0, 63, 0, 0, 0, 70, 0, 0, 0, 83, 0, 0, 0, 96, 0, 0, 0, 109]
abbrev dktX1_count_1 : List UInt8 := dkwX1_count_1 ++ dktX1_count_2
def dkwX1_count_0 : List UInt8 := [27, 133, 9, 20, 0, 215, 184, 0, 140, 184, 0, 144, 27]
abbrev dktX1_count_0 : List UInt8 := dkwX1_count_0 ++ dktX1_count_1
theorem dksX1_count_0 : cX1_count.data.toList.drop 0 = dktX1_count_0 := by decide +kernel
theorem dksX1_count_1 : cX1_count.data.toList.drop 13 = dktX1_count_1 := dk_seg dksX1_count_0 13 rfl rfl
theorem dksX1_count_2 : cX1_count.data.toList.drop 56 = dktX1_count_2 := dk_seg dksX1_count_1 43 rfl rfl
theorem dksX1_count_3 : cX1_count.data.toList.drop 80 = dktX1_count_3 := dk_seg dksX1_count_2 24 rfl rfl
theorem dksX1_count_4 : cX1_count.data.toList.drop 103 = dktX1_count_4 := dk_seg dksX1_count_3 23 rfl rfl
theorem dksX1_count_5 : cX1_count.data.toList.drop 126 = dktX1_count_5 := dk_seg dksX1_count_4 23 rfl rfl
theorem dX1_count_0 : decode cX1_count 0 = .ok (.iload_n 1, 1) := dk_27 (dk_at dksX1_count_0 0 rfl rfl)
theorem dX1_count_1 : decode cX1_count 1 = .ok (.i2l, 1) := dk_133 (dk_at dksX1_count_0 1 rfl rfl)
theorem dX1_count_2 : decode cX1_count 2 = .ok (.lconst 0, 1) := dk_9 (dk_at dksX1_count_0 2 rfl rfl)
theorem dX1_count_3 : decode cX1_count 3 = .ok (.ldc2_w 215, 3) := dk_20 0 215 (dk_at dksX1_count_0 3 rfl rfl)
theorem dX1_count_6 : decode cX1_count 6 = .ok (.invokestatic 140, 3) := dk_184 0 140 (dk_at dksX1_count_0 6 rfl rfl)
theorem dX1_count_9 : decode cX1_count 9 = .ok (.invokestatic 144, 3) := dk_184 0 144 (dk_at dksX1_count_0 9 rfl rfl)
theorem dX1_count_12 : decode cX1_count 12 = .ok (.iload_n 1, 1) := dk_27 (dk_at dksX1_count_0 12 rfl rfl)
theorem dX1_count_13 : decode cX1_count 13 = .ok (.tableswitch 119 0 6 #[43, 56, 63, 70, 83, 96, 109], 43) := by decide +kernel
theorem dX1_count_56 : decode cX1_count 56 = .ok (.aload_n 0, 1) := dk_42 (dk_at dksX1_count_2 0 rfl rfl)
theorem dX1_count_57 : decode cX1_count 57 = .ok (.getfield 103, 3) := dk_180 0 103 (dk_at dksX1_count_2 1 rfl rfl)
theorem dX1_count_60 : decode cX1_count 60 = .ok (.getfield 176, 3) := dk_180 0 176 (dk_at dksX1_count_2 4 rfl rfl)
theorem dX1_count_63 : decode cX1_count 63 = .ok (.invokevirtual 180, 3) := dk_182 0 180 (dk_at dksX1_count_2 7 rfl rfl)
theorem dX1_count_66 : decode cX1_count 66 = .ok (.goto 73, 3) := dk_167 0 73 (dk_at dksX1_count_2 10 rfl rfl)
theorem dX1_count_69 : decode cX1_count 69 = .ok (.aload_n 0, 1) := dk_42 (dk_at dksX1_count_2 13 rfl rfl)
theorem dX1_count_70 : decode cX1_count 70 = .ok (.invokevirtual 217, 3) := dk_182 0 217 (dk_at dksX1_count_2 14 rfl rfl)
theorem dX1_count_73 : decode cX1_count 73 = .ok (.goto 66, 3) := dk_167 0 66 (dk_at dksX1_count_2 17 rfl rfl)
theorem dX1_count_76 : decode cX1_count 76 = .ok (.aload_n 0, 1) := dk_42 (dk_at dksX1_count_2 20 rfl rfl)
theorem dX1_count_77 : decode cX1_count 77 = .ok (.invokevirtual 220, 3) := dk_182 0 220 (dk_at dksX1_count_2 21 rfl rfl)
theorem dX1_count_80 : decode cX1_count 80 = .ok (.goto 59, 3) := dk_167 0 59 (dk_at dksX1_count_3 0 rfl rfl)
theorem dX1_count_83 : decode cX1_count 83 = .ok (.aload_n 0, 1) := dk_42 (dk_at dksX1_count_3 3 rfl rfl)
theorem dX1_count_84 : decode cX1_count 84 = .ok (.getfield 103, 3) := dk_180 0 103 (dk_at dksX1_count_3 4 rfl rfl)
theorem dX1_count_87 : decode cX1_count 87 = .ok (.getfield 223, 3) := dk_180 0 223 (dk_at dksX1_count_3 7 rfl rfl)
theorem dX1_count_90 : decode cX1_count 90 = .ok (.invokevirtual 180, 3) := dk_182 0 180 (dk_at dksX1_count_3 10 rfl rfl)
theorem dX1_count_93 : decode cX1_count 93 = .ok (.goto 46, 3) := dk_167 0 46 (dk_at dksX1_count_3 13 rfl rfl)
theorem dX1_count_96 : decode cX1_count 96 = .ok (.aload_n 0, 1) := dk_42 (dk_at dksX1_count_3 16 rfl rfl)
theorem dX1_count_97 : decode cX1_count 97 = .ok (.getfield 103, 3) := dk_180 0 103 (dk_at dksX1_count_3 17 rfl rfl)
theorem dX1_count_100 : decode cX1_count 100 = .ok (.getfield 226, 3) := dk_180 0 226 (dk_at dksX1_count_3 20 rfl rfl)
theorem dX1_count_103 : decode cX1_count 103 = .ok (.invokevirtual 230, 3) := dk_182 0 230 (dk_at dksX1_count_4 0 rfl rfl)
theorem dX1_count_106 : decode cX1_count 106 = .ok (.goto 33, 3) := dk_167 0 33 (dk_at dksX1_count_4 3 rfl rfl)
theorem dX1_count_109 : decode cX1_count 109 = .ok (.aload_n 0, 1) := dk_42 (dk_at dksX1_count_4 6 rfl rfl)
theorem dX1_count_110 : decode cX1_count 110 = .ok (.getfield 103, 3) := dk_180 0 103 (dk_at dksX1_count_4 7 rfl rfl)
theorem dX1_count_113 : decode cX1_count 113 = .ok (.getfield 205, 3) := dk_180 0 205 (dk_at dksX1_count_4 10 rfl rfl)
theorem dX1_count_116 : decode cX1_count 116 = .ok (.getfield 233, 3) := dk_180 0 233 (dk_at dksX1_count_4 13 rfl rfl)
theorem dX1_count_119 : decode cX1_count 119 = .ok (.goto 20, 3) := dk_167 0 20 (dk_at dksX1_count_4 16 rfl rfl)
theorem dX1_count_122 : decode cX1_count 122 = .ok (.aload_n 0, 1) := dk_42 (dk_at dksX1_count_4 19 rfl rfl)
theorem dX1_count_123 : decode cX1_count 123 = .ok (.getfield 103, 3) := dk_180 0 103 (dk_at dksX1_count_4 20 rfl rfl)
theorem dX1_count_126 : decode cX1_count 126 = .ok (.getfield 235, 3) := dk_180 0 235 (dk_at dksX1_count_5 0 rfl rfl)
theorem dX1_count_129 : decode cX1_count 129 = .ok (.goto 10, 3) := dk_167 0 10 (dk_at dksX1_count_5 3 rfl rfl)
theorem dX1_count_132 : decode cX1_count 132 = .ok (.aload_n 0, 1) := dk_42 (dk_at dksX1_count_5 6 rfl rfl)
theorem dX1_count_133 : decode cX1_count 133 = .ok (.getfield 103, 3) := dk_180 0 103 (dk_at dksX1_count_5 7 rfl rfl)
theorem dX1_count_136 : decode cX1_count 136 = .ok (.getfield 237, 3) := dk_180 0 237 (dk_at dksX1_count_5 10 rfl rfl)
theorem dX1_count_139 : decode cX1_count 139 = .ok (.ireturn, 1) := dk_172 (dk_at dksX1_count_5 13 rfl rfl)
def dkwX1_loadCount_0 : List UInt8 := [42, 180, 0, 103, 180, 0, 205, 180, 0, 209, 182, 0, 180, 172]
abbrev dktX1_loadCount_0 : List UInt8 := dkwX1_loadCount_0 ++ []
theorem dksX1_loadCount_0 : cX1_loadCount.data.toList.drop 0 = dktX1_loadCount_0 := by decide +kernel
theorem dX1_loadCount_0 : decode cX1_loadCount 0 = .ok (.aload_n 0, 1) := dk_42 (dk_at dksX1_loadCount_0 0 rfl rfl)
theorem dX1_loadCount_1 : decode cX1_loadCount 1 = .ok (.getfield 103, 3) := dk_180 0 103 (dk_at dksX1_loadCount_0 1 rfl rfl)
theorem dX1_loadCount_4 : decode cX1_loadCount 4 = .ok (.getfield 205, 3) := dk_180 0 205 (dk_at dksX1_loadCount_0 4 rfl rfl)
theorem dX1_loadCount_7 : decode cX1_loadCount 7 = .ok (.getfield 209, 3) := dk_180 0 209 (dk_at dksX1_loadCount_0 7 rfl rfl)
theorem dX1_loadCount_10 : decode cX1_loadCount 10 = .ok (.invokevirtual 180, 3) := dk_182 0 180 (dk_at dksX1_loadCount_0 10 rfl rfl)
theorem dX1_loadCount_13 : decode cX1_loadCount 13 = .ok (.ireturn, 1) := dk_172 (dk_at dksX1_loadCount_0 13 rfl rfl)
def dkwX1_signatureCount_0 : List UInt8 := [42, 180, 0, 103, 180, 0, 205, 180, 0, 212, 182, 0, 180, 172]
abbrev dktX1_signatureCount_0 : List UInt8 := dkwX1_signatureCount_0 ++ []
theorem dksX1_signatureCount_0 : cX1_signatureCount.data.toList.drop 0 = dktX1_signatureCount_0 := by decide +kernel
theorem dX1_signatureCount_0 : decode cX1_signatureCount 0 = .ok (.aload_n 0, 1) := dk_42 (dk_at dksX1_signatureCount_0 0 rfl rfl)
theorem dX1_signatureCount_1 : decode cX1_signatureCount 1 = .ok (.getfield 103, 3) := dk_180 0 103 (dk_at dksX1_signatureCount_0 1 rfl rfl)
theorem dX1_signatureCount_4 : decode cX1_signatureCount 4 = .ok (.getfield 205, 3) := dk_180 0 205 (dk_at dksX1_signatureCount_0 4 rfl rfl)
theorem dX1_signatureCount_7 : decode cX1_signatureCount 7 = .ok (.getfield 212, 3) := dk_180 0 212 (dk_at dksX1_signatureCount_0 7 rfl rfl)
theorem dX1_signatureCount_10 : decode cX1_signatureCount 10 = .ok (.invokevirtual 180, 3) := dk_182 0 180 (dk_at dksX1_signatureCount_0 10 rfl rfl)
theorem dX1_signatureCount_13 : decode cX1_signatureCount 13 = .ok (.ireturn, 1) := dk_172 (dk_at dksX1_signatureCount_0 13 rfl rfl)
def dkwX1_rated_0 : List UInt8 := [42, 27, 182, 0, 255, 87, 42, 180, 0, 103, 180, 0, 205, 180, 1, 3, 27, 46, 172]
abbrev dktX1_rated_0 : List UInt8 := dkwX1_rated_0 ++ []
theorem dksX1_rated_0 : cX1_rated.data.toList.drop 0 = dktX1_rated_0 := by decide +kernel
theorem dX1_rated_0 : decode cX1_rated 0 = .ok (.aload_n 0, 1) := dk_42 (dk_at dksX1_rated_0 0 rfl rfl)
theorem dX1_rated_1 : decode cX1_rated 1 = .ok (.iload_n 1, 1) := dk_27 (dk_at dksX1_rated_0 1 rfl rfl)
theorem dX1_rated_2 : decode cX1_rated 2 = .ok (.invokevirtual 255, 3) := dk_182 0 255 (dk_at dksX1_rated_0 2 rfl rfl)
theorem dX1_rated_5 : decode cX1_rated 5 = .ok (.pop, 1) := dk_87 (dk_at dksX1_rated_0 5 rfl rfl)
theorem dX1_rated_6 : decode cX1_rated 6 = .ok (.aload_n 0, 1) := dk_42 (dk_at dksX1_rated_0 6 rfl rfl)
theorem dX1_rated_7 : decode cX1_rated 7 = .ok (.getfield 103, 3) := dk_180 0 103 (dk_at dksX1_rated_0 7 rfl rfl)
theorem dX1_rated_10 : decode cX1_rated 10 = .ok (.getfield 205, 3) := dk_180 0 205 (dk_at dksX1_rated_0 10 rfl rfl)
theorem dX1_rated_13 : decode cX1_rated 13 = .ok (.getfield 259, 3) := dk_180 1 3 (dk_at dksX1_rated_0 13 rfl rfl)
theorem dX1_rated_16 : decode cX1_rated 16 = .ok (.iload_n 1, 1) := dk_27 (dk_at dksX1_rated_0 16 rfl rfl)
theorem dX1_rated_17 : decode cX1_rated 17 = .ok (.iaload, 1) := dk_46 (dk_at dksX1_rated_0 17 rfl rfl)
theorem dX1_rated_18 : decode cX1_rated 18 = .ok (.ireturn, 1) := dk_172 (dk_at dksX1_rated_0 18 rfl rfl)
def dkwX1_branchAt_1 : List UInt8 := [180, 0, 103, 180, 0, 176, 27, 182, 0, 245, 192, 0, 249, 176]
abbrev dktX1_branchAt_1 : List UInt8 := dkwX1_branchAt_1 ++ []
def dkwX1_branchAt_0 : List UInt8 := [27, 133, 9, 42, 180, 0, 103, 180, 0, 176, 182, 0, 180, 4, 100, 133, 184, 0, 140, 184, 0, 242, 42]
abbrev dktX1_branchAt_0 : List UInt8 := dkwX1_branchAt_0 ++ dktX1_branchAt_1
theorem dksX1_branchAt_0 : cX1_branchAt.data.toList.drop 0 = dktX1_branchAt_0 := by decide +kernel
theorem dksX1_branchAt_1 : cX1_branchAt.data.toList.drop 23 = dktX1_branchAt_1 := dk_seg dksX1_branchAt_0 23 rfl rfl
theorem dX1_branchAt_0 : decode cX1_branchAt 0 = .ok (.iload_n 1, 1) := dk_27 (dk_at dksX1_branchAt_0 0 rfl rfl)
theorem dX1_branchAt_1 : decode cX1_branchAt 1 = .ok (.i2l, 1) := dk_133 (dk_at dksX1_branchAt_0 1 rfl rfl)
theorem dX1_branchAt_2 : decode cX1_branchAt 2 = .ok (.lconst 0, 1) := dk_9 (dk_at dksX1_branchAt_0 2 rfl rfl)
theorem dX1_branchAt_3 : decode cX1_branchAt 3 = .ok (.aload_n 0, 1) := dk_42 (dk_at dksX1_branchAt_0 3 rfl rfl)
theorem dX1_branchAt_4 : decode cX1_branchAt 4 = .ok (.getfield 103, 3) := dk_180 0 103 (dk_at dksX1_branchAt_0 4 rfl rfl)
theorem dX1_branchAt_7 : decode cX1_branchAt 7 = .ok (.getfield 176, 3) := dk_180 0 176 (dk_at dksX1_branchAt_0 7 rfl rfl)
theorem dX1_branchAt_10 : decode cX1_branchAt 10 = .ok (.invokevirtual 180, 3) := dk_182 0 180 (dk_at dksX1_branchAt_0 10 rfl rfl)
theorem dX1_branchAt_13 : decode cX1_branchAt 13 = .ok (.iconst 1, 1) := dk_4 (dk_at dksX1_branchAt_0 13 rfl rfl)
theorem dX1_branchAt_14 : decode cX1_branchAt 14 = .ok (.isub, 1) := dk_100 (dk_at dksX1_branchAt_0 14 rfl rfl)
theorem dX1_branchAt_15 : decode cX1_branchAt 15 = .ok (.i2l, 1) := dk_133 (dk_at dksX1_branchAt_0 15 rfl rfl)
theorem dX1_branchAt_16 : decode cX1_branchAt 16 = .ok (.invokestatic 140, 3) := dk_184 0 140 (dk_at dksX1_branchAt_0 16 rfl rfl)
theorem dX1_branchAt_19 : decode cX1_branchAt 19 = .ok (.invokestatic 242, 3) := dk_184 0 242 (dk_at dksX1_branchAt_0 19 rfl rfl)
theorem dX1_branchAt_22 : decode cX1_branchAt 22 = .ok (.aload_n 0, 1) := dk_42 (dk_at dksX1_branchAt_0 22 rfl rfl)
theorem dX1_branchAt_23 : decode cX1_branchAt 23 = .ok (.getfield 103, 3) := dk_180 0 103 (dk_at dksX1_branchAt_1 0 rfl rfl)
theorem dX1_branchAt_26 : decode cX1_branchAt 26 = .ok (.getfield 176, 3) := dk_180 0 176 (dk_at dksX1_branchAt_1 3 rfl rfl)
theorem dX1_branchAt_29 : decode cX1_branchAt 29 = .ok (.iload_n 1, 1) := dk_27 (dk_at dksX1_branchAt_1 6 rfl rfl)
theorem dX1_branchAt_30 : decode cX1_branchAt 30 = .ok (.invokevirtual 245, 3) := dk_182 0 245 (dk_at dksX1_branchAt_1 7 rfl rfl)
theorem dX1_branchAt_33 : decode cX1_branchAt 33 = .ok (.checkcast 249, 3) := dk_192 0 249 (dk_at dksX1_branchAt_1 10 rfl rfl)
theorem dX1_branchAt_36 : decode cX1_branchAt 36 = .ok (.areturn, 1) := dk_176 (dk_at dksX1_branchAt_1 13 rfl rfl)
def dkwX1_requireIndex_0 : List UInt8 := [26, 154, 0, 11, 187, 0, 10, 89, 183, 0, 12, 191, 177]
abbrev dktX1_requireIndex_0 : List UInt8 := dkwX1_requireIndex_0 ++ []
theorem dksX1_requireIndex_0 : cX1_requireIndex.data.toList.drop 0 = dktX1_requireIndex_0 := by decide +kernel
theorem dX1_requireIndex_0 : decode cX1_requireIndex 0 = .ok (.iload_n 0, 1) := dk_26 (dk_at dksX1_requireIndex_0 0 rfl rfl)
theorem dX1_requireIndex_1 : decode cX1_requireIndex 1 = .ok (.ifCond .ne 11, 3) := dk_154 0 11 (dk_at dksX1_requireIndex_0 1 rfl rfl)
theorem dX1_requireIndex_4 : decode cX1_requireIndex 4 = .ok (.new 10, 3) := dk_187 0 10 (dk_at dksX1_requireIndex_0 4 rfl rfl)
theorem dX1_requireIndex_7 : decode cX1_requireIndex 7 = .ok (.dup, 1) := dk_89 (dk_at dksX1_requireIndex_0 7 rfl rfl)
theorem dX1_requireIndex_8 : decode cX1_requireIndex 8 = .ok (.invokespecial 12, 3) := dk_183 0 12 (dk_at dksX1_requireIndex_0 8 rfl rfl)
theorem dX1_requireIndex_11 : decode cX1_requireIndex 11 = .ok (.athrow, 1) := dk_191 (dk_at dksX1_requireIndex_0 11 rfl rfl)
theorem dX1_requireIndex_12 : decode cX1_requireIndex 12 = .ok (.return_, 1) := dk_177 (dk_at dksX1_requireIndex_0 12 rfl rfl)
def dkwX1_loadOf_2 : List UInt8 := [180, 1, 17, 167, 0, 19, 28, 6, 160, 0, 10, 45, 182, 1, 19, 167, 0, 7, 45, 182, 1, 22, 172]
abbrev dktX1_loadOf_2 : List UInt8 := dkwX1_loadOf_2 ++ []
def dkwX1_loadOf_1 : List UInt8 := [182, 1, 12, 167, 0, 43, 28, 4, 160, 0, 10, 45, 180, 1, 15, 167, 0, 31, 28, 5, 160, 0, 10, 45]
abbrev dktX1_loadOf_1 : List UInt8 := dkwX1_loadOf_1 ++ dktX1_loadOf_2
def dkwX1_loadOf_0 : List UInt8 := [42, 27, 182, 1, 6, 78, 28, 133, 9, 20, 1, 10, 184, 0, 140, 184, 0, 144, 28, 154, 0, 10, 45]
abbrev dktX1_loadOf_0 : List UInt8 := dkwX1_loadOf_0 ++ dktX1_loadOf_1
theorem dksX1_loadOf_0 : cX1_loadOf.data.toList.drop 0 = dktX1_loadOf_0 := by decide +kernel
theorem dksX1_loadOf_1 : cX1_loadOf.data.toList.drop 23 = dktX1_loadOf_1 := dk_seg dksX1_loadOf_0 23 rfl rfl
theorem dksX1_loadOf_2 : cX1_loadOf.data.toList.drop 47 = dktX1_loadOf_2 := dk_seg dksX1_loadOf_1 24 rfl rfl
theorem dX1_loadOf_0 : decode cX1_loadOf 0 = .ok (.aload_n 0, 1) := dk_42 (dk_at dksX1_loadOf_0 0 rfl rfl)
theorem dX1_loadOf_1 : decode cX1_loadOf 1 = .ok (.iload_n 1, 1) := dk_27 (dk_at dksX1_loadOf_0 1 rfl rfl)
theorem dX1_loadOf_2 : decode cX1_loadOf 2 = .ok (.invokevirtual 262, 3) := dk_182 1 6 (dk_at dksX1_loadOf_0 2 rfl rfl)
theorem dX1_loadOf_5 : decode cX1_loadOf 5 = .ok (.astore_n 3, 1) := dk_78 (dk_at dksX1_loadOf_0 5 rfl rfl)
theorem dX1_loadOf_6 : decode cX1_loadOf 6 = .ok (.iload_n 2, 1) := dk_28 (dk_at dksX1_loadOf_0 6 rfl rfl)
theorem dX1_loadOf_7 : decode cX1_loadOf 7 = .ok (.i2l, 1) := dk_133 (dk_at dksX1_loadOf_0 7 rfl rfl)
theorem dX1_loadOf_8 : decode cX1_loadOf 8 = .ok (.lconst 0, 1) := dk_9 (dk_at dksX1_loadOf_0 8 rfl rfl)
theorem dX1_loadOf_9 : decode cX1_loadOf 9 = .ok (.ldc2_w 266, 3) := dk_20 1 10 (dk_at dksX1_loadOf_0 9 rfl rfl)
theorem dX1_loadOf_12 : decode cX1_loadOf 12 = .ok (.invokestatic 140, 3) := dk_184 0 140 (dk_at dksX1_loadOf_0 12 rfl rfl)
theorem dX1_loadOf_15 : decode cX1_loadOf 15 = .ok (.invokestatic 144, 3) := dk_184 0 144 (dk_at dksX1_loadOf_0 15 rfl rfl)
theorem dX1_loadOf_18 : decode cX1_loadOf 18 = .ok (.iload_n 2, 1) := dk_28 (dk_at dksX1_loadOf_0 18 rfl rfl)
theorem dX1_loadOf_19 : decode cX1_loadOf 19 = .ok (.ifCond .ne 10, 3) := dk_154 0 10 (dk_at dksX1_loadOf_0 19 rfl rfl)
theorem dX1_loadOf_22 : decode cX1_loadOf 22 = .ok (.aload_n 3, 1) := dk_45 (dk_at dksX1_loadOf_0 22 rfl rfl)
theorem dX1_loadOf_23 : decode cX1_loadOf 23 = .ok (.invokevirtual 268, 3) := dk_182 1 12 (dk_at dksX1_loadOf_1 0 rfl rfl)
theorem dX1_loadOf_26 : decode cX1_loadOf 26 = .ok (.goto 43, 3) := dk_167 0 43 (dk_at dksX1_loadOf_1 3 rfl rfl)
theorem dX1_loadOf_29 : decode cX1_loadOf 29 = .ok (.iload_n 2, 1) := dk_28 (dk_at dksX1_loadOf_1 6 rfl rfl)
theorem dX1_loadOf_30 : decode cX1_loadOf 30 = .ok (.iconst 1, 1) := dk_4 (dk_at dksX1_loadOf_1 7 rfl rfl)
theorem dX1_loadOf_31 : decode cX1_loadOf 31 = .ok (.if_icmp .ne 10, 3) := dk_160 0 10 (dk_at dksX1_loadOf_1 8 rfl rfl)
theorem dX1_loadOf_34 : decode cX1_loadOf 34 = .ok (.aload_n 3, 1) := dk_45 (dk_at dksX1_loadOf_1 11 rfl rfl)
theorem dX1_loadOf_35 : decode cX1_loadOf 35 = .ok (.getfield 271, 3) := dk_180 1 15 (dk_at dksX1_loadOf_1 12 rfl rfl)
theorem dX1_loadOf_38 : decode cX1_loadOf 38 = .ok (.goto 31, 3) := dk_167 0 31 (dk_at dksX1_loadOf_1 15 rfl rfl)
theorem dX1_loadOf_41 : decode cX1_loadOf 41 = .ok (.iload_n 2, 1) := dk_28 (dk_at dksX1_loadOf_1 18 rfl rfl)
theorem dX1_loadOf_42 : decode cX1_loadOf 42 = .ok (.iconst 2, 1) := dk_5 (dk_at dksX1_loadOf_1 19 rfl rfl)
theorem dX1_loadOf_43 : decode cX1_loadOf 43 = .ok (.if_icmp .ne 10, 3) := dk_160 0 10 (dk_at dksX1_loadOf_1 20 rfl rfl)
theorem dX1_loadOf_46 : decode cX1_loadOf 46 = .ok (.aload_n 3, 1) := dk_45 (dk_at dksX1_loadOf_1 23 rfl rfl)
theorem dX1_loadOf_47 : decode cX1_loadOf 47 = .ok (.getfield 273, 3) := dk_180 1 17 (dk_at dksX1_loadOf_2 0 rfl rfl)
theorem dX1_loadOf_50 : decode cX1_loadOf 50 = .ok (.goto 19, 3) := dk_167 0 19 (dk_at dksX1_loadOf_2 3 rfl rfl)
theorem dX1_loadOf_53 : decode cX1_loadOf 53 = .ok (.iload_n 2, 1) := dk_28 (dk_at dksX1_loadOf_2 6 rfl rfl)
theorem dX1_loadOf_54 : decode cX1_loadOf 54 = .ok (.iconst 3, 1) := dk_6 (dk_at dksX1_loadOf_2 7 rfl rfl)
theorem dX1_loadOf_55 : decode cX1_loadOf 55 = .ok (.if_icmp .ne 10, 3) := dk_160 0 10 (dk_at dksX1_loadOf_2 8 rfl rfl)
theorem dX1_loadOf_58 : decode cX1_loadOf 58 = .ok (.aload_n 3, 1) := dk_45 (dk_at dksX1_loadOf_2 11 rfl rfl)
theorem dX1_loadOf_59 : decode cX1_loadOf 59 = .ok (.invokevirtual 275, 3) := dk_182 1 19 (dk_at dksX1_loadOf_2 12 rfl rfl)
theorem dX1_loadOf_62 : decode cX1_loadOf 62 = .ok (.goto 7, 3) := dk_167 0 7 (dk_at dksX1_loadOf_2 15 rfl rfl)
theorem dX1_loadOf_65 : decode cX1_loadOf 65 = .ok (.aload_n 3, 1) := dk_45 (dk_at dksX1_loadOf_2 18 rfl rfl)
theorem dX1_loadOf_66 : decode cX1_loadOf 66 = .ok (.invokevirtual 278, 3) := dk_182 1 22 (dk_at dksX1_loadOf_2 19 rfl rfl)
theorem dX1_loadOf_69 : decode cX1_loadOf 69 = .ok (.ireturn, 1) := dk_172 (dk_at dksX1_loadOf_2 22 rfl rfl)
def dkwX1_loadAt_1 : List UInt8 := [180, 0, 209, 27, 182, 0, 245, 192, 0, 251, 176]
abbrev dktX1_loadAt_1 : List UInt8 := dkwX1_loadAt_1 ++ []
def dkwX1_loadAt_0 : List UInt8 := [27, 133, 9, 42, 182, 0, 217, 4, 100, 133, 184, 0, 140, 184, 0, 242, 42, 180, 0, 103, 180, 0, 205]
abbrev dktX1_loadAt_0 : List UInt8 := dkwX1_loadAt_0 ++ dktX1_loadAt_1
theorem dksX1_loadAt_0 : cX1_loadAt.data.toList.drop 0 = dktX1_loadAt_0 := by decide +kernel
theorem dksX1_loadAt_1 : cX1_loadAt.data.toList.drop 23 = dktX1_loadAt_1 := dk_seg dksX1_loadAt_0 23 rfl rfl
theorem dX1_loadAt_0 : decode cX1_loadAt 0 = .ok (.iload_n 1, 1) := dk_27 (dk_at dksX1_loadAt_0 0 rfl rfl)
theorem dX1_loadAt_1 : decode cX1_loadAt 1 = .ok (.i2l, 1) := dk_133 (dk_at dksX1_loadAt_0 1 rfl rfl)
theorem dX1_loadAt_2 : decode cX1_loadAt 2 = .ok (.lconst 0, 1) := dk_9 (dk_at dksX1_loadAt_0 2 rfl rfl)
theorem dX1_loadAt_3 : decode cX1_loadAt 3 = .ok (.aload_n 0, 1) := dk_42 (dk_at dksX1_loadAt_0 3 rfl rfl)
theorem dX1_loadAt_4 : decode cX1_loadAt 4 = .ok (.invokevirtual 217, 3) := dk_182 0 217 (dk_at dksX1_loadAt_0 4 rfl rfl)
theorem dX1_loadAt_7 : decode cX1_loadAt 7 = .ok (.iconst 1, 1) := dk_4 (dk_at dksX1_loadAt_0 7 rfl rfl)
theorem dX1_loadAt_8 : decode cX1_loadAt 8 = .ok (.isub, 1) := dk_100 (dk_at dksX1_loadAt_0 8 rfl rfl)
theorem dX1_loadAt_9 : decode cX1_loadAt 9 = .ok (.i2l, 1) := dk_133 (dk_at dksX1_loadAt_0 9 rfl rfl)
theorem dX1_loadAt_10 : decode cX1_loadAt 10 = .ok (.invokestatic 140, 3) := dk_184 0 140 (dk_at dksX1_loadAt_0 10 rfl rfl)
theorem dX1_loadAt_13 : decode cX1_loadAt 13 = .ok (.invokestatic 242, 3) := dk_184 0 242 (dk_at dksX1_loadAt_0 13 rfl rfl)
theorem dX1_loadAt_16 : decode cX1_loadAt 16 = .ok (.aload_n 0, 1) := dk_42 (dk_at dksX1_loadAt_0 16 rfl rfl)
theorem dX1_loadAt_17 : decode cX1_loadAt 17 = .ok (.getfield 103, 3) := dk_180 0 103 (dk_at dksX1_loadAt_0 17 rfl rfl)
theorem dX1_loadAt_20 : decode cX1_loadAt 20 = .ok (.getfield 205, 3) := dk_180 0 205 (dk_at dksX1_loadAt_0 20 rfl rfl)
theorem dX1_loadAt_23 : decode cX1_loadAt 23 = .ok (.getfield 209, 3) := dk_180 0 209 (dk_at dksX1_loadAt_1 0 rfl rfl)
theorem dX1_loadAt_26 : decode cX1_loadAt 26 = .ok (.iload_n 1, 1) := dk_27 (dk_at dksX1_loadAt_1 3 rfl rfl)
theorem dX1_loadAt_27 : decode cX1_loadAt 27 = .ok (.invokevirtual 245, 3) := dk_182 0 245 (dk_at dksX1_loadAt_1 4 rfl rfl)
theorem dX1_loadAt_30 : decode cX1_loadAt 30 = .ok (.checkcast 251, 3) := dk_192 0 251 (dk_at dksX1_loadAt_1 7 rfl rfl)
theorem dX1_loadAt_33 : decode cX1_loadAt 33 = .ok (.areturn, 1) := dk_176 (dk_at dksX1_loadAt_1 10 rfl rfl)
def dkwX1_isOn_0 : List UInt8 := [42, 27, 182, 1, 6, 87, 42, 180, 0, 103, 180, 1, 24, 27, 51, 172]
abbrev dktX1_isOn_0 : List UInt8 := dkwX1_isOn_0 ++ []
theorem dksX1_isOn_0 : cX1_isOn.data.toList.drop 0 = dktX1_isOn_0 := by decide +kernel
theorem dX1_isOn_0 : decode cX1_isOn 0 = .ok (.aload_n 0, 1) := dk_42 (dk_at dksX1_isOn_0 0 rfl rfl)
theorem dX1_isOn_1 : decode cX1_isOn 1 = .ok (.iload_n 1, 1) := dk_27 (dk_at dksX1_isOn_0 1 rfl rfl)
theorem dX1_isOn_2 : decode cX1_isOn 2 = .ok (.invokevirtual 262, 3) := dk_182 1 6 (dk_at dksX1_isOn_0 2 rfl rfl)
theorem dX1_isOn_5 : decode cX1_isOn 5 = .ok (.pop, 1) := dk_87 (dk_at dksX1_isOn_0 5 rfl rfl)
theorem dX1_isOn_6 : decode cX1_isOn 6 = .ok (.aload_n 0, 1) := dk_42 (dk_at dksX1_isOn_0 6 rfl rfl)
theorem dX1_isOn_7 : decode cX1_isOn 7 = .ok (.getfield 103, 3) := dk_180 0 103 (dk_at dksX1_isOn_0 7 rfl rfl)
theorem dX1_isOn_10 : decode cX1_isOn 10 = .ok (.getfield 280, 3) := dk_180 1 24 (dk_at dksX1_isOn_0 10 rfl rfl)
theorem dX1_isOn_13 : decode cX1_isOn 13 = .ok (.iload_n 1, 1) := dk_27 (dk_at dksX1_isOn_0 13 rfl rfl)
theorem dX1_isOn_14 : decode cX1_isOn 14 = .ok (.baload, 1) := dk_51 (dk_at dksX1_isOn_0 14 rfl rfl)
theorem dX1_isOn_15 : decode cX1_isOn 15 = .ok (.ireturn, 1) := dk_172 (dk_at dksX1_isOn_0 15 rfl rfl)
def dkwX1_setOn_1 : List UInt8 := [28, 84, 29, 172]
abbrev dktX1_setOn_1 : List UInt8 := dkwX1_setOn_1 ++ []
def dkwX1_setOn_0 : List UInt8 := [42, 27, 182, 1, 6, 87, 42, 182, 1, 27, 180, 1, 24, 27, 51, 62, 42, 180, 0, 103, 180, 1, 24, 27]
abbrev dktX1_setOn_0 : List UInt8 := dkwX1_setOn_0 ++ dktX1_setOn_1
theorem dksX1_setOn_0 : cX1_setOn.data.toList.drop 0 = dktX1_setOn_0 := by decide +kernel
theorem dksX1_setOn_1 : cX1_setOn.data.toList.drop 24 = dktX1_setOn_1 := dk_seg dksX1_setOn_0 24 rfl rfl
theorem dX1_setOn_0 : decode cX1_setOn 0 = .ok (.aload_n 0, 1) := dk_42 (dk_at dksX1_setOn_0 0 rfl rfl)
theorem dX1_setOn_1 : decode cX1_setOn 1 = .ok (.iload_n 1, 1) := dk_27 (dk_at dksX1_setOn_0 1 rfl rfl)
theorem dX1_setOn_2 : decode cX1_setOn 2 = .ok (.invokevirtual 262, 3) := dk_182 1 6 (dk_at dksX1_setOn_0 2 rfl rfl)
theorem dX1_setOn_5 : decode cX1_setOn 5 = .ok (.pop, 1) := dk_87 (dk_at dksX1_setOn_0 5 rfl rfl)
theorem dX1_setOn_6 : decode cX1_setOn 6 = .ok (.aload_n 0, 1) := dk_42 (dk_at dksX1_setOn_0 6 rfl rfl)
theorem dX1_setOn_7 : decode cX1_setOn 7 = .ok (.invokevirtual 283, 3) := dk_182 1 27 (dk_at dksX1_setOn_0 7 rfl rfl)
theorem dX1_setOn_10 : decode cX1_setOn 10 = .ok (.getfield 280, 3) := dk_180 1 24 (dk_at dksX1_setOn_0 10 rfl rfl)
theorem dX1_setOn_13 : decode cX1_setOn 13 = .ok (.iload_n 1, 1) := dk_27 (dk_at dksX1_setOn_0 13 rfl rfl)
theorem dX1_setOn_14 : decode cX1_setOn 14 = .ok (.baload, 1) := dk_51 (dk_at dksX1_setOn_0 14 rfl rfl)
theorem dX1_setOn_15 : decode cX1_setOn 15 = .ok (.istore_n 3, 1) := dk_62 (dk_at dksX1_setOn_0 15 rfl rfl)
theorem dX1_setOn_16 : decode cX1_setOn 16 = .ok (.aload_n 0, 1) := dk_42 (dk_at dksX1_setOn_0 16 rfl rfl)
theorem dX1_setOn_17 : decode cX1_setOn 17 = .ok (.getfield 103, 3) := dk_180 0 103 (dk_at dksX1_setOn_0 17 rfl rfl)
theorem dX1_setOn_20 : decode cX1_setOn 20 = .ok (.getfield 280, 3) := dk_180 1 24 (dk_at dksX1_setOn_0 20 rfl rfl)
theorem dX1_setOn_23 : decode cX1_setOn 23 = .ok (.iload_n 1, 1) := dk_27 (dk_at dksX1_setOn_0 23 rfl rfl)
theorem dX1_setOn_24 : decode cX1_setOn 24 = .ok (.iload_n 2, 1) := dk_28 (dk_at dksX1_setOn_1 0 rfl rfl)
theorem dX1_setOn_25 : decode cX1_setOn 25 = .ok (.bastore, 1) := dk_84 (dk_at dksX1_setOn_1 1 rfl rfl)
theorem dX1_setOn_26 : decode cX1_setOn 26 = .ok (.iload_n 3, 1) := dk_29 (dk_at dksX1_setOn_1 2 rfl rfl)
theorem dX1_setOn_27 : decode cX1_setOn 27 = .ok (.ireturn, 1) := dk_172 (dk_at dksX1_setOn_1 3 rfl rfl)
def dkwX1_plan_3 : List UInt8 := [180, 0, 103, 180, 0, 226, 182, 0, 230, 172]
abbrev dktX1_plan_3 : List UInt8 := dkwX1_plan_3 ++ []
def dkwX1_plan_2 : List UInt8 := [184, 0, 132, 42, 182, 1, 27, 180, 0, 226, 187, 1, 32, 89, 28, 27, 29, 183, 1, 34, 182, 1, 37, 42]
abbrev dktX1_plan_2 : List UInt8 := dkwX1_plan_2 ++ dktX1_plan_3
def dkwX1_plan_1 : List UInt8 := [184, 0, 144, 42, 180, 0, 103, 180, 0, 226, 182, 0, 230, 16, 20, 162, 0, 7, 4, 167, 0, 4, 3]
abbrev dktX1_plan_1 : List UInt8 := dkwX1_plan_1 ++ dktX1_plan_2
def dkwX1_plan_0 : List UInt8 := [42, 27, 182, 1, 6, 87, 28, 133, 42, 180, 0, 103, 180, 0, 239, 4, 96, 133, 20, 1, 30, 184, 0, 140]
abbrev dktX1_plan_0 : List UInt8 := dkwX1_plan_0 ++ dktX1_plan_1
theorem dksX1_plan_0 : cX1_plan.data.toList.drop 0 = dktX1_plan_0 := by decide +kernel
theorem dksX1_plan_1 : cX1_plan.data.toList.drop 24 = dktX1_plan_1 := dk_seg dksX1_plan_0 24 rfl rfl
theorem dksX1_plan_2 : cX1_plan.data.toList.drop 47 = dktX1_plan_2 := dk_seg dksX1_plan_1 23 rfl rfl
theorem dksX1_plan_3 : cX1_plan.data.toList.drop 71 = dktX1_plan_3 := dk_seg dksX1_plan_2 24 rfl rfl
theorem dX1_plan_0 : decode cX1_plan 0 = .ok (.aload_n 0, 1) := dk_42 (dk_at dksX1_plan_0 0 rfl rfl)
theorem dX1_plan_1 : decode cX1_plan 1 = .ok (.iload_n 1, 1) := dk_27 (dk_at dksX1_plan_0 1 rfl rfl)
theorem dX1_plan_2 : decode cX1_plan 2 = .ok (.invokevirtual 262, 3) := dk_182 1 6 (dk_at dksX1_plan_0 2 rfl rfl)
theorem dX1_plan_5 : decode cX1_plan 5 = .ok (.pop, 1) := dk_87 (dk_at dksX1_plan_0 5 rfl rfl)
theorem dX1_plan_6 : decode cX1_plan 6 = .ok (.iload_n 2, 1) := dk_28 (dk_at dksX1_plan_0 6 rfl rfl)
theorem dX1_plan_7 : decode cX1_plan 7 = .ok (.i2l, 1) := dk_133 (dk_at dksX1_plan_0 7 rfl rfl)
theorem dX1_plan_8 : decode cX1_plan 8 = .ok (.aload_n 0, 1) := dk_42 (dk_at dksX1_plan_0 8 rfl rfl)
theorem dX1_plan_9 : decode cX1_plan 9 = .ok (.getfield 103, 3) := dk_180 0 103 (dk_at dksX1_plan_0 9 rfl rfl)
theorem dX1_plan_12 : decode cX1_plan 12 = .ok (.getfield 239, 3) := dk_180 0 239 (dk_at dksX1_plan_0 12 rfl rfl)
theorem dX1_plan_15 : decode cX1_plan 15 = .ok (.iconst 1, 1) := dk_4 (dk_at dksX1_plan_0 15 rfl rfl)
theorem dX1_plan_16 : decode cX1_plan 16 = .ok (.iadd, 1) := dk_96 (dk_at dksX1_plan_0 16 rfl rfl)
theorem dX1_plan_17 : decode cX1_plan 17 = .ok (.i2l, 1) := dk_133 (dk_at dksX1_plan_0 17 rfl rfl)
theorem dX1_plan_18 : decode cX1_plan 18 = .ok (.ldc2_w 286, 3) := dk_20 1 30 (dk_at dksX1_plan_0 18 rfl rfl)
theorem dX1_plan_21 : decode cX1_plan 21 = .ok (.invokestatic 140, 3) := dk_184 0 140 (dk_at dksX1_plan_0 21 rfl rfl)
theorem dX1_plan_24 : decode cX1_plan 24 = .ok (.invokestatic 144, 3) := dk_184 0 144 (dk_at dksX1_plan_1 0 rfl rfl)
theorem dX1_plan_27 : decode cX1_plan 27 = .ok (.aload_n 0, 1) := dk_42 (dk_at dksX1_plan_1 3 rfl rfl)
theorem dX1_plan_28 : decode cX1_plan 28 = .ok (.getfield 103, 3) := dk_180 0 103 (dk_at dksX1_plan_1 4 rfl rfl)
theorem dX1_plan_31 : decode cX1_plan 31 = .ok (.getfield 226, 3) := dk_180 0 226 (dk_at dksX1_plan_1 7 rfl rfl)
theorem dX1_plan_34 : decode cX1_plan 34 = .ok (.invokevirtual 230, 3) := dk_182 0 230 (dk_at dksX1_plan_1 10 rfl rfl)
theorem dX1_plan_37 : decode cX1_plan 37 = .ok (.bipush 20, 2) := dk_16 20 (dk_at dksX1_plan_1 13 rfl rfl)
theorem dX1_plan_39 : decode cX1_plan 39 = .ok (.if_icmp .ge 7, 3) := dk_162 0 7 (dk_at dksX1_plan_1 15 rfl rfl)
theorem dX1_plan_42 : decode cX1_plan 42 = .ok (.iconst 1, 1) := dk_4 (dk_at dksX1_plan_1 18 rfl rfl)
theorem dX1_plan_43 : decode cX1_plan 43 = .ok (.goto 4, 3) := dk_167 0 4 (dk_at dksX1_plan_1 19 rfl rfl)
theorem dX1_plan_46 : decode cX1_plan 46 = .ok (.iconst 0, 1) := dk_3 (dk_at dksX1_plan_1 22 rfl rfl)
theorem dX1_plan_47 : decode cX1_plan 47 = .ok (.invokestatic 132, 3) := dk_184 0 132 (dk_at dksX1_plan_2 0 rfl rfl)
theorem dX1_plan_50 : decode cX1_plan 50 = .ok (.aload_n 0, 1) := dk_42 (dk_at dksX1_plan_2 3 rfl rfl)
theorem dX1_plan_51 : decode cX1_plan 51 = .ok (.invokevirtual 283, 3) := dk_182 1 27 (dk_at dksX1_plan_2 4 rfl rfl)
theorem dX1_plan_54 : decode cX1_plan 54 = .ok (.getfield 226, 3) := dk_180 0 226 (dk_at dksX1_plan_2 7 rfl rfl)
theorem dX1_plan_57 : decode cX1_plan 57 = .ok (.new 288, 3) := dk_187 1 32 (dk_at dksX1_plan_2 10 rfl rfl)
theorem dX1_plan_60 : decode cX1_plan 60 = .ok (.dup, 1) := dk_89 (dk_at dksX1_plan_2 13 rfl rfl)
theorem dX1_plan_61 : decode cX1_plan 61 = .ok (.iload_n 2, 1) := dk_28 (dk_at dksX1_plan_2 14 rfl rfl)
theorem dX1_plan_62 : decode cX1_plan 62 = .ok (.iload_n 1, 1) := dk_27 (dk_at dksX1_plan_2 15 rfl rfl)
theorem dX1_plan_63 : decode cX1_plan 63 = .ok (.iload_n 3, 1) := dk_29 (dk_at dksX1_plan_2 16 rfl rfl)
theorem dX1_plan_64 : decode cX1_plan 64 = .ok (.invokespecial 290, 3) := dk_183 1 34 (dk_at dksX1_plan_2 17 rfl rfl)
theorem dX1_plan_67 : decode cX1_plan 67 = .ok (.invokevirtual 293, 3) := dk_182 1 37 (dk_at dksX1_plan_2 20 rfl rfl)
theorem dX1_plan_70 : decode cX1_plan 70 = .ok (.aload_n 0, 1) := dk_42 (dk_at dksX1_plan_2 23 rfl rfl)
theorem dX1_plan_71 : decode cX1_plan 71 = .ok (.getfield 103, 3) := dk_180 0 103 (dk_at dksX1_plan_3 0 rfl rfl)
theorem dX1_plan_74 : decode cX1_plan 74 = .ok (.getfield 226, 3) := dk_180 0 226 (dk_at dksX1_plan_3 3 rfl rfl)
theorem dX1_plan_77 : decode cX1_plan 77 = .ok (.invokevirtual 230, 3) := dk_182 0 230 (dk_at dksX1_plan_3 6 rfl rfl)
theorem dX1_plan_80 : decode cX1_plan 80 = .ok (.ireturn, 1) := dk_172 (dk_at dksX1_plan_3 9 rfl rfl)
def dkwX1_nextSwitch_3 : List UInt8 := [167, 255, 207, 28, 172]
abbrev dktX1_nextSwitch_3 : List UInt8 := dkwX1_nextSwitch_3 ++ []
def dkwX1_nextSwitch_2 : List UInt8 := [27, 160, 0, 23, 28, 2, 159, 0, 12, 25, 4, 180, 1, 54, 28, 162, 0, 9, 25, 4, 180, 1, 54, 61]
abbrev dktX1_nextSwitch_2 : List UInt8 := dkwX1_nextSwitch_2 ++ dktX1_nextSwitch_3
def dkwX1_nextSwitch_1 : List UInt8 := [185, 1, 42, 1, 0, 153, 0, 46, 45, 185, 1, 48, 1, 0, 192, 1, 32, 58, 4, 25, 4, 180, 1, 51]
abbrev dktX1_nextSwitch_1 : List UInt8 := dkwX1_nextSwitch_1 ++ dktX1_nextSwitch_2
def dkwX1_nextSwitch_0 : List UInt8 := [42, 27, 182, 1, 6, 87, 2, 61, 42, 180, 0, 103, 180, 0, 226, 182, 1, 38, 78, 45]
abbrev dktX1_nextSwitch_0 : List UInt8 := dkwX1_nextSwitch_0 ++ dktX1_nextSwitch_1
theorem dksX1_nextSwitch_0 : cX1_nextSwitch.data.toList.drop 0 = dktX1_nextSwitch_0 := by decide +kernel
theorem dksX1_nextSwitch_1 : cX1_nextSwitch.data.toList.drop 20 = dktX1_nextSwitch_1 := dk_seg dksX1_nextSwitch_0 20 rfl rfl
theorem dksX1_nextSwitch_2 : cX1_nextSwitch.data.toList.drop 44 = dktX1_nextSwitch_2 := dk_seg dksX1_nextSwitch_1 24 rfl rfl
theorem dksX1_nextSwitch_3 : cX1_nextSwitch.data.toList.drop 68 = dktX1_nextSwitch_3 := dk_seg dksX1_nextSwitch_2 24 rfl rfl
theorem dX1_nextSwitch_0 : decode cX1_nextSwitch 0 = .ok (.aload_n 0, 1) := dk_42 (dk_at dksX1_nextSwitch_0 0 rfl rfl)
theorem dX1_nextSwitch_1 : decode cX1_nextSwitch 1 = .ok (.iload_n 1, 1) := dk_27 (dk_at dksX1_nextSwitch_0 1 rfl rfl)
theorem dX1_nextSwitch_2 : decode cX1_nextSwitch 2 = .ok (.invokevirtual 262, 3) := dk_182 1 6 (dk_at dksX1_nextSwitch_0 2 rfl rfl)
theorem dX1_nextSwitch_5 : decode cX1_nextSwitch 5 = .ok (.pop, 1) := dk_87 (dk_at dksX1_nextSwitch_0 5 rfl rfl)
theorem dX1_nextSwitch_6 : decode cX1_nextSwitch 6 = .ok (.iconst (-1), 1) := dk_2 (dk_at dksX1_nextSwitch_0 6 rfl rfl)
theorem dX1_nextSwitch_7 : decode cX1_nextSwitch 7 = .ok (.istore_n 2, 1) := dk_61 (dk_at dksX1_nextSwitch_0 7 rfl rfl)
theorem dX1_nextSwitch_8 : decode cX1_nextSwitch 8 = .ok (.aload_n 0, 1) := dk_42 (dk_at dksX1_nextSwitch_0 8 rfl rfl)
theorem dX1_nextSwitch_9 : decode cX1_nextSwitch 9 = .ok (.getfield 103, 3) := dk_180 0 103 (dk_at dksX1_nextSwitch_0 9 rfl rfl)
theorem dX1_nextSwitch_12 : decode cX1_nextSwitch 12 = .ok (.getfield 226, 3) := dk_180 0 226 (dk_at dksX1_nextSwitch_0 12 rfl rfl)
theorem dX1_nextSwitch_15 : decode cX1_nextSwitch 15 = .ok (.invokevirtual 294, 3) := dk_182 1 38 (dk_at dksX1_nextSwitch_0 15 rfl rfl)
theorem dX1_nextSwitch_18 : decode cX1_nextSwitch 18 = .ok (.astore_n 3, 1) := dk_78 (dk_at dksX1_nextSwitch_0 18 rfl rfl)
theorem dX1_nextSwitch_19 : decode cX1_nextSwitch 19 = .ok (.aload_n 3, 1) := dk_45 (dk_at dksX1_nextSwitch_0 19 rfl rfl)
theorem dX1_nextSwitch_20 : decode cX1_nextSwitch 20 = .ok (.invokeinterface 298 1, 5) := by decide +kernel
theorem dX1_nextSwitch_25 : decode cX1_nextSwitch 25 = .ok (.ifCond .eq 46, 3) := dk_153 0 46 (dk_at dksX1_nextSwitch_1 5 rfl rfl)
theorem dX1_nextSwitch_28 : decode cX1_nextSwitch 28 = .ok (.aload_n 3, 1) := dk_45 (dk_at dksX1_nextSwitch_1 8 rfl rfl)
theorem dX1_nextSwitch_29 : decode cX1_nextSwitch 29 = .ok (.invokeinterface 304 1, 5) := by decide +kernel
theorem dX1_nextSwitch_34 : decode cX1_nextSwitch 34 = .ok (.checkcast 288, 3) := dk_192 1 32 (dk_at dksX1_nextSwitch_1 14 rfl rfl)
theorem dX1_nextSwitch_37 : decode cX1_nextSwitch 37 = .ok (.astore 4, 2) := dk_58 4 (dk_at dksX1_nextSwitch_1 17 rfl rfl)
theorem dX1_nextSwitch_39 : decode cX1_nextSwitch 39 = .ok (.aload 4, 2) := dk_25 4 (dk_at dksX1_nextSwitch_1 19 rfl rfl)
theorem dX1_nextSwitch_41 : decode cX1_nextSwitch 41 = .ok (.getfield 307, 3) := dk_180 1 51 (dk_at dksX1_nextSwitch_1 21 rfl rfl)
theorem dX1_nextSwitch_44 : decode cX1_nextSwitch 44 = .ok (.iload_n 1, 1) := dk_27 (dk_at dksX1_nextSwitch_2 0 rfl rfl)
theorem dX1_nextSwitch_45 : decode cX1_nextSwitch 45 = .ok (.if_icmp .ne 23, 3) := dk_160 0 23 (dk_at dksX1_nextSwitch_2 1 rfl rfl)
theorem dX1_nextSwitch_48 : decode cX1_nextSwitch 48 = .ok (.iload_n 2, 1) := dk_28 (dk_at dksX1_nextSwitch_2 4 rfl rfl)
theorem dX1_nextSwitch_49 : decode cX1_nextSwitch 49 = .ok (.iconst (-1), 1) := dk_2 (dk_at dksX1_nextSwitch_2 5 rfl rfl)
theorem dX1_nextSwitch_50 : decode cX1_nextSwitch 50 = .ok (.if_icmp .eq 12, 3) := dk_159 0 12 (dk_at dksX1_nextSwitch_2 6 rfl rfl)
theorem dX1_nextSwitch_53 : decode cX1_nextSwitch 53 = .ok (.aload 4, 2) := dk_25 4 (dk_at dksX1_nextSwitch_2 9 rfl rfl)
theorem dX1_nextSwitch_55 : decode cX1_nextSwitch 55 = .ok (.getfield 310, 3) := dk_180 1 54 (dk_at dksX1_nextSwitch_2 11 rfl rfl)
theorem dX1_nextSwitch_58 : decode cX1_nextSwitch 58 = .ok (.iload_n 2, 1) := dk_28 (dk_at dksX1_nextSwitch_2 14 rfl rfl)
theorem dX1_nextSwitch_59 : decode cX1_nextSwitch 59 = .ok (.if_icmp .ge 9, 3) := dk_162 0 9 (dk_at dksX1_nextSwitch_2 15 rfl rfl)
theorem dX1_nextSwitch_62 : decode cX1_nextSwitch 62 = .ok (.aload 4, 2) := dk_25 4 (dk_at dksX1_nextSwitch_2 18 rfl rfl)
theorem dX1_nextSwitch_64 : decode cX1_nextSwitch 64 = .ok (.getfield 310, 3) := dk_180 1 54 (dk_at dksX1_nextSwitch_2 20 rfl rfl)
theorem dX1_nextSwitch_67 : decode cX1_nextSwitch 67 = .ok (.istore_n 2, 1) := dk_61 (dk_at dksX1_nextSwitch_2 23 rfl rfl)
theorem dX1_nextSwitch_68 : decode cX1_nextSwitch 68 = .ok (.goto (-49), 3) := dk_167 255 207 (dk_at dksX1_nextSwitch_3 0 rfl rfl)
theorem dX1_nextSwitch_71 : decode cX1_nextSwitch 71 = .ok (.iload_n 2, 1) := dk_28 (dk_at dksX1_nextSwitch_3 3 rfl rfl)
theorem dX1_nextSwitch_72 : decode cX1_nextSwitch 72 = .ok (.ireturn, 1) := dk_172 (dk_at dksX1_nextSwitch_3 4 rfl rfl)
def dkwX1_state_0 : List UInt8 := [42, 27, 182, 0, 255, 180, 1, 55, 172]
abbrev dktX1_state_0 : List UInt8 := dkwX1_state_0 ++ []
theorem dksX1_state_0 : cX1_state.data.toList.drop 0 = dktX1_state_0 := by decide +kernel
theorem dX1_state_0 : decode cX1_state 0 = .ok (.aload_n 0, 1) := dk_42 (dk_at dksX1_state_0 0 rfl rfl)
theorem dX1_state_1 : decode cX1_state 1 = .ok (.iload_n 1, 1) := dk_27 (dk_at dksX1_state_0 1 rfl rfl)
theorem dX1_state_2 : decode cX1_state 2 = .ok (.invokevirtual 255, 3) := dk_182 0 255 (dk_at dksX1_state_0 2 rfl rfl)
theorem dX1_state_5 : decode cX1_state 5 = .ok (.getfield 311, 3) := dk_180 1 55 (dk_at dksX1_state_0 5 rfl rfl)
theorem dX1_state_8 : decode cX1_state 8 = .ok (.ireturn, 1) := dk_172 (dk_at dksX1_state_0 8 rfl rfl)
def dkwX1_run_2 : List UInt8 := [162, 0, 22, 28, 42, 180, 0, 103, 182, 1, 60, 184, 1, 63, 96, 61, 132, 3, 1, 167, 255, 235, 28, 172]
abbrev dktX1_run_2 : List UInt8 := dkwX1_run_2 ++ []
def dkwX1_run_1 : List UInt8 := [163, 0, 7, 4, 167, 0, 4, 3, 184, 0, 132, 42, 182, 1, 27, 87, 3, 61, 3, 62, 29, 27]
abbrev dktX1_run_1 : List UInt8 := dkwX1_run_1 ++ dktX1_run_2
def dkwX1_run_0 : List UInt8 := [27, 133, 10, 20, 1, 57, 184, 0, 140, 184, 0, 144, 42, 180, 0, 103, 180, 0, 239, 27, 96, 19, 1, 59]
abbrev dktX1_run_0 : List UInt8 := dkwX1_run_0 ++ dktX1_run_1
theorem dksX1_run_0 : cX1_run.data.toList.drop 0 = dktX1_run_0 := by decide +kernel
theorem dksX1_run_1 : cX1_run.data.toList.drop 24 = dktX1_run_1 := dk_seg dksX1_run_0 24 rfl rfl
theorem dksX1_run_2 : cX1_run.data.toList.drop 46 = dktX1_run_2 := dk_seg dksX1_run_1 22 rfl rfl
theorem dX1_run_0 : decode cX1_run 0 = .ok (.iload_n 1, 1) := dk_27 (dk_at dksX1_run_0 0 rfl rfl)
theorem dX1_run_1 : decode cX1_run 1 = .ok (.i2l, 1) := dk_133 (dk_at dksX1_run_0 1 rfl rfl)
theorem dX1_run_2 : decode cX1_run 2 = .ok (.lconst 1, 1) := dk_10 (dk_at dksX1_run_0 2 rfl rfl)
theorem dX1_run_3 : decode cX1_run 3 = .ok (.ldc2_w 313, 3) := dk_20 1 57 (dk_at dksX1_run_0 3 rfl rfl)
theorem dX1_run_6 : decode cX1_run 6 = .ok (.invokestatic 140, 3) := dk_184 0 140 (dk_at dksX1_run_0 6 rfl rfl)
theorem dX1_run_9 : decode cX1_run 9 = .ok (.invokestatic 144, 3) := dk_184 0 144 (dk_at dksX1_run_0 9 rfl rfl)
theorem dX1_run_12 : decode cX1_run 12 = .ok (.aload_n 0, 1) := dk_42 (dk_at dksX1_run_0 12 rfl rfl)
theorem dX1_run_13 : decode cX1_run 13 = .ok (.getfield 103, 3) := dk_180 0 103 (dk_at dksX1_run_0 13 rfl rfl)
theorem dX1_run_16 : decode cX1_run 16 = .ok (.getfield 239, 3) := dk_180 0 239 (dk_at dksX1_run_0 16 rfl rfl)
theorem dX1_run_19 : decode cX1_run 19 = .ok (.iload_n 1, 1) := dk_27 (dk_at dksX1_run_0 19 rfl rfl)
theorem dX1_run_20 : decode cX1_run 20 = .ok (.iadd, 1) := dk_96 (dk_at dksX1_run_0 20 rfl rfl)
theorem dX1_run_21 : decode cX1_run 21 = .ok (.ldc_w 315, 3) := dk_19 1 59 (dk_at dksX1_run_0 21 rfl rfl)
theorem dX1_run_24 : decode cX1_run 24 = .ok (.if_icmp .gt 7, 3) := dk_163 0 7 (dk_at dksX1_run_1 0 rfl rfl)
theorem dX1_run_27 : decode cX1_run 27 = .ok (.iconst 1, 1) := dk_4 (dk_at dksX1_run_1 3 rfl rfl)
theorem dX1_run_28 : decode cX1_run 28 = .ok (.goto 4, 3) := dk_167 0 4 (dk_at dksX1_run_1 4 rfl rfl)
theorem dX1_run_31 : decode cX1_run 31 = .ok (.iconst 0, 1) := dk_3 (dk_at dksX1_run_1 7 rfl rfl)
theorem dX1_run_32 : decode cX1_run 32 = .ok (.invokestatic 132, 3) := dk_184 0 132 (dk_at dksX1_run_1 8 rfl rfl)
theorem dX1_run_35 : decode cX1_run 35 = .ok (.aload_n 0, 1) := dk_42 (dk_at dksX1_run_1 11 rfl rfl)
theorem dX1_run_36 : decode cX1_run 36 = .ok (.invokevirtual 283, 3) := dk_182 1 27 (dk_at dksX1_run_1 12 rfl rfl)
theorem dX1_run_39 : decode cX1_run 39 = .ok (.pop, 1) := dk_87 (dk_at dksX1_run_1 15 rfl rfl)
theorem dX1_run_40 : decode cX1_run 40 = .ok (.iconst 0, 1) := dk_3 (dk_at dksX1_run_1 16 rfl rfl)
theorem dX1_run_41 : decode cX1_run 41 = .ok (.istore_n 2, 1) := dk_61 (dk_at dksX1_run_1 17 rfl rfl)
theorem dX1_run_42 : decode cX1_run 42 = .ok (.iconst 0, 1) := dk_3 (dk_at dksX1_run_1 18 rfl rfl)
theorem dX1_run_43 : decode cX1_run 43 = .ok (.istore_n 3, 1) := dk_62 (dk_at dksX1_run_1 19 rfl rfl)
theorem dX1_run_44 : decode cX1_run 44 = .ok (.iload_n 3, 1) := dk_29 (dk_at dksX1_run_1 20 rfl rfl)
theorem dX1_run_45 : decode cX1_run 45 = .ok (.iload_n 1, 1) := dk_27 (dk_at dksX1_run_1 21 rfl rfl)
theorem dX1_run_46 : decode cX1_run 46 = .ok (.if_icmp .ge 22, 3) := dk_162 0 22 (dk_at dksX1_run_2 0 rfl rfl)
theorem dX1_run_49 : decode cX1_run 49 = .ok (.iload_n 2, 1) := dk_28 (dk_at dksX1_run_2 3 rfl rfl)
theorem dX1_run_50 : decode cX1_run 50 = .ok (.aload_n 0, 1) := dk_42 (dk_at dksX1_run_2 4 rfl rfl)
theorem dX1_run_51 : decode cX1_run 51 = .ok (.getfield 103, 3) := dk_180 0 103 (dk_at dksX1_run_2 5 rfl rfl)
theorem dX1_run_54 : decode cX1_run 54 = .ok (.invokevirtual 316, 3) := dk_182 1 60 (dk_at dksX1_run_2 8 rfl rfl)
theorem dX1_run_57 : decode cX1_run 57 = .ok (.invokestatic 319, 3) := dk_184 1 63 (dk_at dksX1_run_2 11 rfl rfl)
theorem dX1_run_60 : decode cX1_run 60 = .ok (.iadd, 1) := dk_96 (dk_at dksX1_run_2 14 rfl rfl)
theorem dX1_run_61 : decode cX1_run 61 = .ok (.istore_n 2, 1) := dk_61 (dk_at dksX1_run_2 15 rfl rfl)
theorem dX1_run_62 : decode cX1_run 62 = .ok (.iinc 3 1, 3) := dk_132 3 1 (dk_at dksX1_run_2 16 rfl rfl)
theorem dX1_run_65 : decode cX1_run 65 = .ok (.goto (-21), 3) := dk_167 255 235 (dk_at dksX1_run_2 19 rfl rfl)
theorem dX1_run_68 : decode cX1_run 68 = .ok (.iload_n 2, 1) := dk_28 (dk_at dksX1_run_2 22 rfl rfl)
theorem dX1_run_69 : decode cX1_run 69 = .ok (.ireturn, 1) := dk_172 (dk_at dksX1_run_2 23 rfl rfl)
def dkwX1_magnitude_0 : List UInt8 := [34, 11, 150, 156, 0, 9, 11, 34, 102, 167, 0, 4, 34, 174]
abbrev dktX1_magnitude_0 : List UInt8 := dkwX1_magnitude_0 ++ []
theorem dksX1_magnitude_0 : cX1_magnitude.data.toList.drop 0 = dktX1_magnitude_0 := by decide +kernel
theorem dX1_magnitude_0 : decode cX1_magnitude 0 = .ok (.fload_n 0, 1) := dk_34 (dk_at dksX1_magnitude_0 0 rfl rfl)
theorem dX1_magnitude_1 : decode cX1_magnitude 1 = .ok (.fconst 0, 1) := dk_11 (dk_at dksX1_magnitude_0 1 rfl rfl)
theorem dX1_magnitude_2 : decode cX1_magnitude 2 = .ok (.fcmp .g, 1) := dk_150 (dk_at dksX1_magnitude_0 2 rfl rfl)
theorem dX1_magnitude_3 : decode cX1_magnitude 3 = .ok (.ifCond .ge 9, 3) := dk_156 0 9 (dk_at dksX1_magnitude_0 3 rfl rfl)
theorem dX1_magnitude_6 : decode cX1_magnitude 6 = .ok (.fconst 0, 1) := dk_11 (dk_at dksX1_magnitude_0 6 rfl rfl)
theorem dX1_magnitude_7 : decode cX1_magnitude 7 = .ok (.fload_n 0, 1) := dk_34 (dk_at dksX1_magnitude_0 7 rfl rfl)
theorem dX1_magnitude_8 : decode cX1_magnitude 8 = .ok (.fsub, 1) := dk_102 (dk_at dksX1_magnitude_0 8 rfl rfl)
theorem dX1_magnitude_9 : decode cX1_magnitude 9 = .ok (.goto 4, 3) := dk_167 0 4 (dk_at dksX1_magnitude_0 9 rfl rfl)
theorem dX1_magnitude_12 : decode cX1_magnitude 12 = .ok (.fload_n 0, 1) := dk_34 (dk_at dksX1_magnitude_0 12 rfl rfl)
theorem dX1_magnitude_13 : decode cX1_magnitude 13 = .ok (.freturn, 1) := dk_174 (dk_at dksX1_magnitude_0 13 rfl rfl)
def dkwX1_has_0 : List UInt8 := [26, 27, 122, 4, 126, 4, 160, 0, 7, 4, 167, 0, 4, 3, 172]
abbrev dktX1_has_0 : List UInt8 := dkwX1_has_0 ++ []
theorem dksX1_has_0 : cX1_has.data.toList.drop 0 = dktX1_has_0 := by decide +kernel
theorem dX1_has_0 : decode cX1_has 0 = .ok (.iload_n 0, 1) := dk_26 (dk_at dksX1_has_0 0 rfl rfl)
theorem dX1_has_1 : decode cX1_has 1 = .ok (.iload_n 1, 1) := dk_27 (dk_at dksX1_has_0 1 rfl rfl)
theorem dX1_has_2 : decode cX1_has 2 = .ok (.ishr, 1) := dk_122 (dk_at dksX1_has_0 2 rfl rfl)
theorem dX1_has_3 : decode cX1_has 3 = .ok (.iconst 1, 1) := dk_4 (dk_at dksX1_has_0 3 rfl rfl)
theorem dX1_has_4 : decode cX1_has 4 = .ok (.iand, 1) := dk_126 (dk_at dksX1_has_0 4 rfl rfl)
theorem dX1_has_5 : decode cX1_has 5 = .ok (.iconst 1, 1) := dk_4 (dk_at dksX1_has_0 5 rfl rfl)
theorem dX1_has_6 : decode cX1_has 6 = .ok (.if_icmp .ne 7, 3) := dk_160 0 7 (dk_at dksX1_has_0 6 rfl rfl)
theorem dX1_has_9 : decode cX1_has 9 = .ok (.iconst 1, 1) := dk_4 (dk_at dksX1_has_0 9 rfl rfl)
theorem dX1_has_10 : decode cX1_has 10 = .ok (.goto 4, 3) := dk_167 0 4 (dk_at dksX1_has_0 10 rfl rfl)
theorem dX1_has_13 : decode cX1_has 13 = .ok (.iconst 0, 1) := dk_3 (dk_at dksX1_has_0 13 rfl rfl)
theorem dX1_has_14 : decode cX1_has 14 = .ok (.ireturn, 1) := dk_172 (dk_at dksX1_has_0 14 rfl rfl)
def dkwX1_sample_2 : List UInt8 := [180, 1, 75, 28, 48, 174]
abbrev dktX1_sample_2 : List UInt8 := dkwX1_sample_2 ++ []
def dkwX1_sample_1 : List UInt8 := [184, 0, 140, 184, 0, 144, 45, 180, 1, 69, 158, 0, 7, 4, 167, 0, 4, 3, 184, 1, 72, 45]
abbrev dktX1_sample_1 : List UInt8 := dkwX1_sample_1 ++ dktX1_sample_2
def dkwX1_sample_0 : List UInt8 := [42, 27, 182, 0, 255, 78, 28, 133, 9, 42, 180, 0, 103, 180, 0, 205, 180, 0, 233, 4, 100, 133]
abbrev dktX1_sample_0 : List UInt8 := dkwX1_sample_0 ++ dktX1_sample_1
theorem dksX1_sample_0 : cX1_sample.data.toList.drop 0 = dktX1_sample_0 := by decide +kernel
theorem dksX1_sample_1 : cX1_sample.data.toList.drop 22 = dktX1_sample_1 := dk_seg dksX1_sample_0 22 rfl rfl
theorem dksX1_sample_2 : cX1_sample.data.toList.drop 44 = dktX1_sample_2 := dk_seg dksX1_sample_1 22 rfl rfl
theorem dX1_sample_0 : decode cX1_sample 0 = .ok (.aload_n 0, 1) := dk_42 (dk_at dksX1_sample_0 0 rfl rfl)
theorem dX1_sample_1 : decode cX1_sample 1 = .ok (.iload_n 1, 1) := dk_27 (dk_at dksX1_sample_0 1 rfl rfl)
theorem dX1_sample_2 : decode cX1_sample 2 = .ok (.invokevirtual 255, 3) := dk_182 0 255 (dk_at dksX1_sample_0 2 rfl rfl)
theorem dX1_sample_5 : decode cX1_sample 5 = .ok (.astore_n 3, 1) := dk_78 (dk_at dksX1_sample_0 5 rfl rfl)
theorem dX1_sample_6 : decode cX1_sample 6 = .ok (.iload_n 2, 1) := dk_28 (dk_at dksX1_sample_0 6 rfl rfl)
theorem dX1_sample_7 : decode cX1_sample 7 = .ok (.i2l, 1) := dk_133 (dk_at dksX1_sample_0 7 rfl rfl)
theorem dX1_sample_8 : decode cX1_sample 8 = .ok (.lconst 0, 1) := dk_9 (dk_at dksX1_sample_0 8 rfl rfl)
theorem dX1_sample_9 : decode cX1_sample 9 = .ok (.aload_n 0, 1) := dk_42 (dk_at dksX1_sample_0 9 rfl rfl)
theorem dX1_sample_10 : decode cX1_sample 10 = .ok (.getfield 103, 3) := dk_180 0 103 (dk_at dksX1_sample_0 10 rfl rfl)
theorem dX1_sample_13 : decode cX1_sample 13 = .ok (.getfield 205, 3) := dk_180 0 205 (dk_at dksX1_sample_0 13 rfl rfl)
theorem dX1_sample_16 : decode cX1_sample 16 = .ok (.getfield 233, 3) := dk_180 0 233 (dk_at dksX1_sample_0 16 rfl rfl)
theorem dX1_sample_19 : decode cX1_sample 19 = .ok (.iconst 1, 1) := dk_4 (dk_at dksX1_sample_0 19 rfl rfl)
theorem dX1_sample_20 : decode cX1_sample 20 = .ok (.isub, 1) := dk_100 (dk_at dksX1_sample_0 20 rfl rfl)
theorem dX1_sample_21 : decode cX1_sample 21 = .ok (.i2l, 1) := dk_133 (dk_at dksX1_sample_0 21 rfl rfl)
theorem dX1_sample_22 : decode cX1_sample 22 = .ok (.invokestatic 140, 3) := dk_184 0 140 (dk_at dksX1_sample_1 0 rfl rfl)
theorem dX1_sample_25 : decode cX1_sample 25 = .ok (.invokestatic 144, 3) := dk_184 0 144 (dk_at dksX1_sample_1 3 rfl rfl)
theorem dX1_sample_28 : decode cX1_sample 28 = .ok (.aload_n 3, 1) := dk_45 (dk_at dksX1_sample_1 6 rfl rfl)
theorem dX1_sample_29 : decode cX1_sample 29 = .ok (.getfield 325, 3) := dk_180 1 69 (dk_at dksX1_sample_1 7 rfl rfl)
theorem dX1_sample_32 : decode cX1_sample 32 = .ok (.ifCond .le 7, 3) := dk_158 0 7 (dk_at dksX1_sample_1 10 rfl rfl)
theorem dX1_sample_35 : decode cX1_sample 35 = .ok (.iconst 1, 1) := dk_4 (dk_at dksX1_sample_1 13 rfl rfl)
theorem dX1_sample_36 : decode cX1_sample 36 = .ok (.goto 4, 3) := dk_167 0 4 (dk_at dksX1_sample_1 14 rfl rfl)
theorem dX1_sample_39 : decode cX1_sample 39 = .ok (.iconst 0, 1) := dk_3 (dk_at dksX1_sample_1 17 rfl rfl)
theorem dX1_sample_40 : decode cX1_sample 40 = .ok (.invokestatic 328, 3) := dk_184 1 72 (dk_at dksX1_sample_1 18 rfl rfl)
theorem dX1_sample_43 : decode cX1_sample 43 = .ok (.aload_n 3, 1) := dk_45 (dk_at dksX1_sample_1 21 rfl rfl)
theorem dX1_sample_44 : decode cX1_sample 44 = .ok (.getfield 331, 3) := dk_180 1 75 (dk_at dksX1_sample_2 0 rfl rfl)
theorem dX1_sample_47 : decode cX1_sample 47 = .ok (.iload_n 2, 1) := dk_28 (dk_at dksX1_sample_2 3 rfl rfl)
theorem dX1_sample_48 : decode cX1_sample 48 = .ok (.faload, 1) := dk_48 (dk_at dksX1_sample_2 4 rfl rfl)
theorem dX1_sample_49 : decode cX1_sample 49 = .ok (.freturn, 1) := dk_174 (dk_at dksX1_sample_2 5 rfl rfl)
def dkwX1_requireElement_0 : List UInt8 := [26, 154, 0, 11, 187, 0, 13, 89, 183, 0, 15, 191, 177]
abbrev dktX1_requireElement_0 : List UInt8 := dkwX1_requireElement_0 ++ []
theorem dksX1_requireElement_0 : cX1_requireElement.data.toList.drop 0 = dktX1_requireElement_0 := by decide +kernel
theorem dX1_requireElement_0 : decode cX1_requireElement 0 = .ok (.iload_n 0, 1) := dk_26 (dk_at dksX1_requireElement_0 0 rfl rfl)
theorem dX1_requireElement_1 : decode cX1_requireElement 1 = .ok (.ifCond .ne 11, 3) := dk_154 0 11 (dk_at dksX1_requireElement_0 1 rfl rfl)
theorem dX1_requireElement_4 : decode cX1_requireElement 4 = .ok (.new 13, 3) := dk_187 0 13 (dk_at dksX1_requireElement_0 4 rfl rfl)
theorem dX1_requireElement_7 : decode cX1_requireElement 7 = .ok (.dup, 1) := dk_89 (dk_at dksX1_requireElement_0 7 rfl rfl)
theorem dX1_requireElement_8 : decode cX1_requireElement 8 = .ok (.invokespecial 15, 3) := dk_183 0 15 (dk_at dksX1_requireElement_0 8 rfl rfl)
theorem dX1_requireElement_11 : decode cX1_requireElement 11 = .ok (.athrow, 1) := dk_191 (dk_at dksX1_requireElement_0 11 rfl rfl)
theorem dX1_requireElement_12 : decode cX1_requireElement 12 = .ok (.return_, 1) := dk_177 (dk_at dksX1_requireElement_0 12 rfl rfl)
def dkwX1_feature_1 : List UInt8 := [184, 1, 72, 45, 180, 1, 84, 28, 48, 174]
abbrev dktX1_feature_1 : List UInt8 := dkwX1_feature_1 ++ []
def dkwX1_feature_0 : List UInt8 := [42, 27, 182, 0, 255, 78, 28, 184, 1, 81, 45, 180, 1, 69, 158, 0, 7, 4, 167, 0, 4, 3]
abbrev dktX1_feature_0 : List UInt8 := dkwX1_feature_0 ++ dktX1_feature_1
theorem dksX1_feature_0 : cX1_feature.data.toList.drop 0 = dktX1_feature_0 := by decide +kernel
theorem dksX1_feature_1 : cX1_feature.data.toList.drop 22 = dktX1_feature_1 := dk_seg dksX1_feature_0 22 rfl rfl
theorem dX1_feature_0 : decode cX1_feature 0 = .ok (.aload_n 0, 1) := dk_42 (dk_at dksX1_feature_0 0 rfl rfl)
theorem dX1_feature_1 : decode cX1_feature 1 = .ok (.iload_n 1, 1) := dk_27 (dk_at dksX1_feature_0 1 rfl rfl)
theorem dX1_feature_2 : decode cX1_feature 2 = .ok (.invokevirtual 255, 3) := dk_182 0 255 (dk_at dksX1_feature_0 2 rfl rfl)
theorem dX1_feature_5 : decode cX1_feature 5 = .ok (.astore_n 3, 1) := dk_78 (dk_at dksX1_feature_0 5 rfl rfl)
theorem dX1_feature_6 : decode cX1_feature 6 = .ok (.iload_n 2, 1) := dk_28 (dk_at dksX1_feature_0 6 rfl rfl)
theorem dX1_feature_7 : decode cX1_feature 7 = .ok (.invokestatic 337, 3) := dk_184 1 81 (dk_at dksX1_feature_0 7 rfl rfl)
theorem dX1_feature_10 : decode cX1_feature 10 = .ok (.aload_n 3, 1) := dk_45 (dk_at dksX1_feature_0 10 rfl rfl)
theorem dX1_feature_11 : decode cX1_feature 11 = .ok (.getfield 325, 3) := dk_180 1 69 (dk_at dksX1_feature_0 11 rfl rfl)
theorem dX1_feature_14 : decode cX1_feature 14 = .ok (.ifCond .le 7, 3) := dk_158 0 7 (dk_at dksX1_feature_0 14 rfl rfl)
theorem dX1_feature_17 : decode cX1_feature 17 = .ok (.iconst 1, 1) := dk_4 (dk_at dksX1_feature_0 17 rfl rfl)
theorem dX1_feature_18 : decode cX1_feature 18 = .ok (.goto 4, 3) := dk_167 0 4 (dk_at dksX1_feature_0 18 rfl rfl)
theorem dX1_feature_21 : decode cX1_feature 21 = .ok (.iconst 0, 1) := dk_3 (dk_at dksX1_feature_0 21 rfl rfl)
theorem dX1_feature_22 : decode cX1_feature 22 = .ok (.invokestatic 328, 3) := dk_184 1 72 (dk_at dksX1_feature_1 0 rfl rfl)
theorem dX1_feature_25 : decode cX1_feature 25 = .ok (.aload_n 3, 1) := dk_45 (dk_at dksX1_feature_1 3 rfl rfl)
theorem dX1_feature_26 : decode cX1_feature 26 = .ok (.getfield 340, 3) := dk_180 1 84 (dk_at dksX1_feature_1 4 rfl rfl)
theorem dX1_feature_29 : decode cX1_feature 29 = .ok (.iload_n 2, 1) := dk_28 (dk_at dksX1_feature_1 7 rfl rfl)
theorem dX1_feature_30 : decode cX1_feature 30 = .ok (.faload, 1) := dk_48 (dk_at dksX1_feature_1 8 rfl rfl)
theorem dX1_feature_31 : decode cX1_feature 31 = .ok (.freturn, 1) := dk_174 (dk_at dksX1_feature_1 9 rfl rfl)
def dkwX1_requireFeature_0 : List UInt8 := [26, 133, 9, 20, 1, 79, 184, 0, 140, 184, 0, 144, 177]
abbrev dktX1_requireFeature_0 : List UInt8 := dkwX1_requireFeature_0 ++ []
theorem dksX1_requireFeature_0 : cX1_requireFeature.data.toList.drop 0 = dktX1_requireFeature_0 := by decide +kernel
theorem dX1_requireFeature_0 : decode cX1_requireFeature 0 = .ok (.iload_n 0, 1) := dk_26 (dk_at dksX1_requireFeature_0 0 rfl rfl)
theorem dX1_requireFeature_1 : decode cX1_requireFeature 1 = .ok (.i2l, 1) := dk_133 (dk_at dksX1_requireFeature_0 1 rfl rfl)
theorem dX1_requireFeature_2 : decode cX1_requireFeature 2 = .ok (.lconst 0, 1) := dk_9 (dk_at dksX1_requireFeature_0 2 rfl rfl)
theorem dX1_requireFeature_3 : decode cX1_requireFeature 3 = .ok (.ldc2_w 335, 3) := dk_20 1 79 (dk_at dksX1_requireFeature_0 3 rfl rfl)
theorem dX1_requireFeature_6 : decode cX1_requireFeature 6 = .ok (.invokestatic 140, 3) := dk_184 0 140 (dk_at dksX1_requireFeature_0 6 rfl rfl)
theorem dX1_requireFeature_9 : decode cX1_requireFeature 9 = .ok (.invokestatic 144, 3) := dk_184 0 144 (dk_at dksX1_requireFeature_0 9 rfl rfl)
theorem dX1_requireFeature_12 : decode cX1_requireFeature 12 = .ok (.return_, 1) := dk_177 (dk_at dksX1_requireFeature_0 12 rfl rfl)
def dkwX1_matching_0 : List UInt8 := [42, 27, 182, 0, 255, 180, 1, 87, 172]
abbrev dktX1_matching_0 : List UInt8 := dkwX1_matching_0 ++ []
theorem dksX1_matching_0 : cX1_matching.data.toList.drop 0 = dktX1_matching_0 := by decide +kernel
theorem dX1_matching_0 : decode cX1_matching 0 = .ok (.aload_n 0, 1) := dk_42 (dk_at dksX1_matching_0 0 rfl rfl)
theorem dX1_matching_1 : decode cX1_matching 1 = .ok (.iload_n 1, 1) := dk_27 (dk_at dksX1_matching_0 1 rfl rfl)
theorem dX1_matching_2 : decode cX1_matching 2 = .ok (.invokevirtual 255, 3) := dk_182 0 255 (dk_at dksX1_matching_0 2 rfl rfl)
theorem dX1_matching_5 : decode cX1_matching 5 = .ok (.getfield 343, 3) := dk_180 1 87 (dk_at dksX1_matching_0 5 rfl rfl)
theorem dX1_matching_8 : decode cX1_matching 8 = .ok (.ireturn, 1) := dk_172 (dk_at dksX1_matching_0 8 rfl rfl)
def dkwX1_hiding_0 : List UInt8 := [42, 27, 182, 0, 255, 180, 1, 90, 172]
abbrev dktX1_hiding_0 : List UInt8 := dkwX1_hiding_0 ++ []
theorem dksX1_hiding_0 : cX1_hiding.data.toList.drop 0 = dktX1_hiding_0 := by decide +kernel
theorem dX1_hiding_0 : decode cX1_hiding 0 = .ok (.aload_n 0, 1) := dk_42 (dk_at dksX1_hiding_0 0 rfl rfl)
theorem dX1_hiding_1 : decode cX1_hiding 1 = .ok (.iload_n 1, 1) := dk_27 (dk_at dksX1_hiding_0 1 rfl rfl)
theorem dX1_hiding_2 : decode cX1_hiding 2 = .ok (.invokevirtual 255, 3) := dk_182 0 255 (dk_at dksX1_hiding_0 2 rfl rfl)
theorem dX1_hiding_5 : decode cX1_hiding 5 = .ok (.getfield 346, 3) := dk_180 1 90 (dk_at dksX1_hiding_0 5 rfl rfl)
theorem dX1_hiding_8 : decode cX1_hiding 8 = .ok (.ireturn, 1) := dk_172 (dk_at dksX1_hiding_0 8 rfl rfl)
def dkwX1_isSuspect_0 : List UInt8 := [42, 27, 182, 0, 255, 180, 1, 93, 172]
abbrev dktX1_isSuspect_0 : List UInt8 := dkwX1_isSuspect_0 ++ []
theorem dksX1_isSuspect_0 : cX1_isSuspect.data.toList.drop 0 = dktX1_isSuspect_0 := by decide +kernel
theorem dX1_isSuspect_0 : decode cX1_isSuspect 0 = .ok (.aload_n 0, 1) := dk_42 (dk_at dksX1_isSuspect_0 0 rfl rfl)
theorem dX1_isSuspect_1 : decode cX1_isSuspect 1 = .ok (.iload_n 1, 1) := dk_27 (dk_at dksX1_isSuspect_0 1 rfl rfl)
theorem dX1_isSuspect_2 : decode cX1_isSuspect 2 = .ok (.invokevirtual 255, 3) := dk_182 0 255 (dk_at dksX1_isSuspect_0 2 rfl rfl)
theorem dX1_isSuspect_5 : decode cX1_isSuspect 5 = .ok (.getfield 349, 3) := dk_180 1 93 (dk_at dksX1_isSuspect_0 5 rfl rfl)
theorem dX1_isSuspect_8 : decode cX1_isSuspect 8 = .ok (.ireturn, 1) := dk_172 (dk_at dksX1_isSuspect_0 8 rfl rfl)
def dkwX1_suspects_0 : List UInt8 := [42, 27, 182, 0, 255, 42, 180, 0, 103, 180, 0, 235, 182, 1, 97, 172]
abbrev dktX1_suspects_0 : List UInt8 := dkwX1_suspects_0 ++ []
theorem dksX1_suspects_0 : cX1_suspects.data.toList.drop 0 = dktX1_suspects_0 := by decide +kernel
theorem dX1_suspects_0 : decode cX1_suspects 0 = .ok (.aload_n 0, 1) := dk_42 (dk_at dksX1_suspects_0 0 rfl rfl)
theorem dX1_suspects_1 : decode cX1_suspects 1 = .ok (.iload_n 1, 1) := dk_27 (dk_at dksX1_suspects_0 1 rfl rfl)
theorem dX1_suspects_2 : decode cX1_suspects 2 = .ok (.invokevirtual 255, 3) := dk_182 0 255 (dk_at dksX1_suspects_0 2 rfl rfl)
theorem dX1_suspects_5 : decode cX1_suspects 5 = .ok (.aload_n 0, 1) := dk_42 (dk_at dksX1_suspects_0 5 rfl rfl)
theorem dX1_suspects_6 : decode cX1_suspects 6 = .ok (.getfield 103, 3) := dk_180 0 103 (dk_at dksX1_suspects_0 6 rfl rfl)
theorem dX1_suspects_9 : decode cX1_suspects 9 = .ok (.getfield 235, 3) := dk_180 0 235 (dk_at dksX1_suspects_0 9 rfl rfl)
theorem dX1_suspects_12 : decode cX1_suspects 12 = .ok (.invokevirtual 353, 3) := dk_182 1 97 (dk_at dksX1_suspects_0 12 rfl rfl)
theorem dX1_suspects_15 : decode cX1_suspects 15 = .ok (.ireturn, 1) := dk_172 (dk_at dksX1_suspects_0 15 rfl rfl)
def dkwX1_wasSuspect_1 : List UInt8 := [180, 0, 235, 162, 0, 15, 45, 28, 182, 1, 102, 153, 0, 7, 4, 167, 0, 4, 3, 172]
abbrev dktX1_wasSuspect_1 : List UInt8 := dkwX1_wasSuspect_1 ++ []
def dkwX1_wasSuspect_0 : List UInt8 := [42, 27, 182, 0, 255, 78, 28, 133, 9, 20, 1, 100, 184, 0, 140, 184, 0, 144, 28, 42, 180, 0, 103]
abbrev dktX1_wasSuspect_0 : List UInt8 := dkwX1_wasSuspect_0 ++ dktX1_wasSuspect_1
theorem dksX1_wasSuspect_0 : cX1_wasSuspect.data.toList.drop 0 = dktX1_wasSuspect_0 := by decide +kernel
theorem dksX1_wasSuspect_1 : cX1_wasSuspect.data.toList.drop 23 = dktX1_wasSuspect_1 := dk_seg dksX1_wasSuspect_0 23 rfl rfl
theorem dX1_wasSuspect_0 : decode cX1_wasSuspect 0 = .ok (.aload_n 0, 1) := dk_42 (dk_at dksX1_wasSuspect_0 0 rfl rfl)
theorem dX1_wasSuspect_1 : decode cX1_wasSuspect 1 = .ok (.iload_n 1, 1) := dk_27 (dk_at dksX1_wasSuspect_0 1 rfl rfl)
theorem dX1_wasSuspect_2 : decode cX1_wasSuspect 2 = .ok (.invokevirtual 255, 3) := dk_182 0 255 (dk_at dksX1_wasSuspect_0 2 rfl rfl)
theorem dX1_wasSuspect_5 : decode cX1_wasSuspect 5 = .ok (.astore_n 3, 1) := dk_78 (dk_at dksX1_wasSuspect_0 5 rfl rfl)
theorem dX1_wasSuspect_6 : decode cX1_wasSuspect 6 = .ok (.iload_n 2, 1) := dk_28 (dk_at dksX1_wasSuspect_0 6 rfl rfl)
theorem dX1_wasSuspect_7 : decode cX1_wasSuspect 7 = .ok (.i2l, 1) := dk_133 (dk_at dksX1_wasSuspect_0 7 rfl rfl)
theorem dX1_wasSuspect_8 : decode cX1_wasSuspect 8 = .ok (.lconst 0, 1) := dk_9 (dk_at dksX1_wasSuspect_0 8 rfl rfl)
theorem dX1_wasSuspect_9 : decode cX1_wasSuspect 9 = .ok (.ldc2_w 356, 3) := dk_20 1 100 (dk_at dksX1_wasSuspect_0 9 rfl rfl)
theorem dX1_wasSuspect_12 : decode cX1_wasSuspect 12 = .ok (.invokestatic 140, 3) := dk_184 0 140 (dk_at dksX1_wasSuspect_0 12 rfl rfl)
theorem dX1_wasSuspect_15 : decode cX1_wasSuspect 15 = .ok (.invokestatic 144, 3) := dk_184 0 144 (dk_at dksX1_wasSuspect_0 15 rfl rfl)
theorem dX1_wasSuspect_18 : decode cX1_wasSuspect 18 = .ok (.iload_n 2, 1) := dk_28 (dk_at dksX1_wasSuspect_0 18 rfl rfl)
theorem dX1_wasSuspect_19 : decode cX1_wasSuspect 19 = .ok (.aload_n 0, 1) := dk_42 (dk_at dksX1_wasSuspect_0 19 rfl rfl)
theorem dX1_wasSuspect_20 : decode cX1_wasSuspect 20 = .ok (.getfield 103, 3) := dk_180 0 103 (dk_at dksX1_wasSuspect_0 20 rfl rfl)
theorem dX1_wasSuspect_23 : decode cX1_wasSuspect 23 = .ok (.getfield 235, 3) := dk_180 0 235 (dk_at dksX1_wasSuspect_1 0 rfl rfl)
theorem dX1_wasSuspect_26 : decode cX1_wasSuspect 26 = .ok (.if_icmp .ge 15, 3) := dk_162 0 15 (dk_at dksX1_wasSuspect_1 3 rfl rfl)
theorem dX1_wasSuspect_29 : decode cX1_wasSuspect 29 = .ok (.aload_n 3, 1) := dk_45 (dk_at dksX1_wasSuspect_1 6 rfl rfl)
theorem dX1_wasSuspect_30 : decode cX1_wasSuspect 30 = .ok (.iload_n 2, 1) := dk_28 (dk_at dksX1_wasSuspect_1 7 rfl rfl)
theorem dX1_wasSuspect_31 : decode cX1_wasSuspect 31 = .ok (.invokevirtual 358, 3) := dk_182 1 102 (dk_at dksX1_wasSuspect_1 8 rfl rfl)
theorem dX1_wasSuspect_34 : decode cX1_wasSuspect 34 = .ok (.ifCond .eq 7, 3) := dk_153 0 7 (dk_at dksX1_wasSuspect_1 11 rfl rfl)
theorem dX1_wasSuspect_37 : decode cX1_wasSuspect 37 = .ok (.iconst 1, 1) := dk_4 (dk_at dksX1_wasSuspect_1 14 rfl rfl)
theorem dX1_wasSuspect_38 : decode cX1_wasSuspect 38 = .ok (.goto 4, 3) := dk_167 0 4 (dk_at dksX1_wasSuspect_1 15 rfl rfl)
theorem dX1_wasSuspect_41 : decode cX1_wasSuspect 41 = .ok (.iconst 0, 1) := dk_3 (dk_at dksX1_wasSuspect_1 18 rfl rfl)
theorem dX1_wasSuspect_42 : decode cX1_wasSuspect 42 = .ok (.ireturn, 1) := dk_172 (dk_at dksX1_wasSuspect_1 19 rfl rfl)
def dkwX1_margin_1 : List UInt8 := [180, 0, 103, 180, 0, 237, 182, 1, 106, 167, 0, 4, 2, 172]
abbrev dktX1_margin_1 : List UInt8 := dkwX1_margin_1 ++ []
def dkwX1_margin_0 : List UInt8 := [42, 27, 182, 0, 255, 77, 44, 180, 1, 55, 154, 0, 24, 44, 42, 180, 0, 103, 180, 0, 235, 42]
abbrev dktX1_margin_0 : List UInt8 := dkwX1_margin_0 ++ dktX1_margin_1
theorem dksX1_margin_0 : cX1_margin.data.toList.drop 0 = dktX1_margin_0 := by decide +kernel
theorem dksX1_margin_1 : cX1_margin.data.toList.drop 22 = dktX1_margin_1 := dk_seg dksX1_margin_0 22 rfl rfl
theorem dX1_margin_0 : decode cX1_margin 0 = .ok (.aload_n 0, 1) := dk_42 (dk_at dksX1_margin_0 0 rfl rfl)
theorem dX1_margin_1 : decode cX1_margin 1 = .ok (.iload_n 1, 1) := dk_27 (dk_at dksX1_margin_0 1 rfl rfl)
theorem dX1_margin_2 : decode cX1_margin 2 = .ok (.invokevirtual 255, 3) := dk_182 0 255 (dk_at dksX1_margin_0 2 rfl rfl)
theorem dX1_margin_5 : decode cX1_margin 5 = .ok (.astore_n 2, 1) := dk_77 (dk_at dksX1_margin_0 5 rfl rfl)
theorem dX1_margin_6 : decode cX1_margin 6 = .ok (.aload_n 2, 1) := dk_44 (dk_at dksX1_margin_0 6 rfl rfl)
theorem dX1_margin_7 : decode cX1_margin 7 = .ok (.getfield 311, 3) := dk_180 1 55 (dk_at dksX1_margin_0 7 rfl rfl)
theorem dX1_margin_10 : decode cX1_margin 10 = .ok (.ifCond .ne 24, 3) := dk_154 0 24 (dk_at dksX1_margin_0 10 rfl rfl)
theorem dX1_margin_13 : decode cX1_margin 13 = .ok (.aload_n 2, 1) := dk_44 (dk_at dksX1_margin_0 13 rfl rfl)
theorem dX1_margin_14 : decode cX1_margin 14 = .ok (.aload_n 0, 1) := dk_42 (dk_at dksX1_margin_0 14 rfl rfl)
theorem dX1_margin_15 : decode cX1_margin 15 = .ok (.getfield 103, 3) := dk_180 0 103 (dk_at dksX1_margin_0 15 rfl rfl)
theorem dX1_margin_18 : decode cX1_margin 18 = .ok (.getfield 235, 3) := dk_180 0 235 (dk_at dksX1_margin_0 18 rfl rfl)
theorem dX1_margin_21 : decode cX1_margin 21 = .ok (.aload_n 0, 1) := dk_42 (dk_at dksX1_margin_0 21 rfl rfl)
theorem dX1_margin_22 : decode cX1_margin 22 = .ok (.getfield 103, 3) := dk_180 0 103 (dk_at dksX1_margin_1 0 rfl rfl)
theorem dX1_margin_25 : decode cX1_margin 25 = .ok (.getfield 237, 3) := dk_180 0 237 (dk_at dksX1_margin_1 3 rfl rfl)
theorem dX1_margin_28 : decode cX1_margin 28 = .ok (.invokevirtual 362, 3) := dk_182 1 106 (dk_at dksX1_margin_1 6 rfl rfl)
theorem dX1_margin_31 : decode cX1_margin 31 = .ok (.goto 4, 3) := dk_167 0 4 (dk_at dksX1_margin_1 9 rfl rfl)
theorem dX1_margin_34 : decode cX1_margin 34 = .ok (.iconst (-1), 1) := dk_2 (dk_at dksX1_margin_1 12 rfl rfl)
theorem dX1_margin_35 : decode cX1_margin 35 = .ok (.ireturn, 1) := dk_172 (dk_at dksX1_margin_1 13 rfl rfl)
def dkwX1_hits_0 : List UInt8 := [42, 27, 182, 1, 110, 87, 42, 180, 0, 103, 180, 1, 114, 27, 46, 172]
abbrev dktX1_hits_0 : List UInt8 := dkwX1_hits_0 ++ []
theorem dksX1_hits_0 : cX1_hits.data.toList.drop 0 = dktX1_hits_0 := by decide +kernel
theorem dX1_hits_0 : decode cX1_hits 0 = .ok (.aload_n 0, 1) := dk_42 (dk_at dksX1_hits_0 0 rfl rfl)
theorem dX1_hits_1 : decode cX1_hits 1 = .ok (.iload_n 1, 1) := dk_27 (dk_at dksX1_hits_0 1 rfl rfl)
theorem dX1_hits_2 : decode cX1_hits 2 = .ok (.invokevirtual 366, 3) := dk_182 1 110 (dk_at dksX1_hits_0 2 rfl rfl)
theorem dX1_hits_5 : decode cX1_hits 5 = .ok (.pop, 1) := dk_87 (dk_at dksX1_hits_0 5 rfl rfl)
theorem dX1_hits_6 : decode cX1_hits 6 = .ok (.aload_n 0, 1) := dk_42 (dk_at dksX1_hits_0 6 rfl rfl)
theorem dX1_hits_7 : decode cX1_hits 7 = .ok (.getfield 103, 3) := dk_180 0 103 (dk_at dksX1_hits_0 7 rfl rfl)
theorem dX1_hits_10 : decode cX1_hits 10 = .ok (.getfield 370, 3) := dk_180 1 114 (dk_at dksX1_hits_0 10 rfl rfl)
theorem dX1_hits_13 : decode cX1_hits 13 = .ok (.iload_n 1, 1) := dk_27 (dk_at dksX1_hits_0 13 rfl rfl)
theorem dX1_hits_14 : decode cX1_hits 14 = .ok (.iaload, 1) := dk_46 (dk_at dksX1_hits_0 14 rfl rfl)
theorem dX1_hits_15 : decode cX1_hits 15 = .ok (.ireturn, 1) := dk_172 (dk_at dksX1_hits_0 15 rfl rfl)
def dkwX1_signatureAt_1 : List UInt8 := [180, 0, 212, 27, 182, 0, 245, 192, 0, 253, 176]
abbrev dktX1_signatureAt_1 : List UInt8 := dkwX1_signatureAt_1 ++ []
def dkwX1_signatureAt_0 : List UInt8 := [27, 133, 9, 42, 182, 0, 220, 4, 100, 133, 184, 0, 140, 184, 0, 242, 42, 180, 0, 103, 180, 0, 205]
abbrev dktX1_signatureAt_0 : List UInt8 := dkwX1_signatureAt_0 ++ dktX1_signatureAt_1
theorem dksX1_signatureAt_0 : cX1_signatureAt.data.toList.drop 0 = dktX1_signatureAt_0 := by decide +kernel
theorem dksX1_signatureAt_1 : cX1_signatureAt.data.toList.drop 23 = dktX1_signatureAt_1 := dk_seg dksX1_signatureAt_0 23 rfl rfl
theorem dX1_signatureAt_0 : decode cX1_signatureAt 0 = .ok (.iload_n 1, 1) := dk_27 (dk_at dksX1_signatureAt_0 0 rfl rfl)
theorem dX1_signatureAt_1 : decode cX1_signatureAt 1 = .ok (.i2l, 1) := dk_133 (dk_at dksX1_signatureAt_0 1 rfl rfl)
theorem dX1_signatureAt_2 : decode cX1_signatureAt 2 = .ok (.lconst 0, 1) := dk_9 (dk_at dksX1_signatureAt_0 2 rfl rfl)
theorem dX1_signatureAt_3 : decode cX1_signatureAt 3 = .ok (.aload_n 0, 1) := dk_42 (dk_at dksX1_signatureAt_0 3 rfl rfl)
theorem dX1_signatureAt_4 : decode cX1_signatureAt 4 = .ok (.invokevirtual 220, 3) := dk_182 0 220 (dk_at dksX1_signatureAt_0 4 rfl rfl)
theorem dX1_signatureAt_7 : decode cX1_signatureAt 7 = .ok (.iconst 1, 1) := dk_4 (dk_at dksX1_signatureAt_0 7 rfl rfl)
theorem dX1_signatureAt_8 : decode cX1_signatureAt 8 = .ok (.isub, 1) := dk_100 (dk_at dksX1_signatureAt_0 8 rfl rfl)
theorem dX1_signatureAt_9 : decode cX1_signatureAt 9 = .ok (.i2l, 1) := dk_133 (dk_at dksX1_signatureAt_0 9 rfl rfl)
theorem dX1_signatureAt_10 : decode cX1_signatureAt 10 = .ok (.invokestatic 140, 3) := dk_184 0 140 (dk_at dksX1_signatureAt_0 10 rfl rfl)
theorem dX1_signatureAt_13 : decode cX1_signatureAt 13 = .ok (.invokestatic 242, 3) := dk_184 0 242 (dk_at dksX1_signatureAt_0 13 rfl rfl)
theorem dX1_signatureAt_16 : decode cX1_signatureAt 16 = .ok (.aload_n 0, 1) := dk_42 (dk_at dksX1_signatureAt_0 16 rfl rfl)
theorem dX1_signatureAt_17 : decode cX1_signatureAt 17 = .ok (.getfield 103, 3) := dk_180 0 103 (dk_at dksX1_signatureAt_0 17 rfl rfl)
theorem dX1_signatureAt_20 : decode cX1_signatureAt 20 = .ok (.getfield 205, 3) := dk_180 0 205 (dk_at dksX1_signatureAt_0 20 rfl rfl)
theorem dX1_signatureAt_23 : decode cX1_signatureAt 23 = .ok (.getfield 212, 3) := dk_180 0 212 (dk_at dksX1_signatureAt_1 0 rfl rfl)
theorem dX1_signatureAt_26 : decode cX1_signatureAt 26 = .ok (.iload_n 1, 1) := dk_27 (dk_at dksX1_signatureAt_1 3 rfl rfl)
theorem dX1_signatureAt_27 : decode cX1_signatureAt 27 = .ok (.invokevirtual 245, 3) := dk_182 0 245 (dk_at dksX1_signatureAt_1 4 rfl rfl)
theorem dX1_signatureAt_30 : decode cX1_signatureAt 30 = .ok (.checkcast 253, 3) := dk_192 0 253 (dk_at dksX1_signatureAt_1 7 rfl rfl)
theorem dX1_signatureAt_33 : decode cX1_signatureAt 33 = .ok (.areturn, 1) := dk_176 (dk_at dksX1_signatureAt_1 10 rfl rfl)
def dkwX1_isAlways_0 : List UInt8 := [42, 27, 182, 1, 110, 180, 1, 117, 172]
abbrev dktX1_isAlways_0 : List UInt8 := dkwX1_isAlways_0 ++ []
theorem dksX1_isAlways_0 : cX1_isAlways.data.toList.drop 0 = dktX1_isAlways_0 := by decide +kernel
theorem dX1_isAlways_0 : decode cX1_isAlways 0 = .ok (.aload_n 0, 1) := dk_42 (dk_at dksX1_isAlways_0 0 rfl rfl)
theorem dX1_isAlways_1 : decode cX1_isAlways 1 = .ok (.iload_n 1, 1) := dk_27 (dk_at dksX1_isAlways_0 1 rfl rfl)
theorem dX1_isAlways_2 : decode cX1_isAlways 2 = .ok (.invokevirtual 366, 3) := dk_182 1 110 (dk_at dksX1_isAlways_0 2 rfl rfl)
theorem dX1_isAlways_5 : decode cX1_isAlways 5 = .ok (.getfield 373, 3) := dk_180 1 117 (dk_at dksX1_isAlways_0 5 rfl rfl)
theorem dX1_isAlways_8 : decode cX1_isAlways 8 = .ok (.ireturn, 1) := dk_172 (dk_at dksX1_isAlways_0 8 rfl rfl)
def dkwX1_nuisanceHits_0 : List UInt8 := [42, 27, 182, 1, 122, 180, 1, 126, 172]
abbrev dktX1_nuisanceHits_0 : List UInt8 := dkwX1_nuisanceHits_0 ++ []
theorem dksX1_nuisanceHits_0 : cX1_nuisanceHits.data.toList.drop 0 = dktX1_nuisanceHits_0 := by decide +kernel
theorem dX1_nuisanceHits_0 : decode cX1_nuisanceHits 0 = .ok (.aload_n 0, 1) := dk_42 (dk_at dksX1_nuisanceHits_0 0 rfl rfl)
theorem dX1_nuisanceHits_1 : decode cX1_nuisanceHits 1 = .ok (.iload_n 1, 1) := dk_27 (dk_at dksX1_nuisanceHits_0 1 rfl rfl)
theorem dX1_nuisanceHits_2 : decode cX1_nuisanceHits 2 = .ok (.invokevirtual 378, 3) := dk_182 1 122 (dk_at dksX1_nuisanceHits_0 2 rfl rfl)
theorem dX1_nuisanceHits_5 : decode cX1_nuisanceHits 5 = .ok (.getfield 382, 3) := dk_180 1 126 (dk_at dksX1_nuisanceHits_0 5 rfl rfl)
theorem dX1_nuisanceHits_8 : decode cX1_nuisanceHits 8 = .ok (.ireturn, 1) := dk_172 (dk_at dksX1_nuisanceHits_0 8 rfl rfl)
def dkwX1_nuisanceAt_1 : List UInt8 := [180, 0, 103, 180, 0, 223, 27, 182, 0, 245, 192, 1, 120, 176]
abbrev dktX1_nuisanceAt_1 : List UInt8 := dkwX1_nuisanceAt_1 ++ []
def dkwX1_nuisanceAt_0 : List UInt8 := [27, 133, 9, 42, 180, 0, 103, 180, 0, 223, 182, 0, 180, 4, 100, 133, 184, 0, 140, 184, 0, 242, 42]
abbrev dktX1_nuisanceAt_0 : List UInt8 := dkwX1_nuisanceAt_0 ++ dktX1_nuisanceAt_1
theorem dksX1_nuisanceAt_0 : cX1_nuisanceAt.data.toList.drop 0 = dktX1_nuisanceAt_0 := by decide +kernel
theorem dksX1_nuisanceAt_1 : cX1_nuisanceAt.data.toList.drop 23 = dktX1_nuisanceAt_1 := dk_seg dksX1_nuisanceAt_0 23 rfl rfl
theorem dX1_nuisanceAt_0 : decode cX1_nuisanceAt 0 = .ok (.iload_n 1, 1) := dk_27 (dk_at dksX1_nuisanceAt_0 0 rfl rfl)
theorem dX1_nuisanceAt_1 : decode cX1_nuisanceAt 1 = .ok (.i2l, 1) := dk_133 (dk_at dksX1_nuisanceAt_0 1 rfl rfl)
theorem dX1_nuisanceAt_2 : decode cX1_nuisanceAt 2 = .ok (.lconst 0, 1) := dk_9 (dk_at dksX1_nuisanceAt_0 2 rfl rfl)
theorem dX1_nuisanceAt_3 : decode cX1_nuisanceAt 3 = .ok (.aload_n 0, 1) := dk_42 (dk_at dksX1_nuisanceAt_0 3 rfl rfl)
theorem dX1_nuisanceAt_4 : decode cX1_nuisanceAt 4 = .ok (.getfield 103, 3) := dk_180 0 103 (dk_at dksX1_nuisanceAt_0 4 rfl rfl)
theorem dX1_nuisanceAt_7 : decode cX1_nuisanceAt 7 = .ok (.getfield 223, 3) := dk_180 0 223 (dk_at dksX1_nuisanceAt_0 7 rfl rfl)
theorem dX1_nuisanceAt_10 : decode cX1_nuisanceAt 10 = .ok (.invokevirtual 180, 3) := dk_182 0 180 (dk_at dksX1_nuisanceAt_0 10 rfl rfl)
theorem dX1_nuisanceAt_13 : decode cX1_nuisanceAt 13 = .ok (.iconst 1, 1) := dk_4 (dk_at dksX1_nuisanceAt_0 13 rfl rfl)
theorem dX1_nuisanceAt_14 : decode cX1_nuisanceAt 14 = .ok (.isub, 1) := dk_100 (dk_at dksX1_nuisanceAt_0 14 rfl rfl)
theorem dX1_nuisanceAt_15 : decode cX1_nuisanceAt 15 = .ok (.i2l, 1) := dk_133 (dk_at dksX1_nuisanceAt_0 15 rfl rfl)
theorem dX1_nuisanceAt_16 : decode cX1_nuisanceAt 16 = .ok (.invokestatic 140, 3) := dk_184 0 140 (dk_at dksX1_nuisanceAt_0 16 rfl rfl)
theorem dX1_nuisanceAt_19 : decode cX1_nuisanceAt 19 = .ok (.invokestatic 242, 3) := dk_184 0 242 (dk_at dksX1_nuisanceAt_0 19 rfl rfl)
theorem dX1_nuisanceAt_22 : decode cX1_nuisanceAt 22 = .ok (.aload_n 0, 1) := dk_42 (dk_at dksX1_nuisanceAt_0 22 rfl rfl)
theorem dX1_nuisanceAt_23 : decode cX1_nuisanceAt 23 = .ok (.getfield 103, 3) := dk_180 0 103 (dk_at dksX1_nuisanceAt_1 0 rfl rfl)
theorem dX1_nuisanceAt_26 : decode cX1_nuisanceAt 26 = .ok (.getfield 223, 3) := dk_180 0 223 (dk_at dksX1_nuisanceAt_1 3 rfl rfl)
theorem dX1_nuisanceAt_29 : decode cX1_nuisanceAt 29 = .ok (.iload_n 1, 1) := dk_27 (dk_at dksX1_nuisanceAt_1 6 rfl rfl)
theorem dX1_nuisanceAt_30 : decode cX1_nuisanceAt 30 = .ok (.invokevirtual 245, 3) := dk_182 0 245 (dk_at dksX1_nuisanceAt_1 7 rfl rfl)
theorem dX1_nuisanceAt_33 : decode cX1_nuisanceAt 33 = .ok (.checkcast 376, 3) := dk_192 1 120 (dk_at dksX1_nuisanceAt_1 10 rfl rfl)
theorem dX1_nuisanceAt_36 : decode cX1_nuisanceAt 36 = .ok (.areturn, 1) := dk_176 (dk_at dksX1_nuisanceAt_1 13 rfl rfl)
def dkwX1_wouldMatch_1 : List UInt8 := [23, 6, 81, 89, 8, 37, 37, 106, 81, 58, 7, 42, 27, 182, 1, 110, 25, 7, 182, 1, 128, 172]
abbrev dktX1_wouldMatch_1 : List UInt8 := dkwX1_wouldMatch_1 ++ []
def dkwX1_wouldMatch_0 : List UInt8 := [16, 6, 188, 6, 89, 3, 36, 81, 89, 4, 37, 81, 89, 5, 23, 4, 81, 89, 6, 23, 5, 81, 89, 7]
abbrev dktX1_wouldMatch_0 : List UInt8 := dkwX1_wouldMatch_0 ++ dktX1_wouldMatch_1
theorem dksX1_wouldMatch_0 : cX1_wouldMatch.data.toList.drop 0 = dktX1_wouldMatch_0 := by decide +kernel
theorem dksX1_wouldMatch_1 : cX1_wouldMatch.data.toList.drop 24 = dktX1_wouldMatch_1 := dk_seg dksX1_wouldMatch_0 24 rfl rfl
theorem dX1_wouldMatch_0 : decode cX1_wouldMatch 0 = .ok (.bipush 6, 2) := dk_16 6 (dk_at dksX1_wouldMatch_0 0 rfl rfl)
theorem dX1_wouldMatch_2 : decode cX1_wouldMatch 2 = .ok (.newarray .float, 2) := dk_188_6 (dk_at dksX1_wouldMatch_0 2 rfl rfl)
theorem dX1_wouldMatch_4 : decode cX1_wouldMatch 4 = .ok (.dup, 1) := dk_89 (dk_at dksX1_wouldMatch_0 4 rfl rfl)
theorem dX1_wouldMatch_5 : decode cX1_wouldMatch 5 = .ok (.iconst 0, 1) := dk_3 (dk_at dksX1_wouldMatch_0 5 rfl rfl)
theorem dX1_wouldMatch_6 : decode cX1_wouldMatch 6 = .ok (.fload_n 2, 1) := dk_36 (dk_at dksX1_wouldMatch_0 6 rfl rfl)
theorem dX1_wouldMatch_7 : decode cX1_wouldMatch 7 = .ok (.fastore, 1) := dk_81 (dk_at dksX1_wouldMatch_0 7 rfl rfl)
theorem dX1_wouldMatch_8 : decode cX1_wouldMatch 8 = .ok (.dup, 1) := dk_89 (dk_at dksX1_wouldMatch_0 8 rfl rfl)
theorem dX1_wouldMatch_9 : decode cX1_wouldMatch 9 = .ok (.iconst 1, 1) := dk_4 (dk_at dksX1_wouldMatch_0 9 rfl rfl)
theorem dX1_wouldMatch_10 : decode cX1_wouldMatch 10 = .ok (.fload_n 3, 1) := dk_37 (dk_at dksX1_wouldMatch_0 10 rfl rfl)
theorem dX1_wouldMatch_11 : decode cX1_wouldMatch 11 = .ok (.fastore, 1) := dk_81 (dk_at dksX1_wouldMatch_0 11 rfl rfl)
theorem dX1_wouldMatch_12 : decode cX1_wouldMatch 12 = .ok (.dup, 1) := dk_89 (dk_at dksX1_wouldMatch_0 12 rfl rfl)
theorem dX1_wouldMatch_13 : decode cX1_wouldMatch 13 = .ok (.iconst 2, 1) := dk_5 (dk_at dksX1_wouldMatch_0 13 rfl rfl)
theorem dX1_wouldMatch_14 : decode cX1_wouldMatch 14 = .ok (.fload 4, 2) := dk_23 4 (dk_at dksX1_wouldMatch_0 14 rfl rfl)
theorem dX1_wouldMatch_16 : decode cX1_wouldMatch 16 = .ok (.fastore, 1) := dk_81 (dk_at dksX1_wouldMatch_0 16 rfl rfl)
theorem dX1_wouldMatch_17 : decode cX1_wouldMatch 17 = .ok (.dup, 1) := dk_89 (dk_at dksX1_wouldMatch_0 17 rfl rfl)
theorem dX1_wouldMatch_18 : decode cX1_wouldMatch 18 = .ok (.iconst 3, 1) := dk_6 (dk_at dksX1_wouldMatch_0 18 rfl rfl)
theorem dX1_wouldMatch_19 : decode cX1_wouldMatch 19 = .ok (.fload 5, 2) := dk_23 5 (dk_at dksX1_wouldMatch_0 19 rfl rfl)
theorem dX1_wouldMatch_21 : decode cX1_wouldMatch 21 = .ok (.fastore, 1) := dk_81 (dk_at dksX1_wouldMatch_0 21 rfl rfl)
theorem dX1_wouldMatch_22 : decode cX1_wouldMatch 22 = .ok (.dup, 1) := dk_89 (dk_at dksX1_wouldMatch_0 22 rfl rfl)
theorem dX1_wouldMatch_23 : decode cX1_wouldMatch 23 = .ok (.iconst 4, 1) := dk_7 (dk_at dksX1_wouldMatch_0 23 rfl rfl)
theorem dX1_wouldMatch_24 : decode cX1_wouldMatch 24 = .ok (.fload 6, 2) := dk_23 6 (dk_at dksX1_wouldMatch_1 0 rfl rfl)
theorem dX1_wouldMatch_26 : decode cX1_wouldMatch 26 = .ok (.fastore, 1) := dk_81 (dk_at dksX1_wouldMatch_1 2 rfl rfl)
theorem dX1_wouldMatch_27 : decode cX1_wouldMatch 27 = .ok (.dup, 1) := dk_89 (dk_at dksX1_wouldMatch_1 3 rfl rfl)
theorem dX1_wouldMatch_28 : decode cX1_wouldMatch 28 = .ok (.iconst 5, 1) := dk_8 (dk_at dksX1_wouldMatch_1 4 rfl rfl)
theorem dX1_wouldMatch_29 : decode cX1_wouldMatch 29 = .ok (.fload_n 3, 1) := dk_37 (dk_at dksX1_wouldMatch_1 5 rfl rfl)
theorem dX1_wouldMatch_30 : decode cX1_wouldMatch 30 = .ok (.fload_n 3, 1) := dk_37 (dk_at dksX1_wouldMatch_1 6 rfl rfl)
theorem dX1_wouldMatch_31 : decode cX1_wouldMatch 31 = .ok (.fmul, 1) := dk_106 (dk_at dksX1_wouldMatch_1 7 rfl rfl)
theorem dX1_wouldMatch_32 : decode cX1_wouldMatch 32 = .ok (.fastore, 1) := dk_81 (dk_at dksX1_wouldMatch_1 8 rfl rfl)
theorem dX1_wouldMatch_33 : decode cX1_wouldMatch 33 = .ok (.astore 7, 2) := dk_58 7 (dk_at dksX1_wouldMatch_1 9 rfl rfl)
theorem dX1_wouldMatch_35 : decode cX1_wouldMatch 35 = .ok (.aload_n 0, 1) := dk_42 (dk_at dksX1_wouldMatch_1 11 rfl rfl)
theorem dX1_wouldMatch_36 : decode cX1_wouldMatch 36 = .ok (.iload_n 1, 1) := dk_27 (dk_at dksX1_wouldMatch_1 12 rfl rfl)
theorem dX1_wouldMatch_37 : decode cX1_wouldMatch 37 = .ok (.invokevirtual 366, 3) := dk_182 1 110 (dk_at dksX1_wouldMatch_1 13 rfl rfl)
theorem dX1_wouldMatch_40 : decode cX1_wouldMatch 40 = .ok (.aload 7, 2) := dk_25 7 (dk_at dksX1_wouldMatch_1 16 rfl rfl)
theorem dX1_wouldMatch_42 : decode cX1_wouldMatch 42 = .ok (.invokevirtual 384, 3) := dk_182 1 128 (dk_at dksX1_wouldMatch_1 18 rfl rfl)
theorem dX1_wouldMatch_45 : decode cX1_wouldMatch 45 = .ok (.ireturn, 1) := dk_172 (dk_at dksX1_wouldMatch_1 21 rfl rfl)
def dkwX1_learn_10 : List UInt8 := [4, 100, 172]
abbrev dktX1_learn_10 : List UInt8 := dkwX1_learn_10 ++ []
def dkwX1_learn_9 : List UInt8 := [187, 1, 120, 89, 25, 4, 3, 183, 1, 166, 182, 1, 163, 87, 42, 180, 0, 103, 180, 0, 223, 182, 0, 180]
abbrev dktX1_learn_9 : List UInt8 := dkwX1_learn_9 ++ dktX1_learn_10
def dkwX1_learn_8 : List UInt8 := [180, 1, 84, 6, 48, 139, 5, 96, 183, 1, 160, 182, 1, 163, 87, 42, 182, 1, 27, 180, 0, 223]
abbrev dktX1_learn_8 : List UInt8 := dkwX1_learn_8 ++ dktX1_learn_9
def dkwX1_learn_7 : List UInt8 := [139, 4, 96, 183, 1, 160, 182, 1, 163, 87, 25, 4, 180, 1, 155, 187, 1, 158, 89, 6, 4, 44]
abbrev dktX1_learn_7 : List UInt8 := dkwX1_learn_7 ++ dktX1_learn_8
def dkwX1_learn_6 : List UInt8 := [183, 1, 160, 182, 1, 163, 87, 25, 4, 180, 1, 155, 187, 1, 158, 89, 5, 4, 44, 180, 1, 84, 5, 48]
abbrev dktX1_learn_6 : List UInt8 := dkwX1_learn_6 ++ dktX1_learn_7
def dkwX1_learn_5 : List UInt8 := [182, 1, 163, 87, 25, 4, 180, 1, 155, 187, 1, 158, 89, 5, 3, 44, 180, 1, 84, 5, 48, 139, 4, 100]
abbrev dktX1_learn_5 : List UInt8 := dkwX1_learn_5 ++ dktX1_learn_6
def dkwX1_learn_4 : List UInt8 := [25, 4, 180, 1, 155, 187, 1, 158, 89, 3, 4, 44, 180, 1, 84, 3, 48, 139, 5, 96, 183, 1, 160]
abbrev dktX1_learn_4 : List UInt8 := dkwX1_learn_4 ++ dktX1_learn_5
def dkwX1_learn_3 : List UInt8 := [167, 0, 4, 3, 184, 1, 72, 42, 3, 181, 0, 129, 187, 0, 253, 89, 45, 3, 183, 1, 152, 58, 4]
abbrev dktX1_learn_3 : List UInt8 := dkwX1_learn_3 ++ dktX1_learn_4
def dkwX1_learn_2 : List UInt8 := [182, 0, 180, 16, 8, 162, 0, 7, 4, 167, 0, 4, 3, 184, 0, 132, 44, 180, 1, 69, 158, 0, 7, 4]
abbrev dktX1_learn_2 : List UInt8 := dkwX1_learn_2 ++ dktX1_learn_3
def dkwX1_learn_1 : List UInt8 := [182, 0, 202, 2, 160, 0, 7, 4, 167, 0, 4, 3, 184, 0, 144, 42, 180, 0, 103, 180, 0, 223]
abbrev dktX1_learn_1 : List UInt8 := dkwX1_learn_1 ++ dktX1_learn_2
def dkwX1_learn_0 : List UInt8 := [42, 27, 182, 0, 255, 77, 42, 182, 0, 199, 78, 45, 184, 1, 149, 153, 0, 19, 42, 180, 0, 103, 45]
abbrev dktX1_learn_0 : List UInt8 := dkwX1_learn_0 ++ dktX1_learn_1
theorem dksX1_learn_0 : cX1_learn.data.toList.drop 0 = dktX1_learn_0 := by decide +kernel
theorem dksX1_learn_1 : cX1_learn.data.toList.drop 23 = dktX1_learn_1 := dk_seg dksX1_learn_0 23 rfl rfl
theorem dksX1_learn_2 : cX1_learn.data.toList.drop 45 = dktX1_learn_2 := dk_seg dksX1_learn_1 22 rfl rfl
theorem dksX1_learn_3 : cX1_learn.data.toList.drop 69 = dktX1_learn_3 := dk_seg dksX1_learn_2 24 rfl rfl
theorem dksX1_learn_4 : cX1_learn.data.toList.drop 92 = dktX1_learn_4 := dk_seg dksX1_learn_3 23 rfl rfl
theorem dksX1_learn_5 : cX1_learn.data.toList.drop 115 = dktX1_learn_5 := dk_seg dksX1_learn_4 23 rfl rfl
theorem dksX1_learn_6 : cX1_learn.data.toList.drop 139 = dktX1_learn_6 := dk_seg dksX1_learn_5 24 rfl rfl
theorem dksX1_learn_7 : cX1_learn.data.toList.drop 163 = dktX1_learn_7 := dk_seg dksX1_learn_6 24 rfl rfl
theorem dksX1_learn_8 : cX1_learn.data.toList.drop 185 = dktX1_learn_8 := dk_seg dksX1_learn_7 22 rfl rfl
theorem dksX1_learn_9 : cX1_learn.data.toList.drop 207 = dktX1_learn_9 := dk_seg dksX1_learn_8 22 rfl rfl
theorem dksX1_learn_10 : cX1_learn.data.toList.drop 231 = dktX1_learn_10 := dk_seg dksX1_learn_9 24 rfl rfl
theorem dX1_learn_0 : decode cX1_learn 0 = .ok (.aload_n 0, 1) := dk_42 (dk_at dksX1_learn_0 0 rfl rfl)
theorem dX1_learn_1 : decode cX1_learn 1 = .ok (.iload_n 1, 1) := dk_27 (dk_at dksX1_learn_0 1 rfl rfl)
theorem dX1_learn_2 : decode cX1_learn 2 = .ok (.invokevirtual 255, 3) := dk_182 0 255 (dk_at dksX1_learn_0 2 rfl rfl)
theorem dX1_learn_5 : decode cX1_learn 5 = .ok (.astore_n 2, 1) := dk_77 (dk_at dksX1_learn_0 5 rfl rfl)
theorem dX1_learn_6 : decode cX1_learn 6 = .ok (.aload_n 0, 1) := dk_42 (dk_at dksX1_learn_0 6 rfl rfl)
theorem dX1_learn_7 : decode cX1_learn 7 = .ok (.invokevirtual 199, 3) := dk_182 0 199 (dk_at dksX1_learn_0 7 rfl rfl)
theorem dX1_learn_10 : decode cX1_learn 10 = .ok (.astore_n 3, 1) := dk_78 (dk_at dksX1_learn_0 10 rfl rfl)
theorem dX1_learn_11 : decode cX1_learn 11 = .ok (.aload_n 3, 1) := dk_45 (dk_at dksX1_learn_0 11 rfl rfl)
theorem dX1_learn_12 : decode cX1_learn 12 = .ok (.invokestatic 405, 3) := dk_184 1 149 (dk_at dksX1_learn_0 12 rfl rfl)
theorem dX1_learn_15 : decode cX1_learn 15 = .ok (.ifCond .eq 19, 3) := dk_153 0 19 (dk_at dksX1_learn_0 15 rfl rfl)
theorem dX1_learn_18 : decode cX1_learn 18 = .ok (.aload_n 0, 1) := dk_42 (dk_at dksX1_learn_0 18 rfl rfl)
theorem dX1_learn_19 : decode cX1_learn 19 = .ok (.getfield 103, 3) := dk_180 0 103 (dk_at dksX1_learn_0 19 rfl rfl)
theorem dX1_learn_22 : decode cX1_learn 22 = .ok (.aload_n 3, 1) := dk_45 (dk_at dksX1_learn_0 22 rfl rfl)
theorem dX1_learn_23 : decode cX1_learn 23 = .ok (.invokevirtual 202, 3) := dk_182 0 202 (dk_at dksX1_learn_1 0 rfl rfl)
theorem dX1_learn_26 : decode cX1_learn 26 = .ok (.iconst (-1), 1) := dk_2 (dk_at dksX1_learn_1 3 rfl rfl)
theorem dX1_learn_27 : decode cX1_learn 27 = .ok (.if_icmp .ne 7, 3) := dk_160 0 7 (dk_at dksX1_learn_1 4 rfl rfl)
theorem dX1_learn_30 : decode cX1_learn 30 = .ok (.iconst 1, 1) := dk_4 (dk_at dksX1_learn_1 7 rfl rfl)
theorem dX1_learn_31 : decode cX1_learn 31 = .ok (.goto 4, 3) := dk_167 0 4 (dk_at dksX1_learn_1 8 rfl rfl)
theorem dX1_learn_34 : decode cX1_learn 34 = .ok (.iconst 0, 1) := dk_3 (dk_at dksX1_learn_1 11 rfl rfl)
theorem dX1_learn_35 : decode cX1_learn 35 = .ok (.invokestatic 144, 3) := dk_184 0 144 (dk_at dksX1_learn_1 12 rfl rfl)
theorem dX1_learn_38 : decode cX1_learn 38 = .ok (.aload_n 0, 1) := dk_42 (dk_at dksX1_learn_1 15 rfl rfl)
theorem dX1_learn_39 : decode cX1_learn 39 = .ok (.getfield 103, 3) := dk_180 0 103 (dk_at dksX1_learn_1 16 rfl rfl)
theorem dX1_learn_42 : decode cX1_learn 42 = .ok (.getfield 223, 3) := dk_180 0 223 (dk_at dksX1_learn_1 19 rfl rfl)
theorem dX1_learn_45 : decode cX1_learn 45 = .ok (.invokevirtual 180, 3) := dk_182 0 180 (dk_at dksX1_learn_2 0 rfl rfl)
theorem dX1_learn_48 : decode cX1_learn 48 = .ok (.bipush 8, 2) := dk_16 8 (dk_at dksX1_learn_2 3 rfl rfl)
theorem dX1_learn_50 : decode cX1_learn 50 = .ok (.if_icmp .ge 7, 3) := dk_162 0 7 (dk_at dksX1_learn_2 5 rfl rfl)
theorem dX1_learn_53 : decode cX1_learn 53 = .ok (.iconst 1, 1) := dk_4 (dk_at dksX1_learn_2 8 rfl rfl)
theorem dX1_learn_54 : decode cX1_learn 54 = .ok (.goto 4, 3) := dk_167 0 4 (dk_at dksX1_learn_2 9 rfl rfl)
theorem dX1_learn_57 : decode cX1_learn 57 = .ok (.iconst 0, 1) := dk_3 (dk_at dksX1_learn_2 12 rfl rfl)
theorem dX1_learn_58 : decode cX1_learn 58 = .ok (.invokestatic 132, 3) := dk_184 0 132 (dk_at dksX1_learn_2 13 rfl rfl)
theorem dX1_learn_61 : decode cX1_learn 61 = .ok (.aload_n 2, 1) := dk_44 (dk_at dksX1_learn_2 16 rfl rfl)
theorem dX1_learn_62 : decode cX1_learn 62 = .ok (.getfield 325, 3) := dk_180 1 69 (dk_at dksX1_learn_2 17 rfl rfl)
theorem dX1_learn_65 : decode cX1_learn 65 = .ok (.ifCond .le 7, 3) := dk_158 0 7 (dk_at dksX1_learn_2 20 rfl rfl)
theorem dX1_learn_68 : decode cX1_learn 68 = .ok (.iconst 1, 1) := dk_4 (dk_at dksX1_learn_2 23 rfl rfl)
theorem dX1_learn_69 : decode cX1_learn 69 = .ok (.goto 4, 3) := dk_167 0 4 (dk_at dksX1_learn_3 0 rfl rfl)
theorem dX1_learn_72 : decode cX1_learn 72 = .ok (.iconst 0, 1) := dk_3 (dk_at dksX1_learn_3 3 rfl rfl)
theorem dX1_learn_73 : decode cX1_learn 73 = .ok (.invokestatic 328, 3) := dk_184 1 72 (dk_at dksX1_learn_3 4 rfl rfl)
theorem dX1_learn_76 : decode cX1_learn 76 = .ok (.aload_n 0, 1) := dk_42 (dk_at dksX1_learn_3 7 rfl rfl)
theorem dX1_learn_77 : decode cX1_learn 77 = .ok (.iconst 0, 1) := dk_3 (dk_at dksX1_learn_3 8 rfl rfl)
theorem dX1_learn_78 : decode cX1_learn 78 = .ok (.putfield 129, 3) := dk_181 0 129 (dk_at dksX1_learn_3 9 rfl rfl)
theorem dX1_learn_81 : decode cX1_learn 81 = .ok (.new 253, 3) := dk_187 0 253 (dk_at dksX1_learn_3 12 rfl rfl)
theorem dX1_learn_84 : decode cX1_learn 84 = .ok (.dup, 1) := dk_89 (dk_at dksX1_learn_3 15 rfl rfl)
theorem dX1_learn_85 : decode cX1_learn 85 = .ok (.aload_n 3, 1) := dk_45 (dk_at dksX1_learn_3 16 rfl rfl)
theorem dX1_learn_86 : decode cX1_learn 86 = .ok (.iconst 0, 1) := dk_3 (dk_at dksX1_learn_3 17 rfl rfl)
theorem dX1_learn_87 : decode cX1_learn 87 = .ok (.invokespecial 408, 3) := dk_183 1 152 (dk_at dksX1_learn_3 18 rfl rfl)
theorem dX1_learn_90 : decode cX1_learn 90 = .ok (.astore 4, 2) := dk_58 4 (dk_at dksX1_learn_3 21 rfl rfl)
theorem dX1_learn_92 : decode cX1_learn 92 = .ok (.aload 4, 2) := dk_25 4 (dk_at dksX1_learn_4 0 rfl rfl)
theorem dX1_learn_94 : decode cX1_learn 94 = .ok (.getfield 411, 3) := dk_180 1 155 (dk_at dksX1_learn_4 2 rfl rfl)
theorem dX1_learn_97 : decode cX1_learn 97 = .ok (.new 414, 3) := dk_187 1 158 (dk_at dksX1_learn_4 5 rfl rfl)
theorem dX1_learn_100 : decode cX1_learn 100 = .ok (.dup, 1) := dk_89 (dk_at dksX1_learn_4 8 rfl rfl)
theorem dX1_learn_101 : decode cX1_learn 101 = .ok (.iconst 0, 1) := dk_3 (dk_at dksX1_learn_4 9 rfl rfl)
theorem dX1_learn_102 : decode cX1_learn 102 = .ok (.iconst 1, 1) := dk_4 (dk_at dksX1_learn_4 10 rfl rfl)
theorem dX1_learn_103 : decode cX1_learn 103 = .ok (.aload_n 2, 1) := dk_44 (dk_at dksX1_learn_4 11 rfl rfl)
theorem dX1_learn_104 : decode cX1_learn 104 = .ok (.getfield 340, 3) := dk_180 1 84 (dk_at dksX1_learn_4 12 rfl rfl)
theorem dX1_learn_107 : decode cX1_learn 107 = .ok (.iconst 0, 1) := dk_3 (dk_at dksX1_learn_4 15 rfl rfl)
theorem dX1_learn_108 : decode cX1_learn 108 = .ok (.faload, 1) := dk_48 (dk_at dksX1_learn_4 16 rfl rfl)
theorem dX1_learn_109 : decode cX1_learn 109 = .ok (.f2i, 1) := dk_139 (dk_at dksX1_learn_4 17 rfl rfl)
theorem dX1_learn_110 : decode cX1_learn 110 = .ok (.iconst 2, 1) := dk_5 (dk_at dksX1_learn_4 18 rfl rfl)
theorem dX1_learn_111 : decode cX1_learn 111 = .ok (.iadd, 1) := dk_96 (dk_at dksX1_learn_4 19 rfl rfl)
theorem dX1_learn_112 : decode cX1_learn 112 = .ok (.invokespecial 416, 3) := dk_183 1 160 (dk_at dksX1_learn_4 20 rfl rfl)
theorem dX1_learn_115 : decode cX1_learn 115 = .ok (.invokevirtual 419, 3) := dk_182 1 163 (dk_at dksX1_learn_5 0 rfl rfl)
theorem dX1_learn_118 : decode cX1_learn 118 = .ok (.pop, 1) := dk_87 (dk_at dksX1_learn_5 3 rfl rfl)
theorem dX1_learn_119 : decode cX1_learn 119 = .ok (.aload 4, 2) := dk_25 4 (dk_at dksX1_learn_5 4 rfl rfl)
theorem dX1_learn_121 : decode cX1_learn 121 = .ok (.getfield 411, 3) := dk_180 1 155 (dk_at dksX1_learn_5 6 rfl rfl)
theorem dX1_learn_124 : decode cX1_learn 124 = .ok (.new 414, 3) := dk_187 1 158 (dk_at dksX1_learn_5 9 rfl rfl)
theorem dX1_learn_127 : decode cX1_learn 127 = .ok (.dup, 1) := dk_89 (dk_at dksX1_learn_5 12 rfl rfl)
theorem dX1_learn_128 : decode cX1_learn 128 = .ok (.iconst 2, 1) := dk_5 (dk_at dksX1_learn_5 13 rfl rfl)
theorem dX1_learn_129 : decode cX1_learn 129 = .ok (.iconst 0, 1) := dk_3 (dk_at dksX1_learn_5 14 rfl rfl)
theorem dX1_learn_130 : decode cX1_learn 130 = .ok (.aload_n 2, 1) := dk_44 (dk_at dksX1_learn_5 15 rfl rfl)
theorem dX1_learn_131 : decode cX1_learn 131 = .ok (.getfield 340, 3) := dk_180 1 84 (dk_at dksX1_learn_5 16 rfl rfl)
theorem dX1_learn_134 : decode cX1_learn 134 = .ok (.iconst 2, 1) := dk_5 (dk_at dksX1_learn_5 19 rfl rfl)
theorem dX1_learn_135 : decode cX1_learn 135 = .ok (.faload, 1) := dk_48 (dk_at dksX1_learn_5 20 rfl rfl)
theorem dX1_learn_136 : decode cX1_learn 136 = .ok (.f2i, 1) := dk_139 (dk_at dksX1_learn_5 21 rfl rfl)
theorem dX1_learn_137 : decode cX1_learn 137 = .ok (.iconst 1, 1) := dk_4 (dk_at dksX1_learn_5 22 rfl rfl)
theorem dX1_learn_138 : decode cX1_learn 138 = .ok (.isub, 1) := dk_100 (dk_at dksX1_learn_5 23 rfl rfl)
theorem dX1_learn_139 : decode cX1_learn 139 = .ok (.invokespecial 416, 3) := dk_183 1 160 (dk_at dksX1_learn_6 0 rfl rfl)
theorem dX1_learn_142 : decode cX1_learn 142 = .ok (.invokevirtual 419, 3) := dk_182 1 163 (dk_at dksX1_learn_6 3 rfl rfl)
theorem dX1_learn_145 : decode cX1_learn 145 = .ok (.pop, 1) := dk_87 (dk_at dksX1_learn_6 6 rfl rfl)
theorem dX1_learn_146 : decode cX1_learn 146 = .ok (.aload 4, 2) := dk_25 4 (dk_at dksX1_learn_6 7 rfl rfl)
theorem dX1_learn_148 : decode cX1_learn 148 = .ok (.getfield 411, 3) := dk_180 1 155 (dk_at dksX1_learn_6 9 rfl rfl)
theorem dX1_learn_151 : decode cX1_learn 151 = .ok (.new 414, 3) := dk_187 1 158 (dk_at dksX1_learn_6 12 rfl rfl)
theorem dX1_learn_154 : decode cX1_learn 154 = .ok (.dup, 1) := dk_89 (dk_at dksX1_learn_6 15 rfl rfl)
theorem dX1_learn_155 : decode cX1_learn 155 = .ok (.iconst 2, 1) := dk_5 (dk_at dksX1_learn_6 16 rfl rfl)
theorem dX1_learn_156 : decode cX1_learn 156 = .ok (.iconst 1, 1) := dk_4 (dk_at dksX1_learn_6 17 rfl rfl)
theorem dX1_learn_157 : decode cX1_learn 157 = .ok (.aload_n 2, 1) := dk_44 (dk_at dksX1_learn_6 18 rfl rfl)
theorem dX1_learn_158 : decode cX1_learn 158 = .ok (.getfield 340, 3) := dk_180 1 84 (dk_at dksX1_learn_6 19 rfl rfl)
theorem dX1_learn_161 : decode cX1_learn 161 = .ok (.iconst 2, 1) := dk_5 (dk_at dksX1_learn_6 22 rfl rfl)
theorem dX1_learn_162 : decode cX1_learn 162 = .ok (.faload, 1) := dk_48 (dk_at dksX1_learn_6 23 rfl rfl)
theorem dX1_learn_163 : decode cX1_learn 163 = .ok (.f2i, 1) := dk_139 (dk_at dksX1_learn_7 0 rfl rfl)
theorem dX1_learn_164 : decode cX1_learn 164 = .ok (.iconst 1, 1) := dk_4 (dk_at dksX1_learn_7 1 rfl rfl)
theorem dX1_learn_165 : decode cX1_learn 165 = .ok (.iadd, 1) := dk_96 (dk_at dksX1_learn_7 2 rfl rfl)
theorem dX1_learn_166 : decode cX1_learn 166 = .ok (.invokespecial 416, 3) := dk_183 1 160 (dk_at dksX1_learn_7 3 rfl rfl)
theorem dX1_learn_169 : decode cX1_learn 169 = .ok (.invokevirtual 419, 3) := dk_182 1 163 (dk_at dksX1_learn_7 6 rfl rfl)
theorem dX1_learn_172 : decode cX1_learn 172 = .ok (.pop, 1) := dk_87 (dk_at dksX1_learn_7 9 rfl rfl)
theorem dX1_learn_173 : decode cX1_learn 173 = .ok (.aload 4, 2) := dk_25 4 (dk_at dksX1_learn_7 10 rfl rfl)
theorem dX1_learn_175 : decode cX1_learn 175 = .ok (.getfield 411, 3) := dk_180 1 155 (dk_at dksX1_learn_7 12 rfl rfl)
theorem dX1_learn_178 : decode cX1_learn 178 = .ok (.new 414, 3) := dk_187 1 158 (dk_at dksX1_learn_7 15 rfl rfl)
theorem dX1_learn_181 : decode cX1_learn 181 = .ok (.dup, 1) := dk_89 (dk_at dksX1_learn_7 18 rfl rfl)
theorem dX1_learn_182 : decode cX1_learn 182 = .ok (.iconst 3, 1) := dk_6 (dk_at dksX1_learn_7 19 rfl rfl)
theorem dX1_learn_183 : decode cX1_learn 183 = .ok (.iconst 1, 1) := dk_4 (dk_at dksX1_learn_7 20 rfl rfl)
theorem dX1_learn_184 : decode cX1_learn 184 = .ok (.aload_n 2, 1) := dk_44 (dk_at dksX1_learn_7 21 rfl rfl)
theorem dX1_learn_185 : decode cX1_learn 185 = .ok (.getfield 340, 3) := dk_180 1 84 (dk_at dksX1_learn_8 0 rfl rfl)
theorem dX1_learn_188 : decode cX1_learn 188 = .ok (.iconst 3, 1) := dk_6 (dk_at dksX1_learn_8 3 rfl rfl)
theorem dX1_learn_189 : decode cX1_learn 189 = .ok (.faload, 1) := dk_48 (dk_at dksX1_learn_8 4 rfl rfl)
theorem dX1_learn_190 : decode cX1_learn 190 = .ok (.f2i, 1) := dk_139 (dk_at dksX1_learn_8 5 rfl rfl)
theorem dX1_learn_191 : decode cX1_learn 191 = .ok (.iconst 2, 1) := dk_5 (dk_at dksX1_learn_8 6 rfl rfl)
theorem dX1_learn_192 : decode cX1_learn 192 = .ok (.iadd, 1) := dk_96 (dk_at dksX1_learn_8 7 rfl rfl)
theorem dX1_learn_193 : decode cX1_learn 193 = .ok (.invokespecial 416, 3) := dk_183 1 160 (dk_at dksX1_learn_8 8 rfl rfl)
theorem dX1_learn_196 : decode cX1_learn 196 = .ok (.invokevirtual 419, 3) := dk_182 1 163 (dk_at dksX1_learn_8 11 rfl rfl)
theorem dX1_learn_199 : decode cX1_learn 199 = .ok (.pop, 1) := dk_87 (dk_at dksX1_learn_8 14 rfl rfl)
theorem dX1_learn_200 : decode cX1_learn 200 = .ok (.aload_n 0, 1) := dk_42 (dk_at dksX1_learn_8 15 rfl rfl)
theorem dX1_learn_201 : decode cX1_learn 201 = .ok (.invokevirtual 283, 3) := dk_182 1 27 (dk_at dksX1_learn_8 16 rfl rfl)
theorem dX1_learn_204 : decode cX1_learn 204 = .ok (.getfield 223, 3) := dk_180 0 223 (dk_at dksX1_learn_8 19 rfl rfl)
theorem dX1_learn_207 : decode cX1_learn 207 = .ok (.new 376, 3) := dk_187 1 120 (dk_at dksX1_learn_9 0 rfl rfl)
theorem dX1_learn_210 : decode cX1_learn 210 = .ok (.dup, 1) := dk_89 (dk_at dksX1_learn_9 3 rfl rfl)
theorem dX1_learn_211 : decode cX1_learn 211 = .ok (.aload 4, 2) := dk_25 4 (dk_at dksX1_learn_9 4 rfl rfl)
theorem dX1_learn_213 : decode cX1_learn 213 = .ok (.iconst 0, 1) := dk_3 (dk_at dksX1_learn_9 6 rfl rfl)
theorem dX1_learn_214 : decode cX1_learn 214 = .ok (.invokespecial 422, 3) := dk_183 1 166 (dk_at dksX1_learn_9 7 rfl rfl)
theorem dX1_learn_217 : decode cX1_learn 217 = .ok (.invokevirtual 419, 3) := dk_182 1 163 (dk_at dksX1_learn_9 10 rfl rfl)
theorem dX1_learn_220 : decode cX1_learn 220 = .ok (.pop, 1) := dk_87 (dk_at dksX1_learn_9 13 rfl rfl)
theorem dX1_learn_221 : decode cX1_learn 221 = .ok (.aload_n 0, 1) := dk_42 (dk_at dksX1_learn_9 14 rfl rfl)
theorem dX1_learn_222 : decode cX1_learn 222 = .ok (.getfield 103, 3) := dk_180 0 103 (dk_at dksX1_learn_9 15 rfl rfl)
theorem dX1_learn_225 : decode cX1_learn 225 = .ok (.getfield 223, 3) := dk_180 0 223 (dk_at dksX1_learn_9 18 rfl rfl)
theorem dX1_learn_228 : decode cX1_learn 228 = .ok (.invokevirtual 180, 3) := dk_182 0 180 (dk_at dksX1_learn_9 21 rfl rfl)
theorem dX1_learn_231 : decode cX1_learn 231 = .ok (.iconst 1, 1) := dk_4 (dk_at dksX1_learn_10 0 rfl rfl)
theorem dX1_learn_232 : decode cX1_learn 232 = .ok (.isub, 1) := dk_100 (dk_at dksX1_learn_10 1 rfl rfl)
theorem dX1_learn_233 : decode cX1_learn 233 = .ok (.ireturn, 1) := dk_172 (dk_at dksX1_learn_10 2 rfl rfl)
def dkwX1_isName_2 : List UInt8 := [20, 1, 145, 20, 1, 147, 184, 0, 140, 126, 60, 132, 2, 1, 167, 255, 227, 27, 172]
abbrev dktX1_isName_2 : List UInt8 := dkwX1_isName_2 ++ []
def dkwX1_isName_1 : List UInt8 := [167, 0, 4, 3, 60, 3, 61, 28, 42, 182, 1, 132, 162, 0, 27, 27, 42, 28, 182, 1, 141, 133]
abbrev dktX1_isName_1 : List UInt8 := dkwX1_isName_1 ++ dktX1_isName_2
def dkwX1_isName_0 : List UInt8 := [42, 182, 1, 132, 133, 10, 20, 1, 135, 184, 0, 140, 153, 0, 14, 42, 184, 1, 137, 154, 0, 7, 4]
abbrev dktX1_isName_0 : List UInt8 := dkwX1_isName_0 ++ dktX1_isName_1
theorem dksX1_isName_0 : cX1_isName.data.toList.drop 0 = dktX1_isName_0 := by decide +kernel
theorem dksX1_isName_1 : cX1_isName.data.toList.drop 23 = dktX1_isName_1 := dk_seg dksX1_isName_0 23 rfl rfl
theorem dksX1_isName_2 : cX1_isName.data.toList.drop 45 = dktX1_isName_2 := dk_seg dksX1_isName_1 22 rfl rfl
theorem dX1_isName_0 : decode cX1_isName 0 = .ok (.aload_n 0, 1) := dk_42 (dk_at dksX1_isName_0 0 rfl rfl)
theorem dX1_isName_1 : decode cX1_isName 1 = .ok (.invokevirtual 388, 3) := dk_182 1 132 (dk_at dksX1_isName_0 1 rfl rfl)
theorem dX1_isName_4 : decode cX1_isName 4 = .ok (.i2l, 1) := dk_133 (dk_at dksX1_isName_0 4 rfl rfl)
theorem dX1_isName_5 : decode cX1_isName 5 = .ok (.lconst 1, 1) := dk_10 (dk_at dksX1_isName_0 5 rfl rfl)
theorem dX1_isName_6 : decode cX1_isName 6 = .ok (.ldc2_w 391, 3) := dk_20 1 135 (dk_at dksX1_isName_0 6 rfl rfl)
theorem dX1_isName_9 : decode cX1_isName 9 = .ok (.invokestatic 140, 3) := dk_184 0 140 (dk_at dksX1_isName_0 9 rfl rfl)
theorem dX1_isName_12 : decode cX1_isName 12 = .ok (.ifCond .eq 14, 3) := dk_153 0 14 (dk_at dksX1_isName_0 12 rfl rfl)
theorem dX1_isName_15 : decode cX1_isName 15 = .ok (.aload_n 0, 1) := dk_42 (dk_at dksX1_isName_0 15 rfl rfl)
theorem dX1_isName_16 : decode cX1_isName 16 = .ok (.invokestatic 393, 3) := dk_184 1 137 (dk_at dksX1_isName_0 16 rfl rfl)
theorem dX1_isName_19 : decode cX1_isName 19 = .ok (.ifCond .ne 7, 3) := dk_154 0 7 (dk_at dksX1_isName_0 19 rfl rfl)
theorem dX1_isName_22 : decode cX1_isName 22 = .ok (.iconst 1, 1) := dk_4 (dk_at dksX1_isName_0 22 rfl rfl)
theorem dX1_isName_23 : decode cX1_isName 23 = .ok (.goto 4, 3) := dk_167 0 4 (dk_at dksX1_isName_1 0 rfl rfl)
theorem dX1_isName_26 : decode cX1_isName 26 = .ok (.iconst 0, 1) := dk_3 (dk_at dksX1_isName_1 3 rfl rfl)
theorem dX1_isName_27 : decode cX1_isName 27 = .ok (.istore_n 1, 1) := dk_60 (dk_at dksX1_isName_1 4 rfl rfl)
theorem dX1_isName_28 : decode cX1_isName 28 = .ok (.iconst 0, 1) := dk_3 (dk_at dksX1_isName_1 5 rfl rfl)
theorem dX1_isName_29 : decode cX1_isName 29 = .ok (.istore_n 2, 1) := dk_61 (dk_at dksX1_isName_1 6 rfl rfl)
theorem dX1_isName_30 : decode cX1_isName 30 = .ok (.iload_n 2, 1) := dk_28 (dk_at dksX1_isName_1 7 rfl rfl)
theorem dX1_isName_31 : decode cX1_isName 31 = .ok (.aload_n 0, 1) := dk_42 (dk_at dksX1_isName_1 8 rfl rfl)
theorem dX1_isName_32 : decode cX1_isName 32 = .ok (.invokevirtual 388, 3) := dk_182 1 132 (dk_at dksX1_isName_1 9 rfl rfl)
theorem dX1_isName_35 : decode cX1_isName 35 = .ok (.if_icmp .ge 27, 3) := dk_162 0 27 (dk_at dksX1_isName_1 12 rfl rfl)
theorem dX1_isName_38 : decode cX1_isName 38 = .ok (.iload_n 1, 1) := dk_27 (dk_at dksX1_isName_1 15 rfl rfl)
theorem dX1_isName_39 : decode cX1_isName 39 = .ok (.aload_n 0, 1) := dk_42 (dk_at dksX1_isName_1 16 rfl rfl)
theorem dX1_isName_40 : decode cX1_isName 40 = .ok (.iload_n 2, 1) := dk_28 (dk_at dksX1_isName_1 17 rfl rfl)
theorem dX1_isName_41 : decode cX1_isName 41 = .ok (.invokevirtual 397, 3) := dk_182 1 141 (dk_at dksX1_isName_1 18 rfl rfl)
theorem dX1_isName_44 : decode cX1_isName 44 = .ok (.i2l, 1) := dk_133 (dk_at dksX1_isName_1 21 rfl rfl)
theorem dX1_isName_45 : decode cX1_isName 45 = .ok (.ldc2_w 401, 3) := dk_20 1 145 (dk_at dksX1_isName_2 0 rfl rfl)
theorem dX1_isName_48 : decode cX1_isName 48 = .ok (.ldc2_w 403, 3) := dk_20 1 147 (dk_at dksX1_isName_2 3 rfl rfl)
theorem dX1_isName_51 : decode cX1_isName 51 = .ok (.invokestatic 140, 3) := dk_184 0 140 (dk_at dksX1_isName_2 6 rfl rfl)
theorem dX1_isName_54 : decode cX1_isName 54 = .ok (.iand, 1) := dk_126 (dk_at dksX1_isName_2 9 rfl rfl)
theorem dX1_isName_55 : decode cX1_isName 55 = .ok (.istore_n 1, 1) := dk_60 (dk_at dksX1_isName_2 10 rfl rfl)
theorem dX1_isName_56 : decode cX1_isName 56 = .ok (.iinc 2 1, 3) := dk_132 2 1 (dk_at dksX1_isName_2 11 rfl rfl)
theorem dX1_isName_59 : decode cX1_isName 59 = .ok (.goto (-29), 3) := dk_167 255 227 (dk_at dksX1_isName_2 14 rfl rfl)
theorem dX1_isName_62 : decode cX1_isName 62 = .ok (.iload_n 1, 1) := dk_27 (dk_at dksX1_isName_2 17 rfl rfl)
theorem dX1_isName_63 : decode cX1_isName 63 = .ok (.ireturn, 1) := dk_172 (dk_at dksX1_isName_2 18 rfl rfl)
def dkwX1_forget_3 : List UInt8 := [126, 25, 5, 180, 1, 90, 4, 122, 29, 2, 130, 126, 128, 181, 1, 90, 132, 4, 1, 167, 255, 197, 28, 172]
abbrev dktX1_forget_3 : List UInt8 := dkwX1_forget_3 ++ []
def dkwX1_forget_2 : List UInt8 := [180, 0, 103, 180, 0, 176, 21, 4, 182, 0, 245, 192, 0, 249, 58, 5, 25, 5, 25, 5, 180, 1, 90, 29]
abbrev dktX1_forget_2 : List UInt8 := dkwX1_forget_2 ++ dktX1_forget_3
def dkwX1_forget_1 : List UInt8 := [4, 100, 62, 3, 54, 4, 21, 4, 42, 180, 0, 103, 180, 0, 176, 182, 0, 180, 162, 0, 50, 42]
abbrev dktX1_forget_1 : List UInt8 := dkwX1_forget_1 ++ dktX1_forget_2
def dkwX1_forget_0 : List UInt8 := [42, 27, 182, 1, 122, 180, 1, 126, 61, 42, 182, 1, 27, 180, 0, 223, 27, 182, 1, 169, 87, 4, 27, 120]
abbrev dktX1_forget_0 : List UInt8 := dkwX1_forget_0 ++ dktX1_forget_1
theorem dksX1_forget_0 : cX1_forget.data.toList.drop 0 = dktX1_forget_0 := by decide +kernel
theorem dksX1_forget_1 : cX1_forget.data.toList.drop 24 = dktX1_forget_1 := dk_seg dksX1_forget_0 24 rfl rfl
theorem dksX1_forget_2 : cX1_forget.data.toList.drop 46 = dktX1_forget_2 := dk_seg dksX1_forget_1 22 rfl rfl
theorem dksX1_forget_3 : cX1_forget.data.toList.drop 70 = dktX1_forget_3 := dk_seg dksX1_forget_2 24 rfl rfl
theorem dX1_forget_0 : decode cX1_forget 0 = .ok (.aload_n 0, 1) := dk_42 (dk_at dksX1_forget_0 0 rfl rfl)
theorem dX1_forget_1 : decode cX1_forget 1 = .ok (.iload_n 1, 1) := dk_27 (dk_at dksX1_forget_0 1 rfl rfl)
theorem dX1_forget_2 : decode cX1_forget 2 = .ok (.invokevirtual 378, 3) := dk_182 1 122 (dk_at dksX1_forget_0 2 rfl rfl)
theorem dX1_forget_5 : decode cX1_forget 5 = .ok (.getfield 382, 3) := dk_180 1 126 (dk_at dksX1_forget_0 5 rfl rfl)
theorem dX1_forget_8 : decode cX1_forget 8 = .ok (.istore_n 2, 1) := dk_61 (dk_at dksX1_forget_0 8 rfl rfl)
theorem dX1_forget_9 : decode cX1_forget 9 = .ok (.aload_n 0, 1) := dk_42 (dk_at dksX1_forget_0 9 rfl rfl)
theorem dX1_forget_10 : decode cX1_forget 10 = .ok (.invokevirtual 283, 3) := dk_182 1 27 (dk_at dksX1_forget_0 10 rfl rfl)
theorem dX1_forget_13 : decode cX1_forget 13 = .ok (.getfield 223, 3) := dk_180 0 223 (dk_at dksX1_forget_0 13 rfl rfl)
theorem dX1_forget_16 : decode cX1_forget 16 = .ok (.iload_n 1, 1) := dk_27 (dk_at dksX1_forget_0 16 rfl rfl)
theorem dX1_forget_17 : decode cX1_forget 17 = .ok (.invokevirtual 425, 3) := dk_182 1 169 (dk_at dksX1_forget_0 17 rfl rfl)
theorem dX1_forget_20 : decode cX1_forget 20 = .ok (.pop, 1) := dk_87 (dk_at dksX1_forget_0 20 rfl rfl)
theorem dX1_forget_21 : decode cX1_forget 21 = .ok (.iconst 1, 1) := dk_4 (dk_at dksX1_forget_0 21 rfl rfl)
theorem dX1_forget_22 : decode cX1_forget 22 = .ok (.iload_n 1, 1) := dk_27 (dk_at dksX1_forget_0 22 rfl rfl)
theorem dX1_forget_23 : decode cX1_forget 23 = .ok (.ishl, 1) := dk_120 (dk_at dksX1_forget_0 23 rfl rfl)
theorem dX1_forget_24 : decode cX1_forget 24 = .ok (.iconst 1, 1) := dk_4 (dk_at dksX1_forget_1 0 rfl rfl)
theorem dX1_forget_25 : decode cX1_forget 25 = .ok (.isub, 1) := dk_100 (dk_at dksX1_forget_1 1 rfl rfl)
theorem dX1_forget_26 : decode cX1_forget 26 = .ok (.istore_n 3, 1) := dk_62 (dk_at dksX1_forget_1 2 rfl rfl)
theorem dX1_forget_27 : decode cX1_forget 27 = .ok (.iconst 0, 1) := dk_3 (dk_at dksX1_forget_1 3 rfl rfl)
theorem dX1_forget_28 : decode cX1_forget 28 = .ok (.istore 4, 2) := dk_54 4 (dk_at dksX1_forget_1 4 rfl rfl)
theorem dX1_forget_30 : decode cX1_forget 30 = .ok (.iload 4, 2) := dk_21 4 (dk_at dksX1_forget_1 6 rfl rfl)
theorem dX1_forget_32 : decode cX1_forget 32 = .ok (.aload_n 0, 1) := dk_42 (dk_at dksX1_forget_1 8 rfl rfl)
theorem dX1_forget_33 : decode cX1_forget 33 = .ok (.getfield 103, 3) := dk_180 0 103 (dk_at dksX1_forget_1 9 rfl rfl)
theorem dX1_forget_36 : decode cX1_forget 36 = .ok (.getfield 176, 3) := dk_180 0 176 (dk_at dksX1_forget_1 12 rfl rfl)
theorem dX1_forget_39 : decode cX1_forget 39 = .ok (.invokevirtual 180, 3) := dk_182 0 180 (dk_at dksX1_forget_1 15 rfl rfl)
theorem dX1_forget_42 : decode cX1_forget 42 = .ok (.if_icmp .ge 50, 3) := dk_162 0 50 (dk_at dksX1_forget_1 18 rfl rfl)
theorem dX1_forget_45 : decode cX1_forget 45 = .ok (.aload_n 0, 1) := dk_42 (dk_at dksX1_forget_1 21 rfl rfl)
theorem dX1_forget_46 : decode cX1_forget 46 = .ok (.getfield 103, 3) := dk_180 0 103 (dk_at dksX1_forget_2 0 rfl rfl)
theorem dX1_forget_49 : decode cX1_forget 49 = .ok (.getfield 176, 3) := dk_180 0 176 (dk_at dksX1_forget_2 3 rfl rfl)
theorem dX1_forget_52 : decode cX1_forget 52 = .ok (.iload 4, 2) := dk_21 4 (dk_at dksX1_forget_2 6 rfl rfl)
theorem dX1_forget_54 : decode cX1_forget 54 = .ok (.invokevirtual 245, 3) := dk_182 0 245 (dk_at dksX1_forget_2 8 rfl rfl)
theorem dX1_forget_57 : decode cX1_forget 57 = .ok (.checkcast 249, 3) := dk_192 0 249 (dk_at dksX1_forget_2 11 rfl rfl)
theorem dX1_forget_60 : decode cX1_forget 60 = .ok (.astore 5, 2) := dk_58 5 (dk_at dksX1_forget_2 14 rfl rfl)
theorem dX1_forget_62 : decode cX1_forget 62 = .ok (.aload 5, 2) := dk_25 5 (dk_at dksX1_forget_2 16 rfl rfl)
theorem dX1_forget_64 : decode cX1_forget 64 = .ok (.aload 5, 2) := dk_25 5 (dk_at dksX1_forget_2 18 rfl rfl)
theorem dX1_forget_66 : decode cX1_forget 66 = .ok (.getfield 346, 3) := dk_180 1 90 (dk_at dksX1_forget_2 20 rfl rfl)
theorem dX1_forget_69 : decode cX1_forget 69 = .ok (.iload_n 3, 1) := dk_29 (dk_at dksX1_forget_2 23 rfl rfl)
theorem dX1_forget_70 : decode cX1_forget 70 = .ok (.iand, 1) := dk_126 (dk_at dksX1_forget_3 0 rfl rfl)
theorem dX1_forget_71 : decode cX1_forget 71 = .ok (.aload 5, 2) := dk_25 5 (dk_at dksX1_forget_3 1 rfl rfl)
theorem dX1_forget_73 : decode cX1_forget 73 = .ok (.getfield 346, 3) := dk_180 1 90 (dk_at dksX1_forget_3 3 rfl rfl)
theorem dX1_forget_76 : decode cX1_forget 76 = .ok (.iconst 1, 1) := dk_4 (dk_at dksX1_forget_3 6 rfl rfl)
theorem dX1_forget_77 : decode cX1_forget 77 = .ok (.ishr, 1) := dk_122 (dk_at dksX1_forget_3 7 rfl rfl)
theorem dX1_forget_78 : decode cX1_forget 78 = .ok (.iload_n 3, 1) := dk_29 (dk_at dksX1_forget_3 8 rfl rfl)
theorem dX1_forget_79 : decode cX1_forget 79 = .ok (.iconst (-1), 1) := dk_2 (dk_at dksX1_forget_3 9 rfl rfl)
theorem dX1_forget_80 : decode cX1_forget 80 = .ok (.ixor, 1) := dk_130 (dk_at dksX1_forget_3 10 rfl rfl)
theorem dX1_forget_81 : decode cX1_forget 81 = .ok (.iand, 1) := dk_126 (dk_at dksX1_forget_3 11 rfl rfl)
theorem dX1_forget_82 : decode cX1_forget 82 = .ok (.ior, 1) := dk_128 (dk_at dksX1_forget_3 12 rfl rfl)
theorem dX1_forget_83 : decode cX1_forget 83 = .ok (.putfield 346, 3) := dk_181 1 90 (dk_at dksX1_forget_3 13 rfl rfl)
theorem dX1_forget_86 : decode cX1_forget 86 = .ok (.iinc 4 1, 3) := dk_132 4 1 (dk_at dksX1_forget_3 16 rfl rfl)
theorem dX1_forget_89 : decode cX1_forget 89 = .ok (.goto (-59), 3) := dk_167 255 197 (dk_at dksX1_forget_3 19 rfl rfl)
theorem dX1_forget_92 : decode cX1_forget 92 = .ok (.iload_n 2, 1) := dk_28 (dk_at dksX1_forget_3 22 rfl rfl)
theorem dX1_forget_93 : decode cX1_forget 93 = .ok (.ireturn, 1) := dk_172 (dk_at dksX1_forget_3 23 rfl rfl)
def dkwX1_setLimits_2 : List UInt8 := [180, 0, 103, 28, 181, 0, 237, 29, 172]
abbrev dktX1_setLimits_2 : List UInt8 := dkwX1_setLimits_2 ++ []
def dkwX1_setLimits_1 : List UInt8 := [167, 0, 4, 3, 184, 0, 144, 42, 182, 1, 27, 180, 0, 237, 62, 42, 180, 0, 103, 27, 181, 0, 235, 42]
abbrev dktX1_setLimits_1 : List UInt8 := dkwX1_setLimits_1 ++ dktX1_setLimits_2
def dkwX1_setLimits_0 : List UInt8 := [27, 133, 10, 20, 1, 172, 184, 0, 140, 153, 0, 18, 28, 133, 10, 27, 133, 184, 0, 140, 153, 0, 7, 4]
abbrev dktX1_setLimits_0 : List UInt8 := dkwX1_setLimits_0 ++ dktX1_setLimits_1
theorem dksX1_setLimits_0 : cX1_setLimits.data.toList.drop 0 = dktX1_setLimits_0 := by decide +kernel
theorem dksX1_setLimits_1 : cX1_setLimits.data.toList.drop 24 = dktX1_setLimits_1 := dk_seg dksX1_setLimits_0 24 rfl rfl
theorem dksX1_setLimits_2 : cX1_setLimits.data.toList.drop 48 = dktX1_setLimits_2 := dk_seg dksX1_setLimits_1 24 rfl rfl
theorem dX1_setLimits_0 : decode cX1_setLimits 0 = .ok (.iload_n 1, 1) := dk_27 (dk_at dksX1_setLimits_0 0 rfl rfl)
theorem dX1_setLimits_1 : decode cX1_setLimits 1 = .ok (.i2l, 1) := dk_133 (dk_at dksX1_setLimits_0 1 rfl rfl)
theorem dX1_setLimits_2 : decode cX1_setLimits 2 = .ok (.lconst 1, 1) := dk_10 (dk_at dksX1_setLimits_0 2 rfl rfl)
theorem dX1_setLimits_3 : decode cX1_setLimits 3 = .ok (.ldc2_w 428, 3) := dk_20 1 172 (dk_at dksX1_setLimits_0 3 rfl rfl)
theorem dX1_setLimits_6 : decode cX1_setLimits 6 = .ok (.invokestatic 140, 3) := dk_184 0 140 (dk_at dksX1_setLimits_0 6 rfl rfl)
theorem dX1_setLimits_9 : decode cX1_setLimits 9 = .ok (.ifCond .eq 18, 3) := dk_153 0 18 (dk_at dksX1_setLimits_0 9 rfl rfl)
theorem dX1_setLimits_12 : decode cX1_setLimits 12 = .ok (.iload_n 2, 1) := dk_28 (dk_at dksX1_setLimits_0 12 rfl rfl)
theorem dX1_setLimits_13 : decode cX1_setLimits 13 = .ok (.i2l, 1) := dk_133 (dk_at dksX1_setLimits_0 13 rfl rfl)
theorem dX1_setLimits_14 : decode cX1_setLimits 14 = .ok (.lconst 1, 1) := dk_10 (dk_at dksX1_setLimits_0 14 rfl rfl)
theorem dX1_setLimits_15 : decode cX1_setLimits 15 = .ok (.iload_n 1, 1) := dk_27 (dk_at dksX1_setLimits_0 15 rfl rfl)
theorem dX1_setLimits_16 : decode cX1_setLimits 16 = .ok (.i2l, 1) := dk_133 (dk_at dksX1_setLimits_0 16 rfl rfl)
theorem dX1_setLimits_17 : decode cX1_setLimits 17 = .ok (.invokestatic 140, 3) := dk_184 0 140 (dk_at dksX1_setLimits_0 17 rfl rfl)
theorem dX1_setLimits_20 : decode cX1_setLimits 20 = .ok (.ifCond .eq 7, 3) := dk_153 0 7 (dk_at dksX1_setLimits_0 20 rfl rfl)
theorem dX1_setLimits_23 : decode cX1_setLimits 23 = .ok (.iconst 1, 1) := dk_4 (dk_at dksX1_setLimits_0 23 rfl rfl)
theorem dX1_setLimits_24 : decode cX1_setLimits 24 = .ok (.goto 4, 3) := dk_167 0 4 (dk_at dksX1_setLimits_1 0 rfl rfl)
theorem dX1_setLimits_27 : decode cX1_setLimits 27 = .ok (.iconst 0, 1) := dk_3 (dk_at dksX1_setLimits_1 3 rfl rfl)
theorem dX1_setLimits_28 : decode cX1_setLimits 28 = .ok (.invokestatic 144, 3) := dk_184 0 144 (dk_at dksX1_setLimits_1 4 rfl rfl)
theorem dX1_setLimits_31 : decode cX1_setLimits 31 = .ok (.aload_n 0, 1) := dk_42 (dk_at dksX1_setLimits_1 7 rfl rfl)
theorem dX1_setLimits_32 : decode cX1_setLimits 32 = .ok (.invokevirtual 283, 3) := dk_182 1 27 (dk_at dksX1_setLimits_1 8 rfl rfl)
theorem dX1_setLimits_35 : decode cX1_setLimits 35 = .ok (.getfield 237, 3) := dk_180 0 237 (dk_at dksX1_setLimits_1 11 rfl rfl)
theorem dX1_setLimits_38 : decode cX1_setLimits 38 = .ok (.istore_n 3, 1) := dk_62 (dk_at dksX1_setLimits_1 14 rfl rfl)
theorem dX1_setLimits_39 : decode cX1_setLimits 39 = .ok (.aload_n 0, 1) := dk_42 (dk_at dksX1_setLimits_1 15 rfl rfl)
theorem dX1_setLimits_40 : decode cX1_setLimits 40 = .ok (.getfield 103, 3) := dk_180 0 103 (dk_at dksX1_setLimits_1 16 rfl rfl)
theorem dX1_setLimits_43 : decode cX1_setLimits 43 = .ok (.iload_n 1, 1) := dk_27 (dk_at dksX1_setLimits_1 19 rfl rfl)
theorem dX1_setLimits_44 : decode cX1_setLimits 44 = .ok (.putfield 235, 3) := dk_181 0 235 (dk_at dksX1_setLimits_1 20 rfl rfl)
theorem dX1_setLimits_47 : decode cX1_setLimits 47 = .ok (.aload_n 0, 1) := dk_42 (dk_at dksX1_setLimits_1 23 rfl rfl)
theorem dX1_setLimits_48 : decode cX1_setLimits 48 = .ok (.getfield 103, 3) := dk_180 0 103 (dk_at dksX1_setLimits_2 0 rfl rfl)
theorem dX1_setLimits_51 : decode cX1_setLimits 51 = .ok (.iload_n 2, 1) := dk_28 (dk_at dksX1_setLimits_2 3 rfl rfl)
theorem dX1_setLimits_52 : decode cX1_setLimits 52 = .ok (.putfield 237, 3) := dk_181 0 237 (dk_at dksX1_setLimits_2 4 rfl rfl)
theorem dX1_setLimits_55 : decode cX1_setLimits 55 = .ok (.iload_n 3, 1) := dk_29 (dk_at dksX1_setLimits_2 7 rfl rfl)
theorem dX1_setLimits_56 : decode cX1_setLimits 56 = .ok (.ireturn, 1) := dk_172 (dk_at dksX1_setLimits_2 8 rfl rfl)
def dkwX1_reset_1 : List UInt8 := [180, 0, 176, 27, 182, 0, 245, 192, 0, 249, 77, 44, 3, 181, 1, 55, 44, 180, 1, 174, 172]
abbrev dktX1_reset_1 : List UInt8 := dkwX1_reset_1 ++ []
def dkwX1_reset_0 : List UInt8 := [42, 27, 182, 0, 255, 180, 1, 55, 4, 160, 0, 7, 4, 167, 0, 4, 3, 184, 0, 132, 42, 182, 1, 27]
abbrev dktX1_reset_0 : List UInt8 := dkwX1_reset_0 ++ dktX1_reset_1
theorem dksX1_reset_0 : cX1_reset.data.toList.drop 0 = dktX1_reset_0 := by decide +kernel
theorem dksX1_reset_1 : cX1_reset.data.toList.drop 24 = dktX1_reset_1 := dk_seg dksX1_reset_0 24 rfl rfl
theorem dX1_reset_0 : decode cX1_reset 0 = .ok (.aload_n 0, 1) := dk_42 (dk_at dksX1_reset_0 0 rfl rfl)
theorem dX1_reset_1 : decode cX1_reset 1 = .ok (.iload_n 1, 1) := dk_27 (dk_at dksX1_reset_0 1 rfl rfl)
theorem dX1_reset_2 : decode cX1_reset 2 = .ok (.invokevirtual 255, 3) := dk_182 0 255 (dk_at dksX1_reset_0 2 rfl rfl)
theorem dX1_reset_5 : decode cX1_reset 5 = .ok (.getfield 311, 3) := dk_180 1 55 (dk_at dksX1_reset_0 5 rfl rfl)
theorem dX1_reset_8 : decode cX1_reset 8 = .ok (.iconst 1, 1) := dk_4 (dk_at dksX1_reset_0 8 rfl rfl)
theorem dX1_reset_9 : decode cX1_reset 9 = .ok (.if_icmp .ne 7, 3) := dk_160 0 7 (dk_at dksX1_reset_0 9 rfl rfl)
theorem dX1_reset_12 : decode cX1_reset 12 = .ok (.iconst 1, 1) := dk_4 (dk_at dksX1_reset_0 12 rfl rfl)
theorem dX1_reset_13 : decode cX1_reset 13 = .ok (.goto 4, 3) := dk_167 0 4 (dk_at dksX1_reset_0 13 rfl rfl)
theorem dX1_reset_16 : decode cX1_reset 16 = .ok (.iconst 0, 1) := dk_3 (dk_at dksX1_reset_0 16 rfl rfl)
theorem dX1_reset_17 : decode cX1_reset 17 = .ok (.invokestatic 132, 3) := dk_184 0 132 (dk_at dksX1_reset_0 17 rfl rfl)
theorem dX1_reset_20 : decode cX1_reset 20 = .ok (.aload_n 0, 1) := dk_42 (dk_at dksX1_reset_0 20 rfl rfl)
theorem dX1_reset_21 : decode cX1_reset 21 = .ok (.invokevirtual 283, 3) := dk_182 1 27 (dk_at dksX1_reset_0 21 rfl rfl)
theorem dX1_reset_24 : decode cX1_reset 24 = .ok (.getfield 176, 3) := dk_180 0 176 (dk_at dksX1_reset_1 0 rfl rfl)
theorem dX1_reset_27 : decode cX1_reset 27 = .ok (.iload_n 1, 1) := dk_27 (dk_at dksX1_reset_1 3 rfl rfl)
theorem dX1_reset_28 : decode cX1_reset 28 = .ok (.invokevirtual 245, 3) := dk_182 0 245 (dk_at dksX1_reset_1 4 rfl rfl)
theorem dX1_reset_31 : decode cX1_reset 31 = .ok (.checkcast 249, 3) := dk_192 0 249 (dk_at dksX1_reset_1 7 rfl rfl)
theorem dX1_reset_34 : decode cX1_reset 34 = .ok (.astore_n 2, 1) := dk_77 (dk_at dksX1_reset_1 10 rfl rfl)
theorem dX1_reset_35 : decode cX1_reset 35 = .ok (.aload_n 2, 1) := dk_44 (dk_at dksX1_reset_1 11 rfl rfl)
theorem dX1_reset_36 : decode cX1_reset 36 = .ok (.iconst 0, 1) := dk_3 (dk_at dksX1_reset_1 12 rfl rfl)
theorem dX1_reset_37 : decode cX1_reset 37 = .ok (.putfield 311, 3) := dk_181 1 55 (dk_at dksX1_reset_1 13 rfl rfl)
theorem dX1_reset_40 : decode cX1_reset 40 = .ok (.aload_n 2, 1) := dk_44 (dk_at dksX1_reset_1 16 rfl rfl)
theorem dX1_reset_41 : decode cX1_reset 41 = .ok (.getfield 430, 3) := dk_180 1 174 (dk_at dksX1_reset_1 17 rfl rfl)
theorem dX1_reset_44 : decode cX1_reset 44 = .ok (.ireturn, 1) := dk_172 (dk_at dksX1_reset_1 20 rfl rfl)
def dkwX1_service_2 : List UInt8 := [181, 1, 55, 28, 172]
abbrev dktX1_service_2 : List UInt8 := dkwX1_service_2 ++ []
def dkwX1_service_1 : List UInt8 := [45, 3, 181, 1, 174, 45, 45, 180, 1, 55, 5, 160, 0, 7, 4, 167, 0, 7, 45, 180, 1, 55]
abbrev dktX1_service_1 : List UInt8 := dkwX1_service_1 ++ dktX1_service_2
def dkwX1_service_0 : List UInt8 := [42, 27, 182, 0, 255, 180, 1, 174, 61, 42, 182, 1, 27, 180, 0, 176, 27, 182, 0, 245, 192, 0, 249, 78]
abbrev dktX1_service_0 : List UInt8 := dkwX1_service_0 ++ dktX1_service_1
theorem dksX1_service_0 : cX1_service.data.toList.drop 0 = dktX1_service_0 := by decide +kernel
theorem dksX1_service_1 : cX1_service.data.toList.drop 24 = dktX1_service_1 := dk_seg dksX1_service_0 24 rfl rfl
theorem dksX1_service_2 : cX1_service.data.toList.drop 46 = dktX1_service_2 := dk_seg dksX1_service_1 22 rfl rfl
theorem dX1_service_0 : decode cX1_service 0 = .ok (.aload_n 0, 1) := dk_42 (dk_at dksX1_service_0 0 rfl rfl)
theorem dX1_service_1 : decode cX1_service 1 = .ok (.iload_n 1, 1) := dk_27 (dk_at dksX1_service_0 1 rfl rfl)
theorem dX1_service_2 : decode cX1_service 2 = .ok (.invokevirtual 255, 3) := dk_182 0 255 (dk_at dksX1_service_0 2 rfl rfl)
theorem dX1_service_5 : decode cX1_service 5 = .ok (.getfield 430, 3) := dk_180 1 174 (dk_at dksX1_service_0 5 rfl rfl)
theorem dX1_service_8 : decode cX1_service 8 = .ok (.istore_n 2, 1) := dk_61 (dk_at dksX1_service_0 8 rfl rfl)
theorem dX1_service_9 : decode cX1_service 9 = .ok (.aload_n 0, 1) := dk_42 (dk_at dksX1_service_0 9 rfl rfl)
theorem dX1_service_10 : decode cX1_service 10 = .ok (.invokevirtual 283, 3) := dk_182 1 27 (dk_at dksX1_service_0 10 rfl rfl)
theorem dX1_service_13 : decode cX1_service 13 = .ok (.getfield 176, 3) := dk_180 0 176 (dk_at dksX1_service_0 13 rfl rfl)
theorem dX1_service_16 : decode cX1_service 16 = .ok (.iload_n 1, 1) := dk_27 (dk_at dksX1_service_0 16 rfl rfl)
theorem dX1_service_17 : decode cX1_service 17 = .ok (.invokevirtual 245, 3) := dk_182 0 245 (dk_at dksX1_service_0 17 rfl rfl)
theorem dX1_service_20 : decode cX1_service 20 = .ok (.checkcast 249, 3) := dk_192 0 249 (dk_at dksX1_service_0 20 rfl rfl)
theorem dX1_service_23 : decode cX1_service 23 = .ok (.astore_n 3, 1) := dk_78 (dk_at dksX1_service_0 23 rfl rfl)
theorem dX1_service_24 : decode cX1_service 24 = .ok (.aload_n 3, 1) := dk_45 (dk_at dksX1_service_1 0 rfl rfl)
theorem dX1_service_25 : decode cX1_service 25 = .ok (.iconst 0, 1) := dk_3 (dk_at dksX1_service_1 1 rfl rfl)
theorem dX1_service_26 : decode cX1_service 26 = .ok (.putfield 430, 3) := dk_181 1 174 (dk_at dksX1_service_1 2 rfl rfl)
theorem dX1_service_29 : decode cX1_service 29 = .ok (.aload_n 3, 1) := dk_45 (dk_at dksX1_service_1 5 rfl rfl)
theorem dX1_service_30 : decode cX1_service 30 = .ok (.aload_n 3, 1) := dk_45 (dk_at dksX1_service_1 6 rfl rfl)
theorem dX1_service_31 : decode cX1_service 31 = .ok (.getfield 311, 3) := dk_180 1 55 (dk_at dksX1_service_1 7 rfl rfl)
theorem dX1_service_34 : decode cX1_service 34 = .ok (.iconst 2, 1) := dk_5 (dk_at dksX1_service_1 10 rfl rfl)
theorem dX1_service_35 : decode cX1_service 35 = .ok (.if_icmp .ne 7, 3) := dk_160 0 7 (dk_at dksX1_service_1 11 rfl rfl)
theorem dX1_service_38 : decode cX1_service 38 = .ok (.iconst 1, 1) := dk_4 (dk_at dksX1_service_1 14 rfl rfl)
theorem dX1_service_39 : decode cX1_service 39 = .ok (.goto 7, 3) := dk_167 0 7 (dk_at dksX1_service_1 15 rfl rfl)
theorem dX1_service_42 : decode cX1_service 42 = .ok (.aload_n 3, 1) := dk_45 (dk_at dksX1_service_1 18 rfl rfl)
theorem dX1_service_43 : decode cX1_service 43 = .ok (.getfield 311, 3) := dk_180 1 55 (dk_at dksX1_service_1 19 rfl rfl)
theorem dX1_service_46 : decode cX1_service 46 = .ok (.putfield 311, 3) := dk_181 1 55 (dk_at dksX1_service_2 0 rfl rfl)
theorem dX1_service_49 : decode cX1_service 49 = .ok (.iload_n 2, 1) := dk_28 (dk_at dksX1_service_2 3 rfl rfl)
theorem dX1_service_50 : decode cX1_service 50 = .ok (.ireturn, 1) := dk_172 (dk_at dksX1_service_2 4 rfl rfl)
def dkwX1_test_2 : List UInt8 := [181, 1, 177, 42, 27, 182, 1, 180, 172]
abbrev dktX1_test_2 : List UInt8 := dkwX1_test_2 ++ []
def dkwX1_test_1 : List UInt8 := [167, 0, 4, 3, 184, 0, 132, 42, 182, 1, 27, 180, 0, 176, 27, 182, 0, 245, 192, 0, 249, 4]
abbrev dktX1_test_1 : List UInt8 := dkwX1_test_1 ++ dktX1_test_2
def dkwX1_test_0 : List UInt8 := [42, 27, 182, 0, 255, 180, 1, 55, 154, 0, 18, 42, 27, 182, 0, 255, 180, 1, 177, 154, 0, 7, 4]
abbrev dktX1_test_0 : List UInt8 := dkwX1_test_0 ++ dktX1_test_1
theorem dksX1_test_0 : cX1_test.data.toList.drop 0 = dktX1_test_0 := by decide +kernel
theorem dksX1_test_1 : cX1_test.data.toList.drop 23 = dktX1_test_1 := dk_seg dksX1_test_0 23 rfl rfl
theorem dksX1_test_2 : cX1_test.data.toList.drop 45 = dktX1_test_2 := dk_seg dksX1_test_1 22 rfl rfl
theorem dX1_test_0 : decode cX1_test 0 = .ok (.aload_n 0, 1) := dk_42 (dk_at dksX1_test_0 0 rfl rfl)
theorem dX1_test_1 : decode cX1_test 1 = .ok (.iload_n 1, 1) := dk_27 (dk_at dksX1_test_0 1 rfl rfl)
theorem dX1_test_2 : decode cX1_test 2 = .ok (.invokevirtual 255, 3) := dk_182 0 255 (dk_at dksX1_test_0 2 rfl rfl)
theorem dX1_test_5 : decode cX1_test 5 = .ok (.getfield 311, 3) := dk_180 1 55 (dk_at dksX1_test_0 5 rfl rfl)
theorem dX1_test_8 : decode cX1_test 8 = .ok (.ifCond .ne 18, 3) := dk_154 0 18 (dk_at dksX1_test_0 8 rfl rfl)
theorem dX1_test_11 : decode cX1_test 11 = .ok (.aload_n 0, 1) := dk_42 (dk_at dksX1_test_0 11 rfl rfl)
theorem dX1_test_12 : decode cX1_test 12 = .ok (.iload_n 1, 1) := dk_27 (dk_at dksX1_test_0 12 rfl rfl)
theorem dX1_test_13 : decode cX1_test 13 = .ok (.invokevirtual 255, 3) := dk_182 0 255 (dk_at dksX1_test_0 13 rfl rfl)
theorem dX1_test_16 : decode cX1_test 16 = .ok (.getfield 433, 3) := dk_180 1 177 (dk_at dksX1_test_0 16 rfl rfl)
theorem dX1_test_19 : decode cX1_test 19 = .ok (.ifCond .ne 7, 3) := dk_154 0 7 (dk_at dksX1_test_0 19 rfl rfl)
theorem dX1_test_22 : decode cX1_test 22 = .ok (.iconst 1, 1) := dk_4 (dk_at dksX1_test_0 22 rfl rfl)
theorem dX1_test_23 : decode cX1_test 23 = .ok (.goto 4, 3) := dk_167 0 4 (dk_at dksX1_test_1 0 rfl rfl)
theorem dX1_test_26 : decode cX1_test 26 = .ok (.iconst 0, 1) := dk_3 (dk_at dksX1_test_1 3 rfl rfl)
theorem dX1_test_27 : decode cX1_test 27 = .ok (.invokestatic 132, 3) := dk_184 0 132 (dk_at dksX1_test_1 4 rfl rfl)
theorem dX1_test_30 : decode cX1_test 30 = .ok (.aload_n 0, 1) := dk_42 (dk_at dksX1_test_1 7 rfl rfl)
theorem dX1_test_31 : decode cX1_test 31 = .ok (.invokevirtual 283, 3) := dk_182 1 27 (dk_at dksX1_test_1 8 rfl rfl)
theorem dX1_test_34 : decode cX1_test 34 = .ok (.getfield 176, 3) := dk_180 0 176 (dk_at dksX1_test_1 11 rfl rfl)
theorem dX1_test_37 : decode cX1_test 37 = .ok (.iload_n 1, 1) := dk_27 (dk_at dksX1_test_1 14 rfl rfl)
theorem dX1_test_38 : decode cX1_test 38 = .ok (.invokevirtual 245, 3) := dk_182 0 245 (dk_at dksX1_test_1 15 rfl rfl)
theorem dX1_test_41 : decode cX1_test 41 = .ok (.checkcast 249, 3) := dk_192 0 249 (dk_at dksX1_test_1 18 rfl rfl)
theorem dX1_test_44 : decode cX1_test 44 = .ok (.iconst 1, 1) := dk_4 (dk_at dksX1_test_1 21 rfl rfl)
theorem dX1_test_45 : decode cX1_test 45 = .ok (.putfield 433, 3) := dk_181 1 177 (dk_at dksX1_test_2 0 rfl rfl)
theorem dX1_test_48 : decode cX1_test 48 = .ok (.aload_n 0, 1) := dk_42 (dk_at dksX1_test_2 3 rfl rfl)
theorem dX1_test_49 : decode cX1_test 49 = .ok (.iload_n 1, 1) := dk_27 (dk_at dksX1_test_2 4 rfl rfl)
theorem dX1_test_50 : decode cX1_test 50 = .ok (.invokevirtual 436, 3) := dk_182 1 180 (dk_at dksX1_test_2 5 rfl rfl)
theorem dX1_test_53 : decode cX1_test 53 = .ok (.ireturn, 1) := dk_172 (dk_at dksX1_test_2 8 rfl rfl)
def dkwX1_isTested_0 : List UInt8 := [42, 27, 182, 0, 255, 180, 1, 177, 172]
abbrev dktX1_isTested_0 : List UInt8 := dkwX1_isTested_0 ++ []
theorem dksX1_isTested_0 : cX1_isTested.data.toList.drop 0 = dktX1_isTested_0 := by decide +kernel
theorem dX1_isTested_0 : decode cX1_isTested 0 = .ok (.aload_n 0, 1) := dk_42 (dk_at dksX1_isTested_0 0 rfl rfl)
theorem dX1_isTested_1 : decode cX1_isTested 1 = .ok (.iload_n 1, 1) := dk_27 (dk_at dksX1_isTested_0 1 rfl rfl)
theorem dX1_isTested_2 : decode cX1_isTested 2 = .ok (.invokevirtual 255, 3) := dk_182 0 255 (dk_at dksX1_isTested_0 2 rfl rfl)
theorem dX1_isTested_5 : decode cX1_isTested 5 = .ok (.getfield 433, 3) := dk_180 1 177 (dk_at dksX1_isTested_0 5 rfl rfl)
theorem dX1_isTested_8 : decode cX1_isTested 8 = .ok (.ireturn, 1) := dk_172 (dk_at dksX1_isTested_0 8 rfl rfl)
def dkwX1_trips_0 : List UInt8 := [42, 27, 182, 0, 255, 180, 1, 174, 172]
abbrev dktX1_trips_0 : List UInt8 := dkwX1_trips_0 ++ []
theorem dksX1_trips_0 : cX1_trips.data.toList.drop 0 = dktX1_trips_0 := by decide +kernel
theorem dX1_trips_0 : decode cX1_trips 0 = .ok (.aload_n 0, 1) := dk_42 (dk_at dksX1_trips_0 0 rfl rfl)
theorem dX1_trips_1 : decode cX1_trips 1 = .ok (.iload_n 1, 1) := dk_27 (dk_at dksX1_trips_0 1 rfl rfl)
theorem dX1_trips_2 : decode cX1_trips 2 = .ok (.invokevirtual 255, 3) := dk_182 0 255 (dk_at dksX1_trips_0 2 rfl rfl)
theorem dX1_trips_5 : decode cX1_trips 5 = .ok (.getfield 430, 3) := dk_180 1 174 (dk_at dksX1_trips_0 5 rfl rfl)
theorem dX1_trips_8 : decode cX1_trips 8 = .ok (.ireturn, 1) := dk_172 (dk_at dksX1_trips_0 8 rfl rfl)
def dkwX1_memory_2 : List UInt8 := [180, 1, 200, 167, 0, 20, 28, 6, 160, 0, 10, 45, 180, 1, 202, 167, 0, 8, 45, 180, 1, 205, 190, 172]
abbrev dktX1_memory_2 : List UInt8 := dkwX1_memory_2 ++ []
def dkwX1_memory_1 : List UInt8 := [180, 1, 198, 167, 0, 44, 28, 4, 160, 0, 10, 45, 180, 1, 199, 167, 0, 32, 28, 5, 160, 0, 10, 45]
abbrev dktX1_memory_1 : List UInt8 := dkwX1_memory_1 ++ dktX1_memory_2
def dkwX1_memory_0 : List UInt8 := [42, 27, 182, 1, 194, 78, 28, 133, 9, 20, 1, 10, 184, 0, 140, 184, 0, 144, 28, 154, 0, 10, 45]
abbrev dktX1_memory_0 : List UInt8 := dkwX1_memory_0 ++ dktX1_memory_1
theorem dksX1_memory_0 : cX1_memory.data.toList.drop 0 = dktX1_memory_0 := by decide +kernel
theorem dksX1_memory_1 : cX1_memory.data.toList.drop 23 = dktX1_memory_1 := dk_seg dksX1_memory_0 23 rfl rfl
theorem dksX1_memory_2 : cX1_memory.data.toList.drop 47 = dktX1_memory_2 := dk_seg dksX1_memory_1 24 rfl rfl
theorem dX1_memory_0 : decode cX1_memory 0 = .ok (.aload_n 0, 1) := dk_42 (dk_at dksX1_memory_0 0 rfl rfl)
theorem dX1_memory_1 : decode cX1_memory 1 = .ok (.iload_n 1, 1) := dk_27 (dk_at dksX1_memory_0 1 rfl rfl)
theorem dX1_memory_2 : decode cX1_memory 2 = .ok (.invokevirtual 450, 3) := dk_182 1 194 (dk_at dksX1_memory_0 2 rfl rfl)
theorem dX1_memory_5 : decode cX1_memory 5 = .ok (.astore_n 3, 1) := dk_78 (dk_at dksX1_memory_0 5 rfl rfl)
theorem dX1_memory_6 : decode cX1_memory 6 = .ok (.iload_n 2, 1) := dk_28 (dk_at dksX1_memory_0 6 rfl rfl)
theorem dX1_memory_7 : decode cX1_memory 7 = .ok (.i2l, 1) := dk_133 (dk_at dksX1_memory_0 7 rfl rfl)
theorem dX1_memory_8 : decode cX1_memory 8 = .ok (.lconst 0, 1) := dk_9 (dk_at dksX1_memory_0 8 rfl rfl)
theorem dX1_memory_9 : decode cX1_memory 9 = .ok (.ldc2_w 266, 3) := dk_20 1 10 (dk_at dksX1_memory_0 9 rfl rfl)
theorem dX1_memory_12 : decode cX1_memory 12 = .ok (.invokestatic 140, 3) := dk_184 0 140 (dk_at dksX1_memory_0 12 rfl rfl)
theorem dX1_memory_15 : decode cX1_memory 15 = .ok (.invokestatic 144, 3) := dk_184 0 144 (dk_at dksX1_memory_0 15 rfl rfl)
theorem dX1_memory_18 : decode cX1_memory 18 = .ok (.iload_n 2, 1) := dk_28 (dk_at dksX1_memory_0 18 rfl rfl)
theorem dX1_memory_19 : decode cX1_memory 19 = .ok (.ifCond .ne 10, 3) := dk_154 0 10 (dk_at dksX1_memory_0 19 rfl rfl)
theorem dX1_memory_22 : decode cX1_memory 22 = .ok (.aload_n 3, 1) := dk_45 (dk_at dksX1_memory_0 22 rfl rfl)
theorem dX1_memory_23 : decode cX1_memory 23 = .ok (.getfield 454, 3) := dk_180 1 198 (dk_at dksX1_memory_1 0 rfl rfl)
theorem dX1_memory_26 : decode cX1_memory 26 = .ok (.goto 44, 3) := dk_167 0 44 (dk_at dksX1_memory_1 3 rfl rfl)
theorem dX1_memory_29 : decode cX1_memory 29 = .ok (.iload_n 2, 1) := dk_28 (dk_at dksX1_memory_1 6 rfl rfl)
theorem dX1_memory_30 : decode cX1_memory 30 = .ok (.iconst 1, 1) := dk_4 (dk_at dksX1_memory_1 7 rfl rfl)
theorem dX1_memory_31 : decode cX1_memory 31 = .ok (.if_icmp .ne 10, 3) := dk_160 0 10 (dk_at dksX1_memory_1 8 rfl rfl)
theorem dX1_memory_34 : decode cX1_memory 34 = .ok (.aload_n 3, 1) := dk_45 (dk_at dksX1_memory_1 11 rfl rfl)
theorem dX1_memory_35 : decode cX1_memory 35 = .ok (.getfield 455, 3) := dk_180 1 199 (dk_at dksX1_memory_1 12 rfl rfl)
theorem dX1_memory_38 : decode cX1_memory 38 = .ok (.goto 32, 3) := dk_167 0 32 (dk_at dksX1_memory_1 15 rfl rfl)
theorem dX1_memory_41 : decode cX1_memory 41 = .ok (.iload_n 2, 1) := dk_28 (dk_at dksX1_memory_1 18 rfl rfl)
theorem dX1_memory_42 : decode cX1_memory 42 = .ok (.iconst 2, 1) := dk_5 (dk_at dksX1_memory_1 19 rfl rfl)
theorem dX1_memory_43 : decode cX1_memory 43 = .ok (.if_icmp .ne 10, 3) := dk_160 0 10 (dk_at dksX1_memory_1 20 rfl rfl)
theorem dX1_memory_46 : decode cX1_memory 46 = .ok (.aload_n 3, 1) := dk_45 (dk_at dksX1_memory_1 23 rfl rfl)
theorem dX1_memory_47 : decode cX1_memory 47 = .ok (.getfield 456, 3) := dk_180 1 200 (dk_at dksX1_memory_2 0 rfl rfl)
theorem dX1_memory_50 : decode cX1_memory 50 = .ok (.goto 20, 3) := dk_167 0 20 (dk_at dksX1_memory_2 3 rfl rfl)
theorem dX1_memory_53 : decode cX1_memory 53 = .ok (.iload_n 2, 1) := dk_28 (dk_at dksX1_memory_2 6 rfl rfl)
theorem dX1_memory_54 : decode cX1_memory 54 = .ok (.iconst 3, 1) := dk_6 (dk_at dksX1_memory_2 7 rfl rfl)
theorem dX1_memory_55 : decode cX1_memory 55 = .ok (.if_icmp .ne 10, 3) := dk_160 0 10 (dk_at dksX1_memory_2 8 rfl rfl)
theorem dX1_memory_58 : decode cX1_memory 58 = .ok (.aload_n 3, 1) := dk_45 (dk_at dksX1_memory_2 11 rfl rfl)
theorem dX1_memory_59 : decode cX1_memory 59 = .ok (.getfield 458, 3) := dk_180 1 202 (dk_at dksX1_memory_2 12 rfl rfl)
theorem dX1_memory_62 : decode cX1_memory 62 = .ok (.goto 8, 3) := dk_167 0 8 (dk_at dksX1_memory_2 15 rfl rfl)
theorem dX1_memory_65 : decode cX1_memory 65 = .ok (.aload_n 3, 1) := dk_45 (dk_at dksX1_memory_2 18 rfl rfl)
theorem dX1_memory_66 : decode cX1_memory 66 = .ok (.getfield 461, 3) := dk_180 1 205 (dk_at dksX1_memory_2 19 rfl rfl)
theorem dX1_memory_69 : decode cX1_memory 69 = .ok (.arraylength, 1) := dk_190 (dk_at dksX1_memory_2 22 rfl rfl)
theorem dX1_memory_70 : decode cX1_memory 70 = .ok (.ireturn, 1) := dk_172 (dk_at dksX1_memory_2 23 rfl rfl)
def dkwX1_tripAt_2 : List UInt8 := [192, 1, 192, 58, 4, 28, 154, 0, 6, 25, 4, 176, 132, 2, 255, 167, 255, 226, 1, 176]
abbrev dktX1_tripAt_2 : List UInt8 := dkwX1_tripAt_2 ++ []
def dkwX1_tripAt_1 : List UInt8 := [180, 1, 188, 182, 1, 191, 78, 45, 185, 1, 42, 1, 0, 153, 0, 27, 45, 185, 1, 48, 1, 0]
abbrev dktX1_tripAt_1 : List UInt8 := dkwX1_tripAt_1 ++ dktX1_tripAt_2
def dkwX1_tripAt_0 : List UInt8 := [27, 133, 9, 42, 182, 1, 185, 4, 100, 133, 184, 0, 140, 184, 0, 242, 27, 61, 42, 180, 0, 103]
abbrev dktX1_tripAt_0 : List UInt8 := dkwX1_tripAt_0 ++ dktX1_tripAt_1
theorem dksX1_tripAt_0 : cX1_tripAt.data.toList.drop 0 = dktX1_tripAt_0 := by decide +kernel
theorem dksX1_tripAt_1 : cX1_tripAt.data.toList.drop 22 = dktX1_tripAt_1 := dk_seg dksX1_tripAt_0 22 rfl rfl
theorem dksX1_tripAt_2 : cX1_tripAt.data.toList.drop 44 = dktX1_tripAt_2 := dk_seg dksX1_tripAt_1 22 rfl rfl
theorem dX1_tripAt_0 : decode cX1_tripAt 0 = .ok (.iload_n 1, 1) := dk_27 (dk_at dksX1_tripAt_0 0 rfl rfl)
theorem dX1_tripAt_1 : decode cX1_tripAt 1 = .ok (.i2l, 1) := dk_133 (dk_at dksX1_tripAt_0 1 rfl rfl)
theorem dX1_tripAt_2 : decode cX1_tripAt 2 = .ok (.lconst 0, 1) := dk_9 (dk_at dksX1_tripAt_0 2 rfl rfl)
theorem dX1_tripAt_3 : decode cX1_tripAt 3 = .ok (.aload_n 0, 1) := dk_42 (dk_at dksX1_tripAt_0 3 rfl rfl)
theorem dX1_tripAt_4 : decode cX1_tripAt 4 = .ok (.invokevirtual 441, 3) := dk_182 1 185 (dk_at dksX1_tripAt_0 4 rfl rfl)
theorem dX1_tripAt_7 : decode cX1_tripAt 7 = .ok (.iconst 1, 1) := dk_4 (dk_at dksX1_tripAt_0 7 rfl rfl)
theorem dX1_tripAt_8 : decode cX1_tripAt 8 = .ok (.isub, 1) := dk_100 (dk_at dksX1_tripAt_0 8 rfl rfl)
theorem dX1_tripAt_9 : decode cX1_tripAt 9 = .ok (.i2l, 1) := dk_133 (dk_at dksX1_tripAt_0 9 rfl rfl)
theorem dX1_tripAt_10 : decode cX1_tripAt 10 = .ok (.invokestatic 140, 3) := dk_184 0 140 (dk_at dksX1_tripAt_0 10 rfl rfl)
theorem dX1_tripAt_13 : decode cX1_tripAt 13 = .ok (.invokestatic 242, 3) := dk_184 0 242 (dk_at dksX1_tripAt_0 13 rfl rfl)
theorem dX1_tripAt_16 : decode cX1_tripAt 16 = .ok (.iload_n 1, 1) := dk_27 (dk_at dksX1_tripAt_0 16 rfl rfl)
theorem dX1_tripAt_17 : decode cX1_tripAt 17 = .ok (.istore_n 2, 1) := dk_61 (dk_at dksX1_tripAt_0 17 rfl rfl)
theorem dX1_tripAt_18 : decode cX1_tripAt 18 = .ok (.aload_n 0, 1) := dk_42 (dk_at dksX1_tripAt_0 18 rfl rfl)
theorem dX1_tripAt_19 : decode cX1_tripAt 19 = .ok (.getfield 103, 3) := dk_180 0 103 (dk_at dksX1_tripAt_0 19 rfl rfl)
theorem dX1_tripAt_22 : decode cX1_tripAt 22 = .ok (.getfield 444, 3) := dk_180 1 188 (dk_at dksX1_tripAt_1 0 rfl rfl)
theorem dX1_tripAt_25 : decode cX1_tripAt 25 = .ok (.invokevirtual 447, 3) := dk_182 1 191 (dk_at dksX1_tripAt_1 3 rfl rfl)
theorem dX1_tripAt_28 : decode cX1_tripAt 28 = .ok (.astore_n 3, 1) := dk_78 (dk_at dksX1_tripAt_1 6 rfl rfl)
theorem dX1_tripAt_29 : decode cX1_tripAt 29 = .ok (.aload_n 3, 1) := dk_45 (dk_at dksX1_tripAt_1 7 rfl rfl)
theorem dX1_tripAt_30 : decode cX1_tripAt 30 = .ok (.invokeinterface 298 1, 5) := by decide +kernel
theorem dX1_tripAt_35 : decode cX1_tripAt 35 = .ok (.ifCond .eq 27, 3) := dk_153 0 27 (dk_at dksX1_tripAt_1 13 rfl rfl)
theorem dX1_tripAt_38 : decode cX1_tripAt 38 = .ok (.aload_n 3, 1) := dk_45 (dk_at dksX1_tripAt_1 16 rfl rfl)
theorem dX1_tripAt_39 : decode cX1_tripAt 39 = .ok (.invokeinterface 304 1, 5) := by decide +kernel
theorem dX1_tripAt_44 : decode cX1_tripAt 44 = .ok (.checkcast 448, 3) := dk_192 1 192 (dk_at dksX1_tripAt_2 0 rfl rfl)
theorem dX1_tripAt_47 : decode cX1_tripAt 47 = .ok (.astore 4, 2) := dk_58 4 (dk_at dksX1_tripAt_2 3 rfl rfl)
theorem dX1_tripAt_49 : decode cX1_tripAt 49 = .ok (.iload_n 2, 1) := dk_28 (dk_at dksX1_tripAt_2 5 rfl rfl)
theorem dX1_tripAt_50 : decode cX1_tripAt 50 = .ok (.ifCond .ne 6, 3) := dk_154 0 6 (dk_at dksX1_tripAt_2 6 rfl rfl)
theorem dX1_tripAt_53 : decode cX1_tripAt 53 = .ok (.aload 4, 2) := dk_25 4 (dk_at dksX1_tripAt_2 9 rfl rfl)
theorem dX1_tripAt_55 : decode cX1_tripAt 55 = .ok (.areturn, 1) := dk_176 (dk_at dksX1_tripAt_2 11 rfl rfl)
theorem dX1_tripAt_56 : decode cX1_tripAt 56 = .ok (.iinc 2 (-1), 3) := dk_132 2 255 (dk_at dksX1_tripAt_2 12 rfl rfl)
theorem dX1_tripAt_59 : decode cX1_tripAt 59 = .ok (.goto (-30), 3) := dk_167 255 226 (dk_at dksX1_tripAt_2 15 rfl rfl)
theorem dX1_tripAt_62 : decode cX1_tripAt 62 = .ok (.aconst_null, 1) := dk_1 (dk_at dksX1_tripAt_2 18 rfl rfl)
theorem dX1_tripAt_63 : decode cX1_tripAt 63 = .ok (.areturn, 1) := dk_176 (dk_at dksX1_tripAt_2 19 rfl rfl)
def dkwX1_named_1 : List UInt8 := [180, 1, 205, 28, 46, 172]
abbrev dktX1_named_1 : List UInt8 := dkwX1_named_1 ++ []
def dkwX1_named_0 : List UInt8 := [42, 27, 182, 1, 194, 78, 28, 133, 9, 45, 180, 1, 205, 190, 4, 100, 133, 184, 0, 140, 184, 1, 72, 45]
abbrev dktX1_named_0 : List UInt8 := dkwX1_named_0 ++ dktX1_named_1
theorem dksX1_named_0 : cX1_named.data.toList.drop 0 = dktX1_named_0 := by decide +kernel
theorem dksX1_named_1 : cX1_named.data.toList.drop 24 = dktX1_named_1 := dk_seg dksX1_named_0 24 rfl rfl
theorem dX1_named_0 : decode cX1_named 0 = .ok (.aload_n 0, 1) := dk_42 (dk_at dksX1_named_0 0 rfl rfl)
theorem dX1_named_1 : decode cX1_named 1 = .ok (.iload_n 1, 1) := dk_27 (dk_at dksX1_named_0 1 rfl rfl)
theorem dX1_named_2 : decode cX1_named 2 = .ok (.invokevirtual 450, 3) := dk_182 1 194 (dk_at dksX1_named_0 2 rfl rfl)
theorem dX1_named_5 : decode cX1_named 5 = .ok (.astore_n 3, 1) := dk_78 (dk_at dksX1_named_0 5 rfl rfl)
theorem dX1_named_6 : decode cX1_named 6 = .ok (.iload_n 2, 1) := dk_28 (dk_at dksX1_named_0 6 rfl rfl)
theorem dX1_named_7 : decode cX1_named 7 = .ok (.i2l, 1) := dk_133 (dk_at dksX1_named_0 7 rfl rfl)
theorem dX1_named_8 : decode cX1_named 8 = .ok (.lconst 0, 1) := dk_9 (dk_at dksX1_named_0 8 rfl rfl)
theorem dX1_named_9 : decode cX1_named 9 = .ok (.aload_n 3, 1) := dk_45 (dk_at dksX1_named_0 9 rfl rfl)
theorem dX1_named_10 : decode cX1_named 10 = .ok (.getfield 461, 3) := dk_180 1 205 (dk_at dksX1_named_0 10 rfl rfl)
theorem dX1_named_13 : decode cX1_named 13 = .ok (.arraylength, 1) := dk_190 (dk_at dksX1_named_0 13 rfl rfl)
theorem dX1_named_14 : decode cX1_named 14 = .ok (.iconst 1, 1) := dk_4 (dk_at dksX1_named_0 14 rfl rfl)
theorem dX1_named_15 : decode cX1_named 15 = .ok (.isub, 1) := dk_100 (dk_at dksX1_named_0 15 rfl rfl)
theorem dX1_named_16 : decode cX1_named 16 = .ok (.i2l, 1) := dk_133 (dk_at dksX1_named_0 16 rfl rfl)
theorem dX1_named_17 : decode cX1_named 17 = .ok (.invokestatic 140, 3) := dk_184 0 140 (dk_at dksX1_named_0 17 rfl rfl)
theorem dX1_named_20 : decode cX1_named 20 = .ok (.invokestatic 328, 3) := dk_184 1 72 (dk_at dksX1_named_0 20 rfl rfl)
theorem dX1_named_23 : decode cX1_named 23 = .ok (.aload_n 3, 1) := dk_45 (dk_at dksX1_named_0 23 rfl rfl)
theorem dX1_named_24 : decode cX1_named 24 = .ok (.getfield 461, 3) := dk_180 1 205 (dk_at dksX1_named_1 0 rfl rfl)
theorem dX1_named_27 : decode cX1_named 27 = .ok (.iload_n 2, 1) := dk_28 (dk_at dksX1_named_1 3 rfl rfl)
theorem dX1_named_28 : decode cX1_named 28 = .ok (.iaload, 1) := dk_46 (dk_at dksX1_named_1 4 rfl rfl)
theorem dX1_named_29 : decode cX1_named 29 = .ok (.ireturn, 1) := dk_172 (dk_at dksX1_named_1 5 rfl rfl)
def dkwX1_peakOf_0 : List UInt8 := [42, 27, 182, 1, 194, 180, 1, 208, 174]
abbrev dktX1_peakOf_0 : List UInt8 := dkwX1_peakOf_0 ++ []
theorem dksX1_peakOf_0 : cX1_peakOf.data.toList.drop 0 = dktX1_peakOf_0 := by decide +kernel
theorem dX1_peakOf_0 : decode cX1_peakOf 0 = .ok (.aload_n 0, 1) := dk_42 (dk_at dksX1_peakOf_0 0 rfl rfl)
theorem dX1_peakOf_1 : decode cX1_peakOf 1 = .ok (.iload_n 1, 1) := dk_27 (dk_at dksX1_peakOf_0 1 rfl rfl)
theorem dX1_peakOf_2 : decode cX1_peakOf 2 = .ok (.invokevirtual 450, 3) := dk_182 1 194 (dk_at dksX1_peakOf_0 2 rfl rfl)
theorem dX1_peakOf_5 : decode cX1_peakOf 5 = .ok (.getfield 464, 3) := dk_180 1 208 (dk_at dksX1_peakOf_0 5 rfl rfl)
theorem dX1_peakOf_8 : decode cX1_peakOf 8 = .ok (.freturn, 1) := dk_174 (dk_at dksX1_peakOf_0 8 rfl rfl)
def dkwX1_tripIn_1 : List UInt8 := [172]
abbrev dktX1_tripIn_1 : List UInt8 := dkwX1_tripIn_1 ++ []
def dkwX1_tripIn_0 : List UInt8 := [42, 27, 182, 0, 255, 87, 187, 0, 95, 89, 42, 180, 0, 103, 183, 0, 158, 27, 17, 1, 244, 182, 1, 214]
abbrev dktX1_tripIn_0 : List UInt8 := dkwX1_tripIn_0 ++ dktX1_tripIn_1
theorem dksX1_tripIn_0 : cX1_tripIn.data.toList.drop 0 = dktX1_tripIn_0 := by decide +kernel
theorem dksX1_tripIn_1 : cX1_tripIn.data.toList.drop 24 = dktX1_tripIn_1 := dk_seg dksX1_tripIn_0 24 rfl rfl
theorem dX1_tripIn_0 : decode cX1_tripIn 0 = .ok (.aload_n 0, 1) := dk_42 (dk_at dksX1_tripIn_0 0 rfl rfl)
theorem dX1_tripIn_1 : decode cX1_tripIn 1 = .ok (.iload_n 1, 1) := dk_27 (dk_at dksX1_tripIn_0 1 rfl rfl)
theorem dX1_tripIn_2 : decode cX1_tripIn 2 = .ok (.invokevirtual 255, 3) := dk_182 0 255 (dk_at dksX1_tripIn_0 2 rfl rfl)
theorem dX1_tripIn_5 : decode cX1_tripIn 5 = .ok (.pop, 1) := dk_87 (dk_at dksX1_tripIn_0 5 rfl rfl)
theorem dX1_tripIn_6 : decode cX1_tripIn 6 = .ok (.new 95, 3) := dk_187 0 95 (dk_at dksX1_tripIn_0 6 rfl rfl)
theorem dX1_tripIn_9 : decode cX1_tripIn 9 = .ok (.dup, 1) := dk_89 (dk_at dksX1_tripIn_0 9 rfl rfl)
theorem dX1_tripIn_10 : decode cX1_tripIn 10 = .ok (.aload_n 0, 1) := dk_42 (dk_at dksX1_tripIn_0 10 rfl rfl)
theorem dX1_tripIn_11 : decode cX1_tripIn 11 = .ok (.getfield 103, 3) := dk_180 0 103 (dk_at dksX1_tripIn_0 11 rfl rfl)
theorem dX1_tripIn_14 : decode cX1_tripIn 14 = .ok (.invokespecial 158, 3) := dk_183 0 158 (dk_at dksX1_tripIn_0 14 rfl rfl)
theorem dX1_tripIn_17 : decode cX1_tripIn 17 = .ok (.iload_n 1, 1) := dk_27 (dk_at dksX1_tripIn_0 17 rfl rfl)
theorem dX1_tripIn_18 : decode cX1_tripIn 18 = .ok (.sipush 500, 3) := dk_17 1 244 (dk_at dksX1_tripIn_0 18 rfl rfl)
theorem dX1_tripIn_21 : decode cX1_tripIn 21 = .ok (.invokevirtual 470, 3) := dk_182 1 214 (dk_at dksX1_tripIn_0 21 rfl rfl)
theorem dX1_tripIn_24 : decode cX1_tripIn 24 = .ok (.ireturn, 1) := dk_172 (dk_at dksX1_tripIn_1 0 rfl rfl)
def dkwX1_tripping_2 : List UInt8 := [29, 172]
abbrev dktX1_tripping_2 : List UInt8 := dkwX1_tripping_2 ++ []
def dkwX1_tripping_1 : List UInt8 := [3, 62, 3, 54, 4, 21, 4, 27, 162, 0, 16, 29, 44, 182, 1, 60, 128, 62, 132, 4, 1, 167, 255, 240]
abbrev dktX1_tripping_1 : List UInt8 := dkwX1_tripping_1 ++ dktX1_tripping_2
def dkwX1_tripping_0 : List UInt8 := [27, 133, 10, 20, 1, 57, 184, 0, 140, 184, 0, 144, 187, 0, 95, 89, 42, 180, 0, 103, 183, 0, 158, 77]
abbrev dktX1_tripping_0 : List UInt8 := dkwX1_tripping_0 ++ dktX1_tripping_1
theorem dksX1_tripping_0 : cX1_tripping.data.toList.drop 0 = dktX1_tripping_0 := by decide +kernel
theorem dksX1_tripping_1 : cX1_tripping.data.toList.drop 24 = dktX1_tripping_1 := dk_seg dksX1_tripping_0 24 rfl rfl
theorem dksX1_tripping_2 : cX1_tripping.data.toList.drop 48 = dktX1_tripping_2 := dk_seg dksX1_tripping_1 24 rfl rfl
theorem dX1_tripping_0 : decode cX1_tripping 0 = .ok (.iload_n 1, 1) := dk_27 (dk_at dksX1_tripping_0 0 rfl rfl)
theorem dX1_tripping_1 : decode cX1_tripping 1 = .ok (.i2l, 1) := dk_133 (dk_at dksX1_tripping_0 1 rfl rfl)
theorem dX1_tripping_2 : decode cX1_tripping 2 = .ok (.lconst 1, 1) := dk_10 (dk_at dksX1_tripping_0 2 rfl rfl)
theorem dX1_tripping_3 : decode cX1_tripping 3 = .ok (.ldc2_w 313, 3) := dk_20 1 57 (dk_at dksX1_tripping_0 3 rfl rfl)
theorem dX1_tripping_6 : decode cX1_tripping 6 = .ok (.invokestatic 140, 3) := dk_184 0 140 (dk_at dksX1_tripping_0 6 rfl rfl)
theorem dX1_tripping_9 : decode cX1_tripping 9 = .ok (.invokestatic 144, 3) := dk_184 0 144 (dk_at dksX1_tripping_0 9 rfl rfl)
theorem dX1_tripping_12 : decode cX1_tripping 12 = .ok (.new 95, 3) := dk_187 0 95 (dk_at dksX1_tripping_0 12 rfl rfl)
theorem dX1_tripping_15 : decode cX1_tripping 15 = .ok (.dup, 1) := dk_89 (dk_at dksX1_tripping_0 15 rfl rfl)
theorem dX1_tripping_16 : decode cX1_tripping 16 = .ok (.aload_n 0, 1) := dk_42 (dk_at dksX1_tripping_0 16 rfl rfl)
theorem dX1_tripping_17 : decode cX1_tripping 17 = .ok (.getfield 103, 3) := dk_180 0 103 (dk_at dksX1_tripping_0 17 rfl rfl)
theorem dX1_tripping_20 : decode cX1_tripping 20 = .ok (.invokespecial 158, 3) := dk_183 0 158 (dk_at dksX1_tripping_0 20 rfl rfl)
theorem dX1_tripping_23 : decode cX1_tripping 23 = .ok (.astore_n 2, 1) := dk_77 (dk_at dksX1_tripping_0 23 rfl rfl)
theorem dX1_tripping_24 : decode cX1_tripping 24 = .ok (.iconst 0, 1) := dk_3 (dk_at dksX1_tripping_1 0 rfl rfl)
theorem dX1_tripping_25 : decode cX1_tripping 25 = .ok (.istore_n 3, 1) := dk_62 (dk_at dksX1_tripping_1 1 rfl rfl)
theorem dX1_tripping_26 : decode cX1_tripping 26 = .ok (.iconst 0, 1) := dk_3 (dk_at dksX1_tripping_1 2 rfl rfl)
theorem dX1_tripping_27 : decode cX1_tripping 27 = .ok (.istore 4, 2) := dk_54 4 (dk_at dksX1_tripping_1 3 rfl rfl)
theorem dX1_tripping_29 : decode cX1_tripping 29 = .ok (.iload 4, 2) := dk_21 4 (dk_at dksX1_tripping_1 5 rfl rfl)
theorem dX1_tripping_31 : decode cX1_tripping 31 = .ok (.iload_n 1, 1) := dk_27 (dk_at dksX1_tripping_1 7 rfl rfl)
theorem dX1_tripping_32 : decode cX1_tripping 32 = .ok (.if_icmp .ge 16, 3) := dk_162 0 16 (dk_at dksX1_tripping_1 8 rfl rfl)
theorem dX1_tripping_35 : decode cX1_tripping 35 = .ok (.iload_n 3, 1) := dk_29 (dk_at dksX1_tripping_1 11 rfl rfl)
theorem dX1_tripping_36 : decode cX1_tripping 36 = .ok (.aload_n 2, 1) := dk_44 (dk_at dksX1_tripping_1 12 rfl rfl)
theorem dX1_tripping_37 : decode cX1_tripping 37 = .ok (.invokevirtual 316, 3) := dk_182 1 60 (dk_at dksX1_tripping_1 13 rfl rfl)
theorem dX1_tripping_40 : decode cX1_tripping 40 = .ok (.ior, 1) := dk_128 (dk_at dksX1_tripping_1 16 rfl rfl)
theorem dX1_tripping_41 : decode cX1_tripping 41 = .ok (.istore_n 3, 1) := dk_62 (dk_at dksX1_tripping_1 17 rfl rfl)
theorem dX1_tripping_42 : decode cX1_tripping 42 = .ok (.iinc 4 1, 3) := dk_132 4 1 (dk_at dksX1_tripping_1 18 rfl rfl)
theorem dX1_tripping_45 : decode cX1_tripping 45 = .ok (.goto (-16), 3) := dk_167 255 240 (dk_at dksX1_tripping_1 21 rfl rfl)
theorem dX1_tripping_48 : decode cX1_tripping 48 = .ok (.iload_n 3, 1) := dk_29 (dk_at dksX1_tripping_2 0 rfl rfl)
theorem dX1_tripping_49 : decode cX1_tripping 49 = .ok (.ireturn, 1) := dk_172 (dk_at dksX1_tripping_2 1 rfl rfl)
def dkwX1_featureAfter_4 : List UInt8 := [192, 0, 249, 180, 1, 84, 28, 48, 174]
abbrev dktX1_featureAfter_4 : List UInt8 := dkwX1_featureAfter_4 ++ []
def dkwX1_featureAfter_3 : List UInt8 := [180, 1, 69, 158, 0, 7, 4, 167, 0, 4, 3, 184, 1, 72, 25, 4, 180, 0, 176, 27, 182, 0, 245]
abbrev dktX1_featureAfter_3 : List UInt8 := dkwX1_featureAfter_3 ++ dktX1_featureAfter_4
def dkwX1_featureAfter_2 : List UInt8 := [182, 1, 60, 87, 132, 5, 1, 167, 255, 241, 25, 4, 180, 0, 176, 27, 182, 0, 245, 192, 0, 249]
abbrev dktX1_featureAfter_2 : List UInt8 := dkwX1_featureAfter_2 ++ dktX1_featureAfter_3
def dkwX1_featureAfter_1 : List UInt8 := [187, 0, 95, 89, 42, 180, 0, 103, 183, 0, 158, 58, 4, 3, 54, 5, 21, 5, 29, 162, 0, 15, 25, 4]
abbrev dktX1_featureAfter_1 : List UInt8 := dkwX1_featureAfter_1 ++ dktX1_featureAfter_2
def dkwX1_featureAfter_0 : List UInt8 := [42, 27, 182, 0, 255, 87, 28, 184, 1, 81, 29, 133, 10, 20, 1, 57, 184, 0, 140, 184, 0, 144]
abbrev dktX1_featureAfter_0 : List UInt8 := dkwX1_featureAfter_0 ++ dktX1_featureAfter_1
theorem dksX1_featureAfter_0 : cX1_featureAfter.data.toList.drop 0 = dktX1_featureAfter_0 := by decide +kernel
theorem dksX1_featureAfter_1 : cX1_featureAfter.data.toList.drop 22 = dktX1_featureAfter_1 := dk_seg dksX1_featureAfter_0 22 rfl rfl
theorem dksX1_featureAfter_2 : cX1_featureAfter.data.toList.drop 46 = dktX1_featureAfter_2 := dk_seg dksX1_featureAfter_1 24 rfl rfl
theorem dksX1_featureAfter_3 : cX1_featureAfter.data.toList.drop 68 = dktX1_featureAfter_3 := dk_seg dksX1_featureAfter_2 22 rfl rfl
theorem dksX1_featureAfter_4 : cX1_featureAfter.data.toList.drop 91 = dktX1_featureAfter_4 := dk_seg dksX1_featureAfter_3 23 rfl rfl
theorem dX1_featureAfter_0 : decode cX1_featureAfter 0 = .ok (.aload_n 0, 1) := dk_42 (dk_at dksX1_featureAfter_0 0 rfl rfl)
theorem dX1_featureAfter_1 : decode cX1_featureAfter 1 = .ok (.iload_n 1, 1) := dk_27 (dk_at dksX1_featureAfter_0 1 rfl rfl)
theorem dX1_featureAfter_2 : decode cX1_featureAfter 2 = .ok (.invokevirtual 255, 3) := dk_182 0 255 (dk_at dksX1_featureAfter_0 2 rfl rfl)
theorem dX1_featureAfter_5 : decode cX1_featureAfter 5 = .ok (.pop, 1) := dk_87 (dk_at dksX1_featureAfter_0 5 rfl rfl)
theorem dX1_featureAfter_6 : decode cX1_featureAfter 6 = .ok (.iload_n 2, 1) := dk_28 (dk_at dksX1_featureAfter_0 6 rfl rfl)
theorem dX1_featureAfter_7 : decode cX1_featureAfter 7 = .ok (.invokestatic 337, 3) := dk_184 1 81 (dk_at dksX1_featureAfter_0 7 rfl rfl)
theorem dX1_featureAfter_10 : decode cX1_featureAfter 10 = .ok (.iload_n 3, 1) := dk_29 (dk_at dksX1_featureAfter_0 10 rfl rfl)
theorem dX1_featureAfter_11 : decode cX1_featureAfter 11 = .ok (.i2l, 1) := dk_133 (dk_at dksX1_featureAfter_0 11 rfl rfl)
theorem dX1_featureAfter_12 : decode cX1_featureAfter 12 = .ok (.lconst 1, 1) := dk_10 (dk_at dksX1_featureAfter_0 12 rfl rfl)
theorem dX1_featureAfter_13 : decode cX1_featureAfter 13 = .ok (.ldc2_w 313, 3) := dk_20 1 57 (dk_at dksX1_featureAfter_0 13 rfl rfl)
theorem dX1_featureAfter_16 : decode cX1_featureAfter 16 = .ok (.invokestatic 140, 3) := dk_184 0 140 (dk_at dksX1_featureAfter_0 16 rfl rfl)
theorem dX1_featureAfter_19 : decode cX1_featureAfter 19 = .ok (.invokestatic 144, 3) := dk_184 0 144 (dk_at dksX1_featureAfter_0 19 rfl rfl)
theorem dX1_featureAfter_22 : decode cX1_featureAfter 22 = .ok (.new 95, 3) := dk_187 0 95 (dk_at dksX1_featureAfter_1 0 rfl rfl)
theorem dX1_featureAfter_25 : decode cX1_featureAfter 25 = .ok (.dup, 1) := dk_89 (dk_at dksX1_featureAfter_1 3 rfl rfl)
theorem dX1_featureAfter_26 : decode cX1_featureAfter 26 = .ok (.aload_n 0, 1) := dk_42 (dk_at dksX1_featureAfter_1 4 rfl rfl)
theorem dX1_featureAfter_27 : decode cX1_featureAfter 27 = .ok (.getfield 103, 3) := dk_180 0 103 (dk_at dksX1_featureAfter_1 5 rfl rfl)
theorem dX1_featureAfter_30 : decode cX1_featureAfter 30 = .ok (.invokespecial 158, 3) := dk_183 0 158 (dk_at dksX1_featureAfter_1 8 rfl rfl)
theorem dX1_featureAfter_33 : decode cX1_featureAfter 33 = .ok (.astore 4, 2) := dk_58 4 (dk_at dksX1_featureAfter_1 11 rfl rfl)
theorem dX1_featureAfter_35 : decode cX1_featureAfter 35 = .ok (.iconst 0, 1) := dk_3 (dk_at dksX1_featureAfter_1 13 rfl rfl)
theorem dX1_featureAfter_36 : decode cX1_featureAfter 36 = .ok (.istore 5, 2) := dk_54 5 (dk_at dksX1_featureAfter_1 14 rfl rfl)
theorem dX1_featureAfter_38 : decode cX1_featureAfter 38 = .ok (.iload 5, 2) := dk_21 5 (dk_at dksX1_featureAfter_1 16 rfl rfl)
theorem dX1_featureAfter_40 : decode cX1_featureAfter 40 = .ok (.iload_n 3, 1) := dk_29 (dk_at dksX1_featureAfter_1 18 rfl rfl)
theorem dX1_featureAfter_41 : decode cX1_featureAfter 41 = .ok (.if_icmp .ge 15, 3) := dk_162 0 15 (dk_at dksX1_featureAfter_1 19 rfl rfl)
theorem dX1_featureAfter_44 : decode cX1_featureAfter 44 = .ok (.aload 4, 2) := dk_25 4 (dk_at dksX1_featureAfter_1 22 rfl rfl)
theorem dX1_featureAfter_46 : decode cX1_featureAfter 46 = .ok (.invokevirtual 316, 3) := dk_182 1 60 (dk_at dksX1_featureAfter_2 0 rfl rfl)
theorem dX1_featureAfter_49 : decode cX1_featureAfter 49 = .ok (.pop, 1) := dk_87 (dk_at dksX1_featureAfter_2 3 rfl rfl)
theorem dX1_featureAfter_50 : decode cX1_featureAfter 50 = .ok (.iinc 5 1, 3) := dk_132 5 1 (dk_at dksX1_featureAfter_2 4 rfl rfl)
theorem dX1_featureAfter_53 : decode cX1_featureAfter 53 = .ok (.goto (-15), 3) := dk_167 255 241 (dk_at dksX1_featureAfter_2 7 rfl rfl)
theorem dX1_featureAfter_56 : decode cX1_featureAfter 56 = .ok (.aload 4, 2) := dk_25 4 (dk_at dksX1_featureAfter_2 10 rfl rfl)
theorem dX1_featureAfter_58 : decode cX1_featureAfter 58 = .ok (.getfield 176, 3) := dk_180 0 176 (dk_at dksX1_featureAfter_2 12 rfl rfl)
theorem dX1_featureAfter_61 : decode cX1_featureAfter 61 = .ok (.iload_n 1, 1) := dk_27 (dk_at dksX1_featureAfter_2 15 rfl rfl)
theorem dX1_featureAfter_62 : decode cX1_featureAfter 62 = .ok (.invokevirtual 245, 3) := dk_182 0 245 (dk_at dksX1_featureAfter_2 16 rfl rfl)
theorem dX1_featureAfter_65 : decode cX1_featureAfter 65 = .ok (.checkcast 249, 3) := dk_192 0 249 (dk_at dksX1_featureAfter_2 19 rfl rfl)
theorem dX1_featureAfter_68 : decode cX1_featureAfter 68 = .ok (.getfield 325, 3) := dk_180 1 69 (dk_at dksX1_featureAfter_3 0 rfl rfl)
theorem dX1_featureAfter_71 : decode cX1_featureAfter 71 = .ok (.ifCond .le 7, 3) := dk_158 0 7 (dk_at dksX1_featureAfter_3 3 rfl rfl)
theorem dX1_featureAfter_74 : decode cX1_featureAfter 74 = .ok (.iconst 1, 1) := dk_4 (dk_at dksX1_featureAfter_3 6 rfl rfl)
theorem dX1_featureAfter_75 : decode cX1_featureAfter 75 = .ok (.goto 4, 3) := dk_167 0 4 (dk_at dksX1_featureAfter_3 7 rfl rfl)
theorem dX1_featureAfter_78 : decode cX1_featureAfter 78 = .ok (.iconst 0, 1) := dk_3 (dk_at dksX1_featureAfter_3 10 rfl rfl)
theorem dX1_featureAfter_79 : decode cX1_featureAfter 79 = .ok (.invokestatic 328, 3) := dk_184 1 72 (dk_at dksX1_featureAfter_3 11 rfl rfl)
theorem dX1_featureAfter_82 : decode cX1_featureAfter 82 = .ok (.aload 4, 2) := dk_25 4 (dk_at dksX1_featureAfter_3 14 rfl rfl)
theorem dX1_featureAfter_84 : decode cX1_featureAfter 84 = .ok (.getfield 176, 3) := dk_180 0 176 (dk_at dksX1_featureAfter_3 16 rfl rfl)
theorem dX1_featureAfter_87 : decode cX1_featureAfter 87 = .ok (.iload_n 1, 1) := dk_27 (dk_at dksX1_featureAfter_3 19 rfl rfl)
theorem dX1_featureAfter_88 : decode cX1_featureAfter 88 = .ok (.invokevirtual 245, 3) := dk_182 0 245 (dk_at dksX1_featureAfter_3 20 rfl rfl)
theorem dX1_featureAfter_91 : decode cX1_featureAfter 91 = .ok (.checkcast 249, 3) := dk_192 0 249 (dk_at dksX1_featureAfter_4 0 rfl rfl)
theorem dX1_featureAfter_94 : decode cX1_featureAfter 94 = .ok (.getfield 340, 3) := dk_180 1 84 (dk_at dksX1_featureAfter_4 3 rfl rfl)
theorem dX1_featureAfter_97 : decode cX1_featureAfter 97 = .ok (.iload_n 2, 1) := dk_28 (dk_at dksX1_featureAfter_4 6 rfl rfl)
theorem dX1_featureAfter_98 : decode cX1_featureAfter 98 = .ok (.faload, 1) := dk_48 (dk_at dksX1_featureAfter_4 7 rfl rfl)
theorem dX1_featureAfter_99 : decode cX1_featureAfter 99 = .ok (.freturn, 1) := dk_174 (dk_at dksX1_featureAfter_4 8 rfl rfl)
def dkwX1_culprit_4 : List UInt8 := [3, 84, 45, 27, 17, 0, 200, 182, 1, 214, 2, 160, 0, 5, 28, 172, 132, 2, 1, 167, 255, 173, 2, 172]
abbrev dktX1_culprit_4 : List UInt8 := dkwX1_culprit_4 ++ []
def dkwX1_culprit_3 : List UInt8 := [27, 159, 0, 6, 167, 0, 36, 187, 0, 95, 89, 42, 180, 0, 103, 183, 0, 158, 78, 45, 180, 1, 24, 28]
abbrev dktX1_culprit_3 : List UInt8 := dkwX1_culprit_3 ++ dktX1_culprit_4
def dkwX1_culprit_2 : List UInt8 := [51, 153, 0, 63, 42, 180, 0, 103, 180, 0, 205, 180, 0, 209, 28, 182, 0, 245, 192, 0, 251, 180, 1, 15]
abbrev dktX1_culprit_2 : List UInt8 := dkwX1_culprit_2 ++ dktX1_culprit_3
def dkwX1_culprit_1 : List UInt8 := [2, 160, 0, 5, 2, 172, 3, 61, 28, 42, 182, 0, 217, 162, 0, 81, 42, 180, 0, 103, 180, 1, 24, 28]
abbrev dktX1_culprit_1 : List UInt8 := dkwX1_culprit_1 ++ dktX1_culprit_2
def dkwX1_culprit_0 : List UInt8 := [42, 27, 182, 0, 255, 87, 187, 0, 95, 89, 42, 180, 0, 103, 183, 0, 158, 27, 17, 0, 200, 182, 1, 214]
abbrev dktX1_culprit_0 : List UInt8 := dkwX1_culprit_0 ++ dktX1_culprit_1
theorem dksX1_culprit_0 : cX1_culprit.data.toList.drop 0 = dktX1_culprit_0 := by decide +kernel
theorem dksX1_culprit_1 : cX1_culprit.data.toList.drop 24 = dktX1_culprit_1 := dk_seg dksX1_culprit_0 24 rfl rfl
theorem dksX1_culprit_2 : cX1_culprit.data.toList.drop 48 = dktX1_culprit_2 := dk_seg dksX1_culprit_1 24 rfl rfl
theorem dksX1_culprit_3 : cX1_culprit.data.toList.drop 72 = dktX1_culprit_3 := dk_seg dksX1_culprit_2 24 rfl rfl
theorem dksX1_culprit_4 : cX1_culprit.data.toList.drop 96 = dktX1_culprit_4 := dk_seg dksX1_culprit_3 24 rfl rfl
theorem dX1_culprit_0 : decode cX1_culprit 0 = .ok (.aload_n 0, 1) := dk_42 (dk_at dksX1_culprit_0 0 rfl rfl)
theorem dX1_culprit_1 : decode cX1_culprit 1 = .ok (.iload_n 1, 1) := dk_27 (dk_at dksX1_culprit_0 1 rfl rfl)
theorem dX1_culprit_2 : decode cX1_culprit 2 = .ok (.invokevirtual 255, 3) := dk_182 0 255 (dk_at dksX1_culprit_0 2 rfl rfl)
theorem dX1_culprit_5 : decode cX1_culprit 5 = .ok (.pop, 1) := dk_87 (dk_at dksX1_culprit_0 5 rfl rfl)
theorem dX1_culprit_6 : decode cX1_culprit 6 = .ok (.new 95, 3) := dk_187 0 95 (dk_at dksX1_culprit_0 6 rfl rfl)
theorem dX1_culprit_9 : decode cX1_culprit 9 = .ok (.dup, 1) := dk_89 (dk_at dksX1_culprit_0 9 rfl rfl)
theorem dX1_culprit_10 : decode cX1_culprit 10 = .ok (.aload_n 0, 1) := dk_42 (dk_at dksX1_culprit_0 10 rfl rfl)
theorem dX1_culprit_11 : decode cX1_culprit 11 = .ok (.getfield 103, 3) := dk_180 0 103 (dk_at dksX1_culprit_0 11 rfl rfl)
theorem dX1_culprit_14 : decode cX1_culprit 14 = .ok (.invokespecial 158, 3) := dk_183 0 158 (dk_at dksX1_culprit_0 14 rfl rfl)
theorem dX1_culprit_17 : decode cX1_culprit 17 = .ok (.iload_n 1, 1) := dk_27 (dk_at dksX1_culprit_0 17 rfl rfl)
theorem dX1_culprit_18 : decode cX1_culprit 18 = .ok (.sipush 200, 3) := dk_17 0 200 (dk_at dksX1_culprit_0 18 rfl rfl)
theorem dX1_culprit_21 : decode cX1_culprit 21 = .ok (.invokevirtual 470, 3) := dk_182 1 214 (dk_at dksX1_culprit_0 21 rfl rfl)
theorem dX1_culprit_24 : decode cX1_culprit 24 = .ok (.iconst (-1), 1) := dk_2 (dk_at dksX1_culprit_1 0 rfl rfl)
theorem dX1_culprit_25 : decode cX1_culprit 25 = .ok (.if_icmp .ne 5, 3) := dk_160 0 5 (dk_at dksX1_culprit_1 1 rfl rfl)
theorem dX1_culprit_28 : decode cX1_culprit 28 = .ok (.iconst (-1), 1) := dk_2 (dk_at dksX1_culprit_1 4 rfl rfl)
theorem dX1_culprit_29 : decode cX1_culprit 29 = .ok (.ireturn, 1) := dk_172 (dk_at dksX1_culprit_1 5 rfl rfl)
theorem dX1_culprit_30 : decode cX1_culprit 30 = .ok (.iconst 0, 1) := dk_3 (dk_at dksX1_culprit_1 6 rfl rfl)
theorem dX1_culprit_31 : decode cX1_culprit 31 = .ok (.istore_n 2, 1) := dk_61 (dk_at dksX1_culprit_1 7 rfl rfl)
theorem dX1_culprit_32 : decode cX1_culprit 32 = .ok (.iload_n 2, 1) := dk_28 (dk_at dksX1_culprit_1 8 rfl rfl)
theorem dX1_culprit_33 : decode cX1_culprit 33 = .ok (.aload_n 0, 1) := dk_42 (dk_at dksX1_culprit_1 9 rfl rfl)
theorem dX1_culprit_34 : decode cX1_culprit 34 = .ok (.invokevirtual 217, 3) := dk_182 0 217 (dk_at dksX1_culprit_1 10 rfl rfl)
theorem dX1_culprit_37 : decode cX1_culprit 37 = .ok (.if_icmp .ge 81, 3) := dk_162 0 81 (dk_at dksX1_culprit_1 13 rfl rfl)
theorem dX1_culprit_40 : decode cX1_culprit 40 = .ok (.aload_n 0, 1) := dk_42 (dk_at dksX1_culprit_1 16 rfl rfl)
theorem dX1_culprit_41 : decode cX1_culprit 41 = .ok (.getfield 103, 3) := dk_180 0 103 (dk_at dksX1_culprit_1 17 rfl rfl)
theorem dX1_culprit_44 : decode cX1_culprit 44 = .ok (.getfield 280, 3) := dk_180 1 24 (dk_at dksX1_culprit_1 20 rfl rfl)
theorem dX1_culprit_47 : decode cX1_culprit 47 = .ok (.iload_n 2, 1) := dk_28 (dk_at dksX1_culprit_1 23 rfl rfl)
theorem dX1_culprit_48 : decode cX1_culprit 48 = .ok (.baload, 1) := dk_51 (dk_at dksX1_culprit_2 0 rfl rfl)
theorem dX1_culprit_49 : decode cX1_culprit 49 = .ok (.ifCond .eq 63, 3) := dk_153 0 63 (dk_at dksX1_culprit_2 1 rfl rfl)
theorem dX1_culprit_52 : decode cX1_culprit 52 = .ok (.aload_n 0, 1) := dk_42 (dk_at dksX1_culprit_2 4 rfl rfl)
theorem dX1_culprit_53 : decode cX1_culprit 53 = .ok (.getfield 103, 3) := dk_180 0 103 (dk_at dksX1_culprit_2 5 rfl rfl)
theorem dX1_culprit_56 : decode cX1_culprit 56 = .ok (.getfield 205, 3) := dk_180 0 205 (dk_at dksX1_culprit_2 8 rfl rfl)
theorem dX1_culprit_59 : decode cX1_culprit 59 = .ok (.getfield 209, 3) := dk_180 0 209 (dk_at dksX1_culprit_2 11 rfl rfl)
theorem dX1_culprit_62 : decode cX1_culprit 62 = .ok (.iload_n 2, 1) := dk_28 (dk_at dksX1_culprit_2 14 rfl rfl)
theorem dX1_culprit_63 : decode cX1_culprit 63 = .ok (.invokevirtual 245, 3) := dk_182 0 245 (dk_at dksX1_culprit_2 15 rfl rfl)
theorem dX1_culprit_66 : decode cX1_culprit 66 = .ok (.checkcast 251, 3) := dk_192 0 251 (dk_at dksX1_culprit_2 18 rfl rfl)
theorem dX1_culprit_69 : decode cX1_culprit 69 = .ok (.getfield 271, 3) := dk_180 1 15 (dk_at dksX1_culprit_2 21 rfl rfl)
theorem dX1_culprit_72 : decode cX1_culprit 72 = .ok (.iload_n 1, 1) := dk_27 (dk_at dksX1_culprit_3 0 rfl rfl)
theorem dX1_culprit_73 : decode cX1_culprit 73 = .ok (.if_icmp .eq 6, 3) := dk_159 0 6 (dk_at dksX1_culprit_3 1 rfl rfl)
theorem dX1_culprit_76 : decode cX1_culprit 76 = .ok (.goto 36, 3) := dk_167 0 36 (dk_at dksX1_culprit_3 4 rfl rfl)
theorem dX1_culprit_79 : decode cX1_culprit 79 = .ok (.new 95, 3) := dk_187 0 95 (dk_at dksX1_culprit_3 7 rfl rfl)
theorem dX1_culprit_82 : decode cX1_culprit 82 = .ok (.dup, 1) := dk_89 (dk_at dksX1_culprit_3 10 rfl rfl)
theorem dX1_culprit_83 : decode cX1_culprit 83 = .ok (.aload_n 0, 1) := dk_42 (dk_at dksX1_culprit_3 11 rfl rfl)
theorem dX1_culprit_84 : decode cX1_culprit 84 = .ok (.getfield 103, 3) := dk_180 0 103 (dk_at dksX1_culprit_3 12 rfl rfl)
theorem dX1_culprit_87 : decode cX1_culprit 87 = .ok (.invokespecial 158, 3) := dk_183 0 158 (dk_at dksX1_culprit_3 15 rfl rfl)
theorem dX1_culprit_90 : decode cX1_culprit 90 = .ok (.astore_n 3, 1) := dk_78 (dk_at dksX1_culprit_3 18 rfl rfl)
theorem dX1_culprit_91 : decode cX1_culprit 91 = .ok (.aload_n 3, 1) := dk_45 (dk_at dksX1_culprit_3 19 rfl rfl)
theorem dX1_culprit_92 : decode cX1_culprit 92 = .ok (.getfield 280, 3) := dk_180 1 24 (dk_at dksX1_culprit_3 20 rfl rfl)
theorem dX1_culprit_95 : decode cX1_culprit 95 = .ok (.iload_n 2, 1) := dk_28 (dk_at dksX1_culprit_3 23 rfl rfl)
theorem dX1_culprit_96 : decode cX1_culprit 96 = .ok (.iconst 0, 1) := dk_3 (dk_at dksX1_culprit_4 0 rfl rfl)
theorem dX1_culprit_97 : decode cX1_culprit 97 = .ok (.bastore, 1) := dk_84 (dk_at dksX1_culprit_4 1 rfl rfl)
theorem dX1_culprit_98 : decode cX1_culprit 98 = .ok (.aload_n 3, 1) := dk_45 (dk_at dksX1_culprit_4 2 rfl rfl)
theorem dX1_culprit_99 : decode cX1_culprit 99 = .ok (.iload_n 1, 1) := dk_27 (dk_at dksX1_culprit_4 3 rfl rfl)
theorem dX1_culprit_100 : decode cX1_culprit 100 = .ok (.sipush 200, 3) := dk_17 0 200 (dk_at dksX1_culprit_4 4 rfl rfl)
theorem dX1_culprit_103 : decode cX1_culprit 103 = .ok (.invokevirtual 470, 3) := dk_182 1 214 (dk_at dksX1_culprit_4 7 rfl rfl)
theorem dX1_culprit_106 : decode cX1_culprit 106 = .ok (.iconst (-1), 1) := dk_2 (dk_at dksX1_culprit_4 10 rfl rfl)
theorem dX1_culprit_107 : decode cX1_culprit 107 = .ok (.if_icmp .ne 5, 3) := dk_160 0 5 (dk_at dksX1_culprit_4 11 rfl rfl)
theorem dX1_culprit_110 : decode cX1_culprit 110 = .ok (.iload_n 2, 1) := dk_28 (dk_at dksX1_culprit_4 14 rfl rfl)
theorem dX1_culprit_111 : decode cX1_culprit 111 = .ok (.ireturn, 1) := dk_172 (dk_at dksX1_culprit_4 15 rfl rfl)
theorem dX1_culprit_112 : decode cX1_culprit 112 = .ok (.iinc 2 1, 3) := dk_132 2 1 (dk_at dksX1_culprit_4 16 rfl rfl)
theorem dX1_culprit_115 : decode cX1_culprit 115 = .ok (.goto (-83), 3) := dk_167 255 173 (dk_at dksX1_culprit_4 19 rfl rfl)
theorem dX1_culprit_118 : decode cX1_culprit 118 = .ok (.iconst (-1), 1) := dk_2 (dk_at dksX1_culprit_4 22 rfl rfl)
theorem dX1_culprit_119 : decode cX1_culprit 119 = .ok (.ireturn, 1) := dk_172 (dk_at dksX1_culprit_4 23 rfl rfl)
def dkwX1_hitsAhead_2 : List UInt8 := [180, 0, 103, 180, 1, 114, 27, 46, 100, 172]
abbrev dktX1_hitsAhead_2 : List UInt8 := dkwX1_hitsAhead_2 ++ []
def dkwX1_hitsAhead_1 : List UInt8 := [162, 0, 15, 44, 182, 1, 60, 54, 4, 132, 3, 1, 167, 255, 241, 44, 180, 1, 114, 27, 46, 42]
abbrev dktX1_hitsAhead_1 : List UInt8 := dkwX1_hitsAhead_1 ++ dktX1_hitsAhead_2
def dkwX1_hitsAhead_0 : List UInt8 := [42, 27, 182, 1, 110, 87, 187, 0, 95, 89, 42, 180, 0, 103, 183, 0, 158, 77, 3, 62, 29, 16, 100]
abbrev dktX1_hitsAhead_0 : List UInt8 := dkwX1_hitsAhead_0 ++ dktX1_hitsAhead_1
theorem dksX1_hitsAhead_0 : cX1_hitsAhead.data.toList.drop 0 = dktX1_hitsAhead_0 := by decide +kernel
theorem dksX1_hitsAhead_1 : cX1_hitsAhead.data.toList.drop 23 = dktX1_hitsAhead_1 := dk_seg dksX1_hitsAhead_0 23 rfl rfl
theorem dksX1_hitsAhead_2 : cX1_hitsAhead.data.toList.drop 45 = dktX1_hitsAhead_2 := dk_seg dksX1_hitsAhead_1 22 rfl rfl
theorem dX1_hitsAhead_0 : decode cX1_hitsAhead 0 = .ok (.aload_n 0, 1) := dk_42 (dk_at dksX1_hitsAhead_0 0 rfl rfl)
theorem dX1_hitsAhead_1 : decode cX1_hitsAhead 1 = .ok (.iload_n 1, 1) := dk_27 (dk_at dksX1_hitsAhead_0 1 rfl rfl)
theorem dX1_hitsAhead_2 : decode cX1_hitsAhead 2 = .ok (.invokevirtual 366, 3) := dk_182 1 110 (dk_at dksX1_hitsAhead_0 2 rfl rfl)
theorem dX1_hitsAhead_5 : decode cX1_hitsAhead 5 = .ok (.pop, 1) := dk_87 (dk_at dksX1_hitsAhead_0 5 rfl rfl)
theorem dX1_hitsAhead_6 : decode cX1_hitsAhead 6 = .ok (.new 95, 3) := dk_187 0 95 (dk_at dksX1_hitsAhead_0 6 rfl rfl)
theorem dX1_hitsAhead_9 : decode cX1_hitsAhead 9 = .ok (.dup, 1) := dk_89 (dk_at dksX1_hitsAhead_0 9 rfl rfl)
theorem dX1_hitsAhead_10 : decode cX1_hitsAhead 10 = .ok (.aload_n 0, 1) := dk_42 (dk_at dksX1_hitsAhead_0 10 rfl rfl)
theorem dX1_hitsAhead_11 : decode cX1_hitsAhead 11 = .ok (.getfield 103, 3) := dk_180 0 103 (dk_at dksX1_hitsAhead_0 11 rfl rfl)
theorem dX1_hitsAhead_14 : decode cX1_hitsAhead 14 = .ok (.invokespecial 158, 3) := dk_183 0 158 (dk_at dksX1_hitsAhead_0 14 rfl rfl)
theorem dX1_hitsAhead_17 : decode cX1_hitsAhead 17 = .ok (.astore_n 2, 1) := dk_77 (dk_at dksX1_hitsAhead_0 17 rfl rfl)
theorem dX1_hitsAhead_18 : decode cX1_hitsAhead 18 = .ok (.iconst 0, 1) := dk_3 (dk_at dksX1_hitsAhead_0 18 rfl rfl)
theorem dX1_hitsAhead_19 : decode cX1_hitsAhead 19 = .ok (.istore_n 3, 1) := dk_62 (dk_at dksX1_hitsAhead_0 19 rfl rfl)
theorem dX1_hitsAhead_20 : decode cX1_hitsAhead 20 = .ok (.iload_n 3, 1) := dk_29 (dk_at dksX1_hitsAhead_0 20 rfl rfl)
theorem dX1_hitsAhead_21 : decode cX1_hitsAhead 21 = .ok (.bipush 100, 2) := dk_16 100 (dk_at dksX1_hitsAhead_0 21 rfl rfl)
theorem dX1_hitsAhead_23 : decode cX1_hitsAhead 23 = .ok (.if_icmp .ge 15, 3) := dk_162 0 15 (dk_at dksX1_hitsAhead_1 0 rfl rfl)
theorem dX1_hitsAhead_26 : decode cX1_hitsAhead 26 = .ok (.aload_n 2, 1) := dk_44 (dk_at dksX1_hitsAhead_1 3 rfl rfl)
theorem dX1_hitsAhead_27 : decode cX1_hitsAhead 27 = .ok (.invokevirtual 316, 3) := dk_182 1 60 (dk_at dksX1_hitsAhead_1 4 rfl rfl)
theorem dX1_hitsAhead_30 : decode cX1_hitsAhead 30 = .ok (.istore 4, 2) := dk_54 4 (dk_at dksX1_hitsAhead_1 7 rfl rfl)
theorem dX1_hitsAhead_32 : decode cX1_hitsAhead 32 = .ok (.iinc 3 1, 3) := dk_132 3 1 (dk_at dksX1_hitsAhead_1 9 rfl rfl)
theorem dX1_hitsAhead_35 : decode cX1_hitsAhead 35 = .ok (.goto (-15), 3) := dk_167 255 241 (dk_at dksX1_hitsAhead_1 12 rfl rfl)
theorem dX1_hitsAhead_38 : decode cX1_hitsAhead 38 = .ok (.aload_n 2, 1) := dk_44 (dk_at dksX1_hitsAhead_1 15 rfl rfl)
theorem dX1_hitsAhead_39 : decode cX1_hitsAhead 39 = .ok (.getfield 370, 3) := dk_180 1 114 (dk_at dksX1_hitsAhead_1 16 rfl rfl)
theorem dX1_hitsAhead_42 : decode cX1_hitsAhead 42 = .ok (.iload_n 1, 1) := dk_27 (dk_at dksX1_hitsAhead_1 19 rfl rfl)
theorem dX1_hitsAhead_43 : decode cX1_hitsAhead 43 = .ok (.iaload, 1) := dk_46 (dk_at dksX1_hitsAhead_1 20 rfl rfl)
theorem dX1_hitsAhead_44 : decode cX1_hitsAhead 44 = .ok (.aload_n 0, 1) := dk_42 (dk_at dksX1_hitsAhead_1 21 rfl rfl)
theorem dX1_hitsAhead_45 : decode cX1_hitsAhead 45 = .ok (.getfield 103, 3) := dk_180 0 103 (dk_at dksX1_hitsAhead_2 0 rfl rfl)
theorem dX1_hitsAhead_48 : decode cX1_hitsAhead 48 = .ok (.getfield 370, 3) := dk_180 1 114 (dk_at dksX1_hitsAhead_2 3 rfl rfl)
theorem dX1_hitsAhead_51 : decode cX1_hitsAhead 51 = .ok (.iload_n 1, 1) := dk_27 (dk_at dksX1_hitsAhead_2 6 rfl rfl)
theorem dX1_hitsAhead_52 : decode cX1_hitsAhead 52 = .ok (.iaload, 1) := dk_46 (dk_at dksX1_hitsAhead_2 7 rfl rfl)
theorem dX1_hitsAhead_53 : decode cX1_hitsAhead 53 = .ok (.isub, 1) := dk_100 (dk_at dksX1_hitsAhead_2 8 rfl rfl)
theorem dX1_hitsAhead_54 : decode cX1_hitsAhead 54 = .ok (.ireturn, 1) := dk_172 (dk_at dksX1_hitsAhead_2 9 rfl rfl)
def dkwX1_largestCount_2 : List UInt8 := [28, 172, 132, 2, 255, 167, 255, 218, 2, 172]
abbrev dktX1_largestCount_2 : List UInt8 := dkwX1_largestCount_2 ++ []
def dkwX1_largestCount_1 : List UInt8 := [180, 0, 103, 183, 0, 158, 78, 45, 28, 181, 0, 237, 45, 27, 17, 0, 200, 182, 1, 214, 2, 159, 0, 5]
abbrev dktX1_largestCount_1 : List UInt8 := dkwX1_largestCount_1 ++ dktX1_largestCount_2
def dkwX1_largestCount_0 : List UInt8 := [42, 27, 182, 0, 255, 87, 42, 180, 0, 103, 180, 0, 235, 61, 28, 158, 0, 40, 187, 0, 95, 89, 42]
abbrev dktX1_largestCount_0 : List UInt8 := dkwX1_largestCount_0 ++ dktX1_largestCount_1
theorem dksX1_largestCount_0 : cX1_largestCount.data.toList.drop 0 = dktX1_largestCount_0 := by decide +kernel
theorem dksX1_largestCount_1 : cX1_largestCount.data.toList.drop 23 = dktX1_largestCount_1 := dk_seg dksX1_largestCount_0 23 rfl rfl
theorem dksX1_largestCount_2 : cX1_largestCount.data.toList.drop 47 = dktX1_largestCount_2 := dk_seg dksX1_largestCount_1 24 rfl rfl
theorem dX1_largestCount_0 : decode cX1_largestCount 0 = .ok (.aload_n 0, 1) := dk_42 (dk_at dksX1_largestCount_0 0 rfl rfl)
theorem dX1_largestCount_1 : decode cX1_largestCount 1 = .ok (.iload_n 1, 1) := dk_27 (dk_at dksX1_largestCount_0 1 rfl rfl)
theorem dX1_largestCount_2 : decode cX1_largestCount 2 = .ok (.invokevirtual 255, 3) := dk_182 0 255 (dk_at dksX1_largestCount_0 2 rfl rfl)
theorem dX1_largestCount_5 : decode cX1_largestCount 5 = .ok (.pop, 1) := dk_87 (dk_at dksX1_largestCount_0 5 rfl rfl)
theorem dX1_largestCount_6 : decode cX1_largestCount 6 = .ok (.aload_n 0, 1) := dk_42 (dk_at dksX1_largestCount_0 6 rfl rfl)
theorem dX1_largestCount_7 : decode cX1_largestCount 7 = .ok (.getfield 103, 3) := dk_180 0 103 (dk_at dksX1_largestCount_0 7 rfl rfl)
theorem dX1_largestCount_10 : decode cX1_largestCount 10 = .ok (.getfield 235, 3) := dk_180 0 235 (dk_at dksX1_largestCount_0 10 rfl rfl)
theorem dX1_largestCount_13 : decode cX1_largestCount 13 = .ok (.istore_n 2, 1) := dk_61 (dk_at dksX1_largestCount_0 13 rfl rfl)
theorem dX1_largestCount_14 : decode cX1_largestCount 14 = .ok (.iload_n 2, 1) := dk_28 (dk_at dksX1_largestCount_0 14 rfl rfl)
theorem dX1_largestCount_15 : decode cX1_largestCount 15 = .ok (.ifCond .le 40, 3) := dk_158 0 40 (dk_at dksX1_largestCount_0 15 rfl rfl)
theorem dX1_largestCount_18 : decode cX1_largestCount 18 = .ok (.new 95, 3) := dk_187 0 95 (dk_at dksX1_largestCount_0 18 rfl rfl)
theorem dX1_largestCount_21 : decode cX1_largestCount 21 = .ok (.dup, 1) := dk_89 (dk_at dksX1_largestCount_0 21 rfl rfl)
theorem dX1_largestCount_22 : decode cX1_largestCount 22 = .ok (.aload_n 0, 1) := dk_42 (dk_at dksX1_largestCount_0 22 rfl rfl)
theorem dX1_largestCount_23 : decode cX1_largestCount 23 = .ok (.getfield 103, 3) := dk_180 0 103 (dk_at dksX1_largestCount_1 0 rfl rfl)
theorem dX1_largestCount_26 : decode cX1_largestCount 26 = .ok (.invokespecial 158, 3) := dk_183 0 158 (dk_at dksX1_largestCount_1 3 rfl rfl)
theorem dX1_largestCount_29 : decode cX1_largestCount 29 = .ok (.astore_n 3, 1) := dk_78 (dk_at dksX1_largestCount_1 6 rfl rfl)
theorem dX1_largestCount_30 : decode cX1_largestCount 30 = .ok (.aload_n 3, 1) := dk_45 (dk_at dksX1_largestCount_1 7 rfl rfl)
theorem dX1_largestCount_31 : decode cX1_largestCount 31 = .ok (.iload_n 2, 1) := dk_28 (dk_at dksX1_largestCount_1 8 rfl rfl)
theorem dX1_largestCount_32 : decode cX1_largestCount 32 = .ok (.putfield 237, 3) := dk_181 0 237 (dk_at dksX1_largestCount_1 9 rfl rfl)
theorem dX1_largestCount_35 : decode cX1_largestCount 35 = .ok (.aload_n 3, 1) := dk_45 (dk_at dksX1_largestCount_1 12 rfl rfl)
theorem dX1_largestCount_36 : decode cX1_largestCount 36 = .ok (.iload_n 1, 1) := dk_27 (dk_at dksX1_largestCount_1 13 rfl rfl)
theorem dX1_largestCount_37 : decode cX1_largestCount 37 = .ok (.sipush 200, 3) := dk_17 0 200 (dk_at dksX1_largestCount_1 14 rfl rfl)
theorem dX1_largestCount_40 : decode cX1_largestCount 40 = .ok (.invokevirtual 470, 3) := dk_182 1 214 (dk_at dksX1_largestCount_1 17 rfl rfl)
theorem dX1_largestCount_43 : decode cX1_largestCount 43 = .ok (.iconst (-1), 1) := dk_2 (dk_at dksX1_largestCount_1 20 rfl rfl)
theorem dX1_largestCount_44 : decode cX1_largestCount 44 = .ok (.if_icmp .eq 5, 3) := dk_159 0 5 (dk_at dksX1_largestCount_1 21 rfl rfl)
theorem dX1_largestCount_47 : decode cX1_largestCount 47 = .ok (.iload_n 2, 1) := dk_28 (dk_at dksX1_largestCount_2 0 rfl rfl)
theorem dX1_largestCount_48 : decode cX1_largestCount 48 = .ok (.ireturn, 1) := dk_172 (dk_at dksX1_largestCount_2 1 rfl rfl)
theorem dX1_largestCount_49 : decode cX1_largestCount 49 = .ok (.iinc 2 (-1), 3) := dk_132 2 255 (dk_at dksX1_largestCount_2 2 rfl rfl)
theorem dX1_largestCount_52 : decode cX1_largestCount 52 = .ok (.goto (-38), 3) := dk_167 255 218 (dk_at dksX1_largestCount_2 5 rfl rfl)
theorem dX1_largestCount_55 : decode cX1_largestCount 55 = .ok (.iconst (-1), 1) := dk_2 (dk_at dksX1_largestCount_2 8 rfl rfl)
theorem dX1_largestCount_56 : decode cX1_largestCount 56 = .ok (.ireturn, 1) := dk_172 (dk_at dksX1_largestCount_2 9 rfl rfl)
def dkwX1_loadSample_2 : List UInt8 := [182, 1, 220, 174]
abbrev dktX1_loadSample_2 : List UInt8 := dkwX1_loadSample_2 ++ []
def dkwX1_loadSample_1 : List UInt8 := [184, 0, 140, 184, 0, 144, 45, 42, 180, 0, 103, 180, 0, 205, 180, 1, 217, 28, 45, 182, 1, 19, 12]
abbrev dktX1_loadSample_1 : List UInt8 := dkwX1_loadSample_1 ++ dktX1_loadSample_2
def dkwX1_loadSample_0 : List UInt8 := [42, 27, 182, 1, 6, 78, 28, 133, 9, 42, 180, 0, 103, 180, 0, 205, 180, 0, 233, 4, 100, 133]
abbrev dktX1_loadSample_0 : List UInt8 := dkwX1_loadSample_0 ++ dktX1_loadSample_1
theorem dksX1_loadSample_0 : cX1_loadSample.data.toList.drop 0 = dktX1_loadSample_0 := by decide +kernel
theorem dksX1_loadSample_1 : cX1_loadSample.data.toList.drop 22 = dktX1_loadSample_1 := dk_seg dksX1_loadSample_0 22 rfl rfl
theorem dksX1_loadSample_2 : cX1_loadSample.data.toList.drop 45 = dktX1_loadSample_2 := dk_seg dksX1_loadSample_1 23 rfl rfl
theorem dX1_loadSample_0 : decode cX1_loadSample 0 = .ok (.aload_n 0, 1) := dk_42 (dk_at dksX1_loadSample_0 0 rfl rfl)
theorem dX1_loadSample_1 : decode cX1_loadSample 1 = .ok (.iload_n 1, 1) := dk_27 (dk_at dksX1_loadSample_0 1 rfl rfl)
theorem dX1_loadSample_2 : decode cX1_loadSample 2 = .ok (.invokevirtual 262, 3) := dk_182 1 6 (dk_at dksX1_loadSample_0 2 rfl rfl)
theorem dX1_loadSample_5 : decode cX1_loadSample 5 = .ok (.astore_n 3, 1) := dk_78 (dk_at dksX1_loadSample_0 5 rfl rfl)
theorem dX1_loadSample_6 : decode cX1_loadSample 6 = .ok (.iload_n 2, 1) := dk_28 (dk_at dksX1_loadSample_0 6 rfl rfl)
theorem dX1_loadSample_7 : decode cX1_loadSample 7 = .ok (.i2l, 1) := dk_133 (dk_at dksX1_loadSample_0 7 rfl rfl)
theorem dX1_loadSample_8 : decode cX1_loadSample 8 = .ok (.lconst 0, 1) := dk_9 (dk_at dksX1_loadSample_0 8 rfl rfl)
theorem dX1_loadSample_9 : decode cX1_loadSample 9 = .ok (.aload_n 0, 1) := dk_42 (dk_at dksX1_loadSample_0 9 rfl rfl)
theorem dX1_loadSample_10 : decode cX1_loadSample 10 = .ok (.getfield 103, 3) := dk_180 0 103 (dk_at dksX1_loadSample_0 10 rfl rfl)
theorem dX1_loadSample_13 : decode cX1_loadSample 13 = .ok (.getfield 205, 3) := dk_180 0 205 (dk_at dksX1_loadSample_0 13 rfl rfl)
theorem dX1_loadSample_16 : decode cX1_loadSample 16 = .ok (.getfield 233, 3) := dk_180 0 233 (dk_at dksX1_loadSample_0 16 rfl rfl)
theorem dX1_loadSample_19 : decode cX1_loadSample 19 = .ok (.iconst 1, 1) := dk_4 (dk_at dksX1_loadSample_0 19 rfl rfl)
theorem dX1_loadSample_20 : decode cX1_loadSample 20 = .ok (.isub, 1) := dk_100 (dk_at dksX1_loadSample_0 20 rfl rfl)
theorem dX1_loadSample_21 : decode cX1_loadSample 21 = .ok (.i2l, 1) := dk_133 (dk_at dksX1_loadSample_0 21 rfl rfl)
theorem dX1_loadSample_22 : decode cX1_loadSample 22 = .ok (.invokestatic 140, 3) := dk_184 0 140 (dk_at dksX1_loadSample_1 0 rfl rfl)
theorem dX1_loadSample_25 : decode cX1_loadSample 25 = .ok (.invokestatic 144, 3) := dk_184 0 144 (dk_at dksX1_loadSample_1 3 rfl rfl)
theorem dX1_loadSample_28 : decode cX1_loadSample 28 = .ok (.aload_n 3, 1) := dk_45 (dk_at dksX1_loadSample_1 6 rfl rfl)
theorem dX1_loadSample_29 : decode cX1_loadSample 29 = .ok (.aload_n 0, 1) := dk_42 (dk_at dksX1_loadSample_1 7 rfl rfl)
theorem dX1_loadSample_30 : decode cX1_loadSample 30 = .ok (.getfield 103, 3) := dk_180 0 103 (dk_at dksX1_loadSample_1 8 rfl rfl)
theorem dX1_loadSample_33 : decode cX1_loadSample 33 = .ok (.getfield 205, 3) := dk_180 0 205 (dk_at dksX1_loadSample_1 11 rfl rfl)
theorem dX1_loadSample_36 : decode cX1_loadSample 36 = .ok (.getfield 473, 3) := dk_180 1 217 (dk_at dksX1_loadSample_1 14 rfl rfl)
theorem dX1_loadSample_39 : decode cX1_loadSample 39 = .ok (.iload_n 2, 1) := dk_28 (dk_at dksX1_loadSample_1 17 rfl rfl)
theorem dX1_loadSample_40 : decode cX1_loadSample 40 = .ok (.aload_n 3, 1) := dk_45 (dk_at dksX1_loadSample_1 18 rfl rfl)
theorem dX1_loadSample_41 : decode cX1_loadSample 41 = .ok (.invokevirtual 275, 3) := dk_182 1 19 (dk_at dksX1_loadSample_1 19 rfl rfl)
theorem dX1_loadSample_44 : decode cX1_loadSample 44 = .ok (.fconst 1, 1) := dk_12 (dk_at dksX1_loadSample_1 22 rfl rfl)
theorem dX1_loadSample_45 : decode cX1_loadSample 45 = .ok (.invokevirtual 476, 3) := dk_182 1 220 (dk_at dksX1_loadSample_2 0 rfl rfl)
theorem dX1_loadSample_48 : decode cX1_loadSample 48 = .ok (.freturn, 1) := dk_174 (dk_at dksX1_loadSample_2 3 rfl rfl)
def dkwX1_undo_1 : List UInt8 := [182, 1, 226, 192, 0, 95, 181, 0, 103, 42, 180, 0, 110, 182, 0, 147, 172]
abbrev dktX1_undo_1 : List UInt8 := dkwX1_undo_1 ++ []
def dkwX1_undo_0 : List UInt8 := [42, 180, 0, 110, 182, 1, 223, 154, 0, 7, 4, 167, 0, 4, 3, 184, 0, 132, 42, 42, 180, 0, 110]
abbrev dktX1_undo_0 : List UInt8 := dkwX1_undo_0 ++ dktX1_undo_1
theorem dksX1_undo_0 : cX1_undo.data.toList.drop 0 = dktX1_undo_0 := by decide +kernel
theorem dksX1_undo_1 : cX1_undo.data.toList.drop 23 = dktX1_undo_1 := dk_seg dksX1_undo_0 23 rfl rfl
theorem dX1_undo_0 : decode cX1_undo 0 = .ok (.aload_n 0, 1) := dk_42 (dk_at dksX1_undo_0 0 rfl rfl)
theorem dX1_undo_1 : decode cX1_undo 1 = .ok (.getfield 110, 3) := dk_180 0 110 (dk_at dksX1_undo_0 1 rfl rfl)
theorem dX1_undo_4 : decode cX1_undo 4 = .ok (.invokevirtual 479, 3) := dk_182 1 223 (dk_at dksX1_undo_0 4 rfl rfl)
theorem dX1_undo_7 : decode cX1_undo 7 = .ok (.ifCond .ne 7, 3) := dk_154 0 7 (dk_at dksX1_undo_0 7 rfl rfl)
theorem dX1_undo_10 : decode cX1_undo 10 = .ok (.iconst 1, 1) := dk_4 (dk_at dksX1_undo_0 10 rfl rfl)
theorem dX1_undo_11 : decode cX1_undo 11 = .ok (.goto 4, 3) := dk_167 0 4 (dk_at dksX1_undo_0 11 rfl rfl)
theorem dX1_undo_14 : decode cX1_undo 14 = .ok (.iconst 0, 1) := dk_3 (dk_at dksX1_undo_0 14 rfl rfl)
theorem dX1_undo_15 : decode cX1_undo 15 = .ok (.invokestatic 132, 3) := dk_184 0 132 (dk_at dksX1_undo_0 15 rfl rfl)
theorem dX1_undo_18 : decode cX1_undo 18 = .ok (.aload_n 0, 1) := dk_42 (dk_at dksX1_undo_0 18 rfl rfl)
theorem dX1_undo_19 : decode cX1_undo 19 = .ok (.aload_n 0, 1) := dk_42 (dk_at dksX1_undo_0 19 rfl rfl)
theorem dX1_undo_20 : decode cX1_undo 20 = .ok (.getfield 110, 3) := dk_180 0 110 (dk_at dksX1_undo_0 20 rfl rfl)
theorem dX1_undo_23 : decode cX1_undo 23 = .ok (.invokevirtual 482, 3) := dk_182 1 226 (dk_at dksX1_undo_1 0 rfl rfl)
theorem dX1_undo_26 : decode cX1_undo 26 = .ok (.checkcast 95, 3) := dk_192 0 95 (dk_at dksX1_undo_1 3 rfl rfl)
theorem dX1_undo_29 : decode cX1_undo 29 = .ok (.putfield 103, 3) := dk_181 0 103 (dk_at dksX1_undo_1 6 rfl rfl)
theorem dX1_undo_32 : decode cX1_undo 32 = .ok (.aload_n 0, 1) := dk_42 (dk_at dksX1_undo_1 9 rfl rfl)
theorem dX1_undo_33 : decode cX1_undo 33 = .ok (.getfield 110, 3) := dk_180 0 110 (dk_at dksX1_undo_1 10 rfl rfl)
theorem dX1_undo_36 : decode cX1_undo 36 = .ok (.invokevirtual 147, 3) := dk_182 0 147 (dk_at dksX1_undo_1 13 rfl rfl)
theorem dX1_undo_39 : decode cX1_undo 39 = .ok (.ireturn, 1) := dk_172 (dk_at dksX1_undo_1 16 rfl rfl)
def dkwX1_writeTrip_5 : List UInt8 := [182, 1, 239, 172]
abbrev dktX1_writeTrip_5 : List UInt8 := dkwX1_writeTrip_5 ++ []
def dkwX1_writeTrip_4 : List UInt8 := [182, 1, 236, 87, 132, 3, 1, 167, 255, 225, 42, 180, 0, 125, 16, 10, 182, 0, 191, 87, 42, 180, 0, 125]
abbrev dktX1_writeTrip_4 : List UInt8 := dkwX1_writeTrip_4 ++ dktX1_writeTrip_5
def dkwX1_writeTrip_3 : List UInt8 := [180, 1, 205, 190, 162, 0, 28, 42, 180, 0, 125, 16, 32, 182, 0, 191, 44, 180, 1, 205, 29, 46]
abbrev dktX1_writeTrip_3 : List UInt8 := dkwX1_writeTrip_3 ++ dktX1_writeTrip_4
def dkwX1_writeTrip_2 : List UInt8 := [44, 180, 1, 198, 182, 1, 236, 16, 32, 182, 0, 191, 44, 180, 1, 200, 182, 1, 236, 87, 3, 62, 29, 44]
abbrev dktX1_writeTrip_2 : List UInt8 := dkwX1_writeTrip_2 ++ dktX1_writeTrip_3
def dkwX1_writeTrip_1 : List UInt8 := [180, 0, 205, 180, 1, 232, 44, 180, 1, 199, 182, 0, 245, 192, 0, 17, 182, 1, 233, 16, 32, 182, 0, 191]
abbrev dktX1_writeTrip_1 : List UInt8 := dkwX1_writeTrip_1 ++ dktX1_writeTrip_2
def dkwX1_writeTrip_0 : List UInt8 := [42, 27, 182, 1, 194, 77, 42, 180, 0, 125, 3, 182, 1, 229, 42, 180, 0, 125, 42, 180, 0, 103]
abbrev dktX1_writeTrip_0 : List UInt8 := dkwX1_writeTrip_0 ++ dktX1_writeTrip_1
theorem dksX1_writeTrip_0 : cX1_writeTrip.data.toList.drop 0 = dktX1_writeTrip_0 := by decide +kernel
theorem dksX1_writeTrip_1 : cX1_writeTrip.data.toList.drop 22 = dktX1_writeTrip_1 := dk_seg dksX1_writeTrip_0 22 rfl rfl
theorem dksX1_writeTrip_2 : cX1_writeTrip.data.toList.drop 46 = dktX1_writeTrip_2 := dk_seg dksX1_writeTrip_1 24 rfl rfl
theorem dksX1_writeTrip_3 : cX1_writeTrip.data.toList.drop 70 = dktX1_writeTrip_3 := dk_seg dksX1_writeTrip_2 24 rfl rfl
theorem dksX1_writeTrip_4 : cX1_writeTrip.data.toList.drop 92 = dktX1_writeTrip_4 := dk_seg dksX1_writeTrip_3 22 rfl rfl
theorem dksX1_writeTrip_5 : cX1_writeTrip.data.toList.drop 116 = dktX1_writeTrip_5 := dk_seg dksX1_writeTrip_4 24 rfl rfl
theorem dX1_writeTrip_0 : decode cX1_writeTrip 0 = .ok (.aload_n 0, 1) := dk_42 (dk_at dksX1_writeTrip_0 0 rfl rfl)
theorem dX1_writeTrip_1 : decode cX1_writeTrip 1 = .ok (.iload_n 1, 1) := dk_27 (dk_at dksX1_writeTrip_0 1 rfl rfl)
theorem dX1_writeTrip_2 : decode cX1_writeTrip 2 = .ok (.invokevirtual 450, 3) := dk_182 1 194 (dk_at dksX1_writeTrip_0 2 rfl rfl)
theorem dX1_writeTrip_5 : decode cX1_writeTrip 5 = .ok (.astore_n 2, 1) := dk_77 (dk_at dksX1_writeTrip_0 5 rfl rfl)
theorem dX1_writeTrip_6 : decode cX1_writeTrip 6 = .ok (.aload_n 0, 1) := dk_42 (dk_at dksX1_writeTrip_0 6 rfl rfl)
theorem dX1_writeTrip_7 : decode cX1_writeTrip 7 = .ok (.getfield 125, 3) := dk_180 0 125 (dk_at dksX1_writeTrip_0 7 rfl rfl)
theorem dX1_writeTrip_10 : decode cX1_writeTrip 10 = .ok (.iconst 0, 1) := dk_3 (dk_at dksX1_writeTrip_0 10 rfl rfl)
theorem dX1_writeTrip_11 : decode cX1_writeTrip 11 = .ok (.invokevirtual 485, 3) := dk_182 1 229 (dk_at dksX1_writeTrip_0 11 rfl rfl)
theorem dX1_writeTrip_14 : decode cX1_writeTrip 14 = .ok (.aload_n 0, 1) := dk_42 (dk_at dksX1_writeTrip_0 14 rfl rfl)
theorem dX1_writeTrip_15 : decode cX1_writeTrip 15 = .ok (.getfield 125, 3) := dk_180 0 125 (dk_at dksX1_writeTrip_0 15 rfl rfl)
theorem dX1_writeTrip_18 : decode cX1_writeTrip 18 = .ok (.aload_n 0, 1) := dk_42 (dk_at dksX1_writeTrip_0 18 rfl rfl)
theorem dX1_writeTrip_19 : decode cX1_writeTrip 19 = .ok (.getfield 103, 3) := dk_180 0 103 (dk_at dksX1_writeTrip_0 19 rfl rfl)
theorem dX1_writeTrip_22 : decode cX1_writeTrip 22 = .ok (.getfield 205, 3) := dk_180 0 205 (dk_at dksX1_writeTrip_1 0 rfl rfl)
theorem dX1_writeTrip_25 : decode cX1_writeTrip 25 = .ok (.getfield 488, 3) := dk_180 1 232 (dk_at dksX1_writeTrip_1 3 rfl rfl)
theorem dX1_writeTrip_28 : decode cX1_writeTrip 28 = .ok (.aload_n 2, 1) := dk_44 (dk_at dksX1_writeTrip_1 6 rfl rfl)
theorem dX1_writeTrip_29 : decode cX1_writeTrip 29 = .ok (.getfield 455, 3) := dk_180 1 199 (dk_at dksX1_writeTrip_1 7 rfl rfl)
theorem dX1_writeTrip_32 : decode cX1_writeTrip 32 = .ok (.invokevirtual 245, 3) := dk_182 0 245 (dk_at dksX1_writeTrip_1 10 rfl rfl)
theorem dX1_writeTrip_35 : decode cX1_writeTrip 35 = .ok (.checkcast 17, 3) := dk_192 0 17 (dk_at dksX1_writeTrip_1 13 rfl rfl)
theorem dX1_writeTrip_38 : decode cX1_writeTrip 38 = .ok (.invokevirtual 489, 3) := dk_182 1 233 (dk_at dksX1_writeTrip_1 16 rfl rfl)
theorem dX1_writeTrip_41 : decode cX1_writeTrip 41 = .ok (.bipush 32, 2) := dk_16 32 (dk_at dksX1_writeTrip_1 19 rfl rfl)
theorem dX1_writeTrip_43 : decode cX1_writeTrip 43 = .ok (.invokevirtual 191, 3) := dk_182 0 191 (dk_at dksX1_writeTrip_1 21 rfl rfl)
theorem dX1_writeTrip_46 : decode cX1_writeTrip 46 = .ok (.aload_n 2, 1) := dk_44 (dk_at dksX1_writeTrip_2 0 rfl rfl)
theorem dX1_writeTrip_47 : decode cX1_writeTrip 47 = .ok (.getfield 454, 3) := dk_180 1 198 (dk_at dksX1_writeTrip_2 1 rfl rfl)
theorem dX1_writeTrip_50 : decode cX1_writeTrip 50 = .ok (.invokevirtual 492, 3) := dk_182 1 236 (dk_at dksX1_writeTrip_2 4 rfl rfl)
theorem dX1_writeTrip_53 : decode cX1_writeTrip 53 = .ok (.bipush 32, 2) := dk_16 32 (dk_at dksX1_writeTrip_2 7 rfl rfl)
theorem dX1_writeTrip_55 : decode cX1_writeTrip 55 = .ok (.invokevirtual 191, 3) := dk_182 0 191 (dk_at dksX1_writeTrip_2 9 rfl rfl)
theorem dX1_writeTrip_58 : decode cX1_writeTrip 58 = .ok (.aload_n 2, 1) := dk_44 (dk_at dksX1_writeTrip_2 12 rfl rfl)
theorem dX1_writeTrip_59 : decode cX1_writeTrip 59 = .ok (.getfield 456, 3) := dk_180 1 200 (dk_at dksX1_writeTrip_2 13 rfl rfl)
theorem dX1_writeTrip_62 : decode cX1_writeTrip 62 = .ok (.invokevirtual 492, 3) := dk_182 1 236 (dk_at dksX1_writeTrip_2 16 rfl rfl)
theorem dX1_writeTrip_65 : decode cX1_writeTrip 65 = .ok (.pop, 1) := dk_87 (dk_at dksX1_writeTrip_2 19 rfl rfl)
theorem dX1_writeTrip_66 : decode cX1_writeTrip 66 = .ok (.iconst 0, 1) := dk_3 (dk_at dksX1_writeTrip_2 20 rfl rfl)
theorem dX1_writeTrip_67 : decode cX1_writeTrip 67 = .ok (.istore_n 3, 1) := dk_62 (dk_at dksX1_writeTrip_2 21 rfl rfl)
theorem dX1_writeTrip_68 : decode cX1_writeTrip 68 = .ok (.iload_n 3, 1) := dk_29 (dk_at dksX1_writeTrip_2 22 rfl rfl)
theorem dX1_writeTrip_69 : decode cX1_writeTrip 69 = .ok (.aload_n 2, 1) := dk_44 (dk_at dksX1_writeTrip_2 23 rfl rfl)
theorem dX1_writeTrip_70 : decode cX1_writeTrip 70 = .ok (.getfield 461, 3) := dk_180 1 205 (dk_at dksX1_writeTrip_3 0 rfl rfl)
theorem dX1_writeTrip_73 : decode cX1_writeTrip 73 = .ok (.arraylength, 1) := dk_190 (dk_at dksX1_writeTrip_3 3 rfl rfl)
theorem dX1_writeTrip_74 : decode cX1_writeTrip 74 = .ok (.if_icmp .ge 28, 3) := dk_162 0 28 (dk_at dksX1_writeTrip_3 4 rfl rfl)
theorem dX1_writeTrip_77 : decode cX1_writeTrip 77 = .ok (.aload_n 0, 1) := dk_42 (dk_at dksX1_writeTrip_3 7 rfl rfl)
theorem dX1_writeTrip_78 : decode cX1_writeTrip 78 = .ok (.getfield 125, 3) := dk_180 0 125 (dk_at dksX1_writeTrip_3 8 rfl rfl)
theorem dX1_writeTrip_81 : decode cX1_writeTrip 81 = .ok (.bipush 32, 2) := dk_16 32 (dk_at dksX1_writeTrip_3 11 rfl rfl)
theorem dX1_writeTrip_83 : decode cX1_writeTrip 83 = .ok (.invokevirtual 191, 3) := dk_182 0 191 (dk_at dksX1_writeTrip_3 13 rfl rfl)
theorem dX1_writeTrip_86 : decode cX1_writeTrip 86 = .ok (.aload_n 2, 1) := dk_44 (dk_at dksX1_writeTrip_3 16 rfl rfl)
theorem dX1_writeTrip_87 : decode cX1_writeTrip 87 = .ok (.getfield 461, 3) := dk_180 1 205 (dk_at dksX1_writeTrip_3 17 rfl rfl)
theorem dX1_writeTrip_90 : decode cX1_writeTrip 90 = .ok (.iload_n 3, 1) := dk_29 (dk_at dksX1_writeTrip_3 20 rfl rfl)
theorem dX1_writeTrip_91 : decode cX1_writeTrip 91 = .ok (.iaload, 1) := dk_46 (dk_at dksX1_writeTrip_3 21 rfl rfl)
theorem dX1_writeTrip_92 : decode cX1_writeTrip 92 = .ok (.invokevirtual 492, 3) := dk_182 1 236 (dk_at dksX1_writeTrip_4 0 rfl rfl)
theorem dX1_writeTrip_95 : decode cX1_writeTrip 95 = .ok (.pop, 1) := dk_87 (dk_at dksX1_writeTrip_4 3 rfl rfl)
theorem dX1_writeTrip_96 : decode cX1_writeTrip 96 = .ok (.iinc 3 1, 3) := dk_132 3 1 (dk_at dksX1_writeTrip_4 4 rfl rfl)
theorem dX1_writeTrip_99 : decode cX1_writeTrip 99 = .ok (.goto (-31), 3) := dk_167 255 225 (dk_at dksX1_writeTrip_4 7 rfl rfl)
theorem dX1_writeTrip_102 : decode cX1_writeTrip 102 = .ok (.aload_n 0, 1) := dk_42 (dk_at dksX1_writeTrip_4 10 rfl rfl)
theorem dX1_writeTrip_103 : decode cX1_writeTrip 103 = .ok (.getfield 125, 3) := dk_180 0 125 (dk_at dksX1_writeTrip_4 11 rfl rfl)
theorem dX1_writeTrip_106 : decode cX1_writeTrip 106 = .ok (.bipush 10, 2) := dk_16 10 (dk_at dksX1_writeTrip_4 14 rfl rfl)
theorem dX1_writeTrip_108 : decode cX1_writeTrip 108 = .ok (.invokevirtual 191, 3) := dk_182 0 191 (dk_at dksX1_writeTrip_4 16 rfl rfl)
theorem dX1_writeTrip_111 : decode cX1_writeTrip 111 = .ok (.pop, 1) := dk_87 (dk_at dksX1_writeTrip_4 19 rfl rfl)
theorem dX1_writeTrip_112 : decode cX1_writeTrip 112 = .ok (.aload_n 0, 1) := dk_42 (dk_at dksX1_writeTrip_4 20 rfl rfl)
theorem dX1_writeTrip_113 : decode cX1_writeTrip 113 = .ok (.getfield 125, 3) := dk_180 0 125 (dk_at dksX1_writeTrip_4 21 rfl rfl)
theorem dX1_writeTrip_116 : decode cX1_writeTrip 116 = .ok (.invokevirtual 495, 3) := dk_182 1 239 (dk_at dksX1_writeTrip_5 0 rfl rfl)
theorem dX1_writeTrip_119 : decode cX1_writeTrip 119 = .ok (.ireturn, 1) := dk_172 (dk_at dksX1_writeTrip_5 3 rfl rfl)
def dkwX1_outputByte_1 : List UInt8 := [182, 1, 240, 172]
abbrev dktX1_outputByte_1 : List UInt8 := dkwX1_outputByte_1 ++ []
def dkwX1_outputByte_0 : List UInt8 := [27, 133, 9, 42, 180, 0, 125, 182, 1, 239, 4, 100, 133, 184, 0, 140, 184, 0, 242, 42, 180, 0, 125, 27]
abbrev dktX1_outputByte_0 : List UInt8 := dkwX1_outputByte_0 ++ dktX1_outputByte_1
theorem dksX1_outputByte_0 : cX1_outputByte.data.toList.drop 0 = dktX1_outputByte_0 := by decide +kernel
theorem dksX1_outputByte_1 : cX1_outputByte.data.toList.drop 24 = dktX1_outputByte_1 := dk_seg dksX1_outputByte_0 24 rfl rfl
theorem dX1_outputByte_0 : decode cX1_outputByte 0 = .ok (.iload_n 1, 1) := dk_27 (dk_at dksX1_outputByte_0 0 rfl rfl)
theorem dX1_outputByte_1 : decode cX1_outputByte 1 = .ok (.i2l, 1) := dk_133 (dk_at dksX1_outputByte_0 1 rfl rfl)
theorem dX1_outputByte_2 : decode cX1_outputByte 2 = .ok (.lconst 0, 1) := dk_9 (dk_at dksX1_outputByte_0 2 rfl rfl)
theorem dX1_outputByte_3 : decode cX1_outputByte 3 = .ok (.aload_n 0, 1) := dk_42 (dk_at dksX1_outputByte_0 3 rfl rfl)
theorem dX1_outputByte_4 : decode cX1_outputByte 4 = .ok (.getfield 125, 3) := dk_180 0 125 (dk_at dksX1_outputByte_0 4 rfl rfl)
theorem dX1_outputByte_7 : decode cX1_outputByte 7 = .ok (.invokevirtual 495, 3) := dk_182 1 239 (dk_at dksX1_outputByte_0 7 rfl rfl)
theorem dX1_outputByte_10 : decode cX1_outputByte 10 = .ok (.iconst 1, 1) := dk_4 (dk_at dksX1_outputByte_0 10 rfl rfl)
theorem dX1_outputByte_11 : decode cX1_outputByte 11 = .ok (.isub, 1) := dk_100 (dk_at dksX1_outputByte_0 11 rfl rfl)
theorem dX1_outputByte_12 : decode cX1_outputByte 12 = .ok (.i2l, 1) := dk_133 (dk_at dksX1_outputByte_0 12 rfl rfl)
theorem dX1_outputByte_13 : decode cX1_outputByte 13 = .ok (.invokestatic 140, 3) := dk_184 0 140 (dk_at dksX1_outputByte_0 13 rfl rfl)
theorem dX1_outputByte_16 : decode cX1_outputByte 16 = .ok (.invokestatic 242, 3) := dk_184 0 242 (dk_at dksX1_outputByte_0 16 rfl rfl)
theorem dX1_outputByte_19 : decode cX1_outputByte 19 = .ok (.aload_n 0, 1) := dk_42 (dk_at dksX1_outputByte_0 19 rfl rfl)
theorem dX1_outputByte_20 : decode cX1_outputByte 20 = .ok (.getfield 125, 3) := dk_180 0 125 (dk_at dksX1_outputByte_0 20 rfl rfl)
theorem dX1_outputByte_23 : decode cX1_outputByte 23 = .ok (.iload_n 1, 1) := dk_27 (dk_at dksX1_outputByte_0 23 rfl rfl)
theorem dX1_outputByte_24 : decode cX1_outputByte 24 = .ok (.invokevirtual 496, 3) := dk_182 1 240 (dk_at dksX1_outputByte_1 0 rfl rfl)
theorem dX1_outputByte_27 : decode cX1_outputByte 27 = .ok (.ireturn, 1) := dk_172 (dk_at dksX1_outputByte_1 3 rfl rfl)
def dkwX2_init_7 : List UInt8 := [42, 180, 0, 37, 28, 4, 84, 132, 2, 1, 167, 255, 240, 177]
abbrev dktX2_init_7 : List UInt8 := dkwX2_init_7 ++ []
def dkwX2_init_6 : List UInt8 := [180, 0, 88, 183, 0, 91, 182, 0, 92, 87, 132, 2, 1, 167, 255, 223, 3, 61, 28, 16, 12, 162, 0, 16]
abbrev dktX2_init_6 : List UInt8 := dkwX2_init_6 ++ dktX2_init_7
def dkwX2_init_5 : List UInt8 := [3, 61, 28, 43, 180, 0, 81, 182, 0, 82, 162, 0, 28, 42, 180, 0, 14, 187, 0, 86, 89, 43]
abbrev dktX2_init_5 : List UInt8 := dkwX2_init_5 ++ dktX2_init_6
def dkwX2_init_4 : List UInt8 := [181, 0, 62, 42, 43, 181, 0, 66, 42, 43, 180, 0, 70, 181, 0, 76, 42, 43, 180, 0, 77, 181, 0, 80]
abbrev dktX2_init_4 : List UInt8 := dkwX2_init_4 ++ dktX2_init_5
def dkwX2_init_3 : List UInt8 := [16, 12, 188, 10, 181, 0, 45, 42, 16, 12, 188, 6, 181, 0, 48, 42, 184, 0, 52, 181, 0, 58, 42, 10]
abbrev dktX2_init_3 : List UInt8 := dkwX2_init_3 ++ dktX2_init_4
def dkwX2_init_2 : List UInt8 := [183, 0, 32, 181, 0, 33, 42, 16, 12, 188, 4, 181, 0, 37, 42, 16, 6, 188, 10, 181, 0, 41, 42]
abbrev dktX2_init_2 : List UInt8 := dkwX2_init_2 ++ dktX2_init_3
def dkwX2_init_1 : List UInt8 := [183, 0, 11, 181, 0, 20, 42, 187, 0, 23, 89, 183, 0, 25, 181, 0, 26, 42, 187, 0, 30, 89]
abbrev dktX2_init_1 : List UInt8 := dkwX2_init_1 ++ dktX2_init_2
def dkwX2_init_0 : List UInt8 := [42, 183, 0, 3, 42, 187, 0, 9, 89, 5, 183, 0, 11, 181, 0, 14, 42, 187, 0, 9, 89, 5]
abbrev dktX2_init_0 : List UInt8 := dkwX2_init_0 ++ dktX2_init_1
theorem dksX2_init_0 : cX2_init.data.toList.drop 0 = dktX2_init_0 := by decide +kernel
theorem dksX2_init_1 : cX2_init.data.toList.drop 22 = dktX2_init_1 := dk_seg dksX2_init_0 22 rfl rfl
theorem dksX2_init_2 : cX2_init.data.toList.drop 44 = dktX2_init_2 := dk_seg dksX2_init_1 22 rfl rfl
theorem dksX2_init_3 : cX2_init.data.toList.drop 67 = dktX2_init_3 := dk_seg dksX2_init_2 23 rfl rfl
theorem dksX2_init_4 : cX2_init.data.toList.drop 91 = dktX2_init_4 := dk_seg dksX2_init_3 24 rfl rfl
theorem dksX2_init_5 : cX2_init.data.toList.drop 115 = dktX2_init_5 := dk_seg dksX2_init_4 24 rfl rfl
theorem dksX2_init_6 : cX2_init.data.toList.drop 137 = dktX2_init_6 := dk_seg dksX2_init_5 22 rfl rfl
theorem dksX2_init_7 : cX2_init.data.toList.drop 161 = dktX2_init_7 := dk_seg dksX2_init_6 24 rfl rfl
theorem dX2_init_0 : decode cX2_init 0 = .ok (.aload_n 0, 1) := dk_42 (dk_at dksX2_init_0 0 rfl rfl)
theorem dX2_init_1 : decode cX2_init 1 = .ok (.invokespecial 3, 3) := dk_183 0 3 (dk_at dksX2_init_0 1 rfl rfl)
theorem dX2_init_4 : decode cX2_init 4 = .ok (.aload_n 0, 1) := dk_42 (dk_at dksX2_init_0 4 rfl rfl)
theorem dX2_init_5 : decode cX2_init 5 = .ok (.new 9, 3) := dk_187 0 9 (dk_at dksX2_init_0 5 rfl rfl)
theorem dX2_init_8 : decode cX2_init 8 = .ok (.dup, 1) := dk_89 (dk_at dksX2_init_0 8 rfl rfl)
theorem dX2_init_9 : decode cX2_init 9 = .ok (.iconst 2, 1) := dk_5 (dk_at dksX2_init_0 9 rfl rfl)
theorem dX2_init_10 : decode cX2_init 10 = .ok (.invokespecial 11, 3) := dk_183 0 11 (dk_at dksX2_init_0 10 rfl rfl)
theorem dX2_init_13 : decode cX2_init 13 = .ok (.putfield 14, 3) := dk_181 0 14 (dk_at dksX2_init_0 13 rfl rfl)
theorem dX2_init_16 : decode cX2_init 16 = .ok (.aload_n 0, 1) := dk_42 (dk_at dksX2_init_0 16 rfl rfl)
theorem dX2_init_17 : decode cX2_init 17 = .ok (.new 9, 3) := dk_187 0 9 (dk_at dksX2_init_0 17 rfl rfl)
theorem dX2_init_20 : decode cX2_init 20 = .ok (.dup, 1) := dk_89 (dk_at dksX2_init_0 20 rfl rfl)
theorem dX2_init_21 : decode cX2_init 21 = .ok (.iconst 2, 1) := dk_5 (dk_at dksX2_init_0 21 rfl rfl)
theorem dX2_init_22 : decode cX2_init 22 = .ok (.invokespecial 11, 3) := dk_183 0 11 (dk_at dksX2_init_1 0 rfl rfl)
theorem dX2_init_25 : decode cX2_init 25 = .ok (.putfield 20, 3) := dk_181 0 20 (dk_at dksX2_init_1 3 rfl rfl)
theorem dX2_init_28 : decode cX2_init 28 = .ok (.aload_n 0, 1) := dk_42 (dk_at dksX2_init_1 6 rfl rfl)
theorem dX2_init_29 : decode cX2_init 29 = .ok (.new 23, 3) := dk_187 0 23 (dk_at dksX2_init_1 7 rfl rfl)
theorem dX2_init_32 : decode cX2_init 32 = .ok (.dup, 1) := dk_89 (dk_at dksX2_init_1 10 rfl rfl)
theorem dX2_init_33 : decode cX2_init 33 = .ok (.invokespecial 25, 3) := dk_183 0 25 (dk_at dksX2_init_1 11 rfl rfl)
theorem dX2_init_36 : decode cX2_init 36 = .ok (.putfield 26, 3) := dk_181 0 26 (dk_at dksX2_init_1 14 rfl rfl)
theorem dX2_init_39 : decode cX2_init 39 = .ok (.aload_n 0, 1) := dk_42 (dk_at dksX2_init_1 17 rfl rfl)
theorem dX2_init_40 : decode cX2_init 40 = .ok (.new 30, 3) := dk_187 0 30 (dk_at dksX2_init_1 18 rfl rfl)
theorem dX2_init_43 : decode cX2_init 43 = .ok (.dup, 1) := dk_89 (dk_at dksX2_init_1 21 rfl rfl)
theorem dX2_init_44 : decode cX2_init 44 = .ok (.invokespecial 32, 3) := dk_183 0 32 (dk_at dksX2_init_2 0 rfl rfl)
theorem dX2_init_47 : decode cX2_init 47 = .ok (.putfield 33, 3) := dk_181 0 33 (dk_at dksX2_init_2 3 rfl rfl)
theorem dX2_init_50 : decode cX2_init 50 = .ok (.aload_n 0, 1) := dk_42 (dk_at dksX2_init_2 6 rfl rfl)
theorem dX2_init_51 : decode cX2_init 51 = .ok (.bipush 12, 2) := dk_16 12 (dk_at dksX2_init_2 7 rfl rfl)
theorem dX2_init_53 : decode cX2_init 53 = .ok (.newarray .boolean, 2) := dk_188_4 (dk_at dksX2_init_2 9 rfl rfl)
theorem dX2_init_55 : decode cX2_init 55 = .ok (.putfield 37, 3) := dk_181 0 37 (dk_at dksX2_init_2 11 rfl rfl)
theorem dX2_init_58 : decode cX2_init 58 = .ok (.aload_n 0, 1) := dk_42 (dk_at dksX2_init_2 14 rfl rfl)
theorem dX2_init_59 : decode cX2_init 59 = .ok (.bipush 6, 2) := dk_16 6 (dk_at dksX2_init_2 15 rfl rfl)
theorem dX2_init_61 : decode cX2_init 61 = .ok (.newarray .int, 2) := dk_188_10 (dk_at dksX2_init_2 17 rfl rfl)
theorem dX2_init_63 : decode cX2_init 63 = .ok (.putfield 41, 3) := dk_181 0 41 (dk_at dksX2_init_2 19 rfl rfl)
theorem dX2_init_66 : decode cX2_init 66 = .ok (.aload_n 0, 1) := dk_42 (dk_at dksX2_init_2 22 rfl rfl)
theorem dX2_init_67 : decode cX2_init 67 = .ok (.bipush 12, 2) := dk_16 12 (dk_at dksX2_init_3 0 rfl rfl)
theorem dX2_init_69 : decode cX2_init 69 = .ok (.newarray .int, 2) := dk_188_10 (dk_at dksX2_init_3 2 rfl rfl)
theorem dX2_init_71 : decode cX2_init 71 = .ok (.putfield 45, 3) := dk_181 0 45 (dk_at dksX2_init_3 4 rfl rfl)
theorem dX2_init_74 : decode cX2_init 74 = .ok (.aload_n 0, 1) := dk_42 (dk_at dksX2_init_3 7 rfl rfl)
theorem dX2_init_75 : decode cX2_init 75 = .ok (.bipush 12, 2) := dk_16 12 (dk_at dksX2_init_3 8 rfl rfl)
theorem dX2_init_77 : decode cX2_init 77 = .ok (.newarray .float, 2) := dk_188_6 (dk_at dksX2_init_3 10 rfl rfl)
theorem dX2_init_79 : decode cX2_init 79 = .ok (.putfield 48, 3) := dk_181 0 48 (dk_at dksX2_init_3 12 rfl rfl)
theorem dX2_init_82 : decode cX2_init 82 = .ok (.aload_n 0, 1) := dk_42 (dk_at dksX2_init_3 15 rfl rfl)
theorem dX2_init_83 : decode cX2_init 83 = .ok (.invokestatic 52, 3) := dk_184 0 52 (dk_at dksX2_init_3 16 rfl rfl)
theorem dX2_init_86 : decode cX2_init 86 = .ok (.putfield 58, 3) := dk_181 0 58 (dk_at dksX2_init_3 19 rfl rfl)
theorem dX2_init_89 : decode cX2_init 89 = .ok (.aload_n 0, 1) := dk_42 (dk_at dksX2_init_3 22 rfl rfl)
theorem dX2_init_90 : decode cX2_init 90 = .ok (.lconst 1, 1) := dk_10 (dk_at dksX2_init_3 23 rfl rfl)
theorem dX2_init_91 : decode cX2_init 91 = .ok (.putfield 62, 3) := dk_181 0 62 (dk_at dksX2_init_4 0 rfl rfl)
theorem dX2_init_94 : decode cX2_init 94 = .ok (.aload_n 0, 1) := dk_42 (dk_at dksX2_init_4 3 rfl rfl)
theorem dX2_init_95 : decode cX2_init 95 = .ok (.aload_n 1, 1) := dk_43 (dk_at dksX2_init_4 4 rfl rfl)
theorem dX2_init_96 : decode cX2_init 96 = .ok (.putfield 66, 3) := dk_181 0 66 (dk_at dksX2_init_4 5 rfl rfl)
theorem dX2_init_99 : decode cX2_init 99 = .ok (.aload_n 0, 1) := dk_42 (dk_at dksX2_init_4 8 rfl rfl)
theorem dX2_init_100 : decode cX2_init 100 = .ok (.aload_n 1, 1) := dk_43 (dk_at dksX2_init_4 9 rfl rfl)
theorem dX2_init_101 : decode cX2_init 101 = .ok (.getfield 70, 3) := dk_180 0 70 (dk_at dksX2_init_4 10 rfl rfl)
theorem dX2_init_104 : decode cX2_init 104 = .ok (.putfield 76, 3) := dk_181 0 76 (dk_at dksX2_init_4 13 rfl rfl)
theorem dX2_init_107 : decode cX2_init 107 = .ok (.aload_n 0, 1) := dk_42 (dk_at dksX2_init_4 16 rfl rfl)
theorem dX2_init_108 : decode cX2_init 108 = .ok (.aload_n 1, 1) := dk_43 (dk_at dksX2_init_4 17 rfl rfl)
theorem dX2_init_109 : decode cX2_init 109 = .ok (.getfield 77, 3) := dk_180 0 77 (dk_at dksX2_init_4 18 rfl rfl)
theorem dX2_init_112 : decode cX2_init 112 = .ok (.putfield 80, 3) := dk_181 0 80 (dk_at dksX2_init_4 21 rfl rfl)
theorem dX2_init_115 : decode cX2_init 115 = .ok (.iconst 0, 1) := dk_3 (dk_at dksX2_init_5 0 rfl rfl)
theorem dX2_init_116 : decode cX2_init 116 = .ok (.istore_n 2, 1) := dk_61 (dk_at dksX2_init_5 1 rfl rfl)
theorem dX2_init_117 : decode cX2_init 117 = .ok (.iload_n 2, 1) := dk_28 (dk_at dksX2_init_5 2 rfl rfl)
theorem dX2_init_118 : decode cX2_init 118 = .ok (.aload_n 1, 1) := dk_43 (dk_at dksX2_init_5 3 rfl rfl)
theorem dX2_init_119 : decode cX2_init 119 = .ok (.getfield 81, 3) := dk_180 0 81 (dk_at dksX2_init_5 4 rfl rfl)
theorem dX2_init_122 : decode cX2_init 122 = .ok (.invokevirtual 82, 3) := dk_182 0 82 (dk_at dksX2_init_5 7 rfl rfl)
theorem dX2_init_125 : decode cX2_init 125 = .ok (.if_icmp .ge 28, 3) := dk_162 0 28 (dk_at dksX2_init_5 10 rfl rfl)
theorem dX2_init_128 : decode cX2_init 128 = .ok (.aload_n 0, 1) := dk_42 (dk_at dksX2_init_5 13 rfl rfl)
theorem dX2_init_129 : decode cX2_init 129 = .ok (.getfield 14, 3) := dk_180 0 14 (dk_at dksX2_init_5 14 rfl rfl)
theorem dX2_init_132 : decode cX2_init 132 = .ok (.new 86, 3) := dk_187 0 86 (dk_at dksX2_init_5 17 rfl rfl)
theorem dX2_init_135 : decode cX2_init 135 = .ok (.dup, 1) := dk_89 (dk_at dksX2_init_5 20 rfl rfl)
theorem dX2_init_136 : decode cX2_init 136 = .ok (.aload_n 1, 1) := dk_43 (dk_at dksX2_init_5 21 rfl rfl)
theorem dX2_init_137 : decode cX2_init 137 = .ok (.getfield 88, 3) := dk_180 0 88 (dk_at dksX2_init_6 0 rfl rfl)
theorem dX2_init_140 : decode cX2_init 140 = .ok (.invokespecial 91, 3) := dk_183 0 91 (dk_at dksX2_init_6 3 rfl rfl)
theorem dX2_init_143 : decode cX2_init 143 = .ok (.invokevirtual 92, 3) := dk_182 0 92 (dk_at dksX2_init_6 6 rfl rfl)
theorem dX2_init_146 : decode cX2_init 146 = .ok (.pop, 1) := dk_87 (dk_at dksX2_init_6 9 rfl rfl)
theorem dX2_init_147 : decode cX2_init 147 = .ok (.iinc 2 1, 3) := dk_132 2 1 (dk_at dksX2_init_6 10 rfl rfl)
theorem dX2_init_150 : decode cX2_init 150 = .ok (.goto (-33), 3) := dk_167 255 223 (dk_at dksX2_init_6 13 rfl rfl)
theorem dX2_init_153 : decode cX2_init 153 = .ok (.iconst 0, 1) := dk_3 (dk_at dksX2_init_6 16 rfl rfl)
theorem dX2_init_154 : decode cX2_init 154 = .ok (.istore_n 2, 1) := dk_61 (dk_at dksX2_init_6 17 rfl rfl)
theorem dX2_init_155 : decode cX2_init 155 = .ok (.iload_n 2, 1) := dk_28 (dk_at dksX2_init_6 18 rfl rfl)
theorem dX2_init_156 : decode cX2_init 156 = .ok (.bipush 12, 2) := dk_16 12 (dk_at dksX2_init_6 19 rfl rfl)
theorem dX2_init_158 : decode cX2_init 158 = .ok (.if_icmp .ge 16, 3) := dk_162 0 16 (dk_at dksX2_init_6 21 rfl rfl)
theorem dX2_init_161 : decode cX2_init 161 = .ok (.aload_n 0, 1) := dk_42 (dk_at dksX2_init_7 0 rfl rfl)
theorem dX2_init_162 : decode cX2_init 162 = .ok (.getfield 37, 3) := dk_180 0 37 (dk_at dksX2_init_7 1 rfl rfl)
theorem dX2_init_165 : decode cX2_init 165 = .ok (.iload_n 2, 1) := dk_28 (dk_at dksX2_init_7 4 rfl rfl)
theorem dX2_init_166 : decode cX2_init 166 = .ok (.iconst 1, 1) := dk_4 (dk_at dksX2_init_7 5 rfl rfl)
theorem dX2_init_167 : decode cX2_init 167 = .ok (.bastore, 1) := dk_84 (dk_at dksX2_init_7 6 rfl rfl)
theorem dX2_init_168 : decode cX2_init 168 = .ok (.iinc 2 1, 3) := dk_132 2 1 (dk_at dksX2_init_7 7 rfl rfl)
theorem dX2_init_171 : decode cX2_init 171 = .ok (.goto (-16), 3) := dk_167 255 240 (dk_at dksX2_init_7 10 rfl rfl)
theorem dX2_init_174 : decode cX2_init 174 = .ok (.return_, 1) := dk_177 (dk_at dksX2_init_7 13 rfl rfl)
def dkwX2_find_3 : List UInt8 := [182, 1, 67, 2, 160, 0, 7, 2, 167, 0, 12, 17, 1, 44, 42, 43, 182, 1, 67, 96, 172]
abbrev dktX2_find_3 : List UInt8 := dkwX2_find_3 ++ []
def dkwX2_find_2 : List UInt8 := [182, 1, 64, 2, 159, 0, 16, 17, 0, 200, 42, 180, 0, 66, 43, 182, 1, 64, 96, 172, 42, 43]
abbrev dktX2_find_2 : List UInt8 := dkwX2_find_2 ++ dktX2_find_3
def dkwX2_find_1 : List UInt8 := [182, 1, 60, 2, 159, 0, 15, 16, 100, 42, 180, 0, 66, 43, 182, 1, 60, 96, 172, 42, 180, 0, 66, 43]
abbrev dktX2_find_1 : List UInt8 := dkwX2_find_1 ++ dktX2_find_2
def dkwX2_find_0 : List UInt8 := [42, 180, 0, 66, 180, 0, 81, 43, 182, 1, 56, 61, 28, 2, 159, 0, 5, 28, 172, 42, 180, 0, 66, 43]
abbrev dktX2_find_0 : List UInt8 := dkwX2_find_0 ++ dktX2_find_1
theorem dksX2_find_0 : cX2_find.data.toList.drop 0 = dktX2_find_0 := by decide +kernel
theorem dksX2_find_1 : cX2_find.data.toList.drop 24 = dktX2_find_1 := dk_seg dksX2_find_0 24 rfl rfl
theorem dksX2_find_2 : cX2_find.data.toList.drop 48 = dktX2_find_2 := dk_seg dksX2_find_1 24 rfl rfl
theorem dksX2_find_3 : cX2_find.data.toList.drop 70 = dktX2_find_3 := dk_seg dksX2_find_2 22 rfl rfl
theorem dX2_find_0 : decode cX2_find 0 = .ok (.aload_n 0, 1) := dk_42 (dk_at dksX2_find_0 0 rfl rfl)
theorem dX2_find_1 : decode cX2_find 1 = .ok (.getfield 66, 3) := dk_180 0 66 (dk_at dksX2_find_0 1 rfl rfl)
theorem dX2_find_4 : decode cX2_find 4 = .ok (.getfield 81, 3) := dk_180 0 81 (dk_at dksX2_find_0 4 rfl rfl)
theorem dX2_find_7 : decode cX2_find 7 = .ok (.aload_n 1, 1) := dk_43 (dk_at dksX2_find_0 7 rfl rfl)
theorem dX2_find_8 : decode cX2_find 8 = .ok (.invokevirtual 312, 3) := dk_182 1 56 (dk_at dksX2_find_0 8 rfl rfl)
theorem dX2_find_11 : decode cX2_find 11 = .ok (.istore_n 2, 1) := dk_61 (dk_at dksX2_find_0 11 rfl rfl)
theorem dX2_find_12 : decode cX2_find 12 = .ok (.iload_n 2, 1) := dk_28 (dk_at dksX2_find_0 12 rfl rfl)
theorem dX2_find_13 : decode cX2_find 13 = .ok (.iconst (-1), 1) := dk_2 (dk_at dksX2_find_0 13 rfl rfl)
theorem dX2_find_14 : decode cX2_find 14 = .ok (.if_icmp .eq 5, 3) := dk_159 0 5 (dk_at dksX2_find_0 14 rfl rfl)
theorem dX2_find_17 : decode cX2_find 17 = .ok (.iload_n 2, 1) := dk_28 (dk_at dksX2_find_0 17 rfl rfl)
theorem dX2_find_18 : decode cX2_find 18 = .ok (.ireturn, 1) := dk_172 (dk_at dksX2_find_0 18 rfl rfl)
theorem dX2_find_19 : decode cX2_find 19 = .ok (.aload_n 0, 1) := dk_42 (dk_at dksX2_find_0 19 rfl rfl)
theorem dX2_find_20 : decode cX2_find 20 = .ok (.getfield 66, 3) := dk_180 0 66 (dk_at dksX2_find_0 20 rfl rfl)
theorem dX2_find_23 : decode cX2_find 23 = .ok (.aload_n 1, 1) := dk_43 (dk_at dksX2_find_0 23 rfl rfl)
theorem dX2_find_24 : decode cX2_find 24 = .ok (.invokevirtual 316, 3) := dk_182 1 60 (dk_at dksX2_find_1 0 rfl rfl)
theorem dX2_find_27 : decode cX2_find 27 = .ok (.iconst (-1), 1) := dk_2 (dk_at dksX2_find_1 3 rfl rfl)
theorem dX2_find_28 : decode cX2_find 28 = .ok (.if_icmp .eq 15, 3) := dk_159 0 15 (dk_at dksX2_find_1 4 rfl rfl)
theorem dX2_find_31 : decode cX2_find 31 = .ok (.bipush 100, 2) := dk_16 100 (dk_at dksX2_find_1 7 rfl rfl)
theorem dX2_find_33 : decode cX2_find 33 = .ok (.aload_n 0, 1) := dk_42 (dk_at dksX2_find_1 9 rfl rfl)
theorem dX2_find_34 : decode cX2_find 34 = .ok (.getfield 66, 3) := dk_180 0 66 (dk_at dksX2_find_1 10 rfl rfl)
theorem dX2_find_37 : decode cX2_find 37 = .ok (.aload_n 1, 1) := dk_43 (dk_at dksX2_find_1 13 rfl rfl)
theorem dX2_find_38 : decode cX2_find 38 = .ok (.invokevirtual 316, 3) := dk_182 1 60 (dk_at dksX2_find_1 14 rfl rfl)
theorem dX2_find_41 : decode cX2_find 41 = .ok (.iadd, 1) := dk_96 (dk_at dksX2_find_1 17 rfl rfl)
theorem dX2_find_42 : decode cX2_find 42 = .ok (.ireturn, 1) := dk_172 (dk_at dksX2_find_1 18 rfl rfl)
theorem dX2_find_43 : decode cX2_find 43 = .ok (.aload_n 0, 1) := dk_42 (dk_at dksX2_find_1 19 rfl rfl)
theorem dX2_find_44 : decode cX2_find 44 = .ok (.getfield 66, 3) := dk_180 0 66 (dk_at dksX2_find_1 20 rfl rfl)
theorem dX2_find_47 : decode cX2_find 47 = .ok (.aload_n 1, 1) := dk_43 (dk_at dksX2_find_1 23 rfl rfl)
theorem dX2_find_48 : decode cX2_find 48 = .ok (.invokevirtual 320, 3) := dk_182 1 64 (dk_at dksX2_find_2 0 rfl rfl)
theorem dX2_find_51 : decode cX2_find 51 = .ok (.iconst (-1), 1) := dk_2 (dk_at dksX2_find_2 3 rfl rfl)
theorem dX2_find_52 : decode cX2_find 52 = .ok (.if_icmp .eq 16, 3) := dk_159 0 16 (dk_at dksX2_find_2 4 rfl rfl)
theorem dX2_find_55 : decode cX2_find 55 = .ok (.sipush 200, 3) := dk_17 0 200 (dk_at dksX2_find_2 7 rfl rfl)
theorem dX2_find_58 : decode cX2_find 58 = .ok (.aload_n 0, 1) := dk_42 (dk_at dksX2_find_2 10 rfl rfl)
theorem dX2_find_59 : decode cX2_find 59 = .ok (.getfield 66, 3) := dk_180 0 66 (dk_at dksX2_find_2 11 rfl rfl)
theorem dX2_find_62 : decode cX2_find 62 = .ok (.aload_n 1, 1) := dk_43 (dk_at dksX2_find_2 14 rfl rfl)
theorem dX2_find_63 : decode cX2_find 63 = .ok (.invokevirtual 320, 3) := dk_182 1 64 (dk_at dksX2_find_2 15 rfl rfl)
theorem dX2_find_66 : decode cX2_find 66 = .ok (.iadd, 1) := dk_96 (dk_at dksX2_find_2 18 rfl rfl)
theorem dX2_find_67 : decode cX2_find 67 = .ok (.ireturn, 1) := dk_172 (dk_at dksX2_find_2 19 rfl rfl)
theorem dX2_find_68 : decode cX2_find 68 = .ok (.aload_n 0, 1) := dk_42 (dk_at dksX2_find_2 20 rfl rfl)
theorem dX2_find_69 : decode cX2_find 69 = .ok (.aload_n 1, 1) := dk_43 (dk_at dksX2_find_2 21 rfl rfl)
theorem dX2_find_70 : decode cX2_find 70 = .ok (.invokevirtual 323, 3) := dk_182 1 67 (dk_at dksX2_find_3 0 rfl rfl)
theorem dX2_find_73 : decode cX2_find 73 = .ok (.iconst (-1), 1) := dk_2 (dk_at dksX2_find_3 3 rfl rfl)
theorem dX2_find_74 : decode cX2_find 74 = .ok (.if_icmp .ne 7, 3) := dk_160 0 7 (dk_at dksX2_find_3 4 rfl rfl)
theorem dX2_find_77 : decode cX2_find 77 = .ok (.iconst (-1), 1) := dk_2 (dk_at dksX2_find_3 7 rfl rfl)
theorem dX2_find_78 : decode cX2_find 78 = .ok (.goto 12, 3) := dk_167 0 12 (dk_at dksX2_find_3 8 rfl rfl)
theorem dX2_find_81 : decode cX2_find 81 = .ok (.sipush 300, 3) := dk_17 1 44 (dk_at dksX2_find_3 11 rfl rfl)
theorem dX2_find_84 : decode cX2_find 84 = .ok (.aload_n 0, 1) := dk_42 (dk_at dksX2_find_3 14 rfl rfl)
theorem dX2_find_85 : decode cX2_find 85 = .ok (.aload_n 1, 1) := dk_43 (dk_at dksX2_find_3 15 rfl rfl)
theorem dX2_find_86 : decode cX2_find 86 = .ok (.invokevirtual 323, 3) := dk_182 1 67 (dk_at dksX2_find_3 16 rfl rfl)
theorem dX2_find_89 : decode cX2_find 89 = .ok (.iadd, 1) := dk_96 (dk_at dksX2_find_3 19 rfl rfl)
theorem dX2_find_90 : decode cX2_find 90 = .ok (.ireturn, 1) := dk_172 (dk_at dksX2_find_3 20 rfl rfl)
def dkwX2_findNuisance_1 : List UInt8 := [180, 0, 105, 180, 1, 47, 43, 182, 1, 51, 153, 0, 5, 28, 172, 132, 2, 1, 167, 255, 216, 2, 172]
abbrev dktX2_findNuisance_1 : List UInt8 := dkwX2_findNuisance_1 ++ []
def dkwX2_findNuisance_0 : List UInt8 := [3, 61, 28, 42, 180, 0, 20, 182, 0, 82, 162, 0, 35, 42, 180, 0, 20, 28, 182, 0, 96, 192, 0, 103]
abbrev dktX2_findNuisance_0 : List UInt8 := dkwX2_findNuisance_0 ++ dktX2_findNuisance_1
theorem dksX2_findNuisance_0 : cX2_findNuisance.data.toList.drop 0 = dktX2_findNuisance_0 := by decide +kernel
theorem dksX2_findNuisance_1 : cX2_findNuisance.data.toList.drop 24 = dktX2_findNuisance_1 := dk_seg dksX2_findNuisance_0 24 rfl rfl
theorem dX2_findNuisance_0 : decode cX2_findNuisance 0 = .ok (.iconst 0, 1) := dk_3 (dk_at dksX2_findNuisance_0 0 rfl rfl)
theorem dX2_findNuisance_1 : decode cX2_findNuisance 1 = .ok (.istore_n 2, 1) := dk_61 (dk_at dksX2_findNuisance_0 1 rfl rfl)
theorem dX2_findNuisance_2 : decode cX2_findNuisance 2 = .ok (.iload_n 2, 1) := dk_28 (dk_at dksX2_findNuisance_0 2 rfl rfl)
theorem dX2_findNuisance_3 : decode cX2_findNuisance 3 = .ok (.aload_n 0, 1) := dk_42 (dk_at dksX2_findNuisance_0 3 rfl rfl)
theorem dX2_findNuisance_4 : decode cX2_findNuisance 4 = .ok (.getfield 20, 3) := dk_180 0 20 (dk_at dksX2_findNuisance_0 4 rfl rfl)
theorem dX2_findNuisance_7 : decode cX2_findNuisance 7 = .ok (.invokevirtual 82, 3) := dk_182 0 82 (dk_at dksX2_findNuisance_0 7 rfl rfl)
theorem dX2_findNuisance_10 : decode cX2_findNuisance 10 = .ok (.if_icmp .ge 35, 3) := dk_162 0 35 (dk_at dksX2_findNuisance_0 10 rfl rfl)
theorem dX2_findNuisance_13 : decode cX2_findNuisance 13 = .ok (.aload_n 0, 1) := dk_42 (dk_at dksX2_findNuisance_0 13 rfl rfl)
theorem dX2_findNuisance_14 : decode cX2_findNuisance 14 = .ok (.getfield 20, 3) := dk_180 0 20 (dk_at dksX2_findNuisance_0 14 rfl rfl)
theorem dX2_findNuisance_17 : decode cX2_findNuisance 17 = .ok (.iload_n 2, 1) := dk_28 (dk_at dksX2_findNuisance_0 17 rfl rfl)
theorem dX2_findNuisance_18 : decode cX2_findNuisance 18 = .ok (.invokevirtual 96, 3) := dk_182 0 96 (dk_at dksX2_findNuisance_0 18 rfl rfl)
theorem dX2_findNuisance_21 : decode cX2_findNuisance 21 = .ok (.checkcast 103, 3) := dk_192 0 103 (dk_at dksX2_findNuisance_0 21 rfl rfl)
theorem dX2_findNuisance_24 : decode cX2_findNuisance 24 = .ok (.getfield 105, 3) := dk_180 0 105 (dk_at dksX2_findNuisance_1 0 rfl rfl)
theorem dX2_findNuisance_27 : decode cX2_findNuisance 27 = .ok (.getfield 303, 3) := dk_180 1 47 (dk_at dksX2_findNuisance_1 3 rfl rfl)
theorem dX2_findNuisance_30 : decode cX2_findNuisance 30 = .ok (.aload_n 1, 1) := dk_43 (dk_at dksX2_findNuisance_1 6 rfl rfl)
theorem dX2_findNuisance_31 : decode cX2_findNuisance 31 = .ok (.invokevirtual 307, 3) := dk_182 1 51 (dk_at dksX2_findNuisance_1 7 rfl rfl)
theorem dX2_findNuisance_34 : decode cX2_findNuisance 34 = .ok (.ifCond .eq 5, 3) := dk_153 0 5 (dk_at dksX2_findNuisance_1 10 rfl rfl)
theorem dX2_findNuisance_37 : decode cX2_findNuisance 37 = .ok (.iload_n 2, 1) := dk_28 (dk_at dksX2_findNuisance_1 13 rfl rfl)
theorem dX2_findNuisance_38 : decode cX2_findNuisance 38 = .ok (.ireturn, 1) := dk_172 (dk_at dksX2_findNuisance_1 14 rfl rfl)
theorem dX2_findNuisance_39 : decode cX2_findNuisance 39 = .ok (.iinc 2 1, 3) := dk_132 2 1 (dk_at dksX2_findNuisance_1 15 rfl rfl)
theorem dX2_findNuisance_42 : decode cX2_findNuisance 42 = .ok (.goto (-40), 3) := dk_167 255 216 (dk_at dksX2_findNuisance_1 18 rfl rfl)
theorem dX2_findNuisance_45 : decode cX2_findNuisance 45 = .ok (.iconst (-1), 1) := dk_2 (dk_at dksX2_findNuisance_1 21 rfl rfl)
theorem dX2_findNuisance_46 : decode cX2_findNuisance 46 = .ok (.ireturn, 1) := dk_172 (dk_at dksX2_findNuisance_1 22 rfl rfl)
def dkwX2_init_2_15 : List UInt8 := [181, 0, 62, 177]
abbrev dktX2_init_2_15 : List UInt8 := dkwX2_init_2_15 ++ []
def dkwX2_init_2_14 : List UInt8 := [181, 0, 76, 42, 43, 180, 0, 80, 181, 0, 80, 42, 43, 180, 0, 144, 181, 0, 144, 42, 43, 180, 0, 62]
abbrev dktX2_init_2_14 : List UInt8 := dkwX2_init_2_14 ++ dktX2_init_2_15
def dkwX2_init_2_13 : List UInt8 := [184, 0, 138, 43, 180, 0, 41, 3, 42, 180, 0, 41, 3, 16, 6, 184, 0, 138, 42, 43, 180, 0, 76]
abbrev dktX2_init_2_13 : List UInt8 := dkwX2_init_2_13 ++ dktX2_init_2_14
def dkwX2_init_2_12 : List UInt8 := [180, 0, 33, 45, 182, 0, 137, 167, 255, 229, 43, 180, 0, 37, 3, 42, 180, 0, 37, 3, 16, 12]
abbrev dktX2_init_2_12 : List UInt8 := dkwX2_init_2_12 ++ dktX2_init_2_13
def dkwX2_init_2_11 : List UInt8 := [182, 0, 134, 77, 44, 185, 0, 118, 1, 0, 153, 0, 24, 44, 185, 0, 124, 1, 0, 192, 0, 135, 78, 42]
abbrev dktX2_init_2_11 : List UInt8 := dkwX2_init_2_11 ++ dktX2_init_2_12
def dkwX2_init_2_10 : List UInt8 := [185, 0, 124, 1, 0, 192, 0, 128, 78, 42, 180, 0, 26, 45, 182, 0, 130, 167, 255, 229, 43, 180, 0, 33]
abbrev dktX2_init_2_10 : List UInt8 := dkwX2_init_2_10 ++ dktX2_init_2_11
def dkwX2_init_2_9 : List UInt8 := [167, 255, 199, 43, 180, 0, 26, 182, 0, 114, 77, 44, 185, 0, 118, 1, 0, 153, 0, 24, 44]
abbrev dktX2_init_2_9 : List UInt8 := dkwX2_init_2_9 ++ dktX2_init_2_10
def dkwX2_init_2_8 : List UInt8 := [180, 0, 20, 28, 182, 0, 96, 192, 0, 103, 180, 0, 109, 183, 0, 111, 182, 0, 92, 87, 132, 2, 1]
abbrev dktX2_init_2_8 : List UInt8 := dkwX2_init_2_8 ++ dktX2_init_2_9
def dkwX2_init_2_7 : List UInt8 := [180, 0, 20, 187, 0, 103, 89, 43, 180, 0, 20, 28, 182, 0, 96, 192, 0, 103, 180, 0, 105, 43]
abbrev dktX2_init_2_7 : List UInt8 := dkwX2_init_2_7 ++ dktX2_init_2_8
def dkwX2_init_2_6 : List UInt8 := [182, 0, 92, 87, 132, 2, 1, 167, 255, 216, 3, 61, 28, 43, 180, 0, 20, 182, 0, 82, 162, 0, 52, 42]
abbrev dktX2_init_2_6 : List UInt8 := dkwX2_init_2_6 ++ dktX2_init_2_7
def dkwX2_init_2_5 : List UInt8 := [42, 180, 0, 14, 187, 0, 86, 89, 43, 180, 0, 14, 28, 182, 0, 96, 192, 0, 86, 183, 0, 100]
abbrev dktX2_init_2_5 : List UInt8 := dkwX2_init_2_5 ++ dktX2_init_2_6
def dkwX2_init_2_4 : List UInt8 := [181, 0, 62, 42, 43, 180, 0, 66, 181, 0, 66, 3, 61, 28, 43, 180, 0, 14, 182, 0, 82, 162, 0, 35]
abbrev dktX2_init_2_4 : List UInt8 := dkwX2_init_2_4 ++ dktX2_init_2_5
def dkwX2_init_2_3 : List UInt8 := [16, 12, 188, 10, 181, 0, 45, 42, 16, 12, 188, 6, 181, 0, 48, 42, 184, 0, 52, 181, 0, 58, 42, 10]
abbrev dktX2_init_2_3 : List UInt8 := dkwX2_init_2_3 ++ dktX2_init_2_4
def dkwX2_init_2_2 : List UInt8 := [183, 0, 32, 181, 0, 33, 42, 16, 12, 188, 4, 181, 0, 37, 42, 16, 6, 188, 10, 181, 0, 41, 42]
abbrev dktX2_init_2_2 : List UInt8 := dkwX2_init_2_2 ++ dktX2_init_2_3
def dkwX2_init_2_1 : List UInt8 := [183, 0, 11, 181, 0, 20, 42, 187, 0, 23, 89, 183, 0, 25, 181, 0, 26, 42, 187, 0, 30, 89]
abbrev dktX2_init_2_1 : List UInt8 := dkwX2_init_2_1 ++ dktX2_init_2_2
def dkwX2_init_2_0 : List UInt8 := [42, 183, 0, 3, 42, 187, 0, 9, 89, 5, 183, 0, 11, 181, 0, 14, 42, 187, 0, 9, 89, 5]
abbrev dktX2_init_2_0 : List UInt8 := dkwX2_init_2_0 ++ dktX2_init_2_1
theorem dksX2_init_2_0 : cX2_init_2.data.toList.drop 0 = dktX2_init_2_0 := by decide +kernel
theorem dksX2_init_2_1 : cX2_init_2.data.toList.drop 22 = dktX2_init_2_1 := dk_seg dksX2_init_2_0 22 rfl rfl
theorem dksX2_init_2_2 : cX2_init_2.data.toList.drop 44 = dktX2_init_2_2 := dk_seg dksX2_init_2_1 22 rfl rfl
theorem dksX2_init_2_3 : cX2_init_2.data.toList.drop 67 = dktX2_init_2_3 := dk_seg dksX2_init_2_2 23 rfl rfl
theorem dksX2_init_2_4 : cX2_init_2.data.toList.drop 91 = dktX2_init_2_4 := dk_seg dksX2_init_2_3 24 rfl rfl
theorem dksX2_init_2_5 : cX2_init_2.data.toList.drop 115 = dktX2_init_2_5 := dk_seg dksX2_init_2_4 24 rfl rfl
theorem dksX2_init_2_6 : cX2_init_2.data.toList.drop 137 = dktX2_init_2_6 := dk_seg dksX2_init_2_5 22 rfl rfl
theorem dksX2_init_2_7 : cX2_init_2.data.toList.drop 161 = dktX2_init_2_7 := dk_seg dksX2_init_2_6 24 rfl rfl
theorem dksX2_init_2_8 : cX2_init_2.data.toList.drop 183 = dktX2_init_2_8 := dk_seg dksX2_init_2_7 22 rfl rfl
theorem dksX2_init_2_9 : cX2_init_2.data.toList.drop 206 = dktX2_init_2_9 := dk_seg dksX2_init_2_8 23 rfl rfl
theorem dksX2_init_2_10 : cX2_init_2.data.toList.drop 227 = dktX2_init_2_10 := dk_seg dksX2_init_2_9 21 rfl rfl
theorem dksX2_init_2_11 : cX2_init_2.data.toList.drop 251 = dktX2_init_2_11 := dk_seg dksX2_init_2_10 24 rfl rfl
theorem dksX2_init_2_12 : cX2_init_2.data.toList.drop 275 = dktX2_init_2_12 := dk_seg dksX2_init_2_11 24 rfl rfl
theorem dksX2_init_2_13 : cX2_init_2.data.toList.drop 297 = dktX2_init_2_13 := dk_seg dksX2_init_2_12 22 rfl rfl
theorem dksX2_init_2_14 : cX2_init_2.data.toList.drop 320 = dktX2_init_2_14 := dk_seg dksX2_init_2_13 23 rfl rfl
theorem dksX2_init_2_15 : cX2_init_2.data.toList.drop 344 = dktX2_init_2_15 := dk_seg dksX2_init_2_14 24 rfl rfl
theorem dX2_init_2_0 : decode cX2_init_2 0 = .ok (.aload_n 0, 1) := dk_42 (dk_at dksX2_init_2_0 0 rfl rfl)
theorem dX2_init_2_1 : decode cX2_init_2 1 = .ok (.invokespecial 3, 3) := dk_183 0 3 (dk_at dksX2_init_2_0 1 rfl rfl)
theorem dX2_init_2_4 : decode cX2_init_2 4 = .ok (.aload_n 0, 1) := dk_42 (dk_at dksX2_init_2_0 4 rfl rfl)
theorem dX2_init_2_5 : decode cX2_init_2 5 = .ok (.new 9, 3) := dk_187 0 9 (dk_at dksX2_init_2_0 5 rfl rfl)
theorem dX2_init_2_8 : decode cX2_init_2 8 = .ok (.dup, 1) := dk_89 (dk_at dksX2_init_2_0 8 rfl rfl)
theorem dX2_init_2_9 : decode cX2_init_2 9 = .ok (.iconst 2, 1) := dk_5 (dk_at dksX2_init_2_0 9 rfl rfl)
theorem dX2_init_2_10 : decode cX2_init_2 10 = .ok (.invokespecial 11, 3) := dk_183 0 11 (dk_at dksX2_init_2_0 10 rfl rfl)
theorem dX2_init_2_13 : decode cX2_init_2 13 = .ok (.putfield 14, 3) := dk_181 0 14 (dk_at dksX2_init_2_0 13 rfl rfl)
theorem dX2_init_2_16 : decode cX2_init_2 16 = .ok (.aload_n 0, 1) := dk_42 (dk_at dksX2_init_2_0 16 rfl rfl)
theorem dX2_init_2_17 : decode cX2_init_2 17 = .ok (.new 9, 3) := dk_187 0 9 (dk_at dksX2_init_2_0 17 rfl rfl)
theorem dX2_init_2_20 : decode cX2_init_2 20 = .ok (.dup, 1) := dk_89 (dk_at dksX2_init_2_0 20 rfl rfl)
theorem dX2_init_2_21 : decode cX2_init_2 21 = .ok (.iconst 2, 1) := dk_5 (dk_at dksX2_init_2_0 21 rfl rfl)
theorem dX2_init_2_22 : decode cX2_init_2 22 = .ok (.invokespecial 11, 3) := dk_183 0 11 (dk_at dksX2_init_2_1 0 rfl rfl)
theorem dX2_init_2_25 : decode cX2_init_2 25 = .ok (.putfield 20, 3) := dk_181 0 20 (dk_at dksX2_init_2_1 3 rfl rfl)
theorem dX2_init_2_28 : decode cX2_init_2 28 = .ok (.aload_n 0, 1) := dk_42 (dk_at dksX2_init_2_1 6 rfl rfl)
theorem dX2_init_2_29 : decode cX2_init_2 29 = .ok (.new 23, 3) := dk_187 0 23 (dk_at dksX2_init_2_1 7 rfl rfl)
theorem dX2_init_2_32 : decode cX2_init_2 32 = .ok (.dup, 1) := dk_89 (dk_at dksX2_init_2_1 10 rfl rfl)
theorem dX2_init_2_33 : decode cX2_init_2 33 = .ok (.invokespecial 25, 3) := dk_183 0 25 (dk_at dksX2_init_2_1 11 rfl rfl)
theorem dX2_init_2_36 : decode cX2_init_2 36 = .ok (.putfield 26, 3) := dk_181 0 26 (dk_at dksX2_init_2_1 14 rfl rfl)
theorem dX2_init_2_39 : decode cX2_init_2 39 = .ok (.aload_n 0, 1) := dk_42 (dk_at dksX2_init_2_1 17 rfl rfl)
theorem dX2_init_2_40 : decode cX2_init_2 40 = .ok (.new 30, 3) := dk_187 0 30 (dk_at dksX2_init_2_1 18 rfl rfl)
theorem dX2_init_2_43 : decode cX2_init_2 43 = .ok (.dup, 1) := dk_89 (dk_at dksX2_init_2_1 21 rfl rfl)
theorem dX2_init_2_44 : decode cX2_init_2 44 = .ok (.invokespecial 32, 3) := dk_183 0 32 (dk_at dksX2_init_2_2 0 rfl rfl)
theorem dX2_init_2_47 : decode cX2_init_2 47 = .ok (.putfield 33, 3) := dk_181 0 33 (dk_at dksX2_init_2_2 3 rfl rfl)
theorem dX2_init_2_50 : decode cX2_init_2 50 = .ok (.aload_n 0, 1) := dk_42 (dk_at dksX2_init_2_2 6 rfl rfl)
theorem dX2_init_2_51 : decode cX2_init_2 51 = .ok (.bipush 12, 2) := dk_16 12 (dk_at dksX2_init_2_2 7 rfl rfl)
theorem dX2_init_2_53 : decode cX2_init_2 53 = .ok (.newarray .boolean, 2) := dk_188_4 (dk_at dksX2_init_2_2 9 rfl rfl)
theorem dX2_init_2_55 : decode cX2_init_2 55 = .ok (.putfield 37, 3) := dk_181 0 37 (dk_at dksX2_init_2_2 11 rfl rfl)
theorem dX2_init_2_58 : decode cX2_init_2 58 = .ok (.aload_n 0, 1) := dk_42 (dk_at dksX2_init_2_2 14 rfl rfl)
theorem dX2_init_2_59 : decode cX2_init_2 59 = .ok (.bipush 6, 2) := dk_16 6 (dk_at dksX2_init_2_2 15 rfl rfl)
theorem dX2_init_2_61 : decode cX2_init_2 61 = .ok (.newarray .int, 2) := dk_188_10 (dk_at dksX2_init_2_2 17 rfl rfl)
theorem dX2_init_2_63 : decode cX2_init_2 63 = .ok (.putfield 41, 3) := dk_181 0 41 (dk_at dksX2_init_2_2 19 rfl rfl)
theorem dX2_init_2_66 : decode cX2_init_2 66 = .ok (.aload_n 0, 1) := dk_42 (dk_at dksX2_init_2_2 22 rfl rfl)
theorem dX2_init_2_67 : decode cX2_init_2 67 = .ok (.bipush 12, 2) := dk_16 12 (dk_at dksX2_init_2_3 0 rfl rfl)
theorem dX2_init_2_69 : decode cX2_init_2 69 = .ok (.newarray .int, 2) := dk_188_10 (dk_at dksX2_init_2_3 2 rfl rfl)
theorem dX2_init_2_71 : decode cX2_init_2 71 = .ok (.putfield 45, 3) := dk_181 0 45 (dk_at dksX2_init_2_3 4 rfl rfl)
theorem dX2_init_2_74 : decode cX2_init_2 74 = .ok (.aload_n 0, 1) := dk_42 (dk_at dksX2_init_2_3 7 rfl rfl)
theorem dX2_init_2_75 : decode cX2_init_2 75 = .ok (.bipush 12, 2) := dk_16 12 (dk_at dksX2_init_2_3 8 rfl rfl)
theorem dX2_init_2_77 : decode cX2_init_2 77 = .ok (.newarray .float, 2) := dk_188_6 (dk_at dksX2_init_2_3 10 rfl rfl)
theorem dX2_init_2_79 : decode cX2_init_2 79 = .ok (.putfield 48, 3) := dk_181 0 48 (dk_at dksX2_init_2_3 12 rfl rfl)
theorem dX2_init_2_82 : decode cX2_init_2 82 = .ok (.aload_n 0, 1) := dk_42 (dk_at dksX2_init_2_3 15 rfl rfl)
theorem dX2_init_2_83 : decode cX2_init_2 83 = .ok (.invokestatic 52, 3) := dk_184 0 52 (dk_at dksX2_init_2_3 16 rfl rfl)
theorem dX2_init_2_86 : decode cX2_init_2 86 = .ok (.putfield 58, 3) := dk_181 0 58 (dk_at dksX2_init_2_3 19 rfl rfl)
theorem dX2_init_2_89 : decode cX2_init_2 89 = .ok (.aload_n 0, 1) := dk_42 (dk_at dksX2_init_2_3 22 rfl rfl)
theorem dX2_init_2_90 : decode cX2_init_2 90 = .ok (.lconst 1, 1) := dk_10 (dk_at dksX2_init_2_3 23 rfl rfl)
theorem dX2_init_2_91 : decode cX2_init_2 91 = .ok (.putfield 62, 3) := dk_181 0 62 (dk_at dksX2_init_2_4 0 rfl rfl)
theorem dX2_init_2_94 : decode cX2_init_2 94 = .ok (.aload_n 0, 1) := dk_42 (dk_at dksX2_init_2_4 3 rfl rfl)
theorem dX2_init_2_95 : decode cX2_init_2 95 = .ok (.aload_n 1, 1) := dk_43 (dk_at dksX2_init_2_4 4 rfl rfl)
theorem dX2_init_2_96 : decode cX2_init_2 96 = .ok (.getfield 66, 3) := dk_180 0 66 (dk_at dksX2_init_2_4 5 rfl rfl)
theorem dX2_init_2_99 : decode cX2_init_2 99 = .ok (.putfield 66, 3) := dk_181 0 66 (dk_at dksX2_init_2_4 8 rfl rfl)
theorem dX2_init_2_102 : decode cX2_init_2 102 = .ok (.iconst 0, 1) := dk_3 (dk_at dksX2_init_2_4 11 rfl rfl)
theorem dX2_init_2_103 : decode cX2_init_2 103 = .ok (.istore_n 2, 1) := dk_61 (dk_at dksX2_init_2_4 12 rfl rfl)
theorem dX2_init_2_104 : decode cX2_init_2 104 = .ok (.iload_n 2, 1) := dk_28 (dk_at dksX2_init_2_4 13 rfl rfl)
theorem dX2_init_2_105 : decode cX2_init_2 105 = .ok (.aload_n 1, 1) := dk_43 (dk_at dksX2_init_2_4 14 rfl rfl)
theorem dX2_init_2_106 : decode cX2_init_2 106 = .ok (.getfield 14, 3) := dk_180 0 14 (dk_at dksX2_init_2_4 15 rfl rfl)
theorem dX2_init_2_109 : decode cX2_init_2 109 = .ok (.invokevirtual 82, 3) := dk_182 0 82 (dk_at dksX2_init_2_4 18 rfl rfl)
theorem dX2_init_2_112 : decode cX2_init_2 112 = .ok (.if_icmp .ge 35, 3) := dk_162 0 35 (dk_at dksX2_init_2_4 21 rfl rfl)
theorem dX2_init_2_115 : decode cX2_init_2 115 = .ok (.aload_n 0, 1) := dk_42 (dk_at dksX2_init_2_5 0 rfl rfl)
theorem dX2_init_2_116 : decode cX2_init_2 116 = .ok (.getfield 14, 3) := dk_180 0 14 (dk_at dksX2_init_2_5 1 rfl rfl)
theorem dX2_init_2_119 : decode cX2_init_2 119 = .ok (.new 86, 3) := dk_187 0 86 (dk_at dksX2_init_2_5 4 rfl rfl)
theorem dX2_init_2_122 : decode cX2_init_2 122 = .ok (.dup, 1) := dk_89 (dk_at dksX2_init_2_5 7 rfl rfl)
theorem dX2_init_2_123 : decode cX2_init_2 123 = .ok (.aload_n 1, 1) := dk_43 (dk_at dksX2_init_2_5 8 rfl rfl)
theorem dX2_init_2_124 : decode cX2_init_2 124 = .ok (.getfield 14, 3) := dk_180 0 14 (dk_at dksX2_init_2_5 9 rfl rfl)
theorem dX2_init_2_127 : decode cX2_init_2 127 = .ok (.iload_n 2, 1) := dk_28 (dk_at dksX2_init_2_5 12 rfl rfl)
theorem dX2_init_2_128 : decode cX2_init_2 128 = .ok (.invokevirtual 96, 3) := dk_182 0 96 (dk_at dksX2_init_2_5 13 rfl rfl)
theorem dX2_init_2_131 : decode cX2_init_2 131 = .ok (.checkcast 86, 3) := dk_192 0 86 (dk_at dksX2_init_2_5 16 rfl rfl)
theorem dX2_init_2_134 : decode cX2_init_2 134 = .ok (.invokespecial 100, 3) := dk_183 0 100 (dk_at dksX2_init_2_5 19 rfl rfl)
theorem dX2_init_2_137 : decode cX2_init_2 137 = .ok (.invokevirtual 92, 3) := dk_182 0 92 (dk_at dksX2_init_2_6 0 rfl rfl)
theorem dX2_init_2_140 : decode cX2_init_2 140 = .ok (.pop, 1) := dk_87 (dk_at dksX2_init_2_6 3 rfl rfl)
theorem dX2_init_2_141 : decode cX2_init_2 141 = .ok (.iinc 2 1, 3) := dk_132 2 1 (dk_at dksX2_init_2_6 4 rfl rfl)
theorem dX2_init_2_144 : decode cX2_init_2 144 = .ok (.goto (-40), 3) := dk_167 255 216 (dk_at dksX2_init_2_6 7 rfl rfl)
theorem dX2_init_2_147 : decode cX2_init_2 147 = .ok (.iconst 0, 1) := dk_3 (dk_at dksX2_init_2_6 10 rfl rfl)
theorem dX2_init_2_148 : decode cX2_init_2 148 = .ok (.istore_n 2, 1) := dk_61 (dk_at dksX2_init_2_6 11 rfl rfl)
theorem dX2_init_2_149 : decode cX2_init_2 149 = .ok (.iload_n 2, 1) := dk_28 (dk_at dksX2_init_2_6 12 rfl rfl)
theorem dX2_init_2_150 : decode cX2_init_2 150 = .ok (.aload_n 1, 1) := dk_43 (dk_at dksX2_init_2_6 13 rfl rfl)
theorem dX2_init_2_151 : decode cX2_init_2 151 = .ok (.getfield 20, 3) := dk_180 0 20 (dk_at dksX2_init_2_6 14 rfl rfl)
theorem dX2_init_2_154 : decode cX2_init_2 154 = .ok (.invokevirtual 82, 3) := dk_182 0 82 (dk_at dksX2_init_2_6 17 rfl rfl)
theorem dX2_init_2_157 : decode cX2_init_2 157 = .ok (.if_icmp .ge 52, 3) := dk_162 0 52 (dk_at dksX2_init_2_6 20 rfl rfl)
theorem dX2_init_2_160 : decode cX2_init_2 160 = .ok (.aload_n 0, 1) := dk_42 (dk_at dksX2_init_2_6 23 rfl rfl)
theorem dX2_init_2_161 : decode cX2_init_2 161 = .ok (.getfield 20, 3) := dk_180 0 20 (dk_at dksX2_init_2_7 0 rfl rfl)
theorem dX2_init_2_164 : decode cX2_init_2 164 = .ok (.new 103, 3) := dk_187 0 103 (dk_at dksX2_init_2_7 3 rfl rfl)
theorem dX2_init_2_167 : decode cX2_init_2 167 = .ok (.dup, 1) := dk_89 (dk_at dksX2_init_2_7 6 rfl rfl)
theorem dX2_init_2_168 : decode cX2_init_2 168 = .ok (.aload_n 1, 1) := dk_43 (dk_at dksX2_init_2_7 7 rfl rfl)
theorem dX2_init_2_169 : decode cX2_init_2 169 = .ok (.getfield 20, 3) := dk_180 0 20 (dk_at dksX2_init_2_7 8 rfl rfl)
theorem dX2_init_2_172 : decode cX2_init_2 172 = .ok (.iload_n 2, 1) := dk_28 (dk_at dksX2_init_2_7 11 rfl rfl)
theorem dX2_init_2_173 : decode cX2_init_2 173 = .ok (.invokevirtual 96, 3) := dk_182 0 96 (dk_at dksX2_init_2_7 12 rfl rfl)
theorem dX2_init_2_176 : decode cX2_init_2 176 = .ok (.checkcast 103, 3) := dk_192 0 103 (dk_at dksX2_init_2_7 15 rfl rfl)
theorem dX2_init_2_179 : decode cX2_init_2 179 = .ok (.getfield 105, 3) := dk_180 0 105 (dk_at dksX2_init_2_7 18 rfl rfl)
theorem dX2_init_2_182 : decode cX2_init_2 182 = .ok (.aload_n 1, 1) := dk_43 (dk_at dksX2_init_2_7 21 rfl rfl)
theorem dX2_init_2_183 : decode cX2_init_2 183 = .ok (.getfield 20, 3) := dk_180 0 20 (dk_at dksX2_init_2_8 0 rfl rfl)
theorem dX2_init_2_186 : decode cX2_init_2 186 = .ok (.iload_n 2, 1) := dk_28 (dk_at dksX2_init_2_8 3 rfl rfl)
theorem dX2_init_2_187 : decode cX2_init_2 187 = .ok (.invokevirtual 96, 3) := dk_182 0 96 (dk_at dksX2_init_2_8 4 rfl rfl)
theorem dX2_init_2_190 : decode cX2_init_2 190 = .ok (.checkcast 103, 3) := dk_192 0 103 (dk_at dksX2_init_2_8 7 rfl rfl)
theorem dX2_init_2_193 : decode cX2_init_2 193 = .ok (.getfield 109, 3) := dk_180 0 109 (dk_at dksX2_init_2_8 10 rfl rfl)
theorem dX2_init_2_196 : decode cX2_init_2 196 = .ok (.invokespecial 111, 3) := dk_183 0 111 (dk_at dksX2_init_2_8 13 rfl rfl)
theorem dX2_init_2_199 : decode cX2_init_2 199 = .ok (.invokevirtual 92, 3) := dk_182 0 92 (dk_at dksX2_init_2_8 16 rfl rfl)
theorem dX2_init_2_202 : decode cX2_init_2 202 = .ok (.pop, 1) := dk_87 (dk_at dksX2_init_2_8 19 rfl rfl)
theorem dX2_init_2_203 : decode cX2_init_2 203 = .ok (.iinc 2 1, 3) := dk_132 2 1 (dk_at dksX2_init_2_8 20 rfl rfl)
theorem dX2_init_2_206 : decode cX2_init_2 206 = .ok (.goto (-57), 3) := dk_167 255 199 (dk_at dksX2_init_2_9 0 rfl rfl)
theorem dX2_init_2_209 : decode cX2_init_2 209 = .ok (.aload_n 1, 1) := dk_43 (dk_at dksX2_init_2_9 3 rfl rfl)
theorem dX2_init_2_210 : decode cX2_init_2 210 = .ok (.getfield 26, 3) := dk_180 0 26 (dk_at dksX2_init_2_9 4 rfl rfl)
theorem dX2_init_2_213 : decode cX2_init_2 213 = .ok (.invokevirtual 114, 3) := dk_182 0 114 (dk_at dksX2_init_2_9 7 rfl rfl)
theorem dX2_init_2_216 : decode cX2_init_2 216 = .ok (.astore_n 2, 1) := dk_77 (dk_at dksX2_init_2_9 10 rfl rfl)
theorem dX2_init_2_217 : decode cX2_init_2 217 = .ok (.aload_n 2, 1) := dk_44 (dk_at dksX2_init_2_9 11 rfl rfl)
theorem dX2_init_2_218 : decode cX2_init_2 218 = .ok (.invokeinterface 118 1, 5) := by decide +kernel
theorem dX2_init_2_223 : decode cX2_init_2 223 = .ok (.ifCond .eq 24, 3) := dk_153 0 24 (dk_at dksX2_init_2_9 17 rfl rfl)
theorem dX2_init_2_226 : decode cX2_init_2 226 = .ok (.aload_n 2, 1) := dk_44 (dk_at dksX2_init_2_9 20 rfl rfl)
theorem dX2_init_2_227 : decode cX2_init_2 227 = .ok (.invokeinterface 124 1, 5) := by decide +kernel
theorem dX2_init_2_232 : decode cX2_init_2 232 = .ok (.checkcast 128, 3) := dk_192 0 128 (dk_at dksX2_init_2_10 5 rfl rfl)
theorem dX2_init_2_235 : decode cX2_init_2 235 = .ok (.astore_n 3, 1) := dk_78 (dk_at dksX2_init_2_10 8 rfl rfl)
theorem dX2_init_2_236 : decode cX2_init_2 236 = .ok (.aload_n 0, 1) := dk_42 (dk_at dksX2_init_2_10 9 rfl rfl)
theorem dX2_init_2_237 : decode cX2_init_2 237 = .ok (.getfield 26, 3) := dk_180 0 26 (dk_at dksX2_init_2_10 10 rfl rfl)
theorem dX2_init_2_240 : decode cX2_init_2 240 = .ok (.aload_n 3, 1) := dk_45 (dk_at dksX2_init_2_10 13 rfl rfl)
theorem dX2_init_2_241 : decode cX2_init_2 241 = .ok (.invokevirtual 130, 3) := dk_182 0 130 (dk_at dksX2_init_2_10 14 rfl rfl)
theorem dX2_init_2_244 : decode cX2_init_2 244 = .ok (.goto (-27), 3) := dk_167 255 229 (dk_at dksX2_init_2_10 17 rfl rfl)
theorem dX2_init_2_247 : decode cX2_init_2 247 = .ok (.aload_n 1, 1) := dk_43 (dk_at dksX2_init_2_10 20 rfl rfl)
theorem dX2_init_2_248 : decode cX2_init_2 248 = .ok (.getfield 33, 3) := dk_180 0 33 (dk_at dksX2_init_2_10 21 rfl rfl)
theorem dX2_init_2_251 : decode cX2_init_2 251 = .ok (.invokevirtual 134, 3) := dk_182 0 134 (dk_at dksX2_init_2_11 0 rfl rfl)
theorem dX2_init_2_254 : decode cX2_init_2 254 = .ok (.astore_n 2, 1) := dk_77 (dk_at dksX2_init_2_11 3 rfl rfl)
theorem dX2_init_2_255 : decode cX2_init_2 255 = .ok (.aload_n 2, 1) := dk_44 (dk_at dksX2_init_2_11 4 rfl rfl)
theorem dX2_init_2_256 : decode cX2_init_2 256 = .ok (.invokeinterface 118 1, 5) := by decide +kernel
theorem dX2_init_2_261 : decode cX2_init_2 261 = .ok (.ifCond .eq 24, 3) := dk_153 0 24 (dk_at dksX2_init_2_11 10 rfl rfl)
theorem dX2_init_2_264 : decode cX2_init_2 264 = .ok (.aload_n 2, 1) := dk_44 (dk_at dksX2_init_2_11 13 rfl rfl)
theorem dX2_init_2_265 : decode cX2_init_2 265 = .ok (.invokeinterface 124 1, 5) := by decide +kernel
theorem dX2_init_2_270 : decode cX2_init_2 270 = .ok (.checkcast 135, 3) := dk_192 0 135 (dk_at dksX2_init_2_11 19 rfl rfl)
theorem dX2_init_2_273 : decode cX2_init_2 273 = .ok (.astore_n 3, 1) := dk_78 (dk_at dksX2_init_2_11 22 rfl rfl)
theorem dX2_init_2_274 : decode cX2_init_2 274 = .ok (.aload_n 0, 1) := dk_42 (dk_at dksX2_init_2_11 23 rfl rfl)
theorem dX2_init_2_275 : decode cX2_init_2 275 = .ok (.getfield 33, 3) := dk_180 0 33 (dk_at dksX2_init_2_12 0 rfl rfl)
theorem dX2_init_2_278 : decode cX2_init_2 278 = .ok (.aload_n 3, 1) := dk_45 (dk_at dksX2_init_2_12 3 rfl rfl)
theorem dX2_init_2_279 : decode cX2_init_2 279 = .ok (.invokevirtual 137, 3) := dk_182 0 137 (dk_at dksX2_init_2_12 4 rfl rfl)
theorem dX2_init_2_282 : decode cX2_init_2 282 = .ok (.goto (-27), 3) := dk_167 255 229 (dk_at dksX2_init_2_12 7 rfl rfl)
theorem dX2_init_2_285 : decode cX2_init_2 285 = .ok (.aload_n 1, 1) := dk_43 (dk_at dksX2_init_2_12 10 rfl rfl)
theorem dX2_init_2_286 : decode cX2_init_2 286 = .ok (.getfield 37, 3) := dk_180 0 37 (dk_at dksX2_init_2_12 11 rfl rfl)
theorem dX2_init_2_289 : decode cX2_init_2 289 = .ok (.iconst 0, 1) := dk_3 (dk_at dksX2_init_2_12 14 rfl rfl)
theorem dX2_init_2_290 : decode cX2_init_2 290 = .ok (.aload_n 0, 1) := dk_42 (dk_at dksX2_init_2_12 15 rfl rfl)
theorem dX2_init_2_291 : decode cX2_init_2 291 = .ok (.getfield 37, 3) := dk_180 0 37 (dk_at dksX2_init_2_12 16 rfl rfl)
theorem dX2_init_2_294 : decode cX2_init_2 294 = .ok (.iconst 0, 1) := dk_3 (dk_at dksX2_init_2_12 19 rfl rfl)
theorem dX2_init_2_295 : decode cX2_init_2 295 = .ok (.bipush 12, 2) := dk_16 12 (dk_at dksX2_init_2_12 20 rfl rfl)
theorem dX2_init_2_297 : decode cX2_init_2 297 = .ok (.invokestatic 138, 3) := dk_184 0 138 (dk_at dksX2_init_2_13 0 rfl rfl)
theorem dX2_init_2_300 : decode cX2_init_2 300 = .ok (.aload_n 1, 1) := dk_43 (dk_at dksX2_init_2_13 3 rfl rfl)
theorem dX2_init_2_301 : decode cX2_init_2 301 = .ok (.getfield 41, 3) := dk_180 0 41 (dk_at dksX2_init_2_13 4 rfl rfl)
theorem dX2_init_2_304 : decode cX2_init_2 304 = .ok (.iconst 0, 1) := dk_3 (dk_at dksX2_init_2_13 7 rfl rfl)
theorem dX2_init_2_305 : decode cX2_init_2 305 = .ok (.aload_n 0, 1) := dk_42 (dk_at dksX2_init_2_13 8 rfl rfl)
theorem dX2_init_2_306 : decode cX2_init_2 306 = .ok (.getfield 41, 3) := dk_180 0 41 (dk_at dksX2_init_2_13 9 rfl rfl)
theorem dX2_init_2_309 : decode cX2_init_2 309 = .ok (.iconst 0, 1) := dk_3 (dk_at dksX2_init_2_13 12 rfl rfl)
theorem dX2_init_2_310 : decode cX2_init_2 310 = .ok (.bipush 6, 2) := dk_16 6 (dk_at dksX2_init_2_13 13 rfl rfl)
theorem dX2_init_2_312 : decode cX2_init_2 312 = .ok (.invokestatic 138, 3) := dk_184 0 138 (dk_at dksX2_init_2_13 15 rfl rfl)
theorem dX2_init_2_315 : decode cX2_init_2 315 = .ok (.aload_n 0, 1) := dk_42 (dk_at dksX2_init_2_13 18 rfl rfl)
theorem dX2_init_2_316 : decode cX2_init_2 316 = .ok (.aload_n 1, 1) := dk_43 (dk_at dksX2_init_2_13 19 rfl rfl)
theorem dX2_init_2_317 : decode cX2_init_2 317 = .ok (.getfield 76, 3) := dk_180 0 76 (dk_at dksX2_init_2_13 20 rfl rfl)
theorem dX2_init_2_320 : decode cX2_init_2 320 = .ok (.putfield 76, 3) := dk_181 0 76 (dk_at dksX2_init_2_14 0 rfl rfl)
theorem dX2_init_2_323 : decode cX2_init_2 323 = .ok (.aload_n 0, 1) := dk_42 (dk_at dksX2_init_2_14 3 rfl rfl)
theorem dX2_init_2_324 : decode cX2_init_2 324 = .ok (.aload_n 1, 1) := dk_43 (dk_at dksX2_init_2_14 4 rfl rfl)
theorem dX2_init_2_325 : decode cX2_init_2 325 = .ok (.getfield 80, 3) := dk_180 0 80 (dk_at dksX2_init_2_14 5 rfl rfl)
theorem dX2_init_2_328 : decode cX2_init_2 328 = .ok (.putfield 80, 3) := dk_181 0 80 (dk_at dksX2_init_2_14 8 rfl rfl)
theorem dX2_init_2_331 : decode cX2_init_2 331 = .ok (.aload_n 0, 1) := dk_42 (dk_at dksX2_init_2_14 11 rfl rfl)
theorem dX2_init_2_332 : decode cX2_init_2 332 = .ok (.aload_n 1, 1) := dk_43 (dk_at dksX2_init_2_14 12 rfl rfl)
theorem dX2_init_2_333 : decode cX2_init_2 333 = .ok (.getfield 144, 3) := dk_180 0 144 (dk_at dksX2_init_2_14 13 rfl rfl)
theorem dX2_init_2_336 : decode cX2_init_2 336 = .ok (.putfield 144, 3) := dk_181 0 144 (dk_at dksX2_init_2_14 16 rfl rfl)
theorem dX2_init_2_339 : decode cX2_init_2 339 = .ok (.aload_n 0, 1) := dk_42 (dk_at dksX2_init_2_14 19 rfl rfl)
theorem dX2_init_2_340 : decode cX2_init_2 340 = .ok (.aload_n 1, 1) := dk_43 (dk_at dksX2_init_2_14 20 rfl rfl)
theorem dX2_init_2_341 : decode cX2_init_2 341 = .ok (.getfield 62, 3) := dk_180 0 62 (dk_at dksX2_init_2_14 21 rfl rfl)
theorem dX2_init_2_344 : decode cX2_init_2 344 = .ok (.putfield 62, 3) := dk_181 0 62 (dk_at dksX2_init_2_15 0 rfl rfl)
theorem dX2_init_2_347 : decode cX2_init_2 347 = .ok (.return_, 1) := dk_177 (dk_at dksX2_init_2_15 3 rfl rfl)
def dkwX2_step_3 : List UInt8 := [180, 0, 167, 153, 0, 9, 4, 28, 120, 167, 0, 4, 3, 128, 60, 132, 2, 1, 167, 255, 190, 27, 172]
abbrev dktX2_step_3 : List UInt8 := dkwX2_step_3 ++ []
def dkwX2_step_2 : List UInt8 := [153, 0, 6, 167, 0, 35, 42, 28, 182, 1, 41, 27, 42, 180, 0, 14, 28, 182, 0, 96, 192, 0, 86]
abbrev dktX2_step_2 : List UInt8 := dkwX2_step_2 ++ dktX2_step_3
def dkwX2_step_1 : List UInt8 := [180, 0, 14, 182, 0, 82, 162, 0, 61, 42, 180, 0, 14, 28, 182, 0, 96, 192, 0, 86, 180, 0, 167]
abbrev dktX2_step_1 : List UInt8 := dkwX2_step_1 ++ dktX2_step_2
def dkwX2_step_0 : List UInt8 := [42, 89, 180, 0, 144, 4, 96, 181, 0, 144, 42, 182, 1, 35, 42, 182, 1, 38, 3, 60, 3, 61, 28, 42]
abbrev dktX2_step_0 : List UInt8 := dkwX2_step_0 ++ dktX2_step_1
theorem dksX2_step_0 : cX2_step.data.toList.drop 0 = dktX2_step_0 := by decide +kernel
theorem dksX2_step_1 : cX2_step.data.toList.drop 24 = dktX2_step_1 := dk_seg dksX2_step_0 24 rfl rfl
theorem dksX2_step_2 : cX2_step.data.toList.drop 47 = dktX2_step_2 := dk_seg dksX2_step_1 23 rfl rfl
theorem dksX2_step_3 : cX2_step.data.toList.drop 70 = dktX2_step_3 := dk_seg dksX2_step_2 23 rfl rfl
theorem dX2_step_0 : decode cX2_step 0 = .ok (.aload_n 0, 1) := dk_42 (dk_at dksX2_step_0 0 rfl rfl)
theorem dX2_step_1 : decode cX2_step 1 = .ok (.dup, 1) := dk_89 (dk_at dksX2_step_0 1 rfl rfl)
theorem dX2_step_2 : decode cX2_step 2 = .ok (.getfield 144, 3) := dk_180 0 144 (dk_at dksX2_step_0 2 rfl rfl)
theorem dX2_step_5 : decode cX2_step 5 = .ok (.iconst 1, 1) := dk_4 (dk_at dksX2_step_0 5 rfl rfl)
theorem dX2_step_6 : decode cX2_step 6 = .ok (.iadd, 1) := dk_96 (dk_at dksX2_step_0 6 rfl rfl)
theorem dX2_step_7 : decode cX2_step 7 = .ok (.putfield 144, 3) := dk_181 0 144 (dk_at dksX2_step_0 7 rfl rfl)
theorem dX2_step_10 : decode cX2_step 10 = .ok (.aload_n 0, 1) := dk_42 (dk_at dksX2_step_0 10 rfl rfl)
theorem dX2_step_11 : decode cX2_step 11 = .ok (.invokevirtual 291, 3) := dk_182 1 35 (dk_at dksX2_step_0 11 rfl rfl)
theorem dX2_step_14 : decode cX2_step 14 = .ok (.aload_n 0, 1) := dk_42 (dk_at dksX2_step_0 14 rfl rfl)
theorem dX2_step_15 : decode cX2_step 15 = .ok (.invokevirtual 294, 3) := dk_182 1 38 (dk_at dksX2_step_0 15 rfl rfl)
theorem dX2_step_18 : decode cX2_step 18 = .ok (.iconst 0, 1) := dk_3 (dk_at dksX2_step_0 18 rfl rfl)
theorem dX2_step_19 : decode cX2_step 19 = .ok (.istore_n 1, 1) := dk_60 (dk_at dksX2_step_0 19 rfl rfl)
theorem dX2_step_20 : decode cX2_step 20 = .ok (.iconst 0, 1) := dk_3 (dk_at dksX2_step_0 20 rfl rfl)
theorem dX2_step_21 : decode cX2_step 21 = .ok (.istore_n 2, 1) := dk_61 (dk_at dksX2_step_0 21 rfl rfl)
theorem dX2_step_22 : decode cX2_step 22 = .ok (.iload_n 2, 1) := dk_28 (dk_at dksX2_step_0 22 rfl rfl)
theorem dX2_step_23 : decode cX2_step 23 = .ok (.aload_n 0, 1) := dk_42 (dk_at dksX2_step_0 23 rfl rfl)
theorem dX2_step_24 : decode cX2_step 24 = .ok (.getfield 14, 3) := dk_180 0 14 (dk_at dksX2_step_1 0 rfl rfl)
theorem dX2_step_27 : decode cX2_step 27 = .ok (.invokevirtual 82, 3) := dk_182 0 82 (dk_at dksX2_step_1 3 rfl rfl)
theorem dX2_step_30 : decode cX2_step 30 = .ok (.if_icmp .ge 61, 3) := dk_162 0 61 (dk_at dksX2_step_1 6 rfl rfl)
theorem dX2_step_33 : decode cX2_step 33 = .ok (.aload_n 0, 1) := dk_42 (dk_at dksX2_step_1 9 rfl rfl)
theorem dX2_step_34 : decode cX2_step 34 = .ok (.getfield 14, 3) := dk_180 0 14 (dk_at dksX2_step_1 10 rfl rfl)
theorem dX2_step_37 : decode cX2_step 37 = .ok (.iload_n 2, 1) := dk_28 (dk_at dksX2_step_1 13 rfl rfl)
theorem dX2_step_38 : decode cX2_step 38 = .ok (.invokevirtual 96, 3) := dk_182 0 96 (dk_at dksX2_step_1 14 rfl rfl)
theorem dX2_step_41 : decode cX2_step 41 = .ok (.checkcast 86, 3) := dk_192 0 86 (dk_at dksX2_step_1 17 rfl rfl)
theorem dX2_step_44 : decode cX2_step 44 = .ok (.getfield 167, 3) := dk_180 0 167 (dk_at dksX2_step_1 20 rfl rfl)
theorem dX2_step_47 : decode cX2_step 47 = .ok (.ifCond .eq 6, 3) := dk_153 0 6 (dk_at dksX2_step_2 0 rfl rfl)
theorem dX2_step_50 : decode cX2_step 50 = .ok (.goto 35, 3) := dk_167 0 35 (dk_at dksX2_step_2 3 rfl rfl)
theorem dX2_step_53 : decode cX2_step 53 = .ok (.aload_n 0, 1) := dk_42 (dk_at dksX2_step_2 6 rfl rfl)
theorem dX2_step_54 : decode cX2_step 54 = .ok (.iload_n 2, 1) := dk_28 (dk_at dksX2_step_2 7 rfl rfl)
theorem dX2_step_55 : decode cX2_step 55 = .ok (.invokevirtual 297, 3) := dk_182 1 41 (dk_at dksX2_step_2 8 rfl rfl)
theorem dX2_step_58 : decode cX2_step 58 = .ok (.iload_n 1, 1) := dk_27 (dk_at dksX2_step_2 11 rfl rfl)
theorem dX2_step_59 : decode cX2_step 59 = .ok (.aload_n 0, 1) := dk_42 (dk_at dksX2_step_2 12 rfl rfl)
theorem dX2_step_60 : decode cX2_step 60 = .ok (.getfield 14, 3) := dk_180 0 14 (dk_at dksX2_step_2 13 rfl rfl)
theorem dX2_step_63 : decode cX2_step 63 = .ok (.iload_n 2, 1) := dk_28 (dk_at dksX2_step_2 16 rfl rfl)
theorem dX2_step_64 : decode cX2_step 64 = .ok (.invokevirtual 96, 3) := dk_182 0 96 (dk_at dksX2_step_2 17 rfl rfl)
theorem dX2_step_67 : decode cX2_step 67 = .ok (.checkcast 86, 3) := dk_192 0 86 (dk_at dksX2_step_2 20 rfl rfl)
theorem dX2_step_70 : decode cX2_step 70 = .ok (.getfield 167, 3) := dk_180 0 167 (dk_at dksX2_step_3 0 rfl rfl)
theorem dX2_step_73 : decode cX2_step 73 = .ok (.ifCond .eq 9, 3) := dk_153 0 9 (dk_at dksX2_step_3 3 rfl rfl)
theorem dX2_step_76 : decode cX2_step 76 = .ok (.iconst 1, 1) := dk_4 (dk_at dksX2_step_3 6 rfl rfl)
theorem dX2_step_77 : decode cX2_step 77 = .ok (.iload_n 2, 1) := dk_28 (dk_at dksX2_step_3 7 rfl rfl)
theorem dX2_step_78 : decode cX2_step 78 = .ok (.ishl, 1) := dk_120 (dk_at dksX2_step_3 8 rfl rfl)
theorem dX2_step_79 : decode cX2_step 79 = .ok (.goto 4, 3) := dk_167 0 4 (dk_at dksX2_step_3 9 rfl rfl)
theorem dX2_step_82 : decode cX2_step 82 = .ok (.iconst 0, 1) := dk_3 (dk_at dksX2_step_3 12 rfl rfl)
theorem dX2_step_83 : decode cX2_step 83 = .ok (.ior, 1) := dk_128 (dk_at dksX2_step_3 13 rfl rfl)
theorem dX2_step_84 : decode cX2_step 84 = .ok (.istore_n 1, 1) := dk_60 (dk_at dksX2_step_3 14 rfl rfl)
theorem dX2_step_85 : decode cX2_step 85 = .ok (.iinc 2 1, 3) := dk_132 2 1 (dk_at dksX2_step_3 15 rfl rfl)
theorem dX2_step_88 : decode cX2_step 88 = .ok (.goto (-66), 3) := dk_167 255 190 (dk_at dksX2_step_3 18 rfl rfl)
theorem dX2_step_91 : decode cX2_step 91 = .ok (.iload_n 1, 1) := dk_27 (dk_at dksX2_step_3 21 rfl rfl)
theorem dX2_step_92 : decode cX2_step 92 = .ok (.ireturn, 1) := dk_172 (dk_at dksX2_step_3 22 rfl rfl)
def dkwX2_doSwitches_5 : List UInt8 := [167, 255, 215, 132, 1, 1, 167, 255, 209, 177]
abbrev dktX2_doSwitches_5 : List UInt8 := dkwX2_doSwitches_5 ++ []
def dkwX2_doSwitches_4 : List UInt8 := [192, 0, 128, 180, 1, 26, 42, 180, 0, 144, 160, 0, 15, 42, 180, 0, 26, 27, 182, 1, 32, 87]
abbrev dktX2_doSwitches_4 : List UInt8 := dkwX2_doSwitches_4 ++ dktX2_doSwitches_5
def dkwX2_doSwitches_3 : List UInt8 := [167, 255, 188, 3, 60, 27, 42, 180, 0, 26, 182, 1, 24, 162, 0, 42, 42, 180, 0, 26, 27, 182, 1, 25]
abbrev dktX2_doSwitches_3 : List UInt8 := dkwX2_doSwitches_3 ++ dktX2_doSwitches_4
def dkwX2_doSwitches_2 : List UInt8 := [192, 0, 128, 180, 1, 27, 42, 180, 0, 26, 27, 182, 1, 25, 192, 0, 128, 180, 1, 30, 84, 132, 1, 1]
abbrev dktX2_doSwitches_2 : List UInt8 := dkwX2_doSwitches_2 ++ dktX2_doSwitches_3
def dkwX2_doSwitches_1 : List UInt8 := [180, 1, 26, 42, 180, 0, 144, 160, 0, 36, 42, 180, 0, 37, 42, 180, 0, 26, 27, 182, 1, 25]
abbrev dktX2_doSwitches_1 : List UInt8 := dkwX2_doSwitches_1 ++ dktX2_doSwitches_2
def dkwX2_doSwitches_0 : List UInt8 := [3, 60, 27, 42, 180, 0, 26, 182, 1, 24, 162, 0, 63, 42, 180, 0, 26, 27, 182, 1, 25, 192, 0, 128]
abbrev dktX2_doSwitches_0 : List UInt8 := dkwX2_doSwitches_0 ++ dktX2_doSwitches_1
theorem dksX2_doSwitches_0 : cX2_doSwitches.data.toList.drop 0 = dktX2_doSwitches_0 := by decide +kernel
theorem dksX2_doSwitches_1 : cX2_doSwitches.data.toList.drop 24 = dktX2_doSwitches_1 := dk_seg dksX2_doSwitches_0 24 rfl rfl
theorem dksX2_doSwitches_2 : cX2_doSwitches.data.toList.drop 46 = dktX2_doSwitches_2 := dk_seg dksX2_doSwitches_1 22 rfl rfl
theorem dksX2_doSwitches_3 : cX2_doSwitches.data.toList.drop 70 = dktX2_doSwitches_3 := dk_seg dksX2_doSwitches_2 24 rfl rfl
theorem dksX2_doSwitches_4 : cX2_doSwitches.data.toList.drop 94 = dktX2_doSwitches_4 := dk_seg dksX2_doSwitches_3 24 rfl rfl
theorem dksX2_doSwitches_5 : cX2_doSwitches.data.toList.drop 116 = dktX2_doSwitches_5 := dk_seg dksX2_doSwitches_4 22 rfl rfl
theorem dX2_doSwitches_0 : decode cX2_doSwitches 0 = .ok (.iconst 0, 1) := dk_3 (dk_at dksX2_doSwitches_0 0 rfl rfl)
theorem dX2_doSwitches_1 : decode cX2_doSwitches 1 = .ok (.istore_n 1, 1) := dk_60 (dk_at dksX2_doSwitches_0 1 rfl rfl)
theorem dX2_doSwitches_2 : decode cX2_doSwitches 2 = .ok (.iload_n 1, 1) := dk_27 (dk_at dksX2_doSwitches_0 2 rfl rfl)
theorem dX2_doSwitches_3 : decode cX2_doSwitches 3 = .ok (.aload_n 0, 1) := dk_42 (dk_at dksX2_doSwitches_0 3 rfl rfl)
theorem dX2_doSwitches_4 : decode cX2_doSwitches 4 = .ok (.getfield 26, 3) := dk_180 0 26 (dk_at dksX2_doSwitches_0 4 rfl rfl)
theorem dX2_doSwitches_7 : decode cX2_doSwitches 7 = .ok (.invokevirtual 280, 3) := dk_182 1 24 (dk_at dksX2_doSwitches_0 7 rfl rfl)
theorem dX2_doSwitches_10 : decode cX2_doSwitches 10 = .ok (.if_icmp .ge 63, 3) := dk_162 0 63 (dk_at dksX2_doSwitches_0 10 rfl rfl)
theorem dX2_doSwitches_13 : decode cX2_doSwitches 13 = .ok (.aload_n 0, 1) := dk_42 (dk_at dksX2_doSwitches_0 13 rfl rfl)
theorem dX2_doSwitches_14 : decode cX2_doSwitches 14 = .ok (.getfield 26, 3) := dk_180 0 26 (dk_at dksX2_doSwitches_0 14 rfl rfl)
theorem dX2_doSwitches_17 : decode cX2_doSwitches 17 = .ok (.iload_n 1, 1) := dk_27 (dk_at dksX2_doSwitches_0 17 rfl rfl)
theorem dX2_doSwitches_18 : decode cX2_doSwitches 18 = .ok (.invokevirtual 281, 3) := dk_182 1 25 (dk_at dksX2_doSwitches_0 18 rfl rfl)
theorem dX2_doSwitches_21 : decode cX2_doSwitches 21 = .ok (.checkcast 128, 3) := dk_192 0 128 (dk_at dksX2_doSwitches_0 21 rfl rfl)
theorem dX2_doSwitches_24 : decode cX2_doSwitches 24 = .ok (.getfield 282, 3) := dk_180 1 26 (dk_at dksX2_doSwitches_1 0 rfl rfl)
theorem dX2_doSwitches_27 : decode cX2_doSwitches 27 = .ok (.aload_n 0, 1) := dk_42 (dk_at dksX2_doSwitches_1 3 rfl rfl)
theorem dX2_doSwitches_28 : decode cX2_doSwitches 28 = .ok (.getfield 144, 3) := dk_180 0 144 (dk_at dksX2_doSwitches_1 4 rfl rfl)
theorem dX2_doSwitches_31 : decode cX2_doSwitches 31 = .ok (.if_icmp .ne 36, 3) := dk_160 0 36 (dk_at dksX2_doSwitches_1 7 rfl rfl)
theorem dX2_doSwitches_34 : decode cX2_doSwitches 34 = .ok (.aload_n 0, 1) := dk_42 (dk_at dksX2_doSwitches_1 10 rfl rfl)
theorem dX2_doSwitches_35 : decode cX2_doSwitches 35 = .ok (.getfield 37, 3) := dk_180 0 37 (dk_at dksX2_doSwitches_1 11 rfl rfl)
theorem dX2_doSwitches_38 : decode cX2_doSwitches 38 = .ok (.aload_n 0, 1) := dk_42 (dk_at dksX2_doSwitches_1 14 rfl rfl)
theorem dX2_doSwitches_39 : decode cX2_doSwitches 39 = .ok (.getfield 26, 3) := dk_180 0 26 (dk_at dksX2_doSwitches_1 15 rfl rfl)
theorem dX2_doSwitches_42 : decode cX2_doSwitches 42 = .ok (.iload_n 1, 1) := dk_27 (dk_at dksX2_doSwitches_1 18 rfl rfl)
theorem dX2_doSwitches_43 : decode cX2_doSwitches 43 = .ok (.invokevirtual 281, 3) := dk_182 1 25 (dk_at dksX2_doSwitches_1 19 rfl rfl)
theorem dX2_doSwitches_46 : decode cX2_doSwitches 46 = .ok (.checkcast 128, 3) := dk_192 0 128 (dk_at dksX2_doSwitches_2 0 rfl rfl)
theorem dX2_doSwitches_49 : decode cX2_doSwitches 49 = .ok (.getfield 283, 3) := dk_180 1 27 (dk_at dksX2_doSwitches_2 3 rfl rfl)
theorem dX2_doSwitches_52 : decode cX2_doSwitches 52 = .ok (.aload_n 0, 1) := dk_42 (dk_at dksX2_doSwitches_2 6 rfl rfl)
theorem dX2_doSwitches_53 : decode cX2_doSwitches 53 = .ok (.getfield 26, 3) := dk_180 0 26 (dk_at dksX2_doSwitches_2 7 rfl rfl)
theorem dX2_doSwitches_56 : decode cX2_doSwitches 56 = .ok (.iload_n 1, 1) := dk_27 (dk_at dksX2_doSwitches_2 10 rfl rfl)
theorem dX2_doSwitches_57 : decode cX2_doSwitches 57 = .ok (.invokevirtual 281, 3) := dk_182 1 25 (dk_at dksX2_doSwitches_2 11 rfl rfl)
theorem dX2_doSwitches_60 : decode cX2_doSwitches 60 = .ok (.checkcast 128, 3) := dk_192 0 128 (dk_at dksX2_doSwitches_2 14 rfl rfl)
theorem dX2_doSwitches_63 : decode cX2_doSwitches 63 = .ok (.getfield 286, 3) := dk_180 1 30 (dk_at dksX2_doSwitches_2 17 rfl rfl)
theorem dX2_doSwitches_66 : decode cX2_doSwitches 66 = .ok (.bastore, 1) := dk_84 (dk_at dksX2_doSwitches_2 20 rfl rfl)
theorem dX2_doSwitches_67 : decode cX2_doSwitches 67 = .ok (.iinc 1 1, 3) := dk_132 1 1 (dk_at dksX2_doSwitches_2 21 rfl rfl)
theorem dX2_doSwitches_70 : decode cX2_doSwitches 70 = .ok (.goto (-68), 3) := dk_167 255 188 (dk_at dksX2_doSwitches_3 0 rfl rfl)
theorem dX2_doSwitches_73 : decode cX2_doSwitches 73 = .ok (.iconst 0, 1) := dk_3 (dk_at dksX2_doSwitches_3 3 rfl rfl)
theorem dX2_doSwitches_74 : decode cX2_doSwitches 74 = .ok (.istore_n 1, 1) := dk_60 (dk_at dksX2_doSwitches_3 4 rfl rfl)
theorem dX2_doSwitches_75 : decode cX2_doSwitches 75 = .ok (.iload_n 1, 1) := dk_27 (dk_at dksX2_doSwitches_3 5 rfl rfl)
theorem dX2_doSwitches_76 : decode cX2_doSwitches 76 = .ok (.aload_n 0, 1) := dk_42 (dk_at dksX2_doSwitches_3 6 rfl rfl)
theorem dX2_doSwitches_77 : decode cX2_doSwitches 77 = .ok (.getfield 26, 3) := dk_180 0 26 (dk_at dksX2_doSwitches_3 7 rfl rfl)
theorem dX2_doSwitches_80 : decode cX2_doSwitches 80 = .ok (.invokevirtual 280, 3) := dk_182 1 24 (dk_at dksX2_doSwitches_3 10 rfl rfl)
theorem dX2_doSwitches_83 : decode cX2_doSwitches 83 = .ok (.if_icmp .ge 42, 3) := dk_162 0 42 (dk_at dksX2_doSwitches_3 13 rfl rfl)
theorem dX2_doSwitches_86 : decode cX2_doSwitches 86 = .ok (.aload_n 0, 1) := dk_42 (dk_at dksX2_doSwitches_3 16 rfl rfl)
theorem dX2_doSwitches_87 : decode cX2_doSwitches 87 = .ok (.getfield 26, 3) := dk_180 0 26 (dk_at dksX2_doSwitches_3 17 rfl rfl)
theorem dX2_doSwitches_90 : decode cX2_doSwitches 90 = .ok (.iload_n 1, 1) := dk_27 (dk_at dksX2_doSwitches_3 20 rfl rfl)
theorem dX2_doSwitches_91 : decode cX2_doSwitches 91 = .ok (.invokevirtual 281, 3) := dk_182 1 25 (dk_at dksX2_doSwitches_3 21 rfl rfl)
theorem dX2_doSwitches_94 : decode cX2_doSwitches 94 = .ok (.checkcast 128, 3) := dk_192 0 128 (dk_at dksX2_doSwitches_4 0 rfl rfl)
theorem dX2_doSwitches_97 : decode cX2_doSwitches 97 = .ok (.getfield 282, 3) := dk_180 1 26 (dk_at dksX2_doSwitches_4 3 rfl rfl)
theorem dX2_doSwitches_100 : decode cX2_doSwitches 100 = .ok (.aload_n 0, 1) := dk_42 (dk_at dksX2_doSwitches_4 6 rfl rfl)
theorem dX2_doSwitches_101 : decode cX2_doSwitches 101 = .ok (.getfield 144, 3) := dk_180 0 144 (dk_at dksX2_doSwitches_4 7 rfl rfl)
theorem dX2_doSwitches_104 : decode cX2_doSwitches 104 = .ok (.if_icmp .ne 15, 3) := dk_160 0 15 (dk_at dksX2_doSwitches_4 10 rfl rfl)
theorem dX2_doSwitches_107 : decode cX2_doSwitches 107 = .ok (.aload_n 0, 1) := dk_42 (dk_at dksX2_doSwitches_4 13 rfl rfl)
theorem dX2_doSwitches_108 : decode cX2_doSwitches 108 = .ok (.getfield 26, 3) := dk_180 0 26 (dk_at dksX2_doSwitches_4 14 rfl rfl)
theorem dX2_doSwitches_111 : decode cX2_doSwitches 111 = .ok (.iload_n 1, 1) := dk_27 (dk_at dksX2_doSwitches_4 17 rfl rfl)
theorem dX2_doSwitches_112 : decode cX2_doSwitches 112 = .ok (.invokevirtual 288, 3) := dk_182 1 32 (dk_at dksX2_doSwitches_4 18 rfl rfl)
theorem dX2_doSwitches_115 : decode cX2_doSwitches 115 = .ok (.pop, 1) := dk_87 (dk_at dksX2_doSwitches_4 21 rfl rfl)
theorem dX2_doSwitches_116 : decode cX2_doSwitches 116 = .ok (.goto (-41), 3) := dk_167 255 215 (dk_at dksX2_doSwitches_5 0 rfl rfl)
theorem dX2_doSwitches_119 : decode cX2_doSwitches 119 = .ok (.iinc 1 1, 3) := dk_132 1 1 (dk_at dksX2_doSwitches_5 3 rfl rfl)
theorem dX2_doSwitches_122 : decode cX2_doSwitches 122 = .ok (.goto (-47), 3) := dk_167 255 209 (dk_at dksX2_doSwitches_5 6 rfl rfl)
theorem dX2_doSwitches_125 : decode cX2_doSwitches 125 = .ok (.return_, 1) := dk_177 (dk_at dksX2_doSwitches_5 9 rfl rfl)
def dkwX2_drawArcs_6 : List UInt8 := [180, 0, 88, 167, 0, 5, 21, 5, 79, 132, 1, 1, 167, 255, 106, 177]
abbrev dktX2_drawArcs_6 : List UInt8 := dkwX2_drawArcs_6 ++ []
def dkwX2_drawArcs_5 : List UInt8 := [16, 21, 112, 96, 134, 18, 179, 110, 81, 42, 180, 0, 45, 27, 21, 4, 153, 0, 13, 42, 180, 0, 66]
abbrev dktX2_drawArcs_5 : List UInt8 := dkwX2_drawArcs_5 ++ dktX2_drawArcs_6
def dkwX2_drawArcs_4 : List UInt8 := [180, 0, 176, 42, 182, 0, 170, 6, 112, 96, 54, 5, 42, 180, 0, 48, 27, 16, 80, 42, 182, 0, 170]
abbrev dktX2_drawArcs_4 : List UInt8 := dkwX2_drawArcs_4 ++ dktX2_drawArcs_5
def dkwX2_drawArcs_3 : List UInt8 := [167, 0, 77, 42, 182, 0, 170, 45, 180, 0, 173, 162, 0, 7, 4, 167, 0, 4, 3, 54, 4, 45]
abbrev dktX2_drawArcs_3 : List UInt8 := dkwX2_drawArcs_3 ++ dktX2_drawArcs_4
def dkwX2_drawArcs_2 : List UInt8 := [51, 153, 0, 100, 42, 180, 0, 14, 44, 180, 0, 164, 182, 0, 96, 192, 0, 86, 180, 0, 167, 153, 0, 6]
abbrev dktX2_drawArcs_2 : List UInt8 := dkwX2_drawArcs_2 ++ dktX2_drawArcs_3
def dkwX2_drawArcs_1 : List UInt8 := [182, 0, 96, 192, 0, 160, 77, 44, 193, 0, 162, 153, 0, 114, 44, 192, 0, 162, 78, 42, 180, 0, 37, 27]
abbrev dktX2_drawArcs_1 : List UInt8 := dkwX2_drawArcs_1 ++ dktX2_drawArcs_2
def dkwX2_drawArcs_0 : List UInt8 := [3, 60, 27, 42, 180, 0, 66, 180, 0, 157, 182, 0, 82, 162, 0, 142, 42, 180, 0, 66, 180, 0, 157, 27]
abbrev dktX2_drawArcs_0 : List UInt8 := dkwX2_drawArcs_0 ++ dktX2_drawArcs_1
theorem dksX2_drawArcs_0 : cX2_drawArcs.data.toList.drop 0 = dktX2_drawArcs_0 := by decide +kernel
theorem dksX2_drawArcs_1 : cX2_drawArcs.data.toList.drop 24 = dktX2_drawArcs_1 := dk_seg dksX2_drawArcs_0 24 rfl rfl
theorem dksX2_drawArcs_2 : cX2_drawArcs.data.toList.drop 48 = dktX2_drawArcs_2 := dk_seg dksX2_drawArcs_1 24 rfl rfl
theorem dksX2_drawArcs_3 : cX2_drawArcs.data.toList.drop 72 = dktX2_drawArcs_3 := dk_seg dksX2_drawArcs_2 24 rfl rfl
theorem dksX2_drawArcs_4 : cX2_drawArcs.data.toList.drop 94 = dktX2_drawArcs_4 := dk_seg dksX2_drawArcs_3 22 rfl rfl
theorem dksX2_drawArcs_5 : cX2_drawArcs.data.toList.drop 117 = dktX2_drawArcs_5 := dk_seg dksX2_drawArcs_4 23 rfl rfl
theorem dksX2_drawArcs_6 : cX2_drawArcs.data.toList.drop 140 = dktX2_drawArcs_6 := dk_seg dksX2_drawArcs_5 23 rfl rfl
theorem dX2_drawArcs_0 : decode cX2_drawArcs 0 = .ok (.iconst 0, 1) := dk_3 (dk_at dksX2_drawArcs_0 0 rfl rfl)
theorem dX2_drawArcs_1 : decode cX2_drawArcs 1 = .ok (.istore_n 1, 1) := dk_60 (dk_at dksX2_drawArcs_0 1 rfl rfl)
theorem dX2_drawArcs_2 : decode cX2_drawArcs 2 = .ok (.iload_n 1, 1) := dk_27 (dk_at dksX2_drawArcs_0 2 rfl rfl)
theorem dX2_drawArcs_3 : decode cX2_drawArcs 3 = .ok (.aload_n 0, 1) := dk_42 (dk_at dksX2_drawArcs_0 3 rfl rfl)
theorem dX2_drawArcs_4 : decode cX2_drawArcs 4 = .ok (.getfield 66, 3) := dk_180 0 66 (dk_at dksX2_drawArcs_0 4 rfl rfl)
theorem dX2_drawArcs_7 : decode cX2_drawArcs 7 = .ok (.getfield 157, 3) := dk_180 0 157 (dk_at dksX2_drawArcs_0 7 rfl rfl)
theorem dX2_drawArcs_10 : decode cX2_drawArcs 10 = .ok (.invokevirtual 82, 3) := dk_182 0 82 (dk_at dksX2_drawArcs_0 10 rfl rfl)
theorem dX2_drawArcs_13 : decode cX2_drawArcs 13 = .ok (.if_icmp .ge 142, 3) := dk_162 0 142 (dk_at dksX2_drawArcs_0 13 rfl rfl)
theorem dX2_drawArcs_16 : decode cX2_drawArcs 16 = .ok (.aload_n 0, 1) := dk_42 (dk_at dksX2_drawArcs_0 16 rfl rfl)
theorem dX2_drawArcs_17 : decode cX2_drawArcs 17 = .ok (.getfield 66, 3) := dk_180 0 66 (dk_at dksX2_drawArcs_0 17 rfl rfl)
theorem dX2_drawArcs_20 : decode cX2_drawArcs 20 = .ok (.getfield 157, 3) := dk_180 0 157 (dk_at dksX2_drawArcs_0 20 rfl rfl)
theorem dX2_drawArcs_23 : decode cX2_drawArcs 23 = .ok (.iload_n 1, 1) := dk_27 (dk_at dksX2_drawArcs_0 23 rfl rfl)
theorem dX2_drawArcs_24 : decode cX2_drawArcs 24 = .ok (.invokevirtual 96, 3) := dk_182 0 96 (dk_at dksX2_drawArcs_1 0 rfl rfl)
theorem dX2_drawArcs_27 : decode cX2_drawArcs 27 = .ok (.checkcast 160, 3) := dk_192 0 160 (dk_at dksX2_drawArcs_1 3 rfl rfl)
theorem dX2_drawArcs_30 : decode cX2_drawArcs 30 = .ok (.astore_n 2, 1) := dk_77 (dk_at dksX2_drawArcs_1 6 rfl rfl)
theorem dX2_drawArcs_31 : decode cX2_drawArcs 31 = .ok (.aload_n 2, 1) := dk_44 (dk_at dksX2_drawArcs_1 7 rfl rfl)
theorem dX2_drawArcs_32 : decode cX2_drawArcs 32 = .ok (.instanceof 162, 3) := dk_193 0 162 (dk_at dksX2_drawArcs_1 8 rfl rfl)
theorem dX2_drawArcs_35 : decode cX2_drawArcs 35 = .ok (.ifCond .eq 114, 3) := dk_153 0 114 (dk_at dksX2_drawArcs_1 11 rfl rfl)
theorem dX2_drawArcs_38 : decode cX2_drawArcs 38 = .ok (.aload_n 2, 1) := dk_44 (dk_at dksX2_drawArcs_1 14 rfl rfl)
theorem dX2_drawArcs_39 : decode cX2_drawArcs 39 = .ok (.checkcast 162, 3) := dk_192 0 162 (dk_at dksX2_drawArcs_1 15 rfl rfl)
theorem dX2_drawArcs_42 : decode cX2_drawArcs 42 = .ok (.astore_n 3, 1) := dk_78 (dk_at dksX2_drawArcs_1 18 rfl rfl)
theorem dX2_drawArcs_43 : decode cX2_drawArcs 43 = .ok (.aload_n 0, 1) := dk_42 (dk_at dksX2_drawArcs_1 19 rfl rfl)
theorem dX2_drawArcs_44 : decode cX2_drawArcs 44 = .ok (.getfield 37, 3) := dk_180 0 37 (dk_at dksX2_drawArcs_1 20 rfl rfl)
theorem dX2_drawArcs_47 : decode cX2_drawArcs 47 = .ok (.iload_n 1, 1) := dk_27 (dk_at dksX2_drawArcs_1 23 rfl rfl)
theorem dX2_drawArcs_48 : decode cX2_drawArcs 48 = .ok (.baload, 1) := dk_51 (dk_at dksX2_drawArcs_2 0 rfl rfl)
theorem dX2_drawArcs_49 : decode cX2_drawArcs 49 = .ok (.ifCond .eq 100, 3) := dk_153 0 100 (dk_at dksX2_drawArcs_2 1 rfl rfl)
theorem dX2_drawArcs_52 : decode cX2_drawArcs 52 = .ok (.aload_n 0, 1) := dk_42 (dk_at dksX2_drawArcs_2 4 rfl rfl)
theorem dX2_drawArcs_53 : decode cX2_drawArcs 53 = .ok (.getfield 14, 3) := dk_180 0 14 (dk_at dksX2_drawArcs_2 5 rfl rfl)
theorem dX2_drawArcs_56 : decode cX2_drawArcs 56 = .ok (.aload_n 2, 1) := dk_44 (dk_at dksX2_drawArcs_2 8 rfl rfl)
theorem dX2_drawArcs_57 : decode cX2_drawArcs 57 = .ok (.getfield 164, 3) := dk_180 0 164 (dk_at dksX2_drawArcs_2 9 rfl rfl)
theorem dX2_drawArcs_60 : decode cX2_drawArcs 60 = .ok (.invokevirtual 96, 3) := dk_182 0 96 (dk_at dksX2_drawArcs_2 12 rfl rfl)
theorem dX2_drawArcs_63 : decode cX2_drawArcs 63 = .ok (.checkcast 86, 3) := dk_192 0 86 (dk_at dksX2_drawArcs_2 15 rfl rfl)
theorem dX2_drawArcs_66 : decode cX2_drawArcs 66 = .ok (.getfield 167, 3) := dk_180 0 167 (dk_at dksX2_drawArcs_2 18 rfl rfl)
theorem dX2_drawArcs_69 : decode cX2_drawArcs 69 = .ok (.ifCond .eq 6, 3) := dk_153 0 6 (dk_at dksX2_drawArcs_2 21 rfl rfl)
theorem dX2_drawArcs_72 : decode cX2_drawArcs 72 = .ok (.goto 77, 3) := dk_167 0 77 (dk_at dksX2_drawArcs_3 0 rfl rfl)
theorem dX2_drawArcs_75 : decode cX2_drawArcs 75 = .ok (.aload_n 0, 1) := dk_42 (dk_at dksX2_drawArcs_3 3 rfl rfl)
theorem dX2_drawArcs_76 : decode cX2_drawArcs 76 = .ok (.invokevirtual 170, 3) := dk_182 0 170 (dk_at dksX2_drawArcs_3 4 rfl rfl)
theorem dX2_drawArcs_79 : decode cX2_drawArcs 79 = .ok (.aload_n 3, 1) := dk_45 (dk_at dksX2_drawArcs_3 7 rfl rfl)
theorem dX2_drawArcs_80 : decode cX2_drawArcs 80 = .ok (.getfield 173, 3) := dk_180 0 173 (dk_at dksX2_drawArcs_3 8 rfl rfl)
theorem dX2_drawArcs_83 : decode cX2_drawArcs 83 = .ok (.if_icmp .ge 7, 3) := dk_162 0 7 (dk_at dksX2_drawArcs_3 11 rfl rfl)
theorem dX2_drawArcs_86 : decode cX2_drawArcs 86 = .ok (.iconst 1, 1) := dk_4 (dk_at dksX2_drawArcs_3 14 rfl rfl)
theorem dX2_drawArcs_87 : decode cX2_drawArcs 87 = .ok (.goto 4, 3) := dk_167 0 4 (dk_at dksX2_drawArcs_3 15 rfl rfl)
theorem dX2_drawArcs_90 : decode cX2_drawArcs 90 = .ok (.iconst 0, 1) := dk_3 (dk_at dksX2_drawArcs_3 18 rfl rfl)
theorem dX2_drawArcs_91 : decode cX2_drawArcs 91 = .ok (.istore 4, 2) := dk_54 4 (dk_at dksX2_drawArcs_3 19 rfl rfl)
theorem dX2_drawArcs_93 : decode cX2_drawArcs 93 = .ok (.aload_n 3, 1) := dk_45 (dk_at dksX2_drawArcs_3 21 rfl rfl)
theorem dX2_drawArcs_94 : decode cX2_drawArcs 94 = .ok (.getfield 176, 3) := dk_180 0 176 (dk_at dksX2_drawArcs_4 0 rfl rfl)
theorem dX2_drawArcs_97 : decode cX2_drawArcs 97 = .ok (.aload_n 0, 1) := dk_42 (dk_at dksX2_drawArcs_4 3 rfl rfl)
theorem dX2_drawArcs_98 : decode cX2_drawArcs 98 = .ok (.invokevirtual 170, 3) := dk_182 0 170 (dk_at dksX2_drawArcs_4 4 rfl rfl)
theorem dX2_drawArcs_101 : decode cX2_drawArcs 101 = .ok (.iconst 3, 1) := dk_6 (dk_at dksX2_drawArcs_4 7 rfl rfl)
theorem dX2_drawArcs_102 : decode cX2_drawArcs 102 = .ok (.irem, 1) := dk_112 (dk_at dksX2_drawArcs_4 8 rfl rfl)
theorem dX2_drawArcs_103 : decode cX2_drawArcs 103 = .ok (.iadd, 1) := dk_96 (dk_at dksX2_drawArcs_4 9 rfl rfl)
theorem dX2_drawArcs_104 : decode cX2_drawArcs 104 = .ok (.istore 5, 2) := dk_54 5 (dk_at dksX2_drawArcs_4 10 rfl rfl)
theorem dX2_drawArcs_106 : decode cX2_drawArcs 106 = .ok (.aload_n 0, 1) := dk_42 (dk_at dksX2_drawArcs_4 12 rfl rfl)
theorem dX2_drawArcs_107 : decode cX2_drawArcs 107 = .ok (.getfield 48, 3) := dk_180 0 48 (dk_at dksX2_drawArcs_4 13 rfl rfl)
theorem dX2_drawArcs_110 : decode cX2_drawArcs 110 = .ok (.iload_n 1, 1) := dk_27 (dk_at dksX2_drawArcs_4 16 rfl rfl)
theorem dX2_drawArcs_111 : decode cX2_drawArcs 111 = .ok (.bipush 80, 2) := dk_16 80 (dk_at dksX2_drawArcs_4 17 rfl rfl)
theorem dX2_drawArcs_113 : decode cX2_drawArcs 113 = .ok (.aload_n 0, 1) := dk_42 (dk_at dksX2_drawArcs_4 19 rfl rfl)
theorem dX2_drawArcs_114 : decode cX2_drawArcs 114 = .ok (.invokevirtual 170, 3) := dk_182 0 170 (dk_at dksX2_drawArcs_4 20 rfl rfl)
theorem dX2_drawArcs_117 : decode cX2_drawArcs 117 = .ok (.bipush 21, 2) := dk_16 21 (dk_at dksX2_drawArcs_5 0 rfl rfl)
theorem dX2_drawArcs_119 : decode cX2_drawArcs 119 = .ok (.irem, 1) := dk_112 (dk_at dksX2_drawArcs_5 2 rfl rfl)
theorem dX2_drawArcs_120 : decode cX2_drawArcs 120 = .ok (.iadd, 1) := dk_96 (dk_at dksX2_drawArcs_5 3 rfl rfl)
theorem dX2_drawArcs_121 : decode cX2_drawArcs 121 = .ok (.i2f, 1) := dk_134 (dk_at dksX2_drawArcs_5 4 rfl rfl)
theorem dX2_drawArcs_122 : decode cX2_drawArcs 122 = .ok (.ldc 179, 2) := dk_18 179 (dk_at dksX2_drawArcs_5 5 rfl rfl)
theorem dX2_drawArcs_124 : decode cX2_drawArcs 124 = .ok (.fdiv, 1) := dk_110 (dk_at dksX2_drawArcs_5 7 rfl rfl)
theorem dX2_drawArcs_125 : decode cX2_drawArcs 125 = .ok (.fastore, 1) := dk_81 (dk_at dksX2_drawArcs_5 8 rfl rfl)
theorem dX2_drawArcs_126 : decode cX2_drawArcs 126 = .ok (.aload_n 0, 1) := dk_42 (dk_at dksX2_drawArcs_5 9 rfl rfl)
theorem dX2_drawArcs_127 : decode cX2_drawArcs 127 = .ok (.getfield 45, 3) := dk_180 0 45 (dk_at dksX2_drawArcs_5 10 rfl rfl)
theorem dX2_drawArcs_130 : decode cX2_drawArcs 130 = .ok (.iload_n 1, 1) := dk_27 (dk_at dksX2_drawArcs_5 13 rfl rfl)
theorem dX2_drawArcs_131 : decode cX2_drawArcs 131 = .ok (.iload 4, 2) := dk_21 4 (dk_at dksX2_drawArcs_5 14 rfl rfl)
theorem dX2_drawArcs_133 : decode cX2_drawArcs 133 = .ok (.ifCond .eq 13, 3) := dk_153 0 13 (dk_at dksX2_drawArcs_5 16 rfl rfl)
theorem dX2_drawArcs_136 : decode cX2_drawArcs 136 = .ok (.aload_n 0, 1) := dk_42 (dk_at dksX2_drawArcs_5 19 rfl rfl)
theorem dX2_drawArcs_137 : decode cX2_drawArcs 137 = .ok (.getfield 66, 3) := dk_180 0 66 (dk_at dksX2_drawArcs_5 20 rfl rfl)
theorem dX2_drawArcs_140 : decode cX2_drawArcs 140 = .ok (.getfield 88, 3) := dk_180 0 88 (dk_at dksX2_drawArcs_6 0 rfl rfl)
theorem dX2_drawArcs_143 : decode cX2_drawArcs 143 = .ok (.goto 5, 3) := dk_167 0 5 (dk_at dksX2_drawArcs_6 3 rfl rfl)
theorem dX2_drawArcs_146 : decode cX2_drawArcs 146 = .ok (.iload 5, 2) := dk_21 5 (dk_at dksX2_drawArcs_6 6 rfl rfl)
theorem dX2_drawArcs_148 : decode cX2_drawArcs 148 = .ok (.iastore, 1) := dk_79 (dk_at dksX2_drawArcs_6 8 rfl rfl)
theorem dX2_drawArcs_149 : decode cX2_drawArcs 149 = .ok (.iinc 1 1, 3) := dk_132 1 1 (dk_at dksX2_drawArcs_6 9 rfl rfl)
theorem dX2_drawArcs_152 : decode cX2_drawArcs 152 = .ok (.goto (-150), 3) := dk_167 255 106 (dk_at dksX2_drawArcs_6 12 rfl rfl)
theorem dX2_drawArcs_155 : decode cX2_drawArcs 155 = .ok (.return_, 1) := dk_177 (dk_at dksX2_drawArcs_6 15 rfl rfl)
def dkwX2_draw_1 : List UInt8 := [20, 0, 153, 109, 20, 0, 155, 113, 136, 172]
abbrev dktX2_draw_1 : List UInt8 := dkwX2_draw_1 ++ []
def dkwX2_draw_0 : List UInt8 := [42, 42, 180, 0, 62, 20, 0, 147, 105, 20, 0, 149, 97, 20, 0, 151, 113, 181, 0, 62, 42, 180, 0, 62]
abbrev dktX2_draw_0 : List UInt8 := dkwX2_draw_0 ++ dktX2_draw_1
theorem dksX2_draw_0 : cX2_draw.data.toList.drop 0 = dktX2_draw_0 := by decide +kernel
theorem dksX2_draw_1 : cX2_draw.data.toList.drop 24 = dktX2_draw_1 := dk_seg dksX2_draw_0 24 rfl rfl
theorem dX2_draw_0 : decode cX2_draw 0 = .ok (.aload_n 0, 1) := dk_42 (dk_at dksX2_draw_0 0 rfl rfl)
theorem dX2_draw_1 : decode cX2_draw 1 = .ok (.aload_n 0, 1) := dk_42 (dk_at dksX2_draw_0 1 rfl rfl)
theorem dX2_draw_2 : decode cX2_draw 2 = .ok (.getfield 62, 3) := dk_180 0 62 (dk_at dksX2_draw_0 2 rfl rfl)
theorem dX2_draw_5 : decode cX2_draw 5 = .ok (.ldc2_w 147, 3) := dk_20 0 147 (dk_at dksX2_draw_0 5 rfl rfl)
theorem dX2_draw_8 : decode cX2_draw 8 = .ok (.lmul, 1) := dk_105 (dk_at dksX2_draw_0 8 rfl rfl)
theorem dX2_draw_9 : decode cX2_draw 9 = .ok (.ldc2_w 149, 3) := dk_20 0 149 (dk_at dksX2_draw_0 9 rfl rfl)
theorem dX2_draw_12 : decode cX2_draw 12 = .ok (.ladd, 1) := dk_97 (dk_at dksX2_draw_0 12 rfl rfl)
theorem dX2_draw_13 : decode cX2_draw 13 = .ok (.ldc2_w 151, 3) := dk_20 0 151 (dk_at dksX2_draw_0 13 rfl rfl)
theorem dX2_draw_16 : decode cX2_draw 16 = .ok (.lrem, 1) := dk_113 (dk_at dksX2_draw_0 16 rfl rfl)
theorem dX2_draw_17 : decode cX2_draw 17 = .ok (.putfield 62, 3) := dk_181 0 62 (dk_at dksX2_draw_0 17 rfl rfl)
theorem dX2_draw_20 : decode cX2_draw 20 = .ok (.aload_n 0, 1) := dk_42 (dk_at dksX2_draw_0 20 rfl rfl)
theorem dX2_draw_21 : decode cX2_draw 21 = .ok (.getfield 62, 3) := dk_180 0 62 (dk_at dksX2_draw_0 21 rfl rfl)
theorem dX2_draw_24 : decode cX2_draw 24 = .ok (.ldc2_w 153, 3) := dk_20 0 153 (dk_at dksX2_draw_1 0 rfl rfl)
theorem dX2_draw_27 : decode cX2_draw 27 = .ok (.ldiv, 1) := dk_109 (dk_at dksX2_draw_1 3 rfl rfl)
theorem dX2_draw_28 : decode cX2_draw 28 = .ok (.ldc2_w 155, 3) := dk_20 0 155 (dk_at dksX2_draw_1 4 rfl rfl)
theorem dX2_draw_31 : decode cX2_draw 31 = .ok (.lrem, 1) := dk_113 (dk_at dksX2_draw_1 7 rfl rfl)
theorem dX2_draw_32 : decode cX2_draw 32 = .ok (.l2i, 1) := dk_136 (dk_at dksX2_draw_1 8 rfl rfl)
theorem dX2_draw_33 : decode cX2_draw 33 = .ok (.ireturn, 1) := dk_172 (dk_at dksX2_draw_1 9 rfl rfl)
def dkwX2_goOn_7 : List UInt8 := [177]
abbrev dktX2_goOn_7 : List UInt8 := dkwX2_goOn_7 ++ []
def dkwX2_goOn_6 : List UInt8 := [180, 0, 80, 161, 0, 21, 42, 27, 44, 180, 0, 237, 153, 0, 7, 4, 167, 0, 4, 3, 29, 182, 0, 255]
abbrev dktX2_goOn_6 : List UInt8 := dkwX2_goOn_6 ++ dktX2_goOn_7
def dkwX2_goOn_5 : List UInt8 := [158, 0, 13, 42, 27, 5, 29, 182, 0, 255, 167, 0, 36, 44, 42, 180, 0, 76, 182, 1, 3, 42]
abbrev dktX2_goOn_5 : List UInt8 := dkwX2_goOn_5 ++ dktX2_goOn_6
def dkwX2_goOn_4 : List UInt8 := [96, 181, 0, 249, 44, 180, 0, 190, 3, 48, 16, 10, 42, 180, 0, 66, 180, 0, 252, 27, 46, 104, 134, 149]
abbrev dktX2_goOn_4 : List UInt8 := dkwX2_goOn_4 ++ dktX2_goOn_5
def dkwX2_goOn_3 : List UInt8 := [167, 0, 4, 9, 129, 181, 0, 243, 44, 89, 180, 0, 246, 4, 96, 181, 0, 246, 44, 89, 180, 0, 249, 4]
abbrev dktX2_goOn_3 : List UInt8 := dkwX2_goOn_3 ++ dktX2_goOn_4
def dkwX2_goOn_2 : List UInt8 := [167, 0, 4, 3, 181, 0, 240, 44, 44, 180, 0, 243, 4, 121, 44, 180, 0, 240, 153, 0, 7, 10]
abbrev dktX2_goOn_2 : List UInt8 := dkwX2_goOn_2 ++ dktX2_goOn_3
def dkwX2_goOn_1 : List UInt8 := [182, 0, 230, 42, 44, 182, 0, 233, 62, 44, 44, 180, 0, 237, 154, 0, 8, 29, 2, 159, 0, 7, 4]
abbrev dktX2_goOn_1 : List UInt8 := dkwX2_goOn_1 ++ dktX2_goOn_2
def dkwX2_goOn_0 : List UInt8 := [42, 180, 0, 14, 27, 182, 0, 96, 192, 0, 86, 77, 42, 27, 182, 0, 224, 42, 44, 182, 0, 227, 42, 44]
abbrev dktX2_goOn_0 : List UInt8 := dkwX2_goOn_0 ++ dktX2_goOn_1
theorem dksX2_goOn_0 : cX2_goOn.data.toList.drop 0 = dktX2_goOn_0 := by decide +kernel
theorem dksX2_goOn_1 : cX2_goOn.data.toList.drop 24 = dktX2_goOn_1 := dk_seg dksX2_goOn_0 24 rfl rfl
theorem dksX2_goOn_2 : cX2_goOn.data.toList.drop 47 = dktX2_goOn_2 := dk_seg dksX2_goOn_1 23 rfl rfl
theorem dksX2_goOn_3 : cX2_goOn.data.toList.drop 69 = dktX2_goOn_3 := dk_seg dksX2_goOn_2 22 rfl rfl
theorem dksX2_goOn_4 : cX2_goOn.data.toList.drop 93 = dktX2_goOn_4 := dk_seg dksX2_goOn_3 24 rfl rfl
theorem dksX2_goOn_5 : cX2_goOn.data.toList.drop 117 = dktX2_goOn_5 := dk_seg dksX2_goOn_4 24 rfl rfl
theorem dksX2_goOn_6 : cX2_goOn.data.toList.drop 139 = dktX2_goOn_6 := dk_seg dksX2_goOn_5 22 rfl rfl
theorem dksX2_goOn_7 : cX2_goOn.data.toList.drop 163 = dktX2_goOn_7 := dk_seg dksX2_goOn_6 24 rfl rfl
theorem dX2_goOn_0 : decode cX2_goOn 0 = .ok (.aload_n 0, 1) := dk_42 (dk_at dksX2_goOn_0 0 rfl rfl)
theorem dX2_goOn_1 : decode cX2_goOn 1 = .ok (.getfield 14, 3) := dk_180 0 14 (dk_at dksX2_goOn_0 1 rfl rfl)
theorem dX2_goOn_4 : decode cX2_goOn 4 = .ok (.iload_n 1, 1) := dk_27 (dk_at dksX2_goOn_0 4 rfl rfl)
theorem dX2_goOn_5 : decode cX2_goOn 5 = .ok (.invokevirtual 96, 3) := dk_182 0 96 (dk_at dksX2_goOn_0 5 rfl rfl)
theorem dX2_goOn_8 : decode cX2_goOn 8 = .ok (.checkcast 86, 3) := dk_192 0 86 (dk_at dksX2_goOn_0 8 rfl rfl)
theorem dX2_goOn_11 : decode cX2_goOn 11 = .ok (.astore_n 2, 1) := dk_77 (dk_at dksX2_goOn_0 11 rfl rfl)
theorem dX2_goOn_12 : decode cX2_goOn 12 = .ok (.aload_n 0, 1) := dk_42 (dk_at dksX2_goOn_0 12 rfl rfl)
theorem dX2_goOn_13 : decode cX2_goOn 13 = .ok (.iload_n 1, 1) := dk_27 (dk_at dksX2_goOn_0 13 rfl rfl)
theorem dX2_goOn_14 : decode cX2_goOn 14 = .ok (.invokevirtual 224, 3) := dk_182 0 224 (dk_at dksX2_goOn_0 14 rfl rfl)
theorem dX2_goOn_17 : decode cX2_goOn 17 = .ok (.aload_n 0, 1) := dk_42 (dk_at dksX2_goOn_0 17 rfl rfl)
theorem dX2_goOn_18 : decode cX2_goOn 18 = .ok (.aload_n 2, 1) := dk_44 (dk_at dksX2_goOn_0 18 rfl rfl)
theorem dX2_goOn_19 : decode cX2_goOn 19 = .ok (.invokevirtual 227, 3) := dk_182 0 227 (dk_at dksX2_goOn_0 19 rfl rfl)
theorem dX2_goOn_22 : decode cX2_goOn 22 = .ok (.aload_n 0, 1) := dk_42 (dk_at dksX2_goOn_0 22 rfl rfl)
theorem dX2_goOn_23 : decode cX2_goOn 23 = .ok (.aload_n 2, 1) := dk_44 (dk_at dksX2_goOn_0 23 rfl rfl)
theorem dX2_goOn_24 : decode cX2_goOn 24 = .ok (.invokevirtual 230, 3) := dk_182 0 230 (dk_at dksX2_goOn_1 0 rfl rfl)
theorem dX2_goOn_27 : decode cX2_goOn 27 = .ok (.aload_n 0, 1) := dk_42 (dk_at dksX2_goOn_1 3 rfl rfl)
theorem dX2_goOn_28 : decode cX2_goOn 28 = .ok (.aload_n 2, 1) := dk_44 (dk_at dksX2_goOn_1 4 rfl rfl)
theorem dX2_goOn_29 : decode cX2_goOn 29 = .ok (.invokevirtual 233, 3) := dk_182 0 233 (dk_at dksX2_goOn_1 5 rfl rfl)
theorem dX2_goOn_32 : decode cX2_goOn 32 = .ok (.istore_n 3, 1) := dk_62 (dk_at dksX2_goOn_1 8 rfl rfl)
theorem dX2_goOn_33 : decode cX2_goOn 33 = .ok (.aload_n 2, 1) := dk_44 (dk_at dksX2_goOn_1 9 rfl rfl)
theorem dX2_goOn_34 : decode cX2_goOn 34 = .ok (.aload_n 2, 1) := dk_44 (dk_at dksX2_goOn_1 10 rfl rfl)
theorem dX2_goOn_35 : decode cX2_goOn 35 = .ok (.getfield 237, 3) := dk_180 0 237 (dk_at dksX2_goOn_1 11 rfl rfl)
theorem dX2_goOn_38 : decode cX2_goOn 38 = .ok (.ifCond .ne 8, 3) := dk_154 0 8 (dk_at dksX2_goOn_1 14 rfl rfl)
theorem dX2_goOn_41 : decode cX2_goOn 41 = .ok (.iload_n 3, 1) := dk_29 (dk_at dksX2_goOn_1 17 rfl rfl)
theorem dX2_goOn_42 : decode cX2_goOn 42 = .ok (.iconst (-1), 1) := dk_2 (dk_at dksX2_goOn_1 18 rfl rfl)
theorem dX2_goOn_43 : decode cX2_goOn 43 = .ok (.if_icmp .eq 7, 3) := dk_159 0 7 (dk_at dksX2_goOn_1 19 rfl rfl)
theorem dX2_goOn_46 : decode cX2_goOn 46 = .ok (.iconst 1, 1) := dk_4 (dk_at dksX2_goOn_1 22 rfl rfl)
theorem dX2_goOn_47 : decode cX2_goOn 47 = .ok (.goto 4, 3) := dk_167 0 4 (dk_at dksX2_goOn_2 0 rfl rfl)
theorem dX2_goOn_50 : decode cX2_goOn 50 = .ok (.iconst 0, 1) := dk_3 (dk_at dksX2_goOn_2 3 rfl rfl)
theorem dX2_goOn_51 : decode cX2_goOn 51 = .ok (.putfield 240, 3) := dk_181 0 240 (dk_at dksX2_goOn_2 4 rfl rfl)
theorem dX2_goOn_54 : decode cX2_goOn 54 = .ok (.aload_n 2, 1) := dk_44 (dk_at dksX2_goOn_2 7 rfl rfl)
theorem dX2_goOn_55 : decode cX2_goOn 55 = .ok (.aload_n 2, 1) := dk_44 (dk_at dksX2_goOn_2 8 rfl rfl)
theorem dX2_goOn_56 : decode cX2_goOn 56 = .ok (.getfield 243, 3) := dk_180 0 243 (dk_at dksX2_goOn_2 9 rfl rfl)
theorem dX2_goOn_59 : decode cX2_goOn 59 = .ok (.iconst 1, 1) := dk_4 (dk_at dksX2_goOn_2 12 rfl rfl)
theorem dX2_goOn_60 : decode cX2_goOn 60 = .ok (.lshl, 1) := dk_121 (dk_at dksX2_goOn_2 13 rfl rfl)
theorem dX2_goOn_61 : decode cX2_goOn 61 = .ok (.aload_n 2, 1) := dk_44 (dk_at dksX2_goOn_2 14 rfl rfl)
theorem dX2_goOn_62 : decode cX2_goOn 62 = .ok (.getfield 240, 3) := dk_180 0 240 (dk_at dksX2_goOn_2 15 rfl rfl)
theorem dX2_goOn_65 : decode cX2_goOn 65 = .ok (.ifCond .eq 7, 3) := dk_153 0 7 (dk_at dksX2_goOn_2 18 rfl rfl)
theorem dX2_goOn_68 : decode cX2_goOn 68 = .ok (.lconst 1, 1) := dk_10 (dk_at dksX2_goOn_2 21 rfl rfl)
theorem dX2_goOn_69 : decode cX2_goOn 69 = .ok (.goto 4, 3) := dk_167 0 4 (dk_at dksX2_goOn_3 0 rfl rfl)
theorem dX2_goOn_72 : decode cX2_goOn 72 = .ok (.lconst 0, 1) := dk_9 (dk_at dksX2_goOn_3 3 rfl rfl)
theorem dX2_goOn_73 : decode cX2_goOn 73 = .ok (.lor, 1) := dk_129 (dk_at dksX2_goOn_3 4 rfl rfl)
theorem dX2_goOn_74 : decode cX2_goOn 74 = .ok (.putfield 243, 3) := dk_181 0 243 (dk_at dksX2_goOn_3 5 rfl rfl)
theorem dX2_goOn_77 : decode cX2_goOn 77 = .ok (.aload_n 2, 1) := dk_44 (dk_at dksX2_goOn_3 8 rfl rfl)
theorem dX2_goOn_78 : decode cX2_goOn 78 = .ok (.dup, 1) := dk_89 (dk_at dksX2_goOn_3 9 rfl rfl)
theorem dX2_goOn_79 : decode cX2_goOn 79 = .ok (.getfield 246, 3) := dk_180 0 246 (dk_at dksX2_goOn_3 10 rfl rfl)
theorem dX2_goOn_82 : decode cX2_goOn 82 = .ok (.iconst 1, 1) := dk_4 (dk_at dksX2_goOn_3 13 rfl rfl)
theorem dX2_goOn_83 : decode cX2_goOn 83 = .ok (.iadd, 1) := dk_96 (dk_at dksX2_goOn_3 14 rfl rfl)
theorem dX2_goOn_84 : decode cX2_goOn 84 = .ok (.putfield 246, 3) := dk_181 0 246 (dk_at dksX2_goOn_3 15 rfl rfl)
theorem dX2_goOn_87 : decode cX2_goOn 87 = .ok (.aload_n 2, 1) := dk_44 (dk_at dksX2_goOn_3 18 rfl rfl)
theorem dX2_goOn_88 : decode cX2_goOn 88 = .ok (.dup, 1) := dk_89 (dk_at dksX2_goOn_3 19 rfl rfl)
theorem dX2_goOn_89 : decode cX2_goOn 89 = .ok (.getfield 249, 3) := dk_180 0 249 (dk_at dksX2_goOn_3 20 rfl rfl)
theorem dX2_goOn_92 : decode cX2_goOn 92 = .ok (.iconst 1, 1) := dk_4 (dk_at dksX2_goOn_3 23 rfl rfl)
theorem dX2_goOn_93 : decode cX2_goOn 93 = .ok (.iadd, 1) := dk_96 (dk_at dksX2_goOn_4 0 rfl rfl)
theorem dX2_goOn_94 : decode cX2_goOn 94 = .ok (.putfield 249, 3) := dk_181 0 249 (dk_at dksX2_goOn_4 1 rfl rfl)
theorem dX2_goOn_97 : decode cX2_goOn 97 = .ok (.aload_n 2, 1) := dk_44 (dk_at dksX2_goOn_4 4 rfl rfl)
theorem dX2_goOn_98 : decode cX2_goOn 98 = .ok (.getfield 190, 3) := dk_180 0 190 (dk_at dksX2_goOn_4 5 rfl rfl)
theorem dX2_goOn_101 : decode cX2_goOn 101 = .ok (.iconst 0, 1) := dk_3 (dk_at dksX2_goOn_4 8 rfl rfl)
theorem dX2_goOn_102 : decode cX2_goOn 102 = .ok (.faload, 1) := dk_48 (dk_at dksX2_goOn_4 9 rfl rfl)
theorem dX2_goOn_103 : decode cX2_goOn 103 = .ok (.bipush 10, 2) := dk_16 10 (dk_at dksX2_goOn_4 10 rfl rfl)
theorem dX2_goOn_105 : decode cX2_goOn 105 = .ok (.aload_n 0, 1) := dk_42 (dk_at dksX2_goOn_4 12 rfl rfl)
theorem dX2_goOn_106 : decode cX2_goOn 106 = .ok (.getfield 66, 3) := dk_180 0 66 (dk_at dksX2_goOn_4 13 rfl rfl)
theorem dX2_goOn_109 : decode cX2_goOn 109 = .ok (.getfield 252, 3) := dk_180 0 252 (dk_at dksX2_goOn_4 16 rfl rfl)
theorem dX2_goOn_112 : decode cX2_goOn 112 = .ok (.iload_n 1, 1) := dk_27 (dk_at dksX2_goOn_4 19 rfl rfl)
theorem dX2_goOn_113 : decode cX2_goOn 113 = .ok (.iaload, 1) := dk_46 (dk_at dksX2_goOn_4 20 rfl rfl)
theorem dX2_goOn_114 : decode cX2_goOn 114 = .ok (.imul, 1) := dk_104 (dk_at dksX2_goOn_4 21 rfl rfl)
theorem dX2_goOn_115 : decode cX2_goOn 115 = .ok (.i2f, 1) := dk_134 (dk_at dksX2_goOn_4 22 rfl rfl)
theorem dX2_goOn_116 : decode cX2_goOn 116 = .ok (.fcmp .l, 1) := dk_149 (dk_at dksX2_goOn_4 23 rfl rfl)
theorem dX2_goOn_117 : decode cX2_goOn 117 = .ok (.ifCond .le 13, 3) := dk_158 0 13 (dk_at dksX2_goOn_5 0 rfl rfl)
theorem dX2_goOn_120 : decode cX2_goOn 120 = .ok (.aload_n 0, 1) := dk_42 (dk_at dksX2_goOn_5 3 rfl rfl)
theorem dX2_goOn_121 : decode cX2_goOn 121 = .ok (.iload_n 1, 1) := dk_27 (dk_at dksX2_goOn_5 4 rfl rfl)
theorem dX2_goOn_122 : decode cX2_goOn 122 = .ok (.iconst 2, 1) := dk_5 (dk_at dksX2_goOn_5 5 rfl rfl)
theorem dX2_goOn_123 : decode cX2_goOn 123 = .ok (.iload_n 3, 1) := dk_29 (dk_at dksX2_goOn_5 6 rfl rfl)
theorem dX2_goOn_124 : decode cX2_goOn 124 = .ok (.invokevirtual 255, 3) := dk_182 0 255 (dk_at dksX2_goOn_5 7 rfl rfl)
theorem dX2_goOn_127 : decode cX2_goOn 127 = .ok (.goto 36, 3) := dk_167 0 36 (dk_at dksX2_goOn_5 10 rfl rfl)
theorem dX2_goOn_130 : decode cX2_goOn 130 = .ok (.aload_n 2, 1) := dk_44 (dk_at dksX2_goOn_5 13 rfl rfl)
theorem dX2_goOn_131 : decode cX2_goOn 131 = .ok (.aload_n 0, 1) := dk_42 (dk_at dksX2_goOn_5 14 rfl rfl)
theorem dX2_goOn_132 : decode cX2_goOn 132 = .ok (.getfield 76, 3) := dk_180 0 76 (dk_at dksX2_goOn_5 15 rfl rfl)
theorem dX2_goOn_135 : decode cX2_goOn 135 = .ok (.invokevirtual 259, 3) := dk_182 1 3 (dk_at dksX2_goOn_5 18 rfl rfl)
theorem dX2_goOn_138 : decode cX2_goOn 138 = .ok (.aload_n 0, 1) := dk_42 (dk_at dksX2_goOn_5 21 rfl rfl)
theorem dX2_goOn_139 : decode cX2_goOn 139 = .ok (.getfield 80, 3) := dk_180 0 80 (dk_at dksX2_goOn_6 0 rfl rfl)
theorem dX2_goOn_142 : decode cX2_goOn 142 = .ok (.if_icmp .lt 21, 3) := dk_161 0 21 (dk_at dksX2_goOn_6 3 rfl rfl)
theorem dX2_goOn_145 : decode cX2_goOn 145 = .ok (.aload_n 0, 1) := dk_42 (dk_at dksX2_goOn_6 6 rfl rfl)
theorem dX2_goOn_146 : decode cX2_goOn 146 = .ok (.iload_n 1, 1) := dk_27 (dk_at dksX2_goOn_6 7 rfl rfl)
theorem dX2_goOn_147 : decode cX2_goOn 147 = .ok (.aload_n 2, 1) := dk_44 (dk_at dksX2_goOn_6 8 rfl rfl)
theorem dX2_goOn_148 : decode cX2_goOn 148 = .ok (.getfield 237, 3) := dk_180 0 237 (dk_at dksX2_goOn_6 9 rfl rfl)
theorem dX2_goOn_151 : decode cX2_goOn 151 = .ok (.ifCond .eq 7, 3) := dk_153 0 7 (dk_at dksX2_goOn_6 12 rfl rfl)
theorem dX2_goOn_154 : decode cX2_goOn 154 = .ok (.iconst 1, 1) := dk_4 (dk_at dksX2_goOn_6 15 rfl rfl)
theorem dX2_goOn_155 : decode cX2_goOn 155 = .ok (.goto 4, 3) := dk_167 0 4 (dk_at dksX2_goOn_6 16 rfl rfl)
theorem dX2_goOn_158 : decode cX2_goOn 158 = .ok (.iconst 0, 1) := dk_3 (dk_at dksX2_goOn_6 19 rfl rfl)
theorem dX2_goOn_159 : decode cX2_goOn 159 = .ok (.iload_n 3, 1) := dk_29 (dk_at dksX2_goOn_6 20 rfl rfl)
theorem dX2_goOn_160 : decode cX2_goOn 160 = .ok (.invokevirtual 255, 3) := dk_182 0 255 (dk_at dksX2_goOn_6 21 rfl rfl)
theorem dX2_goOn_163 : decode cX2_goOn 163 = .ok (.return_, 1) := dk_177 (dk_at dksX2_goOn_7 0 rfl rfl)
def dkwX2_layRow_5 : List UInt8 := [98, 56, 4, 132, 5, 1, 167, 255, 161, 44, 29, 23, 4, 81, 132, 3, 1, 167, 255, 138, 177]
abbrev dktX2_layRow_5 : List UInt8 := dkwX2_layRow_5 ++ []
def dkwX2_layRow_4 : List UInt8 := [180, 0, 66, 180, 0, 183, 29, 42, 180, 0, 45, 21, 5, 46, 42, 180, 0, 48, 21, 5, 48, 182, 0, 186]
abbrev dktX2_layRow_4 : List UInt8 := dkwX2_layRow_4 ++ dktX2_layRow_5
def dkwX2_layRow_3 : List UInt8 := [27, 160, 0, 48, 23, 4, 42, 180, 0, 66, 180, 0, 157, 21, 5, 182, 0, 96, 192, 0, 160, 42]
abbrev dktX2_layRow_3 : List UInt8 := dkwX2_layRow_3 ++ dktX2_layRow_4
def dkwX2_layRow_2 : List UInt8 := [21, 5, 51, 153, 0, 70, 42, 180, 0, 66, 180, 0, 157, 21, 5, 182, 0, 96, 192, 0, 160, 180, 0, 164]
abbrev dktX2_layRow_2 : List UInt8 := dkwX2_layRow_2 ++ dktX2_layRow_3
def dkwX2_layRow_1 : List UInt8 := [56, 4, 3, 54, 5, 21, 5, 42, 180, 0, 66, 180, 0, 157, 182, 0, 82, 162, 0, 86, 42, 180, 0, 37]
abbrev dktX2_layRow_1 : List UInt8 := dkwX2_layRow_1 ++ dktX2_layRow_2
def dkwX2_layRow_0 : List UInt8 := [42, 180, 0, 14, 27, 182, 0, 96, 192, 0, 86, 180, 0, 180, 77, 3, 62, 29, 44, 190, 162, 0, 118, 11]
abbrev dktX2_layRow_0 : List UInt8 := dkwX2_layRow_0 ++ dktX2_layRow_1
theorem dksX2_layRow_0 : cX2_layRow.data.toList.drop 0 = dktX2_layRow_0 := by decide +kernel
theorem dksX2_layRow_1 : cX2_layRow.data.toList.drop 24 = dktX2_layRow_1 := dk_seg dksX2_layRow_0 24 rfl rfl
theorem dksX2_layRow_2 : cX2_layRow.data.toList.drop 48 = dktX2_layRow_2 := dk_seg dksX2_layRow_1 24 rfl rfl
theorem dksX2_layRow_3 : cX2_layRow.data.toList.drop 72 = dktX2_layRow_3 := dk_seg dksX2_layRow_2 24 rfl rfl
theorem dksX2_layRow_4 : cX2_layRow.data.toList.drop 94 = dktX2_layRow_4 := dk_seg dksX2_layRow_3 22 rfl rfl
theorem dksX2_layRow_5 : cX2_layRow.data.toList.drop 118 = dktX2_layRow_5 := dk_seg dksX2_layRow_4 24 rfl rfl
theorem dX2_layRow_0 : decode cX2_layRow 0 = .ok (.aload_n 0, 1) := dk_42 (dk_at dksX2_layRow_0 0 rfl rfl)
theorem dX2_layRow_1 : decode cX2_layRow 1 = .ok (.getfield 14, 3) := dk_180 0 14 (dk_at dksX2_layRow_0 1 rfl rfl)
theorem dX2_layRow_4 : decode cX2_layRow 4 = .ok (.iload_n 1, 1) := dk_27 (dk_at dksX2_layRow_0 4 rfl rfl)
theorem dX2_layRow_5 : decode cX2_layRow 5 = .ok (.invokevirtual 96, 3) := dk_182 0 96 (dk_at dksX2_layRow_0 5 rfl rfl)
theorem dX2_layRow_8 : decode cX2_layRow 8 = .ok (.checkcast 86, 3) := dk_192 0 86 (dk_at dksX2_layRow_0 8 rfl rfl)
theorem dX2_layRow_11 : decode cX2_layRow 11 = .ok (.getfield 180, 3) := dk_180 0 180 (dk_at dksX2_layRow_0 11 rfl rfl)
theorem dX2_layRow_14 : decode cX2_layRow 14 = .ok (.astore_n 2, 1) := dk_77 (dk_at dksX2_layRow_0 14 rfl rfl)
theorem dX2_layRow_15 : decode cX2_layRow 15 = .ok (.iconst 0, 1) := dk_3 (dk_at dksX2_layRow_0 15 rfl rfl)
theorem dX2_layRow_16 : decode cX2_layRow 16 = .ok (.istore_n 3, 1) := dk_62 (dk_at dksX2_layRow_0 16 rfl rfl)
theorem dX2_layRow_17 : decode cX2_layRow 17 = .ok (.iload_n 3, 1) := dk_29 (dk_at dksX2_layRow_0 17 rfl rfl)
theorem dX2_layRow_18 : decode cX2_layRow 18 = .ok (.aload_n 2, 1) := dk_44 (dk_at dksX2_layRow_0 18 rfl rfl)
theorem dX2_layRow_19 : decode cX2_layRow 19 = .ok (.arraylength, 1) := dk_190 (dk_at dksX2_layRow_0 19 rfl rfl)
theorem dX2_layRow_20 : decode cX2_layRow 20 = .ok (.if_icmp .ge 118, 3) := dk_162 0 118 (dk_at dksX2_layRow_0 20 rfl rfl)
theorem dX2_layRow_23 : decode cX2_layRow 23 = .ok (.fconst 0, 1) := dk_11 (dk_at dksX2_layRow_0 23 rfl rfl)
theorem dX2_layRow_24 : decode cX2_layRow 24 = .ok (.fstore 4, 2) := dk_56 4 (dk_at dksX2_layRow_1 0 rfl rfl)
theorem dX2_layRow_26 : decode cX2_layRow 26 = .ok (.iconst 0, 1) := dk_3 (dk_at dksX2_layRow_1 2 rfl rfl)
theorem dX2_layRow_27 : decode cX2_layRow 27 = .ok (.istore 5, 2) := dk_54 5 (dk_at dksX2_layRow_1 3 rfl rfl)
theorem dX2_layRow_29 : decode cX2_layRow 29 = .ok (.iload 5, 2) := dk_21 5 (dk_at dksX2_layRow_1 5 rfl rfl)
theorem dX2_layRow_31 : decode cX2_layRow 31 = .ok (.aload_n 0, 1) := dk_42 (dk_at dksX2_layRow_1 7 rfl rfl)
theorem dX2_layRow_32 : decode cX2_layRow 32 = .ok (.getfield 66, 3) := dk_180 0 66 (dk_at dksX2_layRow_1 8 rfl rfl)
theorem dX2_layRow_35 : decode cX2_layRow 35 = .ok (.getfield 157, 3) := dk_180 0 157 (dk_at dksX2_layRow_1 11 rfl rfl)
theorem dX2_layRow_38 : decode cX2_layRow 38 = .ok (.invokevirtual 82, 3) := dk_182 0 82 (dk_at dksX2_layRow_1 14 rfl rfl)
theorem dX2_layRow_41 : decode cX2_layRow 41 = .ok (.if_icmp .ge 86, 3) := dk_162 0 86 (dk_at dksX2_layRow_1 17 rfl rfl)
theorem dX2_layRow_44 : decode cX2_layRow 44 = .ok (.aload_n 0, 1) := dk_42 (dk_at dksX2_layRow_1 20 rfl rfl)
theorem dX2_layRow_45 : decode cX2_layRow 45 = .ok (.getfield 37, 3) := dk_180 0 37 (dk_at dksX2_layRow_1 21 rfl rfl)
theorem dX2_layRow_48 : decode cX2_layRow 48 = .ok (.iload 5, 2) := dk_21 5 (dk_at dksX2_layRow_2 0 rfl rfl)
theorem dX2_layRow_50 : decode cX2_layRow 50 = .ok (.baload, 1) := dk_51 (dk_at dksX2_layRow_2 2 rfl rfl)
theorem dX2_layRow_51 : decode cX2_layRow 51 = .ok (.ifCond .eq 70, 3) := dk_153 0 70 (dk_at dksX2_layRow_2 3 rfl rfl)
theorem dX2_layRow_54 : decode cX2_layRow 54 = .ok (.aload_n 0, 1) := dk_42 (dk_at dksX2_layRow_2 6 rfl rfl)
theorem dX2_layRow_55 : decode cX2_layRow 55 = .ok (.getfield 66, 3) := dk_180 0 66 (dk_at dksX2_layRow_2 7 rfl rfl)
theorem dX2_layRow_58 : decode cX2_layRow 58 = .ok (.getfield 157, 3) := dk_180 0 157 (dk_at dksX2_layRow_2 10 rfl rfl)
theorem dX2_layRow_61 : decode cX2_layRow 61 = .ok (.iload 5, 2) := dk_21 5 (dk_at dksX2_layRow_2 13 rfl rfl)
theorem dX2_layRow_63 : decode cX2_layRow 63 = .ok (.invokevirtual 96, 3) := dk_182 0 96 (dk_at dksX2_layRow_2 15 rfl rfl)
theorem dX2_layRow_66 : decode cX2_layRow 66 = .ok (.checkcast 160, 3) := dk_192 0 160 (dk_at dksX2_layRow_2 18 rfl rfl)
theorem dX2_layRow_69 : decode cX2_layRow 69 = .ok (.getfield 164, 3) := dk_180 0 164 (dk_at dksX2_layRow_2 21 rfl rfl)
theorem dX2_layRow_72 : decode cX2_layRow 72 = .ok (.iload_n 1, 1) := dk_27 (dk_at dksX2_layRow_3 0 rfl rfl)
theorem dX2_layRow_73 : decode cX2_layRow 73 = .ok (.if_icmp .ne 48, 3) := dk_160 0 48 (dk_at dksX2_layRow_3 1 rfl rfl)
theorem dX2_layRow_76 : decode cX2_layRow 76 = .ok (.fload 4, 2) := dk_23 4 (dk_at dksX2_layRow_3 4 rfl rfl)
theorem dX2_layRow_78 : decode cX2_layRow 78 = .ok (.aload_n 0, 1) := dk_42 (dk_at dksX2_layRow_3 6 rfl rfl)
theorem dX2_layRow_79 : decode cX2_layRow 79 = .ok (.getfield 66, 3) := dk_180 0 66 (dk_at dksX2_layRow_3 7 rfl rfl)
theorem dX2_layRow_82 : decode cX2_layRow 82 = .ok (.getfield 157, 3) := dk_180 0 157 (dk_at dksX2_layRow_3 10 rfl rfl)
theorem dX2_layRow_85 : decode cX2_layRow 85 = .ok (.iload 5, 2) := dk_21 5 (dk_at dksX2_layRow_3 13 rfl rfl)
theorem dX2_layRow_87 : decode cX2_layRow 87 = .ok (.invokevirtual 96, 3) := dk_182 0 96 (dk_at dksX2_layRow_3 15 rfl rfl)
theorem dX2_layRow_90 : decode cX2_layRow 90 = .ok (.checkcast 160, 3) := dk_192 0 160 (dk_at dksX2_layRow_3 18 rfl rfl)
theorem dX2_layRow_93 : decode cX2_layRow 93 = .ok (.aload_n 0, 1) := dk_42 (dk_at dksX2_layRow_3 21 rfl rfl)
theorem dX2_layRow_94 : decode cX2_layRow 94 = .ok (.getfield 66, 3) := dk_180 0 66 (dk_at dksX2_layRow_4 0 rfl rfl)
theorem dX2_layRow_97 : decode cX2_layRow 97 = .ok (.getfield 183, 3) := dk_180 0 183 (dk_at dksX2_layRow_4 3 rfl rfl)
theorem dX2_layRow_100 : decode cX2_layRow 100 = .ok (.iload_n 3, 1) := dk_29 (dk_at dksX2_layRow_4 6 rfl rfl)
theorem dX2_layRow_101 : decode cX2_layRow 101 = .ok (.aload_n 0, 1) := dk_42 (dk_at dksX2_layRow_4 7 rfl rfl)
theorem dX2_layRow_102 : decode cX2_layRow 102 = .ok (.getfield 45, 3) := dk_180 0 45 (dk_at dksX2_layRow_4 8 rfl rfl)
theorem dX2_layRow_105 : decode cX2_layRow 105 = .ok (.iload 5, 2) := dk_21 5 (dk_at dksX2_layRow_4 11 rfl rfl)
theorem dX2_layRow_107 : decode cX2_layRow 107 = .ok (.iaload, 1) := dk_46 (dk_at dksX2_layRow_4 13 rfl rfl)
theorem dX2_layRow_108 : decode cX2_layRow 108 = .ok (.aload_n 0, 1) := dk_42 (dk_at dksX2_layRow_4 14 rfl rfl)
theorem dX2_layRow_109 : decode cX2_layRow 109 = .ok (.getfield 48, 3) := dk_180 0 48 (dk_at dksX2_layRow_4 15 rfl rfl)
theorem dX2_layRow_112 : decode cX2_layRow 112 = .ok (.iload 5, 2) := dk_21 5 (dk_at dksX2_layRow_4 18 rfl rfl)
theorem dX2_layRow_114 : decode cX2_layRow 114 = .ok (.faload, 1) := dk_48 (dk_at dksX2_layRow_4 20 rfl rfl)
theorem dX2_layRow_115 : decode cX2_layRow 115 = .ok (.invokevirtual 186, 3) := dk_182 0 186 (dk_at dksX2_layRow_4 21 rfl rfl)
theorem dX2_layRow_118 : decode cX2_layRow 118 = .ok (.fadd, 1) := dk_98 (dk_at dksX2_layRow_5 0 rfl rfl)
theorem dX2_layRow_119 : decode cX2_layRow 119 = .ok (.fstore 4, 2) := dk_56 4 (dk_at dksX2_layRow_5 1 rfl rfl)
theorem dX2_layRow_121 : decode cX2_layRow 121 = .ok (.iinc 5 1, 3) := dk_132 5 1 (dk_at dksX2_layRow_5 3 rfl rfl)
theorem dX2_layRow_124 : decode cX2_layRow 124 = .ok (.goto (-95), 3) := dk_167 255 161 (dk_at dksX2_layRow_5 6 rfl rfl)
theorem dX2_layRow_127 : decode cX2_layRow 127 = .ok (.aload_n 2, 1) := dk_44 (dk_at dksX2_layRow_5 9 rfl rfl)
theorem dX2_layRow_128 : decode cX2_layRow 128 = .ok (.iload_n 3, 1) := dk_29 (dk_at dksX2_layRow_5 10 rfl rfl)
theorem dX2_layRow_129 : decode cX2_layRow 129 = .ok (.fload 4, 2) := dk_23 4 (dk_at dksX2_layRow_5 11 rfl rfl)
theorem dX2_layRow_131 : decode cX2_layRow 131 = .ok (.fastore, 1) := dk_81 (dk_at dksX2_layRow_5 13 rfl rfl)
theorem dX2_layRow_132 : decode cX2_layRow 132 = .ok (.iinc 3 1, 3) := dk_132 3 1 (dk_at dksX2_layRow_5 14 rfl rfl)
theorem dX2_layRow_135 : decode cX2_layRow 135 = .ok (.goto (-118), 3) := dk_167 255 138 (dk_at dksX2_layRow_5 17 rfl rfl)
theorem dX2_layRow_138 : decode cX2_layRow 138 = .ok (.return_, 1) := dk_177 (dk_at dksX2_layRow_5 20 rfl rfl)
def dkwX2_findFeatures_2 : List UInt8 := [181, 0, 193, 177]
abbrev dktX2_findFeatures_2 : List UInt8 := dkwX2_findFeatures_2 ++ []
def dkwX2_findFeatures_1 : List UInt8 := [180, 0, 190, 43, 180, 0, 193, 182, 0, 197, 81, 132, 2, 1, 167, 255, 220, 43, 43, 180, 0, 190, 4, 48]
abbrev dktX2_findFeatures_1 : List UInt8 := dkwX2_findFeatures_1 ++ dktX2_findFeatures_2
def dkwX2_findFeatures_0 : List UInt8 := [3, 61, 28, 16, 6, 162, 0, 36, 43, 180, 0, 190, 28, 42, 180, 0, 58, 28, 50, 43, 180, 0, 180, 43]
abbrev dktX2_findFeatures_0 : List UInt8 := dkwX2_findFeatures_0 ++ dktX2_findFeatures_1
theorem dksX2_findFeatures_0 : cX2_findFeatures.data.toList.drop 0 = dktX2_findFeatures_0 := by decide +kernel
theorem dksX2_findFeatures_1 : cX2_findFeatures.data.toList.drop 24 = dktX2_findFeatures_1 := dk_seg dksX2_findFeatures_0 24 rfl rfl
theorem dksX2_findFeatures_2 : cX2_findFeatures.data.toList.drop 48 = dktX2_findFeatures_2 := dk_seg dksX2_findFeatures_1 24 rfl rfl
theorem dX2_findFeatures_0 : decode cX2_findFeatures 0 = .ok (.iconst 0, 1) := dk_3 (dk_at dksX2_findFeatures_0 0 rfl rfl)
theorem dX2_findFeatures_1 : decode cX2_findFeatures 1 = .ok (.istore_n 2, 1) := dk_61 (dk_at dksX2_findFeatures_0 1 rfl rfl)
theorem dX2_findFeatures_2 : decode cX2_findFeatures 2 = .ok (.iload_n 2, 1) := dk_28 (dk_at dksX2_findFeatures_0 2 rfl rfl)
theorem dX2_findFeatures_3 : decode cX2_findFeatures 3 = .ok (.bipush 6, 2) := dk_16 6 (dk_at dksX2_findFeatures_0 3 rfl rfl)
theorem dX2_findFeatures_5 : decode cX2_findFeatures 5 = .ok (.if_icmp .ge 36, 3) := dk_162 0 36 (dk_at dksX2_findFeatures_0 5 rfl rfl)
theorem dX2_findFeatures_8 : decode cX2_findFeatures 8 = .ok (.aload_n 1, 1) := dk_43 (dk_at dksX2_findFeatures_0 8 rfl rfl)
theorem dX2_findFeatures_9 : decode cX2_findFeatures 9 = .ok (.getfield 190, 3) := dk_180 0 190 (dk_at dksX2_findFeatures_0 9 rfl rfl)
theorem dX2_findFeatures_12 : decode cX2_findFeatures 12 = .ok (.iload_n 2, 1) := dk_28 (dk_at dksX2_findFeatures_0 12 rfl rfl)
theorem dX2_findFeatures_13 : decode cX2_findFeatures 13 = .ok (.aload_n 0, 1) := dk_42 (dk_at dksX2_findFeatures_0 13 rfl rfl)
theorem dX2_findFeatures_14 : decode cX2_findFeatures 14 = .ok (.getfield 58, 3) := dk_180 0 58 (dk_at dksX2_findFeatures_0 14 rfl rfl)
theorem dX2_findFeatures_17 : decode cX2_findFeatures 17 = .ok (.iload_n 2, 1) := dk_28 (dk_at dksX2_findFeatures_0 17 rfl rfl)
theorem dX2_findFeatures_18 : decode cX2_findFeatures 18 = .ok (.aaload, 1) := dk_50 (dk_at dksX2_findFeatures_0 18 rfl rfl)
theorem dX2_findFeatures_19 : decode cX2_findFeatures 19 = .ok (.aload_n 1, 1) := dk_43 (dk_at dksX2_findFeatures_0 19 rfl rfl)
theorem dX2_findFeatures_20 : decode cX2_findFeatures 20 = .ok (.getfield 180, 3) := dk_180 0 180 (dk_at dksX2_findFeatures_0 20 rfl rfl)
theorem dX2_findFeatures_23 : decode cX2_findFeatures 23 = .ok (.aload_n 1, 1) := dk_43 (dk_at dksX2_findFeatures_0 23 rfl rfl)
theorem dX2_findFeatures_24 : decode cX2_findFeatures 24 = .ok (.getfield 190, 3) := dk_180 0 190 (dk_at dksX2_findFeatures_1 0 rfl rfl)
theorem dX2_findFeatures_27 : decode cX2_findFeatures 27 = .ok (.aload_n 1, 1) := dk_43 (dk_at dksX2_findFeatures_1 3 rfl rfl)
theorem dX2_findFeatures_28 : decode cX2_findFeatures 28 = .ok (.getfield 193, 3) := dk_180 0 193 (dk_at dksX2_findFeatures_1 4 rfl rfl)
theorem dX2_findFeatures_31 : decode cX2_findFeatures 31 = .ok (.invokevirtual 197, 3) := dk_182 0 197 (dk_at dksX2_findFeatures_1 7 rfl rfl)
theorem dX2_findFeatures_34 : decode cX2_findFeatures 34 = .ok (.fastore, 1) := dk_81 (dk_at dksX2_findFeatures_1 10 rfl rfl)
theorem dX2_findFeatures_35 : decode cX2_findFeatures 35 = .ok (.iinc 2 1, 3) := dk_132 2 1 (dk_at dksX2_findFeatures_1 11 rfl rfl)
theorem dX2_findFeatures_38 : decode cX2_findFeatures 38 = .ok (.goto (-36), 3) := dk_167 255 220 (dk_at dksX2_findFeatures_1 14 rfl rfl)
theorem dX2_findFeatures_41 : decode cX2_findFeatures 41 = .ok (.aload_n 1, 1) := dk_43 (dk_at dksX2_findFeatures_1 17 rfl rfl)
theorem dX2_findFeatures_42 : decode cX2_findFeatures 42 = .ok (.aload_n 1, 1) := dk_43 (dk_at dksX2_findFeatures_1 18 rfl rfl)
theorem dX2_findFeatures_43 : decode cX2_findFeatures 43 = .ok (.getfield 190, 3) := dk_180 0 190 (dk_at dksX2_findFeatures_1 19 rfl rfl)
theorem dX2_findFeatures_46 : decode cX2_findFeatures 46 = .ok (.iconst 1, 1) := dk_4 (dk_at dksX2_findFeatures_1 22 rfl rfl)
theorem dX2_findFeatures_47 : decode cX2_findFeatures 47 = .ok (.faload, 1) := dk_48 (dk_at dksX2_findFeatures_1 23 rfl rfl)
theorem dX2_findFeatures_48 : decode cX2_findFeatures 48 = .ok (.putfield 193, 3) := dk_181 0 193 (dk_at dksX2_findFeatures_2 0 rfl rfl)
theorem dX2_findFeatures_51 : decode cX2_findFeatures 51 = .ok (.return_, 1) := dk_177 (dk_at dksX2_findFeatures_2 3 rfl rfl)
def dkwX2_match_6 : List UInt8 := [192, 0, 103, 89, 180, 0, 109, 4, 96, 181, 0, 109, 132, 2, 1, 167, 255, 183, 177]
abbrev dktX2_match_6 : List UInt8 := dkwX2_match_6 ++ []
def dkwX2_match_5 : List UInt8 := [167, 0, 35, 43, 89, 180, 0, 204, 4, 28, 120, 128, 181, 0, 204, 42, 180, 0, 20, 28, 182, 0, 96]
abbrev dktX2_match_5 : List UInt8 := dkwX2_match_5 ++ dktX2_match_6
def dkwX2_match_4 : List UInt8 := [180, 0, 20, 28, 182, 0, 96, 192, 0, 103, 180, 0, 105, 43, 180, 0, 190, 182, 0, 212, 154, 0, 6]
abbrev dktX2_match_4 : List UInt8 := dkwX2_match_4 ++ dktX2_match_5
def dkwX2_match_3 : List UInt8 := [46, 4, 96, 79, 132, 2, 1, 167, 255, 190, 3, 61, 28, 42, 180, 0, 20, 182, 0, 82, 162, 0, 68, 42]
abbrev dktX2_match_3 : List UInt8 := dkwX2_match_3 ++ dktX2_match_4
def dkwX2_match_2 : List UInt8 := [154, 0, 6, 167, 0, 25, 43, 89, 180, 0, 201, 4, 28, 120, 128, 181, 0, 201, 42, 180, 0, 41, 28, 92]
abbrev dktX2_match_2 : List UInt8 := dkwX2_match_2 ++ dktX2_match_3
def dkwX2_match_1 : List UInt8 := [162, 0, 58, 42, 180, 0, 66, 180, 0, 207, 28, 182, 0, 96, 192, 0, 210, 43, 180, 0, 190, 182, 0, 212]
abbrev dktX2_match_1 : List UInt8 := dkwX2_match_1 ++ dktX2_match_2
def dkwX2_match_0 : List UInt8 := [43, 3, 181, 0, 201, 43, 3, 181, 0, 204, 3, 61, 28, 42, 180, 0, 66, 180, 0, 207, 182, 0, 82]
abbrev dktX2_match_0 : List UInt8 := dkwX2_match_0 ++ dktX2_match_1
theorem dksX2_match_0 : cX2_match.data.toList.drop 0 = dktX2_match_0 := by decide +kernel
theorem dksX2_match_1 : cX2_match.data.toList.drop 23 = dktX2_match_1 := dk_seg dksX2_match_0 23 rfl rfl
theorem dksX2_match_2 : cX2_match.data.toList.drop 47 = dktX2_match_2 := dk_seg dksX2_match_1 24 rfl rfl
theorem dksX2_match_3 : cX2_match.data.toList.drop 71 = dktX2_match_3 := dk_seg dksX2_match_2 24 rfl rfl
theorem dksX2_match_4 : cX2_match.data.toList.drop 95 = dktX2_match_4 := dk_seg dksX2_match_3 24 rfl rfl
theorem dksX2_match_5 : cX2_match.data.toList.drop 118 = dktX2_match_5 := dk_seg dksX2_match_4 23 rfl rfl
theorem dksX2_match_6 : cX2_match.data.toList.drop 141 = dktX2_match_6 := dk_seg dksX2_match_5 23 rfl rfl
theorem dX2_match_0 : decode cX2_match 0 = .ok (.aload_n 1, 1) := dk_43 (dk_at dksX2_match_0 0 rfl rfl)
theorem dX2_match_1 : decode cX2_match 1 = .ok (.iconst 0, 1) := dk_3 (dk_at dksX2_match_0 1 rfl rfl)
theorem dX2_match_2 : decode cX2_match 2 = .ok (.putfield 201, 3) := dk_181 0 201 (dk_at dksX2_match_0 2 rfl rfl)
theorem dX2_match_5 : decode cX2_match 5 = .ok (.aload_n 1, 1) := dk_43 (dk_at dksX2_match_0 5 rfl rfl)
theorem dX2_match_6 : decode cX2_match 6 = .ok (.iconst 0, 1) := dk_3 (dk_at dksX2_match_0 6 rfl rfl)
theorem dX2_match_7 : decode cX2_match 7 = .ok (.putfield 204, 3) := dk_181 0 204 (dk_at dksX2_match_0 7 rfl rfl)
theorem dX2_match_10 : decode cX2_match 10 = .ok (.iconst 0, 1) := dk_3 (dk_at dksX2_match_0 10 rfl rfl)
theorem dX2_match_11 : decode cX2_match 11 = .ok (.istore_n 2, 1) := dk_61 (dk_at dksX2_match_0 11 rfl rfl)
theorem dX2_match_12 : decode cX2_match 12 = .ok (.iload_n 2, 1) := dk_28 (dk_at dksX2_match_0 12 rfl rfl)
theorem dX2_match_13 : decode cX2_match 13 = .ok (.aload_n 0, 1) := dk_42 (dk_at dksX2_match_0 13 rfl rfl)
theorem dX2_match_14 : decode cX2_match 14 = .ok (.getfield 66, 3) := dk_180 0 66 (dk_at dksX2_match_0 14 rfl rfl)
theorem dX2_match_17 : decode cX2_match 17 = .ok (.getfield 207, 3) := dk_180 0 207 (dk_at dksX2_match_0 17 rfl rfl)
theorem dX2_match_20 : decode cX2_match 20 = .ok (.invokevirtual 82, 3) := dk_182 0 82 (dk_at dksX2_match_0 20 rfl rfl)
theorem dX2_match_23 : decode cX2_match 23 = .ok (.if_icmp .ge 58, 3) := dk_162 0 58 (dk_at dksX2_match_1 0 rfl rfl)
theorem dX2_match_26 : decode cX2_match 26 = .ok (.aload_n 0, 1) := dk_42 (dk_at dksX2_match_1 3 rfl rfl)
theorem dX2_match_27 : decode cX2_match 27 = .ok (.getfield 66, 3) := dk_180 0 66 (dk_at dksX2_match_1 4 rfl rfl)
theorem dX2_match_30 : decode cX2_match 30 = .ok (.getfield 207, 3) := dk_180 0 207 (dk_at dksX2_match_1 7 rfl rfl)
theorem dX2_match_33 : decode cX2_match 33 = .ok (.iload_n 2, 1) := dk_28 (dk_at dksX2_match_1 10 rfl rfl)
theorem dX2_match_34 : decode cX2_match 34 = .ok (.invokevirtual 96, 3) := dk_182 0 96 (dk_at dksX2_match_1 11 rfl rfl)
theorem dX2_match_37 : decode cX2_match 37 = .ok (.checkcast 210, 3) := dk_192 0 210 (dk_at dksX2_match_1 14 rfl rfl)
theorem dX2_match_40 : decode cX2_match 40 = .ok (.aload_n 1, 1) := dk_43 (dk_at dksX2_match_1 17 rfl rfl)
theorem dX2_match_41 : decode cX2_match 41 = .ok (.getfield 190, 3) := dk_180 0 190 (dk_at dksX2_match_1 18 rfl rfl)
theorem dX2_match_44 : decode cX2_match 44 = .ok (.invokevirtual 212, 3) := dk_182 0 212 (dk_at dksX2_match_1 21 rfl rfl)
theorem dX2_match_47 : decode cX2_match 47 = .ok (.ifCond .ne 6, 3) := dk_154 0 6 (dk_at dksX2_match_2 0 rfl rfl)
theorem dX2_match_50 : decode cX2_match 50 = .ok (.goto 25, 3) := dk_167 0 25 (dk_at dksX2_match_2 3 rfl rfl)
theorem dX2_match_53 : decode cX2_match 53 = .ok (.aload_n 1, 1) := dk_43 (dk_at dksX2_match_2 6 rfl rfl)
theorem dX2_match_54 : decode cX2_match 54 = .ok (.dup, 1) := dk_89 (dk_at dksX2_match_2 7 rfl rfl)
theorem dX2_match_55 : decode cX2_match 55 = .ok (.getfield 201, 3) := dk_180 0 201 (dk_at dksX2_match_2 8 rfl rfl)
theorem dX2_match_58 : decode cX2_match 58 = .ok (.iconst 1, 1) := dk_4 (dk_at dksX2_match_2 11 rfl rfl)
theorem dX2_match_59 : decode cX2_match 59 = .ok (.iload_n 2, 1) := dk_28 (dk_at dksX2_match_2 12 rfl rfl)
theorem dX2_match_60 : decode cX2_match 60 = .ok (.ishl, 1) := dk_120 (dk_at dksX2_match_2 13 rfl rfl)
theorem dX2_match_61 : decode cX2_match 61 = .ok (.ior, 1) := dk_128 (dk_at dksX2_match_2 14 rfl rfl)
theorem dX2_match_62 : decode cX2_match 62 = .ok (.putfield 201, 3) := dk_181 0 201 (dk_at dksX2_match_2 15 rfl rfl)
theorem dX2_match_65 : decode cX2_match 65 = .ok (.aload_n 0, 1) := dk_42 (dk_at dksX2_match_2 18 rfl rfl)
theorem dX2_match_66 : decode cX2_match 66 = .ok (.getfield 41, 3) := dk_180 0 41 (dk_at dksX2_match_2 19 rfl rfl)
theorem dX2_match_69 : decode cX2_match 69 = .ok (.iload_n 2, 1) := dk_28 (dk_at dksX2_match_2 22 rfl rfl)
theorem dX2_match_70 : decode cX2_match 70 = .ok (.dup2, 1) := dk_92 (dk_at dksX2_match_2 23 rfl rfl)
theorem dX2_match_71 : decode cX2_match 71 = .ok (.iaload, 1) := dk_46 (dk_at dksX2_match_3 0 rfl rfl)
theorem dX2_match_72 : decode cX2_match 72 = .ok (.iconst 1, 1) := dk_4 (dk_at dksX2_match_3 1 rfl rfl)
theorem dX2_match_73 : decode cX2_match 73 = .ok (.iadd, 1) := dk_96 (dk_at dksX2_match_3 2 rfl rfl)
theorem dX2_match_74 : decode cX2_match 74 = .ok (.iastore, 1) := dk_79 (dk_at dksX2_match_3 3 rfl rfl)
theorem dX2_match_75 : decode cX2_match 75 = .ok (.iinc 2 1, 3) := dk_132 2 1 (dk_at dksX2_match_3 4 rfl rfl)
theorem dX2_match_78 : decode cX2_match 78 = .ok (.goto (-66), 3) := dk_167 255 190 (dk_at dksX2_match_3 7 rfl rfl)
theorem dX2_match_81 : decode cX2_match 81 = .ok (.iconst 0, 1) := dk_3 (dk_at dksX2_match_3 10 rfl rfl)
theorem dX2_match_82 : decode cX2_match 82 = .ok (.istore_n 2, 1) := dk_61 (dk_at dksX2_match_3 11 rfl rfl)
theorem dX2_match_83 : decode cX2_match 83 = .ok (.iload_n 2, 1) := dk_28 (dk_at dksX2_match_3 12 rfl rfl)
theorem dX2_match_84 : decode cX2_match 84 = .ok (.aload_n 0, 1) := dk_42 (dk_at dksX2_match_3 13 rfl rfl)
theorem dX2_match_85 : decode cX2_match 85 = .ok (.getfield 20, 3) := dk_180 0 20 (dk_at dksX2_match_3 14 rfl rfl)
theorem dX2_match_88 : decode cX2_match 88 = .ok (.invokevirtual 82, 3) := dk_182 0 82 (dk_at dksX2_match_3 17 rfl rfl)
theorem dX2_match_91 : decode cX2_match 91 = .ok (.if_icmp .ge 68, 3) := dk_162 0 68 (dk_at dksX2_match_3 20 rfl rfl)
theorem dX2_match_94 : decode cX2_match 94 = .ok (.aload_n 0, 1) := dk_42 (dk_at dksX2_match_3 23 rfl rfl)
theorem dX2_match_95 : decode cX2_match 95 = .ok (.getfield 20, 3) := dk_180 0 20 (dk_at dksX2_match_4 0 rfl rfl)
theorem dX2_match_98 : decode cX2_match 98 = .ok (.iload_n 2, 1) := dk_28 (dk_at dksX2_match_4 3 rfl rfl)
theorem dX2_match_99 : decode cX2_match 99 = .ok (.invokevirtual 96, 3) := dk_182 0 96 (dk_at dksX2_match_4 4 rfl rfl)
theorem dX2_match_102 : decode cX2_match 102 = .ok (.checkcast 103, 3) := dk_192 0 103 (dk_at dksX2_match_4 7 rfl rfl)
theorem dX2_match_105 : decode cX2_match 105 = .ok (.getfield 105, 3) := dk_180 0 105 (dk_at dksX2_match_4 10 rfl rfl)
theorem dX2_match_108 : decode cX2_match 108 = .ok (.aload_n 1, 1) := dk_43 (dk_at dksX2_match_4 13 rfl rfl)
theorem dX2_match_109 : decode cX2_match 109 = .ok (.getfield 190, 3) := dk_180 0 190 (dk_at dksX2_match_4 14 rfl rfl)
theorem dX2_match_112 : decode cX2_match 112 = .ok (.invokevirtual 212, 3) := dk_182 0 212 (dk_at dksX2_match_4 17 rfl rfl)
theorem dX2_match_115 : decode cX2_match 115 = .ok (.ifCond .ne 6, 3) := dk_154 0 6 (dk_at dksX2_match_4 20 rfl rfl)
theorem dX2_match_118 : decode cX2_match 118 = .ok (.goto 35, 3) := dk_167 0 35 (dk_at dksX2_match_5 0 rfl rfl)
theorem dX2_match_121 : decode cX2_match 121 = .ok (.aload_n 1, 1) := dk_43 (dk_at dksX2_match_5 3 rfl rfl)
theorem dX2_match_122 : decode cX2_match 122 = .ok (.dup, 1) := dk_89 (dk_at dksX2_match_5 4 rfl rfl)
theorem dX2_match_123 : decode cX2_match 123 = .ok (.getfield 204, 3) := dk_180 0 204 (dk_at dksX2_match_5 5 rfl rfl)
theorem dX2_match_126 : decode cX2_match 126 = .ok (.iconst 1, 1) := dk_4 (dk_at dksX2_match_5 8 rfl rfl)
theorem dX2_match_127 : decode cX2_match 127 = .ok (.iload_n 2, 1) := dk_28 (dk_at dksX2_match_5 9 rfl rfl)
theorem dX2_match_128 : decode cX2_match 128 = .ok (.ishl, 1) := dk_120 (dk_at dksX2_match_5 10 rfl rfl)
theorem dX2_match_129 : decode cX2_match 129 = .ok (.ior, 1) := dk_128 (dk_at dksX2_match_5 11 rfl rfl)
theorem dX2_match_130 : decode cX2_match 130 = .ok (.putfield 204, 3) := dk_181 0 204 (dk_at dksX2_match_5 12 rfl rfl)
theorem dX2_match_133 : decode cX2_match 133 = .ok (.aload_n 0, 1) := dk_42 (dk_at dksX2_match_5 15 rfl rfl)
theorem dX2_match_134 : decode cX2_match 134 = .ok (.getfield 20, 3) := dk_180 0 20 (dk_at dksX2_match_5 16 rfl rfl)
theorem dX2_match_137 : decode cX2_match 137 = .ok (.iload_n 2, 1) := dk_28 (dk_at dksX2_match_5 19 rfl rfl)
theorem dX2_match_138 : decode cX2_match 138 = .ok (.invokevirtual 96, 3) := dk_182 0 96 (dk_at dksX2_match_5 20 rfl rfl)
theorem dX2_match_141 : decode cX2_match 141 = .ok (.checkcast 103, 3) := dk_192 0 103 (dk_at dksX2_match_6 0 rfl rfl)
theorem dX2_match_144 : decode cX2_match 144 = .ok (.dup, 1) := dk_89 (dk_at dksX2_match_6 3 rfl rfl)
theorem dX2_match_145 : decode cX2_match 145 = .ok (.getfield 109, 3) := dk_180 0 109 (dk_at dksX2_match_6 4 rfl rfl)
theorem dX2_match_148 : decode cX2_match 148 = .ok (.iconst 1, 1) := dk_4 (dk_at dksX2_match_6 7 rfl rfl)
theorem dX2_match_149 : decode cX2_match 149 = .ok (.iadd, 1) := dk_96 (dk_at dksX2_match_6 8 rfl rfl)
theorem dX2_match_150 : decode cX2_match 150 = .ok (.putfield 109, 3) := dk_181 0 109 (dk_at dksX2_match_6 9 rfl rfl)
theorem dX2_match_153 : decode cX2_match 153 = .ok (.iinc 2 1, 3) := dk_132 2 1 (dk_at dksX2_match_6 12 rfl rfl)
theorem dX2_match_156 : decode cX2_match 156 = .ok (.goto (-73), 3) := dk_167 255 183 (dk_at dksX2_match_6 15 rfl rfl)
theorem dX2_match_159 : decode cX2_match 159 = .ok (.return_, 1) := dk_177 (dk_at dksX2_match_6 18 rfl rfl)
def dkwX2_causeOf_2 : List UInt8 := [180, 0, 220, 153, 0, 5, 28, 172, 132, 2, 1, 167, 255, 199, 2, 172]
abbrev dktX2_causeOf_2 : List UInt8 := dkwX2_causeOf_2 ++ []
def dkwX2_causeOf_1 : List UInt8 := [153, 0, 32, 43, 180, 0, 204, 153, 0, 23, 42, 180, 0, 66, 180, 0, 207, 28, 182, 0, 96, 192, 0, 210]
abbrev dktX2_causeOf_1 : List UInt8 := dkwX2_causeOf_1 ++ dktX2_causeOf_2
def dkwX2_causeOf_0 : List UInt8 := [3, 61, 28, 42, 180, 0, 66, 180, 0, 207, 182, 0, 82, 162, 0, 49, 43, 180, 0, 201, 28, 184, 0, 216]
abbrev dktX2_causeOf_0 : List UInt8 := dkwX2_causeOf_0 ++ dktX2_causeOf_1
theorem dksX2_causeOf_0 : cX2_causeOf.data.toList.drop 0 = dktX2_causeOf_0 := by decide +kernel
theorem dksX2_causeOf_1 : cX2_causeOf.data.toList.drop 24 = dktX2_causeOf_1 := dk_seg dksX2_causeOf_0 24 rfl rfl
theorem dksX2_causeOf_2 : cX2_causeOf.data.toList.drop 48 = dktX2_causeOf_2 := dk_seg dksX2_causeOf_1 24 rfl rfl
theorem dX2_causeOf_0 : decode cX2_causeOf 0 = .ok (.iconst 0, 1) := dk_3 (dk_at dksX2_causeOf_0 0 rfl rfl)
theorem dX2_causeOf_1 : decode cX2_causeOf 1 = .ok (.istore_n 2, 1) := dk_61 (dk_at dksX2_causeOf_0 1 rfl rfl)
theorem dX2_causeOf_2 : decode cX2_causeOf 2 = .ok (.iload_n 2, 1) := dk_28 (dk_at dksX2_causeOf_0 2 rfl rfl)
theorem dX2_causeOf_3 : decode cX2_causeOf 3 = .ok (.aload_n 0, 1) := dk_42 (dk_at dksX2_causeOf_0 3 rfl rfl)
theorem dX2_causeOf_4 : decode cX2_causeOf 4 = .ok (.getfield 66, 3) := dk_180 0 66 (dk_at dksX2_causeOf_0 4 rfl rfl)
theorem dX2_causeOf_7 : decode cX2_causeOf 7 = .ok (.getfield 207, 3) := dk_180 0 207 (dk_at dksX2_causeOf_0 7 rfl rfl)
theorem dX2_causeOf_10 : decode cX2_causeOf 10 = .ok (.invokevirtual 82, 3) := dk_182 0 82 (dk_at dksX2_causeOf_0 10 rfl rfl)
theorem dX2_causeOf_13 : decode cX2_causeOf 13 = .ok (.if_icmp .ge 49, 3) := dk_162 0 49 (dk_at dksX2_causeOf_0 13 rfl rfl)
theorem dX2_causeOf_16 : decode cX2_causeOf 16 = .ok (.aload_n 1, 1) := dk_43 (dk_at dksX2_causeOf_0 16 rfl rfl)
theorem dX2_causeOf_17 : decode cX2_causeOf 17 = .ok (.getfield 201, 3) := dk_180 0 201 (dk_at dksX2_causeOf_0 17 rfl rfl)
theorem dX2_causeOf_20 : decode cX2_causeOf 20 = .ok (.iload_n 2, 1) := dk_28 (dk_at dksX2_causeOf_0 20 rfl rfl)
theorem dX2_causeOf_21 : decode cX2_causeOf 21 = .ok (.invokestatic 216, 3) := dk_184 0 216 (dk_at dksX2_causeOf_0 21 rfl rfl)
theorem dX2_causeOf_24 : decode cX2_causeOf 24 = .ok (.ifCond .eq 32, 3) := dk_153 0 32 (dk_at dksX2_causeOf_1 0 rfl rfl)
theorem dX2_causeOf_27 : decode cX2_causeOf 27 = .ok (.aload_n 1, 1) := dk_43 (dk_at dksX2_causeOf_1 3 rfl rfl)
theorem dX2_causeOf_28 : decode cX2_causeOf 28 = .ok (.getfield 204, 3) := dk_180 0 204 (dk_at dksX2_causeOf_1 4 rfl rfl)
theorem dX2_causeOf_31 : decode cX2_causeOf 31 = .ok (.ifCond .eq 23, 3) := dk_153 0 23 (dk_at dksX2_causeOf_1 7 rfl rfl)
theorem dX2_causeOf_34 : decode cX2_causeOf 34 = .ok (.aload_n 0, 1) := dk_42 (dk_at dksX2_causeOf_1 10 rfl rfl)
theorem dX2_causeOf_35 : decode cX2_causeOf 35 = .ok (.getfield 66, 3) := dk_180 0 66 (dk_at dksX2_causeOf_1 11 rfl rfl)
theorem dX2_causeOf_38 : decode cX2_causeOf 38 = .ok (.getfield 207, 3) := dk_180 0 207 (dk_at dksX2_causeOf_1 14 rfl rfl)
theorem dX2_causeOf_41 : decode cX2_causeOf 41 = .ok (.iload_n 2, 1) := dk_28 (dk_at dksX2_causeOf_1 17 rfl rfl)
theorem dX2_causeOf_42 : decode cX2_causeOf 42 = .ok (.invokevirtual 96, 3) := dk_182 0 96 (dk_at dksX2_causeOf_1 18 rfl rfl)
theorem dX2_causeOf_45 : decode cX2_causeOf 45 = .ok (.checkcast 210, 3) := dk_192 0 210 (dk_at dksX2_causeOf_1 21 rfl rfl)
theorem dX2_causeOf_48 : decode cX2_causeOf 48 = .ok (.getfield 220, 3) := dk_180 0 220 (dk_at dksX2_causeOf_2 0 rfl rfl)
theorem dX2_causeOf_51 : decode cX2_causeOf 51 = .ok (.ifCond .eq 5, 3) := dk_153 0 5 (dk_at dksX2_causeOf_2 3 rfl rfl)
theorem dX2_causeOf_54 : decode cX2_causeOf 54 = .ok (.iload_n 2, 1) := dk_28 (dk_at dksX2_causeOf_2 6 rfl rfl)
theorem dX2_causeOf_55 : decode cX2_causeOf 55 = .ok (.ireturn, 1) := dk_172 (dk_at dksX2_causeOf_2 7 rfl rfl)
theorem dX2_causeOf_56 : decode cX2_causeOf 56 = .ok (.iinc 2 1, 3) := dk_132 2 1 (dk_at dksX2_causeOf_2 8 rfl rfl)
theorem dX2_causeOf_59 : decode cX2_causeOf 59 = .ok (.goto (-57), 3) := dk_167 255 199 (dk_at dksX2_causeOf_2 11 rfl rfl)
theorem dX2_causeOf_62 : decode cX2_causeOf 62 = .ok (.iconst (-1), 1) := dk_2 (dk_at dksX2_causeOf_2 14 rfl rfl)
theorem dX2_causeOf_63 : decode cX2_causeOf 63 = .ok (.ireturn, 1) := dk_172 (dk_at dksX2_causeOf_2 15 rfl rfl)
def dkwX2_trip_6 : List UInt8 := [25, 4, 180, 1, 18, 6, 161, 0, 7, 5, 167, 0, 4, 4, 181, 0, 167, 25, 4, 182, 1, 21, 177]
abbrev dktX2_trip_6 : List UInt8 := dkwX2_trip_6 ++ []
def dkwX2_trip_5 : List UInt8 := [3, 48, 25, 5, 183, 1, 15, 182, 0, 137, 25, 4, 89, 180, 1, 18, 4, 96, 181, 1, 18, 25, 4]
abbrev dktX2_trip_5 : List UInt8 := dkwX2_trip_5 ++ dktX2_trip_6
def dkwX2_trip_4 : List UInt8 := [182, 1, 12, 87, 42, 180, 0, 33, 187, 0, 135, 89, 42, 180, 0, 144, 27, 28, 29, 25, 4, 180, 0, 190]
abbrev dktX2_trip_4 : List UInt8 := dkwX2_trip_4 ++ dktX2_trip_5
def dkwX2_trip_3 : List UInt8 := [132, 7, 255, 167, 255, 220, 42, 180, 0, 33, 182, 1, 11, 16, 8, 160, 0, 11, 42, 180, 0, 33]
abbrev dktX2_trip_3 : List UInt8 := dkwX2_trip_3 ++ dktX2_trip_4
def dkwX2_trip_2 : List UInt8 := [182, 1, 7, 154, 0, 6, 167, 0, 18, 25, 5, 21, 6, 42, 180, 0, 144, 21, 7, 100, 79, 132, 6, 1]
abbrev dktX2_trip_2 : List UInt8 := dkwX2_trip_2 ++ dktX2_trip_3
def dkwX2_trip_1 : List UInt8 := [58, 5, 3, 54, 6, 42, 180, 0, 76, 4, 100, 54, 7, 21, 7, 155, 0, 37, 25, 4, 21, 7]
abbrev dktX2_trip_1 : List UInt8 := dkwX2_trip_1 ++ dktX2_trip_2
def dkwX2_trip_0 : List UInt8 := [42, 180, 0, 14, 27, 182, 0, 96, 192, 0, 86, 58, 4, 25, 4, 42, 180, 0, 76, 182, 1, 3, 188, 10]
abbrev dktX2_trip_0 : List UInt8 := dkwX2_trip_0 ++ dktX2_trip_1
theorem dksX2_trip_0 : cX2_trip.data.toList.drop 0 = dktX2_trip_0 := by decide +kernel
theorem dksX2_trip_1 : cX2_trip.data.toList.drop 24 = dktX2_trip_1 := dk_seg dksX2_trip_0 24 rfl rfl
theorem dksX2_trip_2 : cX2_trip.data.toList.drop 46 = dktX2_trip_2 := dk_seg dksX2_trip_1 22 rfl rfl
theorem dksX2_trip_3 : cX2_trip.data.toList.drop 70 = dktX2_trip_3 := dk_seg dksX2_trip_2 24 rfl rfl
theorem dksX2_trip_4 : cX2_trip.data.toList.drop 92 = dktX2_trip_4 := dk_seg dksX2_trip_3 22 rfl rfl
theorem dksX2_trip_5 : cX2_trip.data.toList.drop 116 = dktX2_trip_5 := dk_seg dksX2_trip_4 24 rfl rfl
theorem dksX2_trip_6 : cX2_trip.data.toList.drop 139 = dktX2_trip_6 := dk_seg dksX2_trip_5 23 rfl rfl
theorem dX2_trip_0 : decode cX2_trip 0 = .ok (.aload_n 0, 1) := dk_42 (dk_at dksX2_trip_0 0 rfl rfl)
theorem dX2_trip_1 : decode cX2_trip 1 = .ok (.getfield 14, 3) := dk_180 0 14 (dk_at dksX2_trip_0 1 rfl rfl)
theorem dX2_trip_4 : decode cX2_trip 4 = .ok (.iload_n 1, 1) := dk_27 (dk_at dksX2_trip_0 4 rfl rfl)
theorem dX2_trip_5 : decode cX2_trip 5 = .ok (.invokevirtual 96, 3) := dk_182 0 96 (dk_at dksX2_trip_0 5 rfl rfl)
theorem dX2_trip_8 : decode cX2_trip 8 = .ok (.checkcast 86, 3) := dk_192 0 86 (dk_at dksX2_trip_0 8 rfl rfl)
theorem dX2_trip_11 : decode cX2_trip 11 = .ok (.astore 4, 2) := dk_58 4 (dk_at dksX2_trip_0 11 rfl rfl)
theorem dX2_trip_13 : decode cX2_trip 13 = .ok (.aload 4, 2) := dk_25 4 (dk_at dksX2_trip_0 13 rfl rfl)
theorem dX2_trip_15 : decode cX2_trip 15 = .ok (.aload_n 0, 1) := dk_42 (dk_at dksX2_trip_0 15 rfl rfl)
theorem dX2_trip_16 : decode cX2_trip 16 = .ok (.getfield 76, 3) := dk_180 0 76 (dk_at dksX2_trip_0 16 rfl rfl)
theorem dX2_trip_19 : decode cX2_trip 19 = .ok (.invokevirtual 259, 3) := dk_182 1 3 (dk_at dksX2_trip_0 19 rfl rfl)
theorem dX2_trip_22 : decode cX2_trip 22 = .ok (.newarray .int, 2) := dk_188_10 (dk_at dksX2_trip_0 22 rfl rfl)
theorem dX2_trip_24 : decode cX2_trip 24 = .ok (.astore 5, 2) := dk_58 5 (dk_at dksX2_trip_1 0 rfl rfl)
theorem dX2_trip_26 : decode cX2_trip 26 = .ok (.iconst 0, 1) := dk_3 (dk_at dksX2_trip_1 2 rfl rfl)
theorem dX2_trip_27 : decode cX2_trip 27 = .ok (.istore 6, 2) := dk_54 6 (dk_at dksX2_trip_1 3 rfl rfl)
theorem dX2_trip_29 : decode cX2_trip 29 = .ok (.aload_n 0, 1) := dk_42 (dk_at dksX2_trip_1 5 rfl rfl)
theorem dX2_trip_30 : decode cX2_trip 30 = .ok (.getfield 76, 3) := dk_180 0 76 (dk_at dksX2_trip_1 6 rfl rfl)
theorem dX2_trip_33 : decode cX2_trip 33 = .ok (.iconst 1, 1) := dk_4 (dk_at dksX2_trip_1 9 rfl rfl)
theorem dX2_trip_34 : decode cX2_trip 34 = .ok (.isub, 1) := dk_100 (dk_at dksX2_trip_1 10 rfl rfl)
theorem dX2_trip_35 : decode cX2_trip 35 = .ok (.istore 7, 2) := dk_54 7 (dk_at dksX2_trip_1 11 rfl rfl)
theorem dX2_trip_37 : decode cX2_trip 37 = .ok (.iload 7, 2) := dk_21 7 (dk_at dksX2_trip_1 13 rfl rfl)
theorem dX2_trip_39 : decode cX2_trip 39 = .ok (.ifCond .lt 37, 3) := dk_155 0 37 (dk_at dksX2_trip_1 15 rfl rfl)
theorem dX2_trip_42 : decode cX2_trip 42 = .ok (.aload 4, 2) := dk_25 4 (dk_at dksX2_trip_1 18 rfl rfl)
theorem dX2_trip_44 : decode cX2_trip 44 = .ok (.iload 7, 2) := dk_21 7 (dk_at dksX2_trip_1 20 rfl rfl)
theorem dX2_trip_46 : decode cX2_trip 46 = .ok (.invokevirtual 263, 3) := dk_182 1 7 (dk_at dksX2_trip_2 0 rfl rfl)
theorem dX2_trip_49 : decode cX2_trip 49 = .ok (.ifCond .ne 6, 3) := dk_154 0 6 (dk_at dksX2_trip_2 3 rfl rfl)
theorem dX2_trip_52 : decode cX2_trip 52 = .ok (.goto 18, 3) := dk_167 0 18 (dk_at dksX2_trip_2 6 rfl rfl)
theorem dX2_trip_55 : decode cX2_trip 55 = .ok (.aload 5, 2) := dk_25 5 (dk_at dksX2_trip_2 9 rfl rfl)
theorem dX2_trip_57 : decode cX2_trip 57 = .ok (.iload 6, 2) := dk_21 6 (dk_at dksX2_trip_2 11 rfl rfl)
theorem dX2_trip_59 : decode cX2_trip 59 = .ok (.aload_n 0, 1) := dk_42 (dk_at dksX2_trip_2 13 rfl rfl)
theorem dX2_trip_60 : decode cX2_trip 60 = .ok (.getfield 144, 3) := dk_180 0 144 (dk_at dksX2_trip_2 14 rfl rfl)
theorem dX2_trip_63 : decode cX2_trip 63 = .ok (.iload 7, 2) := dk_21 7 (dk_at dksX2_trip_2 17 rfl rfl)
theorem dX2_trip_65 : decode cX2_trip 65 = .ok (.isub, 1) := dk_100 (dk_at dksX2_trip_2 19 rfl rfl)
theorem dX2_trip_66 : decode cX2_trip 66 = .ok (.iastore, 1) := dk_79 (dk_at dksX2_trip_2 20 rfl rfl)
theorem dX2_trip_67 : decode cX2_trip 67 = .ok (.iinc 6 1, 3) := dk_132 6 1 (dk_at dksX2_trip_2 21 rfl rfl)
theorem dX2_trip_70 : decode cX2_trip 70 = .ok (.iinc 7 (-1), 3) := dk_132 7 255 (dk_at dksX2_trip_3 0 rfl rfl)
theorem dX2_trip_73 : decode cX2_trip 73 = .ok (.goto (-36), 3) := dk_167 255 220 (dk_at dksX2_trip_3 3 rfl rfl)
theorem dX2_trip_76 : decode cX2_trip 76 = .ok (.aload_n 0, 1) := dk_42 (dk_at dksX2_trip_3 6 rfl rfl)
theorem dX2_trip_77 : decode cX2_trip 77 = .ok (.getfield 33, 3) := dk_180 0 33 (dk_at dksX2_trip_3 7 rfl rfl)
theorem dX2_trip_80 : decode cX2_trip 80 = .ok (.invokevirtual 267, 3) := dk_182 1 11 (dk_at dksX2_trip_3 10 rfl rfl)
theorem dX2_trip_83 : decode cX2_trip 83 = .ok (.bipush 8, 2) := dk_16 8 (dk_at dksX2_trip_3 13 rfl rfl)
theorem dX2_trip_85 : decode cX2_trip 85 = .ok (.if_icmp .ne 11, 3) := dk_160 0 11 (dk_at dksX2_trip_3 15 rfl rfl)
theorem dX2_trip_88 : decode cX2_trip 88 = .ok (.aload_n 0, 1) := dk_42 (dk_at dksX2_trip_3 18 rfl rfl)
theorem dX2_trip_89 : decode cX2_trip 89 = .ok (.getfield 33, 3) := dk_180 0 33 (dk_at dksX2_trip_3 19 rfl rfl)
theorem dX2_trip_92 : decode cX2_trip 92 = .ok (.invokevirtual 268, 3) := dk_182 1 12 (dk_at dksX2_trip_4 0 rfl rfl)
theorem dX2_trip_95 : decode cX2_trip 95 = .ok (.pop, 1) := dk_87 (dk_at dksX2_trip_4 3 rfl rfl)
theorem dX2_trip_96 : decode cX2_trip 96 = .ok (.aload_n 0, 1) := dk_42 (dk_at dksX2_trip_4 4 rfl rfl)
theorem dX2_trip_97 : decode cX2_trip 97 = .ok (.getfield 33, 3) := dk_180 0 33 (dk_at dksX2_trip_4 5 rfl rfl)
theorem dX2_trip_100 : decode cX2_trip 100 = .ok (.new 135, 3) := dk_187 0 135 (dk_at dksX2_trip_4 8 rfl rfl)
theorem dX2_trip_103 : decode cX2_trip 103 = .ok (.dup, 1) := dk_89 (dk_at dksX2_trip_4 11 rfl rfl)
theorem dX2_trip_104 : decode cX2_trip 104 = .ok (.aload_n 0, 1) := dk_42 (dk_at dksX2_trip_4 12 rfl rfl)
theorem dX2_trip_105 : decode cX2_trip 105 = .ok (.getfield 144, 3) := dk_180 0 144 (dk_at dksX2_trip_4 13 rfl rfl)
theorem dX2_trip_108 : decode cX2_trip 108 = .ok (.iload_n 1, 1) := dk_27 (dk_at dksX2_trip_4 16 rfl rfl)
theorem dX2_trip_109 : decode cX2_trip 109 = .ok (.iload_n 2, 1) := dk_28 (dk_at dksX2_trip_4 17 rfl rfl)
theorem dX2_trip_110 : decode cX2_trip 110 = .ok (.iload_n 3, 1) := dk_29 (dk_at dksX2_trip_4 18 rfl rfl)
theorem dX2_trip_111 : decode cX2_trip 111 = .ok (.aload 4, 2) := dk_25 4 (dk_at dksX2_trip_4 19 rfl rfl)
theorem dX2_trip_113 : decode cX2_trip 113 = .ok (.getfield 190, 3) := dk_180 0 190 (dk_at dksX2_trip_4 21 rfl rfl)
theorem dX2_trip_116 : decode cX2_trip 116 = .ok (.iconst 0, 1) := dk_3 (dk_at dksX2_trip_5 0 rfl rfl)
theorem dX2_trip_117 : decode cX2_trip 117 = .ok (.faload, 1) := dk_48 (dk_at dksX2_trip_5 1 rfl rfl)
theorem dX2_trip_118 : decode cX2_trip 118 = .ok (.aload 5, 2) := dk_25 5 (dk_at dksX2_trip_5 2 rfl rfl)
theorem dX2_trip_120 : decode cX2_trip 120 = .ok (.invokespecial 271, 3) := dk_183 1 15 (dk_at dksX2_trip_5 4 rfl rfl)
theorem dX2_trip_123 : decode cX2_trip 123 = .ok (.invokevirtual 137, 3) := dk_182 0 137 (dk_at dksX2_trip_5 7 rfl rfl)
theorem dX2_trip_126 : decode cX2_trip 126 = .ok (.aload 4, 2) := dk_25 4 (dk_at dksX2_trip_5 10 rfl rfl)
theorem dX2_trip_128 : decode cX2_trip 128 = .ok (.dup, 1) := dk_89 (dk_at dksX2_trip_5 12 rfl rfl)
theorem dX2_trip_129 : decode cX2_trip 129 = .ok (.getfield 274, 3) := dk_180 1 18 (dk_at dksX2_trip_5 13 rfl rfl)
theorem dX2_trip_132 : decode cX2_trip 132 = .ok (.iconst 1, 1) := dk_4 (dk_at dksX2_trip_5 16 rfl rfl)
theorem dX2_trip_133 : decode cX2_trip 133 = .ok (.iadd, 1) := dk_96 (dk_at dksX2_trip_5 17 rfl rfl)
theorem dX2_trip_134 : decode cX2_trip 134 = .ok (.putfield 274, 3) := dk_181 1 18 (dk_at dksX2_trip_5 18 rfl rfl)
theorem dX2_trip_137 : decode cX2_trip 137 = .ok (.aload 4, 2) := dk_25 4 (dk_at dksX2_trip_5 21 rfl rfl)
theorem dX2_trip_139 : decode cX2_trip 139 = .ok (.aload 4, 2) := dk_25 4 (dk_at dksX2_trip_6 0 rfl rfl)
theorem dX2_trip_141 : decode cX2_trip 141 = .ok (.getfield 274, 3) := dk_180 1 18 (dk_at dksX2_trip_6 2 rfl rfl)
theorem dX2_trip_144 : decode cX2_trip 144 = .ok (.iconst 3, 1) := dk_6 (dk_at dksX2_trip_6 5 rfl rfl)
theorem dX2_trip_145 : decode cX2_trip 145 = .ok (.if_icmp .lt 7, 3) := dk_161 0 7 (dk_at dksX2_trip_6 6 rfl rfl)
theorem dX2_trip_148 : decode cX2_trip 148 = .ok (.iconst 2, 1) := dk_5 (dk_at dksX2_trip_6 9 rfl rfl)
theorem dX2_trip_149 : decode cX2_trip 149 = .ok (.goto 4, 3) := dk_167 0 4 (dk_at dksX2_trip_6 10 rfl rfl)
theorem dX2_trip_152 : decode cX2_trip 152 = .ok (.iconst 1, 1) := dk_4 (dk_at dksX2_trip_6 13 rfl rfl)
theorem dX2_trip_153 : decode cX2_trip 153 = .ok (.putfield 167, 3) := dk_181 0 167 (dk_at dksX2_trip_6 14 rfl rfl)
theorem dX2_trip_156 : decode cX2_trip 156 = .ok (.aload 4, 2) := dk_25 4 (dk_at dksX2_trip_6 17 rfl rfl)
theorem dX2_trip_158 : decode cX2_trip 158 = .ok (.invokevirtual 277, 3) := dk_182 1 21 (dk_at dksX2_trip_6 19 rfl rfl)
theorem dX2_trip_161 : decode cX2_trip 161 = .ok (.return_, 1) := dk_177 (dk_at dksX2_trip_6 22 rfl rfl)
def dkwX2_tripIn_1 : List UInt8 := [163, 0, 22, 42, 182, 1, 44, 27, 184, 0, 216, 153, 0, 5, 29, 172, 132, 3, 1, 167, 255, 235, 2, 172]
abbrev dktX2_tripIn_1 : List UInt8 := dkwX2_tripIn_1 ++ []
def dkwX2_tripIn_0 : List UInt8 := [42, 180, 0, 14, 27, 182, 0, 96, 192, 0, 86, 180, 0, 167, 153, 0, 5, 2, 172, 4, 62, 29, 28]
abbrev dktX2_tripIn_0 : List UInt8 := dkwX2_tripIn_0 ++ dktX2_tripIn_1
theorem dksX2_tripIn_0 : cX2_tripIn.data.toList.drop 0 = dktX2_tripIn_0 := by decide +kernel
theorem dksX2_tripIn_1 : cX2_tripIn.data.toList.drop 23 = dktX2_tripIn_1 := dk_seg dksX2_tripIn_0 23 rfl rfl
theorem dX2_tripIn_0 : decode cX2_tripIn 0 = .ok (.aload_n 0, 1) := dk_42 (dk_at dksX2_tripIn_0 0 rfl rfl)
theorem dX2_tripIn_1 : decode cX2_tripIn 1 = .ok (.getfield 14, 3) := dk_180 0 14 (dk_at dksX2_tripIn_0 1 rfl rfl)
theorem dX2_tripIn_4 : decode cX2_tripIn 4 = .ok (.iload_n 1, 1) := dk_27 (dk_at dksX2_tripIn_0 4 rfl rfl)
theorem dX2_tripIn_5 : decode cX2_tripIn 5 = .ok (.invokevirtual 96, 3) := dk_182 0 96 (dk_at dksX2_tripIn_0 5 rfl rfl)
theorem dX2_tripIn_8 : decode cX2_tripIn 8 = .ok (.checkcast 86, 3) := dk_192 0 86 (dk_at dksX2_tripIn_0 8 rfl rfl)
theorem dX2_tripIn_11 : decode cX2_tripIn 11 = .ok (.getfield 167, 3) := dk_180 0 167 (dk_at dksX2_tripIn_0 11 rfl rfl)
theorem dX2_tripIn_14 : decode cX2_tripIn 14 = .ok (.ifCond .eq 5, 3) := dk_153 0 5 (dk_at dksX2_tripIn_0 14 rfl rfl)
theorem dX2_tripIn_17 : decode cX2_tripIn 17 = .ok (.iconst (-1), 1) := dk_2 (dk_at dksX2_tripIn_0 17 rfl rfl)
theorem dX2_tripIn_18 : decode cX2_tripIn 18 = .ok (.ireturn, 1) := dk_172 (dk_at dksX2_tripIn_0 18 rfl rfl)
theorem dX2_tripIn_19 : decode cX2_tripIn 19 = .ok (.iconst 1, 1) := dk_4 (dk_at dksX2_tripIn_0 19 rfl rfl)
theorem dX2_tripIn_20 : decode cX2_tripIn 20 = .ok (.istore_n 3, 1) := dk_62 (dk_at dksX2_tripIn_0 20 rfl rfl)
theorem dX2_tripIn_21 : decode cX2_tripIn 21 = .ok (.iload_n 3, 1) := dk_29 (dk_at dksX2_tripIn_0 21 rfl rfl)
theorem dX2_tripIn_22 : decode cX2_tripIn 22 = .ok (.iload_n 2, 1) := dk_28 (dk_at dksX2_tripIn_0 22 rfl rfl)
theorem dX2_tripIn_23 : decode cX2_tripIn 23 = .ok (.if_icmp .gt 22, 3) := dk_163 0 22 (dk_at dksX2_tripIn_1 0 rfl rfl)
theorem dX2_tripIn_26 : decode cX2_tripIn 26 = .ok (.aload_n 0, 1) := dk_42 (dk_at dksX2_tripIn_1 3 rfl rfl)
theorem dX2_tripIn_27 : decode cX2_tripIn 27 = .ok (.invokevirtual 300, 3) := dk_182 1 44 (dk_at dksX2_tripIn_1 4 rfl rfl)
theorem dX2_tripIn_30 : decode cX2_tripIn 30 = .ok (.iload_n 1, 1) := dk_27 (dk_at dksX2_tripIn_1 7 rfl rfl)
theorem dX2_tripIn_31 : decode cX2_tripIn 31 = .ok (.invokestatic 216, 3) := dk_184 0 216 (dk_at dksX2_tripIn_1 8 rfl rfl)
theorem dX2_tripIn_34 : decode cX2_tripIn 34 = .ok (.ifCond .eq 5, 3) := dk_153 0 5 (dk_at dksX2_tripIn_1 11 rfl rfl)
theorem dX2_tripIn_37 : decode cX2_tripIn 37 = .ok (.iload_n 3, 1) := dk_29 (dk_at dksX2_tripIn_1 14 rfl rfl)
theorem dX2_tripIn_38 : decode cX2_tripIn 38 = .ok (.ireturn, 1) := dk_172 (dk_at dksX2_tripIn_1 15 rfl rfl)
theorem dX2_tripIn_39 : decode cX2_tripIn 39 = .ok (.iinc 3 1, 3) := dk_132 3 1 (dk_at dksX2_tripIn_1 16 rfl rfl)
theorem dX2_tripIn_42 : decode cX2_tripIn 42 = .ok (.goto (-21), 3) := dk_167 255 235 (dk_at dksX2_tripIn_1 19 rfl rfl)
theorem dX2_tripIn_45 : decode cX2_tripIn 45 = .ok (.iconst (-1), 1) := dk_2 (dk_at dksX2_tripIn_1 22 rfl rfl)
theorem dX2_tripIn_46 : decode cX2_tripIn 46 = .ok (.ireturn, 1) := dk_172 (dk_at dksX2_tripIn_1 23 rfl rfl)
def dkwX3_init_2 : List UInt8 := [187, 0, 25, 89, 7, 183, 0, 27, 181, 0, 38, 42, 187, 0, 25, 89, 5, 183, 0, 27, 181, 0, 41, 177]
abbrev dktX3_init_2 : List UInt8 := dkwX3_init_2 ++ []
def dkwX3_init_1 : List UInt8 := [181, 0, 21, 42, 187, 0, 25, 89, 5, 183, 0, 27, 181, 0, 30, 42, 7, 188, 10, 181, 0, 34, 42]
abbrev dktX3_init_1 : List UInt8 := dkwX3_init_1 ++ dktX3_init_2
def dkwX3_init_0 : List UInt8 := [42, 183, 0, 3, 42, 16, 8, 181, 0, 9, 42, 4, 181, 0, 15, 42, 4, 181, 0, 18, 42, 3, 188, 6]
abbrev dktX3_init_0 : List UInt8 := dkwX3_init_0 ++ dktX3_init_1
theorem dksX3_init_0 : cX3_init.data.toList.drop 0 = dktX3_init_0 := by decide +kernel
theorem dksX3_init_1 : cX3_init.data.toList.drop 24 = dktX3_init_1 := dk_seg dksX3_init_0 24 rfl rfl
theorem dksX3_init_2 : cX3_init.data.toList.drop 47 = dktX3_init_2 := dk_seg dksX3_init_1 23 rfl rfl
theorem dX3_init_0 : decode cX3_init 0 = .ok (.aload_n 0, 1) := dk_42 (dk_at dksX3_init_0 0 rfl rfl)
theorem dX3_init_1 : decode cX3_init 1 = .ok (.invokespecial 3, 3) := dk_183 0 3 (dk_at dksX3_init_0 1 rfl rfl)
theorem dX3_init_4 : decode cX3_init 4 = .ok (.aload_n 0, 1) := dk_42 (dk_at dksX3_init_0 4 rfl rfl)
theorem dX3_init_5 : decode cX3_init 5 = .ok (.bipush 8, 2) := dk_16 8 (dk_at dksX3_init_0 5 rfl rfl)
theorem dX3_init_7 : decode cX3_init 7 = .ok (.putfield 9, 3) := dk_181 0 9 (dk_at dksX3_init_0 7 rfl rfl)
theorem dX3_init_10 : decode cX3_init 10 = .ok (.aload_n 0, 1) := dk_42 (dk_at dksX3_init_0 10 rfl rfl)
theorem dX3_init_11 : decode cX3_init 11 = .ok (.iconst 1, 1) := dk_4 (dk_at dksX3_init_0 11 rfl rfl)
theorem dX3_init_12 : decode cX3_init 12 = .ok (.putfield 15, 3) := dk_181 0 15 (dk_at dksX3_init_0 12 rfl rfl)
theorem dX3_init_15 : decode cX3_init 15 = .ok (.aload_n 0, 1) := dk_42 (dk_at dksX3_init_0 15 rfl rfl)
theorem dX3_init_16 : decode cX3_init 16 = .ok (.iconst 1, 1) := dk_4 (dk_at dksX3_init_0 16 rfl rfl)
theorem dX3_init_17 : decode cX3_init 17 = .ok (.putfield 18, 3) := dk_181 0 18 (dk_at dksX3_init_0 17 rfl rfl)
theorem dX3_init_20 : decode cX3_init 20 = .ok (.aload_n 0, 1) := dk_42 (dk_at dksX3_init_0 20 rfl rfl)
theorem dX3_init_21 : decode cX3_init 21 = .ok (.iconst 0, 1) := dk_3 (dk_at dksX3_init_0 21 rfl rfl)
theorem dX3_init_22 : decode cX3_init 22 = .ok (.newarray .float, 2) := dk_188_6 (dk_at dksX3_init_0 22 rfl rfl)
theorem dX3_init_24 : decode cX3_init 24 = .ok (.putfield 21, 3) := dk_181 0 21 (dk_at dksX3_init_1 0 rfl rfl)
theorem dX3_init_27 : decode cX3_init 27 = .ok (.aload_n 0, 1) := dk_42 (dk_at dksX3_init_1 3 rfl rfl)
theorem dX3_init_28 : decode cX3_init 28 = .ok (.new 25, 3) := dk_187 0 25 (dk_at dksX3_init_1 4 rfl rfl)
theorem dX3_init_31 : decode cX3_init 31 = .ok (.dup, 1) := dk_89 (dk_at dksX3_init_1 7 rfl rfl)
theorem dX3_init_32 : decode cX3_init 32 = .ok (.iconst 2, 1) := dk_5 (dk_at dksX3_init_1 8 rfl rfl)
theorem dX3_init_33 : decode cX3_init 33 = .ok (.invokespecial 27, 3) := dk_183 0 27 (dk_at dksX3_init_1 9 rfl rfl)
theorem dX3_init_36 : decode cX3_init 36 = .ok (.putfield 30, 3) := dk_181 0 30 (dk_at dksX3_init_1 12 rfl rfl)
theorem dX3_init_39 : decode cX3_init 39 = .ok (.aload_n 0, 1) := dk_42 (dk_at dksX3_init_1 15 rfl rfl)
theorem dX3_init_40 : decode cX3_init 40 = .ok (.iconst 4, 1) := dk_7 (dk_at dksX3_init_1 16 rfl rfl)
theorem dX3_init_41 : decode cX3_init 41 = .ok (.newarray .int, 2) := dk_188_10 (dk_at dksX3_init_1 17 rfl rfl)
theorem dX3_init_43 : decode cX3_init 43 = .ok (.putfield 34, 3) := dk_181 0 34 (dk_at dksX3_init_1 19 rfl rfl)
theorem dX3_init_46 : decode cX3_init 46 = .ok (.aload_n 0, 1) := dk_42 (dk_at dksX3_init_1 22 rfl rfl)
theorem dX3_init_47 : decode cX3_init 47 = .ok (.new 25, 3) := dk_187 0 25 (dk_at dksX3_init_2 0 rfl rfl)
theorem dX3_init_50 : decode cX3_init 50 = .ok (.dup, 1) := dk_89 (dk_at dksX3_init_2 3 rfl rfl)
theorem dX3_init_51 : decode cX3_init 51 = .ok (.iconst 4, 1) := dk_7 (dk_at dksX3_init_2 4 rfl rfl)
theorem dX3_init_52 : decode cX3_init 52 = .ok (.invokespecial 27, 3) := dk_183 0 27 (dk_at dksX3_init_2 5 rfl rfl)
theorem dX3_init_55 : decode cX3_init 55 = .ok (.putfield 38, 3) := dk_181 0 38 (dk_at dksX3_init_2 8 rfl rfl)
theorem dX3_init_58 : decode cX3_init 58 = .ok (.aload_n 0, 1) := dk_42 (dk_at dksX3_init_2 11 rfl rfl)
theorem dX3_init_59 : decode cX3_init 59 = .ok (.new 25, 3) := dk_187 0 25 (dk_at dksX3_init_2 12 rfl rfl)
theorem dX3_init_62 : decode cX3_init 62 = .ok (.dup, 1) := dk_89 (dk_at dksX3_init_2 15 rfl rfl)
theorem dX3_init_63 : decode cX3_init 63 = .ok (.iconst 2, 1) := dk_5 (dk_at dksX3_init_2 16 rfl rfl)
theorem dX3_init_64 : decode cX3_init 64 = .ok (.invokespecial 27, 3) := dk_183 0 27 (dk_at dksX3_init_2 17 rfl rfl)
theorem dX3_init_67 : decode cX3_init 67 = .ok (.putfield 41, 3) := dk_181 0 41 (dk_at dksX3_init_2 20 rfl rfl)
theorem dX3_init_70 : decode cX3_init 70 = .ok (.return_, 1) := dk_177 (dk_at dksX3_init_2 23 rfl rfl)
def dkwX3_findLoad_1 : List UInt8 := [180, 0, 55, 43, 182, 0, 59, 153, 0, 5, 28, 172, 132, 2, 1, 167, 255, 219, 2, 172]
abbrev dktX3_findLoad_1 : List UInt8 := dkwX3_findLoad_1 ++ []
def dkwX3_findLoad_0 : List UInt8 := [3, 61, 28, 42, 180, 0, 38, 182, 0, 45, 162, 0, 32, 42, 180, 0, 38, 28, 182, 0, 49, 192, 0, 53]
abbrev dktX3_findLoad_0 : List UInt8 := dkwX3_findLoad_0 ++ dktX3_findLoad_1
theorem dksX3_findLoad_0 : cX3_findLoad.data.toList.drop 0 = dktX3_findLoad_0 := by decide +kernel
theorem dksX3_findLoad_1 : cX3_findLoad.data.toList.drop 24 = dktX3_findLoad_1 := dk_seg dksX3_findLoad_0 24 rfl rfl
theorem dX3_findLoad_0 : decode cX3_findLoad 0 = .ok (.iconst 0, 1) := dk_3 (dk_at dksX3_findLoad_0 0 rfl rfl)
theorem dX3_findLoad_1 : decode cX3_findLoad 1 = .ok (.istore_n 2, 1) := dk_61 (dk_at dksX3_findLoad_0 1 rfl rfl)
theorem dX3_findLoad_2 : decode cX3_findLoad 2 = .ok (.iload_n 2, 1) := dk_28 (dk_at dksX3_findLoad_0 2 rfl rfl)
theorem dX3_findLoad_3 : decode cX3_findLoad 3 = .ok (.aload_n 0, 1) := dk_42 (dk_at dksX3_findLoad_0 3 rfl rfl)
theorem dX3_findLoad_4 : decode cX3_findLoad 4 = .ok (.getfield 38, 3) := dk_180 0 38 (dk_at dksX3_findLoad_0 4 rfl rfl)
theorem dX3_findLoad_7 : decode cX3_findLoad 7 = .ok (.invokevirtual 45, 3) := dk_182 0 45 (dk_at dksX3_findLoad_0 7 rfl rfl)
theorem dX3_findLoad_10 : decode cX3_findLoad 10 = .ok (.if_icmp .ge 32, 3) := dk_162 0 32 (dk_at dksX3_findLoad_0 10 rfl rfl)
theorem dX3_findLoad_13 : decode cX3_findLoad 13 = .ok (.aload_n 0, 1) := dk_42 (dk_at dksX3_findLoad_0 13 rfl rfl)
theorem dX3_findLoad_14 : decode cX3_findLoad 14 = .ok (.getfield 38, 3) := dk_180 0 38 (dk_at dksX3_findLoad_0 14 rfl rfl)
theorem dX3_findLoad_17 : decode cX3_findLoad 17 = .ok (.iload_n 2, 1) := dk_28 (dk_at dksX3_findLoad_0 17 rfl rfl)
theorem dX3_findLoad_18 : decode cX3_findLoad 18 = .ok (.invokevirtual 49, 3) := dk_182 0 49 (dk_at dksX3_findLoad_0 18 rfl rfl)
theorem dX3_findLoad_21 : decode cX3_findLoad 21 = .ok (.checkcast 53, 3) := dk_192 0 53 (dk_at dksX3_findLoad_0 21 rfl rfl)
theorem dX3_findLoad_24 : decode cX3_findLoad 24 = .ok (.getfield 55, 3) := dk_180 0 55 (dk_at dksX3_findLoad_1 0 rfl rfl)
theorem dX3_findLoad_27 : decode cX3_findLoad 27 = .ok (.aload_n 1, 1) := dk_43 (dk_at dksX3_findLoad_1 3 rfl rfl)
theorem dX3_findLoad_28 : decode cX3_findLoad 28 = .ok (.invokevirtual 59, 3) := dk_182 0 59 (dk_at dksX3_findLoad_1 4 rfl rfl)
theorem dX3_findLoad_31 : decode cX3_findLoad 31 = .ok (.ifCond .eq 5, 3) := dk_153 0 5 (dk_at dksX3_findLoad_1 7 rfl rfl)
theorem dX3_findLoad_34 : decode cX3_findLoad 34 = .ok (.iload_n 2, 1) := dk_28 (dk_at dksX3_findLoad_1 10 rfl rfl)
theorem dX3_findLoad_35 : decode cX3_findLoad 35 = .ok (.ireturn, 1) := dk_172 (dk_at dksX3_findLoad_1 11 rfl rfl)
theorem dX3_findLoad_36 : decode cX3_findLoad 36 = .ok (.iinc 2 1, 3) := dk_132 2 1 (dk_at dksX3_findLoad_1 12 rfl rfl)
theorem dX3_findLoad_39 : decode cX3_findLoad 39 = .ok (.goto (-37), 3) := dk_167 255 219 (dk_at dksX3_findLoad_1 15 rfl rfl)
theorem dX3_findLoad_42 : decode cX3_findLoad 42 = .ok (.iconst (-1), 1) := dk_2 (dk_at dksX3_findLoad_1 18 rfl rfl)
theorem dX3_findLoad_43 : decode cX3_findLoad 43 = .ok (.ireturn, 1) := dk_172 (dk_at dksX3_findLoad_1 19 rfl rfl)
def dkwX3_findSignature_1 : List UInt8 := [180, 0, 67, 43, 182, 0, 59, 153, 0, 5, 28, 172, 132, 2, 1, 167, 255, 219, 2, 172]
abbrev dktX3_findSignature_1 : List UInt8 := dkwX3_findSignature_1 ++ []
def dkwX3_findSignature_0 : List UInt8 := [3, 61, 28, 42, 180, 0, 41, 182, 0, 45, 162, 0, 32, 42, 180, 0, 41, 28, 182, 0, 49, 192, 0, 65]
abbrev dktX3_findSignature_0 : List UInt8 := dkwX3_findSignature_0 ++ dktX3_findSignature_1
theorem dksX3_findSignature_0 : cX3_findSignature.data.toList.drop 0 = dktX3_findSignature_0 := by decide +kernel
theorem dksX3_findSignature_1 : cX3_findSignature.data.toList.drop 24 = dktX3_findSignature_1 := dk_seg dksX3_findSignature_0 24 rfl rfl
theorem dX3_findSignature_0 : decode cX3_findSignature 0 = .ok (.iconst 0, 1) := dk_3 (dk_at dksX3_findSignature_0 0 rfl rfl)
theorem dX3_findSignature_1 : decode cX3_findSignature 1 = .ok (.istore_n 2, 1) := dk_61 (dk_at dksX3_findSignature_0 1 rfl rfl)
theorem dX3_findSignature_2 : decode cX3_findSignature 2 = .ok (.iload_n 2, 1) := dk_28 (dk_at dksX3_findSignature_0 2 rfl rfl)
theorem dX3_findSignature_3 : decode cX3_findSignature 3 = .ok (.aload_n 0, 1) := dk_42 (dk_at dksX3_findSignature_0 3 rfl rfl)
theorem dX3_findSignature_4 : decode cX3_findSignature 4 = .ok (.getfield 41, 3) := dk_180 0 41 (dk_at dksX3_findSignature_0 4 rfl rfl)
theorem dX3_findSignature_7 : decode cX3_findSignature 7 = .ok (.invokevirtual 45, 3) := dk_182 0 45 (dk_at dksX3_findSignature_0 7 rfl rfl)
theorem dX3_findSignature_10 : decode cX3_findSignature 10 = .ok (.if_icmp .ge 32, 3) := dk_162 0 32 (dk_at dksX3_findSignature_0 10 rfl rfl)
theorem dX3_findSignature_13 : decode cX3_findSignature 13 = .ok (.aload_n 0, 1) := dk_42 (dk_at dksX3_findSignature_0 13 rfl rfl)
theorem dX3_findSignature_14 : decode cX3_findSignature 14 = .ok (.getfield 41, 3) := dk_180 0 41 (dk_at dksX3_findSignature_0 14 rfl rfl)
theorem dX3_findSignature_17 : decode cX3_findSignature 17 = .ok (.iload_n 2, 1) := dk_28 (dk_at dksX3_findSignature_0 17 rfl rfl)
theorem dX3_findSignature_18 : decode cX3_findSignature 18 = .ok (.invokevirtual 49, 3) := dk_182 0 49 (dk_at dksX3_findSignature_0 18 rfl rfl)
theorem dX3_findSignature_21 : decode cX3_findSignature 21 = .ok (.checkcast 65, 3) := dk_192 0 65 (dk_at dksX3_findSignature_0 21 rfl rfl)
theorem dX3_findSignature_24 : decode cX3_findSignature 24 = .ok (.getfield 67, 3) := dk_180 0 67 (dk_at dksX3_findSignature_1 0 rfl rfl)
theorem dX3_findSignature_27 : decode cX3_findSignature 27 = .ok (.aload_n 1, 1) := dk_43 (dk_at dksX3_findSignature_1 3 rfl rfl)
theorem dX3_findSignature_28 : decode cX3_findSignature 28 = .ok (.invokevirtual 59, 3) := dk_182 0 59 (dk_at dksX3_findSignature_1 4 rfl rfl)
theorem dX3_findSignature_31 : decode cX3_findSignature 31 = .ok (.ifCond .eq 5, 3) := dk_153 0 5 (dk_at dksX3_findSignature_1 7 rfl rfl)
theorem dX3_findSignature_34 : decode cX3_findSignature 34 = .ok (.iload_n 2, 1) := dk_28 (dk_at dksX3_findSignature_1 10 rfl rfl)
theorem dX3_findSignature_35 : decode cX3_findSignature 35 = .ok (.ireturn, 1) := dk_172 (dk_at dksX3_findSignature_1 11 rfl rfl)
theorem dX3_findSignature_36 : decode cX3_findSignature 36 = .ok (.iinc 2 1, 3) := dk_132 2 1 (dk_at dksX3_findSignature_1 12 rfl rfl)
theorem dX3_findSignature_39 : decode cX3_findSignature 39 = .ok (.goto (-37), 3) := dk_167 255 219 (dk_at dksX3_findSignature_1 15 rfl rfl)
theorem dX3_findSignature_42 : decode cX3_findSignature 42 = .ok (.iconst (-1), 1) := dk_2 (dk_at dksX3_findSignature_1 18 rfl rfl)
theorem dX3_findSignature_43 : decode cX3_findSignature 43 = .ok (.ireturn, 1) := dk_172 (dk_at dksX3_findSignature_1 19 rfl rfl)
def dkwX3_lay_2 : List UInt8 := [81, 132, 1, 1, 167, 255, 216, 177]
abbrev dktX3_lay_2 : List UInt8 := dkwX3_lay_2 ++ []
def dkwX3_lay_1 : List UInt8 := [96, 134, 5, 42, 180, 0, 9, 104, 134, 110, 69, 42, 180, 0, 21, 27, 18, 44, 36, 106, 12, 36, 102, 106]
abbrev dktX3_lay_1 : List UInt8 := dkwX3_lay_1 ++ dktX3_lay_2
def dkwX3_lay_0 : List UInt8 := [42, 42, 180, 0, 9, 188, 6, 181, 0, 21, 3, 60, 27, 42, 180, 0, 9, 162, 0, 38, 5, 27, 104, 4]
abbrev dktX3_lay_0 : List UInt8 := dkwX3_lay_0 ++ dktX3_lay_1
theorem dksX3_lay_0 : cX3_lay.data.toList.drop 0 = dktX3_lay_0 := by decide +kernel
theorem dksX3_lay_1 : cX3_lay.data.toList.drop 24 = dktX3_lay_1 := dk_seg dksX3_lay_0 24 rfl rfl
theorem dksX3_lay_2 : cX3_lay.data.toList.drop 48 = dktX3_lay_2 := dk_seg dksX3_lay_1 24 rfl rfl
theorem dX3_lay_0 : decode cX3_lay 0 = .ok (.aload_n 0, 1) := dk_42 (dk_at dksX3_lay_0 0 rfl rfl)
theorem dX3_lay_1 : decode cX3_lay 1 = .ok (.aload_n 0, 1) := dk_42 (dk_at dksX3_lay_0 1 rfl rfl)
theorem dX3_lay_2 : decode cX3_lay 2 = .ok (.getfield 9, 3) := dk_180 0 9 (dk_at dksX3_lay_0 2 rfl rfl)
theorem dX3_lay_5 : decode cX3_lay 5 = .ok (.newarray .float, 2) := dk_188_6 (dk_at dksX3_lay_0 5 rfl rfl)
theorem dX3_lay_7 : decode cX3_lay 7 = .ok (.putfield 21, 3) := dk_181 0 21 (dk_at dksX3_lay_0 7 rfl rfl)
theorem dX3_lay_10 : decode cX3_lay 10 = .ok (.iconst 0, 1) := dk_3 (dk_at dksX3_lay_0 10 rfl rfl)
theorem dX3_lay_11 : decode cX3_lay 11 = .ok (.istore_n 1, 1) := dk_60 (dk_at dksX3_lay_0 11 rfl rfl)
theorem dX3_lay_12 : decode cX3_lay 12 = .ok (.iload_n 1, 1) := dk_27 (dk_at dksX3_lay_0 12 rfl rfl)
theorem dX3_lay_13 : decode cX3_lay 13 = .ok (.aload_n 0, 1) := dk_42 (dk_at dksX3_lay_0 13 rfl rfl)
theorem dX3_lay_14 : decode cX3_lay 14 = .ok (.getfield 9, 3) := dk_180 0 9 (dk_at dksX3_lay_0 14 rfl rfl)
theorem dX3_lay_17 : decode cX3_lay 17 = .ok (.if_icmp .ge 38, 3) := dk_162 0 38 (dk_at dksX3_lay_0 17 rfl rfl)
theorem dX3_lay_20 : decode cX3_lay 20 = .ok (.iconst 2, 1) := dk_5 (dk_at dksX3_lay_0 20 rfl rfl)
theorem dX3_lay_21 : decode cX3_lay 21 = .ok (.iload_n 1, 1) := dk_27 (dk_at dksX3_lay_0 21 rfl rfl)
theorem dX3_lay_22 : decode cX3_lay 22 = .ok (.imul, 1) := dk_104 (dk_at dksX3_lay_0 22 rfl rfl)
theorem dX3_lay_23 : decode cX3_lay 23 = .ok (.iconst 1, 1) := dk_4 (dk_at dksX3_lay_0 23 rfl rfl)
theorem dX3_lay_24 : decode cX3_lay 24 = .ok (.iadd, 1) := dk_96 (dk_at dksX3_lay_1 0 rfl rfl)
theorem dX3_lay_25 : decode cX3_lay 25 = .ok (.i2f, 1) := dk_134 (dk_at dksX3_lay_1 1 rfl rfl)
theorem dX3_lay_26 : decode cX3_lay 26 = .ok (.iconst 2, 1) := dk_5 (dk_at dksX3_lay_1 2 rfl rfl)
theorem dX3_lay_27 : decode cX3_lay 27 = .ok (.aload_n 0, 1) := dk_42 (dk_at dksX3_lay_1 3 rfl rfl)
theorem dX3_lay_28 : decode cX3_lay 28 = .ok (.getfield 9, 3) := dk_180 0 9 (dk_at dksX3_lay_1 4 rfl rfl)
theorem dX3_lay_31 : decode cX3_lay 31 = .ok (.imul, 1) := dk_104 (dk_at dksX3_lay_1 7 rfl rfl)
theorem dX3_lay_32 : decode cX3_lay 32 = .ok (.i2f, 1) := dk_134 (dk_at dksX3_lay_1 8 rfl rfl)
theorem dX3_lay_33 : decode cX3_lay 33 = .ok (.fdiv, 1) := dk_110 (dk_at dksX3_lay_1 9 rfl rfl)
theorem dX3_lay_34 : decode cX3_lay 34 = .ok (.fstore_n 2, 1) := dk_69 (dk_at dksX3_lay_1 10 rfl rfl)
theorem dX3_lay_35 : decode cX3_lay 35 = .ok (.aload_n 0, 1) := dk_42 (dk_at dksX3_lay_1 11 rfl rfl)
theorem dX3_lay_36 : decode cX3_lay 36 = .ok (.getfield 21, 3) := dk_180 0 21 (dk_at dksX3_lay_1 12 rfl rfl)
theorem dX3_lay_39 : decode cX3_lay 39 = .ok (.iload_n 1, 1) := dk_27 (dk_at dksX3_lay_1 15 rfl rfl)
theorem dX3_lay_40 : decode cX3_lay 40 = .ok (.ldc 44, 2) := dk_18 44 (dk_at dksX3_lay_1 16 rfl rfl)
theorem dX3_lay_42 : decode cX3_lay 42 = .ok (.fload_n 2, 1) := dk_36 (dk_at dksX3_lay_1 18 rfl rfl)
theorem dX3_lay_43 : decode cX3_lay 43 = .ok (.fmul, 1) := dk_106 (dk_at dksX3_lay_1 19 rfl rfl)
theorem dX3_lay_44 : decode cX3_lay 44 = .ok (.fconst 1, 1) := dk_12 (dk_at dksX3_lay_1 20 rfl rfl)
theorem dX3_lay_45 : decode cX3_lay 45 = .ok (.fload_n 2, 1) := dk_36 (dk_at dksX3_lay_1 21 rfl rfl)
theorem dX3_lay_46 : decode cX3_lay 46 = .ok (.fsub, 1) := dk_102 (dk_at dksX3_lay_1 22 rfl rfl)
theorem dX3_lay_47 : decode cX3_lay 47 = .ok (.fmul, 1) := dk_106 (dk_at dksX3_lay_1 23 rfl rfl)
theorem dX3_lay_48 : decode cX3_lay 48 = .ok (.fastore, 1) := dk_81 (dk_at dksX3_lay_2 0 rfl rfl)
theorem dX3_lay_49 : decode cX3_lay 49 = .ok (.iinc 1 1, 3) := dk_132 1 1 (dk_at dksX3_lay_2 1 rfl rfl)
theorem dX3_lay_52 : decode cX3_lay 52 = .ok (.goto (-40), 3) := dk_167 255 216 (dk_at dksX3_lay_2 4 rfl rfl)
theorem dX3_lay_55 : decode cX3_lay 55 = .ok (.return_, 1) := dk_177 (dk_at dksX3_lay_2 7 rfl rfl)
def dkwX4_values_0 : List UInt8 := [178, 0, 22, 182, 0, 26, 192, 0, 27, 176]
abbrev dktX4_values_0 : List UInt8 := dkwX4_values_0 ++ []
theorem dksX4_values_0 : cX4_values.data.toList.drop 0 = dktX4_values_0 := by decide +kernel
theorem dX4_values_0 : decode cX4_values 0 = .ok (.getstatic 22, 3) := dk_178 0 22 (dk_at dksX4_values_0 0 rfl rfl)
theorem dX4_values_3 : decode cX4_values 3 = .ok (.invokevirtual 26, 3) := dk_182 0 26 (dk_at dksX4_values_0 3 rfl rfl)
theorem dX4_values_6 : decode cX4_values 6 = .ok (.checkcast 27, 3) := dk_192 0 27 (dk_at dksX4_values_0 6 rfl rfl)
theorem dX4_values_9 : decode cX4_values 9 = .ok (.areturn, 1) := dk_176 (dk_at dksX4_values_0 9 rfl rfl)
def dkwX5_init_1 : List UInt8 := [181, 0, 20, 177]
abbrev dktX5_init_1 : List UInt8 := dkwX5_init_1 ++ []
def dkwX5_init_0 : List UInt8 := [42, 183, 0, 3, 42, 18, 9, 181, 0, 10, 42, 27, 188, 6, 181, 0, 16, 42, 16, 6, 188, 6]
abbrev dktX5_init_0 : List UInt8 := dkwX5_init_0 ++ dktX5_init_1
theorem dksX5_init_0 : cX5_init.data.toList.drop 0 = dktX5_init_0 := by decide +kernel
theorem dksX5_init_1 : cX5_init.data.toList.drop 22 = dktX5_init_1 := dk_seg dksX5_init_0 22 rfl rfl
theorem dX5_init_0 : decode cX5_init 0 = .ok (.aload_n 0, 1) := dk_42 (dk_at dksX5_init_0 0 rfl rfl)
theorem dX5_init_1 : decode cX5_init 1 = .ok (.invokespecial 3, 3) := dk_183 0 3 (dk_at dksX5_init_0 1 rfl rfl)
theorem dX5_init_4 : decode cX5_init 4 = .ok (.aload_n 0, 1) := dk_42 (dk_at dksX5_init_0 4 rfl rfl)
theorem dX5_init_5 : decode cX5_init 5 = .ok (.ldc 9, 2) := dk_18 9 (dk_at dksX5_init_0 5 rfl rfl)
theorem dX5_init_7 : decode cX5_init 7 = .ok (.putfield 10, 3) := dk_181 0 10 (dk_at dksX5_init_0 7 rfl rfl)
theorem dX5_init_10 : decode cX5_init 10 = .ok (.aload_n 0, 1) := dk_42 (dk_at dksX5_init_0 10 rfl rfl)
theorem dX5_init_11 : decode cX5_init 11 = .ok (.iload_n 1, 1) := dk_27 (dk_at dksX5_init_0 11 rfl rfl)
theorem dX5_init_12 : decode cX5_init 12 = .ok (.newarray .float, 2) := dk_188_6 (dk_at dksX5_init_0 12 rfl rfl)
theorem dX5_init_14 : decode cX5_init 14 = .ok (.putfield 16, 3) := dk_181 0 16 (dk_at dksX5_init_0 14 rfl rfl)
theorem dX5_init_17 : decode cX5_init 17 = .ok (.aload_n 0, 1) := dk_42 (dk_at dksX5_init_0 17 rfl rfl)
theorem dX5_init_18 : decode cX5_init 18 = .ok (.bipush 6, 2) := dk_16 6 (dk_at dksX5_init_0 18 rfl rfl)
theorem dX5_init_20 : decode cX5_init 20 = .ok (.newarray .float, 2) := dk_188_6 (dk_at dksX5_init_0 20 rfl rfl)
theorem dX5_init_22 : decode cX5_init 22 = .ok (.putfield 20, 3) := dk_181 0 20 (dk_at dksX5_init_1 0 rfl rfl)
theorem dX5_init_25 : decode cX5_init 25 = .ok (.return_, 1) := dk_177 (dk_at dksX5_init_1 3 rfl rfl)
def dkwX5_init_2_4 : List UInt8 := [180, 0, 51, 181, 0, 51, 42, 43, 180, 0, 55, 181, 0, 55, 42, 43, 180, 0, 10, 181, 0, 10, 177]
abbrev dktX5_init_2_4 : List UInt8 := dkwX5_init_2_4 ++ []
def dkwX5_init_2_3 : List UInt8 := [180, 0, 41, 181, 0, 41, 42, 43, 180, 0, 44, 181, 0, 44, 42, 43, 180, 0, 47, 181, 0, 47, 42, 43]
abbrev dktX5_init_2_3 : List UInt8 := dkwX5_init_2_3 ++ dktX5_init_2_4
def dkwX5_init_2_2 : List UInt8 := [180, 0, 32, 181, 0, 32, 42, 43, 180, 0, 35, 181, 0, 35, 42, 43, 180, 0, 38, 181, 0, 38, 42, 43]
abbrev dktX5_init_2_2 : List UInt8 := dkwX5_init_2_2 ++ dktX5_init_2_3
def dkwX5_init_2_1 : List UInt8 := [42, 43, 180, 0, 20, 182, 0, 23, 192, 0, 24, 181, 0, 20, 42, 43, 180, 0, 28, 181, 0, 28, 42, 43]
abbrev dktX5_init_2_1 : List UInt8 := dkwX5_init_2_1 ++ dktX5_init_2_2
def dkwX5_init_2_0 : List UInt8 := [42, 183, 0, 3, 42, 18, 9, 181, 0, 10, 42, 43, 180, 0, 16, 182, 0, 23, 192, 0, 24, 181, 0, 16]
abbrev dktX5_init_2_0 : List UInt8 := dkwX5_init_2_0 ++ dktX5_init_2_1
theorem dksX5_init_2_0 : cX5_init_2.data.toList.drop 0 = dktX5_init_2_0 := by decide +kernel
theorem dksX5_init_2_1 : cX5_init_2.data.toList.drop 24 = dktX5_init_2_1 := dk_seg dksX5_init_2_0 24 rfl rfl
theorem dksX5_init_2_2 : cX5_init_2.data.toList.drop 48 = dktX5_init_2_2 := dk_seg dksX5_init_2_1 24 rfl rfl
theorem dksX5_init_2_3 : cX5_init_2.data.toList.drop 72 = dktX5_init_2_3 := dk_seg dksX5_init_2_2 24 rfl rfl
theorem dksX5_init_2_4 : cX5_init_2.data.toList.drop 96 = dktX5_init_2_4 := dk_seg dksX5_init_2_3 24 rfl rfl
theorem dX5_init_2_0 : decode cX5_init_2 0 = .ok (.aload_n 0, 1) := dk_42 (dk_at dksX5_init_2_0 0 rfl rfl)
theorem dX5_init_2_1 : decode cX5_init_2 1 = .ok (.invokespecial 3, 3) := dk_183 0 3 (dk_at dksX5_init_2_0 1 rfl rfl)
theorem dX5_init_2_4 : decode cX5_init_2 4 = .ok (.aload_n 0, 1) := dk_42 (dk_at dksX5_init_2_0 4 rfl rfl)
theorem dX5_init_2_5 : decode cX5_init_2 5 = .ok (.ldc 9, 2) := dk_18 9 (dk_at dksX5_init_2_0 5 rfl rfl)
theorem dX5_init_2_7 : decode cX5_init_2 7 = .ok (.putfield 10, 3) := dk_181 0 10 (dk_at dksX5_init_2_0 7 rfl rfl)
theorem dX5_init_2_10 : decode cX5_init_2 10 = .ok (.aload_n 0, 1) := dk_42 (dk_at dksX5_init_2_0 10 rfl rfl)
theorem dX5_init_2_11 : decode cX5_init_2 11 = .ok (.aload_n 1, 1) := dk_43 (dk_at dksX5_init_2_0 11 rfl rfl)
theorem dX5_init_2_12 : decode cX5_init_2 12 = .ok (.getfield 16, 3) := dk_180 0 16 (dk_at dksX5_init_2_0 12 rfl rfl)
theorem dX5_init_2_15 : decode cX5_init_2 15 = .ok (.invokevirtual 23, 3) := dk_182 0 23 (dk_at dksX5_init_2_0 15 rfl rfl)
theorem dX5_init_2_18 : decode cX5_init_2 18 = .ok (.checkcast 24, 3) := dk_192 0 24 (dk_at dksX5_init_2_0 18 rfl rfl)
theorem dX5_init_2_21 : decode cX5_init_2 21 = .ok (.putfield 16, 3) := dk_181 0 16 (dk_at dksX5_init_2_0 21 rfl rfl)
theorem dX5_init_2_24 : decode cX5_init_2 24 = .ok (.aload_n 0, 1) := dk_42 (dk_at dksX5_init_2_1 0 rfl rfl)
theorem dX5_init_2_25 : decode cX5_init_2 25 = .ok (.aload_n 1, 1) := dk_43 (dk_at dksX5_init_2_1 1 rfl rfl)
theorem dX5_init_2_26 : decode cX5_init_2 26 = .ok (.getfield 20, 3) := dk_180 0 20 (dk_at dksX5_init_2_1 2 rfl rfl)
theorem dX5_init_2_29 : decode cX5_init_2 29 = .ok (.invokevirtual 23, 3) := dk_182 0 23 (dk_at dksX5_init_2_1 5 rfl rfl)
theorem dX5_init_2_32 : decode cX5_init_2 32 = .ok (.checkcast 24, 3) := dk_192 0 24 (dk_at dksX5_init_2_1 8 rfl rfl)
theorem dX5_init_2_35 : decode cX5_init_2 35 = .ok (.putfield 20, 3) := dk_181 0 20 (dk_at dksX5_init_2_1 11 rfl rfl)
theorem dX5_init_2_38 : decode cX5_init_2 38 = .ok (.aload_n 0, 1) := dk_42 (dk_at dksX5_init_2_1 14 rfl rfl)
theorem dX5_init_2_39 : decode cX5_init_2 39 = .ok (.aload_n 1, 1) := dk_43 (dk_at dksX5_init_2_1 15 rfl rfl)
theorem dX5_init_2_40 : decode cX5_init_2 40 = .ok (.getfield 28, 3) := dk_180 0 28 (dk_at dksX5_init_2_1 16 rfl rfl)
theorem dX5_init_2_43 : decode cX5_init_2 43 = .ok (.putfield 28, 3) := dk_181 0 28 (dk_at dksX5_init_2_1 19 rfl rfl)
theorem dX5_init_2_46 : decode cX5_init_2 46 = .ok (.aload_n 0, 1) := dk_42 (dk_at dksX5_init_2_1 22 rfl rfl)
theorem dX5_init_2_47 : decode cX5_init_2 47 = .ok (.aload_n 1, 1) := dk_43 (dk_at dksX5_init_2_1 23 rfl rfl)
theorem dX5_init_2_48 : decode cX5_init_2 48 = .ok (.getfield 32, 3) := dk_180 0 32 (dk_at dksX5_init_2_2 0 rfl rfl)
theorem dX5_init_2_51 : decode cX5_init_2 51 = .ok (.putfield 32, 3) := dk_181 0 32 (dk_at dksX5_init_2_2 3 rfl rfl)
theorem dX5_init_2_54 : decode cX5_init_2 54 = .ok (.aload_n 0, 1) := dk_42 (dk_at dksX5_init_2_2 6 rfl rfl)
theorem dX5_init_2_55 : decode cX5_init_2 55 = .ok (.aload_n 1, 1) := dk_43 (dk_at dksX5_init_2_2 7 rfl rfl)
theorem dX5_init_2_56 : decode cX5_init_2 56 = .ok (.getfield 35, 3) := dk_180 0 35 (dk_at dksX5_init_2_2 8 rfl rfl)
theorem dX5_init_2_59 : decode cX5_init_2 59 = .ok (.putfield 35, 3) := dk_181 0 35 (dk_at dksX5_init_2_2 11 rfl rfl)
theorem dX5_init_2_62 : decode cX5_init_2 62 = .ok (.aload_n 0, 1) := dk_42 (dk_at dksX5_init_2_2 14 rfl rfl)
theorem dX5_init_2_63 : decode cX5_init_2 63 = .ok (.aload_n 1, 1) := dk_43 (dk_at dksX5_init_2_2 15 rfl rfl)
theorem dX5_init_2_64 : decode cX5_init_2 64 = .ok (.getfield 38, 3) := dk_180 0 38 (dk_at dksX5_init_2_2 16 rfl rfl)
theorem dX5_init_2_67 : decode cX5_init_2 67 = .ok (.putfield 38, 3) := dk_181 0 38 (dk_at dksX5_init_2_2 19 rfl rfl)
theorem dX5_init_2_70 : decode cX5_init_2 70 = .ok (.aload_n 0, 1) := dk_42 (dk_at dksX5_init_2_2 22 rfl rfl)
theorem dX5_init_2_71 : decode cX5_init_2 71 = .ok (.aload_n 1, 1) := dk_43 (dk_at dksX5_init_2_2 23 rfl rfl)
theorem dX5_init_2_72 : decode cX5_init_2 72 = .ok (.getfield 41, 3) := dk_180 0 41 (dk_at dksX5_init_2_3 0 rfl rfl)
theorem dX5_init_2_75 : decode cX5_init_2 75 = .ok (.putfield 41, 3) := dk_181 0 41 (dk_at dksX5_init_2_3 3 rfl rfl)
theorem dX5_init_2_78 : decode cX5_init_2 78 = .ok (.aload_n 0, 1) := dk_42 (dk_at dksX5_init_2_3 6 rfl rfl)
theorem dX5_init_2_79 : decode cX5_init_2 79 = .ok (.aload_n 1, 1) := dk_43 (dk_at dksX5_init_2_3 7 rfl rfl)
theorem dX5_init_2_80 : decode cX5_init_2 80 = .ok (.getfield 44, 3) := dk_180 0 44 (dk_at dksX5_init_2_3 8 rfl rfl)
theorem dX5_init_2_83 : decode cX5_init_2 83 = .ok (.putfield 44, 3) := dk_181 0 44 (dk_at dksX5_init_2_3 11 rfl rfl)
theorem dX5_init_2_86 : decode cX5_init_2 86 = .ok (.aload_n 0, 1) := dk_42 (dk_at dksX5_init_2_3 14 rfl rfl)
theorem dX5_init_2_87 : decode cX5_init_2 87 = .ok (.aload_n 1, 1) := dk_43 (dk_at dksX5_init_2_3 15 rfl rfl)
theorem dX5_init_2_88 : decode cX5_init_2 88 = .ok (.getfield 47, 3) := dk_180 0 47 (dk_at dksX5_init_2_3 16 rfl rfl)
theorem dX5_init_2_91 : decode cX5_init_2 91 = .ok (.putfield 47, 3) := dk_181 0 47 (dk_at dksX5_init_2_3 19 rfl rfl)
theorem dX5_init_2_94 : decode cX5_init_2 94 = .ok (.aload_n 0, 1) := dk_42 (dk_at dksX5_init_2_3 22 rfl rfl)
theorem dX5_init_2_95 : decode cX5_init_2 95 = .ok (.aload_n 1, 1) := dk_43 (dk_at dksX5_init_2_3 23 rfl rfl)
theorem dX5_init_2_96 : decode cX5_init_2 96 = .ok (.getfield 51, 3) := dk_180 0 51 (dk_at dksX5_init_2_4 0 rfl rfl)
theorem dX5_init_2_99 : decode cX5_init_2 99 = .ok (.putfield 51, 3) := dk_181 0 51 (dk_at dksX5_init_2_4 3 rfl rfl)
theorem dX5_init_2_102 : decode cX5_init_2 102 = .ok (.aload_n 0, 1) := dk_42 (dk_at dksX5_init_2_4 6 rfl rfl)
theorem dX5_init_2_103 : decode cX5_init_2 103 = .ok (.aload_n 1, 1) := dk_43 (dk_at dksX5_init_2_4 7 rfl rfl)
theorem dX5_init_2_104 : decode cX5_init_2 104 = .ok (.getfield 55, 3) := dk_180 0 55 (dk_at dksX5_init_2_4 8 rfl rfl)
theorem dX5_init_2_107 : decode cX5_init_2 107 = .ok (.putfield 55, 3) := dk_181 0 55 (dk_at dksX5_init_2_4 11 rfl rfl)
theorem dX5_init_2_110 : decode cX5_init_2 110 = .ok (.aload_n 0, 1) := dk_42 (dk_at dksX5_init_2_4 14 rfl rfl)
theorem dX5_init_2_111 : decode cX5_init_2 111 = .ok (.aload_n 1, 1) := dk_43 (dk_at dksX5_init_2_4 15 rfl rfl)
theorem dX5_init_2_112 : decode cX5_init_2 112 = .ok (.getfield 10, 3) := dk_180 0 10 (dk_at dksX5_init_2_4 16 rfl rfl)
theorem dX5_init_2_115 : decode cX5_init_2 115 = .ok (.putfield 10, 3) := dk_181 0 10 (dk_at dksX5_init_2_4 19 rfl rfl)
theorem dX5_init_2_118 : decode cX5_init_2 118 = .ok (.return_, 1) := dk_177 (dk_at dksX5_init_2_4 22 rfl rfl)
def dkwX5_forgetWindow_0 : List UInt8 := [42, 9, 181, 0, 47, 42, 3, 181, 0, 35, 42, 18, 9, 181, 0, 10, 42, 3, 181, 0, 51, 177]
abbrev dktX5_forgetWindow_0 : List UInt8 := dkwX5_forgetWindow_0 ++ []
theorem dksX5_forgetWindow_0 : cX5_forgetWindow.data.toList.drop 0 = dktX5_forgetWindow_0 := by decide +kernel
theorem dX5_forgetWindow_0 : decode cX5_forgetWindow 0 = .ok (.aload_n 0, 1) := dk_42 (dk_at dksX5_forgetWindow_0 0 rfl rfl)
theorem dX5_forgetWindow_1 : decode cX5_forgetWindow 1 = .ok (.lconst 0, 1) := dk_9 (dk_at dksX5_forgetWindow_0 1 rfl rfl)
theorem dX5_forgetWindow_2 : decode cX5_forgetWindow 2 = .ok (.putfield 47, 3) := dk_181 0 47 (dk_at dksX5_forgetWindow_0 2 rfl rfl)
theorem dX5_forgetWindow_5 : decode cX5_forgetWindow 5 = .ok (.aload_n 0, 1) := dk_42 (dk_at dksX5_forgetWindow_0 5 rfl rfl)
theorem dX5_forgetWindow_6 : decode cX5_forgetWindow 6 = .ok (.iconst 0, 1) := dk_3 (dk_at dksX5_forgetWindow_0 6 rfl rfl)
theorem dX5_forgetWindow_7 : decode cX5_forgetWindow 7 = .ok (.putfield 35, 3) := dk_181 0 35 (dk_at dksX5_forgetWindow_0 7 rfl rfl)
theorem dX5_forgetWindow_10 : decode cX5_forgetWindow 10 = .ok (.aload_n 0, 1) := dk_42 (dk_at dksX5_forgetWindow_0 10 rfl rfl)
theorem dX5_forgetWindow_11 : decode cX5_forgetWindow 11 = .ok (.ldc 9, 2) := dk_18 9 (dk_at dksX5_forgetWindow_0 11 rfl rfl)
theorem dX5_forgetWindow_13 : decode cX5_forgetWindow 13 = .ok (.putfield 10, 3) := dk_181 0 10 (dk_at dksX5_forgetWindow_0 13 rfl rfl)
theorem dX5_forgetWindow_16 : decode cX5_forgetWindow 16 = .ok (.aload_n 0, 1) := dk_42 (dk_at dksX5_forgetWindow_0 16 rfl rfl)
theorem dX5_forgetWindow_17 : decode cX5_forgetWindow 17 = .ok (.iconst 0, 1) := dk_3 (dk_at dksX5_forgetWindow_0 17 rfl rfl)
theorem dX5_forgetWindow_18 : decode cX5_forgetWindow 18 = .ok (.putfield 51, 3) := dk_181 0 51 (dk_at dksX5_forgetWindow_0 18 rfl rfl)
theorem dX5_forgetWindow_21 : decode cX5_forgetWindow 21 = .ok (.return_, 1) := dk_177 (dk_at dksX5_forgetWindow_0 21 rfl rfl)
def dkwX5_suspects_1 : List UInt8 := [61, 132, 3, 1, 167, 255, 232, 28, 172]
abbrev dktX5_suspects_1 : List UInt8 := dkwX5_suspects_1 ++ []
def dkwX5_suspects_0 : List UInt8 := [3, 61, 3, 62, 29, 27, 162, 0, 25, 28, 42, 29, 182, 0, 58, 153, 0, 7, 4, 167, 0, 4, 3, 96]
abbrev dktX5_suspects_0 : List UInt8 := dkwX5_suspects_0 ++ dktX5_suspects_1
theorem dksX5_suspects_0 : cX5_suspects.data.toList.drop 0 = dktX5_suspects_0 := by decide +kernel
theorem dksX5_suspects_1 : cX5_suspects.data.toList.drop 24 = dktX5_suspects_1 := dk_seg dksX5_suspects_0 24 rfl rfl
theorem dX5_suspects_0 : decode cX5_suspects 0 = .ok (.iconst 0, 1) := dk_3 (dk_at dksX5_suspects_0 0 rfl rfl)
theorem dX5_suspects_1 : decode cX5_suspects 1 = .ok (.istore_n 2, 1) := dk_61 (dk_at dksX5_suspects_0 1 rfl rfl)
theorem dX5_suspects_2 : decode cX5_suspects 2 = .ok (.iconst 0, 1) := dk_3 (dk_at dksX5_suspects_0 2 rfl rfl)
theorem dX5_suspects_3 : decode cX5_suspects 3 = .ok (.istore_n 3, 1) := dk_62 (dk_at dksX5_suspects_0 3 rfl rfl)
theorem dX5_suspects_4 : decode cX5_suspects 4 = .ok (.iload_n 3, 1) := dk_29 (dk_at dksX5_suspects_0 4 rfl rfl)
theorem dX5_suspects_5 : decode cX5_suspects 5 = .ok (.iload_n 1, 1) := dk_27 (dk_at dksX5_suspects_0 5 rfl rfl)
theorem dX5_suspects_6 : decode cX5_suspects 6 = .ok (.if_icmp .ge 25, 3) := dk_162 0 25 (dk_at dksX5_suspects_0 6 rfl rfl)
theorem dX5_suspects_9 : decode cX5_suspects 9 = .ok (.iload_n 2, 1) := dk_28 (dk_at dksX5_suspects_0 9 rfl rfl)
theorem dX5_suspects_10 : decode cX5_suspects 10 = .ok (.aload_n 0, 1) := dk_42 (dk_at dksX5_suspects_0 10 rfl rfl)
theorem dX5_suspects_11 : decode cX5_suspects 11 = .ok (.iload_n 3, 1) := dk_29 (dk_at dksX5_suspects_0 11 rfl rfl)
theorem dX5_suspects_12 : decode cX5_suspects 12 = .ok (.invokevirtual 58, 3) := dk_182 0 58 (dk_at dksX5_suspects_0 12 rfl rfl)
theorem dX5_suspects_15 : decode cX5_suspects 15 = .ok (.ifCond .eq 7, 3) := dk_153 0 7 (dk_at dksX5_suspects_0 15 rfl rfl)
theorem dX5_suspects_18 : decode cX5_suspects 18 = .ok (.iconst 1, 1) := dk_4 (dk_at dksX5_suspects_0 18 rfl rfl)
theorem dX5_suspects_19 : decode cX5_suspects 19 = .ok (.goto 4, 3) := dk_167 0 4 (dk_at dksX5_suspects_0 19 rfl rfl)
theorem dX5_suspects_22 : decode cX5_suspects 22 = .ok (.iconst 0, 1) := dk_3 (dk_at dksX5_suspects_0 22 rfl rfl)
theorem dX5_suspects_23 : decode cX5_suspects 23 = .ok (.iadd, 1) := dk_96 (dk_at dksX5_suspects_0 23 rfl rfl)
theorem dX5_suspects_24 : decode cX5_suspects 24 = .ok (.istore_n 2, 1) := dk_61 (dk_at dksX5_suspects_1 0 rfl rfl)
theorem dX5_suspects_25 : decode cX5_suspects 25 = .ok (.iinc 3 1, 3) := dk_132 3 1 (dk_at dksX5_suspects_1 1 rfl rfl)
theorem dX5_suspects_28 : decode cX5_suspects 28 = .ok (.goto (-24), 3) := dk_167 255 232 (dk_at dksX5_suspects_1 4 rfl rfl)
theorem dX5_suspects_31 : decode cX5_suspects 31 = .ok (.iload_n 2, 1) := dk_28 (dk_at dksX5_suspects_1 7 rfl rfl)
theorem dX5_suspects_32 : decode cX5_suspects 32 = .ok (.ireturn, 1) := dk_172 (dk_at dksX5_suspects_1 8 rfl rfl)
def dkwX5_was_0 : List UInt8 := [42, 180, 0, 47, 27, 123, 10, 127, 10, 148, 154, 0, 7, 4, 167, 0, 4, 3, 172]
abbrev dktX5_was_0 : List UInt8 := dkwX5_was_0 ++ []
theorem dksX5_was_0 : cX5_was.data.toList.drop 0 = dktX5_was_0 := by decide +kernel
theorem dX5_was_0 : decode cX5_was 0 = .ok (.aload_n 0, 1) := dk_42 (dk_at dksX5_was_0 0 rfl rfl)
theorem dX5_was_1 : decode cX5_was 1 = .ok (.getfield 47, 3) := dk_180 0 47 (dk_at dksX5_was_0 1 rfl rfl)
theorem dX5_was_4 : decode cX5_was 4 = .ok (.iload_n 1, 1) := dk_27 (dk_at dksX5_was_0 4 rfl rfl)
theorem dX5_was_5 : decode cX5_was 5 = .ok (.lshr, 1) := dk_123 (dk_at dksX5_was_0 5 rfl rfl)
theorem dX5_was_6 : decode cX5_was 6 = .ok (.lconst 1, 1) := dk_10 (dk_at dksX5_was_0 6 rfl rfl)
theorem dX5_was_7 : decode cX5_was 7 = .ok (.land, 1) := dk_127 (dk_at dksX5_was_0 7 rfl rfl)
theorem dX5_was_8 : decode cX5_was 8 = .ok (.lconst 1, 1) := dk_10 (dk_at dksX5_was_0 8 rfl rfl)
theorem dX5_was_9 : decode cX5_was 9 = .ok (.lcmp, 1) := dk_148 (dk_at dksX5_was_0 9 rfl rfl)
theorem dX5_was_10 : decode cX5_was 10 = .ok (.ifCond .ne 7, 3) := dk_154 0 7 (dk_at dksX5_was_0 10 rfl rfl)
theorem dX5_was_13 : decode cX5_was 13 = .ok (.iconst 1, 1) := dk_4 (dk_at dksX5_was_0 13 rfl rfl)
theorem dX5_was_14 : decode cX5_was 14 = .ok (.goto 4, 3) := dk_167 0 4 (dk_at dksX5_was_0 14 rfl rfl)
theorem dX5_was_17 : decode cX5_was 17 = .ok (.iconst 0, 1) := dk_3 (dk_at dksX5_was_0 17 rfl rfl)
theorem dX5_was_18 : decode cX5_was 18 = .ok (.ireturn, 1) := dk_172 (dk_at dksX5_was_0 18 rfl rfl)
def dkwX5_margin_0 : List UInt8 := [4, 62, 29, 42, 27, 29, 100, 182, 0, 62, 96, 28, 162, 0, 9, 132, 3, 1, 167, 255, 240, 29, 172]
abbrev dktX5_margin_0 : List UInt8 := dkwX5_margin_0 ++ []
theorem dksX5_margin_0 : cX5_margin.data.toList.drop 0 = dktX5_margin_0 := by decide +kernel
theorem dX5_margin_0 : decode cX5_margin 0 = .ok (.iconst 1, 1) := dk_4 (dk_at dksX5_margin_0 0 rfl rfl)
theorem dX5_margin_1 : decode cX5_margin 1 = .ok (.istore_n 3, 1) := dk_62 (dk_at dksX5_margin_0 1 rfl rfl)
theorem dX5_margin_2 : decode cX5_margin 2 = .ok (.iload_n 3, 1) := dk_29 (dk_at dksX5_margin_0 2 rfl rfl)
theorem dX5_margin_3 : decode cX5_margin 3 = .ok (.aload_n 0, 1) := dk_42 (dk_at dksX5_margin_0 3 rfl rfl)
theorem dX5_margin_4 : decode cX5_margin 4 = .ok (.iload_n 1, 1) := dk_27 (dk_at dksX5_margin_0 4 rfl rfl)
theorem dX5_margin_5 : decode cX5_margin 5 = .ok (.iload_n 3, 1) := dk_29 (dk_at dksX5_margin_0 5 rfl rfl)
theorem dX5_margin_6 : decode cX5_margin 6 = .ok (.isub, 1) := dk_100 (dk_at dksX5_margin_0 6 rfl rfl)
theorem dX5_margin_7 : decode cX5_margin 7 = .ok (.invokevirtual 62, 3) := dk_182 0 62 (dk_at dksX5_margin_0 7 rfl rfl)
theorem dX5_margin_10 : decode cX5_margin 10 = .ok (.iadd, 1) := dk_96 (dk_at dksX5_margin_0 10 rfl rfl)
theorem dX5_margin_11 : decode cX5_margin 11 = .ok (.iload_n 2, 1) := dk_28 (dk_at dksX5_margin_0 11 rfl rfl)
theorem dX5_margin_12 : decode cX5_margin 12 = .ok (.if_icmp .ge 9, 3) := dk_162 0 9 (dk_at dksX5_margin_0 12 rfl rfl)
theorem dX5_margin_15 : decode cX5_margin 15 = .ok (.iinc 3 1, 3) := dk_132 3 1 (dk_at dksX5_margin_0 15 rfl rfl)
theorem dX5_margin_18 : decode cX5_margin 18 = .ok (.goto (-16), 3) := dk_167 255 240 (dk_at dksX5_margin_0 18 rfl rfl)
theorem dX5_margin_21 : decode cX5_margin 21 = .ok (.iload_n 3, 1) := dk_29 (dk_at dksX5_margin_0 21 rfl rfl)
theorem dX5_margin_22 : decode cX5_margin 22 = .ok (.ireturn, 1) := dk_172 (dk_at dksX5_margin_0 22 rfl rfl)
def dkwX7_init_2 : List UInt8 := [181, 0, 36, 42, 18, 40, 181, 0, 42, 42, 182, 0, 46, 177]
abbrev dktX7_init_2 : List UInt8 := dkwX7_init_2 ++ []
def dkwX7_init_1 : List UInt8 := [89, 5, 183, 0, 24, 181, 0, 27, 42, 187, 0, 22, 89, 5, 183, 0, 24, 181, 0, 31, 42, 20, 0, 34]
abbrev dktX7_init_1 : List UInt8 := dkwX7_init_1 ++ dktX7_init_2
def dkwX7_init_0 : List UInt8 := [42, 43, 181, 0, 3, 42, 183, 0, 9, 42, 187, 0, 15, 89, 183, 0, 17, 181, 0, 18, 42, 187, 0, 22]
abbrev dktX7_init_0 : List UInt8 := dkwX7_init_0 ++ dktX7_init_1
theorem dksX7_init_0 : cX7_init.data.toList.drop 0 = dktX7_init_0 := by decide +kernel
theorem dksX7_init_1 : cX7_init.data.toList.drop 24 = dktX7_init_1 := dk_seg dksX7_init_0 24 rfl rfl
theorem dksX7_init_2 : cX7_init.data.toList.drop 48 = dktX7_init_2 := dk_seg dksX7_init_1 24 rfl rfl
theorem dX7_init_0 : decode cX7_init 0 = .ok (.aload_n 0, 1) := dk_42 (dk_at dksX7_init_0 0 rfl rfl)
theorem dX7_init_1 : decode cX7_init 1 = .ok (.aload_n 1, 1) := dk_43 (dk_at dksX7_init_0 1 rfl rfl)
theorem dX7_init_2 : decode cX7_init 2 = .ok (.putfield 3, 3) := dk_181 0 3 (dk_at dksX7_init_0 2 rfl rfl)
theorem dX7_init_5 : decode cX7_init 5 = .ok (.aload_n 0, 1) := dk_42 (dk_at dksX7_init_0 5 rfl rfl)
theorem dX7_init_6 : decode cX7_init 6 = .ok (.invokespecial 9, 3) := dk_183 0 9 (dk_at dksX7_init_0 6 rfl rfl)
theorem dX7_init_9 : decode cX7_init 9 = .ok (.aload_n 0, 1) := dk_42 (dk_at dksX7_init_0 9 rfl rfl)
theorem dX7_init_10 : decode cX7_init 10 = .ok (.new 15, 3) := dk_187 0 15 (dk_at dksX7_init_0 10 rfl rfl)
theorem dX7_init_13 : decode cX7_init 13 = .ok (.dup, 1) := dk_89 (dk_at dksX7_init_0 13 rfl rfl)
theorem dX7_init_14 : decode cX7_init 14 = .ok (.invokespecial 17, 3) := dk_183 0 17 (dk_at dksX7_init_0 14 rfl rfl)
theorem dX7_init_17 : decode cX7_init 17 = .ok (.putfield 18, 3) := dk_181 0 18 (dk_at dksX7_init_0 17 rfl rfl)
theorem dX7_init_20 : decode cX7_init 20 = .ok (.aload_n 0, 1) := dk_42 (dk_at dksX7_init_0 20 rfl rfl)
theorem dX7_init_21 : decode cX7_init 21 = .ok (.new 22, 3) := dk_187 0 22 (dk_at dksX7_init_0 21 rfl rfl)
theorem dX7_init_24 : decode cX7_init 24 = .ok (.dup, 1) := dk_89 (dk_at dksX7_init_1 0 rfl rfl)
theorem dX7_init_25 : decode cX7_init 25 = .ok (.iconst 2, 1) := dk_5 (dk_at dksX7_init_1 1 rfl rfl)
theorem dX7_init_26 : decode cX7_init 26 = .ok (.invokespecial 24, 3) := dk_183 0 24 (dk_at dksX7_init_1 2 rfl rfl)
theorem dX7_init_29 : decode cX7_init 29 = .ok (.putfield 27, 3) := dk_181 0 27 (dk_at dksX7_init_1 5 rfl rfl)
theorem dX7_init_32 : decode cX7_init 32 = .ok (.aload_n 0, 1) := dk_42 (dk_at dksX7_init_1 8 rfl rfl)
theorem dX7_init_33 : decode cX7_init 33 = .ok (.new 22, 3) := dk_187 0 22 (dk_at dksX7_init_1 9 rfl rfl)
theorem dX7_init_36 : decode cX7_init 36 = .ok (.dup, 1) := dk_89 (dk_at dksX7_init_1 12 rfl rfl)
theorem dX7_init_37 : decode cX7_init 37 = .ok (.iconst 2, 1) := dk_5 (dk_at dksX7_init_1 13 rfl rfl)
theorem dX7_init_38 : decode cX7_init 38 = .ok (.invokespecial 24, 3) := dk_183 0 24 (dk_at dksX7_init_1 14 rfl rfl)
theorem dX7_init_41 : decode cX7_init 41 = .ok (.putfield 31, 3) := dk_181 0 31 (dk_at dksX7_init_1 17 rfl rfl)
theorem dX7_init_44 : decode cX7_init 44 = .ok (.aload_n 0, 1) := dk_42 (dk_at dksX7_init_1 20 rfl rfl)
theorem dX7_init_45 : decode cX7_init 45 = .ok (.ldc2_w 34, 3) := dk_20 0 34 (dk_at dksX7_init_1 21 rfl rfl)
theorem dX7_init_48 : decode cX7_init 48 = .ok (.putfield 36, 3) := dk_181 0 36 (dk_at dksX7_init_2 0 rfl rfl)
theorem dX7_init_51 : decode cX7_init 51 = .ok (.aload_n 0, 1) := dk_42 (dk_at dksX7_init_2 3 rfl rfl)
theorem dX7_init_52 : decode cX7_init 52 = .ok (.ldc 40, 2) := dk_18 40 (dk_at dksX7_init_2 4 rfl rfl)
theorem dX7_init_54 : decode cX7_init 54 = .ok (.putfield 42, 3) := dk_181 0 42 (dk_at dksX7_init_2 6 rfl rfl)
theorem dX7_init_57 : decode cX7_init 57 = .ok (.aload_n 0, 1) := dk_42 (dk_at dksX7_init_2 9 rfl rfl)
theorem dX7_init_58 : decode cX7_init 58 = .ok (.invokevirtual 46, 3) := dk_182 0 46 (dk_at dksX7_init_2 10 rfl rfl)
theorem dX7_init_61 : decode cX7_init 61 = .ok (.return_, 1) := dk_177 (dk_at dksX7_init_2 13 rfl rfl)
def dkwX7_next_10 : List UInt8 := [178, 0, 107, 181, 0, 80, 42, 89, 180, 0, 49, 4, 96, 181, 0, 49, 177]
abbrev dktX7_next_10 : List UInt8 := dkwX7_next_10 ++ []
def dkwX7_next_9 : List UInt8 := [16, 48, 100, 184, 0, 101, 181, 0, 71, 42, 89, 180, 0, 49, 4, 96, 181, 0, 49, 167, 255, 203, 42]
abbrev dktX7_next_9 : List UInt8 := dkwX7_next_9 ++ dktX7_next_10
def dkwX7_next_8 : List UInt8 := [42, 18, 100, 16, 10, 42, 180, 0, 71, 104, 42, 180, 0, 3, 180, 0, 56, 42, 180, 0, 49, 51, 96]
abbrev dktX7_next_8 : List UInt8 := dkwX7_next_8 ++ dktX7_next_9
def dkwX7_next_7 : List UInt8 := [182, 0, 64, 153, 0, 66, 42, 178, 0, 97, 181, 0, 80, 42, 16, 48, 16, 57, 182, 0, 64, 153, 0, 65]
abbrev dktX7_next_7 : List UInt8 := dkwX7_next_7 ++ dktX7_next_8
def dkwX7_next_6 : List UInt8 := [181, 0, 49, 167, 255, 217, 42, 43, 182, 0, 93, 181, 0, 42, 167, 0, 94, 42, 16, 48, 16, 57]
abbrev dktX7_next_6 : List UInt8 := dkwX7_next_6 ++ dktX7_next_7
def dkwX7_next_5 : List UInt8 := [180, 0, 3, 180, 0, 56, 42, 180, 0, 49, 51, 146, 182, 0, 89, 87, 42, 89, 180, 0, 49, 4, 96]
abbrev dktX7_next_5 : List UInt8 := dkwX7_next_5 ++ dktX7_next_6
def dkwX7_next_4 : List UInt8 := [181, 0, 80, 187, 0, 86, 89, 183, 0, 88, 76, 42, 16, 97, 16, 122, 182, 0, 64, 153, 0, 34, 43, 42]
abbrev dktX7_next_4 : List UInt8 := dkwX7_next_4 ++ dktX7_next_5
def dkwX7_next_3 : List UInt8 := [178, 0, 74, 181, 0, 80, 167, 0, 173, 42, 16, 97, 16, 122, 182, 0, 64, 153, 0, 71, 42, 178, 0, 83]
abbrev dktX7_next_3 : List UInt8 := dkwX7_next_3 ++ dktX7_next_4
def dkwX7_next_2 : List UInt8 := [181, 0, 42, 42, 3, 181, 0, 71, 42, 180, 0, 49, 42, 180, 0, 3, 180, 0, 53, 160, 0, 13, 42]
abbrev dktX7_next_2 : List UInt8 := dkwX7_next_2 ++ dktX7_next_3
def dkwX7_next_1 : List UInt8 := [180, 0, 49, 4, 96, 181, 0, 49, 167, 255, 224, 42, 42, 180, 0, 49, 181, 0, 68, 42, 18, 40]
abbrev dktX7_next_1 : List UInt8 := dkwX7_next_1 ++ dktX7_next_2
def dkwX7_next_0 : List UInt8 := [42, 16, 32, 16, 32, 182, 0, 64, 154, 0, 14, 42, 16, 10, 16, 10, 182, 0, 64, 153, 0, 16, 42, 89]
abbrev dktX7_next_0 : List UInt8 := dkwX7_next_0 ++ dktX7_next_1
theorem dksX7_next_0 : cX7_next.data.toList.drop 0 = dktX7_next_0 := by decide +kernel
theorem dksX7_next_1 : cX7_next.data.toList.drop 24 = dktX7_next_1 := dk_seg dksX7_next_0 24 rfl rfl
theorem dksX7_next_2 : cX7_next.data.toList.drop 46 = dktX7_next_2 := dk_seg dksX7_next_1 22 rfl rfl
theorem dksX7_next_3 : cX7_next.data.toList.drop 69 = dktX7_next_3 := dk_seg dksX7_next_2 23 rfl rfl
theorem dksX7_next_4 : cX7_next.data.toList.drop 93 = dktX7_next_4 := dk_seg dksX7_next_3 24 rfl rfl
theorem dksX7_next_5 : cX7_next.data.toList.drop 117 = dktX7_next_5 := dk_seg dksX7_next_4 24 rfl rfl
theorem dksX7_next_6 : cX7_next.data.toList.drop 140 = dktX7_next_6 := dk_seg dksX7_next_5 23 rfl rfl
theorem dksX7_next_7 : cX7_next.data.toList.drop 162 = dktX7_next_7 := dk_seg dksX7_next_6 22 rfl rfl
theorem dksX7_next_8 : cX7_next.data.toList.drop 186 = dktX7_next_8 := dk_seg dksX7_next_7 24 rfl rfl
theorem dksX7_next_9 : cX7_next.data.toList.drop 209 = dktX7_next_9 := dk_seg dksX7_next_8 23 rfl rfl
theorem dksX7_next_10 : cX7_next.data.toList.drop 232 = dktX7_next_10 := dk_seg dksX7_next_9 23 rfl rfl
theorem dX7_next_0 : decode cX7_next 0 = .ok (.aload_n 0, 1) := dk_42 (dk_at dksX7_next_0 0 rfl rfl)
theorem dX7_next_1 : decode cX7_next 1 = .ok (.bipush 32, 2) := dk_16 32 (dk_at dksX7_next_0 1 rfl rfl)
theorem dX7_next_3 : decode cX7_next 3 = .ok (.bipush 32, 2) := dk_16 32 (dk_at dksX7_next_0 3 rfl rfl)
theorem dX7_next_5 : decode cX7_next 5 = .ok (.invokevirtual 64, 3) := dk_182 0 64 (dk_at dksX7_next_0 5 rfl rfl)
theorem dX7_next_8 : decode cX7_next 8 = .ok (.ifCond .ne 14, 3) := dk_154 0 14 (dk_at dksX7_next_0 8 rfl rfl)
theorem dX7_next_11 : decode cX7_next 11 = .ok (.aload_n 0, 1) := dk_42 (dk_at dksX7_next_0 11 rfl rfl)
theorem dX7_next_12 : decode cX7_next 12 = .ok (.bipush 10, 2) := dk_16 10 (dk_at dksX7_next_0 12 rfl rfl)
theorem dX7_next_14 : decode cX7_next 14 = .ok (.bipush 10, 2) := dk_16 10 (dk_at dksX7_next_0 14 rfl rfl)
theorem dX7_next_16 : decode cX7_next 16 = .ok (.invokevirtual 64, 3) := dk_182 0 64 (dk_at dksX7_next_0 16 rfl rfl)
theorem dX7_next_19 : decode cX7_next 19 = .ok (.ifCond .eq 16, 3) := dk_153 0 16 (dk_at dksX7_next_0 19 rfl rfl)
theorem dX7_next_22 : decode cX7_next 22 = .ok (.aload_n 0, 1) := dk_42 (dk_at dksX7_next_0 22 rfl rfl)
theorem dX7_next_23 : decode cX7_next 23 = .ok (.dup, 1) := dk_89 (dk_at dksX7_next_0 23 rfl rfl)
theorem dX7_next_24 : decode cX7_next 24 = .ok (.getfield 49, 3) := dk_180 0 49 (dk_at dksX7_next_1 0 rfl rfl)
theorem dX7_next_27 : decode cX7_next 27 = .ok (.iconst 1, 1) := dk_4 (dk_at dksX7_next_1 3 rfl rfl)
theorem dX7_next_28 : decode cX7_next 28 = .ok (.iadd, 1) := dk_96 (dk_at dksX7_next_1 4 rfl rfl)
theorem dX7_next_29 : decode cX7_next 29 = .ok (.putfield 49, 3) := dk_181 0 49 (dk_at dksX7_next_1 5 rfl rfl)
theorem dX7_next_32 : decode cX7_next 32 = .ok (.goto (-32), 3) := dk_167 255 224 (dk_at dksX7_next_1 8 rfl rfl)
theorem dX7_next_35 : decode cX7_next 35 = .ok (.aload_n 0, 1) := dk_42 (dk_at dksX7_next_1 11 rfl rfl)
theorem dX7_next_36 : decode cX7_next 36 = .ok (.aload_n 0, 1) := dk_42 (dk_at dksX7_next_1 12 rfl rfl)
theorem dX7_next_37 : decode cX7_next 37 = .ok (.getfield 49, 3) := dk_180 0 49 (dk_at dksX7_next_1 13 rfl rfl)
theorem dX7_next_40 : decode cX7_next 40 = .ok (.putfield 68, 3) := dk_181 0 68 (dk_at dksX7_next_1 16 rfl rfl)
theorem dX7_next_43 : decode cX7_next 43 = .ok (.aload_n 0, 1) := dk_42 (dk_at dksX7_next_1 19 rfl rfl)
theorem dX7_next_44 : decode cX7_next 44 = .ok (.ldc 40, 2) := dk_18 40 (dk_at dksX7_next_1 20 rfl rfl)
theorem dX7_next_46 : decode cX7_next 46 = .ok (.putfield 42, 3) := dk_181 0 42 (dk_at dksX7_next_2 0 rfl rfl)
theorem dX7_next_49 : decode cX7_next 49 = .ok (.aload_n 0, 1) := dk_42 (dk_at dksX7_next_2 3 rfl rfl)
theorem dX7_next_50 : decode cX7_next 50 = .ok (.iconst 0, 1) := dk_3 (dk_at dksX7_next_2 4 rfl rfl)
theorem dX7_next_51 : decode cX7_next 51 = .ok (.putfield 71, 3) := dk_181 0 71 (dk_at dksX7_next_2 5 rfl rfl)
theorem dX7_next_54 : decode cX7_next 54 = .ok (.aload_n 0, 1) := dk_42 (dk_at dksX7_next_2 8 rfl rfl)
theorem dX7_next_55 : decode cX7_next 55 = .ok (.getfield 49, 3) := dk_180 0 49 (dk_at dksX7_next_2 9 rfl rfl)
theorem dX7_next_58 : decode cX7_next 58 = .ok (.aload_n 0, 1) := dk_42 (dk_at dksX7_next_2 12 rfl rfl)
theorem dX7_next_59 : decode cX7_next 59 = .ok (.getfield 3, 3) := dk_180 0 3 (dk_at dksX7_next_2 13 rfl rfl)
theorem dX7_next_62 : decode cX7_next 62 = .ok (.getfield 53, 3) := dk_180 0 53 (dk_at dksX7_next_2 16 rfl rfl)
theorem dX7_next_65 : decode cX7_next 65 = .ok (.if_icmp .ne 13, 3) := dk_160 0 13 (dk_at dksX7_next_2 19 rfl rfl)
theorem dX7_next_68 : decode cX7_next 68 = .ok (.aload_n 0, 1) := dk_42 (dk_at dksX7_next_2 22 rfl rfl)
theorem dX7_next_69 : decode cX7_next 69 = .ok (.getstatic 74, 3) := dk_178 0 74 (dk_at dksX7_next_3 0 rfl rfl)
theorem dX7_next_72 : decode cX7_next 72 = .ok (.putfield 80, 3) := dk_181 0 80 (dk_at dksX7_next_3 3 rfl rfl)
theorem dX7_next_75 : decode cX7_next 75 = .ok (.goto 173, 3) := dk_167 0 173 (dk_at dksX7_next_3 6 rfl rfl)
theorem dX7_next_78 : decode cX7_next 78 = .ok (.aload_n 0, 1) := dk_42 (dk_at dksX7_next_3 9 rfl rfl)
theorem dX7_next_79 : decode cX7_next 79 = .ok (.bipush 97, 2) := dk_16 97 (dk_at dksX7_next_3 10 rfl rfl)
theorem dX7_next_81 : decode cX7_next 81 = .ok (.bipush 122, 2) := dk_16 122 (dk_at dksX7_next_3 12 rfl rfl)
theorem dX7_next_83 : decode cX7_next 83 = .ok (.invokevirtual 64, 3) := dk_182 0 64 (dk_at dksX7_next_3 14 rfl rfl)
theorem dX7_next_86 : decode cX7_next 86 = .ok (.ifCond .eq 71, 3) := dk_153 0 71 (dk_at dksX7_next_3 17 rfl rfl)
theorem dX7_next_89 : decode cX7_next 89 = .ok (.aload_n 0, 1) := dk_42 (dk_at dksX7_next_3 20 rfl rfl)
theorem dX7_next_90 : decode cX7_next 90 = .ok (.getstatic 83, 3) := dk_178 0 83 (dk_at dksX7_next_3 21 rfl rfl)
theorem dX7_next_93 : decode cX7_next 93 = .ok (.putfield 80, 3) := dk_181 0 80 (dk_at dksX7_next_4 0 rfl rfl)
theorem dX7_next_96 : decode cX7_next 96 = .ok (.new 86, 3) := dk_187 0 86 (dk_at dksX7_next_4 3 rfl rfl)
theorem dX7_next_99 : decode cX7_next 99 = .ok (.dup, 1) := dk_89 (dk_at dksX7_next_4 6 rfl rfl)
theorem dX7_next_100 : decode cX7_next 100 = .ok (.invokespecial 88, 3) := dk_183 0 88 (dk_at dksX7_next_4 7 rfl rfl)
theorem dX7_next_103 : decode cX7_next 103 = .ok (.astore_n 1, 1) := dk_76 (dk_at dksX7_next_4 10 rfl rfl)
theorem dX7_next_104 : decode cX7_next 104 = .ok (.aload_n 0, 1) := dk_42 (dk_at dksX7_next_4 11 rfl rfl)
theorem dX7_next_105 : decode cX7_next 105 = .ok (.bipush 97, 2) := dk_16 97 (dk_at dksX7_next_4 12 rfl rfl)
theorem dX7_next_107 : decode cX7_next 107 = .ok (.bipush 122, 2) := dk_16 122 (dk_at dksX7_next_4 14 rfl rfl)
theorem dX7_next_109 : decode cX7_next 109 = .ok (.invokevirtual 64, 3) := dk_182 0 64 (dk_at dksX7_next_4 16 rfl rfl)
theorem dX7_next_112 : decode cX7_next 112 = .ok (.ifCond .eq 34, 3) := dk_153 0 34 (dk_at dksX7_next_4 19 rfl rfl)
theorem dX7_next_115 : decode cX7_next 115 = .ok (.aload_n 1, 1) := dk_43 (dk_at dksX7_next_4 22 rfl rfl)
theorem dX7_next_116 : decode cX7_next 116 = .ok (.aload_n 0, 1) := dk_42 (dk_at dksX7_next_4 23 rfl rfl)
theorem dX7_next_117 : decode cX7_next 117 = .ok (.getfield 3, 3) := dk_180 0 3 (dk_at dksX7_next_5 0 rfl rfl)
theorem dX7_next_120 : decode cX7_next 120 = .ok (.getfield 56, 3) := dk_180 0 56 (dk_at dksX7_next_5 3 rfl rfl)
theorem dX7_next_123 : decode cX7_next 123 = .ok (.aload_n 0, 1) := dk_42 (dk_at dksX7_next_5 6 rfl rfl)
theorem dX7_next_124 : decode cX7_next 124 = .ok (.getfield 49, 3) := dk_180 0 49 (dk_at dksX7_next_5 7 rfl rfl)
theorem dX7_next_127 : decode cX7_next 127 = .ok (.baload, 1) := dk_51 (dk_at dksX7_next_5 10 rfl rfl)
theorem dX7_next_128 : decode cX7_next 128 = .ok (.i2c, 1) := dk_146 (dk_at dksX7_next_5 11 rfl rfl)
theorem dX7_next_129 : decode cX7_next 129 = .ok (.invokevirtual 89, 3) := dk_182 0 89 (dk_at dksX7_next_5 12 rfl rfl)
theorem dX7_next_132 : decode cX7_next 132 = .ok (.pop, 1) := dk_87 (dk_at dksX7_next_5 15 rfl rfl)
theorem dX7_next_133 : decode cX7_next 133 = .ok (.aload_n 0, 1) := dk_42 (dk_at dksX7_next_5 16 rfl rfl)
theorem dX7_next_134 : decode cX7_next 134 = .ok (.dup, 1) := dk_89 (dk_at dksX7_next_5 17 rfl rfl)
theorem dX7_next_135 : decode cX7_next 135 = .ok (.getfield 49, 3) := dk_180 0 49 (dk_at dksX7_next_5 18 rfl rfl)
theorem dX7_next_138 : decode cX7_next 138 = .ok (.iconst 1, 1) := dk_4 (dk_at dksX7_next_5 21 rfl rfl)
theorem dX7_next_139 : decode cX7_next 139 = .ok (.iadd, 1) := dk_96 (dk_at dksX7_next_5 22 rfl rfl)
theorem dX7_next_140 : decode cX7_next 140 = .ok (.putfield 49, 3) := dk_181 0 49 (dk_at dksX7_next_6 0 rfl rfl)
theorem dX7_next_143 : decode cX7_next 143 = .ok (.goto (-39), 3) := dk_167 255 217 (dk_at dksX7_next_6 3 rfl rfl)
theorem dX7_next_146 : decode cX7_next 146 = .ok (.aload_n 0, 1) := dk_42 (dk_at dksX7_next_6 6 rfl rfl)
theorem dX7_next_147 : decode cX7_next 147 = .ok (.aload_n 1, 1) := dk_43 (dk_at dksX7_next_6 7 rfl rfl)
theorem dX7_next_148 : decode cX7_next 148 = .ok (.invokevirtual 93, 3) := dk_182 0 93 (dk_at dksX7_next_6 8 rfl rfl)
theorem dX7_next_151 : decode cX7_next 151 = .ok (.putfield 42, 3) := dk_181 0 42 (dk_at dksX7_next_6 11 rfl rfl)
theorem dX7_next_154 : decode cX7_next 154 = .ok (.goto 94, 3) := dk_167 0 94 (dk_at dksX7_next_6 14 rfl rfl)
theorem dX7_next_157 : decode cX7_next 157 = .ok (.aload_n 0, 1) := dk_42 (dk_at dksX7_next_6 17 rfl rfl)
theorem dX7_next_158 : decode cX7_next 158 = .ok (.bipush 48, 2) := dk_16 48 (dk_at dksX7_next_6 18 rfl rfl)
theorem dX7_next_160 : decode cX7_next 160 = .ok (.bipush 57, 2) := dk_16 57 (dk_at dksX7_next_6 20 rfl rfl)
theorem dX7_next_162 : decode cX7_next 162 = .ok (.invokevirtual 64, 3) := dk_182 0 64 (dk_at dksX7_next_7 0 rfl rfl)
theorem dX7_next_165 : decode cX7_next 165 = .ok (.ifCond .eq 66, 3) := dk_153 0 66 (dk_at dksX7_next_7 3 rfl rfl)
theorem dX7_next_168 : decode cX7_next 168 = .ok (.aload_n 0, 1) := dk_42 (dk_at dksX7_next_7 6 rfl rfl)
theorem dX7_next_169 : decode cX7_next 169 = .ok (.getstatic 97, 3) := dk_178 0 97 (dk_at dksX7_next_7 7 rfl rfl)
theorem dX7_next_172 : decode cX7_next 172 = .ok (.putfield 80, 3) := dk_181 0 80 (dk_at dksX7_next_7 10 rfl rfl)
theorem dX7_next_175 : decode cX7_next 175 = .ok (.aload_n 0, 1) := dk_42 (dk_at dksX7_next_7 13 rfl rfl)
theorem dX7_next_176 : decode cX7_next 176 = .ok (.bipush 48, 2) := dk_16 48 (dk_at dksX7_next_7 14 rfl rfl)
theorem dX7_next_178 : decode cX7_next 178 = .ok (.bipush 57, 2) := dk_16 57 (dk_at dksX7_next_7 16 rfl rfl)
theorem dX7_next_180 : decode cX7_next 180 = .ok (.invokevirtual 64, 3) := dk_182 0 64 (dk_at dksX7_next_7 18 rfl rfl)
theorem dX7_next_183 : decode cX7_next 183 = .ok (.ifCond .eq 65, 3) := dk_153 0 65 (dk_at dksX7_next_7 21 rfl rfl)
theorem dX7_next_186 : decode cX7_next 186 = .ok (.aload_n 0, 1) := dk_42 (dk_at dksX7_next_8 0 rfl rfl)
theorem dX7_next_187 : decode cX7_next 187 = .ok (.ldc 100, 2) := dk_18 100 (dk_at dksX7_next_8 1 rfl rfl)
theorem dX7_next_189 : decode cX7_next 189 = .ok (.bipush 10, 2) := dk_16 10 (dk_at dksX7_next_8 3 rfl rfl)
theorem dX7_next_191 : decode cX7_next 191 = .ok (.aload_n 0, 1) := dk_42 (dk_at dksX7_next_8 5 rfl rfl)
theorem dX7_next_192 : decode cX7_next 192 = .ok (.getfield 71, 3) := dk_180 0 71 (dk_at dksX7_next_8 6 rfl rfl)
theorem dX7_next_195 : decode cX7_next 195 = .ok (.imul, 1) := dk_104 (dk_at dksX7_next_8 9 rfl rfl)
theorem dX7_next_196 : decode cX7_next 196 = .ok (.aload_n 0, 1) := dk_42 (dk_at dksX7_next_8 10 rfl rfl)
theorem dX7_next_197 : decode cX7_next 197 = .ok (.getfield 3, 3) := dk_180 0 3 (dk_at dksX7_next_8 11 rfl rfl)
theorem dX7_next_200 : decode cX7_next 200 = .ok (.getfield 56, 3) := dk_180 0 56 (dk_at dksX7_next_8 14 rfl rfl)
theorem dX7_next_203 : decode cX7_next 203 = .ok (.aload_n 0, 1) := dk_42 (dk_at dksX7_next_8 17 rfl rfl)
theorem dX7_next_204 : decode cX7_next 204 = .ok (.getfield 49, 3) := dk_180 0 49 (dk_at dksX7_next_8 18 rfl rfl)
theorem dX7_next_207 : decode cX7_next 207 = .ok (.baload, 1) := dk_51 (dk_at dksX7_next_8 21 rfl rfl)
theorem dX7_next_208 : decode cX7_next 208 = .ok (.iadd, 1) := dk_96 (dk_at dksX7_next_8 22 rfl rfl)
theorem dX7_next_209 : decode cX7_next 209 = .ok (.bipush 48, 2) := dk_16 48 (dk_at dksX7_next_9 0 rfl rfl)
theorem dX7_next_211 : decode cX7_next 211 = .ok (.isub, 1) := dk_100 (dk_at dksX7_next_9 2 rfl rfl)
theorem dX7_next_212 : decode cX7_next 212 = .ok (.invokestatic 101, 3) := dk_184 0 101 (dk_at dksX7_next_9 3 rfl rfl)
theorem dX7_next_215 : decode cX7_next 215 = .ok (.putfield 71, 3) := dk_181 0 71 (dk_at dksX7_next_9 6 rfl rfl)
theorem dX7_next_218 : decode cX7_next 218 = .ok (.aload_n 0, 1) := dk_42 (dk_at dksX7_next_9 9 rfl rfl)
theorem dX7_next_219 : decode cX7_next 219 = .ok (.dup, 1) := dk_89 (dk_at dksX7_next_9 10 rfl rfl)
theorem dX7_next_220 : decode cX7_next 220 = .ok (.getfield 49, 3) := dk_180 0 49 (dk_at dksX7_next_9 11 rfl rfl)
theorem dX7_next_223 : decode cX7_next 223 = .ok (.iconst 1, 1) := dk_4 (dk_at dksX7_next_9 14 rfl rfl)
theorem dX7_next_224 : decode cX7_next 224 = .ok (.iadd, 1) := dk_96 (dk_at dksX7_next_9 15 rfl rfl)
theorem dX7_next_225 : decode cX7_next 225 = .ok (.putfield 49, 3) := dk_181 0 49 (dk_at dksX7_next_9 16 rfl rfl)
theorem dX7_next_228 : decode cX7_next 228 = .ok (.goto (-53), 3) := dk_167 255 203 (dk_at dksX7_next_9 19 rfl rfl)
theorem dX7_next_231 : decode cX7_next 231 = .ok (.aload_n 0, 1) := dk_42 (dk_at dksX7_next_9 22 rfl rfl)
theorem dX7_next_232 : decode cX7_next 232 = .ok (.getstatic 107, 3) := dk_178 0 107 (dk_at dksX7_next_10 0 rfl rfl)
theorem dX7_next_235 : decode cX7_next 235 = .ok (.putfield 80, 3) := dk_181 0 80 (dk_at dksX7_next_10 3 rfl rfl)
theorem dX7_next_238 : decode cX7_next 238 = .ok (.aload_n 0, 1) := dk_42 (dk_at dksX7_next_10 6 rfl rfl)
theorem dX7_next_239 : decode cX7_next 239 = .ok (.dup, 1) := dk_89 (dk_at dksX7_next_10 7 rfl rfl)
theorem dX7_next_240 : decode cX7_next 240 = .ok (.getfield 49, 3) := dk_180 0 49 (dk_at dksX7_next_10 8 rfl rfl)
theorem dX7_next_243 : decode cX7_next 243 = .ok (.iconst 1, 1) := dk_4 (dk_at dksX7_next_10 11 rfl rfl)
theorem dX7_next_244 : decode cX7_next 244 = .ok (.iadd, 1) := dk_96 (dk_at dksX7_next_10 12 rfl rfl)
theorem dX7_next_245 : decode cX7_next 245 = .ok (.putfield 49, 3) := dk_181 0 49 (dk_at dksX7_next_10 13 rfl rfl)
theorem dX7_next_248 : decode cX7_next 248 = .ok (.return_, 1) := dk_177 (dk_at dksX7_next_10 16 rfl rfl)
def dkwX7_isAt_1 : List UInt8 := [180, 0, 49, 51, 133, 27, 133, 28, 133, 184, 0, 60, 153, 0, 7, 4, 167, 0, 4, 3, 172]
abbrev dktX7_isAt_1 : List UInt8 := dkwX7_isAt_1 ++ []
def dkwX7_isAt_0 : List UInt8 := [42, 180, 0, 49, 42, 180, 0, 3, 180, 0, 53, 162, 0, 30, 42, 180, 0, 3, 180, 0, 56, 42]
abbrev dktX7_isAt_0 : List UInt8 := dkwX7_isAt_0 ++ dktX7_isAt_1
theorem dksX7_isAt_0 : cX7_isAt.data.toList.drop 0 = dktX7_isAt_0 := by decide +kernel
theorem dksX7_isAt_1 : cX7_isAt.data.toList.drop 22 = dktX7_isAt_1 := dk_seg dksX7_isAt_0 22 rfl rfl
theorem dX7_isAt_0 : decode cX7_isAt 0 = .ok (.aload_n 0, 1) := dk_42 (dk_at dksX7_isAt_0 0 rfl rfl)
theorem dX7_isAt_1 : decode cX7_isAt 1 = .ok (.getfield 49, 3) := dk_180 0 49 (dk_at dksX7_isAt_0 1 rfl rfl)
theorem dX7_isAt_4 : decode cX7_isAt 4 = .ok (.aload_n 0, 1) := dk_42 (dk_at dksX7_isAt_0 4 rfl rfl)
theorem dX7_isAt_5 : decode cX7_isAt 5 = .ok (.getfield 3, 3) := dk_180 0 3 (dk_at dksX7_isAt_0 5 rfl rfl)
theorem dX7_isAt_8 : decode cX7_isAt 8 = .ok (.getfield 53, 3) := dk_180 0 53 (dk_at dksX7_isAt_0 8 rfl rfl)
theorem dX7_isAt_11 : decode cX7_isAt 11 = .ok (.if_icmp .ge 30, 3) := dk_162 0 30 (dk_at dksX7_isAt_0 11 rfl rfl)
theorem dX7_isAt_14 : decode cX7_isAt 14 = .ok (.aload_n 0, 1) := dk_42 (dk_at dksX7_isAt_0 14 rfl rfl)
theorem dX7_isAt_15 : decode cX7_isAt 15 = .ok (.getfield 3, 3) := dk_180 0 3 (dk_at dksX7_isAt_0 15 rfl rfl)
theorem dX7_isAt_18 : decode cX7_isAt 18 = .ok (.getfield 56, 3) := dk_180 0 56 (dk_at dksX7_isAt_0 18 rfl rfl)
theorem dX7_isAt_21 : decode cX7_isAt 21 = .ok (.aload_n 0, 1) := dk_42 (dk_at dksX7_isAt_0 21 rfl rfl)
theorem dX7_isAt_22 : decode cX7_isAt 22 = .ok (.getfield 49, 3) := dk_180 0 49 (dk_at dksX7_isAt_1 0 rfl rfl)
theorem dX7_isAt_25 : decode cX7_isAt 25 = .ok (.baload, 1) := dk_51 (dk_at dksX7_isAt_1 3 rfl rfl)
theorem dX7_isAt_26 : decode cX7_isAt 26 = .ok (.i2l, 1) := dk_133 (dk_at dksX7_isAt_1 4 rfl rfl)
theorem dX7_isAt_27 : decode cX7_isAt 27 = .ok (.iload_n 1, 1) := dk_27 (dk_at dksX7_isAt_1 5 rfl rfl)
theorem dX7_isAt_28 : decode cX7_isAt 28 = .ok (.i2l, 1) := dk_133 (dk_at dksX7_isAt_1 6 rfl rfl)
theorem dX7_isAt_29 : decode cX7_isAt 29 = .ok (.iload_n 2, 1) := dk_28 (dk_at dksX7_isAt_1 7 rfl rfl)
theorem dX7_isAt_30 : decode cX7_isAt 30 = .ok (.i2l, 1) := dk_133 (dk_at dksX7_isAt_1 8 rfl rfl)
theorem dX7_isAt_31 : decode cX7_isAt 31 = .ok (.invokestatic 60, 3) := dk_184 0 60 (dk_at dksX7_isAt_1 9 rfl rfl)
theorem dX7_isAt_34 : decode cX7_isAt 34 = .ok (.ifCond .eq 7, 3) := dk_153 0 7 (dk_at dksX7_isAt_1 12 rfl rfl)
theorem dX7_isAt_37 : decode cX7_isAt 37 = .ok (.iconst 1, 1) := dk_4 (dk_at dksX7_isAt_1 15 rfl rfl)
theorem dX7_isAt_38 : decode cX7_isAt 38 = .ok (.goto 4, 3) := dk_167 0 4 (dk_at dksX7_isAt_1 16 rfl rfl)
theorem dX7_isAt_41 : decode cX7_isAt 41 = .ok (.iconst 0, 1) := dk_3 (dk_at dksX7_isAt_1 19 rfl rfl)
theorem dX7_isAt_42 : decode cX7_isAt 42 = .ok (.ireturn, 1) := dk_172 (dk_at dksX7_isAt_1 20 rfl rfl)
def dkwX7_parse_6 : List UInt8 := [167, 255, 224, 43, 176]
abbrev dktX7_parse_6 : List UInt8 := dkwX7_parse_6 ++ []
def dkwX7_parse_5 : List UInt8 := [162, 0, 27, 43, 180, 1, 97, 42, 180, 0, 31, 28, 182, 0, 156, 192, 1, 43, 182, 1, 100, 132, 2, 1]
abbrev dktX7_parse_5 : List UInt8 := dkwX7_parse_5 ++ dktX7_parse_6
def dkwX7_parse_4 : List UInt8 := [192, 0, 160, 182, 0, 203, 87, 132, 2, 1, 167, 255, 223, 3, 61, 28, 42, 180, 0, 31, 182, 0, 153]
abbrev dktX7_parse_4 : List UInt8 := dkwX7_parse_4 ++ dktX7_parse_5
def dkwX7_parse_3 : List UInt8 := [28, 42, 180, 0, 27, 182, 0, 153, 162, 0, 28, 43, 180, 1, 96, 42, 180, 0, 27, 28, 182, 0, 156]
abbrev dktX7_parse_3 : List UInt8 := dkwX7_parse_3 ++ dktX7_parse_4
def dkwX7_parse_2 : List UInt8 := [76, 43, 42, 180, 0, 36, 9, 148, 156, 0, 7, 10, 167, 0, 7, 42, 180, 0, 36, 181, 1, 93, 3, 61]
abbrev dktX7_parse_2 : List UInt8 := dkwX7_parse_2 ++ dktX7_parse_3
def dkwX7_parse_1 : List UInt8 := [182, 1, 79, 167, 255, 238, 42, 180, 0, 18, 182, 1, 85, 187, 1, 88, 89, 42, 180, 0, 18, 183, 1, 90]
abbrev dktX7_parse_1 : List UInt8 := dkwX7_parse_1 ++ dktX7_parse_2
def dkwX7_parse_0 : List UInt8 := [42, 182, 1, 76, 42, 182, 1, 79, 42, 180, 0, 80, 178, 0, 74, 165, 0, 14, 42, 182, 1, 82, 42]
abbrev dktX7_parse_0 : List UInt8 := dkwX7_parse_0 ++ dktX7_parse_1
theorem dksX7_parse_0 : cX7_parse.data.toList.drop 0 = dktX7_parse_0 := by decide +kernel
theorem dksX7_parse_1 : cX7_parse.data.toList.drop 23 = dktX7_parse_1 := dk_seg dksX7_parse_0 23 rfl rfl
theorem dksX7_parse_2 : cX7_parse.data.toList.drop 47 = dktX7_parse_2 := dk_seg dksX7_parse_1 24 rfl rfl
theorem dksX7_parse_3 : cX7_parse.data.toList.drop 71 = dktX7_parse_3 := dk_seg dksX7_parse_2 24 rfl rfl
theorem dksX7_parse_4 : cX7_parse.data.toList.drop 94 = dktX7_parse_4 := dk_seg dksX7_parse_3 23 rfl rfl
theorem dksX7_parse_5 : cX7_parse.data.toList.drop 117 = dktX7_parse_5 := dk_seg dksX7_parse_4 23 rfl rfl
theorem dksX7_parse_6 : cX7_parse.data.toList.drop 141 = dktX7_parse_6 := dk_seg dksX7_parse_5 24 rfl rfl
theorem dX7_parse_0 : decode cX7_parse 0 = .ok (.aload_n 0, 1) := dk_42 (dk_at dksX7_parse_0 0 rfl rfl)
theorem dX7_parse_1 : decode cX7_parse 1 = .ok (.invokevirtual 332, 3) := dk_182 1 76 (dk_at dksX7_parse_0 1 rfl rfl)
theorem dX7_parse_4 : decode cX7_parse 4 = .ok (.aload_n 0, 1) := dk_42 (dk_at dksX7_parse_0 4 rfl rfl)
theorem dX7_parse_5 : decode cX7_parse 5 = .ok (.invokevirtual 335, 3) := dk_182 1 79 (dk_at dksX7_parse_0 5 rfl rfl)
theorem dX7_parse_8 : decode cX7_parse 8 = .ok (.aload_n 0, 1) := dk_42 (dk_at dksX7_parse_0 8 rfl rfl)
theorem dX7_parse_9 : decode cX7_parse 9 = .ok (.getfield 80, 3) := dk_180 0 80 (dk_at dksX7_parse_0 9 rfl rfl)
theorem dX7_parse_12 : decode cX7_parse 12 = .ok (.getstatic 74, 3) := dk_178 0 74 (dk_at dksX7_parse_0 12 rfl rfl)
theorem dX7_parse_15 : decode cX7_parse 15 = .ok (.if_acmp .eq 14, 3) := dk_165 0 14 (dk_at dksX7_parse_0 15 rfl rfl)
theorem dX7_parse_18 : decode cX7_parse 18 = .ok (.aload_n 0, 1) := dk_42 (dk_at dksX7_parse_0 18 rfl rfl)
theorem dX7_parse_19 : decode cX7_parse 19 = .ok (.invokevirtual 338, 3) := dk_182 1 82 (dk_at dksX7_parse_0 19 rfl rfl)
theorem dX7_parse_22 : decode cX7_parse 22 = .ok (.aload_n 0, 1) := dk_42 (dk_at dksX7_parse_0 22 rfl rfl)
theorem dX7_parse_23 : decode cX7_parse 23 = .ok (.invokevirtual 335, 3) := dk_182 1 79 (dk_at dksX7_parse_1 0 rfl rfl)
theorem dX7_parse_26 : decode cX7_parse 26 = .ok (.goto (-18), 3) := dk_167 255 238 (dk_at dksX7_parse_1 3 rfl rfl)
theorem dX7_parse_29 : decode cX7_parse 29 = .ok (.aload_n 0, 1) := dk_42 (dk_at dksX7_parse_1 6 rfl rfl)
theorem dX7_parse_30 : decode cX7_parse 30 = .ok (.getfield 18, 3) := dk_180 0 18 (dk_at dksX7_parse_1 7 rfl rfl)
theorem dX7_parse_33 : decode cX7_parse 33 = .ok (.invokevirtual 341, 3) := dk_182 1 85 (dk_at dksX7_parse_1 10 rfl rfl)
theorem dX7_parse_36 : decode cX7_parse 36 = .ok (.new 344, 3) := dk_187 1 88 (dk_at dksX7_parse_1 13 rfl rfl)
theorem dX7_parse_39 : decode cX7_parse 39 = .ok (.dup, 1) := dk_89 (dk_at dksX7_parse_1 16 rfl rfl)
theorem dX7_parse_40 : decode cX7_parse 40 = .ok (.aload_n 0, 1) := dk_42 (dk_at dksX7_parse_1 17 rfl rfl)
theorem dX7_parse_41 : decode cX7_parse 41 = .ok (.getfield 18, 3) := dk_180 0 18 (dk_at dksX7_parse_1 18 rfl rfl)
theorem dX7_parse_44 : decode cX7_parse 44 = .ok (.invokespecial 346, 3) := dk_183 1 90 (dk_at dksX7_parse_1 21 rfl rfl)
theorem dX7_parse_47 : decode cX7_parse 47 = .ok (.astore_n 1, 1) := dk_76 (dk_at dksX7_parse_2 0 rfl rfl)
theorem dX7_parse_48 : decode cX7_parse 48 = .ok (.aload_n 1, 1) := dk_43 (dk_at dksX7_parse_2 1 rfl rfl)
theorem dX7_parse_49 : decode cX7_parse 49 = .ok (.aload_n 0, 1) := dk_42 (dk_at dksX7_parse_2 2 rfl rfl)
theorem dX7_parse_50 : decode cX7_parse 50 = .ok (.getfield 36, 3) := dk_180 0 36 (dk_at dksX7_parse_2 3 rfl rfl)
theorem dX7_parse_53 : decode cX7_parse 53 = .ok (.lconst 0, 1) := dk_9 (dk_at dksX7_parse_2 6 rfl rfl)
theorem dX7_parse_54 : decode cX7_parse 54 = .ok (.lcmp, 1) := dk_148 (dk_at dksX7_parse_2 7 rfl rfl)
theorem dX7_parse_55 : decode cX7_parse 55 = .ok (.ifCond .ge 7, 3) := dk_156 0 7 (dk_at dksX7_parse_2 8 rfl rfl)
theorem dX7_parse_58 : decode cX7_parse 58 = .ok (.lconst 1, 1) := dk_10 (dk_at dksX7_parse_2 11 rfl rfl)
theorem dX7_parse_59 : decode cX7_parse 59 = .ok (.goto 7, 3) := dk_167 0 7 (dk_at dksX7_parse_2 12 rfl rfl)
theorem dX7_parse_62 : decode cX7_parse 62 = .ok (.aload_n 0, 1) := dk_42 (dk_at dksX7_parse_2 15 rfl rfl)
theorem dX7_parse_63 : decode cX7_parse 63 = .ok (.getfield 36, 3) := dk_180 0 36 (dk_at dksX7_parse_2 16 rfl rfl)
theorem dX7_parse_66 : decode cX7_parse 66 = .ok (.putfield 349, 3) := dk_181 1 93 (dk_at dksX7_parse_2 19 rfl rfl)
theorem dX7_parse_69 : decode cX7_parse 69 = .ok (.iconst 0, 1) := dk_3 (dk_at dksX7_parse_2 22 rfl rfl)
theorem dX7_parse_70 : decode cX7_parse 70 = .ok (.istore_n 2, 1) := dk_61 (dk_at dksX7_parse_2 23 rfl rfl)
theorem dX7_parse_71 : decode cX7_parse 71 = .ok (.iload_n 2, 1) := dk_28 (dk_at dksX7_parse_3 0 rfl rfl)
theorem dX7_parse_72 : decode cX7_parse 72 = .ok (.aload_n 0, 1) := dk_42 (dk_at dksX7_parse_3 1 rfl rfl)
theorem dX7_parse_73 : decode cX7_parse 73 = .ok (.getfield 27, 3) := dk_180 0 27 (dk_at dksX7_parse_3 2 rfl rfl)
theorem dX7_parse_76 : decode cX7_parse 76 = .ok (.invokevirtual 153, 3) := dk_182 0 153 (dk_at dksX7_parse_3 5 rfl rfl)
theorem dX7_parse_79 : decode cX7_parse 79 = .ok (.if_icmp .ge 28, 3) := dk_162 0 28 (dk_at dksX7_parse_3 8 rfl rfl)
theorem dX7_parse_82 : decode cX7_parse 82 = .ok (.aload_n 1, 1) := dk_43 (dk_at dksX7_parse_3 11 rfl rfl)
theorem dX7_parse_83 : decode cX7_parse 83 = .ok (.getfield 352, 3) := dk_180 1 96 (dk_at dksX7_parse_3 12 rfl rfl)
theorem dX7_parse_86 : decode cX7_parse 86 = .ok (.aload_n 0, 1) := dk_42 (dk_at dksX7_parse_3 15 rfl rfl)
theorem dX7_parse_87 : decode cX7_parse 87 = .ok (.getfield 27, 3) := dk_180 0 27 (dk_at dksX7_parse_3 16 rfl rfl)
theorem dX7_parse_90 : decode cX7_parse 90 = .ok (.iload_n 2, 1) := dk_28 (dk_at dksX7_parse_3 19 rfl rfl)
theorem dX7_parse_91 : decode cX7_parse 91 = .ok (.invokevirtual 156, 3) := dk_182 0 156 (dk_at dksX7_parse_3 20 rfl rfl)
theorem dX7_parse_94 : decode cX7_parse 94 = .ok (.checkcast 160, 3) := dk_192 0 160 (dk_at dksX7_parse_4 0 rfl rfl)
theorem dX7_parse_97 : decode cX7_parse 97 = .ok (.invokevirtual 203, 3) := dk_182 0 203 (dk_at dksX7_parse_4 3 rfl rfl)
theorem dX7_parse_100 : decode cX7_parse 100 = .ok (.pop, 1) := dk_87 (dk_at dksX7_parse_4 6 rfl rfl)
theorem dX7_parse_101 : decode cX7_parse 101 = .ok (.iinc 2 1, 3) := dk_132 2 1 (dk_at dksX7_parse_4 7 rfl rfl)
theorem dX7_parse_104 : decode cX7_parse 104 = .ok (.goto (-33), 3) := dk_167 255 223 (dk_at dksX7_parse_4 10 rfl rfl)
theorem dX7_parse_107 : decode cX7_parse 107 = .ok (.iconst 0, 1) := dk_3 (dk_at dksX7_parse_4 13 rfl rfl)
theorem dX7_parse_108 : decode cX7_parse 108 = .ok (.istore_n 2, 1) := dk_61 (dk_at dksX7_parse_4 14 rfl rfl)
theorem dX7_parse_109 : decode cX7_parse 109 = .ok (.iload_n 2, 1) := dk_28 (dk_at dksX7_parse_4 15 rfl rfl)
theorem dX7_parse_110 : decode cX7_parse 110 = .ok (.aload_n 0, 1) := dk_42 (dk_at dksX7_parse_4 16 rfl rfl)
theorem dX7_parse_111 : decode cX7_parse 111 = .ok (.getfield 31, 3) := dk_180 0 31 (dk_at dksX7_parse_4 17 rfl rfl)
theorem dX7_parse_114 : decode cX7_parse 114 = .ok (.invokevirtual 153, 3) := dk_182 0 153 (dk_at dksX7_parse_4 20 rfl rfl)
theorem dX7_parse_117 : decode cX7_parse 117 = .ok (.if_icmp .ge 27, 3) := dk_162 0 27 (dk_at dksX7_parse_5 0 rfl rfl)
theorem dX7_parse_120 : decode cX7_parse 120 = .ok (.aload_n 1, 1) := dk_43 (dk_at dksX7_parse_5 3 rfl rfl)
theorem dX7_parse_121 : decode cX7_parse 121 = .ok (.getfield 353, 3) := dk_180 1 97 (dk_at dksX7_parse_5 4 rfl rfl)
theorem dX7_parse_124 : decode cX7_parse 124 = .ok (.aload_n 0, 1) := dk_42 (dk_at dksX7_parse_5 7 rfl rfl)
theorem dX7_parse_125 : decode cX7_parse 125 = .ok (.getfield 31, 3) := dk_180 0 31 (dk_at dksX7_parse_5 8 rfl rfl)
theorem dX7_parse_128 : decode cX7_parse 128 = .ok (.iload_n 2, 1) := dk_28 (dk_at dksX7_parse_5 11 rfl rfl)
theorem dX7_parse_129 : decode cX7_parse 129 = .ok (.invokevirtual 156, 3) := dk_182 0 156 (dk_at dksX7_parse_5 12 rfl rfl)
theorem dX7_parse_132 : decode cX7_parse 132 = .ok (.checkcast 299, 3) := dk_192 1 43 (dk_at dksX7_parse_5 15 rfl rfl)
theorem dX7_parse_135 : decode cX7_parse 135 = .ok (.invokevirtual 356, 3) := dk_182 1 100 (dk_at dksX7_parse_5 18 rfl rfl)
theorem dX7_parse_138 : decode cX7_parse 138 = .ok (.iinc 2 1, 3) := dk_132 2 1 (dk_at dksX7_parse_5 21 rfl rfl)
theorem dX7_parse_141 : decode cX7_parse 141 = .ok (.goto (-32), 3) := dk_167 255 224 (dk_at dksX7_parse_6 0 rfl rfl)
theorem dX7_parse_144 : decode cX7_parse 144 = .ok (.aload_n 1, 1) := dk_43 (dk_at dksX7_parse_6 3 rfl rfl)
theorem dX7_parse_145 : decode cX7_parse 145 = .ok (.areturn, 1) := dk_176 (dk_at dksX7_parse_6 4 rfl rfl)
def dkwX7_parseRecorder_5 : List UInt8 := [181, 0, 193, 177]
abbrev dktX7_parseRecorder_5 : List UInt8 := dkwX7_parseRecorder_5 ++ []
def dkwX7_parseRecorder_4 : List UInt8 := [182, 0, 186, 181, 0, 189, 42, 180, 0, 18, 42, 18, 191, 4, 42, 180, 0, 18, 180, 0, 189, 182, 0, 186]
abbrev dktX7_parseRecorder_4 : List UInt8 := dkwX7_parseRecorder_4 ++ dktX7_parseRecorder_5
def dkwX7_parseRecorder_3 : List UInt8 := [180, 0, 18, 42, 180, 0, 71, 181, 0, 182, 42, 182, 0, 46, 42, 180, 0, 18, 42, 18, 184, 4, 16, 64]
abbrev dktX7_parseRecorder_3 : List UInt8 := dkwX7_parseRecorder_3 ++ dktX7_parseRecorder_4
def dkwX7_parseRecorder_2 : List UInt8 := [159, 0, 12, 42, 180, 0, 71, 16, 32, 160, 0, 7, 4, 167, 0, 4, 3, 5, 182, 0, 121, 42]
abbrev dktX7_parseRecorder_2 : List UInt8 := dkwX7_parseRecorder_2 ++ dktX7_parseRecorder_3
def dkwX7_parseRecorder_1 : List UInt8 := [167, 0, 4, 3, 4, 182, 0, 121, 42, 42, 180, 0, 71, 16, 8, 159, 0, 21, 42, 180, 0, 71, 16, 16]
abbrev dktX7_parseRecorder_1 : List UInt8 := dkwX7_parseRecorder_1 ++ dktX7_parseRecorder_2
def dkwX7_parseRecorder_0 : List UInt8 := [42, 18, 178, 182, 0, 125, 42, 18, 180, 182, 0, 125, 42, 42, 180, 0, 80, 178, 0, 97, 166, 0, 7, 4]
abbrev dktX7_parseRecorder_0 : List UInt8 := dkwX7_parseRecorder_0 ++ dktX7_parseRecorder_1
theorem dksX7_parseRecorder_0 : cX7_parseRecorder.data.toList.drop 0 = dktX7_parseRecorder_0 := by decide +kernel
theorem dksX7_parseRecorder_1 : cX7_parseRecorder.data.toList.drop 24 = dktX7_parseRecorder_1 := dk_seg dksX7_parseRecorder_0 24 rfl rfl
theorem dksX7_parseRecorder_2 : cX7_parseRecorder.data.toList.drop 48 = dktX7_parseRecorder_2 := dk_seg dksX7_parseRecorder_1 24 rfl rfl
theorem dksX7_parseRecorder_3 : cX7_parseRecorder.data.toList.drop 70 = dktX7_parseRecorder_3 := dk_seg dksX7_parseRecorder_2 22 rfl rfl
theorem dksX7_parseRecorder_4 : cX7_parseRecorder.data.toList.drop 94 = dktX7_parseRecorder_4 := dk_seg dksX7_parseRecorder_3 24 rfl rfl
theorem dksX7_parseRecorder_5 : cX7_parseRecorder.data.toList.drop 118 = dktX7_parseRecorder_5 := dk_seg dksX7_parseRecorder_4 24 rfl rfl
theorem dX7_parseRecorder_0 : decode cX7_parseRecorder 0 = .ok (.aload_n 0, 1) := dk_42 (dk_at dksX7_parseRecorder_0 0 rfl rfl)
theorem dX7_parseRecorder_1 : decode cX7_parseRecorder 1 = .ok (.ldc 178, 2) := dk_18 178 (dk_at dksX7_parseRecorder_0 1 rfl rfl)
theorem dX7_parseRecorder_3 : decode cX7_parseRecorder 3 = .ok (.invokevirtual 125, 3) := dk_182 0 125 (dk_at dksX7_parseRecorder_0 3 rfl rfl)
theorem dX7_parseRecorder_6 : decode cX7_parseRecorder 6 = .ok (.aload_n 0, 1) := dk_42 (dk_at dksX7_parseRecorder_0 6 rfl rfl)
theorem dX7_parseRecorder_7 : decode cX7_parseRecorder 7 = .ok (.ldc 180, 2) := dk_18 180 (dk_at dksX7_parseRecorder_0 7 rfl rfl)
theorem dX7_parseRecorder_9 : decode cX7_parseRecorder 9 = .ok (.invokevirtual 125, 3) := dk_182 0 125 (dk_at dksX7_parseRecorder_0 9 rfl rfl)
theorem dX7_parseRecorder_12 : decode cX7_parseRecorder 12 = .ok (.aload_n 0, 1) := dk_42 (dk_at dksX7_parseRecorder_0 12 rfl rfl)
theorem dX7_parseRecorder_13 : decode cX7_parseRecorder 13 = .ok (.aload_n 0, 1) := dk_42 (dk_at dksX7_parseRecorder_0 13 rfl rfl)
theorem dX7_parseRecorder_14 : decode cX7_parseRecorder 14 = .ok (.getfield 80, 3) := dk_180 0 80 (dk_at dksX7_parseRecorder_0 14 rfl rfl)
theorem dX7_parseRecorder_17 : decode cX7_parseRecorder 17 = .ok (.getstatic 97, 3) := dk_178 0 97 (dk_at dksX7_parseRecorder_0 17 rfl rfl)
theorem dX7_parseRecorder_20 : decode cX7_parseRecorder 20 = .ok (.if_acmp .ne 7, 3) := dk_166 0 7 (dk_at dksX7_parseRecorder_0 20 rfl rfl)
theorem dX7_parseRecorder_23 : decode cX7_parseRecorder 23 = .ok (.iconst 1, 1) := dk_4 (dk_at dksX7_parseRecorder_0 23 rfl rfl)
theorem dX7_parseRecorder_24 : decode cX7_parseRecorder 24 = .ok (.goto 4, 3) := dk_167 0 4 (dk_at dksX7_parseRecorder_1 0 rfl rfl)
theorem dX7_parseRecorder_27 : decode cX7_parseRecorder 27 = .ok (.iconst 0, 1) := dk_3 (dk_at dksX7_parseRecorder_1 3 rfl rfl)
theorem dX7_parseRecorder_28 : decode cX7_parseRecorder 28 = .ok (.iconst 1, 1) := dk_4 (dk_at dksX7_parseRecorder_1 4 rfl rfl)
theorem dX7_parseRecorder_29 : decode cX7_parseRecorder 29 = .ok (.invokevirtual 121, 3) := dk_182 0 121 (dk_at dksX7_parseRecorder_1 5 rfl rfl)
theorem dX7_parseRecorder_32 : decode cX7_parseRecorder 32 = .ok (.aload_n 0, 1) := dk_42 (dk_at dksX7_parseRecorder_1 8 rfl rfl)
theorem dX7_parseRecorder_33 : decode cX7_parseRecorder 33 = .ok (.aload_n 0, 1) := dk_42 (dk_at dksX7_parseRecorder_1 9 rfl rfl)
theorem dX7_parseRecorder_34 : decode cX7_parseRecorder 34 = .ok (.getfield 71, 3) := dk_180 0 71 (dk_at dksX7_parseRecorder_1 10 rfl rfl)
theorem dX7_parseRecorder_37 : decode cX7_parseRecorder 37 = .ok (.bipush 8, 2) := dk_16 8 (dk_at dksX7_parseRecorder_1 13 rfl rfl)
theorem dX7_parseRecorder_39 : decode cX7_parseRecorder 39 = .ok (.if_icmp .eq 21, 3) := dk_159 0 21 (dk_at dksX7_parseRecorder_1 15 rfl rfl)
theorem dX7_parseRecorder_42 : decode cX7_parseRecorder 42 = .ok (.aload_n 0, 1) := dk_42 (dk_at dksX7_parseRecorder_1 18 rfl rfl)
theorem dX7_parseRecorder_43 : decode cX7_parseRecorder 43 = .ok (.getfield 71, 3) := dk_180 0 71 (dk_at dksX7_parseRecorder_1 19 rfl rfl)
theorem dX7_parseRecorder_46 : decode cX7_parseRecorder 46 = .ok (.bipush 16, 2) := dk_16 16 (dk_at dksX7_parseRecorder_1 22 rfl rfl)
theorem dX7_parseRecorder_48 : decode cX7_parseRecorder 48 = .ok (.if_icmp .eq 12, 3) := dk_159 0 12 (dk_at dksX7_parseRecorder_2 0 rfl rfl)
theorem dX7_parseRecorder_51 : decode cX7_parseRecorder 51 = .ok (.aload_n 0, 1) := dk_42 (dk_at dksX7_parseRecorder_2 3 rfl rfl)
theorem dX7_parseRecorder_52 : decode cX7_parseRecorder 52 = .ok (.getfield 71, 3) := dk_180 0 71 (dk_at dksX7_parseRecorder_2 4 rfl rfl)
theorem dX7_parseRecorder_55 : decode cX7_parseRecorder 55 = .ok (.bipush 32, 2) := dk_16 32 (dk_at dksX7_parseRecorder_2 7 rfl rfl)
theorem dX7_parseRecorder_57 : decode cX7_parseRecorder 57 = .ok (.if_icmp .ne 7, 3) := dk_160 0 7 (dk_at dksX7_parseRecorder_2 9 rfl rfl)
theorem dX7_parseRecorder_60 : decode cX7_parseRecorder 60 = .ok (.iconst 1, 1) := dk_4 (dk_at dksX7_parseRecorder_2 12 rfl rfl)
theorem dX7_parseRecorder_61 : decode cX7_parseRecorder 61 = .ok (.goto 4, 3) := dk_167 0 4 (dk_at dksX7_parseRecorder_2 13 rfl rfl)
theorem dX7_parseRecorder_64 : decode cX7_parseRecorder 64 = .ok (.iconst 0, 1) := dk_3 (dk_at dksX7_parseRecorder_2 16 rfl rfl)
theorem dX7_parseRecorder_65 : decode cX7_parseRecorder 65 = .ok (.iconst 2, 1) := dk_5 (dk_at dksX7_parseRecorder_2 17 rfl rfl)
theorem dX7_parseRecorder_66 : decode cX7_parseRecorder 66 = .ok (.invokevirtual 121, 3) := dk_182 0 121 (dk_at dksX7_parseRecorder_2 18 rfl rfl)
theorem dX7_parseRecorder_69 : decode cX7_parseRecorder 69 = .ok (.aload_n 0, 1) := dk_42 (dk_at dksX7_parseRecorder_2 21 rfl rfl)
theorem dX7_parseRecorder_70 : decode cX7_parseRecorder 70 = .ok (.getfield 18, 3) := dk_180 0 18 (dk_at dksX7_parseRecorder_3 0 rfl rfl)
theorem dX7_parseRecorder_73 : decode cX7_parseRecorder 73 = .ok (.aload_n 0, 1) := dk_42 (dk_at dksX7_parseRecorder_3 3 rfl rfl)
theorem dX7_parseRecorder_74 : decode cX7_parseRecorder 74 = .ok (.getfield 71, 3) := dk_180 0 71 (dk_at dksX7_parseRecorder_3 4 rfl rfl)
theorem dX7_parseRecorder_77 : decode cX7_parseRecorder 77 = .ok (.putfield 182, 3) := dk_181 0 182 (dk_at dksX7_parseRecorder_3 7 rfl rfl)
theorem dX7_parseRecorder_80 : decode cX7_parseRecorder 80 = .ok (.aload_n 0, 1) := dk_42 (dk_at dksX7_parseRecorder_3 10 rfl rfl)
theorem dX7_parseRecorder_81 : decode cX7_parseRecorder 81 = .ok (.invokevirtual 46, 3) := dk_182 0 46 (dk_at dksX7_parseRecorder_3 11 rfl rfl)
theorem dX7_parseRecorder_84 : decode cX7_parseRecorder 84 = .ok (.aload_n 0, 1) := dk_42 (dk_at dksX7_parseRecorder_3 14 rfl rfl)
theorem dX7_parseRecorder_85 : decode cX7_parseRecorder 85 = .ok (.getfield 18, 3) := dk_180 0 18 (dk_at dksX7_parseRecorder_3 15 rfl rfl)
theorem dX7_parseRecorder_88 : decode cX7_parseRecorder 88 = .ok (.aload_n 0, 1) := dk_42 (dk_at dksX7_parseRecorder_3 18 rfl rfl)
theorem dX7_parseRecorder_89 : decode cX7_parseRecorder 89 = .ok (.ldc 184, 2) := dk_18 184 (dk_at dksX7_parseRecorder_3 19 rfl rfl)
theorem dX7_parseRecorder_91 : decode cX7_parseRecorder 91 = .ok (.iconst 1, 1) := dk_4 (dk_at dksX7_parseRecorder_3 21 rfl rfl)
theorem dX7_parseRecorder_92 : decode cX7_parseRecorder 92 = .ok (.bipush 64, 2) := dk_16 64 (dk_at dksX7_parseRecorder_3 22 rfl rfl)
theorem dX7_parseRecorder_94 : decode cX7_parseRecorder 94 = .ok (.invokevirtual 186, 3) := dk_182 0 186 (dk_at dksX7_parseRecorder_4 0 rfl rfl)
theorem dX7_parseRecorder_97 : decode cX7_parseRecorder 97 = .ok (.putfield 189, 3) := dk_181 0 189 (dk_at dksX7_parseRecorder_4 3 rfl rfl)
theorem dX7_parseRecorder_100 : decode cX7_parseRecorder 100 = .ok (.aload_n 0, 1) := dk_42 (dk_at dksX7_parseRecorder_4 6 rfl rfl)
theorem dX7_parseRecorder_101 : decode cX7_parseRecorder 101 = .ok (.getfield 18, 3) := dk_180 0 18 (dk_at dksX7_parseRecorder_4 7 rfl rfl)
theorem dX7_parseRecorder_104 : decode cX7_parseRecorder 104 = .ok (.aload_n 0, 1) := dk_42 (dk_at dksX7_parseRecorder_4 10 rfl rfl)
theorem dX7_parseRecorder_105 : decode cX7_parseRecorder 105 = .ok (.ldc 191, 2) := dk_18 191 (dk_at dksX7_parseRecorder_4 11 rfl rfl)
theorem dX7_parseRecorder_107 : decode cX7_parseRecorder 107 = .ok (.iconst 1, 1) := dk_4 (dk_at dksX7_parseRecorder_4 13 rfl rfl)
theorem dX7_parseRecorder_108 : decode cX7_parseRecorder 108 = .ok (.aload_n 0, 1) := dk_42 (dk_at dksX7_parseRecorder_4 14 rfl rfl)
theorem dX7_parseRecorder_109 : decode cX7_parseRecorder 109 = .ok (.getfield 18, 3) := dk_180 0 18 (dk_at dksX7_parseRecorder_4 15 rfl rfl)
theorem dX7_parseRecorder_112 : decode cX7_parseRecorder 112 = .ok (.getfield 189, 3) := dk_180 0 189 (dk_at dksX7_parseRecorder_4 18 rfl rfl)
theorem dX7_parseRecorder_115 : decode cX7_parseRecorder 115 = .ok (.invokevirtual 186, 3) := dk_182 0 186 (dk_at dksX7_parseRecorder_4 21 rfl rfl)
theorem dX7_parseRecorder_118 : decode cX7_parseRecorder 118 = .ok (.putfield 193, 3) := dk_181 0 193 (dk_at dksX7_parseRecorder_5 0 rfl rfl)
theorem dX7_parseRecorder_121 : decode cX7_parseRecorder 121 = .ok (.return_, 1) := dk_177 (dk_at dksX7_parseRecorder_5 3 rfl rfl)
def dkwX7_accept_0 : List UInt8 := [42, 42, 180, 0, 42, 43, 182, 0, 115, 4, 182, 0, 121, 42, 182, 0, 46, 177]
abbrev dktX7_accept_0 : List UInt8 := dkwX7_accept_0 ++ []
theorem dksX7_accept_0 : cX7_accept.data.toList.drop 0 = dktX7_accept_0 := by decide +kernel
theorem dX7_accept_0 : decode cX7_accept 0 = .ok (.aload_n 0, 1) := dk_42 (dk_at dksX7_accept_0 0 rfl rfl)
theorem dX7_accept_1 : decode cX7_accept 1 = .ok (.aload_n 0, 1) := dk_42 (dk_at dksX7_accept_0 1 rfl rfl)
theorem dX7_accept_2 : decode cX7_accept 2 = .ok (.getfield 42, 3) := dk_180 0 42 (dk_at dksX7_accept_0 2 rfl rfl)
theorem dX7_accept_5 : decode cX7_accept 5 = .ok (.aload_n 1, 1) := dk_43 (dk_at dksX7_accept_0 5 rfl rfl)
theorem dX7_accept_6 : decode cX7_accept 6 = .ok (.invokevirtual 115, 3) := dk_182 0 115 (dk_at dksX7_accept_0 6 rfl rfl)
theorem dX7_accept_9 : decode cX7_accept 9 = .ok (.iconst 1, 1) := dk_4 (dk_at dksX7_accept_0 9 rfl rfl)
theorem dX7_accept_10 : decode cX7_accept 10 = .ok (.invokevirtual 121, 3) := dk_182 0 121 (dk_at dksX7_accept_0 10 rfl rfl)
theorem dX7_accept_13 : decode cX7_accept 13 = .ok (.aload_n 0, 1) := dk_42 (dk_at dksX7_accept_0 13 rfl rfl)
theorem dX7_accept_14 : decode cX7_accept 14 = .ok (.invokevirtual 46, 3) := dk_182 0 46 (dk_at dksX7_accept_0 14 rfl rfl)
theorem dX7_accept_17 : decode cX7_accept 17 = .ok (.return_, 1) := dk_177 (dk_at dksX7_accept_0 17 rfl rfl)
def dkwX7_require_0 : List UInt8 := [27, 154, 0, 16, 187, 0, 110, 89, 28, 42, 180, 0, 68, 183, 0, 112, 191, 177]
abbrev dktX7_require_0 : List UInt8 := dkwX7_require_0 ++ []
theorem dksX7_require_0 : cX7_require.data.toList.drop 0 = dktX7_require_0 := by decide +kernel
theorem dX7_require_0 : decode cX7_require 0 = .ok (.iload_n 1, 1) := dk_27 (dk_at dksX7_require_0 0 rfl rfl)
theorem dX7_require_1 : decode cX7_require 1 = .ok (.ifCond .ne 16, 3) := dk_154 0 16 (dk_at dksX7_require_0 1 rfl rfl)
theorem dX7_require_4 : decode cX7_require 4 = .ok (.new 110, 3) := dk_187 0 110 (dk_at dksX7_require_0 4 rfl rfl)
theorem dX7_require_7 : decode cX7_require 7 = .ok (.dup, 1) := dk_89 (dk_at dksX7_require_0 7 rfl rfl)
theorem dX7_require_8 : decode cX7_require 8 = .ok (.iload_n 2, 1) := dk_28 (dk_at dksX7_require_0 8 rfl rfl)
theorem dX7_require_9 : decode cX7_require 9 = .ok (.aload_n 0, 1) := dk_42 (dk_at dksX7_require_0 9 rfl rfl)
theorem dX7_require_10 : decode cX7_require 10 = .ok (.getfield 68, 3) := dk_180 0 68 (dk_at dksX7_require_0 10 rfl rfl)
theorem dX7_require_13 : decode cX7_require 13 = .ok (.invokespecial 112, 3) := dk_183 0 112 (dk_at dksX7_require_0 13 rfl rfl)
theorem dX7_require_16 : decode cX7_require 16 = .ok (.athrow, 1) := dk_191 (dk_at dksX7_require_0 16 rfl rfl)
theorem dX7_require_17 : decode cX7_require 17 = .ok (.return_, 1) := dk_177 (dk_at dksX7_require_0 17 rfl rfl)
def dkwX7_number_0 : List UInt8 := [42, 43, 182, 0, 125, 42, 28, 29, 182, 0, 129, 172]
abbrev dktX7_number_0 : List UInt8 := dkwX7_number_0 ++ []
theorem dksX7_number_0 : cX7_number.data.toList.drop 0 = dktX7_number_0 := by decide +kernel
theorem dX7_number_0 : decode cX7_number 0 = .ok (.aload_n 0, 1) := dk_42 (dk_at dksX7_number_0 0 rfl rfl)
theorem dX7_number_1 : decode cX7_number 1 = .ok (.aload_n 1, 1) := dk_43 (dk_at dksX7_number_0 1 rfl rfl)
theorem dX7_number_2 : decode cX7_number 2 = .ok (.invokevirtual 125, 3) := dk_182 0 125 (dk_at dksX7_number_0 2 rfl rfl)
theorem dX7_number_5 : decode cX7_number 5 = .ok (.aload_n 0, 1) := dk_42 (dk_at dksX7_number_0 5 rfl rfl)
theorem dX7_number_6 : decode cX7_number 6 = .ok (.iload_n 2, 1) := dk_28 (dk_at dksX7_number_0 6 rfl rfl)
theorem dX7_number_7 : decode cX7_number 7 = .ok (.iload_n 3, 1) := dk_29 (dk_at dksX7_number_0 7 rfl rfl)
theorem dX7_number_8 : decode cX7_number 8 = .ok (.invokevirtual 129, 3) := dk_182 0 129 (dk_at dksX7_number_0 8 rfl rfl)
theorem dX7_number_11 : decode cX7_number 11 = .ok (.ireturn, 1) := dk_172 (dk_at dksX7_number_0 11 rfl rfl)
def dkwX7_number_2_2 : List UInt8 := [29, 172]
abbrev dktX7_number_2_2 : List UInt8 := dkwX7_number_2_2 ++ []
def dkwX7_number_2_1 : List UInt8 := [180, 0, 71, 133, 27, 133, 28, 133, 184, 0, 60, 5, 182, 0, 121, 42, 180, 0, 71, 62, 42, 182, 0, 46]
abbrev dktX7_number_2_1 : List UInt8 := dkwX7_number_2_1 ++ dktX7_number_2_2
def dkwX7_number_2_0 : List UInt8 := [42, 42, 180, 0, 80, 178, 0, 97, 166, 0, 7, 4, 167, 0, 4, 3, 4, 182, 0, 121, 42, 42]
abbrev dktX7_number_2_0 : List UInt8 := dkwX7_number_2_0 ++ dktX7_number_2_1
theorem dksX7_number_2_0 : cX7_number_2.data.toList.drop 0 = dktX7_number_2_0 := by decide +kernel
theorem dksX7_number_2_1 : cX7_number_2.data.toList.drop 22 = dktX7_number_2_1 := dk_seg dksX7_number_2_0 22 rfl rfl
theorem dksX7_number_2_2 : cX7_number_2.data.toList.drop 46 = dktX7_number_2_2 := dk_seg dksX7_number_2_1 24 rfl rfl
theorem dX7_number_2_0 : decode cX7_number_2 0 = .ok (.aload_n 0, 1) := dk_42 (dk_at dksX7_number_2_0 0 rfl rfl)
theorem dX7_number_2_1 : decode cX7_number_2 1 = .ok (.aload_n 0, 1) := dk_42 (dk_at dksX7_number_2_0 1 rfl rfl)
theorem dX7_number_2_2 : decode cX7_number_2 2 = .ok (.getfield 80, 3) := dk_180 0 80 (dk_at dksX7_number_2_0 2 rfl rfl)
theorem dX7_number_2_5 : decode cX7_number_2 5 = .ok (.getstatic 97, 3) := dk_178 0 97 (dk_at dksX7_number_2_0 5 rfl rfl)
theorem dX7_number_2_8 : decode cX7_number_2 8 = .ok (.if_acmp .ne 7, 3) := dk_166 0 7 (dk_at dksX7_number_2_0 8 rfl rfl)
theorem dX7_number_2_11 : decode cX7_number_2 11 = .ok (.iconst 1, 1) := dk_4 (dk_at dksX7_number_2_0 11 rfl rfl)
theorem dX7_number_2_12 : decode cX7_number_2 12 = .ok (.goto 4, 3) := dk_167 0 4 (dk_at dksX7_number_2_0 12 rfl rfl)
theorem dX7_number_2_15 : decode cX7_number_2 15 = .ok (.iconst 0, 1) := dk_3 (dk_at dksX7_number_2_0 15 rfl rfl)
theorem dX7_number_2_16 : decode cX7_number_2 16 = .ok (.iconst 1, 1) := dk_4 (dk_at dksX7_number_2_0 16 rfl rfl)
theorem dX7_number_2_17 : decode cX7_number_2 17 = .ok (.invokevirtual 121, 3) := dk_182 0 121 (dk_at dksX7_number_2_0 17 rfl rfl)
theorem dX7_number_2_20 : decode cX7_number_2 20 = .ok (.aload_n 0, 1) := dk_42 (dk_at dksX7_number_2_0 20 rfl rfl)
theorem dX7_number_2_21 : decode cX7_number_2 21 = .ok (.aload_n 0, 1) := dk_42 (dk_at dksX7_number_2_0 21 rfl rfl)
theorem dX7_number_2_22 : decode cX7_number_2 22 = .ok (.getfield 71, 3) := dk_180 0 71 (dk_at dksX7_number_2_1 0 rfl rfl)
theorem dX7_number_2_25 : decode cX7_number_2 25 = .ok (.i2l, 1) := dk_133 (dk_at dksX7_number_2_1 3 rfl rfl)
theorem dX7_number_2_26 : decode cX7_number_2 26 = .ok (.iload_n 1, 1) := dk_27 (dk_at dksX7_number_2_1 4 rfl rfl)
theorem dX7_number_2_27 : decode cX7_number_2 27 = .ok (.i2l, 1) := dk_133 (dk_at dksX7_number_2_1 5 rfl rfl)
theorem dX7_number_2_28 : decode cX7_number_2 28 = .ok (.iload_n 2, 1) := dk_28 (dk_at dksX7_number_2_1 6 rfl rfl)
theorem dX7_number_2_29 : decode cX7_number_2 29 = .ok (.i2l, 1) := dk_133 (dk_at dksX7_number_2_1 7 rfl rfl)
theorem dX7_number_2_30 : decode cX7_number_2 30 = .ok (.invokestatic 60, 3) := dk_184 0 60 (dk_at dksX7_number_2_1 8 rfl rfl)
theorem dX7_number_2_33 : decode cX7_number_2 33 = .ok (.iconst 2, 1) := dk_5 (dk_at dksX7_number_2_1 11 rfl rfl)
theorem dX7_number_2_34 : decode cX7_number_2 34 = .ok (.invokevirtual 121, 3) := dk_182 0 121 (dk_at dksX7_number_2_1 12 rfl rfl)
theorem dX7_number_2_37 : decode cX7_number_2 37 = .ok (.aload_n 0, 1) := dk_42 (dk_at dksX7_number_2_1 15 rfl rfl)
theorem dX7_number_2_38 : decode cX7_number_2 38 = .ok (.getfield 71, 3) := dk_180 0 71 (dk_at dksX7_number_2_1 16 rfl rfl)
theorem dX7_number_2_41 : decode cX7_number_2 41 = .ok (.istore_n 3, 1) := dk_62 (dk_at dksX7_number_2_1 19 rfl rfl)
theorem dX7_number_2_42 : decode cX7_number_2 42 = .ok (.aload_n 0, 1) := dk_42 (dk_at dksX7_number_2_1 20 rfl rfl)
theorem dX7_number_2_43 : decode cX7_number_2 43 = .ok (.invokevirtual 46, 3) := dk_182 0 46 (dk_at dksX7_number_2_1 21 rfl rfl)
theorem dX7_number_2_46 : decode cX7_number_2 46 = .ok (.iload_n 3, 1) := dk_29 (dk_at dksX7_number_2_2 0 rfl rfl)
theorem dX7_number_2_47 : decode cX7_number_2 47 = .ok (.ireturn, 1) := dk_172 (dk_at dksX7_number_2_2 1 rfl rfl)
def dkwX7_parseEnd_0 : List UInt8 := [42, 42, 16, 59, 182, 1, 2, 4, 182, 0, 121, 42, 182, 0, 46, 177]
abbrev dktX7_parseEnd_0 : List UInt8 := dkwX7_parseEnd_0 ++ []
theorem dksX7_parseEnd_0 : cX7_parseEnd.data.toList.drop 0 = dktX7_parseEnd_0 := by decide +kernel
theorem dX7_parseEnd_0 : decode cX7_parseEnd 0 = .ok (.aload_n 0, 1) := dk_42 (dk_at dksX7_parseEnd_0 0 rfl rfl)
theorem dX7_parseEnd_1 : decode cX7_parseEnd 1 = .ok (.aload_n 0, 1) := dk_42 (dk_at dksX7_parseEnd_0 1 rfl rfl)
theorem dX7_parseEnd_2 : decode cX7_parseEnd 2 = .ok (.bipush 59, 2) := dk_16 59 (dk_at dksX7_parseEnd_0 2 rfl rfl)
theorem dX7_parseEnd_4 : decode cX7_parseEnd 4 = .ok (.invokevirtual 258, 3) := dk_182 1 2 (dk_at dksX7_parseEnd_0 4 rfl rfl)
theorem dX7_parseEnd_7 : decode cX7_parseEnd 7 = .ok (.iconst 1, 1) := dk_4 (dk_at dksX7_parseEnd_0 7 rfl rfl)
theorem dX7_parseEnd_8 : decode cX7_parseEnd 8 = .ok (.invokevirtual 121, 3) := dk_182 0 121 (dk_at dksX7_parseEnd_0 8 rfl rfl)
theorem dX7_parseEnd_11 : decode cX7_parseEnd 11 = .ok (.aload_n 0, 1) := dk_42 (dk_at dksX7_parseEnd_0 11 rfl rfl)
theorem dX7_parseEnd_12 : decode cX7_parseEnd 12 = .ok (.invokevirtual 46, 3) := dk_182 0 46 (dk_at dksX7_parseEnd_0 12 rfl rfl)
theorem dX7_parseEnd_15 : decode cX7_parseEnd 15 = .ok (.return_, 1) := dk_177 (dk_at dksX7_parseEnd_0 15 rfl rfl)
def dkwX7_isSymbol_1 : List UInt8 := [160, 0, 7, 4, 167, 0, 4, 3, 172]
abbrev dktX7_isSymbol_1 : List UInt8 := dkwX7_isSymbol_1 ++ []
def dkwX7_isSymbol_0 : List UInt8 := [42, 180, 0, 80, 178, 0, 107, 166, 0, 23, 42, 180, 0, 3, 180, 0, 56, 42, 180, 0, 68, 51, 27]
abbrev dktX7_isSymbol_0 : List UInt8 := dkwX7_isSymbol_0 ++ dktX7_isSymbol_1
theorem dksX7_isSymbol_0 : cX7_isSymbol.data.toList.drop 0 = dktX7_isSymbol_0 := by decide +kernel
theorem dksX7_isSymbol_1 : cX7_isSymbol.data.toList.drop 23 = dktX7_isSymbol_1 := dk_seg dksX7_isSymbol_0 23 rfl rfl
theorem dX7_isSymbol_0 : decode cX7_isSymbol 0 = .ok (.aload_n 0, 1) := dk_42 (dk_at dksX7_isSymbol_0 0 rfl rfl)
theorem dX7_isSymbol_1 : decode cX7_isSymbol 1 = .ok (.getfield 80, 3) := dk_180 0 80 (dk_at dksX7_isSymbol_0 1 rfl rfl)
theorem dX7_isSymbol_4 : decode cX7_isSymbol 4 = .ok (.getstatic 107, 3) := dk_178 0 107 (dk_at dksX7_isSymbol_0 4 rfl rfl)
theorem dX7_isSymbol_7 : decode cX7_isSymbol 7 = .ok (.if_acmp .ne 23, 3) := dk_166 0 23 (dk_at dksX7_isSymbol_0 7 rfl rfl)
theorem dX7_isSymbol_10 : decode cX7_isSymbol 10 = .ok (.aload_n 0, 1) := dk_42 (dk_at dksX7_isSymbol_0 10 rfl rfl)
theorem dX7_isSymbol_11 : decode cX7_isSymbol 11 = .ok (.getfield 3, 3) := dk_180 0 3 (dk_at dksX7_isSymbol_0 11 rfl rfl)
theorem dX7_isSymbol_14 : decode cX7_isSymbol 14 = .ok (.getfield 56, 3) := dk_180 0 56 (dk_at dksX7_isSymbol_0 14 rfl rfl)
theorem dX7_isSymbol_17 : decode cX7_isSymbol 17 = .ok (.aload_n 0, 1) := dk_42 (dk_at dksX7_isSymbol_0 17 rfl rfl)
theorem dX7_isSymbol_18 : decode cX7_isSymbol 18 = .ok (.getfield 68, 3) := dk_180 0 68 (dk_at dksX7_isSymbol_0 18 rfl rfl)
theorem dX7_isSymbol_21 : decode cX7_isSymbol 21 = .ok (.baload, 1) := dk_51 (dk_at dksX7_isSymbol_0 21 rfl rfl)
theorem dX7_isSymbol_22 : decode cX7_isSymbol 22 = .ok (.iload_n 1, 1) := dk_27 (dk_at dksX7_isSymbol_0 22 rfl rfl)
theorem dX7_isSymbol_23 : decode cX7_isSymbol 23 = .ok (.if_icmp .ne 7, 3) := dk_160 0 7 (dk_at dksX7_isSymbol_1 0 rfl rfl)
theorem dX7_isSymbol_26 : decode cX7_isSymbol 26 = .ok (.iconst 1, 1) := dk_4 (dk_at dksX7_isSymbol_1 3 rfl rfl)
theorem dX7_isSymbol_27 : decode cX7_isSymbol 27 = .ok (.goto 4, 3) := dk_167 0 4 (dk_at dksX7_isSymbol_1 4 rfl rfl)
theorem dX7_isSymbol_30 : decode cX7_isSymbol 30 = .ok (.iconst 0, 1) := dk_3 (dk_at dksX7_isSymbol_1 7 rfl rfl)
theorem dX7_isSymbol_31 : decode cX7_isSymbol 31 = .ok (.ireturn, 1) := dk_172 (dk_at dksX7_isSymbol_1 8 rfl rfl)
def dkwX7_parseStatement_11 : List UInt8 := [187, 0, 110, 89, 4, 42, 180, 0, 68, 183, 0, 112, 191, 177]
abbrev dktX7_parseStatement_11 : List UInt8 := dkwX7_parseStatement_11 ++ []
def dkwX7_parseStatement_10 : List UInt8 := [167, 0, 37, 42, 182, 1, 67, 167, 0, 30, 42, 182, 1, 70, 167, 0, 23, 42, 182, 1, 73, 167, 0, 16]
abbrev dktX7_parseStatement_10 : List UInt8 := dkwX7_parseStatement_10 ++ dktX7_parseStatement_11
def dkwX7_parseStatement_9 : List UInt8 := [42, 182, 1, 58, 167, 0, 55, 42, 42, 180, 0, 42, 182, 1, 61, 167, 0, 44, 42, 182, 1, 64]
abbrev dktX7_parseStatement_9 : List UInt8 := dkwX7_parseStatement_9 ++ dktX7_parseStatement_10
def dkwX7_parseStatement_8 : List UInt8 := [170, 0, 0, 0, 0, 0, 97, 0, 0, 0, 0, 0, 0, 0, 8, 0, 0, 0, 51, 0, 0, 0, 58, 0, 0, 0, 58, 0, 0, 0, 58, 0, 0, 0, 58, 0, 0, 0, 69, 0, 0, 0, 76, 0, 0, 0, 83, 0, 0, 0, 90]
abbrev dktX7_parseStatement_8 : List UInt8 := dkwX7_parseStatement_8 ++ dktX7_parseStatement_9
def dkwX7_parseStatement_7 : List UInt8 := [61, 167, 0, 16, 43, 19, 1, 57, 182, 0, 115, 153, 0, 6, 16, 8, 61, 28]
abbrev dktX7_parseStatement_7 : List UInt8 := dkwX7_parseStatement_7 ++ dktX7_parseStatement_8
def dkwX7_parseStatement_6 : List UInt8 := [182, 0, 115, 153, 0, 38, 16, 6, 61, 167, 0, 32, 43, 19, 1, 55, 182, 0, 115, 153, 0, 22, 16, 7]
abbrev dktX7_parseStatement_6 : List UInt8 := dkwX7_parseStatement_6 ++ dktX7_parseStatement_7
def dkwX7_parseStatement_5 : List UInt8 := [167, 0, 63, 43, 19, 1, 52, 182, 0, 115, 153, 0, 53, 8, 61, 167, 0, 48, 43, 19, 1, 53]
abbrev dktX7_parseStatement_5 : List UInt8 := dkwX7_parseStatement_5 ++ dktX7_parseStatement_6
def dkwX7_parseStatement_4 : List UInt8 := [182, 0, 115, 153, 0, 83, 6, 61, 167, 0, 78, 43, 19, 1, 50, 182, 0, 115, 153, 0, 68, 7, 61]
abbrev dktX7_parseStatement_4 : List UInt8 := dkwX7_parseStatement_4 ++ dktX7_parseStatement_5
def dkwX7_parseStatement_3 : List UInt8 := [4, 61, 167, 0, 106, 43, 18, 225, 182, 0, 115, 153, 0, 97, 5, 61, 167, 0, 92, 43, 18, 227]
abbrev dktX7_parseStatement_3 : List UInt8 := dkwX7_parseStatement_3 ++ dktX7_parseStatement_4
def dkwX7_parseStatement_2 : List UInt8 := [43, 19, 1, 48, 182, 0, 115, 153, 0, 125, 3, 61, 167, 0, 120, 43, 18, 223, 182, 0, 115, 153, 0, 111]
abbrev dktX7_parseStatement_2 : List UInt8 := dkwX7_parseStatement_2 ++ dktX7_parseStatement_3
def dkwX7_parseStatement_1 : List UInt8 := [171, 0, 0, 0, 213, 0, 0, 0, 9, 137, 169, 134, 0, 0, 0, 0, 184, 173, 175, 37, 162, 0, 0, 0, 81, 176, 159, 116, 82, 0, 0, 0, 124, 183, 53, 30, 157, 0, 0, 0, 96, 0, 0, 12, 51, 0, 0, 0, 200, 0, 1, 122, 82, 0, 0, 0, 138, 0, 53, 206, 113, 0, 0, 0, 153, 6, 52, 56, 117, 0, 0, 0, 110, 63, 253, 152, 184, 0, 0, 0, 168]
abbrev dktX7_parseStatement_1 : List UInt8 := dkwX7_parseStatement_1 ++ dktX7_parseStatement_2
def dkwX7_parseStatement_0 : List UInt8 := [42, 180, 0, 42, 76, 2, 61, 43, 182, 0, 220]
abbrev dktX7_parseStatement_0 : List UInt8 := dkwX7_parseStatement_0 ++ dktX7_parseStatement_1
theorem dksX7_parseStatement_0 : cX7_parseStatement.data.toList.drop 0 = dktX7_parseStatement_0 := by decide +kernel
theorem dksX7_parseStatement_1 : cX7_parseStatement.data.toList.drop 11 = dktX7_parseStatement_1 := dk_seg dksX7_parseStatement_0 11 rfl rfl
theorem dksX7_parseStatement_2 : cX7_parseStatement.data.toList.drop 92 = dktX7_parseStatement_2 := dk_seg dksX7_parseStatement_1 81 rfl rfl
theorem dksX7_parseStatement_3 : cX7_parseStatement.data.toList.drop 116 = dktX7_parseStatement_3 := dk_seg dksX7_parseStatement_2 24 rfl rfl
theorem dksX7_parseStatement_4 : cX7_parseStatement.data.toList.drop 138 = dktX7_parseStatement_4 := dk_seg dksX7_parseStatement_3 22 rfl rfl
theorem dksX7_parseStatement_5 : cX7_parseStatement.data.toList.drop 161 = dktX7_parseStatement_5 := dk_seg dksX7_parseStatement_4 23 rfl rfl
theorem dksX7_parseStatement_6 : cX7_parseStatement.data.toList.drop 183 = dktX7_parseStatement_6 := dk_seg dksX7_parseStatement_5 22 rfl rfl
theorem dksX7_parseStatement_7 : cX7_parseStatement.data.toList.drop 207 = dktX7_parseStatement_7 := dk_seg dksX7_parseStatement_6 24 rfl rfl
theorem dksX7_parseStatement_8 : cX7_parseStatement.data.toList.drop 225 = dktX7_parseStatement_8 := dk_seg dksX7_parseStatement_7 18 rfl rfl
theorem dksX7_parseStatement_9 : cX7_parseStatement.data.toList.drop 276 = dktX7_parseStatement_9 := dk_seg dksX7_parseStatement_8 51 rfl rfl
theorem dksX7_parseStatement_10 : cX7_parseStatement.data.toList.drop 298 = dktX7_parseStatement_10 := dk_seg dksX7_parseStatement_9 22 rfl rfl
theorem dksX7_parseStatement_11 : cX7_parseStatement.data.toList.drop 322 = dktX7_parseStatement_11 := dk_seg dksX7_parseStatement_10 24 rfl rfl
theorem dX7_parseStatement_0 : decode cX7_parseStatement 0 = .ok (.aload_n 0, 1) := dk_42 (dk_at dksX7_parseStatement_0 0 rfl rfl)
theorem dX7_parseStatement_1 : decode cX7_parseStatement 1 = .ok (.getfield 42, 3) := dk_180 0 42 (dk_at dksX7_parseStatement_0 1 rfl rfl)
theorem dX7_parseStatement_4 : decode cX7_parseStatement 4 = .ok (.astore_n 1, 1) := dk_76 (dk_at dksX7_parseStatement_0 4 rfl rfl)
theorem dX7_parseStatement_5 : decode cX7_parseStatement 5 = .ok (.iconst (-1), 1) := dk_2 (dk_at dksX7_parseStatement_0 5 rfl rfl)
theorem dX7_parseStatement_6 : decode cX7_parseStatement 6 = .ok (.istore_n 2, 1) := dk_61 (dk_at dksX7_parseStatement_0 6 rfl rfl)
theorem dX7_parseStatement_7 : decode cX7_parseStatement 7 = .ok (.aload_n 1, 1) := dk_43 (dk_at dksX7_parseStatement_0 7 rfl rfl)
theorem dX7_parseStatement_8 : decode cX7_parseStatement 8 = .ok (.invokevirtual 220, 3) := dk_182 0 220 (dk_at dksX7_parseStatement_0 8 rfl rfl)
theorem dX7_parseStatement_11 : decode cX7_parseStatement 11 = .ok (.lookupswitch 213 #[(-1985378816, 184), (-1381030494, 81), (-1331727278, 124), (-1221255523, 96), (3123, 200), (96850, 138), (3526257, 153), (104085621, 110), (1073584312, 168)], 81) := by decide +kernel
theorem dX7_parseStatement_92 : decode cX7_parseStatement 92 = .ok (.aload_n 1, 1) := dk_43 (dk_at dksX7_parseStatement_2 0 rfl rfl)
theorem dX7_parseStatement_93 : decode cX7_parseStatement 93 = .ok (.ldc_w 304, 3) := dk_19 1 48 (dk_at dksX7_parseStatement_2 1 rfl rfl)
theorem dX7_parseStatement_96 : decode cX7_parseStatement 96 = .ok (.invokevirtual 115, 3) := dk_182 0 115 (dk_at dksX7_parseStatement_2 4 rfl rfl)
theorem dX7_parseStatement_99 : decode cX7_parseStatement 99 = .ok (.ifCond .eq 125, 3) := dk_153 0 125 (dk_at dksX7_parseStatement_2 7 rfl rfl)
theorem dX7_parseStatement_102 : decode cX7_parseStatement 102 = .ok (.iconst 0, 1) := dk_3 (dk_at dksX7_parseStatement_2 10 rfl rfl)
theorem dX7_parseStatement_103 : decode cX7_parseStatement 103 = .ok (.istore_n 2, 1) := dk_61 (dk_at dksX7_parseStatement_2 11 rfl rfl)
theorem dX7_parseStatement_104 : decode cX7_parseStatement 104 = .ok (.goto 120, 3) := dk_167 0 120 (dk_at dksX7_parseStatement_2 12 rfl rfl)
theorem dX7_parseStatement_107 : decode cX7_parseStatement 107 = .ok (.aload_n 1, 1) := dk_43 (dk_at dksX7_parseStatement_2 15 rfl rfl)
theorem dX7_parseStatement_108 : decode cX7_parseStatement 108 = .ok (.ldc 223, 2) := dk_18 223 (dk_at dksX7_parseStatement_2 16 rfl rfl)
theorem dX7_parseStatement_110 : decode cX7_parseStatement 110 = .ok (.invokevirtual 115, 3) := dk_182 0 115 (dk_at dksX7_parseStatement_2 18 rfl rfl)
theorem dX7_parseStatement_113 : decode cX7_parseStatement 113 = .ok (.ifCond .eq 111, 3) := dk_153 0 111 (dk_at dksX7_parseStatement_2 21 rfl rfl)
theorem dX7_parseStatement_116 : decode cX7_parseStatement 116 = .ok (.iconst 1, 1) := dk_4 (dk_at dksX7_parseStatement_3 0 rfl rfl)
theorem dX7_parseStatement_117 : decode cX7_parseStatement 117 = .ok (.istore_n 2, 1) := dk_61 (dk_at dksX7_parseStatement_3 1 rfl rfl)
theorem dX7_parseStatement_118 : decode cX7_parseStatement 118 = .ok (.goto 106, 3) := dk_167 0 106 (dk_at dksX7_parseStatement_3 2 rfl rfl)
theorem dX7_parseStatement_121 : decode cX7_parseStatement 121 = .ok (.aload_n 1, 1) := dk_43 (dk_at dksX7_parseStatement_3 5 rfl rfl)
theorem dX7_parseStatement_122 : decode cX7_parseStatement 122 = .ok (.ldc 225, 2) := dk_18 225 (dk_at dksX7_parseStatement_3 6 rfl rfl)
theorem dX7_parseStatement_124 : decode cX7_parseStatement 124 = .ok (.invokevirtual 115, 3) := dk_182 0 115 (dk_at dksX7_parseStatement_3 8 rfl rfl)
theorem dX7_parseStatement_127 : decode cX7_parseStatement 127 = .ok (.ifCond .eq 97, 3) := dk_153 0 97 (dk_at dksX7_parseStatement_3 11 rfl rfl)
theorem dX7_parseStatement_130 : decode cX7_parseStatement 130 = .ok (.iconst 2, 1) := dk_5 (dk_at dksX7_parseStatement_3 14 rfl rfl)
theorem dX7_parseStatement_131 : decode cX7_parseStatement 131 = .ok (.istore_n 2, 1) := dk_61 (dk_at dksX7_parseStatement_3 15 rfl rfl)
theorem dX7_parseStatement_132 : decode cX7_parseStatement 132 = .ok (.goto 92, 3) := dk_167 0 92 (dk_at dksX7_parseStatement_3 16 rfl rfl)
theorem dX7_parseStatement_135 : decode cX7_parseStatement 135 = .ok (.aload_n 1, 1) := dk_43 (dk_at dksX7_parseStatement_3 19 rfl rfl)
theorem dX7_parseStatement_136 : decode cX7_parseStatement 136 = .ok (.ldc 227, 2) := dk_18 227 (dk_at dksX7_parseStatement_3 20 rfl rfl)
theorem dX7_parseStatement_138 : decode cX7_parseStatement 138 = .ok (.invokevirtual 115, 3) := dk_182 0 115 (dk_at dksX7_parseStatement_4 0 rfl rfl)
theorem dX7_parseStatement_141 : decode cX7_parseStatement 141 = .ok (.ifCond .eq 83, 3) := dk_153 0 83 (dk_at dksX7_parseStatement_4 3 rfl rfl)
theorem dX7_parseStatement_144 : decode cX7_parseStatement 144 = .ok (.iconst 3, 1) := dk_6 (dk_at dksX7_parseStatement_4 6 rfl rfl)
theorem dX7_parseStatement_145 : decode cX7_parseStatement 145 = .ok (.istore_n 2, 1) := dk_61 (dk_at dksX7_parseStatement_4 7 rfl rfl)
theorem dX7_parseStatement_146 : decode cX7_parseStatement 146 = .ok (.goto 78, 3) := dk_167 0 78 (dk_at dksX7_parseStatement_4 8 rfl rfl)
theorem dX7_parseStatement_149 : decode cX7_parseStatement 149 = .ok (.aload_n 1, 1) := dk_43 (dk_at dksX7_parseStatement_4 11 rfl rfl)
theorem dX7_parseStatement_150 : decode cX7_parseStatement 150 = .ok (.ldc_w 306, 3) := dk_19 1 50 (dk_at dksX7_parseStatement_4 12 rfl rfl)
theorem dX7_parseStatement_153 : decode cX7_parseStatement 153 = .ok (.invokevirtual 115, 3) := dk_182 0 115 (dk_at dksX7_parseStatement_4 15 rfl rfl)
theorem dX7_parseStatement_156 : decode cX7_parseStatement 156 = .ok (.ifCond .eq 68, 3) := dk_153 0 68 (dk_at dksX7_parseStatement_4 18 rfl rfl)
theorem dX7_parseStatement_159 : decode cX7_parseStatement 159 = .ok (.iconst 4, 1) := dk_7 (dk_at dksX7_parseStatement_4 21 rfl rfl)
theorem dX7_parseStatement_160 : decode cX7_parseStatement 160 = .ok (.istore_n 2, 1) := dk_61 (dk_at dksX7_parseStatement_4 22 rfl rfl)
theorem dX7_parseStatement_161 : decode cX7_parseStatement 161 = .ok (.goto 63, 3) := dk_167 0 63 (dk_at dksX7_parseStatement_5 0 rfl rfl)
theorem dX7_parseStatement_164 : decode cX7_parseStatement 164 = .ok (.aload_n 1, 1) := dk_43 (dk_at dksX7_parseStatement_5 3 rfl rfl)
theorem dX7_parseStatement_165 : decode cX7_parseStatement 165 = .ok (.ldc_w 308, 3) := dk_19 1 52 (dk_at dksX7_parseStatement_5 4 rfl rfl)
theorem dX7_parseStatement_168 : decode cX7_parseStatement 168 = .ok (.invokevirtual 115, 3) := dk_182 0 115 (dk_at dksX7_parseStatement_5 7 rfl rfl)
theorem dX7_parseStatement_171 : decode cX7_parseStatement 171 = .ok (.ifCond .eq 53, 3) := dk_153 0 53 (dk_at dksX7_parseStatement_5 10 rfl rfl)
theorem dX7_parseStatement_174 : decode cX7_parseStatement 174 = .ok (.iconst 5, 1) := dk_8 (dk_at dksX7_parseStatement_5 13 rfl rfl)
theorem dX7_parseStatement_175 : decode cX7_parseStatement 175 = .ok (.istore_n 2, 1) := dk_61 (dk_at dksX7_parseStatement_5 14 rfl rfl)
theorem dX7_parseStatement_176 : decode cX7_parseStatement 176 = .ok (.goto 48, 3) := dk_167 0 48 (dk_at dksX7_parseStatement_5 15 rfl rfl)
theorem dX7_parseStatement_179 : decode cX7_parseStatement 179 = .ok (.aload_n 1, 1) := dk_43 (dk_at dksX7_parseStatement_5 18 rfl rfl)
theorem dX7_parseStatement_180 : decode cX7_parseStatement 180 = .ok (.ldc_w 309, 3) := dk_19 1 53 (dk_at dksX7_parseStatement_5 19 rfl rfl)
theorem dX7_parseStatement_183 : decode cX7_parseStatement 183 = .ok (.invokevirtual 115, 3) := dk_182 0 115 (dk_at dksX7_parseStatement_6 0 rfl rfl)
theorem dX7_parseStatement_186 : decode cX7_parseStatement 186 = .ok (.ifCond .eq 38, 3) := dk_153 0 38 (dk_at dksX7_parseStatement_6 3 rfl rfl)
theorem dX7_parseStatement_189 : decode cX7_parseStatement 189 = .ok (.bipush 6, 2) := dk_16 6 (dk_at dksX7_parseStatement_6 6 rfl rfl)
theorem dX7_parseStatement_191 : decode cX7_parseStatement 191 = .ok (.istore_n 2, 1) := dk_61 (dk_at dksX7_parseStatement_6 8 rfl rfl)
theorem dX7_parseStatement_192 : decode cX7_parseStatement 192 = .ok (.goto 32, 3) := dk_167 0 32 (dk_at dksX7_parseStatement_6 9 rfl rfl)
theorem dX7_parseStatement_195 : decode cX7_parseStatement 195 = .ok (.aload_n 1, 1) := dk_43 (dk_at dksX7_parseStatement_6 12 rfl rfl)
theorem dX7_parseStatement_196 : decode cX7_parseStatement 196 = .ok (.ldc_w 311, 3) := dk_19 1 55 (dk_at dksX7_parseStatement_6 13 rfl rfl)
theorem dX7_parseStatement_199 : decode cX7_parseStatement 199 = .ok (.invokevirtual 115, 3) := dk_182 0 115 (dk_at dksX7_parseStatement_6 16 rfl rfl)
theorem dX7_parseStatement_202 : decode cX7_parseStatement 202 = .ok (.ifCond .eq 22, 3) := dk_153 0 22 (dk_at dksX7_parseStatement_6 19 rfl rfl)
theorem dX7_parseStatement_205 : decode cX7_parseStatement 205 = .ok (.bipush 7, 2) := dk_16 7 (dk_at dksX7_parseStatement_6 22 rfl rfl)
theorem dX7_parseStatement_207 : decode cX7_parseStatement 207 = .ok (.istore_n 2, 1) := dk_61 (dk_at dksX7_parseStatement_7 0 rfl rfl)
theorem dX7_parseStatement_208 : decode cX7_parseStatement 208 = .ok (.goto 16, 3) := dk_167 0 16 (dk_at dksX7_parseStatement_7 1 rfl rfl)
theorem dX7_parseStatement_211 : decode cX7_parseStatement 211 = .ok (.aload_n 1, 1) := dk_43 (dk_at dksX7_parseStatement_7 4 rfl rfl)
theorem dX7_parseStatement_212 : decode cX7_parseStatement 212 = .ok (.ldc_w 313, 3) := dk_19 1 57 (dk_at dksX7_parseStatement_7 5 rfl rfl)
theorem dX7_parseStatement_215 : decode cX7_parseStatement 215 = .ok (.invokevirtual 115, 3) := dk_182 0 115 (dk_at dksX7_parseStatement_7 8 rfl rfl)
theorem dX7_parseStatement_218 : decode cX7_parseStatement 218 = .ok (.ifCond .eq 6, 3) := dk_153 0 6 (dk_at dksX7_parseStatement_7 11 rfl rfl)
theorem dX7_parseStatement_221 : decode cX7_parseStatement 221 = .ok (.bipush 8, 2) := dk_16 8 (dk_at dksX7_parseStatement_7 14 rfl rfl)
theorem dX7_parseStatement_223 : decode cX7_parseStatement 223 = .ok (.istore_n 2, 1) := dk_61 (dk_at dksX7_parseStatement_7 16 rfl rfl)
theorem dX7_parseStatement_224 : decode cX7_parseStatement 224 = .ok (.iload_n 2, 1) := dk_28 (dk_at dksX7_parseStatement_7 17 rfl rfl)
theorem dX7_parseStatement_225 : decode cX7_parseStatement 225 = .ok (.tableswitch 97 0 8 #[51, 58, 58, 58, 58, 69, 76, 83, 90], 51) := by decide +kernel
theorem dX7_parseStatement_276 : decode cX7_parseStatement 276 = .ok (.aload_n 0, 1) := dk_42 (dk_at dksX7_parseStatement_9 0 rfl rfl)
theorem dX7_parseStatement_277 : decode cX7_parseStatement 277 = .ok (.invokevirtual 314, 3) := dk_182 1 58 (dk_at dksX7_parseStatement_9 1 rfl rfl)
theorem dX7_parseStatement_280 : decode cX7_parseStatement 280 = .ok (.goto 55, 3) := dk_167 0 55 (dk_at dksX7_parseStatement_9 4 rfl rfl)
theorem dX7_parseStatement_283 : decode cX7_parseStatement 283 = .ok (.aload_n 0, 1) := dk_42 (dk_at dksX7_parseStatement_9 7 rfl rfl)
theorem dX7_parseStatement_284 : decode cX7_parseStatement 284 = .ok (.aload_n 0, 1) := dk_42 (dk_at dksX7_parseStatement_9 8 rfl rfl)
theorem dX7_parseStatement_285 : decode cX7_parseStatement 285 = .ok (.getfield 42, 3) := dk_180 0 42 (dk_at dksX7_parseStatement_9 9 rfl rfl)
theorem dX7_parseStatement_288 : decode cX7_parseStatement 288 = .ok (.invokevirtual 317, 3) := dk_182 1 61 (dk_at dksX7_parseStatement_9 12 rfl rfl)
theorem dX7_parseStatement_291 : decode cX7_parseStatement 291 = .ok (.goto 44, 3) := dk_167 0 44 (dk_at dksX7_parseStatement_9 15 rfl rfl)
theorem dX7_parseStatement_294 : decode cX7_parseStatement 294 = .ok (.aload_n 0, 1) := dk_42 (dk_at dksX7_parseStatement_9 18 rfl rfl)
theorem dX7_parseStatement_295 : decode cX7_parseStatement 295 = .ok (.invokevirtual 320, 3) := dk_182 1 64 (dk_at dksX7_parseStatement_9 19 rfl rfl)
theorem dX7_parseStatement_298 : decode cX7_parseStatement 298 = .ok (.goto 37, 3) := dk_167 0 37 (dk_at dksX7_parseStatement_10 0 rfl rfl)
theorem dX7_parseStatement_301 : decode cX7_parseStatement 301 = .ok (.aload_n 0, 1) := dk_42 (dk_at dksX7_parseStatement_10 3 rfl rfl)
theorem dX7_parseStatement_302 : decode cX7_parseStatement 302 = .ok (.invokevirtual 323, 3) := dk_182 1 67 (dk_at dksX7_parseStatement_10 4 rfl rfl)
theorem dX7_parseStatement_305 : decode cX7_parseStatement 305 = .ok (.goto 30, 3) := dk_167 0 30 (dk_at dksX7_parseStatement_10 7 rfl rfl)
theorem dX7_parseStatement_308 : decode cX7_parseStatement 308 = .ok (.aload_n 0, 1) := dk_42 (dk_at dksX7_parseStatement_10 10 rfl rfl)
theorem dX7_parseStatement_309 : decode cX7_parseStatement 309 = .ok (.invokevirtual 326, 3) := dk_182 1 70 (dk_at dksX7_parseStatement_10 11 rfl rfl)
theorem dX7_parseStatement_312 : decode cX7_parseStatement 312 = .ok (.goto 23, 3) := dk_167 0 23 (dk_at dksX7_parseStatement_10 14 rfl rfl)
theorem dX7_parseStatement_315 : decode cX7_parseStatement 315 = .ok (.aload_n 0, 1) := dk_42 (dk_at dksX7_parseStatement_10 17 rfl rfl)
theorem dX7_parseStatement_316 : decode cX7_parseStatement 316 = .ok (.invokevirtual 329, 3) := dk_182 1 73 (dk_at dksX7_parseStatement_10 18 rfl rfl)
theorem dX7_parseStatement_319 : decode cX7_parseStatement 319 = .ok (.goto 16, 3) := dk_167 0 16 (dk_at dksX7_parseStatement_10 21 rfl rfl)
theorem dX7_parseStatement_322 : decode cX7_parseStatement 322 = .ok (.new 110, 3) := dk_187 0 110 (dk_at dksX7_parseStatement_11 0 rfl rfl)
theorem dX7_parseStatement_325 : decode cX7_parseStatement 325 = .ok (.dup, 1) := dk_89 (dk_at dksX7_parseStatement_11 3 rfl rfl)
theorem dX7_parseStatement_326 : decode cX7_parseStatement 326 = .ok (.iconst 1, 1) := dk_4 (dk_at dksX7_parseStatement_11 4 rfl rfl)
theorem dX7_parseStatement_327 : decode cX7_parseStatement 327 = .ok (.aload_n 0, 1) := dk_42 (dk_at dksX7_parseStatement_11 5 rfl rfl)
theorem dX7_parseStatement_328 : decode cX7_parseStatement 328 = .ok (.getfield 68, 3) := dk_180 0 68 (dk_at dksX7_parseStatement_11 6 rfl rfl)
theorem dX7_parseStatement_331 : decode cX7_parseStatement 331 = .ok (.invokespecial 112, 3) := dk_183 0 112 (dk_at dksX7_parseStatement_11 9 rfl rfl)
theorem dX7_parseStatement_334 : decode cX7_parseStatement 334 = .ok (.athrow, 1) := dk_191 (dk_at dksX7_parseStatement_11 12 rfl rfl)
theorem dX7_parseStatement_335 : decode cX7_parseStatement 335 = .ok (.return_, 1) := dk_177 (dk_at dksX7_parseStatement_11 13 rfl rfl)
def dkwX7_parseBranch_3 : List UInt8 := [87, 177]
abbrev dktX7_parseBranch_3 : List UInt8 := dkwX7_parseBranch_3 ++ []
def dkwX7_parseBranch_2 : List UInt8 := [182, 0, 153, 42, 18, 202, 4, 16, 100, 182, 0, 186, 79, 42, 180, 0, 18, 180, 0, 140, 43, 182, 0, 203]
abbrev dktX7_parseBranch_2 : List UInt8 := dkwX7_parseBranch_2 ++ dktX7_parseBranch_3
def dkwX7_parseBranch_1 : List UInt8 := [42, 182, 0, 46, 42, 182, 0, 195, 76, 42, 180, 0, 18, 180, 0, 198, 42, 180, 0, 18, 180, 0, 140]
abbrev dktX7_parseBranch_1 : List UInt8 := dkwX7_parseBranch_1 ++ dktX7_parseBranch_2
def dkwX7_parseBranch_0 : List UInt8 := [42, 42, 180, 0, 18, 180, 0, 140, 182, 0, 153, 7, 162, 0, 7, 4, 167, 0, 4, 3, 7, 182, 0, 121]
abbrev dktX7_parseBranch_0 : List UInt8 := dkwX7_parseBranch_0 ++ dktX7_parseBranch_1
theorem dksX7_parseBranch_0 : cX7_parseBranch.data.toList.drop 0 = dktX7_parseBranch_0 := by decide +kernel
theorem dksX7_parseBranch_1 : cX7_parseBranch.data.toList.drop 24 = dktX7_parseBranch_1 := dk_seg dksX7_parseBranch_0 24 rfl rfl
theorem dksX7_parseBranch_2 : cX7_parseBranch.data.toList.drop 47 = dktX7_parseBranch_2 := dk_seg dksX7_parseBranch_1 23 rfl rfl
theorem dksX7_parseBranch_3 : cX7_parseBranch.data.toList.drop 71 = dktX7_parseBranch_3 := dk_seg dksX7_parseBranch_2 24 rfl rfl
theorem dX7_parseBranch_0 : decode cX7_parseBranch 0 = .ok (.aload_n 0, 1) := dk_42 (dk_at dksX7_parseBranch_0 0 rfl rfl)
theorem dX7_parseBranch_1 : decode cX7_parseBranch 1 = .ok (.aload_n 0, 1) := dk_42 (dk_at dksX7_parseBranch_0 1 rfl rfl)
theorem dX7_parseBranch_2 : decode cX7_parseBranch 2 = .ok (.getfield 18, 3) := dk_180 0 18 (dk_at dksX7_parseBranch_0 2 rfl rfl)
theorem dX7_parseBranch_5 : decode cX7_parseBranch 5 = .ok (.getfield 140, 3) := dk_180 0 140 (dk_at dksX7_parseBranch_0 5 rfl rfl)
theorem dX7_parseBranch_8 : decode cX7_parseBranch 8 = .ok (.invokevirtual 153, 3) := dk_182 0 153 (dk_at dksX7_parseBranch_0 8 rfl rfl)
theorem dX7_parseBranch_11 : decode cX7_parseBranch 11 = .ok (.iconst 4, 1) := dk_7 (dk_at dksX7_parseBranch_0 11 rfl rfl)
theorem dX7_parseBranch_12 : decode cX7_parseBranch 12 = .ok (.if_icmp .ge 7, 3) := dk_162 0 7 (dk_at dksX7_parseBranch_0 12 rfl rfl)
theorem dX7_parseBranch_15 : decode cX7_parseBranch 15 = .ok (.iconst 1, 1) := dk_4 (dk_at dksX7_parseBranch_0 15 rfl rfl)
theorem dX7_parseBranch_16 : decode cX7_parseBranch 16 = .ok (.goto 4, 3) := dk_167 0 4 (dk_at dksX7_parseBranch_0 16 rfl rfl)
theorem dX7_parseBranch_19 : decode cX7_parseBranch 19 = .ok (.iconst 0, 1) := dk_3 (dk_at dksX7_parseBranch_0 19 rfl rfl)
theorem dX7_parseBranch_20 : decode cX7_parseBranch 20 = .ok (.iconst 4, 1) := dk_7 (dk_at dksX7_parseBranch_0 20 rfl rfl)
theorem dX7_parseBranch_21 : decode cX7_parseBranch 21 = .ok (.invokevirtual 121, 3) := dk_182 0 121 (dk_at dksX7_parseBranch_0 21 rfl rfl)
theorem dX7_parseBranch_24 : decode cX7_parseBranch 24 = .ok (.aload_n 0, 1) := dk_42 (dk_at dksX7_parseBranch_1 0 rfl rfl)
theorem dX7_parseBranch_25 : decode cX7_parseBranch 25 = .ok (.invokevirtual 46, 3) := dk_182 0 46 (dk_at dksX7_parseBranch_1 1 rfl rfl)
theorem dX7_parseBranch_28 : decode cX7_parseBranch 28 = .ok (.aload_n 0, 1) := dk_42 (dk_at dksX7_parseBranch_1 4 rfl rfl)
theorem dX7_parseBranch_29 : decode cX7_parseBranch 29 = .ok (.invokevirtual 195, 3) := dk_182 0 195 (dk_at dksX7_parseBranch_1 5 rfl rfl)
theorem dX7_parseBranch_32 : decode cX7_parseBranch 32 = .ok (.astore_n 1, 1) := dk_76 (dk_at dksX7_parseBranch_1 8 rfl rfl)
theorem dX7_parseBranch_33 : decode cX7_parseBranch 33 = .ok (.aload_n 0, 1) := dk_42 (dk_at dksX7_parseBranch_1 9 rfl rfl)
theorem dX7_parseBranch_34 : decode cX7_parseBranch 34 = .ok (.getfield 18, 3) := dk_180 0 18 (dk_at dksX7_parseBranch_1 10 rfl rfl)
theorem dX7_parseBranch_37 : decode cX7_parseBranch 37 = .ok (.getfield 198, 3) := dk_180 0 198 (dk_at dksX7_parseBranch_1 13 rfl rfl)
theorem dX7_parseBranch_40 : decode cX7_parseBranch 40 = .ok (.aload_n 0, 1) := dk_42 (dk_at dksX7_parseBranch_1 16 rfl rfl)
theorem dX7_parseBranch_41 : decode cX7_parseBranch 41 = .ok (.getfield 18, 3) := dk_180 0 18 (dk_at dksX7_parseBranch_1 17 rfl rfl)
theorem dX7_parseBranch_44 : decode cX7_parseBranch 44 = .ok (.getfield 140, 3) := dk_180 0 140 (dk_at dksX7_parseBranch_1 20 rfl rfl)
theorem dX7_parseBranch_47 : decode cX7_parseBranch 47 = .ok (.invokevirtual 153, 3) := dk_182 0 153 (dk_at dksX7_parseBranch_2 0 rfl rfl)
theorem dX7_parseBranch_50 : decode cX7_parseBranch 50 = .ok (.aload_n 0, 1) := dk_42 (dk_at dksX7_parseBranch_2 3 rfl rfl)
theorem dX7_parseBranch_51 : decode cX7_parseBranch 51 = .ok (.ldc 202, 2) := dk_18 202 (dk_at dksX7_parseBranch_2 4 rfl rfl)
theorem dX7_parseBranch_53 : decode cX7_parseBranch 53 = .ok (.iconst 1, 1) := dk_4 (dk_at dksX7_parseBranch_2 6 rfl rfl)
theorem dX7_parseBranch_54 : decode cX7_parseBranch 54 = .ok (.bipush 100, 2) := dk_16 100 (dk_at dksX7_parseBranch_2 7 rfl rfl)
theorem dX7_parseBranch_56 : decode cX7_parseBranch 56 = .ok (.invokevirtual 186, 3) := dk_182 0 186 (dk_at dksX7_parseBranch_2 9 rfl rfl)
theorem dX7_parseBranch_59 : decode cX7_parseBranch 59 = .ok (.iastore, 1) := dk_79 (dk_at dksX7_parseBranch_2 12 rfl rfl)
theorem dX7_parseBranch_60 : decode cX7_parseBranch 60 = .ok (.aload_n 0, 1) := dk_42 (dk_at dksX7_parseBranch_2 13 rfl rfl)
theorem dX7_parseBranch_61 : decode cX7_parseBranch 61 = .ok (.getfield 18, 3) := dk_180 0 18 (dk_at dksX7_parseBranch_2 14 rfl rfl)
theorem dX7_parseBranch_64 : decode cX7_parseBranch 64 = .ok (.getfield 140, 3) := dk_180 0 140 (dk_at dksX7_parseBranch_2 17 rfl rfl)
theorem dX7_parseBranch_67 : decode cX7_parseBranch 67 = .ok (.aload_n 1, 1) := dk_43 (dk_at dksX7_parseBranch_2 20 rfl rfl)
theorem dX7_parseBranch_68 : decode cX7_parseBranch 68 = .ok (.invokevirtual 203, 3) := dk_182 0 203 (dk_at dksX7_parseBranch_2 21 rfl rfl)
theorem dX7_parseBranch_71 : decode cX7_parseBranch 71 = .ok (.pop, 1) := dk_87 (dk_at dksX7_parseBranch_3 0 rfl rfl)
theorem dX7_parseBranch_72 : decode cX7_parseBranch 72 = .ok (.return_, 1) := dk_177 (dk_at dksX7_parseBranch_3 1 rfl rfl)
def dkwX7_newName_1 : List UInt8 := [180, 0, 42, 76, 42, 182, 0, 46, 43, 176]
abbrev dktX7_newName_1 : List UInt8 := dkwX7_newName_1 ++ []
def dkwX7_newName_0 : List UInt8 := [42, 182, 0, 171, 42, 42, 182, 0, 174, 154, 0, 7, 4, 167, 0, 4, 3, 6, 182, 0, 121, 42]
abbrev dktX7_newName_0 : List UInt8 := dkwX7_newName_0 ++ dktX7_newName_1
theorem dksX7_newName_0 : cX7_newName.data.toList.drop 0 = dktX7_newName_0 := by decide +kernel
theorem dksX7_newName_1 : cX7_newName.data.toList.drop 22 = dktX7_newName_1 := dk_seg dksX7_newName_0 22 rfl rfl
theorem dX7_newName_0 : decode cX7_newName 0 = .ok (.aload_n 0, 1) := dk_42 (dk_at dksX7_newName_0 0 rfl rfl)
theorem dX7_newName_1 : decode cX7_newName 1 = .ok (.invokevirtual 171, 3) := dk_182 0 171 (dk_at dksX7_newName_0 1 rfl rfl)
theorem dX7_newName_4 : decode cX7_newName 4 = .ok (.aload_n 0, 1) := dk_42 (dk_at dksX7_newName_0 4 rfl rfl)
theorem dX7_newName_5 : decode cX7_newName 5 = .ok (.aload_n 0, 1) := dk_42 (dk_at dksX7_newName_0 5 rfl rfl)
theorem dX7_newName_6 : decode cX7_newName 6 = .ok (.invokevirtual 174, 3) := dk_182 0 174 (dk_at dksX7_newName_0 6 rfl rfl)
theorem dX7_newName_9 : decode cX7_newName 9 = .ok (.ifCond .ne 7, 3) := dk_154 0 7 (dk_at dksX7_newName_0 9 rfl rfl)
theorem dX7_newName_12 : decode cX7_newName 12 = .ok (.iconst 1, 1) := dk_4 (dk_at dksX7_newName_0 12 rfl rfl)
theorem dX7_newName_13 : decode cX7_newName 13 = .ok (.goto 4, 3) := dk_167 0 4 (dk_at dksX7_newName_0 13 rfl rfl)
theorem dX7_newName_16 : decode cX7_newName 16 = .ok (.iconst 0, 1) := dk_3 (dk_at dksX7_newName_0 16 rfl rfl)
theorem dX7_newName_17 : decode cX7_newName 17 = .ok (.iconst 3, 1) := dk_6 (dk_at dksX7_newName_0 17 rfl rfl)
theorem dX7_newName_18 : decode cX7_newName 18 = .ok (.invokevirtual 121, 3) := dk_182 0 121 (dk_at dksX7_newName_0 18 rfl rfl)
theorem dX7_newName_21 : decode cX7_newName 21 = .ok (.aload_n 0, 1) := dk_42 (dk_at dksX7_newName_0 21 rfl rfl)
theorem dX7_newName_22 : decode cX7_newName 22 = .ok (.getfield 42, 3) := dk_180 0 42 (dk_at dksX7_newName_1 0 rfl rfl)
theorem dX7_newName_25 : decode cX7_newName 25 = .ok (.astore_n 1, 1) := dk_76 (dk_at dksX7_newName_1 3 rfl rfl)
theorem dX7_newName_26 : decode cX7_newName 26 = .ok (.aload_n 0, 1) := dk_42 (dk_at dksX7_newName_1 4 rfl rfl)
theorem dX7_newName_27 : decode cX7_newName 27 = .ok (.invokevirtual 46, 3) := dk_182 0 46 (dk_at dksX7_newName_1 5 rfl rfl)
theorem dX7_newName_30 : decode cX7_newName 30 = .ok (.aload_n 1, 1) := dk_43 (dk_at dksX7_newName_1 8 rfl rfl)
theorem dX7_newName_31 : decode cX7_newName 31 = .ok (.areturn, 1) := dk_176 (dk_at dksX7_newName_1 9 rfl rfl)
def dkwX7_requireName_1 : List UInt8 := [180, 0, 42, 184, 0, 136, 154, 0, 7, 4, 167, 0, 4, 3, 4, 182, 0, 121, 177]
abbrev dktX7_requireName_1 : List UInt8 := dkwX7_requireName_1 ++ []
def dkwX7_requireName_0 : List UInt8 := [42, 42, 180, 0, 80, 178, 0, 83, 166, 0, 29, 42, 180, 0, 42, 182, 0, 132, 16, 6, 163, 0, 17, 42]
abbrev dktX7_requireName_0 : List UInt8 := dkwX7_requireName_0 ++ dktX7_requireName_1
theorem dksX7_requireName_0 : cX7_requireName.data.toList.drop 0 = dktX7_requireName_0 := by decide +kernel
theorem dksX7_requireName_1 : cX7_requireName.data.toList.drop 24 = dktX7_requireName_1 := dk_seg dksX7_requireName_0 24 rfl rfl
theorem dX7_requireName_0 : decode cX7_requireName 0 = .ok (.aload_n 0, 1) := dk_42 (dk_at dksX7_requireName_0 0 rfl rfl)
theorem dX7_requireName_1 : decode cX7_requireName 1 = .ok (.aload_n 0, 1) := dk_42 (dk_at dksX7_requireName_0 1 rfl rfl)
theorem dX7_requireName_2 : decode cX7_requireName 2 = .ok (.getfield 80, 3) := dk_180 0 80 (dk_at dksX7_requireName_0 2 rfl rfl)
theorem dX7_requireName_5 : decode cX7_requireName 5 = .ok (.getstatic 83, 3) := dk_178 0 83 (dk_at dksX7_requireName_0 5 rfl rfl)
theorem dX7_requireName_8 : decode cX7_requireName 8 = .ok (.if_acmp .ne 29, 3) := dk_166 0 29 (dk_at dksX7_requireName_0 8 rfl rfl)
theorem dX7_requireName_11 : decode cX7_requireName 11 = .ok (.aload_n 0, 1) := dk_42 (dk_at dksX7_requireName_0 11 rfl rfl)
theorem dX7_requireName_12 : decode cX7_requireName 12 = .ok (.getfield 42, 3) := dk_180 0 42 (dk_at dksX7_requireName_0 12 rfl rfl)
theorem dX7_requireName_15 : decode cX7_requireName 15 = .ok (.invokevirtual 132, 3) := dk_182 0 132 (dk_at dksX7_requireName_0 15 rfl rfl)
theorem dX7_requireName_18 : decode cX7_requireName 18 = .ok (.bipush 6, 2) := dk_16 6 (dk_at dksX7_requireName_0 18 rfl rfl)
theorem dX7_requireName_20 : decode cX7_requireName 20 = .ok (.if_icmp .gt 17, 3) := dk_163 0 17 (dk_at dksX7_requireName_0 20 rfl rfl)
theorem dX7_requireName_23 : decode cX7_requireName 23 = .ok (.aload_n 0, 1) := dk_42 (dk_at dksX7_requireName_0 23 rfl rfl)
theorem dX7_requireName_24 : decode cX7_requireName 24 = .ok (.getfield 42, 3) := dk_180 0 42 (dk_at dksX7_requireName_1 0 rfl rfl)
theorem dX7_requireName_27 : decode cX7_requireName 27 = .ok (.invokestatic 136, 3) := dk_184 0 136 (dk_at dksX7_requireName_1 3 rfl rfl)
theorem dX7_requireName_30 : decode cX7_requireName 30 = .ok (.ifCond .ne 7, 3) := dk_154 0 7 (dk_at dksX7_requireName_1 6 rfl rfl)
theorem dX7_requireName_33 : decode cX7_requireName 33 = .ok (.iconst 1, 1) := dk_4 (dk_at dksX7_requireName_1 9 rfl rfl)
theorem dX7_requireName_34 : decode cX7_requireName 34 = .ok (.goto 4, 3) := dk_167 0 4 (dk_at dksX7_requireName_1 10 rfl rfl)
theorem dX7_requireName_37 : decode cX7_requireName 37 = .ok (.iconst 0, 1) := dk_3 (dk_at dksX7_requireName_1 13 rfl rfl)
theorem dX7_requireName_38 : decode cX7_requireName 38 = .ok (.iconst 1, 1) := dk_4 (dk_at dksX7_requireName_1 14 rfl rfl)
theorem dX7_requireName_39 : decode cX7_requireName 39 = .ok (.invokevirtual 121, 3) := dk_182 0 121 (dk_at dksX7_requireName_1 15 rfl rfl)
theorem dX7_requireName_42 : decode cX7_requireName 42 = .ok (.return_, 1) := dk_177 (dk_at dksX7_requireName_1 18 rfl rfl)
def dkwX7_isUsed_4 : List UInt8 := [60, 132, 2, 1, 167, 255, 215, 27, 172]
abbrev dktX7_isUsed_4 : List UInt8 := dkwX7_isUsed_4 ++ []
def dkwX7_isUsed_3 : List UInt8 := [180, 0, 27, 28, 182, 0, 156, 192, 0, 160, 180, 0, 162, 180, 0, 166, 42, 180, 0, 42, 182, 0, 115, 128]
abbrev dktX7_isUsed_3 : List UInt8 := dkwX7_isUsed_3 ++ dktX7_isUsed_4
def dkwX7_isUsed_2 : List UInt8 := [159, 0, 7, 4, 167, 0, 4, 3, 60, 3, 61, 28, 42, 180, 0, 27, 182, 0, 153, 162, 0, 36, 27, 42]
abbrev dktX7_isUsed_2 : List UInt8 := dkwX7_isUsed_2 ++ dktX7_isUsed_3
def dkwX7_isUsed_1 : List UInt8 := [180, 0, 42, 182, 0, 146, 2, 160, 0, 18, 42, 180, 0, 18, 42, 180, 0, 42, 182, 0, 150, 2]
abbrev dktX7_isUsed_1 : List UInt8 := dkwX7_isUsed_1 ++ dktX7_isUsed_2
def dkwX7_isUsed_0 : List UInt8 := [42, 180, 0, 18, 180, 0, 140, 42, 180, 0, 42, 182, 0, 143, 154, 0, 33, 42, 180, 0, 18, 42]
abbrev dktX7_isUsed_0 : List UInt8 := dkwX7_isUsed_0 ++ dktX7_isUsed_1
theorem dksX7_isUsed_0 : cX7_isUsed.data.toList.drop 0 = dktX7_isUsed_0 := by decide +kernel
theorem dksX7_isUsed_1 : cX7_isUsed.data.toList.drop 22 = dktX7_isUsed_1 := dk_seg dksX7_isUsed_0 22 rfl rfl
theorem dksX7_isUsed_2 : cX7_isUsed.data.toList.drop 44 = dktX7_isUsed_2 := dk_seg dksX7_isUsed_1 22 rfl rfl
theorem dksX7_isUsed_3 : cX7_isUsed.data.toList.drop 68 = dktX7_isUsed_3 := dk_seg dksX7_isUsed_2 24 rfl rfl
theorem dksX7_isUsed_4 : cX7_isUsed.data.toList.drop 92 = dktX7_isUsed_4 := dk_seg dksX7_isUsed_3 24 rfl rfl
theorem dX7_isUsed_0 : decode cX7_isUsed 0 = .ok (.aload_n 0, 1) := dk_42 (dk_at dksX7_isUsed_0 0 rfl rfl)
theorem dX7_isUsed_1 : decode cX7_isUsed 1 = .ok (.getfield 18, 3) := dk_180 0 18 (dk_at dksX7_isUsed_0 1 rfl rfl)
theorem dX7_isUsed_4 : decode cX7_isUsed 4 = .ok (.getfield 140, 3) := dk_180 0 140 (dk_at dksX7_isUsed_0 4 rfl rfl)
theorem dX7_isUsed_7 : decode cX7_isUsed 7 = .ok (.aload_n 0, 1) := dk_42 (dk_at dksX7_isUsed_0 7 rfl rfl)
theorem dX7_isUsed_8 : decode cX7_isUsed 8 = .ok (.getfield 42, 3) := dk_180 0 42 (dk_at dksX7_isUsed_0 8 rfl rfl)
theorem dX7_isUsed_11 : decode cX7_isUsed 11 = .ok (.invokevirtual 143, 3) := dk_182 0 143 (dk_at dksX7_isUsed_0 11 rfl rfl)
theorem dX7_isUsed_14 : decode cX7_isUsed 14 = .ok (.ifCond .ne 33, 3) := dk_154 0 33 (dk_at dksX7_isUsed_0 14 rfl rfl)
theorem dX7_isUsed_17 : decode cX7_isUsed 17 = .ok (.aload_n 0, 1) := dk_42 (dk_at dksX7_isUsed_0 17 rfl rfl)
theorem dX7_isUsed_18 : decode cX7_isUsed 18 = .ok (.getfield 18, 3) := dk_180 0 18 (dk_at dksX7_isUsed_0 18 rfl rfl)
theorem dX7_isUsed_21 : decode cX7_isUsed 21 = .ok (.aload_n 0, 1) := dk_42 (dk_at dksX7_isUsed_0 21 rfl rfl)
theorem dX7_isUsed_22 : decode cX7_isUsed 22 = .ok (.getfield 42, 3) := dk_180 0 42 (dk_at dksX7_isUsed_1 0 rfl rfl)
theorem dX7_isUsed_25 : decode cX7_isUsed 25 = .ok (.invokevirtual 146, 3) := dk_182 0 146 (dk_at dksX7_isUsed_1 3 rfl rfl)
theorem dX7_isUsed_28 : decode cX7_isUsed 28 = .ok (.iconst (-1), 1) := dk_2 (dk_at dksX7_isUsed_1 6 rfl rfl)
theorem dX7_isUsed_29 : decode cX7_isUsed 29 = .ok (.if_icmp .ne 18, 3) := dk_160 0 18 (dk_at dksX7_isUsed_1 7 rfl rfl)
theorem dX7_isUsed_32 : decode cX7_isUsed 32 = .ok (.aload_n 0, 1) := dk_42 (dk_at dksX7_isUsed_1 10 rfl rfl)
theorem dX7_isUsed_33 : decode cX7_isUsed 33 = .ok (.getfield 18, 3) := dk_180 0 18 (dk_at dksX7_isUsed_1 11 rfl rfl)
theorem dX7_isUsed_36 : decode cX7_isUsed 36 = .ok (.aload_n 0, 1) := dk_42 (dk_at dksX7_isUsed_1 14 rfl rfl)
theorem dX7_isUsed_37 : decode cX7_isUsed 37 = .ok (.getfield 42, 3) := dk_180 0 42 (dk_at dksX7_isUsed_1 15 rfl rfl)
theorem dX7_isUsed_40 : decode cX7_isUsed 40 = .ok (.invokevirtual 150, 3) := dk_182 0 150 (dk_at dksX7_isUsed_1 18 rfl rfl)
theorem dX7_isUsed_43 : decode cX7_isUsed 43 = .ok (.iconst (-1), 1) := dk_2 (dk_at dksX7_isUsed_1 21 rfl rfl)
theorem dX7_isUsed_44 : decode cX7_isUsed 44 = .ok (.if_icmp .eq 7, 3) := dk_159 0 7 (dk_at dksX7_isUsed_2 0 rfl rfl)
theorem dX7_isUsed_47 : decode cX7_isUsed 47 = .ok (.iconst 1, 1) := dk_4 (dk_at dksX7_isUsed_2 3 rfl rfl)
theorem dX7_isUsed_48 : decode cX7_isUsed 48 = .ok (.goto 4, 3) := dk_167 0 4 (dk_at dksX7_isUsed_2 4 rfl rfl)
theorem dX7_isUsed_51 : decode cX7_isUsed 51 = .ok (.iconst 0, 1) := dk_3 (dk_at dksX7_isUsed_2 7 rfl rfl)
theorem dX7_isUsed_52 : decode cX7_isUsed 52 = .ok (.istore_n 1, 1) := dk_60 (dk_at dksX7_isUsed_2 8 rfl rfl)
theorem dX7_isUsed_53 : decode cX7_isUsed 53 = .ok (.iconst 0, 1) := dk_3 (dk_at dksX7_isUsed_2 9 rfl rfl)
theorem dX7_isUsed_54 : decode cX7_isUsed 54 = .ok (.istore_n 2, 1) := dk_61 (dk_at dksX7_isUsed_2 10 rfl rfl)
theorem dX7_isUsed_55 : decode cX7_isUsed 55 = .ok (.iload_n 2, 1) := dk_28 (dk_at dksX7_isUsed_2 11 rfl rfl)
theorem dX7_isUsed_56 : decode cX7_isUsed 56 = .ok (.aload_n 0, 1) := dk_42 (dk_at dksX7_isUsed_2 12 rfl rfl)
theorem dX7_isUsed_57 : decode cX7_isUsed 57 = .ok (.getfield 27, 3) := dk_180 0 27 (dk_at dksX7_isUsed_2 13 rfl rfl)
theorem dX7_isUsed_60 : decode cX7_isUsed 60 = .ok (.invokevirtual 153, 3) := dk_182 0 153 (dk_at dksX7_isUsed_2 16 rfl rfl)
theorem dX7_isUsed_63 : decode cX7_isUsed 63 = .ok (.if_icmp .ge 36, 3) := dk_162 0 36 (dk_at dksX7_isUsed_2 19 rfl rfl)
theorem dX7_isUsed_66 : decode cX7_isUsed 66 = .ok (.iload_n 1, 1) := dk_27 (dk_at dksX7_isUsed_2 22 rfl rfl)
theorem dX7_isUsed_67 : decode cX7_isUsed 67 = .ok (.aload_n 0, 1) := dk_42 (dk_at dksX7_isUsed_2 23 rfl rfl)
theorem dX7_isUsed_68 : decode cX7_isUsed 68 = .ok (.getfield 27, 3) := dk_180 0 27 (dk_at dksX7_isUsed_3 0 rfl rfl)
theorem dX7_isUsed_71 : decode cX7_isUsed 71 = .ok (.iload_n 2, 1) := dk_28 (dk_at dksX7_isUsed_3 3 rfl rfl)
theorem dX7_isUsed_72 : decode cX7_isUsed 72 = .ok (.invokevirtual 156, 3) := dk_182 0 156 (dk_at dksX7_isUsed_3 4 rfl rfl)
theorem dX7_isUsed_75 : decode cX7_isUsed 75 = .ok (.checkcast 160, 3) := dk_192 0 160 (dk_at dksX7_isUsed_3 7 rfl rfl)
theorem dX7_isUsed_78 : decode cX7_isUsed 78 = .ok (.getfield 162, 3) := dk_180 0 162 (dk_at dksX7_isUsed_3 10 rfl rfl)
theorem dX7_isUsed_81 : decode cX7_isUsed 81 = .ok (.getfield 166, 3) := dk_180 0 166 (dk_at dksX7_isUsed_3 13 rfl rfl)
theorem dX7_isUsed_84 : decode cX7_isUsed 84 = .ok (.aload_n 0, 1) := dk_42 (dk_at dksX7_isUsed_3 16 rfl rfl)
theorem dX7_isUsed_85 : decode cX7_isUsed 85 = .ok (.getfield 42, 3) := dk_180 0 42 (dk_at dksX7_isUsed_3 17 rfl rfl)
theorem dX7_isUsed_88 : decode cX7_isUsed 88 = .ok (.invokevirtual 115, 3) := dk_182 0 115 (dk_at dksX7_isUsed_3 20 rfl rfl)
theorem dX7_isUsed_91 : decode cX7_isUsed 91 = .ok (.ior, 1) := dk_128 (dk_at dksX7_isUsed_3 23 rfl rfl)
theorem dX7_isUsed_92 : decode cX7_isUsed 92 = .ok (.istore_n 1, 1) := dk_60 (dk_at dksX7_isUsed_4 0 rfl rfl)
theorem dX7_isUsed_93 : decode cX7_isUsed 93 = .ok (.iinc 2 1, 3) := dk_132 2 1 (dk_at dksX7_isUsed_4 1 rfl rfl)
theorem dX7_isUsed_96 : decode cX7_isUsed 96 = .ok (.goto (-41), 3) := dk_167 255 215 (dk_at dksX7_isUsed_4 4 rfl rfl)
theorem dX7_isUsed_99 : decode cX7_isUsed 99 = .ok (.iload_n 1, 1) := dk_27 (dk_at dksX7_isUsed_4 7 rfl rfl)
theorem dX7_isUsed_100 : decode cX7_isUsed 100 = .ok (.ireturn, 1) := dk_172 (dk_at dksX7_isUsed_4 8 rfl rfl)
def dkwX7_parseLoad_13 : List UInt8 := [21, 4, 21, 8, 42, 18, 250, 3, 16, 100, 182, 0, 186, 183, 0, 252, 182, 0, 203, 87, 177]
abbrev dktX7_parseLoad_13 : List UInt8 := dkwX7_parseLoad_13 ++ []
def dkwX7_parseLoad_12 : List UInt8 := [18, 246, 3, 21, 5, 182, 0, 186, 54, 8, 42, 180, 0, 18, 180, 0, 212, 187, 0, 248, 89, 44, 29]
abbrev dktX7_parseLoad_12 : List UInt8 := dkwX7_parseLoad_12 ++ dktX7_parseLoad_13
def dkwX7_parseLoad_11 : List UInt8 := [44, 29, 21, 4, 42, 18, 243, 3, 21, 5, 182, 0, 186, 183, 0, 245, 182, 0, 203, 87, 167, 0, 47, 42]
abbrev dktX7_parseLoad_11 : List UInt8 := dkwX7_parseLoad_11 ++ dktX7_parseLoad_12
def dkwX7_parseLoad_10 : List UInt8 := [182, 0, 186, 183, 0, 238, 182, 0, 203, 87, 167, 0, 81, 42, 180, 0, 18, 180, 0, 212, 187, 0, 241, 89]
abbrev dktX7_parseLoad_10 : List UInt8 := dkwX7_parseLoad_10 ++ dktX7_parseLoad_11
def dkwX7_parseLoad_9 : List UInt8 := [167, 0, 115, 42, 180, 0, 18, 180, 0, 212, 187, 0, 234, 89, 44, 29, 21, 4, 42, 18, 236, 3, 21, 5]
abbrev dktX7_parseLoad_9 : List UInt8 := dkwX7_parseLoad_9 ++ dktX7_parseLoad_10
def dkwX7_parseLoad_8 : List UInt8 := [42, 180, 0, 18, 180, 0, 212, 187, 0, 229, 89, 44, 29, 21, 4, 183, 0, 231, 182, 0, 203, 87]
abbrev dktX7_parseLoad_8 : List UInt8 := dkwX7_parseLoad_8 ++ dktX7_parseLoad_9
def dkwX7_parseLoad_7 : List UInt8 := [170, 0, 0, 0, 118, 0, 0, 0, 0, 0, 0, 0, 2, 0, 0, 0, 25, 0, 0, 0, 50, 0, 0, 0, 84]
abbrev dktX7_parseLoad_7 : List UInt8 := dkwX7_parseLoad_7 ++ dktX7_parseLoad_8
def dkwX7_parseLoad_6 : List UInt8 := [153, 0, 22, 4, 54, 7, 167, 0, 16, 25, 6, 18, 227, 182, 0, 115, 153, 0, 6, 5, 54, 7, 21, 7]
abbrev dktX7_parseLoad_6 : List UInt8 := dkwX7_parseLoad_6 ++ dktX7_parseLoad_7
def dkwX7_parseLoad_5 : List UInt8 := [25, 6, 18, 223, 182, 0, 115, 153, 0, 38, 3, 54, 7, 167, 0, 32, 25, 6, 18, 225, 182, 0, 115]
abbrev dktX7_parseLoad_5 : List UInt8 := dkwX7_parseLoad_5 ++ dktX7_parseLoad_6
def dkwX7_parseLoad_4 : List UInt8 := [171, 0, 0, 0, 0, 0, 80, 0, 0, 0, 3, 176, 159, 116, 82, 0, 0, 0, 67, 183, 53, 30, 157, 0, 0, 0, 35, 6, 52, 56, 117, 0, 0, 0, 51]
abbrev dktX7_parseLoad_4 : List UInt8 := dkwX7_parseLoad_4 ++ dktX7_parseLoad_5
def dkwX7_parseLoad_3 : List UInt8 := [182, 0, 220]
abbrev dktX7_parseLoad_3 : List UInt8 := dkwX7_parseLoad_3 ++ dktX7_parseLoad_4
def dkwX7_parseLoad_2 : List UInt8 := [182, 0, 186, 54, 4, 42, 180, 0, 18, 180, 0, 182, 4, 100, 54, 5, 43, 58, 6, 2, 54, 7, 25, 6]
abbrev dktX7_parseLoad_2 : List UInt8 := dkwX7_parseLoad_2 ++ dktX7_parseLoad_3
def dkwX7_parseLoad_1 : List UInt8 := [182, 0, 121, 42, 182, 0, 46, 42, 182, 0, 195, 77, 42, 182, 0, 215, 62, 42, 18, 218, 4, 17, 1, 244]
abbrev dktX7_parseLoad_1 : List UInt8 := dkwX7_parseLoad_1 ++ dktX7_parseLoad_2
def dkwX7_parseLoad_0 : List UInt8 := [42, 42, 180, 0, 18, 180, 0, 212, 182, 0, 153, 16, 12, 162, 0, 7, 4, 167, 0, 4, 3, 7]
abbrev dktX7_parseLoad_0 : List UInt8 := dkwX7_parseLoad_0 ++ dktX7_parseLoad_1
theorem dksX7_parseLoad_0 : cX7_parseLoad.data.toList.drop 0 = dktX7_parseLoad_0 := by decide +kernel
theorem dksX7_parseLoad_1 : cX7_parseLoad.data.toList.drop 22 = dktX7_parseLoad_1 := dk_seg dksX7_parseLoad_0 22 rfl rfl
theorem dksX7_parseLoad_2 : cX7_parseLoad.data.toList.drop 46 = dktX7_parseLoad_2 := dk_seg dksX7_parseLoad_1 24 rfl rfl
theorem dksX7_parseLoad_3 : cX7_parseLoad.data.toList.drop 70 = dktX7_parseLoad_3 := dk_seg dksX7_parseLoad_2 24 rfl rfl
theorem dksX7_parseLoad_4 : cX7_parseLoad.data.toList.drop 73 = dktX7_parseLoad_4 := dk_seg dksX7_parseLoad_3 3 rfl rfl
theorem dksX7_parseLoad_5 : cX7_parseLoad.data.toList.drop 108 = dktX7_parseLoad_5 := dk_seg dksX7_parseLoad_4 35 rfl rfl
theorem dksX7_parseLoad_6 : cX7_parseLoad.data.toList.drop 131 = dktX7_parseLoad_6 := dk_seg dksX7_parseLoad_5 23 rfl rfl
theorem dksX7_parseLoad_7 : cX7_parseLoad.data.toList.drop 155 = dktX7_parseLoad_7 := dk_seg dksX7_parseLoad_6 24 rfl rfl
theorem dksX7_parseLoad_8 : cX7_parseLoad.data.toList.drop 180 = dktX7_parseLoad_8 := dk_seg dksX7_parseLoad_7 25 rfl rfl
theorem dksX7_parseLoad_9 : cX7_parseLoad.data.toList.drop 202 = dktX7_parseLoad_9 := dk_seg dksX7_parseLoad_8 22 rfl rfl
theorem dksX7_parseLoad_10 : cX7_parseLoad.data.toList.drop 226 = dktX7_parseLoad_10 := dk_seg dksX7_parseLoad_9 24 rfl rfl
theorem dksX7_parseLoad_11 : cX7_parseLoad.data.toList.drop 250 = dktX7_parseLoad_11 := dk_seg dksX7_parseLoad_10 24 rfl rfl
theorem dksX7_parseLoad_12 : cX7_parseLoad.data.toList.drop 274 = dktX7_parseLoad_12 := dk_seg dksX7_parseLoad_11 24 rfl rfl
theorem dksX7_parseLoad_13 : cX7_parseLoad.data.toList.drop 297 = dktX7_parseLoad_13 := dk_seg dksX7_parseLoad_12 23 rfl rfl
theorem dX7_parseLoad_0 : decode cX7_parseLoad 0 = .ok (.aload_n 0, 1) := dk_42 (dk_at dksX7_parseLoad_0 0 rfl rfl)
theorem dX7_parseLoad_1 : decode cX7_parseLoad 1 = .ok (.aload_n 0, 1) := dk_42 (dk_at dksX7_parseLoad_0 1 rfl rfl)
theorem dX7_parseLoad_2 : decode cX7_parseLoad 2 = .ok (.getfield 18, 3) := dk_180 0 18 (dk_at dksX7_parseLoad_0 2 rfl rfl)
theorem dX7_parseLoad_5 : decode cX7_parseLoad 5 = .ok (.getfield 212, 3) := dk_180 0 212 (dk_at dksX7_parseLoad_0 5 rfl rfl)
theorem dX7_parseLoad_8 : decode cX7_parseLoad 8 = .ok (.invokevirtual 153, 3) := dk_182 0 153 (dk_at dksX7_parseLoad_0 8 rfl rfl)
theorem dX7_parseLoad_11 : decode cX7_parseLoad 11 = .ok (.bipush 12, 2) := dk_16 12 (dk_at dksX7_parseLoad_0 11 rfl rfl)
theorem dX7_parseLoad_13 : decode cX7_parseLoad 13 = .ok (.if_icmp .ge 7, 3) := dk_162 0 7 (dk_at dksX7_parseLoad_0 13 rfl rfl)
theorem dX7_parseLoad_16 : decode cX7_parseLoad 16 = .ok (.iconst 1, 1) := dk_4 (dk_at dksX7_parseLoad_0 16 rfl rfl)
theorem dX7_parseLoad_17 : decode cX7_parseLoad 17 = .ok (.goto 4, 3) := dk_167 0 4 (dk_at dksX7_parseLoad_0 17 rfl rfl)
theorem dX7_parseLoad_20 : decode cX7_parseLoad 20 = .ok (.iconst 0, 1) := dk_3 (dk_at dksX7_parseLoad_0 20 rfl rfl)
theorem dX7_parseLoad_21 : decode cX7_parseLoad 21 = .ok (.iconst 4, 1) := dk_7 (dk_at dksX7_parseLoad_0 21 rfl rfl)
theorem dX7_parseLoad_22 : decode cX7_parseLoad 22 = .ok (.invokevirtual 121, 3) := dk_182 0 121 (dk_at dksX7_parseLoad_1 0 rfl rfl)
theorem dX7_parseLoad_25 : decode cX7_parseLoad 25 = .ok (.aload_n 0, 1) := dk_42 (dk_at dksX7_parseLoad_1 3 rfl rfl)
theorem dX7_parseLoad_26 : decode cX7_parseLoad 26 = .ok (.invokevirtual 46, 3) := dk_182 0 46 (dk_at dksX7_parseLoad_1 4 rfl rfl)
theorem dX7_parseLoad_29 : decode cX7_parseLoad 29 = .ok (.aload_n 0, 1) := dk_42 (dk_at dksX7_parseLoad_1 7 rfl rfl)
theorem dX7_parseLoad_30 : decode cX7_parseLoad 30 = .ok (.invokevirtual 195, 3) := dk_182 0 195 (dk_at dksX7_parseLoad_1 8 rfl rfl)
theorem dX7_parseLoad_33 : decode cX7_parseLoad 33 = .ok (.astore_n 2, 1) := dk_77 (dk_at dksX7_parseLoad_1 11 rfl rfl)
theorem dX7_parseLoad_34 : decode cX7_parseLoad 34 = .ok (.aload_n 0, 1) := dk_42 (dk_at dksX7_parseLoad_1 12 rfl rfl)
theorem dX7_parseLoad_35 : decode cX7_parseLoad 35 = .ok (.invokevirtual 215, 3) := dk_182 0 215 (dk_at dksX7_parseLoad_1 13 rfl rfl)
theorem dX7_parseLoad_38 : decode cX7_parseLoad 38 = .ok (.istore_n 3, 1) := dk_62 (dk_at dksX7_parseLoad_1 16 rfl rfl)
theorem dX7_parseLoad_39 : decode cX7_parseLoad 39 = .ok (.aload_n 0, 1) := dk_42 (dk_at dksX7_parseLoad_1 17 rfl rfl)
theorem dX7_parseLoad_40 : decode cX7_parseLoad 40 = .ok (.ldc 218, 2) := dk_18 218 (dk_at dksX7_parseLoad_1 18 rfl rfl)
theorem dX7_parseLoad_42 : decode cX7_parseLoad 42 = .ok (.iconst 1, 1) := dk_4 (dk_at dksX7_parseLoad_1 20 rfl rfl)
theorem dX7_parseLoad_43 : decode cX7_parseLoad 43 = .ok (.sipush 500, 3) := dk_17 1 244 (dk_at dksX7_parseLoad_1 21 rfl rfl)
theorem dX7_parseLoad_46 : decode cX7_parseLoad 46 = .ok (.invokevirtual 186, 3) := dk_182 0 186 (dk_at dksX7_parseLoad_2 0 rfl rfl)
theorem dX7_parseLoad_49 : decode cX7_parseLoad 49 = .ok (.istore 4, 2) := dk_54 4 (dk_at dksX7_parseLoad_2 3 rfl rfl)
theorem dX7_parseLoad_51 : decode cX7_parseLoad 51 = .ok (.aload_n 0, 1) := dk_42 (dk_at dksX7_parseLoad_2 5 rfl rfl)
theorem dX7_parseLoad_52 : decode cX7_parseLoad 52 = .ok (.getfield 18, 3) := dk_180 0 18 (dk_at dksX7_parseLoad_2 6 rfl rfl)
theorem dX7_parseLoad_55 : decode cX7_parseLoad 55 = .ok (.getfield 182, 3) := dk_180 0 182 (dk_at dksX7_parseLoad_2 9 rfl rfl)
theorem dX7_parseLoad_58 : decode cX7_parseLoad 58 = .ok (.iconst 1, 1) := dk_4 (dk_at dksX7_parseLoad_2 12 rfl rfl)
theorem dX7_parseLoad_59 : decode cX7_parseLoad 59 = .ok (.isub, 1) := dk_100 (dk_at dksX7_parseLoad_2 13 rfl rfl)
theorem dX7_parseLoad_60 : decode cX7_parseLoad 60 = .ok (.istore 5, 2) := dk_54 5 (dk_at dksX7_parseLoad_2 14 rfl rfl)
theorem dX7_parseLoad_62 : decode cX7_parseLoad 62 = .ok (.aload_n 1, 1) := dk_43 (dk_at dksX7_parseLoad_2 16 rfl rfl)
theorem dX7_parseLoad_63 : decode cX7_parseLoad 63 = .ok (.astore 6, 2) := dk_58 6 (dk_at dksX7_parseLoad_2 17 rfl rfl)
theorem dX7_parseLoad_65 : decode cX7_parseLoad 65 = .ok (.iconst (-1), 1) := dk_2 (dk_at dksX7_parseLoad_2 19 rfl rfl)
theorem dX7_parseLoad_66 : decode cX7_parseLoad 66 = .ok (.istore 7, 2) := dk_54 7 (dk_at dksX7_parseLoad_2 20 rfl rfl)
theorem dX7_parseLoad_68 : decode cX7_parseLoad 68 = .ok (.aload 6, 2) := dk_25 6 (dk_at dksX7_parseLoad_2 22 rfl rfl)
theorem dX7_parseLoad_70 : decode cX7_parseLoad 70 = .ok (.invokevirtual 220, 3) := dk_182 0 220 (dk_at dksX7_parseLoad_3 0 rfl rfl)
theorem dX7_parseLoad_73 : decode cX7_parseLoad 73 = .ok (.lookupswitch 80 #[(-1331727278, 67), (-1221255523, 35), (104085621, 51)], 35) := by decide +kernel
theorem dX7_parseLoad_108 : decode cX7_parseLoad 108 = .ok (.aload 6, 2) := dk_25 6 (dk_at dksX7_parseLoad_5 0 rfl rfl)
theorem dX7_parseLoad_110 : decode cX7_parseLoad 110 = .ok (.ldc 223, 2) := dk_18 223 (dk_at dksX7_parseLoad_5 2 rfl rfl)
theorem dX7_parseLoad_112 : decode cX7_parseLoad 112 = .ok (.invokevirtual 115, 3) := dk_182 0 115 (dk_at dksX7_parseLoad_5 4 rfl rfl)
theorem dX7_parseLoad_115 : decode cX7_parseLoad 115 = .ok (.ifCond .eq 38, 3) := dk_153 0 38 (dk_at dksX7_parseLoad_5 7 rfl rfl)
theorem dX7_parseLoad_118 : decode cX7_parseLoad 118 = .ok (.iconst 0, 1) := dk_3 (dk_at dksX7_parseLoad_5 10 rfl rfl)
theorem dX7_parseLoad_119 : decode cX7_parseLoad 119 = .ok (.istore 7, 2) := dk_54 7 (dk_at dksX7_parseLoad_5 11 rfl rfl)
theorem dX7_parseLoad_121 : decode cX7_parseLoad 121 = .ok (.goto 32, 3) := dk_167 0 32 (dk_at dksX7_parseLoad_5 13 rfl rfl)
theorem dX7_parseLoad_124 : decode cX7_parseLoad 124 = .ok (.aload 6, 2) := dk_25 6 (dk_at dksX7_parseLoad_5 16 rfl rfl)
theorem dX7_parseLoad_126 : decode cX7_parseLoad 126 = .ok (.ldc 225, 2) := dk_18 225 (dk_at dksX7_parseLoad_5 18 rfl rfl)
theorem dX7_parseLoad_128 : decode cX7_parseLoad 128 = .ok (.invokevirtual 115, 3) := dk_182 0 115 (dk_at dksX7_parseLoad_5 20 rfl rfl)
theorem dX7_parseLoad_131 : decode cX7_parseLoad 131 = .ok (.ifCond .eq 22, 3) := dk_153 0 22 (dk_at dksX7_parseLoad_6 0 rfl rfl)
theorem dX7_parseLoad_134 : decode cX7_parseLoad 134 = .ok (.iconst 1, 1) := dk_4 (dk_at dksX7_parseLoad_6 3 rfl rfl)
theorem dX7_parseLoad_135 : decode cX7_parseLoad 135 = .ok (.istore 7, 2) := dk_54 7 (dk_at dksX7_parseLoad_6 4 rfl rfl)
theorem dX7_parseLoad_137 : decode cX7_parseLoad 137 = .ok (.goto 16, 3) := dk_167 0 16 (dk_at dksX7_parseLoad_6 6 rfl rfl)
theorem dX7_parseLoad_140 : decode cX7_parseLoad 140 = .ok (.aload 6, 2) := dk_25 6 (dk_at dksX7_parseLoad_6 9 rfl rfl)
theorem dX7_parseLoad_142 : decode cX7_parseLoad 142 = .ok (.ldc 227, 2) := dk_18 227 (dk_at dksX7_parseLoad_6 11 rfl rfl)
theorem dX7_parseLoad_144 : decode cX7_parseLoad 144 = .ok (.invokevirtual 115, 3) := dk_182 0 115 (dk_at dksX7_parseLoad_6 13 rfl rfl)
theorem dX7_parseLoad_147 : decode cX7_parseLoad 147 = .ok (.ifCond .eq 6, 3) := dk_153 0 6 (dk_at dksX7_parseLoad_6 16 rfl rfl)
theorem dX7_parseLoad_150 : decode cX7_parseLoad 150 = .ok (.iconst 2, 1) := dk_5 (dk_at dksX7_parseLoad_6 19 rfl rfl)
theorem dX7_parseLoad_151 : decode cX7_parseLoad 151 = .ok (.istore 7, 2) := dk_54 7 (dk_at dksX7_parseLoad_6 20 rfl rfl)
theorem dX7_parseLoad_153 : decode cX7_parseLoad 153 = .ok (.iload 7, 2) := dk_21 7 (dk_at dksX7_parseLoad_6 22 rfl rfl)
theorem dX7_parseLoad_155 : decode cX7_parseLoad 155 = .ok (.tableswitch 118 0 2 #[25, 50, 84], 25) := by decide +kernel
theorem dX7_parseLoad_180 : decode cX7_parseLoad 180 = .ok (.aload_n 0, 1) := dk_42 (dk_at dksX7_parseLoad_8 0 rfl rfl)
theorem dX7_parseLoad_181 : decode cX7_parseLoad 181 = .ok (.getfield 18, 3) := dk_180 0 18 (dk_at dksX7_parseLoad_8 1 rfl rfl)
theorem dX7_parseLoad_184 : decode cX7_parseLoad 184 = .ok (.getfield 212, 3) := dk_180 0 212 (dk_at dksX7_parseLoad_8 4 rfl rfl)
theorem dX7_parseLoad_187 : decode cX7_parseLoad 187 = .ok (.new 229, 3) := dk_187 0 229 (dk_at dksX7_parseLoad_8 7 rfl rfl)
theorem dX7_parseLoad_190 : decode cX7_parseLoad 190 = .ok (.dup, 1) := dk_89 (dk_at dksX7_parseLoad_8 10 rfl rfl)
theorem dX7_parseLoad_191 : decode cX7_parseLoad 191 = .ok (.aload_n 2, 1) := dk_44 (dk_at dksX7_parseLoad_8 11 rfl rfl)
theorem dX7_parseLoad_192 : decode cX7_parseLoad 192 = .ok (.iload_n 3, 1) := dk_29 (dk_at dksX7_parseLoad_8 12 rfl rfl)
theorem dX7_parseLoad_193 : decode cX7_parseLoad 193 = .ok (.iload 4, 2) := dk_21 4 (dk_at dksX7_parseLoad_8 13 rfl rfl)
theorem dX7_parseLoad_195 : decode cX7_parseLoad 195 = .ok (.invokespecial 231, 3) := dk_183 0 231 (dk_at dksX7_parseLoad_8 15 rfl rfl)
theorem dX7_parseLoad_198 : decode cX7_parseLoad 198 = .ok (.invokevirtual 203, 3) := dk_182 0 203 (dk_at dksX7_parseLoad_8 18 rfl rfl)
theorem dX7_parseLoad_201 : decode cX7_parseLoad 201 = .ok (.pop, 1) := dk_87 (dk_at dksX7_parseLoad_8 21 rfl rfl)
theorem dX7_parseLoad_202 : decode cX7_parseLoad 202 = .ok (.goto 115, 3) := dk_167 0 115 (dk_at dksX7_parseLoad_9 0 rfl rfl)
theorem dX7_parseLoad_205 : decode cX7_parseLoad 205 = .ok (.aload_n 0, 1) := dk_42 (dk_at dksX7_parseLoad_9 3 rfl rfl)
theorem dX7_parseLoad_206 : decode cX7_parseLoad 206 = .ok (.getfield 18, 3) := dk_180 0 18 (dk_at dksX7_parseLoad_9 4 rfl rfl)
theorem dX7_parseLoad_209 : decode cX7_parseLoad 209 = .ok (.getfield 212, 3) := dk_180 0 212 (dk_at dksX7_parseLoad_9 7 rfl rfl)
theorem dX7_parseLoad_212 : decode cX7_parseLoad 212 = .ok (.new 234, 3) := dk_187 0 234 (dk_at dksX7_parseLoad_9 10 rfl rfl)
theorem dX7_parseLoad_215 : decode cX7_parseLoad 215 = .ok (.dup, 1) := dk_89 (dk_at dksX7_parseLoad_9 13 rfl rfl)
theorem dX7_parseLoad_216 : decode cX7_parseLoad 216 = .ok (.aload_n 2, 1) := dk_44 (dk_at dksX7_parseLoad_9 14 rfl rfl)
theorem dX7_parseLoad_217 : decode cX7_parseLoad 217 = .ok (.iload_n 3, 1) := dk_29 (dk_at dksX7_parseLoad_9 15 rfl rfl)
theorem dX7_parseLoad_218 : decode cX7_parseLoad 218 = .ok (.iload 4, 2) := dk_21 4 (dk_at dksX7_parseLoad_9 16 rfl rfl)
theorem dX7_parseLoad_220 : decode cX7_parseLoad 220 = .ok (.aload_n 0, 1) := dk_42 (dk_at dksX7_parseLoad_9 18 rfl rfl)
theorem dX7_parseLoad_221 : decode cX7_parseLoad 221 = .ok (.ldc 236, 2) := dk_18 236 (dk_at dksX7_parseLoad_9 19 rfl rfl)
theorem dX7_parseLoad_223 : decode cX7_parseLoad 223 = .ok (.iconst 0, 1) := dk_3 (dk_at dksX7_parseLoad_9 21 rfl rfl)
theorem dX7_parseLoad_224 : decode cX7_parseLoad 224 = .ok (.iload 5, 2) := dk_21 5 (dk_at dksX7_parseLoad_9 22 rfl rfl)
theorem dX7_parseLoad_226 : decode cX7_parseLoad 226 = .ok (.invokevirtual 186, 3) := dk_182 0 186 (dk_at dksX7_parseLoad_10 0 rfl rfl)
theorem dX7_parseLoad_229 : decode cX7_parseLoad 229 = .ok (.invokespecial 238, 3) := dk_183 0 238 (dk_at dksX7_parseLoad_10 3 rfl rfl)
theorem dX7_parseLoad_232 : decode cX7_parseLoad 232 = .ok (.invokevirtual 203, 3) := dk_182 0 203 (dk_at dksX7_parseLoad_10 6 rfl rfl)
theorem dX7_parseLoad_235 : decode cX7_parseLoad 235 = .ok (.pop, 1) := dk_87 (dk_at dksX7_parseLoad_10 9 rfl rfl)
theorem dX7_parseLoad_236 : decode cX7_parseLoad 236 = .ok (.goto 81, 3) := dk_167 0 81 (dk_at dksX7_parseLoad_10 10 rfl rfl)
theorem dX7_parseLoad_239 : decode cX7_parseLoad 239 = .ok (.aload_n 0, 1) := dk_42 (dk_at dksX7_parseLoad_10 13 rfl rfl)
theorem dX7_parseLoad_240 : decode cX7_parseLoad 240 = .ok (.getfield 18, 3) := dk_180 0 18 (dk_at dksX7_parseLoad_10 14 rfl rfl)
theorem dX7_parseLoad_243 : decode cX7_parseLoad 243 = .ok (.getfield 212, 3) := dk_180 0 212 (dk_at dksX7_parseLoad_10 17 rfl rfl)
theorem dX7_parseLoad_246 : decode cX7_parseLoad 246 = .ok (.new 241, 3) := dk_187 0 241 (dk_at dksX7_parseLoad_10 20 rfl rfl)
theorem dX7_parseLoad_249 : decode cX7_parseLoad 249 = .ok (.dup, 1) := dk_89 (dk_at dksX7_parseLoad_10 23 rfl rfl)
theorem dX7_parseLoad_250 : decode cX7_parseLoad 250 = .ok (.aload_n 2, 1) := dk_44 (dk_at dksX7_parseLoad_11 0 rfl rfl)
theorem dX7_parseLoad_251 : decode cX7_parseLoad 251 = .ok (.iload_n 3, 1) := dk_29 (dk_at dksX7_parseLoad_11 1 rfl rfl)
theorem dX7_parseLoad_252 : decode cX7_parseLoad 252 = .ok (.iload 4, 2) := dk_21 4 (dk_at dksX7_parseLoad_11 2 rfl rfl)
theorem dX7_parseLoad_254 : decode cX7_parseLoad 254 = .ok (.aload_n 0, 1) := dk_42 (dk_at dksX7_parseLoad_11 4 rfl rfl)
theorem dX7_parseLoad_255 : decode cX7_parseLoad 255 = .ok (.ldc 243, 2) := dk_18 243 (dk_at dksX7_parseLoad_11 5 rfl rfl)
theorem dX7_parseLoad_257 : decode cX7_parseLoad 257 = .ok (.iconst 0, 1) := dk_3 (dk_at dksX7_parseLoad_11 7 rfl rfl)
theorem dX7_parseLoad_258 : decode cX7_parseLoad 258 = .ok (.iload 5, 2) := dk_21 5 (dk_at dksX7_parseLoad_11 8 rfl rfl)
theorem dX7_parseLoad_260 : decode cX7_parseLoad 260 = .ok (.invokevirtual 186, 3) := dk_182 0 186 (dk_at dksX7_parseLoad_11 10 rfl rfl)
theorem dX7_parseLoad_263 : decode cX7_parseLoad 263 = .ok (.invokespecial 245, 3) := dk_183 0 245 (dk_at dksX7_parseLoad_11 13 rfl rfl)
theorem dX7_parseLoad_266 : decode cX7_parseLoad 266 = .ok (.invokevirtual 203, 3) := dk_182 0 203 (dk_at dksX7_parseLoad_11 16 rfl rfl)
theorem dX7_parseLoad_269 : decode cX7_parseLoad 269 = .ok (.pop, 1) := dk_87 (dk_at dksX7_parseLoad_11 19 rfl rfl)
theorem dX7_parseLoad_270 : decode cX7_parseLoad 270 = .ok (.goto 47, 3) := dk_167 0 47 (dk_at dksX7_parseLoad_11 20 rfl rfl)
theorem dX7_parseLoad_273 : decode cX7_parseLoad 273 = .ok (.aload_n 0, 1) := dk_42 (dk_at dksX7_parseLoad_11 23 rfl rfl)
theorem dX7_parseLoad_274 : decode cX7_parseLoad 274 = .ok (.ldc 246, 2) := dk_18 246 (dk_at dksX7_parseLoad_12 0 rfl rfl)
theorem dX7_parseLoad_276 : decode cX7_parseLoad 276 = .ok (.iconst 0, 1) := dk_3 (dk_at dksX7_parseLoad_12 2 rfl rfl)
theorem dX7_parseLoad_277 : decode cX7_parseLoad 277 = .ok (.iload 5, 2) := dk_21 5 (dk_at dksX7_parseLoad_12 3 rfl rfl)
theorem dX7_parseLoad_279 : decode cX7_parseLoad 279 = .ok (.invokevirtual 186, 3) := dk_182 0 186 (dk_at dksX7_parseLoad_12 5 rfl rfl)
theorem dX7_parseLoad_282 : decode cX7_parseLoad 282 = .ok (.istore 8, 2) := dk_54 8 (dk_at dksX7_parseLoad_12 8 rfl rfl)
theorem dX7_parseLoad_284 : decode cX7_parseLoad 284 = .ok (.aload_n 0, 1) := dk_42 (dk_at dksX7_parseLoad_12 10 rfl rfl)
theorem dX7_parseLoad_285 : decode cX7_parseLoad 285 = .ok (.getfield 18, 3) := dk_180 0 18 (dk_at dksX7_parseLoad_12 11 rfl rfl)
theorem dX7_parseLoad_288 : decode cX7_parseLoad 288 = .ok (.getfield 212, 3) := dk_180 0 212 (dk_at dksX7_parseLoad_12 14 rfl rfl)
theorem dX7_parseLoad_291 : decode cX7_parseLoad 291 = .ok (.new 248, 3) := dk_187 0 248 (dk_at dksX7_parseLoad_12 17 rfl rfl)
theorem dX7_parseLoad_294 : decode cX7_parseLoad 294 = .ok (.dup, 1) := dk_89 (dk_at dksX7_parseLoad_12 20 rfl rfl)
theorem dX7_parseLoad_295 : decode cX7_parseLoad 295 = .ok (.aload_n 2, 1) := dk_44 (dk_at dksX7_parseLoad_12 21 rfl rfl)
theorem dX7_parseLoad_296 : decode cX7_parseLoad 296 = .ok (.iload_n 3, 1) := dk_29 (dk_at dksX7_parseLoad_12 22 rfl rfl)
theorem dX7_parseLoad_297 : decode cX7_parseLoad 297 = .ok (.iload 4, 2) := dk_21 4 (dk_at dksX7_parseLoad_13 0 rfl rfl)
theorem dX7_parseLoad_299 : decode cX7_parseLoad 299 = .ok (.iload 8, 2) := dk_21 8 (dk_at dksX7_parseLoad_13 2 rfl rfl)
theorem dX7_parseLoad_301 : decode cX7_parseLoad 301 = .ok (.aload_n 0, 1) := dk_42 (dk_at dksX7_parseLoad_13 4 rfl rfl)
theorem dX7_parseLoad_302 : decode cX7_parseLoad 302 = .ok (.ldc 250, 2) := dk_18 250 (dk_at dksX7_parseLoad_13 5 rfl rfl)
theorem dX7_parseLoad_304 : decode cX7_parseLoad 304 = .ok (.iconst 0, 1) := dk_3 (dk_at dksX7_parseLoad_13 7 rfl rfl)
theorem dX7_parseLoad_305 : decode cX7_parseLoad 305 = .ok (.bipush 100, 2) := dk_16 100 (dk_at dksX7_parseLoad_13 8 rfl rfl)
theorem dX7_parseLoad_307 : decode cX7_parseLoad 307 = .ok (.invokevirtual 186, 3) := dk_182 0 186 (dk_at dksX7_parseLoad_13 10 rfl rfl)
theorem dX7_parseLoad_310 : decode cX7_parseLoad 310 = .ok (.invokespecial 252, 3) := dk_183 0 252 (dk_at dksX7_parseLoad_13 13 rfl rfl)
theorem dX7_parseLoad_313 : decode cX7_parseLoad 313 = .ok (.invokevirtual 203, 3) := dk_182 0 203 (dk_at dksX7_parseLoad_13 16 rfl rfl)
theorem dX7_parseLoad_316 : decode cX7_parseLoad 316 = .ok (.pop, 1) := dk_87 (dk_at dksX7_parseLoad_13 19 rfl rfl)
theorem dX7_parseLoad_317 : decode cX7_parseLoad 317 = .ok (.return_, 1) := dk_177 (dk_at dksX7_parseLoad_13 20 rfl rfl)
def dkwX7_parseOf_1 : List UInt8 := [60, 42, 27, 2, 159, 0, 7, 4, 167, 0, 4, 3, 6, 182, 0, 121, 42, 182, 0, 46, 27, 172]
abbrev dktX7_parseOf_1 : List UInt8 := dkwX7_parseOf_1 ++ []
def dkwX7_parseOf_0 : List UInt8 := [42, 18, 206, 182, 0, 125, 42, 182, 0, 171, 42, 180, 0, 18, 180, 0, 140, 42, 180, 0, 42, 182, 0, 208]
abbrev dktX7_parseOf_0 : List UInt8 := dkwX7_parseOf_0 ++ dktX7_parseOf_1
theorem dksX7_parseOf_0 : cX7_parseOf.data.toList.drop 0 = dktX7_parseOf_0 := by decide +kernel
theorem dksX7_parseOf_1 : cX7_parseOf.data.toList.drop 24 = dktX7_parseOf_1 := dk_seg dksX7_parseOf_0 24 rfl rfl
theorem dX7_parseOf_0 : decode cX7_parseOf 0 = .ok (.aload_n 0, 1) := dk_42 (dk_at dksX7_parseOf_0 0 rfl rfl)
theorem dX7_parseOf_1 : decode cX7_parseOf 1 = .ok (.ldc 206, 2) := dk_18 206 (dk_at dksX7_parseOf_0 1 rfl rfl)
theorem dX7_parseOf_3 : decode cX7_parseOf 3 = .ok (.invokevirtual 125, 3) := dk_182 0 125 (dk_at dksX7_parseOf_0 3 rfl rfl)
theorem dX7_parseOf_6 : decode cX7_parseOf 6 = .ok (.aload_n 0, 1) := dk_42 (dk_at dksX7_parseOf_0 6 rfl rfl)
theorem dX7_parseOf_7 : decode cX7_parseOf 7 = .ok (.invokevirtual 171, 3) := dk_182 0 171 (dk_at dksX7_parseOf_0 7 rfl rfl)
theorem dX7_parseOf_10 : decode cX7_parseOf 10 = .ok (.aload_n 0, 1) := dk_42 (dk_at dksX7_parseOf_0 10 rfl rfl)
theorem dX7_parseOf_11 : decode cX7_parseOf 11 = .ok (.getfield 18, 3) := dk_180 0 18 (dk_at dksX7_parseOf_0 11 rfl rfl)
theorem dX7_parseOf_14 : decode cX7_parseOf 14 = .ok (.getfield 140, 3) := dk_180 0 140 (dk_at dksX7_parseOf_0 14 rfl rfl)
theorem dX7_parseOf_17 : decode cX7_parseOf 17 = .ok (.aload_n 0, 1) := dk_42 (dk_at dksX7_parseOf_0 17 rfl rfl)
theorem dX7_parseOf_18 : decode cX7_parseOf 18 = .ok (.getfield 42, 3) := dk_180 0 42 (dk_at dksX7_parseOf_0 18 rfl rfl)
theorem dX7_parseOf_21 : decode cX7_parseOf 21 = .ok (.invokevirtual 208, 3) := dk_182 0 208 (dk_at dksX7_parseOf_0 21 rfl rfl)
theorem dX7_parseOf_24 : decode cX7_parseOf 24 = .ok (.istore_n 1, 1) := dk_60 (dk_at dksX7_parseOf_1 0 rfl rfl)
theorem dX7_parseOf_25 : decode cX7_parseOf 25 = .ok (.aload_n 0, 1) := dk_42 (dk_at dksX7_parseOf_1 1 rfl rfl)
theorem dX7_parseOf_26 : decode cX7_parseOf 26 = .ok (.iload_n 1, 1) := dk_27 (dk_at dksX7_parseOf_1 2 rfl rfl)
theorem dX7_parseOf_27 : decode cX7_parseOf 27 = .ok (.iconst (-1), 1) := dk_2 (dk_at dksX7_parseOf_1 3 rfl rfl)
theorem dX7_parseOf_28 : decode cX7_parseOf 28 = .ok (.if_icmp .eq 7, 3) := dk_159 0 7 (dk_at dksX7_parseOf_1 4 rfl rfl)
theorem dX7_parseOf_31 : decode cX7_parseOf 31 = .ok (.iconst 1, 1) := dk_4 (dk_at dksX7_parseOf_1 7 rfl rfl)
theorem dX7_parseOf_32 : decode cX7_parseOf 32 = .ok (.goto 4, 3) := dk_167 0 4 (dk_at dksX7_parseOf_1 8 rfl rfl)
theorem dX7_parseOf_35 : decode cX7_parseOf 35 = .ok (.iconst 0, 1) := dk_3 (dk_at dksX7_parseOf_1 11 rfl rfl)
theorem dX7_parseOf_36 : decode cX7_parseOf 36 = .ok (.iconst 3, 1) := dk_6 (dk_at dksX7_parseOf_1 12 rfl rfl)
theorem dX7_parseOf_37 : decode cX7_parseOf 37 = .ok (.invokevirtual 121, 3) := dk_182 0 121 (dk_at dksX7_parseOf_1 13 rfl rfl)
theorem dX7_parseOf_40 : decode cX7_parseOf 40 = .ok (.aload_n 0, 1) := dk_42 (dk_at dksX7_parseOf_1 16 rfl rfl)
theorem dX7_parseOf_41 : decode cX7_parseOf 41 = .ok (.invokevirtual 46, 3) := dk_182 0 46 (dk_at dksX7_parseOf_1 17 rfl rfl)
theorem dX7_parseOf_44 : decode cX7_parseOf 44 = .ok (.iload_n 1, 1) := dk_27 (dk_at dksX7_parseOf_1 20 rfl rfl)
theorem dX7_parseOf_45 : decode cX7_parseOf 45 = .ok (.ireturn, 1) := dk_172 (dk_at dksX7_parseOf_1 21 rfl rfl)
def dkwX7_parseSeed_1 : List UInt8 := [42, 3, 19, 1, 8, 182, 0, 129, 133, 181, 0, 36, 177]
abbrev dktX7_parseSeed_1 : List UInt8 := dkwX7_parseSeed_1 ++ []
def dkwX7_parseSeed_0 : List UInt8 := [42, 42, 180, 0, 36, 9, 148, 156, 0, 7, 4, 167, 0, 4, 3, 6, 182, 0, 121, 42, 182, 0, 46, 42]
abbrev dktX7_parseSeed_0 : List UInt8 := dkwX7_parseSeed_0 ++ dktX7_parseSeed_1
theorem dksX7_parseSeed_0 : cX7_parseSeed.data.toList.drop 0 = dktX7_parseSeed_0 := by decide +kernel
theorem dksX7_parseSeed_1 : cX7_parseSeed.data.toList.drop 24 = dktX7_parseSeed_1 := dk_seg dksX7_parseSeed_0 24 rfl rfl
theorem dX7_parseSeed_0 : decode cX7_parseSeed 0 = .ok (.aload_n 0, 1) := dk_42 (dk_at dksX7_parseSeed_0 0 rfl rfl)
theorem dX7_parseSeed_1 : decode cX7_parseSeed 1 = .ok (.aload_n 0, 1) := dk_42 (dk_at dksX7_parseSeed_0 1 rfl rfl)
theorem dX7_parseSeed_2 : decode cX7_parseSeed 2 = .ok (.getfield 36, 3) := dk_180 0 36 (dk_at dksX7_parseSeed_0 2 rfl rfl)
theorem dX7_parseSeed_5 : decode cX7_parseSeed 5 = .ok (.lconst 0, 1) := dk_9 (dk_at dksX7_parseSeed_0 5 rfl rfl)
theorem dX7_parseSeed_6 : decode cX7_parseSeed 6 = .ok (.lcmp, 1) := dk_148 (dk_at dksX7_parseSeed_0 6 rfl rfl)
theorem dX7_parseSeed_7 : decode cX7_parseSeed 7 = .ok (.ifCond .ge 7, 3) := dk_156 0 7 (dk_at dksX7_parseSeed_0 7 rfl rfl)
theorem dX7_parseSeed_10 : decode cX7_parseSeed 10 = .ok (.iconst 1, 1) := dk_4 (dk_at dksX7_parseSeed_0 10 rfl rfl)
theorem dX7_parseSeed_11 : decode cX7_parseSeed 11 = .ok (.goto 4, 3) := dk_167 0 4 (dk_at dksX7_parseSeed_0 11 rfl rfl)
theorem dX7_parseSeed_14 : decode cX7_parseSeed 14 = .ok (.iconst 0, 1) := dk_3 (dk_at dksX7_parseSeed_0 14 rfl rfl)
theorem dX7_parseSeed_15 : decode cX7_parseSeed 15 = .ok (.iconst 3, 1) := dk_6 (dk_at dksX7_parseSeed_0 15 rfl rfl)
theorem dX7_parseSeed_16 : decode cX7_parseSeed 16 = .ok (.invokevirtual 121, 3) := dk_182 0 121 (dk_at dksX7_parseSeed_0 16 rfl rfl)
theorem dX7_parseSeed_19 : decode cX7_parseSeed 19 = .ok (.aload_n 0, 1) := dk_42 (dk_at dksX7_parseSeed_0 19 rfl rfl)
theorem dX7_parseSeed_20 : decode cX7_parseSeed 20 = .ok (.invokevirtual 46, 3) := dk_182 0 46 (dk_at dksX7_parseSeed_0 20 rfl rfl)
theorem dX7_parseSeed_23 : decode cX7_parseSeed 23 = .ok (.aload_n 0, 1) := dk_42 (dk_at dksX7_parseSeed_0 23 rfl rfl)
theorem dX7_parseSeed_24 : decode cX7_parseSeed 24 = .ok (.aload_n 0, 1) := dk_42 (dk_at dksX7_parseSeed_1 0 rfl rfl)
theorem dX7_parseSeed_25 : decode cX7_parseSeed 25 = .ok (.iconst 0, 1) := dk_3 (dk_at dksX7_parseSeed_1 1 rfl rfl)
theorem dX7_parseSeed_26 : decode cX7_parseSeed 26 = .ok (.ldc_w 264, 3) := dk_19 1 8 (dk_at dksX7_parseSeed_1 2 rfl rfl)
theorem dX7_parseSeed_29 : decode cX7_parseSeed 29 = .ok (.invokevirtual 129, 3) := dk_182 0 129 (dk_at dksX7_parseSeed_1 5 rfl rfl)
theorem dX7_parseSeed_32 : decode cX7_parseSeed 32 = .ok (.i2l, 1) := dk_133 (dk_at dksX7_parseSeed_1 8 rfl rfl)
theorem dX7_parseSeed_33 : decode cX7_parseSeed 33 = .ok (.putfield 36, 3) := dk_181 0 36 (dk_at dksX7_parseSeed_1 9 rfl rfl)
theorem dX7_parseSeed_36 : decode cX7_parseSeed 36 = .ok (.return_, 1) := dk_177 (dk_at dksX7_parseSeed_1 12 rfl rfl)
def dkwX7_parseSignature_2 : List UInt8 := [183, 1, 29, 77, 42, 44, 182, 1, 32, 42, 180, 0, 18, 180, 1, 24, 44, 182, 0, 203, 87, 177]
abbrev dktX7_parseSignature_2 : List UInt8 := dkwX7_parseSignature_2 ++ []
def dkwX7_parseSignature_1 : List UInt8 := [182, 0, 121, 42, 182, 0, 46, 42, 182, 0, 195, 76, 187, 0, 167, 89, 43, 42, 19, 1, 27, 182, 1, 21]
abbrev dktX7_parseSignature_1 : List UInt8 := dkwX7_parseSignature_1 ++ dktX7_parseSignature_2
def dkwX7_parseSignature_0 : List UInt8 := [42, 42, 180, 0, 18, 180, 1, 24, 182, 0, 153, 16, 6, 162, 0, 7, 4, 167, 0, 4, 3, 7]
abbrev dktX7_parseSignature_0 : List UInt8 := dkwX7_parseSignature_0 ++ dktX7_parseSignature_1
theorem dksX7_parseSignature_0 : cX7_parseSignature.data.toList.drop 0 = dktX7_parseSignature_0 := by decide +kernel
theorem dksX7_parseSignature_1 : cX7_parseSignature.data.toList.drop 22 = dktX7_parseSignature_1 := dk_seg dksX7_parseSignature_0 22 rfl rfl
theorem dksX7_parseSignature_2 : cX7_parseSignature.data.toList.drop 46 = dktX7_parseSignature_2 := dk_seg dksX7_parseSignature_1 24 rfl rfl
theorem dX7_parseSignature_0 : decode cX7_parseSignature 0 = .ok (.aload_n 0, 1) := dk_42 (dk_at dksX7_parseSignature_0 0 rfl rfl)
theorem dX7_parseSignature_1 : decode cX7_parseSignature 1 = .ok (.aload_n 0, 1) := dk_42 (dk_at dksX7_parseSignature_0 1 rfl rfl)
theorem dX7_parseSignature_2 : decode cX7_parseSignature 2 = .ok (.getfield 18, 3) := dk_180 0 18 (dk_at dksX7_parseSignature_0 2 rfl rfl)
theorem dX7_parseSignature_5 : decode cX7_parseSignature 5 = .ok (.getfield 280, 3) := dk_180 1 24 (dk_at dksX7_parseSignature_0 5 rfl rfl)
theorem dX7_parseSignature_8 : decode cX7_parseSignature 8 = .ok (.invokevirtual 153, 3) := dk_182 0 153 (dk_at dksX7_parseSignature_0 8 rfl rfl)
theorem dX7_parseSignature_11 : decode cX7_parseSignature 11 = .ok (.bipush 6, 2) := dk_16 6 (dk_at dksX7_parseSignature_0 11 rfl rfl)
theorem dX7_parseSignature_13 : decode cX7_parseSignature 13 = .ok (.if_icmp .ge 7, 3) := dk_162 0 7 (dk_at dksX7_parseSignature_0 13 rfl rfl)
theorem dX7_parseSignature_16 : decode cX7_parseSignature 16 = .ok (.iconst 1, 1) := dk_4 (dk_at dksX7_parseSignature_0 16 rfl rfl)
theorem dX7_parseSignature_17 : decode cX7_parseSignature 17 = .ok (.goto 4, 3) := dk_167 0 4 (dk_at dksX7_parseSignature_0 17 rfl rfl)
theorem dX7_parseSignature_20 : decode cX7_parseSignature 20 = .ok (.iconst 0, 1) := dk_3 (dk_at dksX7_parseSignature_0 20 rfl rfl)
theorem dX7_parseSignature_21 : decode cX7_parseSignature 21 = .ok (.iconst 4, 1) := dk_7 (dk_at dksX7_parseSignature_0 21 rfl rfl)
theorem dX7_parseSignature_22 : decode cX7_parseSignature 22 = .ok (.invokevirtual 121, 3) := dk_182 0 121 (dk_at dksX7_parseSignature_1 0 rfl rfl)
theorem dX7_parseSignature_25 : decode cX7_parseSignature 25 = .ok (.aload_n 0, 1) := dk_42 (dk_at dksX7_parseSignature_1 3 rfl rfl)
theorem dX7_parseSignature_26 : decode cX7_parseSignature 26 = .ok (.invokevirtual 46, 3) := dk_182 0 46 (dk_at dksX7_parseSignature_1 4 rfl rfl)
theorem dX7_parseSignature_29 : decode cX7_parseSignature 29 = .ok (.aload_n 0, 1) := dk_42 (dk_at dksX7_parseSignature_1 7 rfl rfl)
theorem dX7_parseSignature_30 : decode cX7_parseSignature 30 = .ok (.invokevirtual 195, 3) := dk_182 0 195 (dk_at dksX7_parseSignature_1 8 rfl rfl)
theorem dX7_parseSignature_33 : decode cX7_parseSignature 33 = .ok (.astore_n 1, 1) := dk_76 (dk_at dksX7_parseSignature_1 11 rfl rfl)
theorem dX7_parseSignature_34 : decode cX7_parseSignature 34 = .ok (.new 167, 3) := dk_187 0 167 (dk_at dksX7_parseSignature_1 12 rfl rfl)
theorem dX7_parseSignature_37 : decode cX7_parseSignature 37 = .ok (.dup, 1) := dk_89 (dk_at dksX7_parseSignature_1 15 rfl rfl)
theorem dX7_parseSignature_38 : decode cX7_parseSignature 38 = .ok (.aload_n 1, 1) := dk_43 (dk_at dksX7_parseSignature_1 16 rfl rfl)
theorem dX7_parseSignature_39 : decode cX7_parseSignature 39 = .ok (.aload_n 0, 1) := dk_42 (dk_at dksX7_parseSignature_1 17 rfl rfl)
theorem dX7_parseSignature_40 : decode cX7_parseSignature 40 = .ok (.ldc_w 283, 3) := dk_19 1 27 (dk_at dksX7_parseSignature_1 18 rfl rfl)
theorem dX7_parseSignature_43 : decode cX7_parseSignature 43 = .ok (.invokevirtual 277, 3) := dk_182 1 21 (dk_at dksX7_parseSignature_1 21 rfl rfl)
theorem dX7_parseSignature_46 : decode cX7_parseSignature 46 = .ok (.invokespecial 285, 3) := dk_183 1 29 (dk_at dksX7_parseSignature_2 0 rfl rfl)
theorem dX7_parseSignature_49 : decode cX7_parseSignature 49 = .ok (.astore_n 2, 1) := dk_77 (dk_at dksX7_parseSignature_2 3 rfl rfl)
theorem dX7_parseSignature_50 : decode cX7_parseSignature 50 = .ok (.aload_n 0, 1) := dk_42 (dk_at dksX7_parseSignature_2 4 rfl rfl)
theorem dX7_parseSignature_51 : decode cX7_parseSignature 51 = .ok (.aload_n 2, 1) := dk_44 (dk_at dksX7_parseSignature_2 5 rfl rfl)
theorem dX7_parseSignature_52 : decode cX7_parseSignature 52 = .ok (.invokevirtual 288, 3) := dk_182 1 32 (dk_at dksX7_parseSignature_2 6 rfl rfl)
theorem dX7_parseSignature_55 : decode cX7_parseSignature 55 = .ok (.aload_n 0, 1) := dk_42 (dk_at dksX7_parseSignature_2 9 rfl rfl)
theorem dX7_parseSignature_56 : decode cX7_parseSignature 56 = .ok (.getfield 18, 3) := dk_180 0 18 (dk_at dksX7_parseSignature_2 10 rfl rfl)
theorem dX7_parseSignature_59 : decode cX7_parseSignature 59 = .ok (.getfield 280, 3) := dk_180 1 24 (dk_at dksX7_parseSignature_2 13 rfl rfl)
theorem dX7_parseSignature_62 : decode cX7_parseSignature 62 = .ok (.aload_n 2, 1) := dk_44 (dk_at dksX7_parseSignature_2 16 rfl rfl)
theorem dX7_parseSignature_63 : decode cX7_parseSignature 63 = .ok (.invokevirtual 203, 3) := dk_182 0 203 (dk_at dksX7_parseSignature_2 17 rfl rfl)
theorem dX7_parseSignature_66 : decode cX7_parseSignature 66 = .ok (.pop, 1) := dk_87 (dk_at dksX7_parseSignature_2 20 rfl rfl)
theorem dX7_parseSignature_67 : decode cX7_parseSignature 67 = .ok (.return_, 1) := dk_177 (dk_at dksX7_parseSignature_2 21 rfl rfl)
def dkwX7_accepts_0 : List UInt8 := [42, 180, 0, 42, 43, 182, 0, 115, 61, 28, 153, 0, 7, 42, 182, 0, 46, 28, 172]
abbrev dktX7_accepts_0 : List UInt8 := dkwX7_accepts_0 ++ []
theorem dksX7_accepts_0 : cX7_accepts.data.toList.drop 0 = dktX7_accepts_0 := by decide +kernel
theorem dX7_accepts_0 : decode cX7_accepts 0 = .ok (.aload_n 0, 1) := dk_42 (dk_at dksX7_accepts_0 0 rfl rfl)
theorem dX7_accepts_1 : decode cX7_accepts 1 = .ok (.getfield 42, 3) := dk_180 0 42 (dk_at dksX7_accepts_0 1 rfl rfl)
theorem dX7_accepts_4 : decode cX7_accepts 4 = .ok (.aload_n 1, 1) := dk_43 (dk_at dksX7_accepts_0 4 rfl rfl)
theorem dX7_accepts_5 : decode cX7_accepts 5 = .ok (.invokevirtual 115, 3) := dk_182 0 115 (dk_at dksX7_accepts_0 5 rfl rfl)
theorem dX7_accepts_8 : decode cX7_accepts 8 = .ok (.istore_n 2, 1) := dk_61 (dk_at dksX7_accepts_0 8 rfl rfl)
theorem dX7_accepts_9 : decode cX7_accepts 9 = .ok (.iload_n 2, 1) := dk_28 (dk_at dksX7_accepts_0 9 rfl rfl)
theorem dX7_accepts_10 : decode cX7_accepts 10 = .ok (.ifCond .eq 7, 3) := dk_153 0 7 (dk_at dksX7_accepts_0 10 rfl rfl)
theorem dX7_accepts_13 : decode cX7_accepts 13 = .ok (.aload_n 0, 1) := dk_42 (dk_at dksX7_accepts_0 13 rfl rfl)
theorem dX7_accepts_14 : decode cX7_accepts 14 = .ok (.invokevirtual 46, 3) := dk_182 0 46 (dk_at dksX7_accepts_0 14 rfl rfl)
theorem dX7_accepts_17 : decode cX7_accepts 17 = .ok (.iload_n 2, 1) := dk_28 (dk_at dksX7_accepts_0 17 rfl rfl)
theorem dX7_accepts_18 : decode cX7_accepts 18 = .ok (.ireturn, 1) := dk_172 (dk_at dksX7_accepts_0 18 rfl rfl)
def dkwX7_parseTests_2 : List UInt8 := [42, 182, 1, 15, 182, 0, 203, 87, 42, 19, 1, 19, 182, 1, 21, 154, 255, 194, 177]
abbrev dktX7_parseTests_2 : List UInt8 := dkwX7_parseTests_2 ++ []
def dkwX7_parseTests_1 : List UInt8 := [180, 1, 12, 182, 0, 153, 16, 6, 162, 0, 7, 4, 167, 0, 4, 3, 7, 182, 0, 121, 43, 180, 1, 12]
abbrev dktX7_parseTests_1 : List UInt8 := dkwX7_parseTests_1 ++ dktX7_parseTests_2
def dkwX7_parseTests_0 : List UInt8 := [42, 42, 180, 0, 42, 184, 0, 255, 2, 159, 0, 7, 4, 167, 0, 4, 3, 4, 182, 0, 121, 42, 43]
abbrev dktX7_parseTests_0 : List UInt8 := dkwX7_parseTests_0 ++ dktX7_parseTests_1
theorem dksX7_parseTests_0 : cX7_parseTests.data.toList.drop 0 = dktX7_parseTests_0 := by decide +kernel
theorem dksX7_parseTests_1 : cX7_parseTests.data.toList.drop 23 = dktX7_parseTests_1 := dk_seg dksX7_parseTests_0 23 rfl rfl
theorem dksX7_parseTests_2 : cX7_parseTests.data.toList.drop 47 = dktX7_parseTests_2 := dk_seg dksX7_parseTests_1 24 rfl rfl
theorem dX7_parseTests_0 : decode cX7_parseTests 0 = .ok (.aload_n 0, 1) := dk_42 (dk_at dksX7_parseTests_0 0 rfl rfl)
theorem dX7_parseTests_1 : decode cX7_parseTests 1 = .ok (.aload_n 0, 1) := dk_42 (dk_at dksX7_parseTests_0 1 rfl rfl)
theorem dX7_parseTests_2 : decode cX7_parseTests 2 = .ok (.getfield 42, 3) := dk_180 0 42 (dk_at dksX7_parseTests_0 2 rfl rfl)
theorem dX7_parseTests_5 : decode cX7_parseTests 5 = .ok (.invokestatic 255, 3) := dk_184 0 255 (dk_at dksX7_parseTests_0 5 rfl rfl)
theorem dX7_parseTests_8 : decode cX7_parseTests 8 = .ok (.iconst (-1), 1) := dk_2 (dk_at dksX7_parseTests_0 8 rfl rfl)
theorem dX7_parseTests_9 : decode cX7_parseTests 9 = .ok (.if_icmp .eq 7, 3) := dk_159 0 7 (dk_at dksX7_parseTests_0 9 rfl rfl)
theorem dX7_parseTests_12 : decode cX7_parseTests 12 = .ok (.iconst 1, 1) := dk_4 (dk_at dksX7_parseTests_0 12 rfl rfl)
theorem dX7_parseTests_13 : decode cX7_parseTests 13 = .ok (.goto 4, 3) := dk_167 0 4 (dk_at dksX7_parseTests_0 13 rfl rfl)
theorem dX7_parseTests_16 : decode cX7_parseTests 16 = .ok (.iconst 0, 1) := dk_3 (dk_at dksX7_parseTests_0 16 rfl rfl)
theorem dX7_parseTests_17 : decode cX7_parseTests 17 = .ok (.iconst 1, 1) := dk_4 (dk_at dksX7_parseTests_0 17 rfl rfl)
theorem dX7_parseTests_18 : decode cX7_parseTests 18 = .ok (.invokevirtual 121, 3) := dk_182 0 121 (dk_at dksX7_parseTests_0 18 rfl rfl)
theorem dX7_parseTests_21 : decode cX7_parseTests 21 = .ok (.aload_n 0, 1) := dk_42 (dk_at dksX7_parseTests_0 21 rfl rfl)
theorem dX7_parseTests_22 : decode cX7_parseTests 22 = .ok (.aload_n 1, 1) := dk_43 (dk_at dksX7_parseTests_0 22 rfl rfl)
theorem dX7_parseTests_23 : decode cX7_parseTests 23 = .ok (.getfield 268, 3) := dk_180 1 12 (dk_at dksX7_parseTests_1 0 rfl rfl)
theorem dX7_parseTests_26 : decode cX7_parseTests 26 = .ok (.invokevirtual 153, 3) := dk_182 0 153 (dk_at dksX7_parseTests_1 3 rfl rfl)
theorem dX7_parseTests_29 : decode cX7_parseTests 29 = .ok (.bipush 6, 2) := dk_16 6 (dk_at dksX7_parseTests_1 6 rfl rfl)
theorem dX7_parseTests_31 : decode cX7_parseTests 31 = .ok (.if_icmp .ge 7, 3) := dk_162 0 7 (dk_at dksX7_parseTests_1 8 rfl rfl)
theorem dX7_parseTests_34 : decode cX7_parseTests 34 = .ok (.iconst 1, 1) := dk_4 (dk_at dksX7_parseTests_1 11 rfl rfl)
theorem dX7_parseTests_35 : decode cX7_parseTests 35 = .ok (.goto 4, 3) := dk_167 0 4 (dk_at dksX7_parseTests_1 12 rfl rfl)
theorem dX7_parseTests_38 : decode cX7_parseTests 38 = .ok (.iconst 0, 1) := dk_3 (dk_at dksX7_parseTests_1 15 rfl rfl)
theorem dX7_parseTests_39 : decode cX7_parseTests 39 = .ok (.iconst 4, 1) := dk_7 (dk_at dksX7_parseTests_1 16 rfl rfl)
theorem dX7_parseTests_40 : decode cX7_parseTests 40 = .ok (.invokevirtual 121, 3) := dk_182 0 121 (dk_at dksX7_parseTests_1 17 rfl rfl)
theorem dX7_parseTests_43 : decode cX7_parseTests 43 = .ok (.aload_n 1, 1) := dk_43 (dk_at dksX7_parseTests_1 20 rfl rfl)
theorem dX7_parseTests_44 : decode cX7_parseTests 44 = .ok (.getfield 268, 3) := dk_180 1 12 (dk_at dksX7_parseTests_1 21 rfl rfl)
theorem dX7_parseTests_47 : decode cX7_parseTests 47 = .ok (.aload_n 0, 1) := dk_42 (dk_at dksX7_parseTests_2 0 rfl rfl)
theorem dX7_parseTests_48 : decode cX7_parseTests 48 = .ok (.invokevirtual 271, 3) := dk_182 1 15 (dk_at dksX7_parseTests_2 1 rfl rfl)
theorem dX7_parseTests_51 : decode cX7_parseTests 51 = .ok (.invokevirtual 203, 3) := dk_182 0 203 (dk_at dksX7_parseTests_2 4 rfl rfl)
theorem dX7_parseTests_54 : decode cX7_parseTests 54 = .ok (.pop, 1) := dk_87 (dk_at dksX7_parseTests_2 7 rfl rfl)
theorem dX7_parseTests_55 : decode cX7_parseTests 55 = .ok (.aload_n 0, 1) := dk_42 (dk_at dksX7_parseTests_2 8 rfl rfl)
theorem dX7_parseTests_56 : decode cX7_parseTests 56 = .ok (.ldc_w 275, 3) := dk_19 1 19 (dk_at dksX7_parseTests_2 9 rfl rfl)
theorem dX7_parseTests_59 : decode cX7_parseTests 59 = .ok (.invokevirtual 277, 3) := dk_182 1 21 (dk_at dksX7_parseTests_2 12 rfl rfl)
theorem dX7_parseTests_62 : decode cX7_parseTests 62 = .ok (.ifCond .ne (-62), 3) := dk_154 255 194 (dk_at dksX7_parseTests_2 15 rfl rfl)
theorem dX7_parseTests_65 : decode cX7_parseTests 65 = .ok (.return_, 1) := dk_177 (dk_at dksX7_parseTests_2 18 rfl rfl)
def dkwX7_parseTest_2 : List UInt8 := [187, 1, 6, 89, 27, 28, 42, 3, 19, 1, 8, 182, 0, 129, 183, 1, 9, 176]
abbrev dktX7_parseTest_2 : List UInt8 := dkwX7_parseTest_2 ++ []
def dkwX7_parseTest_1 : List UInt8 := [42, 16, 62, 182, 1, 2, 153, 0, 7, 4, 167, 0, 4, 3, 4, 182, 0, 121, 42, 182, 0, 46]
abbrev dktX7_parseTest_1 : List UInt8 := dkwX7_parseTest_1 ++ dktX7_parseTest_2
def dkwX7_parseTest_0 : List UInt8 := [42, 180, 0, 42, 184, 0, 255, 60, 42, 182, 0, 46, 42, 16, 60, 182, 1, 2, 61, 42, 28, 154, 0, 12]
abbrev dktX7_parseTest_0 : List UInt8 := dkwX7_parseTest_0 ++ dktX7_parseTest_1
theorem dksX7_parseTest_0 : cX7_parseTest.data.toList.drop 0 = dktX7_parseTest_0 := by decide +kernel
theorem dksX7_parseTest_1 : cX7_parseTest.data.toList.drop 24 = dktX7_parseTest_1 := dk_seg dksX7_parseTest_0 24 rfl rfl
theorem dksX7_parseTest_2 : cX7_parseTest.data.toList.drop 46 = dktX7_parseTest_2 := dk_seg dksX7_parseTest_1 22 rfl rfl
theorem dX7_parseTest_0 : decode cX7_parseTest 0 = .ok (.aload_n 0, 1) := dk_42 (dk_at dksX7_parseTest_0 0 rfl rfl)
theorem dX7_parseTest_1 : decode cX7_parseTest 1 = .ok (.getfield 42, 3) := dk_180 0 42 (dk_at dksX7_parseTest_0 1 rfl rfl)
theorem dX7_parseTest_4 : decode cX7_parseTest 4 = .ok (.invokestatic 255, 3) := dk_184 0 255 (dk_at dksX7_parseTest_0 4 rfl rfl)
theorem dX7_parseTest_7 : decode cX7_parseTest 7 = .ok (.istore_n 1, 1) := dk_60 (dk_at dksX7_parseTest_0 7 rfl rfl)
theorem dX7_parseTest_8 : decode cX7_parseTest 8 = .ok (.aload_n 0, 1) := dk_42 (dk_at dksX7_parseTest_0 8 rfl rfl)
theorem dX7_parseTest_9 : decode cX7_parseTest 9 = .ok (.invokevirtual 46, 3) := dk_182 0 46 (dk_at dksX7_parseTest_0 9 rfl rfl)
theorem dX7_parseTest_12 : decode cX7_parseTest 12 = .ok (.aload_n 0, 1) := dk_42 (dk_at dksX7_parseTest_0 12 rfl rfl)
theorem dX7_parseTest_13 : decode cX7_parseTest 13 = .ok (.bipush 60, 2) := dk_16 60 (dk_at dksX7_parseTest_0 13 rfl rfl)
theorem dX7_parseTest_15 : decode cX7_parseTest 15 = .ok (.invokevirtual 258, 3) := dk_182 1 2 (dk_at dksX7_parseTest_0 15 rfl rfl)
theorem dX7_parseTest_18 : decode cX7_parseTest 18 = .ok (.istore_n 2, 1) := dk_61 (dk_at dksX7_parseTest_0 18 rfl rfl)
theorem dX7_parseTest_19 : decode cX7_parseTest 19 = .ok (.aload_n 0, 1) := dk_42 (dk_at dksX7_parseTest_0 19 rfl rfl)
theorem dX7_parseTest_20 : decode cX7_parseTest 20 = .ok (.iload_n 2, 1) := dk_28 (dk_at dksX7_parseTest_0 20 rfl rfl)
theorem dX7_parseTest_21 : decode cX7_parseTest 21 = .ok (.ifCond .ne 12, 3) := dk_154 0 12 (dk_at dksX7_parseTest_0 21 rfl rfl)
theorem dX7_parseTest_24 : decode cX7_parseTest 24 = .ok (.aload_n 0, 1) := dk_42 (dk_at dksX7_parseTest_1 0 rfl rfl)
theorem dX7_parseTest_25 : decode cX7_parseTest 25 = .ok (.bipush 62, 2) := dk_16 62 (dk_at dksX7_parseTest_1 1 rfl rfl)
theorem dX7_parseTest_27 : decode cX7_parseTest 27 = .ok (.invokevirtual 258, 3) := dk_182 1 2 (dk_at dksX7_parseTest_1 3 rfl rfl)
theorem dX7_parseTest_30 : decode cX7_parseTest 30 = .ok (.ifCond .eq 7, 3) := dk_153 0 7 (dk_at dksX7_parseTest_1 6 rfl rfl)
theorem dX7_parseTest_33 : decode cX7_parseTest 33 = .ok (.iconst 1, 1) := dk_4 (dk_at dksX7_parseTest_1 9 rfl rfl)
theorem dX7_parseTest_34 : decode cX7_parseTest 34 = .ok (.goto 4, 3) := dk_167 0 4 (dk_at dksX7_parseTest_1 10 rfl rfl)
theorem dX7_parseTest_37 : decode cX7_parseTest 37 = .ok (.iconst 0, 1) := dk_3 (dk_at dksX7_parseTest_1 13 rfl rfl)
theorem dX7_parseTest_38 : decode cX7_parseTest 38 = .ok (.iconst 1, 1) := dk_4 (dk_at dksX7_parseTest_1 14 rfl rfl)
theorem dX7_parseTest_39 : decode cX7_parseTest 39 = .ok (.invokevirtual 121, 3) := dk_182 0 121 (dk_at dksX7_parseTest_1 15 rfl rfl)
theorem dX7_parseTest_42 : decode cX7_parseTest 42 = .ok (.aload_n 0, 1) := dk_42 (dk_at dksX7_parseTest_1 18 rfl rfl)
theorem dX7_parseTest_43 : decode cX7_parseTest 43 = .ok (.invokevirtual 46, 3) := dk_182 0 46 (dk_at dksX7_parseTest_1 19 rfl rfl)
theorem dX7_parseTest_46 : decode cX7_parseTest 46 = .ok (.new 262, 3) := dk_187 1 6 (dk_at dksX7_parseTest_2 0 rfl rfl)
theorem dX7_parseTest_49 : decode cX7_parseTest 49 = .ok (.dup, 1) := dk_89 (dk_at dksX7_parseTest_2 3 rfl rfl)
theorem dX7_parseTest_50 : decode cX7_parseTest 50 = .ok (.iload_n 1, 1) := dk_27 (dk_at dksX7_parseTest_2 4 rfl rfl)
theorem dX7_parseTest_51 : decode cX7_parseTest 51 = .ok (.iload_n 2, 1) := dk_28 (dk_at dksX7_parseTest_2 5 rfl rfl)
theorem dX7_parseTest_52 : decode cX7_parseTest 52 = .ok (.aload_n 0, 1) := dk_42 (dk_at dksX7_parseTest_2 6 rfl rfl)
theorem dX7_parseTest_53 : decode cX7_parseTest 53 = .ok (.iconst 0, 1) := dk_3 (dk_at dksX7_parseTest_2 7 rfl rfl)
theorem dX7_parseTest_54 : decode cX7_parseTest 54 = .ok (.ldc_w 264, 3) := dk_19 1 8 (dk_at dksX7_parseTest_2 8 rfl rfl)
theorem dX7_parseTest_57 : decode cX7_parseTest 57 = .ok (.invokevirtual 129, 3) := dk_182 0 129 (dk_at dksX7_parseTest_2 11 rfl rfl)
theorem dX7_parseTest_60 : decode cX7_parseTest 60 = .ok (.invokespecial 265, 3) := dk_183 1 9 (dk_at dksX7_parseTest_2 14 rfl rfl)
theorem dX7_parseTest_63 : decode cX7_parseTest 63 = .ok (.areturn, 1) := dk_176 (dk_at dksX7_parseTest_2 17 rfl rfl)
def dkwX7_parseNuisance_2 : List UInt8 := [180, 0, 27, 187, 0, 160, 89, 43, 3, 183, 1, 36, 182, 0, 203, 87, 177]
abbrev dktX7_parseNuisance_2 : List UInt8 := dkwX7_parseNuisance_2 ++ []
def dkwX7_parseNuisance_1 : List UInt8 := [182, 0, 46, 187, 0, 167, 89, 42, 182, 0, 195, 3, 183, 1, 29, 76, 42, 43, 182, 1, 32, 42]
abbrev dktX7_parseNuisance_1 : List UInt8 := dkwX7_parseNuisance_1 ++ dktX7_parseNuisance_2
def dkwX7_parseNuisance_0 : List UInt8 := [42, 42, 180, 0, 27, 182, 0, 153, 16, 8, 162, 0, 7, 4, 167, 0, 4, 3, 7, 182, 0, 121, 42]
abbrev dktX7_parseNuisance_0 : List UInt8 := dkwX7_parseNuisance_0 ++ dktX7_parseNuisance_1
theorem dksX7_parseNuisance_0 : cX7_parseNuisance.data.toList.drop 0 = dktX7_parseNuisance_0 := by decide +kernel
theorem dksX7_parseNuisance_1 : cX7_parseNuisance.data.toList.drop 23 = dktX7_parseNuisance_1 := dk_seg dksX7_parseNuisance_0 23 rfl rfl
theorem dksX7_parseNuisance_2 : cX7_parseNuisance.data.toList.drop 45 = dktX7_parseNuisance_2 := dk_seg dksX7_parseNuisance_1 22 rfl rfl
theorem dX7_parseNuisance_0 : decode cX7_parseNuisance 0 = .ok (.aload_n 0, 1) := dk_42 (dk_at dksX7_parseNuisance_0 0 rfl rfl)
theorem dX7_parseNuisance_1 : decode cX7_parseNuisance 1 = .ok (.aload_n 0, 1) := dk_42 (dk_at dksX7_parseNuisance_0 1 rfl rfl)
theorem dX7_parseNuisance_2 : decode cX7_parseNuisance 2 = .ok (.getfield 27, 3) := dk_180 0 27 (dk_at dksX7_parseNuisance_0 2 rfl rfl)
theorem dX7_parseNuisance_5 : decode cX7_parseNuisance 5 = .ok (.invokevirtual 153, 3) := dk_182 0 153 (dk_at dksX7_parseNuisance_0 5 rfl rfl)
theorem dX7_parseNuisance_8 : decode cX7_parseNuisance 8 = .ok (.bipush 8, 2) := dk_16 8 (dk_at dksX7_parseNuisance_0 8 rfl rfl)
theorem dX7_parseNuisance_10 : decode cX7_parseNuisance 10 = .ok (.if_icmp .ge 7, 3) := dk_162 0 7 (dk_at dksX7_parseNuisance_0 10 rfl rfl)
theorem dX7_parseNuisance_13 : decode cX7_parseNuisance 13 = .ok (.iconst 1, 1) := dk_4 (dk_at dksX7_parseNuisance_0 13 rfl rfl)
theorem dX7_parseNuisance_14 : decode cX7_parseNuisance 14 = .ok (.goto 4, 3) := dk_167 0 4 (dk_at dksX7_parseNuisance_0 14 rfl rfl)
theorem dX7_parseNuisance_17 : decode cX7_parseNuisance 17 = .ok (.iconst 0, 1) := dk_3 (dk_at dksX7_parseNuisance_0 17 rfl rfl)
theorem dX7_parseNuisance_18 : decode cX7_parseNuisance 18 = .ok (.iconst 4, 1) := dk_7 (dk_at dksX7_parseNuisance_0 18 rfl rfl)
theorem dX7_parseNuisance_19 : decode cX7_parseNuisance 19 = .ok (.invokevirtual 121, 3) := dk_182 0 121 (dk_at dksX7_parseNuisance_0 19 rfl rfl)
theorem dX7_parseNuisance_22 : decode cX7_parseNuisance 22 = .ok (.aload_n 0, 1) := dk_42 (dk_at dksX7_parseNuisance_0 22 rfl rfl)
theorem dX7_parseNuisance_23 : decode cX7_parseNuisance 23 = .ok (.invokevirtual 46, 3) := dk_182 0 46 (dk_at dksX7_parseNuisance_1 0 rfl rfl)
theorem dX7_parseNuisance_26 : decode cX7_parseNuisance 26 = .ok (.new 167, 3) := dk_187 0 167 (dk_at dksX7_parseNuisance_1 3 rfl rfl)
theorem dX7_parseNuisance_29 : decode cX7_parseNuisance 29 = .ok (.dup, 1) := dk_89 (dk_at dksX7_parseNuisance_1 6 rfl rfl)
theorem dX7_parseNuisance_30 : decode cX7_parseNuisance 30 = .ok (.aload_n 0, 1) := dk_42 (dk_at dksX7_parseNuisance_1 7 rfl rfl)
theorem dX7_parseNuisance_31 : decode cX7_parseNuisance 31 = .ok (.invokevirtual 195, 3) := dk_182 0 195 (dk_at dksX7_parseNuisance_1 8 rfl rfl)
theorem dX7_parseNuisance_34 : decode cX7_parseNuisance 34 = .ok (.iconst 0, 1) := dk_3 (dk_at dksX7_parseNuisance_1 11 rfl rfl)
theorem dX7_parseNuisance_35 : decode cX7_parseNuisance 35 = .ok (.invokespecial 285, 3) := dk_183 1 29 (dk_at dksX7_parseNuisance_1 12 rfl rfl)
theorem dX7_parseNuisance_38 : decode cX7_parseNuisance 38 = .ok (.astore_n 1, 1) := dk_76 (dk_at dksX7_parseNuisance_1 15 rfl rfl)
theorem dX7_parseNuisance_39 : decode cX7_parseNuisance 39 = .ok (.aload_n 0, 1) := dk_42 (dk_at dksX7_parseNuisance_1 16 rfl rfl)
theorem dX7_parseNuisance_40 : decode cX7_parseNuisance 40 = .ok (.aload_n 1, 1) := dk_43 (dk_at dksX7_parseNuisance_1 17 rfl rfl)
theorem dX7_parseNuisance_41 : decode cX7_parseNuisance 41 = .ok (.invokevirtual 288, 3) := dk_182 1 32 (dk_at dksX7_parseNuisance_1 18 rfl rfl)
theorem dX7_parseNuisance_44 : decode cX7_parseNuisance 44 = .ok (.aload_n 0, 1) := dk_42 (dk_at dksX7_parseNuisance_1 21 rfl rfl)
theorem dX7_parseNuisance_45 : decode cX7_parseNuisance 45 = .ok (.getfield 27, 3) := dk_180 0 27 (dk_at dksX7_parseNuisance_2 0 rfl rfl)
theorem dX7_parseNuisance_48 : decode cX7_parseNuisance 48 = .ok (.new 160, 3) := dk_187 0 160 (dk_at dksX7_parseNuisance_2 3 rfl rfl)
theorem dX7_parseNuisance_51 : decode cX7_parseNuisance 51 = .ok (.dup, 1) := dk_89 (dk_at dksX7_parseNuisance_2 6 rfl rfl)
theorem dX7_parseNuisance_52 : decode cX7_parseNuisance 52 = .ok (.aload_n 1, 1) := dk_43 (dk_at dksX7_parseNuisance_2 7 rfl rfl)
theorem dX7_parseNuisance_53 : decode cX7_parseNuisance 53 = .ok (.iconst 0, 1) := dk_3 (dk_at dksX7_parseNuisance_2 8 rfl rfl)
theorem dX7_parseNuisance_54 : decode cX7_parseNuisance 54 = .ok (.invokespecial 292, 3) := dk_183 1 36 (dk_at dksX7_parseNuisance_2 9 rfl rfl)
theorem dX7_parseNuisance_57 : decode cX7_parseNuisance 57 = .ok (.invokevirtual 203, 3) := dk_182 0 203 (dk_at dksX7_parseNuisance_2 12 rfl rfl)
theorem dX7_parseNuisance_60 : decode cX7_parseNuisance 60 = .ok (.pop, 1) := dk_87 (dk_at dksX7_parseNuisance_2 15 rfl rfl)
theorem dX7_parseNuisance_61 : decode cX7_parseNuisance 61 = .ok (.return_, 1) := dk_177 (dk_at dksX7_parseNuisance_2 16 rfl rfl)
def dkwX7_parseSwitch_5 : List UInt8 := [187, 1, 43, 89, 27, 29, 28, 183, 1, 45, 182, 0, 203, 87, 177]
abbrev dktX7_parseSwitch_5 : List UInt8 := dkwX7_parseSwitch_5 ++ []
def dkwX7_parseSwitch_4 : List UInt8 := [29, 2, 159, 0, 7, 4, 167, 0, 4, 3, 6, 182, 0, 121, 42, 182, 0, 46, 42, 180, 0, 31]
abbrev dktX7_parseSwitch_4 : List UInt8 := dkwX7_parseSwitch_4 ++ dktX7_parseSwitch_5
def dkwX7_parseSwitch_3 : List UInt8 := [182, 0, 121, 42, 182, 0, 46, 42, 182, 0, 171, 42, 180, 0, 18, 42, 180, 0, 42, 182, 0, 146, 62, 42]
abbrev dktX7_parseSwitch_3 : List UInt8 := dkwX7_parseSwitch_3 ++ dktX7_parseSwitch_4
def dkwX7_parseSwitch_2 : List UInt8 := [28, 154, 0, 16, 42, 180, 0, 42, 19, 1, 41, 182, 0, 115, 153, 0, 7, 4, 167, 0, 4, 3, 4]
abbrev dktX7_parseSwitch_2 : List UInt8 := dkwX7_parseSwitch_2 ++ dktX7_parseSwitch_3
def dkwX7_parseSwitch_1 : List UInt8 := [182, 0, 46, 42, 4, 17, 39, 15, 182, 0, 129, 60, 42, 180, 0, 42, 19, 1, 39, 182, 0, 115, 61, 42]
abbrev dktX7_parseSwitch_1 : List UInt8 := dkwX7_parseSwitch_1 ++ dktX7_parseSwitch_2
def dkwX7_parseSwitch_0 : List UInt8 := [42, 42, 180, 0, 31, 182, 0, 153, 16, 20, 162, 0, 7, 4, 167, 0, 4, 3, 7, 182, 0, 121, 42]
abbrev dktX7_parseSwitch_0 : List UInt8 := dkwX7_parseSwitch_0 ++ dktX7_parseSwitch_1
theorem dksX7_parseSwitch_0 : cX7_parseSwitch.data.toList.drop 0 = dktX7_parseSwitch_0 := by decide +kernel
theorem dksX7_parseSwitch_1 : cX7_parseSwitch.data.toList.drop 23 = dktX7_parseSwitch_1 := dk_seg dksX7_parseSwitch_0 23 rfl rfl
theorem dksX7_parseSwitch_2 : cX7_parseSwitch.data.toList.drop 47 = dktX7_parseSwitch_2 := dk_seg dksX7_parseSwitch_1 24 rfl rfl
theorem dksX7_parseSwitch_3 : cX7_parseSwitch.data.toList.drop 70 = dktX7_parseSwitch_3 := dk_seg dksX7_parseSwitch_2 23 rfl rfl
theorem dksX7_parseSwitch_4 : cX7_parseSwitch.data.toList.drop 94 = dktX7_parseSwitch_4 := dk_seg dksX7_parseSwitch_3 24 rfl rfl
theorem dksX7_parseSwitch_5 : cX7_parseSwitch.data.toList.drop 116 = dktX7_parseSwitch_5 := dk_seg dksX7_parseSwitch_4 22 rfl rfl
theorem dX7_parseSwitch_0 : decode cX7_parseSwitch 0 = .ok (.aload_n 0, 1) := dk_42 (dk_at dksX7_parseSwitch_0 0 rfl rfl)
theorem dX7_parseSwitch_1 : decode cX7_parseSwitch 1 = .ok (.aload_n 0, 1) := dk_42 (dk_at dksX7_parseSwitch_0 1 rfl rfl)
theorem dX7_parseSwitch_2 : decode cX7_parseSwitch 2 = .ok (.getfield 31, 3) := dk_180 0 31 (dk_at dksX7_parseSwitch_0 2 rfl rfl)
theorem dX7_parseSwitch_5 : decode cX7_parseSwitch 5 = .ok (.invokevirtual 153, 3) := dk_182 0 153 (dk_at dksX7_parseSwitch_0 5 rfl rfl)
theorem dX7_parseSwitch_8 : decode cX7_parseSwitch 8 = .ok (.bipush 20, 2) := dk_16 20 (dk_at dksX7_parseSwitch_0 8 rfl rfl)
theorem dX7_parseSwitch_10 : decode cX7_parseSwitch 10 = .ok (.if_icmp .ge 7, 3) := dk_162 0 7 (dk_at dksX7_parseSwitch_0 10 rfl rfl)
theorem dX7_parseSwitch_13 : decode cX7_parseSwitch 13 = .ok (.iconst 1, 1) := dk_4 (dk_at dksX7_parseSwitch_0 13 rfl rfl)
theorem dX7_parseSwitch_14 : decode cX7_parseSwitch 14 = .ok (.goto 4, 3) := dk_167 0 4 (dk_at dksX7_parseSwitch_0 14 rfl rfl)
theorem dX7_parseSwitch_17 : decode cX7_parseSwitch 17 = .ok (.iconst 0, 1) := dk_3 (dk_at dksX7_parseSwitch_0 17 rfl rfl)
theorem dX7_parseSwitch_18 : decode cX7_parseSwitch 18 = .ok (.iconst 4, 1) := dk_7 (dk_at dksX7_parseSwitch_0 18 rfl rfl)
theorem dX7_parseSwitch_19 : decode cX7_parseSwitch 19 = .ok (.invokevirtual 121, 3) := dk_182 0 121 (dk_at dksX7_parseSwitch_0 19 rfl rfl)
theorem dX7_parseSwitch_22 : decode cX7_parseSwitch 22 = .ok (.aload_n 0, 1) := dk_42 (dk_at dksX7_parseSwitch_0 22 rfl rfl)
theorem dX7_parseSwitch_23 : decode cX7_parseSwitch 23 = .ok (.invokevirtual 46, 3) := dk_182 0 46 (dk_at dksX7_parseSwitch_1 0 rfl rfl)
theorem dX7_parseSwitch_26 : decode cX7_parseSwitch 26 = .ok (.aload_n 0, 1) := dk_42 (dk_at dksX7_parseSwitch_1 3 rfl rfl)
theorem dX7_parseSwitch_27 : decode cX7_parseSwitch 27 = .ok (.iconst 1, 1) := dk_4 (dk_at dksX7_parseSwitch_1 4 rfl rfl)
theorem dX7_parseSwitch_28 : decode cX7_parseSwitch 28 = .ok (.sipush 9999, 3) := dk_17 39 15 (dk_at dksX7_parseSwitch_1 5 rfl rfl)
theorem dX7_parseSwitch_31 : decode cX7_parseSwitch 31 = .ok (.invokevirtual 129, 3) := dk_182 0 129 (dk_at dksX7_parseSwitch_1 8 rfl rfl)
theorem dX7_parseSwitch_34 : decode cX7_parseSwitch 34 = .ok (.istore_n 1, 1) := dk_60 (dk_at dksX7_parseSwitch_1 11 rfl rfl)
theorem dX7_parseSwitch_35 : decode cX7_parseSwitch 35 = .ok (.aload_n 0, 1) := dk_42 (dk_at dksX7_parseSwitch_1 12 rfl rfl)
theorem dX7_parseSwitch_36 : decode cX7_parseSwitch 36 = .ok (.getfield 42, 3) := dk_180 0 42 (dk_at dksX7_parseSwitch_1 13 rfl rfl)
theorem dX7_parseSwitch_39 : decode cX7_parseSwitch 39 = .ok (.ldc_w 295, 3) := dk_19 1 39 (dk_at dksX7_parseSwitch_1 16 rfl rfl)
theorem dX7_parseSwitch_42 : decode cX7_parseSwitch 42 = .ok (.invokevirtual 115, 3) := dk_182 0 115 (dk_at dksX7_parseSwitch_1 19 rfl rfl)
theorem dX7_parseSwitch_45 : decode cX7_parseSwitch 45 = .ok (.istore_n 2, 1) := dk_61 (dk_at dksX7_parseSwitch_1 22 rfl rfl)
theorem dX7_parseSwitch_46 : decode cX7_parseSwitch 46 = .ok (.aload_n 0, 1) := dk_42 (dk_at dksX7_parseSwitch_1 23 rfl rfl)
theorem dX7_parseSwitch_47 : decode cX7_parseSwitch 47 = .ok (.iload_n 2, 1) := dk_28 (dk_at dksX7_parseSwitch_2 0 rfl rfl)
theorem dX7_parseSwitch_48 : decode cX7_parseSwitch 48 = .ok (.ifCond .ne 16, 3) := dk_154 0 16 (dk_at dksX7_parseSwitch_2 1 rfl rfl)
theorem dX7_parseSwitch_51 : decode cX7_parseSwitch 51 = .ok (.aload_n 0, 1) := dk_42 (dk_at dksX7_parseSwitch_2 4 rfl rfl)
theorem dX7_parseSwitch_52 : decode cX7_parseSwitch 52 = .ok (.getfield 42, 3) := dk_180 0 42 (dk_at dksX7_parseSwitch_2 5 rfl rfl)
theorem dX7_parseSwitch_55 : decode cX7_parseSwitch 55 = .ok (.ldc_w 297, 3) := dk_19 1 41 (dk_at dksX7_parseSwitch_2 8 rfl rfl)
theorem dX7_parseSwitch_58 : decode cX7_parseSwitch 58 = .ok (.invokevirtual 115, 3) := dk_182 0 115 (dk_at dksX7_parseSwitch_2 11 rfl rfl)
theorem dX7_parseSwitch_61 : decode cX7_parseSwitch 61 = .ok (.ifCond .eq 7, 3) := dk_153 0 7 (dk_at dksX7_parseSwitch_2 14 rfl rfl)
theorem dX7_parseSwitch_64 : decode cX7_parseSwitch 64 = .ok (.iconst 1, 1) := dk_4 (dk_at dksX7_parseSwitch_2 17 rfl rfl)
theorem dX7_parseSwitch_65 : decode cX7_parseSwitch 65 = .ok (.goto 4, 3) := dk_167 0 4 (dk_at dksX7_parseSwitch_2 18 rfl rfl)
theorem dX7_parseSwitch_68 : decode cX7_parseSwitch 68 = .ok (.iconst 0, 1) := dk_3 (dk_at dksX7_parseSwitch_2 21 rfl rfl)
theorem dX7_parseSwitch_69 : decode cX7_parseSwitch 69 = .ok (.iconst 1, 1) := dk_4 (dk_at dksX7_parseSwitch_2 22 rfl rfl)
theorem dX7_parseSwitch_70 : decode cX7_parseSwitch 70 = .ok (.invokevirtual 121, 3) := dk_182 0 121 (dk_at dksX7_parseSwitch_3 0 rfl rfl)
theorem dX7_parseSwitch_73 : decode cX7_parseSwitch 73 = .ok (.aload_n 0, 1) := dk_42 (dk_at dksX7_parseSwitch_3 3 rfl rfl)
theorem dX7_parseSwitch_74 : decode cX7_parseSwitch 74 = .ok (.invokevirtual 46, 3) := dk_182 0 46 (dk_at dksX7_parseSwitch_3 4 rfl rfl)
theorem dX7_parseSwitch_77 : decode cX7_parseSwitch 77 = .ok (.aload_n 0, 1) := dk_42 (dk_at dksX7_parseSwitch_3 7 rfl rfl)
theorem dX7_parseSwitch_78 : decode cX7_parseSwitch 78 = .ok (.invokevirtual 171, 3) := dk_182 0 171 (dk_at dksX7_parseSwitch_3 8 rfl rfl)
theorem dX7_parseSwitch_81 : decode cX7_parseSwitch 81 = .ok (.aload_n 0, 1) := dk_42 (dk_at dksX7_parseSwitch_3 11 rfl rfl)
theorem dX7_parseSwitch_82 : decode cX7_parseSwitch 82 = .ok (.getfield 18, 3) := dk_180 0 18 (dk_at dksX7_parseSwitch_3 12 rfl rfl)
theorem dX7_parseSwitch_85 : decode cX7_parseSwitch 85 = .ok (.aload_n 0, 1) := dk_42 (dk_at dksX7_parseSwitch_3 15 rfl rfl)
theorem dX7_parseSwitch_86 : decode cX7_parseSwitch 86 = .ok (.getfield 42, 3) := dk_180 0 42 (dk_at dksX7_parseSwitch_3 16 rfl rfl)
theorem dX7_parseSwitch_89 : decode cX7_parseSwitch 89 = .ok (.invokevirtual 146, 3) := dk_182 0 146 (dk_at dksX7_parseSwitch_3 19 rfl rfl)
theorem dX7_parseSwitch_92 : decode cX7_parseSwitch 92 = .ok (.istore_n 3, 1) := dk_62 (dk_at dksX7_parseSwitch_3 22 rfl rfl)
theorem dX7_parseSwitch_93 : decode cX7_parseSwitch 93 = .ok (.aload_n 0, 1) := dk_42 (dk_at dksX7_parseSwitch_3 23 rfl rfl)
theorem dX7_parseSwitch_94 : decode cX7_parseSwitch 94 = .ok (.iload_n 3, 1) := dk_29 (dk_at dksX7_parseSwitch_4 0 rfl rfl)
theorem dX7_parseSwitch_95 : decode cX7_parseSwitch 95 = .ok (.iconst (-1), 1) := dk_2 (dk_at dksX7_parseSwitch_4 1 rfl rfl)
theorem dX7_parseSwitch_96 : decode cX7_parseSwitch 96 = .ok (.if_icmp .eq 7, 3) := dk_159 0 7 (dk_at dksX7_parseSwitch_4 2 rfl rfl)
theorem dX7_parseSwitch_99 : decode cX7_parseSwitch 99 = .ok (.iconst 1, 1) := dk_4 (dk_at dksX7_parseSwitch_4 5 rfl rfl)
theorem dX7_parseSwitch_100 : decode cX7_parseSwitch 100 = .ok (.goto 4, 3) := dk_167 0 4 (dk_at dksX7_parseSwitch_4 6 rfl rfl)
theorem dX7_parseSwitch_103 : decode cX7_parseSwitch 103 = .ok (.iconst 0, 1) := dk_3 (dk_at dksX7_parseSwitch_4 9 rfl rfl)
theorem dX7_parseSwitch_104 : decode cX7_parseSwitch 104 = .ok (.iconst 3, 1) := dk_6 (dk_at dksX7_parseSwitch_4 10 rfl rfl)
theorem dX7_parseSwitch_105 : decode cX7_parseSwitch 105 = .ok (.invokevirtual 121, 3) := dk_182 0 121 (dk_at dksX7_parseSwitch_4 11 rfl rfl)
theorem dX7_parseSwitch_108 : decode cX7_parseSwitch 108 = .ok (.aload_n 0, 1) := dk_42 (dk_at dksX7_parseSwitch_4 14 rfl rfl)
theorem dX7_parseSwitch_109 : decode cX7_parseSwitch 109 = .ok (.invokevirtual 46, 3) := dk_182 0 46 (dk_at dksX7_parseSwitch_4 15 rfl rfl)
theorem dX7_parseSwitch_112 : decode cX7_parseSwitch 112 = .ok (.aload_n 0, 1) := dk_42 (dk_at dksX7_parseSwitch_4 18 rfl rfl)
theorem dX7_parseSwitch_113 : decode cX7_parseSwitch 113 = .ok (.getfield 31, 3) := dk_180 0 31 (dk_at dksX7_parseSwitch_4 19 rfl rfl)
theorem dX7_parseSwitch_116 : decode cX7_parseSwitch 116 = .ok (.new 299, 3) := dk_187 1 43 (dk_at dksX7_parseSwitch_5 0 rfl rfl)
theorem dX7_parseSwitch_119 : decode cX7_parseSwitch 119 = .ok (.dup, 1) := dk_89 (dk_at dksX7_parseSwitch_5 3 rfl rfl)
theorem dX7_parseSwitch_120 : decode cX7_parseSwitch 120 = .ok (.iload_n 1, 1) := dk_27 (dk_at dksX7_parseSwitch_5 4 rfl rfl)
theorem dX7_parseSwitch_121 : decode cX7_parseSwitch 121 = .ok (.iload_n 3, 1) := dk_29 (dk_at dksX7_parseSwitch_5 5 rfl rfl)
theorem dX7_parseSwitch_122 : decode cX7_parseSwitch 122 = .ok (.iload_n 2, 1) := dk_28 (dk_at dksX7_parseSwitch_5 6 rfl rfl)
theorem dX7_parseSwitch_123 : decode cX7_parseSwitch 123 = .ok (.invokespecial 301, 3) := dk_183 1 45 (dk_at dksX7_parseSwitch_5 7 rfl rfl)
theorem dX7_parseSwitch_126 : decode cX7_parseSwitch 126 = .ok (.invokevirtual 203, 3) := dk_182 0 203 (dk_at dksX7_parseSwitch_5 10 rfl rfl)
theorem dX7_parseSwitch_129 : decode cX7_parseSwitch 129 = .ok (.pop, 1) := dk_87 (dk_at dksX7_parseSwitch_5 13 rfl rfl)
theorem dX7_parseSwitch_130 : decode cX7_parseSwitch 130 = .ok (.return_, 1) := dk_177 (dk_at dksX7_parseSwitch_5 14 rfl rfl)
def dkwX8_init_0 : List UInt8 := [42, 1, 1, 3, 3, 183, 0, 1, 42, 27, 181, 0, 7, 42, 28, 181, 0, 13, 177]
abbrev dktX8_init_0 : List UInt8 := dkwX8_init_0 ++ []
theorem dksX8_init_0 : cX8_init.data.toList.drop 0 = dktX8_init_0 := by decide +kernel
theorem dX8_init_0 : decode cX8_init 0 = .ok (.aload_n 0, 1) := dk_42 (dk_at dksX8_init_0 0 rfl rfl)
theorem dX8_init_1 : decode cX8_init 1 = .ok (.aconst_null, 1) := dk_1 (dk_at dksX8_init_0 1 rfl rfl)
theorem dX8_init_2 : decode cX8_init 2 = .ok (.aconst_null, 1) := dk_1 (dk_at dksX8_init_0 2 rfl rfl)
theorem dX8_init_3 : decode cX8_init 3 = .ok (.iconst 0, 1) := dk_3 (dk_at dksX8_init_0 3 rfl rfl)
theorem dX8_init_4 : decode cX8_init 4 = .ok (.iconst 0, 1) := dk_3 (dk_at dksX8_init_0 4 rfl rfl)
theorem dX8_init_5 : decode cX8_init 5 = .ok (.invokespecial 1, 3) := dk_183 0 1 (dk_at dksX8_init_0 5 rfl rfl)
theorem dX8_init_8 : decode cX8_init 8 = .ok (.aload_n 0, 1) := dk_42 (dk_at dksX8_init_0 8 rfl rfl)
theorem dX8_init_9 : decode cX8_init 9 = .ok (.iload_n 1, 1) := dk_27 (dk_at dksX8_init_0 9 rfl rfl)
theorem dX8_init_10 : decode cX8_init 10 = .ok (.putfield 7, 3) := dk_181 0 7 (dk_at dksX8_init_0 10 rfl rfl)
theorem dX8_init_13 : decode cX8_init 13 = .ok (.aload_n 0, 1) := dk_42 (dk_at dksX8_init_0 13 rfl rfl)
theorem dX8_init_14 : decode cX8_init 14 = .ok (.iload_n 2, 1) := dk_28 (dk_at dksX8_init_0 14 rfl rfl)
theorem dX8_init_15 : decode cX8_init 15 = .ok (.putfield 13, 3) := dk_181 0 13 (dk_at dksX8_init_0 15 rfl rfl)
theorem dX8_init_18 : decode cX8_init 18 = .ok (.return_, 1) := dk_177 (dk_at dksX8_init_0 18 rfl rfl)
def dkwX9_init_0 : List UInt8 := [42, 183, 0, 1, 42, 43, 181, 0, 7, 42, 28, 181, 0, 13, 42, 29, 181, 0, 17, 177]
abbrev dktX9_init_0 : List UInt8 := dkwX9_init_0 ++ []
theorem dksX9_init_0 : cX9_init.data.toList.drop 0 = dktX9_init_0 := by decide +kernel
theorem dX9_init_0 : decode cX9_init 0 = .ok (.aload_n 0, 1) := dk_42 (dk_at dksX9_init_0 0 rfl rfl)
theorem dX9_init_1 : decode cX9_init 1 = .ok (.invokespecial 1, 3) := dk_183 0 1 (dk_at dksX9_init_0 1 rfl rfl)
theorem dX9_init_4 : decode cX9_init 4 = .ok (.aload_n 0, 1) := dk_42 (dk_at dksX9_init_0 4 rfl rfl)
theorem dX9_init_5 : decode cX9_init 5 = .ok (.aload_n 1, 1) := dk_43 (dk_at dksX9_init_0 5 rfl rfl)
theorem dX9_init_6 : decode cX9_init 6 = .ok (.putfield 7, 3) := dk_181 0 7 (dk_at dksX9_init_0 6 rfl rfl)
theorem dX9_init_9 : decode cX9_init 9 = .ok (.aload_n 0, 1) := dk_42 (dk_at dksX9_init_0 9 rfl rfl)
theorem dX9_init_10 : decode cX9_init 10 = .ok (.iload_n 2, 1) := dk_28 (dk_at dksX9_init_0 10 rfl rfl)
theorem dX9_init_11 : decode cX9_init 11 = .ok (.putfield 13, 3) := dk_181 0 13 (dk_at dksX9_init_0 11 rfl rfl)
theorem dX9_init_14 : decode cX9_init 14 = .ok (.aload_n 0, 1) := dk_42 (dk_at dksX9_init_0 14 rfl rfl)
theorem dX9_init_15 : decode cX9_init 15 = .ok (.iload_n 3, 1) := dk_29 (dk_at dksX9_init_0 15 rfl rfl)
theorem dX9_init_16 : decode cX9_init 16 = .ok (.putfield 17, 3) := dk_181 0 17 (dk_at dksX9_init_0 16 rfl rfl)
theorem dX9_init_19 : decode cX9_init 19 = .ok (.return_, 1) := dk_177 (dk_at dksX9_init_0 19 rfl rfl)
theorem dX9_first_0 : decode cX9_first 0 = .ok (.iconst 0, 1) := by decide +kernel
theorem dX9_first_1 : decode cX9_first 1 = .ok (.ireturn, 1) := by decide +kernel
theorem dX9_out_0 : decode cX9_out 0 = .ok (.iconst 0, 1) := by decide +kernel
theorem dX9_out_1 : decode cX9_out 1 = .ok (.ireturn, 1) := by decide +kernel
def dkwX9_at_0 : List UInt8 := [42, 180, 0, 17, 134, 43, 28, 48, 106, 174]
abbrev dktX9_at_0 : List UInt8 := dkwX9_at_0 ++ []
theorem dksX9_at_0 : cX9_at.data.toList.drop 0 = dktX9_at_0 := by decide +kernel
theorem dX9_at_0 : decode cX9_at 0 = .ok (.aload_n 0, 1) := dk_42 (dk_at dksX9_at_0 0 rfl rfl)
theorem dX9_at_1 : decode cX9_at 1 = .ok (.getfield 17, 3) := dk_180 0 17 (dk_at dksX9_at_0 1 rfl rfl)
theorem dX9_at_4 : decode cX9_at 4 = .ok (.i2f, 1) := dk_134 (dk_at dksX9_at_0 4 rfl rfl)
theorem dX9_at_5 : decode cX9_at 5 = .ok (.aload_n 1, 1) := dk_43 (dk_at dksX9_at_0 5 rfl rfl)
theorem dX9_at_6 : decode cX9_at 6 = .ok (.iload_n 2, 1) := dk_28 (dk_at dksX9_at_0 6 rfl rfl)
theorem dX9_at_7 : decode cX9_at 7 = .ok (.faload, 1) := dk_48 (dk_at dksX9_at_0 7 rfl rfl)
theorem dX9_at_8 : decode cX9_at 8 = .ok (.fmul, 1) := dk_106 (dk_at dksX9_at_0 8 rfl rfl)
theorem dX9_at_9 : decode cX9_at 9 = .ok (.freturn, 1) := dk_174 (dk_at dksX9_at_0 9 rfl rfl)
def dkwX10_init_0 : List UInt8 := [42, 43, 28, 29, 183, 0, 1, 177]
abbrev dktX10_init_0 : List UInt8 := dkwX10_init_0 ++ []
theorem dksX10_init_0 : cX10_init.data.toList.drop 0 = dktX10_init_0 := by decide +kernel
theorem dX10_init_0 : decode cX10_init 0 = .ok (.aload_n 0, 1) := dk_42 (dk_at dksX10_init_0 0 rfl rfl)
theorem dX10_init_1 : decode cX10_init 1 = .ok (.aload_n 1, 1) := dk_43 (dk_at dksX10_init_0 1 rfl rfl)
theorem dX10_init_2 : decode cX10_init 2 = .ok (.iload_n 2, 1) := dk_28 (dk_at dksX10_init_0 2 rfl rfl)
theorem dX10_init_3 : decode cX10_init 3 = .ok (.iload_n 3, 1) := dk_29 (dk_at dksX10_init_0 3 rfl rfl)
theorem dX10_init_4 : decode cX10_init 4 = .ok (.invokespecial 1, 3) := dk_183 0 1 (dk_at dksX10_init_0 4 rfl rfl)
theorem dX10_init_7 : decode cX10_init 7 = .ok (.return_, 1) := dk_177 (dk_at dksX10_init_0 7 rfl rfl)
theorem dX10_kind_0 : decode cX10_kind 0 = .ok (.iconst 0, 1) := by decide +kernel
theorem dX10_kind_1 : decode cX10_kind 1 = .ok (.ireturn, 1) := by decide +kernel
def dkwX11_init_0 : List UInt8 := [42, 43, 28, 29, 183, 0, 1, 42, 21, 4, 181, 0, 7, 177]
abbrev dktX11_init_0 : List UInt8 := dkwX11_init_0 ++ []
theorem dksX11_init_0 : cX11_init.data.toList.drop 0 = dktX11_init_0 := by decide +kernel
theorem dX11_init_0 : decode cX11_init 0 = .ok (.aload_n 0, 1) := dk_42 (dk_at dksX11_init_0 0 rfl rfl)
theorem dX11_init_1 : decode cX11_init 1 = .ok (.aload_n 1, 1) := dk_43 (dk_at dksX11_init_0 1 rfl rfl)
theorem dX11_init_2 : decode cX11_init 2 = .ok (.iload_n 2, 1) := dk_28 (dk_at dksX11_init_0 2 rfl rfl)
theorem dX11_init_3 : decode cX11_init 3 = .ok (.iload_n 3, 1) := dk_29 (dk_at dksX11_init_0 3 rfl rfl)
theorem dX11_init_4 : decode cX11_init 4 = .ok (.invokespecial 1, 3) := dk_183 0 1 (dk_at dksX11_init_0 4 rfl rfl)
theorem dX11_init_7 : decode cX11_init 7 = .ok (.aload_n 0, 1) := dk_42 (dk_at dksX11_init_0 7 rfl rfl)
theorem dX11_init_8 : decode cX11_init 8 = .ok (.iload 4, 2) := dk_21 4 (dk_at dksX11_init_0 8 rfl rfl)
theorem dX11_init_10 : decode cX11_init 10 = .ok (.putfield 7, 3) := dk_181 0 7 (dk_at dksX11_init_0 10 rfl rfl)
theorem dX11_init_13 : decode cX11_init 13 = .ok (.return_, 1) := dk_177 (dk_at dksX11_init_0 13 rfl rfl)
theorem dX11_kind_0 : decode cX11_kind 0 = .ok (.iconst 1, 1) := by decide +kernel
theorem dX11_kind_1 : decode cX11_kind 1 = .ok (.ireturn, 1) := by decide +kernel
theorem dX11_first_0 : decode cX11_first 0 = .ok (.aload_n 0, 1) := by decide +kernel
theorem dX11_first_1 : decode cX11_first 1 = .ok (.getfield 7, 3) := by decide +kernel
theorem dX11_first_4 : decode cX11_first 4 = .ok (.ireturn, 1) := by decide +kernel
def dkwX11_at_1 : List UInt8 := [167, 0, 22, 11, 42, 43, 28, 42, 180, 0, 7, 100, 43, 190, 96, 29, 23, 4, 183, 0, 13, 102, 174]
abbrev dktX11_at_1 : List UInt8 := dkwX11_at_1 ++ []
def dkwX11_at_0 : List UInt8 := [28, 42, 180, 0, 7, 161, 0, 20, 42, 43, 28, 42, 180, 0, 7, 100, 29, 23, 4, 183, 0, 13]
abbrev dktX11_at_0 : List UInt8 := dkwX11_at_0 ++ dktX11_at_1
theorem dksX11_at_0 : cX11_at.data.toList.drop 0 = dktX11_at_0 := by decide +kernel
theorem dksX11_at_1 : cX11_at.data.toList.drop 22 = dktX11_at_1 := dk_seg dksX11_at_0 22 rfl rfl
theorem dX11_at_0 : decode cX11_at 0 = .ok (.iload_n 2, 1) := dk_28 (dk_at dksX11_at_0 0 rfl rfl)
theorem dX11_at_1 : decode cX11_at 1 = .ok (.aload_n 0, 1) := dk_42 (dk_at dksX11_at_0 1 rfl rfl)
theorem dX11_at_2 : decode cX11_at 2 = .ok (.getfield 7, 3) := dk_180 0 7 (dk_at dksX11_at_0 2 rfl rfl)
theorem dX11_at_5 : decode cX11_at 5 = .ok (.if_icmp .lt 20, 3) := dk_161 0 20 (dk_at dksX11_at_0 5 rfl rfl)
theorem dX11_at_8 : decode cX11_at 8 = .ok (.aload_n 0, 1) := dk_42 (dk_at dksX11_at_0 8 rfl rfl)
theorem dX11_at_9 : decode cX11_at 9 = .ok (.aload_n 1, 1) := dk_43 (dk_at dksX11_at_0 9 rfl rfl)
theorem dX11_at_10 : decode cX11_at 10 = .ok (.iload_n 2, 1) := dk_28 (dk_at dksX11_at_0 10 rfl rfl)
theorem dX11_at_11 : decode cX11_at 11 = .ok (.aload_n 0, 1) := dk_42 (dk_at dksX11_at_0 11 rfl rfl)
theorem dX11_at_12 : decode cX11_at 12 = .ok (.getfield 7, 3) := dk_180 0 7 (dk_at dksX11_at_0 12 rfl rfl)
theorem dX11_at_15 : decode cX11_at 15 = .ok (.isub, 1) := dk_100 (dk_at dksX11_at_0 15 rfl rfl)
theorem dX11_at_16 : decode cX11_at 16 = .ok (.iload_n 3, 1) := dk_29 (dk_at dksX11_at_0 16 rfl rfl)
theorem dX11_at_17 : decode cX11_at 17 = .ok (.fload 4, 2) := dk_23 4 (dk_at dksX11_at_0 17 rfl rfl)
theorem dX11_at_19 : decode cX11_at 19 = .ok (.invokespecial 13, 3) := dk_183 0 13 (dk_at dksX11_at_0 19 rfl rfl)
theorem dX11_at_22 : decode cX11_at 22 = .ok (.goto 22, 3) := dk_167 0 22 (dk_at dksX11_at_1 0 rfl rfl)
theorem dX11_at_25 : decode cX11_at 25 = .ok (.fconst 0, 1) := dk_11 (dk_at dksX11_at_1 3 rfl rfl)
theorem dX11_at_26 : decode cX11_at 26 = .ok (.aload_n 0, 1) := dk_42 (dk_at dksX11_at_1 4 rfl rfl)
theorem dX11_at_27 : decode cX11_at 27 = .ok (.aload_n 1, 1) := dk_43 (dk_at dksX11_at_1 5 rfl rfl)
theorem dX11_at_28 : decode cX11_at 28 = .ok (.iload_n 2, 1) := dk_28 (dk_at dksX11_at_1 6 rfl rfl)
theorem dX11_at_29 : decode cX11_at 29 = .ok (.aload_n 0, 1) := dk_42 (dk_at dksX11_at_1 7 rfl rfl)
theorem dX11_at_30 : decode cX11_at 30 = .ok (.getfield 7, 3) := dk_180 0 7 (dk_at dksX11_at_1 8 rfl rfl)
theorem dX11_at_33 : decode cX11_at 33 = .ok (.isub, 1) := dk_100 (dk_at dksX11_at_1 11 rfl rfl)
theorem dX11_at_34 : decode cX11_at 34 = .ok (.aload_n 1, 1) := dk_43 (dk_at dksX11_at_1 12 rfl rfl)
theorem dX11_at_35 : decode cX11_at 35 = .ok (.arraylength, 1) := dk_190 (dk_at dksX11_at_1 13 rfl rfl)
theorem dX11_at_36 : decode cX11_at 36 = .ok (.iadd, 1) := dk_96 (dk_at dksX11_at_1 14 rfl rfl)
theorem dX11_at_37 : decode cX11_at 37 = .ok (.iload_n 3, 1) := dk_29 (dk_at dksX11_at_1 15 rfl rfl)
theorem dX11_at_38 : decode cX11_at 38 = .ok (.fload 4, 2) := dk_23 4 (dk_at dksX11_at_1 16 rfl rfl)
theorem dX11_at_40 : decode cX11_at 40 = .ok (.invokespecial 13, 3) := dk_183 0 13 (dk_at dksX11_at_1 18 rfl rfl)
theorem dX11_at_43 : decode cX11_at 43 = .ok (.fsub, 1) := dk_102 (dk_at dksX11_at_1 21 rfl rfl)
theorem dX11_at_44 : decode cX11_at 44 = .ok (.freturn, 1) := dk_174 (dk_at dksX11_at_1 22 rfl rfl)
def dkwX12_init_0 : List UInt8 := [42, 43, 28, 29, 183, 0, 1, 42, 21, 4, 181, 0, 7, 177]
abbrev dktX12_init_0 : List UInt8 := dkwX12_init_0 ++ []
theorem dksX12_init_0 : cX12_init.data.toList.drop 0 = dktX12_init_0 := by decide +kernel
theorem dX12_init_0 : decode cX12_init 0 = .ok (.aload_n 0, 1) := dk_42 (dk_at dksX12_init_0 0 rfl rfl)
theorem dX12_init_1 : decode cX12_init 1 = .ok (.aload_n 1, 1) := dk_43 (dk_at dksX12_init_0 1 rfl rfl)
theorem dX12_init_2 : decode cX12_init 2 = .ok (.iload_n 2, 1) := dk_28 (dk_at dksX12_init_0 2 rfl rfl)
theorem dX12_init_3 : decode cX12_init 3 = .ok (.iload_n 3, 1) := dk_29 (dk_at dksX12_init_0 3 rfl rfl)
theorem dX12_init_4 : decode cX12_init 4 = .ok (.invokespecial 1, 3) := dk_183 0 1 (dk_at dksX12_init_0 4 rfl rfl)
theorem dX12_init_7 : decode cX12_init 7 = .ok (.aload_n 0, 1) := dk_42 (dk_at dksX12_init_0 7 rfl rfl)
theorem dX12_init_8 : decode cX12_init 8 = .ok (.iload 4, 2) := dk_21 4 (dk_at dksX12_init_0 8 rfl rfl)
theorem dX12_init_10 : decode cX12_init 10 = .ok (.putfield 7, 3) := dk_181 0 7 (dk_at dksX12_init_0 10 rfl rfl)
theorem dX12_init_13 : decode cX12_init 13 = .ok (.return_, 1) := dk_177 (dk_at dksX12_init_0 13 rfl rfl)
theorem dX12_kind_0 : decode cX12_kind 0 = .ok (.iconst 2, 1) := by decide +kernel
theorem dX12_kind_1 : decode cX12_kind 1 = .ok (.ireturn, 1) := by decide +kernel
theorem dX12_first_0 : decode cX12_first 0 = .ok (.aload_n 0, 1) := by decide +kernel
theorem dX12_first_1 : decode cX12_first 1 = .ok (.getfield 7, 3) := by decide +kernel
theorem dX12_first_4 : decode cX12_first 4 = .ok (.ireturn, 1) := by decide +kernel
def dkwX12_at_0 : List UInt8 := [28, 42, 180, 0, 7, 162, 0, 7, 11, 167, 0, 12, 42, 43, 28, 29, 23, 4, 183, 0, 13, 174]
abbrev dktX12_at_0 : List UInt8 := dkwX12_at_0 ++ []
theorem dksX12_at_0 : cX12_at.data.toList.drop 0 = dktX12_at_0 := by decide +kernel
theorem dX12_at_0 : decode cX12_at 0 = .ok (.iload_n 2, 1) := dk_28 (dk_at dksX12_at_0 0 rfl rfl)
theorem dX12_at_1 : decode cX12_at 1 = .ok (.aload_n 0, 1) := dk_42 (dk_at dksX12_at_0 1 rfl rfl)
theorem dX12_at_2 : decode cX12_at 2 = .ok (.getfield 7, 3) := dk_180 0 7 (dk_at dksX12_at_0 2 rfl rfl)
theorem dX12_at_5 : decode cX12_at 5 = .ok (.if_icmp .ge 7, 3) := dk_162 0 7 (dk_at dksX12_at_0 5 rfl rfl)
theorem dX12_at_8 : decode cX12_at 8 = .ok (.fconst 0, 1) := dk_11 (dk_at dksX12_at_0 8 rfl rfl)
theorem dX12_at_9 : decode cX12_at 9 = .ok (.goto 12, 3) := dk_167 0 12 (dk_at dksX12_at_0 9 rfl rfl)
theorem dX12_at_12 : decode cX12_at 12 = .ok (.aload_n 0, 1) := dk_42 (dk_at dksX12_at_0 12 rfl rfl)
theorem dX12_at_13 : decode cX12_at 13 = .ok (.aload_n 1, 1) := dk_43 (dk_at dksX12_at_0 13 rfl rfl)
theorem dX12_at_14 : decode cX12_at 14 = .ok (.iload_n 2, 1) := dk_28 (dk_at dksX12_at_0 14 rfl rfl)
theorem dX12_at_15 : decode cX12_at 15 = .ok (.iload_n 3, 1) := dk_29 (dk_at dksX12_at_0 15 rfl rfl)
theorem dX12_at_16 : decode cX12_at 16 = .ok (.fload 4, 2) := dk_23 4 (dk_at dksX12_at_0 16 rfl rfl)
theorem dX12_at_18 : decode cX12_at 18 = .ok (.invokespecial 13, 3) := dk_183 0 13 (dk_at dksX12_at_0 18 rfl rfl)
theorem dX12_at_21 : decode cX12_at 21 = .ok (.freturn, 1) := dk_174 (dk_at dksX12_at_0 21 rfl rfl)
def dkwX13_init_0 : List UInt8 := [42, 43, 28, 29, 183, 0, 1, 42, 21, 4, 181, 0, 7, 42, 21, 5, 181, 0, 13, 177]
abbrev dktX13_init_0 : List UInt8 := dkwX13_init_0 ++ []
theorem dksX13_init_0 : cX13_init.data.toList.drop 0 = dktX13_init_0 := by decide +kernel
theorem dX13_init_0 : decode cX13_init 0 = .ok (.aload_n 0, 1) := dk_42 (dk_at dksX13_init_0 0 rfl rfl)
theorem dX13_init_1 : decode cX13_init 1 = .ok (.aload_n 1, 1) := dk_43 (dk_at dksX13_init_0 1 rfl rfl)
theorem dX13_init_2 : decode cX13_init 2 = .ok (.iload_n 2, 1) := dk_28 (dk_at dksX13_init_0 2 rfl rfl)
theorem dX13_init_3 : decode cX13_init 3 = .ok (.iload_n 3, 1) := dk_29 (dk_at dksX13_init_0 3 rfl rfl)
theorem dX13_init_4 : decode cX13_init 4 = .ok (.invokespecial 1, 3) := dk_183 0 1 (dk_at dksX13_init_0 4 rfl rfl)
theorem dX13_init_7 : decode cX13_init 7 = .ok (.aload_n 0, 1) := dk_42 (dk_at dksX13_init_0 7 rfl rfl)
theorem dX13_init_8 : decode cX13_init 8 = .ok (.iload 4, 2) := dk_21 4 (dk_at dksX13_init_0 8 rfl rfl)
theorem dX13_init_10 : decode cX13_init 10 = .ok (.putfield 7, 3) := dk_181 0 7 (dk_at dksX13_init_0 10 rfl rfl)
theorem dX13_init_13 : decode cX13_init 13 = .ok (.aload_n 0, 1) := dk_42 (dk_at dksX13_init_0 13 rfl rfl)
theorem dX13_init_14 : decode cX13_init 14 = .ok (.iload 5, 2) := dk_21 5 (dk_at dksX13_init_0 14 rfl rfl)
theorem dX13_init_16 : decode cX13_init 16 = .ok (.putfield 13, 3) := dk_181 0 13 (dk_at dksX13_init_0 16 rfl rfl)
theorem dX13_init_19 : decode cX13_init 19 = .ok (.return_, 1) := dk_177 (dk_at dksX13_init_0 19 rfl rfl)
theorem dX13_kind_0 : decode cX13_kind 0 = .ok (.iconst 3, 1) := by decide +kernel
theorem dX13_kind_1 : decode cX13_kind 1 = .ok (.ireturn, 1) := by decide +kernel
theorem dX13_first_0 : decode cX13_first 0 = .ok (.aload_n 0, 1) := by decide +kernel
theorem dX13_first_1 : decode cX13_first 1 = .ok (.getfield 7, 3) := by decide +kernel
theorem dX13_first_4 : decode cX13_first 4 = .ok (.ireturn, 1) := by decide +kernel
theorem dX13_out_0 : decode cX13_out 0 = .ok (.aload_n 0, 1) := by decide +kernel
theorem dX13_out_1 : decode cX13_out 1 = .ok (.getfield 13, 3) := by decide +kernel
theorem dX13_out_4 : decode cX13_out 4 = .ok (.ireturn, 1) := by decide +kernel
def dkwX13_at_0 : List UInt8 := [28, 29, 162, 0, 7, 11, 167, 0, 15, 42, 43, 28, 29, 23, 4, 183, 0, 16, 23, 4, 106, 174]
abbrev dktX13_at_0 : List UInt8 := dkwX13_at_0 ++ []
theorem dksX13_at_0 : cX13_at.data.toList.drop 0 = dktX13_at_0 := by decide +kernel
theorem dX13_at_0 : decode cX13_at 0 = .ok (.iload_n 2, 1) := dk_28 (dk_at dksX13_at_0 0 rfl rfl)
theorem dX13_at_1 : decode cX13_at 1 = .ok (.iload_n 3, 1) := dk_29 (dk_at dksX13_at_0 1 rfl rfl)
theorem dX13_at_2 : decode cX13_at 2 = .ok (.if_icmp .ge 7, 3) := dk_162 0 7 (dk_at dksX13_at_0 2 rfl rfl)
theorem dX13_at_5 : decode cX13_at 5 = .ok (.fconst 0, 1) := dk_11 (dk_at dksX13_at_0 5 rfl rfl)
theorem dX13_at_6 : decode cX13_at 6 = .ok (.goto 15, 3) := dk_167 0 15 (dk_at dksX13_at_0 6 rfl rfl)
theorem dX13_at_9 : decode cX13_at 9 = .ok (.aload_n 0, 1) := dk_42 (dk_at dksX13_at_0 9 rfl rfl)
theorem dX13_at_10 : decode cX13_at 10 = .ok (.aload_n 1, 1) := dk_43 (dk_at dksX13_at_0 10 rfl rfl)
theorem dX13_at_11 : decode cX13_at 11 = .ok (.iload_n 2, 1) := dk_28 (dk_at dksX13_at_0 11 rfl rfl)
theorem dX13_at_12 : decode cX13_at 12 = .ok (.iload_n 3, 1) := dk_29 (dk_at dksX13_at_0 12 rfl rfl)
theorem dX13_at_13 : decode cX13_at 13 = .ok (.fload 4, 2) := dk_23 4 (dk_at dksX13_at_0 13 rfl rfl)
theorem dX13_at_15 : decode cX13_at 15 = .ok (.invokespecial 16, 3) := dk_183 0 16 (dk_at dksX13_at_0 15 rfl rfl)
theorem dX13_at_18 : decode cX13_at 18 = .ok (.fload 4, 2) := dk_23 4 (dk_at dksX13_at_0 18 rfl rfl)
theorem dX13_at_20 : decode cX13_at 20 = .ok (.fmul, 1) := dk_106 (dk_at dksX13_at_0 20 rfl rfl)
theorem dX13_at_21 : decode cX13_at 21 = .ok (.freturn, 1) := dk_174 (dk_at dksX13_at_0 21 rfl rfl)
def dkwX14_init_1 : List UInt8 := [181, 0, 22, 177]
abbrev dktX14_init_1 : List UInt8 := dkwX14_init_1 ++ []
def dkwX14_init_0 : List UInt8 := [42, 183, 0, 1, 42, 187, 0, 7, 89, 5, 183, 0, 9, 181, 0, 12, 42, 43, 181, 0, 18, 42, 28]
abbrev dktX14_init_0 : List UInt8 := dkwX14_init_0 ++ dktX14_init_1
theorem dksX14_init_0 : cX14_init.data.toList.drop 0 = dktX14_init_0 := by decide +kernel
theorem dksX14_init_1 : cX14_init.data.toList.drop 23 = dktX14_init_1 := dk_seg dksX14_init_0 23 rfl rfl
theorem dX14_init_0 : decode cX14_init 0 = .ok (.aload_n 0, 1) := dk_42 (dk_at dksX14_init_0 0 rfl rfl)
theorem dX14_init_1 : decode cX14_init 1 = .ok (.invokespecial 1, 3) := dk_183 0 1 (dk_at dksX14_init_0 1 rfl rfl)
theorem dX14_init_4 : decode cX14_init 4 = .ok (.aload_n 0, 1) := dk_42 (dk_at dksX14_init_0 4 rfl rfl)
theorem dX14_init_5 : decode cX14_init 5 = .ok (.new 7, 3) := dk_187 0 7 (dk_at dksX14_init_0 5 rfl rfl)
theorem dX14_init_8 : decode cX14_init 8 = .ok (.dup, 1) := dk_89 (dk_at dksX14_init_0 8 rfl rfl)
theorem dX14_init_9 : decode cX14_init 9 = .ok (.iconst 2, 1) := dk_5 (dk_at dksX14_init_0 9 rfl rfl)
theorem dX14_init_10 : decode cX14_init 10 = .ok (.invokespecial 9, 3) := dk_183 0 9 (dk_at dksX14_init_0 10 rfl rfl)
theorem dX14_init_13 : decode cX14_init 13 = .ok (.putfield 12, 3) := dk_181 0 12 (dk_at dksX14_init_0 13 rfl rfl)
theorem dX14_init_16 : decode cX14_init 16 = .ok (.aload_n 0, 1) := dk_42 (dk_at dksX14_init_0 16 rfl rfl)
theorem dX14_init_17 : decode cX14_init 17 = .ok (.aload_n 1, 1) := dk_43 (dk_at dksX14_init_0 17 rfl rfl)
theorem dX14_init_18 : decode cX14_init 18 = .ok (.putfield 18, 3) := dk_181 0 18 (dk_at dksX14_init_0 18 rfl rfl)
theorem dX14_init_21 : decode cX14_init 21 = .ok (.aload_n 0, 1) := dk_42 (dk_at dksX14_init_0 21 rfl rfl)
theorem dX14_init_22 : decode cX14_init 22 = .ok (.iload_n 2, 1) := dk_28 (dk_at dksX14_init_0 22 rfl rfl)
theorem dX14_init_23 : decode cX14_init 23 = .ok (.putfield 22, 3) := dk_181 0 22 (dk_at dksX14_init_1 0 rfl rfl)
theorem dX14_init_26 : decode cX14_init 26 = .ok (.return_, 1) := dk_177 (dk_at dksX14_init_1 3 rfl rfl)
def dkwX14_matches_1 : List UInt8 := [43, 182, 0, 36, 154, 0, 5, 3, 172, 132, 2, 1, 167, 255, 222, 4, 172]
abbrev dktX14_matches_1 : List UInt8 := dkwX14_matches_1 ++ []
def dkwX14_matches_0 : List UInt8 := [3, 61, 28, 42, 180, 0, 12, 182, 0, 26, 162, 0, 29, 42, 180, 0, 12, 28, 182, 0, 30, 192, 0, 34]
abbrev dktX14_matches_0 : List UInt8 := dkwX14_matches_0 ++ dktX14_matches_1
theorem dksX14_matches_0 : cX14_matches.data.toList.drop 0 = dktX14_matches_0 := by decide +kernel
theorem dksX14_matches_1 : cX14_matches.data.toList.drop 24 = dktX14_matches_1 := dk_seg dksX14_matches_0 24 rfl rfl
theorem dX14_matches_0 : decode cX14_matches 0 = .ok (.iconst 0, 1) := dk_3 (dk_at dksX14_matches_0 0 rfl rfl)
theorem dX14_matches_1 : decode cX14_matches 1 = .ok (.istore_n 2, 1) := dk_61 (dk_at dksX14_matches_0 1 rfl rfl)
theorem dX14_matches_2 : decode cX14_matches 2 = .ok (.iload_n 2, 1) := dk_28 (dk_at dksX14_matches_0 2 rfl rfl)
theorem dX14_matches_3 : decode cX14_matches 3 = .ok (.aload_n 0, 1) := dk_42 (dk_at dksX14_matches_0 3 rfl rfl)
theorem dX14_matches_4 : decode cX14_matches 4 = .ok (.getfield 12, 3) := dk_180 0 12 (dk_at dksX14_matches_0 4 rfl rfl)
theorem dX14_matches_7 : decode cX14_matches 7 = .ok (.invokevirtual 26, 3) := dk_182 0 26 (dk_at dksX14_matches_0 7 rfl rfl)
theorem dX14_matches_10 : decode cX14_matches 10 = .ok (.if_icmp .ge 29, 3) := dk_162 0 29 (dk_at dksX14_matches_0 10 rfl rfl)
theorem dX14_matches_13 : decode cX14_matches 13 = .ok (.aload_n 0, 1) := dk_42 (dk_at dksX14_matches_0 13 rfl rfl)
theorem dX14_matches_14 : decode cX14_matches 14 = .ok (.getfield 12, 3) := dk_180 0 12 (dk_at dksX14_matches_0 14 rfl rfl)
theorem dX14_matches_17 : decode cX14_matches 17 = .ok (.iload_n 2, 1) := dk_28 (dk_at dksX14_matches_0 17 rfl rfl)
theorem dX14_matches_18 : decode cX14_matches 18 = .ok (.invokevirtual 30, 3) := dk_182 0 30 (dk_at dksX14_matches_0 18 rfl rfl)
theorem dX14_matches_21 : decode cX14_matches 21 = .ok (.checkcast 34, 3) := dk_192 0 34 (dk_at dksX14_matches_0 21 rfl rfl)
theorem dX14_matches_24 : decode cX14_matches 24 = .ok (.aload_n 1, 1) := dk_43 (dk_at dksX14_matches_1 0 rfl rfl)
theorem dX14_matches_25 : decode cX14_matches 25 = .ok (.invokevirtual 36, 3) := dk_182 0 36 (dk_at dksX14_matches_1 1 rfl rfl)
theorem dX14_matches_28 : decode cX14_matches 28 = .ok (.ifCond .ne 5, 3) := dk_154 0 5 (dk_at dksX14_matches_1 4 rfl rfl)
theorem dX14_matches_31 : decode cX14_matches 31 = .ok (.iconst 0, 1) := dk_3 (dk_at dksX14_matches_1 7 rfl rfl)
theorem dX14_matches_32 : decode cX14_matches 32 = .ok (.ireturn, 1) := dk_172 (dk_at dksX14_matches_1 8 rfl rfl)
theorem dX14_matches_33 : decode cX14_matches 33 = .ok (.iinc 2 1, 3) := dk_132 2 1 (dk_at dksX14_matches_1 9 rfl rfl)
theorem dX14_matches_36 : decode cX14_matches 36 = .ok (.goto (-34), 3) := dk_167 255 222 (dk_at dksX14_matches_1 12 rfl rfl)
theorem dX14_matches_39 : decode cX14_matches 39 = .ok (.iconst 1, 1) := dk_4 (dk_at dksX14_matches_1 15 rfl rfl)
theorem dX14_matches_40 : decode cX14_matches 40 = .ok (.ireturn, 1) := dk_172 (dk_at dksX14_matches_1 16 rfl rfl)
def dkwX15_init_0 : List UInt8 := [42, 183, 0, 1, 42, 27, 181, 0, 7, 42, 28, 181, 0, 13, 42, 29, 181, 0, 17, 177]
abbrev dktX15_init_0 : List UInt8 := dkwX15_init_0 ++ []
theorem dksX15_init_0 : cX15_init.data.toList.drop 0 = dktX15_init_0 := by decide +kernel
theorem dX15_init_0 : decode cX15_init 0 = .ok (.aload_n 0, 1) := dk_42 (dk_at dksX15_init_0 0 rfl rfl)
theorem dX15_init_1 : decode cX15_init 1 = .ok (.invokespecial 1, 3) := dk_183 0 1 (dk_at dksX15_init_0 1 rfl rfl)
theorem dX15_init_4 : decode cX15_init 4 = .ok (.aload_n 0, 1) := dk_42 (dk_at dksX15_init_0 4 rfl rfl)
theorem dX15_init_5 : decode cX15_init 5 = .ok (.iload_n 1, 1) := dk_27 (dk_at dksX15_init_0 5 rfl rfl)
theorem dX15_init_6 : decode cX15_init 6 = .ok (.putfield 7, 3) := dk_181 0 7 (dk_at dksX15_init_0 6 rfl rfl)
theorem dX15_init_9 : decode cX15_init 9 = .ok (.aload_n 0, 1) := dk_42 (dk_at dksX15_init_0 9 rfl rfl)
theorem dX15_init_10 : decode cX15_init 10 = .ok (.iload_n 2, 1) := dk_28 (dk_at dksX15_init_0 10 rfl rfl)
theorem dX15_init_11 : decode cX15_init 11 = .ok (.putfield 13, 3) := dk_181 0 13 (dk_at dksX15_init_0 11 rfl rfl)
theorem dX15_init_14 : decode cX15_init 14 = .ok (.aload_n 0, 1) := dk_42 (dk_at dksX15_init_0 14 rfl rfl)
theorem dX15_init_15 : decode cX15_init 15 = .ok (.iload_n 3, 1) := dk_29 (dk_at dksX15_init_0 15 rfl rfl)
theorem dX15_init_16 : decode cX15_init 16 = .ok (.putfield 17, 3) := dk_181 0 17 (dk_at dksX15_init_0 16 rfl rfl)
theorem dX15_init_19 : decode cX15_init 19 = .ok (.return_, 1) := dk_177 (dk_at dksX15_init_0 19 rfl rfl)
def dkwX15_holds_2 : List UInt8 := [167, 0, 4, 3, 172]
abbrev dktX15_holds_2 : List UInt8 := dkwX15_holds_2 ++ []
def dkwX15_holds_1 : List UInt8 := [167, 0, 27, 3, 167, 0, 23, 43, 42, 180, 0, 7, 48, 42, 180, 0, 17, 134, 149, 158, 0, 7, 4]
abbrev dktX15_holds_1 : List UInt8 := dkwX15_holds_1 ++ dktX15_holds_2
def dkwX15_holds_0 : List UInt8 := [42, 180, 0, 13, 153, 0, 26, 43, 42, 180, 0, 7, 48, 42, 180, 0, 17, 134, 150, 156, 0, 7, 4]
abbrev dktX15_holds_0 : List UInt8 := dkwX15_holds_0 ++ dktX15_holds_1
theorem dksX15_holds_0 : cX15_holds.data.toList.drop 0 = dktX15_holds_0 := by decide +kernel
theorem dksX15_holds_1 : cX15_holds.data.toList.drop 23 = dktX15_holds_1 := dk_seg dksX15_holds_0 23 rfl rfl
theorem dksX15_holds_2 : cX15_holds.data.toList.drop 46 = dktX15_holds_2 := dk_seg dksX15_holds_1 23 rfl rfl
theorem dX15_holds_0 : decode cX15_holds 0 = .ok (.aload_n 0, 1) := dk_42 (dk_at dksX15_holds_0 0 rfl rfl)
theorem dX15_holds_1 : decode cX15_holds 1 = .ok (.getfield 13, 3) := dk_180 0 13 (dk_at dksX15_holds_0 1 rfl rfl)
theorem dX15_holds_4 : decode cX15_holds 4 = .ok (.ifCond .eq 26, 3) := dk_153 0 26 (dk_at dksX15_holds_0 4 rfl rfl)
theorem dX15_holds_7 : decode cX15_holds 7 = .ok (.aload_n 1, 1) := dk_43 (dk_at dksX15_holds_0 7 rfl rfl)
theorem dX15_holds_8 : decode cX15_holds 8 = .ok (.aload_n 0, 1) := dk_42 (dk_at dksX15_holds_0 8 rfl rfl)
theorem dX15_holds_9 : decode cX15_holds 9 = .ok (.getfield 7, 3) := dk_180 0 7 (dk_at dksX15_holds_0 9 rfl rfl)
theorem dX15_holds_12 : decode cX15_holds 12 = .ok (.faload, 1) := dk_48 (dk_at dksX15_holds_0 12 rfl rfl)
theorem dX15_holds_13 : decode cX15_holds 13 = .ok (.aload_n 0, 1) := dk_42 (dk_at dksX15_holds_0 13 rfl rfl)
theorem dX15_holds_14 : decode cX15_holds 14 = .ok (.getfield 17, 3) := dk_180 0 17 (dk_at dksX15_holds_0 14 rfl rfl)
theorem dX15_holds_17 : decode cX15_holds 17 = .ok (.i2f, 1) := dk_134 (dk_at dksX15_holds_0 17 rfl rfl)
theorem dX15_holds_18 : decode cX15_holds 18 = .ok (.fcmp .g, 1) := dk_150 (dk_at dksX15_holds_0 18 rfl rfl)
theorem dX15_holds_19 : decode cX15_holds 19 = .ok (.ifCond .ge 7, 3) := dk_156 0 7 (dk_at dksX15_holds_0 19 rfl rfl)
theorem dX15_holds_22 : decode cX15_holds 22 = .ok (.iconst 1, 1) := dk_4 (dk_at dksX15_holds_0 22 rfl rfl)
theorem dX15_holds_23 : decode cX15_holds 23 = .ok (.goto 27, 3) := dk_167 0 27 (dk_at dksX15_holds_1 0 rfl rfl)
theorem dX15_holds_26 : decode cX15_holds 26 = .ok (.iconst 0, 1) := dk_3 (dk_at dksX15_holds_1 3 rfl rfl)
theorem dX15_holds_27 : decode cX15_holds 27 = .ok (.goto 23, 3) := dk_167 0 23 (dk_at dksX15_holds_1 4 rfl rfl)
theorem dX15_holds_30 : decode cX15_holds 30 = .ok (.aload_n 1, 1) := dk_43 (dk_at dksX15_holds_1 7 rfl rfl)
theorem dX15_holds_31 : decode cX15_holds 31 = .ok (.aload_n 0, 1) := dk_42 (dk_at dksX15_holds_1 8 rfl rfl)
theorem dX15_holds_32 : decode cX15_holds 32 = .ok (.getfield 7, 3) := dk_180 0 7 (dk_at dksX15_holds_1 9 rfl rfl)
theorem dX15_holds_35 : decode cX15_holds 35 = .ok (.faload, 1) := dk_48 (dk_at dksX15_holds_1 12 rfl rfl)
theorem dX15_holds_36 : decode cX15_holds 36 = .ok (.aload_n 0, 1) := dk_42 (dk_at dksX15_holds_1 13 rfl rfl)
theorem dX15_holds_37 : decode cX15_holds 37 = .ok (.getfield 17, 3) := dk_180 0 17 (dk_at dksX15_holds_1 14 rfl rfl)
theorem dX15_holds_40 : decode cX15_holds 40 = .ok (.i2f, 1) := dk_134 (dk_at dksX15_holds_1 17 rfl rfl)
theorem dX15_holds_41 : decode cX15_holds 41 = .ok (.fcmp .l, 1) := dk_149 (dk_at dksX15_holds_1 18 rfl rfl)
theorem dX15_holds_42 : decode cX15_holds 42 = .ok (.ifCond .le 7, 3) := dk_158 0 7 (dk_at dksX15_holds_1 19 rfl rfl)
theorem dX15_holds_45 : decode cX15_holds 45 = .ok (.iconst 1, 1) := dk_4 (dk_at dksX15_holds_1 22 rfl rfl)
theorem dX15_holds_46 : decode cX15_holds 46 = .ok (.goto 4, 3) := dk_167 0 4 (dk_at dksX15_holds_2 0 rfl rfl)
theorem dX15_holds_49 : decode cX15_holds 49 = .ok (.iconst 0, 1) := dk_3 (dk_at dksX15_holds_2 3 rfl rfl)
theorem dX15_holds_50 : decode cX15_holds 50 = .ok (.ireturn, 1) := dk_172 (dk_at dksX15_holds_2 4 rfl rfl)
def dkwX16_init_0 : List UInt8 := [42, 183, 0, 1, 42, 43, 181, 0, 7, 42, 28, 181, 0, 13, 177]
abbrev dktX16_init_0 : List UInt8 := dkwX16_init_0 ++ []
theorem dksX16_init_0 : cX16_init.data.toList.drop 0 = dktX16_init_0 := by decide +kernel
theorem dX16_init_0 : decode cX16_init 0 = .ok (.aload_n 0, 1) := dk_42 (dk_at dksX16_init_0 0 rfl rfl)
theorem dX16_init_1 : decode cX16_init 1 = .ok (.invokespecial 1, 3) := dk_183 0 1 (dk_at dksX16_init_0 1 rfl rfl)
theorem dX16_init_4 : decode cX16_init 4 = .ok (.aload_n 0, 1) := dk_42 (dk_at dksX16_init_0 4 rfl rfl)
theorem dX16_init_5 : decode cX16_init 5 = .ok (.aload_n 1, 1) := dk_43 (dk_at dksX16_init_0 5 rfl rfl)
theorem dX16_init_6 : decode cX16_init 6 = .ok (.putfield 7, 3) := dk_181 0 7 (dk_at dksX16_init_0 6 rfl rfl)
theorem dX16_init_9 : decode cX16_init 9 = .ok (.aload_n 0, 1) := dk_42 (dk_at dksX16_init_0 9 rfl rfl)
theorem dX16_init_10 : decode cX16_init 10 = .ok (.iload_n 2, 1) := dk_28 (dk_at dksX16_init_0 10 rfl rfl)
theorem dX16_init_11 : decode cX16_init 11 = .ok (.putfield 13, 3) := dk_181 0 13 (dk_at dksX16_init_0 11 rfl rfl)
theorem dX16_init_14 : decode cX16_init 14 = .ok (.return_, 1) := dk_177 (dk_at dksX16_init_0 14 rfl rfl)
def dkwX17_init_0 : List UInt8 := [42, 183, 0, 1, 42, 27, 181, 0, 7, 42, 28, 181, 0, 13, 42, 29, 181, 0, 16, 177]
abbrev dktX17_init_0 : List UInt8 := dkwX17_init_0 ++ []
theorem dksX17_init_0 : cX17_init.data.toList.drop 0 = dktX17_init_0 := by decide +kernel
theorem dX17_init_0 : decode cX17_init 0 = .ok (.aload_n 0, 1) := dk_42 (dk_at dksX17_init_0 0 rfl rfl)
theorem dX17_init_1 : decode cX17_init 1 = .ok (.invokespecial 1, 3) := dk_183 0 1 (dk_at dksX17_init_0 1 rfl rfl)
theorem dX17_init_4 : decode cX17_init 4 = .ok (.aload_n 0, 1) := dk_42 (dk_at dksX17_init_0 4 rfl rfl)
theorem dX17_init_5 : decode cX17_init 5 = .ok (.iload_n 1, 1) := dk_27 (dk_at dksX17_init_0 5 rfl rfl)
theorem dX17_init_6 : decode cX17_init 6 = .ok (.putfield 7, 3) := dk_181 0 7 (dk_at dksX17_init_0 6 rfl rfl)
theorem dX17_init_9 : decode cX17_init 9 = .ok (.aload_n 0, 1) := dk_42 (dk_at dksX17_init_0 9 rfl rfl)
theorem dX17_init_10 : decode cX17_init 10 = .ok (.iload_n 2, 1) := dk_28 (dk_at dksX17_init_0 10 rfl rfl)
theorem dX17_init_11 : decode cX17_init 11 = .ok (.putfield 13, 3) := dk_181 0 13 (dk_at dksX17_init_0 11 rfl rfl)
theorem dX17_init_14 : decode cX17_init 14 = .ok (.aload_n 0, 1) := dk_42 (dk_at dksX17_init_0 14 rfl rfl)
theorem dX17_init_15 : decode cX17_init 15 = .ok (.iload_n 3, 1) := dk_29 (dk_at dksX17_init_0 15 rfl rfl)
theorem dX17_init_16 : decode cX17_init 16 = .ok (.putfield 16, 3) := dk_181 0 16 (dk_at dksX17_init_0 16 rfl rfl)
theorem dX17_init_19 : decode cX17_init 19 = .ok (.return_, 1) := dk_177 (dk_at dksX17_init_0 19 rfl rfl)
def dkwX18_of_2 : List UInt8 := [54, 5, 132, 6, 1, 167, 255, 223, 21, 5, 134, 174]
abbrev dktX18_of_2 : List UInt8 := dkwX18_of_2 ++ []
def dkwX18_of_1 : List UInt8 := [162, 0, 32, 21, 5, 43, 21, 6, 48, 184, 0, 18, 23, 4, 150, 157, 0, 7, 4, 167, 0, 4, 3, 96]
abbrev dktX18_of_1 : List UInt8 := dkwX18_of_1 ++ dktX18_of_2
def dkwX18_of_0 : List UInt8 := [44, 178, 0, 7, 182, 0, 13, 48, 18, 17, 106, 56, 4, 3, 54, 5, 3, 54, 6, 21, 6, 43, 190]
abbrev dktX18_of_0 : List UInt8 := dkwX18_of_0 ++ dktX18_of_1
theorem dksX18_of_0 : cX18_of.data.toList.drop 0 = dktX18_of_0 := by decide +kernel
theorem dksX18_of_1 : cX18_of.data.toList.drop 23 = dktX18_of_1 := dk_seg dksX18_of_0 23 rfl rfl
theorem dksX18_of_2 : cX18_of.data.toList.drop 47 = dktX18_of_2 := dk_seg dksX18_of_1 24 rfl rfl
theorem dX18_of_0 : decode cX18_of 0 = .ok (.aload_n 2, 1) := dk_44 (dk_at dksX18_of_0 0 rfl rfl)
theorem dX18_of_1 : decode cX18_of 1 = .ok (.getstatic 7, 3) := dk_178 0 7 (dk_at dksX18_of_0 1 rfl rfl)
theorem dX18_of_4 : decode cX18_of 4 = .ok (.invokevirtual 13, 3) := dk_182 0 13 (dk_at dksX18_of_0 4 rfl rfl)
theorem dX18_of_7 : decode cX18_of 7 = .ok (.faload, 1) := dk_48 (dk_at dksX18_of_0 7 rfl rfl)
theorem dX18_of_8 : decode cX18_of 8 = .ok (.ldc 17, 2) := dk_18 17 (dk_at dksX18_of_0 8 rfl rfl)
theorem dX18_of_10 : decode cX18_of 10 = .ok (.fmul, 1) := dk_106 (dk_at dksX18_of_0 10 rfl rfl)
theorem dX18_of_11 : decode cX18_of 11 = .ok (.fstore 4, 2) := dk_56 4 (dk_at dksX18_of_0 11 rfl rfl)
theorem dX18_of_13 : decode cX18_of 13 = .ok (.iconst 0, 1) := dk_3 (dk_at dksX18_of_0 13 rfl rfl)
theorem dX18_of_14 : decode cX18_of 14 = .ok (.istore 5, 2) := dk_54 5 (dk_at dksX18_of_0 14 rfl rfl)
theorem dX18_of_16 : decode cX18_of 16 = .ok (.iconst 0, 1) := dk_3 (dk_at dksX18_of_0 16 rfl rfl)
theorem dX18_of_17 : decode cX18_of 17 = .ok (.istore 6, 2) := dk_54 6 (dk_at dksX18_of_0 17 rfl rfl)
theorem dX18_of_19 : decode cX18_of 19 = .ok (.iload 6, 2) := dk_21 6 (dk_at dksX18_of_0 19 rfl rfl)
theorem dX18_of_21 : decode cX18_of 21 = .ok (.aload_n 1, 1) := dk_43 (dk_at dksX18_of_0 21 rfl rfl)
theorem dX18_of_22 : decode cX18_of 22 = .ok (.arraylength, 1) := dk_190 (dk_at dksX18_of_0 22 rfl rfl)
theorem dX18_of_23 : decode cX18_of 23 = .ok (.if_icmp .ge 32, 3) := dk_162 0 32 (dk_at dksX18_of_1 0 rfl rfl)
theorem dX18_of_26 : decode cX18_of 26 = .ok (.iload 5, 2) := dk_21 5 (dk_at dksX18_of_1 3 rfl rfl)
theorem dX18_of_28 : decode cX18_of 28 = .ok (.aload_n 1, 1) := dk_43 (dk_at dksX18_of_1 5 rfl rfl)
theorem dX18_of_29 : decode cX18_of 29 = .ok (.iload 6, 2) := dk_21 6 (dk_at dksX18_of_1 6 rfl rfl)
theorem dX18_of_31 : decode cX18_of 31 = .ok (.faload, 1) := dk_48 (dk_at dksX18_of_1 8 rfl rfl)
theorem dX18_of_32 : decode cX18_of 32 = .ok (.invokestatic 18, 3) := dk_184 0 18 (dk_at dksX18_of_1 9 rfl rfl)
theorem dX18_of_35 : decode cX18_of 35 = .ok (.fload 4, 2) := dk_23 4 (dk_at dksX18_of_1 12 rfl rfl)
theorem dX18_of_37 : decode cX18_of 37 = .ok (.fcmp .g, 1) := dk_150 (dk_at dksX18_of_1 14 rfl rfl)
theorem dX18_of_38 : decode cX18_of 38 = .ok (.ifCond .gt 7, 3) := dk_157 0 7 (dk_at dksX18_of_1 15 rfl rfl)
theorem dX18_of_41 : decode cX18_of 41 = .ok (.iconst 1, 1) := dk_4 (dk_at dksX18_of_1 18 rfl rfl)
theorem dX18_of_42 : decode cX18_of 42 = .ok (.goto 4, 3) := dk_167 0 4 (dk_at dksX18_of_1 19 rfl rfl)
theorem dX18_of_45 : decode cX18_of 45 = .ok (.iconst 0, 1) := dk_3 (dk_at dksX18_of_1 22 rfl rfl)
theorem dX18_of_46 : decode cX18_of 46 = .ok (.iadd, 1) := dk_96 (dk_at dksX18_of_1 23 rfl rfl)
theorem dX18_of_47 : decode cX18_of 47 = .ok (.istore 5, 2) := dk_54 5 (dk_at dksX18_of_2 0 rfl rfl)
theorem dX18_of_49 : decode cX18_of 49 = .ok (.iinc 6 1, 3) := dk_132 6 1 (dk_at dksX18_of_2 2 rfl rfl)
theorem dX18_of_52 : decode cX18_of 52 = .ok (.goto (-33), 3) := dk_167 255 223 (dk_at dksX18_of_2 5 rfl rfl)
theorem dX18_of_55 : decode cX18_of 55 = .ok (.iload 5, 2) := dk_21 5 (dk_at dksX18_of_2 8 rfl rfl)
theorem dX18_of_57 : decode cX18_of 57 = .ok (.i2f, 1) := dk_134 (dk_at dksX18_of_2 10 rfl rfl)
theorem dX18_of_58 : decode cX18_of 58 = .ok (.freturn, 1) := dk_174 (dk_at dksX18_of_2 11 rfl rfl)
def dkwX19_of_0 : List UInt8 := [37, 11, 150, 156, 0, 7, 11, 167, 0, 16, 44, 178, 0, 7, 182, 0, 13, 48, 37, 102, 184, 0, 17, 174]
abbrev dktX19_of_0 : List UInt8 := dkwX19_of_0 ++ []
theorem dksX19_of_0 : cX19_of.data.toList.drop 0 = dktX19_of_0 := by decide +kernel
theorem dX19_of_0 : decode cX19_of 0 = .ok (.fload_n 3, 1) := dk_37 (dk_at dksX19_of_0 0 rfl rfl)
theorem dX19_of_1 : decode cX19_of 1 = .ok (.fconst 0, 1) := dk_11 (dk_at dksX19_of_0 1 rfl rfl)
theorem dX19_of_2 : decode cX19_of 2 = .ok (.fcmp .g, 1) := dk_150 (dk_at dksX19_of_0 2 rfl rfl)
theorem dX19_of_3 : decode cX19_of 3 = .ok (.ifCond .ge 7, 3) := dk_156 0 7 (dk_at dksX19_of_0 3 rfl rfl)
theorem dX19_of_6 : decode cX19_of 6 = .ok (.fconst 0, 1) := dk_11 (dk_at dksX19_of_0 6 rfl rfl)
theorem dX19_of_7 : decode cX19_of 7 = .ok (.goto 16, 3) := dk_167 0 16 (dk_at dksX19_of_0 7 rfl rfl)
theorem dX19_of_10 : decode cX19_of 10 = .ok (.aload_n 2, 1) := dk_44 (dk_at dksX19_of_0 10 rfl rfl)
theorem dX19_of_11 : decode cX19_of 11 = .ok (.getstatic 7, 3) := dk_178 0 7 (dk_at dksX19_of_0 11 rfl rfl)
theorem dX19_of_14 : decode cX19_of 14 = .ok (.invokevirtual 13, 3) := dk_182 0 13 (dk_at dksX19_of_0 14 rfl rfl)
theorem dX19_of_17 : decode cX19_of 17 = .ok (.faload, 1) := dk_48 (dk_at dksX19_of_0 17 rfl rfl)
theorem dX19_of_18 : decode cX19_of 18 = .ok (.fload_n 3, 1) := dk_37 (dk_at dksX19_of_0 18 rfl rfl)
theorem dX19_of_19 : decode cX19_of 19 = .ok (.fsub, 1) := dk_102 (dk_at dksX19_of_0 19 rfl rfl)
theorem dX19_of_20 : decode cX19_of 20 = .ok (.invokestatic 17, 3) := dk_184 0 17 (dk_at dksX19_of_0 20 rfl rfl)
theorem dX19_of_23 : decode cX19_of 23 = .ok (.freturn, 1) := dk_174 (dk_at dksX19_of_0 23 rfl rfl)
def dkwX20_init_1 : List UInt8 := [181, 0, 19, 42, 23, 5, 181, 0, 22, 42, 25, 6, 181, 0, 26, 177]
abbrev dktX20_init_1 : List UInt8 := dkwX20_init_1 ++ []
def dkwX20_init_0 : List UInt8 := [42, 183, 0, 1, 42, 27, 181, 0, 7, 42, 28, 181, 0, 13, 42, 29, 181, 0, 16, 42, 21, 4]
abbrev dktX20_init_0 : List UInt8 := dkwX20_init_0 ++ dktX20_init_1
theorem dksX20_init_0 : cX20_init.data.toList.drop 0 = dktX20_init_0 := by decide +kernel
theorem dksX20_init_1 : cX20_init.data.toList.drop 22 = dktX20_init_1 := dk_seg dksX20_init_0 22 rfl rfl
theorem dX20_init_0 : decode cX20_init 0 = .ok (.aload_n 0, 1) := dk_42 (dk_at dksX20_init_0 0 rfl rfl)
theorem dX20_init_1 : decode cX20_init 1 = .ok (.invokespecial 1, 3) := dk_183 0 1 (dk_at dksX20_init_0 1 rfl rfl)
theorem dX20_init_4 : decode cX20_init 4 = .ok (.aload_n 0, 1) := dk_42 (dk_at dksX20_init_0 4 rfl rfl)
theorem dX20_init_5 : decode cX20_init 5 = .ok (.iload_n 1, 1) := dk_27 (dk_at dksX20_init_0 5 rfl rfl)
theorem dX20_init_6 : decode cX20_init 6 = .ok (.putfield 7, 3) := dk_181 0 7 (dk_at dksX20_init_0 6 rfl rfl)
theorem dX20_init_9 : decode cX20_init 9 = .ok (.aload_n 0, 1) := dk_42 (dk_at dksX20_init_0 9 rfl rfl)
theorem dX20_init_10 : decode cX20_init 10 = .ok (.iload_n 2, 1) := dk_28 (dk_at dksX20_init_0 10 rfl rfl)
theorem dX20_init_11 : decode cX20_init 11 = .ok (.putfield 13, 3) := dk_181 0 13 (dk_at dksX20_init_0 11 rfl rfl)
theorem dX20_init_14 : decode cX20_init 14 = .ok (.aload_n 0, 1) := dk_42 (dk_at dksX20_init_0 14 rfl rfl)
theorem dX20_init_15 : decode cX20_init 15 = .ok (.iload_n 3, 1) := dk_29 (dk_at dksX20_init_0 15 rfl rfl)
theorem dX20_init_16 : decode cX20_init 16 = .ok (.putfield 16, 3) := dk_181 0 16 (dk_at dksX20_init_0 16 rfl rfl)
theorem dX20_init_19 : decode cX20_init 19 = .ok (.aload_n 0, 1) := dk_42 (dk_at dksX20_init_0 19 rfl rfl)
theorem dX20_init_20 : decode cX20_init 20 = .ok (.iload 4, 2) := dk_21 4 (dk_at dksX20_init_0 20 rfl rfl)
theorem dX20_init_22 : decode cX20_init 22 = .ok (.putfield 19, 3) := dk_181 0 19 (dk_at dksX20_init_1 0 rfl rfl)
theorem dX20_init_25 : decode cX20_init 25 = .ok (.aload_n 0, 1) := dk_42 (dk_at dksX20_init_1 3 rfl rfl)
theorem dX20_init_26 : decode cX20_init 26 = .ok (.fload 5, 2) := dk_23 5 (dk_at dksX20_init_1 4 rfl rfl)
theorem dX20_init_28 : decode cX20_init 28 = .ok (.putfield 22, 3) := dk_181 0 22 (dk_at dksX20_init_1 6 rfl rfl)
theorem dX20_init_31 : decode cX20_init 31 = .ok (.aload_n 0, 1) := dk_42 (dk_at dksX20_init_1 9 rfl rfl)
theorem dX20_init_32 : decode cX20_init 32 = .ok (.aload 6, 2) := dk_25 6 (dk_at dksX20_init_1 10 rfl rfl)
theorem dX20_init_34 : decode cX20_init 34 = .ok (.putfield 26, 3) := dk_181 0 26 (dk_at dksX20_init_1 12 rfl rfl)
theorem dX20_init_37 : decode cX20_init 37 = .ok (.return_, 1) := dk_177 (dk_at dksX20_init_1 15 rfl rfl)
def dkwX21_of_2 : List UInt8 := [23, 4, 174]
abbrev dktX21_of_2 : List UInt8 := dkwX21_of_2 ++ []
def dkwX21_of_1 : List UInt8 := [158, 0, 13, 43, 21, 5, 48, 184, 0, 7, 167, 0, 5, 23, 4, 56, 4, 132, 5, 1, 167, 255, 219]
abbrev dktX21_of_1 : List UInt8 := dkwX21_of_1 ++ dktX21_of_2
def dkwX21_of_0 : List UInt8 := [11, 56, 4, 3, 54, 5, 21, 5, 43, 190, 162, 0, 36, 43, 21, 5, 48, 184, 0, 7, 23, 4, 149]
abbrev dktX21_of_0 : List UInt8 := dkwX21_of_0 ++ dktX21_of_1
theorem dksX21_of_0 : cX21_of.data.toList.drop 0 = dktX21_of_0 := by decide +kernel
theorem dksX21_of_1 : cX21_of.data.toList.drop 23 = dktX21_of_1 := dk_seg dksX21_of_0 23 rfl rfl
theorem dksX21_of_2 : cX21_of.data.toList.drop 46 = dktX21_of_2 := dk_seg dksX21_of_1 23 rfl rfl
theorem dX21_of_0 : decode cX21_of 0 = .ok (.fconst 0, 1) := dk_11 (dk_at dksX21_of_0 0 rfl rfl)
theorem dX21_of_1 : decode cX21_of 1 = .ok (.fstore 4, 2) := dk_56 4 (dk_at dksX21_of_0 1 rfl rfl)
theorem dX21_of_3 : decode cX21_of 3 = .ok (.iconst 0, 1) := dk_3 (dk_at dksX21_of_0 3 rfl rfl)
theorem dX21_of_4 : decode cX21_of 4 = .ok (.istore 5, 2) := dk_54 5 (dk_at dksX21_of_0 4 rfl rfl)
theorem dX21_of_6 : decode cX21_of 6 = .ok (.iload 5, 2) := dk_21 5 (dk_at dksX21_of_0 6 rfl rfl)
theorem dX21_of_8 : decode cX21_of 8 = .ok (.aload_n 1, 1) := dk_43 (dk_at dksX21_of_0 8 rfl rfl)
theorem dX21_of_9 : decode cX21_of 9 = .ok (.arraylength, 1) := dk_190 (dk_at dksX21_of_0 9 rfl rfl)
theorem dX21_of_10 : decode cX21_of 10 = .ok (.if_icmp .ge 36, 3) := dk_162 0 36 (dk_at dksX21_of_0 10 rfl rfl)
theorem dX21_of_13 : decode cX21_of 13 = .ok (.aload_n 1, 1) := dk_43 (dk_at dksX21_of_0 13 rfl rfl)
theorem dX21_of_14 : decode cX21_of 14 = .ok (.iload 5, 2) := dk_21 5 (dk_at dksX21_of_0 14 rfl rfl)
theorem dX21_of_16 : decode cX21_of 16 = .ok (.faload, 1) := dk_48 (dk_at dksX21_of_0 16 rfl rfl)
theorem dX21_of_17 : decode cX21_of 17 = .ok (.invokestatic 7, 3) := dk_184 0 7 (dk_at dksX21_of_0 17 rfl rfl)
theorem dX21_of_20 : decode cX21_of 20 = .ok (.fload 4, 2) := dk_23 4 (dk_at dksX21_of_0 20 rfl rfl)
theorem dX21_of_22 : decode cX21_of 22 = .ok (.fcmp .l, 1) := dk_149 (dk_at dksX21_of_0 22 rfl rfl)
theorem dX21_of_23 : decode cX21_of 23 = .ok (.ifCond .le 13, 3) := dk_158 0 13 (dk_at dksX21_of_1 0 rfl rfl)
theorem dX21_of_26 : decode cX21_of 26 = .ok (.aload_n 1, 1) := dk_43 (dk_at dksX21_of_1 3 rfl rfl)
theorem dX21_of_27 : decode cX21_of 27 = .ok (.iload 5, 2) := dk_21 5 (dk_at dksX21_of_1 4 rfl rfl)
theorem dX21_of_29 : decode cX21_of 29 = .ok (.faload, 1) := dk_48 (dk_at dksX21_of_1 6 rfl rfl)
theorem dX21_of_30 : decode cX21_of 30 = .ok (.invokestatic 7, 3) := dk_184 0 7 (dk_at dksX21_of_1 7 rfl rfl)
theorem dX21_of_33 : decode cX21_of 33 = .ok (.goto 5, 3) := dk_167 0 5 (dk_at dksX21_of_1 10 rfl rfl)
theorem dX21_of_36 : decode cX21_of 36 = .ok (.fload 4, 2) := dk_23 4 (dk_at dksX21_of_1 13 rfl rfl)
theorem dX21_of_38 : decode cX21_of 38 = .ok (.fstore 4, 2) := dk_56 4 (dk_at dksX21_of_1 15 rfl rfl)
theorem dX21_of_40 : decode cX21_of 40 = .ok (.iinc 5 1, 3) := dk_132 5 1 (dk_at dksX21_of_1 17 rfl rfl)
theorem dX21_of_43 : decode cX21_of 43 = .ok (.goto (-37), 3) := dk_167 255 219 (dk_at dksX21_of_1 20 rfl rfl)
theorem dX21_of_46 : decode cX21_of 46 = .ok (.fload 4, 2) := dk_23 4 (dk_at dksX21_of_2 0 rfl rfl)
theorem dX21_of_48 : decode cX21_of 48 = .ok (.freturn, 1) := dk_174 (dk_at dksX21_of_2 2 rfl rfl)
def dkwX22_of_1 : List UInt8 := [56, 4, 132, 5, 1, 167, 255, 234, 23, 4, 43, 190, 134, 110, 174]
abbrev dktX22_of_1 : List UInt8 := dkwX22_of_1 ++ []
def dkwX22_of_0 : List UInt8 := [11, 56, 4, 3, 54, 5, 21, 5, 43, 190, 162, 0, 21, 23, 4, 43, 21, 5, 48, 184, 0, 7, 98]
abbrev dktX22_of_0 : List UInt8 := dkwX22_of_0 ++ dktX22_of_1
theorem dksX22_of_0 : cX22_of.data.toList.drop 0 = dktX22_of_0 := by decide +kernel
theorem dksX22_of_1 : cX22_of.data.toList.drop 23 = dktX22_of_1 := dk_seg dksX22_of_0 23 rfl rfl
theorem dX22_of_0 : decode cX22_of 0 = .ok (.fconst 0, 1) := dk_11 (dk_at dksX22_of_0 0 rfl rfl)
theorem dX22_of_1 : decode cX22_of 1 = .ok (.fstore 4, 2) := dk_56 4 (dk_at dksX22_of_0 1 rfl rfl)
theorem dX22_of_3 : decode cX22_of 3 = .ok (.iconst 0, 1) := dk_3 (dk_at dksX22_of_0 3 rfl rfl)
theorem dX22_of_4 : decode cX22_of 4 = .ok (.istore 5, 2) := dk_54 5 (dk_at dksX22_of_0 4 rfl rfl)
theorem dX22_of_6 : decode cX22_of 6 = .ok (.iload 5, 2) := dk_21 5 (dk_at dksX22_of_0 6 rfl rfl)
theorem dX22_of_8 : decode cX22_of 8 = .ok (.aload_n 1, 1) := dk_43 (dk_at dksX22_of_0 8 rfl rfl)
theorem dX22_of_9 : decode cX22_of 9 = .ok (.arraylength, 1) := dk_190 (dk_at dksX22_of_0 9 rfl rfl)
theorem dX22_of_10 : decode cX22_of 10 = .ok (.if_icmp .ge 21, 3) := dk_162 0 21 (dk_at dksX22_of_0 10 rfl rfl)
theorem dX22_of_13 : decode cX22_of 13 = .ok (.fload 4, 2) := dk_23 4 (dk_at dksX22_of_0 13 rfl rfl)
theorem dX22_of_15 : decode cX22_of 15 = .ok (.aload_n 1, 1) := dk_43 (dk_at dksX22_of_0 15 rfl rfl)
theorem dX22_of_16 : decode cX22_of 16 = .ok (.iload 5, 2) := dk_21 5 (dk_at dksX22_of_0 16 rfl rfl)
theorem dX22_of_18 : decode cX22_of 18 = .ok (.faload, 1) := dk_48 (dk_at dksX22_of_0 18 rfl rfl)
theorem dX22_of_19 : decode cX22_of 19 = .ok (.invokestatic 7, 3) := dk_184 0 7 (dk_at dksX22_of_0 19 rfl rfl)
theorem dX22_of_22 : decode cX22_of 22 = .ok (.fadd, 1) := dk_98 (dk_at dksX22_of_0 22 rfl rfl)
theorem dX22_of_23 : decode cX22_of 23 = .ok (.fstore 4, 2) := dk_56 4 (dk_at dksX22_of_1 0 rfl rfl)
theorem dX22_of_25 : decode cX22_of 25 = .ok (.iinc 5 1, 3) := dk_132 5 1 (dk_at dksX22_of_1 2 rfl rfl)
theorem dX22_of_28 : decode cX22_of 28 = .ok (.goto (-22), 3) := dk_167 255 234 (dk_at dksX22_of_1 5 rfl rfl)
theorem dX22_of_31 : decode cX22_of 31 = .ok (.fload 4, 2) := dk_23 4 (dk_at dksX22_of_1 8 rfl rfl)
theorem dX22_of_33 : decode cX22_of 33 = .ok (.aload_n 1, 1) := dk_43 (dk_at dksX22_of_1 10 rfl rfl)
theorem dX22_of_34 : decode cX22_of 34 = .ok (.arraylength, 1) := dk_190 (dk_at dksX22_of_1 11 rfl rfl)
theorem dX22_of_35 : decode cX22_of 35 = .ok (.i2f, 1) := dk_134 (dk_at dksX22_of_1 12 rfl rfl)
theorem dX22_of_36 : decode cX22_of 36 = .ok (.fdiv, 1) := dk_110 (dk_at dksX22_of_1 13 rfl rfl)
theorem dX22_of_37 : decode cX22_of 37 = .ok (.freturn, 1) := dk_174 (dk_at dksX22_of_1 14 rfl rfl)
def dkwX23_of_2 : List UInt8 := [21, 6, 48, 56, 5, 132, 6, 1, 167, 255, 211, 23, 4, 174]
abbrev dktX23_of_2 : List UInt8 := dkwX23_of_2 ++ []
def dkwX23_of_1 : List UInt8 := [184, 0, 7, 56, 7, 23, 7, 23, 4, 149, 158, 0, 8, 23, 7, 167, 0, 5, 23, 4, 56, 4, 43]
abbrev dktX23_of_1 : List UInt8 := dkwX23_of_1 ++ dktX23_of_2
def dkwX23_of_0 : List UInt8 := [11, 56, 4, 11, 56, 5, 3, 54, 6, 21, 6, 43, 190, 162, 0, 44, 43, 21, 6, 48, 23, 5, 102]
abbrev dktX23_of_0 : List UInt8 := dkwX23_of_0 ++ dktX23_of_1
theorem dksX23_of_0 : cX23_of.data.toList.drop 0 = dktX23_of_0 := by decide +kernel
theorem dksX23_of_1 : cX23_of.data.toList.drop 23 = dktX23_of_1 := dk_seg dksX23_of_0 23 rfl rfl
theorem dksX23_of_2 : cX23_of.data.toList.drop 46 = dktX23_of_2 := dk_seg dksX23_of_1 23 rfl rfl
theorem dX23_of_0 : decode cX23_of 0 = .ok (.fconst 0, 1) := dk_11 (dk_at dksX23_of_0 0 rfl rfl)
theorem dX23_of_1 : decode cX23_of 1 = .ok (.fstore 4, 2) := dk_56 4 (dk_at dksX23_of_0 1 rfl rfl)
theorem dX23_of_3 : decode cX23_of 3 = .ok (.fconst 0, 1) := dk_11 (dk_at dksX23_of_0 3 rfl rfl)
theorem dX23_of_4 : decode cX23_of 4 = .ok (.fstore 5, 2) := dk_56 5 (dk_at dksX23_of_0 4 rfl rfl)
theorem dX23_of_6 : decode cX23_of 6 = .ok (.iconst 0, 1) := dk_3 (dk_at dksX23_of_0 6 rfl rfl)
theorem dX23_of_7 : decode cX23_of 7 = .ok (.istore 6, 2) := dk_54 6 (dk_at dksX23_of_0 7 rfl rfl)
theorem dX23_of_9 : decode cX23_of 9 = .ok (.iload 6, 2) := dk_21 6 (dk_at dksX23_of_0 9 rfl rfl)
theorem dX23_of_11 : decode cX23_of 11 = .ok (.aload_n 1, 1) := dk_43 (dk_at dksX23_of_0 11 rfl rfl)
theorem dX23_of_12 : decode cX23_of 12 = .ok (.arraylength, 1) := dk_190 (dk_at dksX23_of_0 12 rfl rfl)
theorem dX23_of_13 : decode cX23_of 13 = .ok (.if_icmp .ge 44, 3) := dk_162 0 44 (dk_at dksX23_of_0 13 rfl rfl)
theorem dX23_of_16 : decode cX23_of 16 = .ok (.aload_n 1, 1) := dk_43 (dk_at dksX23_of_0 16 rfl rfl)
theorem dX23_of_17 : decode cX23_of 17 = .ok (.iload 6, 2) := dk_21 6 (dk_at dksX23_of_0 17 rfl rfl)
theorem dX23_of_19 : decode cX23_of 19 = .ok (.faload, 1) := dk_48 (dk_at dksX23_of_0 19 rfl rfl)
theorem dX23_of_20 : decode cX23_of 20 = .ok (.fload 5, 2) := dk_23 5 (dk_at dksX23_of_0 20 rfl rfl)
theorem dX23_of_22 : decode cX23_of 22 = .ok (.fsub, 1) := dk_102 (dk_at dksX23_of_0 22 rfl rfl)
theorem dX23_of_23 : decode cX23_of 23 = .ok (.invokestatic 7, 3) := dk_184 0 7 (dk_at dksX23_of_1 0 rfl rfl)
theorem dX23_of_26 : decode cX23_of 26 = .ok (.fstore 7, 2) := dk_56 7 (dk_at dksX23_of_1 3 rfl rfl)
theorem dX23_of_28 : decode cX23_of 28 = .ok (.fload 7, 2) := dk_23 7 (dk_at dksX23_of_1 5 rfl rfl)
theorem dX23_of_30 : decode cX23_of 30 = .ok (.fload 4, 2) := dk_23 4 (dk_at dksX23_of_1 7 rfl rfl)
theorem dX23_of_32 : decode cX23_of 32 = .ok (.fcmp .l, 1) := dk_149 (dk_at dksX23_of_1 9 rfl rfl)
theorem dX23_of_33 : decode cX23_of 33 = .ok (.ifCond .le 8, 3) := dk_158 0 8 (dk_at dksX23_of_1 10 rfl rfl)
theorem dX23_of_36 : decode cX23_of 36 = .ok (.fload 7, 2) := dk_23 7 (dk_at dksX23_of_1 13 rfl rfl)
theorem dX23_of_38 : decode cX23_of 38 = .ok (.goto 5, 3) := dk_167 0 5 (dk_at dksX23_of_1 15 rfl rfl)
theorem dX23_of_41 : decode cX23_of 41 = .ok (.fload 4, 2) := dk_23 4 (dk_at dksX23_of_1 18 rfl rfl)
theorem dX23_of_43 : decode cX23_of 43 = .ok (.fstore 4, 2) := dk_56 4 (dk_at dksX23_of_1 20 rfl rfl)
theorem dX23_of_45 : decode cX23_of 45 = .ok (.aload_n 1, 1) := dk_43 (dk_at dksX23_of_1 22 rfl rfl)
theorem dX23_of_46 : decode cX23_of 46 = .ok (.iload 6, 2) := dk_21 6 (dk_at dksX23_of_2 0 rfl rfl)
theorem dX23_of_48 : decode cX23_of 48 = .ok (.faload, 1) := dk_48 (dk_at dksX23_of_2 2 rfl rfl)
theorem dX23_of_49 : decode cX23_of 49 = .ok (.fstore 5, 2) := dk_56 5 (dk_at dksX23_of_2 3 rfl rfl)
theorem dX23_of_51 : decode cX23_of 51 = .ok (.iinc 6 1, 3) := dk_132 6 1 (dk_at dksX23_of_2 5 rfl rfl)
theorem dX23_of_54 : decode cX23_of 54 = .ok (.goto (-45), 3) := dk_167 255 211 (dk_at dksX23_of_2 8 rfl rfl)
theorem dX23_of_57 : decode cX23_of 57 = .ok (.fload 4, 2) := dk_23 4 (dk_at dksX23_of_2 11 rfl rfl)
theorem dX23_of_59 : decode cX23_of 59 = .ok (.freturn, 1) := dk_174 (dk_at dksX23_of_2 13 rfl rfl)
def dkwX24_of_1 : List UInt8 := [98, 56, 4, 132, 5, 1, 167, 255, 232, 23, 4, 43, 190, 134, 110, 174]
abbrev dktX24_of_1 : List UInt8 := dkwX24_of_1 ++ []
def dkwX24_of_0 : List UInt8 := [11, 56, 4, 3, 54, 5, 21, 5, 43, 190, 162, 0, 23, 23, 4, 43, 21, 5, 48, 43, 21, 5, 48, 106]
abbrev dktX24_of_0 : List UInt8 := dkwX24_of_0 ++ dktX24_of_1
theorem dksX24_of_0 : cX24_of.data.toList.drop 0 = dktX24_of_0 := by decide +kernel
theorem dksX24_of_1 : cX24_of.data.toList.drop 24 = dktX24_of_1 := dk_seg dksX24_of_0 24 rfl rfl
theorem dX24_of_0 : decode cX24_of 0 = .ok (.fconst 0, 1) := dk_11 (dk_at dksX24_of_0 0 rfl rfl)
theorem dX24_of_1 : decode cX24_of 1 = .ok (.fstore 4, 2) := dk_56 4 (dk_at dksX24_of_0 1 rfl rfl)
theorem dX24_of_3 : decode cX24_of 3 = .ok (.iconst 0, 1) := dk_3 (dk_at dksX24_of_0 3 rfl rfl)
theorem dX24_of_4 : decode cX24_of 4 = .ok (.istore 5, 2) := dk_54 5 (dk_at dksX24_of_0 4 rfl rfl)
theorem dX24_of_6 : decode cX24_of 6 = .ok (.iload 5, 2) := dk_21 5 (dk_at dksX24_of_0 6 rfl rfl)
theorem dX24_of_8 : decode cX24_of 8 = .ok (.aload_n 1, 1) := dk_43 (dk_at dksX24_of_0 8 rfl rfl)
theorem dX24_of_9 : decode cX24_of 9 = .ok (.arraylength, 1) := dk_190 (dk_at dksX24_of_0 9 rfl rfl)
theorem dX24_of_10 : decode cX24_of 10 = .ok (.if_icmp .ge 23, 3) := dk_162 0 23 (dk_at dksX24_of_0 10 rfl rfl)
theorem dX24_of_13 : decode cX24_of 13 = .ok (.fload 4, 2) := dk_23 4 (dk_at dksX24_of_0 13 rfl rfl)
theorem dX24_of_15 : decode cX24_of 15 = .ok (.aload_n 1, 1) := dk_43 (dk_at dksX24_of_0 15 rfl rfl)
theorem dX24_of_16 : decode cX24_of 16 = .ok (.iload 5, 2) := dk_21 5 (dk_at dksX24_of_0 16 rfl rfl)
theorem dX24_of_18 : decode cX24_of 18 = .ok (.faload, 1) := dk_48 (dk_at dksX24_of_0 18 rfl rfl)
theorem dX24_of_19 : decode cX24_of 19 = .ok (.aload_n 1, 1) := dk_43 (dk_at dksX24_of_0 19 rfl rfl)
theorem dX24_of_20 : decode cX24_of 20 = .ok (.iload 5, 2) := dk_21 5 (dk_at dksX24_of_0 20 rfl rfl)
theorem dX24_of_22 : decode cX24_of 22 = .ok (.faload, 1) := dk_48 (dk_at dksX24_of_0 22 rfl rfl)
theorem dX24_of_23 : decode cX24_of 23 = .ok (.fmul, 1) := dk_106 (dk_at dksX24_of_0 23 rfl rfl)
theorem dX24_of_24 : decode cX24_of 24 = .ok (.fadd, 1) := dk_98 (dk_at dksX24_of_1 0 rfl rfl)
theorem dX24_of_25 : decode cX24_of 25 = .ok (.fstore 4, 2) := dk_56 4 (dk_at dksX24_of_1 1 rfl rfl)
theorem dX24_of_27 : decode cX24_of 27 = .ok (.iinc 5 1, 3) := dk_132 5 1 (dk_at dksX24_of_1 3 rfl rfl)
theorem dX24_of_30 : decode cX24_of 30 = .ok (.goto (-24), 3) := dk_167 255 232 (dk_at dksX24_of_1 6 rfl rfl)
theorem dX24_of_33 : decode cX24_of 33 = .ok (.fload 4, 2) := dk_23 4 (dk_at dksX24_of_1 9 rfl rfl)
theorem dX24_of_35 : decode cX24_of 35 = .ok (.aload_n 1, 1) := dk_43 (dk_at dksX24_of_1 11 rfl rfl)
theorem dX24_of_36 : decode cX24_of 36 = .ok (.arraylength, 1) := dk_190 (dk_at dksX24_of_1 12 rfl rfl)
theorem dX24_of_37 : decode cX24_of 37 = .ok (.i2f, 1) := dk_134 (dk_at dksX24_of_1 13 rfl rfl)
theorem dX24_of_38 : decode cX24_of 38 = .ok (.fdiv, 1) := dk_110 (dk_at dksX24_of_1 14 rfl rfl)
theorem dX24_of_39 : decode cX24_of 39 = .ok (.freturn, 1) := dk_174 (dk_at dksX24_of_1 15 rfl rfl)
